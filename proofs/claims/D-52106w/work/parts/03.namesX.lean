/-! KnotLettersLaw -/
set_option maxRecDepth 100000
def RX0 : String := "KnotLettersLaw"
abbrev cX0_setLetter : ByteArray := method_3_code
def yX0_setLetter : MethodName := ⟨RX0, "setLetter", "(LKnotLetters;II[J)I"⟩
def dkwX0_setLetter_0 : List UInt8 := [45, 3, 42, 27, 28, 182, 0, 7, 133, 80, 167, 0, 11, 58, 4, 4, 172, 58, 4, 5, 172, 3, 172]
abbrev dktX0_setLetter_0 : List UInt8 := dkwX0_setLetter_0 ++ []
theorem dksX0_setLetter_0 : cX0_setLetter.data.toList.drop 0 = dktX0_setLetter_0 := by decide +kernel
theorem dX0_setLetter_0 : decode cX0_setLetter 0 = .ok (.aload_n 3, 1) := dk_45 (dk_at dksX0_setLetter_0 0 rfl rfl)
theorem dX0_setLetter_1 : decode cX0_setLetter 1 = .ok (.iconst 0, 1) := dk_3 (dk_at dksX0_setLetter_0 1 rfl rfl)
theorem dX0_setLetter_2 : decode cX0_setLetter 2 = .ok (.aload_n 0, 1) := dk_42 (dk_at dksX0_setLetter_0 2 rfl rfl)
theorem dX0_setLetter_3 : decode cX0_setLetter 3 = .ok (.iload_n 1, 1) := dk_27 (dk_at dksX0_setLetter_0 3 rfl rfl)
theorem dX0_setLetter_4 : decode cX0_setLetter 4 = .ok (.iload_n 2, 1) := dk_28 (dk_at dksX0_setLetter_0 4 rfl rfl)
theorem dX0_setLetter_5 : decode cX0_setLetter 5 = .ok (.invokevirtual 7, 3) := dk_182 0 7 (dk_at dksX0_setLetter_0 5 rfl rfl)
theorem dX0_setLetter_8 : decode cX0_setLetter 8 = .ok (.i2l, 1) := dk_133 (dk_at dksX0_setLetter_0 8 rfl rfl)
theorem dX0_setLetter_9 : decode cX0_setLetter 9 = .ok (.lastore, 1) := dk_80 (dk_at dksX0_setLetter_0 9 rfl rfl)
theorem dX0_setLetter_10 : decode cX0_setLetter 10 = .ok (.goto 11, 3) := dk_167 0 11 (dk_at dksX0_setLetter_0 10 rfl rfl)
theorem dX0_setLetter_13 : decode cX0_setLetter 13 = .ok (.astore 4, 2) := dk_58 4 (dk_at dksX0_setLetter_0 13 rfl rfl)
theorem dX0_setLetter_15 : decode cX0_setLetter 15 = .ok (.iconst 1, 1) := dk_4 (dk_at dksX0_setLetter_0 15 rfl rfl)
theorem dX0_setLetter_16 : decode cX0_setLetter 16 = .ok (.ireturn, 1) := dk_172 (dk_at dksX0_setLetter_0 16 rfl rfl)
theorem dX0_setLetter_17 : decode cX0_setLetter 17 = .ok (.astore 4, 2) := dk_58 4 (dk_at dksX0_setLetter_0 17 rfl rfl)
theorem dX0_setLetter_19 : decode cX0_setLetter 19 = .ok (.iconst 2, 1) := dk_5 (dk_at dksX0_setLetter_0 19 rfl rfl)
theorem dX0_setLetter_20 : decode cX0_setLetter 20 = .ok (.ireturn, 1) := dk_172 (dk_at dksX0_setLetter_0 20 rfl rfl)
theorem dX0_setLetter_21 : decode cX0_setLetter 21 = .ok (.iconst 0, 1) := dk_3 (dk_at dksX0_setLetter_0 21 rfl rfl)
theorem dX0_setLetter_22 : decode cX0_setLetter 22 = .ok (.ireturn, 1) := dk_172 (dk_at dksX0_setLetter_0 22 rfl rfl)
abbrev cX0_letter : ByteArray := method_4_code
def yX0_letter : MethodName := ⟨RX0, "letter", "(LKnotLetters;II[J)I"⟩
def dkwX0_letter_0 : List UInt8 := [45, 3, 42, 27, 28, 182, 0, 17, 133, 80, 167, 0, 7, 58, 4, 4, 172, 3, 172]
abbrev dktX0_letter_0 : List UInt8 := dkwX0_letter_0 ++ []
theorem dksX0_letter_0 : cX0_letter.data.toList.drop 0 = dktX0_letter_0 := by decide +kernel
theorem dX0_letter_0 : decode cX0_letter 0 = .ok (.aload_n 3, 1) := dk_45 (dk_at dksX0_letter_0 0 rfl rfl)
theorem dX0_letter_1 : decode cX0_letter 1 = .ok (.iconst 0, 1) := dk_3 (dk_at dksX0_letter_0 1 rfl rfl)
theorem dX0_letter_2 : decode cX0_letter 2 = .ok (.aload_n 0, 1) := dk_42 (dk_at dksX0_letter_0 2 rfl rfl)
theorem dX0_letter_3 : decode cX0_letter 3 = .ok (.iload_n 1, 1) := dk_27 (dk_at dksX0_letter_0 3 rfl rfl)
theorem dX0_letter_4 : decode cX0_letter 4 = .ok (.iload_n 2, 1) := dk_28 (dk_at dksX0_letter_0 4 rfl rfl)
theorem dX0_letter_5 : decode cX0_letter 5 = .ok (.invokevirtual 17, 3) := dk_182 0 17 (dk_at dksX0_letter_0 5 rfl rfl)
theorem dX0_letter_8 : decode cX0_letter 8 = .ok (.i2l, 1) := dk_133 (dk_at dksX0_letter_0 8 rfl rfl)
theorem dX0_letter_9 : decode cX0_letter 9 = .ok (.lastore, 1) := dk_80 (dk_at dksX0_letter_0 9 rfl rfl)
theorem dX0_letter_10 : decode cX0_letter 10 = .ok (.goto 7, 3) := dk_167 0 7 (dk_at dksX0_letter_0 10 rfl rfl)
theorem dX0_letter_13 : decode cX0_letter 13 = .ok (.astore 4, 2) := dk_58 4 (dk_at dksX0_letter_0 13 rfl rfl)
theorem dX0_letter_15 : decode cX0_letter 15 = .ok (.iconst 1, 1) := dk_4 (dk_at dksX0_letter_0 15 rfl rfl)
theorem dX0_letter_16 : decode cX0_letter 16 = .ok (.ireturn, 1) := dk_172 (dk_at dksX0_letter_0 16 rfl rfl)
theorem dX0_letter_17 : decode cX0_letter 17 = .ok (.iconst 0, 1) := dk_3 (dk_at dksX0_letter_0 17 rfl rfl)
theorem dX0_letter_18 : decode cX0_letter 18 = .ok (.ireturn, 1) := dk_172 (dk_at dksX0_letter_0 18 rfl rfl)
abbrev cX0_alike : ByteArray := method_5_code
def yX0_alike : MethodName := ⟨RX0, "alike", "(LKnotLetters;II[J)I"⟩
def dkwX0_alike_0 : List UInt8 := [45, 3, 42, 27, 28, 182, 0, 20, 133, 80, 167, 0, 7, 58, 4, 4, 172, 3, 172]
abbrev dktX0_alike_0 : List UInt8 := dkwX0_alike_0 ++ []
theorem dksX0_alike_0 : cX0_alike.data.toList.drop 0 = dktX0_alike_0 := by decide +kernel
theorem dX0_alike_0 : decode cX0_alike 0 = .ok (.aload_n 3, 1) := dk_45 (dk_at dksX0_alike_0 0 rfl rfl)
theorem dX0_alike_1 : decode cX0_alike 1 = .ok (.iconst 0, 1) := dk_3 (dk_at dksX0_alike_0 1 rfl rfl)
theorem dX0_alike_2 : decode cX0_alike 2 = .ok (.aload_n 0, 1) := dk_42 (dk_at dksX0_alike_0 2 rfl rfl)
theorem dX0_alike_3 : decode cX0_alike 3 = .ok (.iload_n 1, 1) := dk_27 (dk_at dksX0_alike_0 3 rfl rfl)
theorem dX0_alike_4 : decode cX0_alike 4 = .ok (.iload_n 2, 1) := dk_28 (dk_at dksX0_alike_0 4 rfl rfl)
theorem dX0_alike_5 : decode cX0_alike 5 = .ok (.invokevirtual 20, 3) := dk_182 0 20 (dk_at dksX0_alike_0 5 rfl rfl)
theorem dX0_alike_8 : decode cX0_alike 8 = .ok (.i2l, 1) := dk_133 (dk_at dksX0_alike_0 8 rfl rfl)
theorem dX0_alike_9 : decode cX0_alike 9 = .ok (.lastore, 1) := dk_80 (dk_at dksX0_alike_0 9 rfl rfl)
theorem dX0_alike_10 : decode cX0_alike 10 = .ok (.goto 7, 3) := dk_167 0 7 (dk_at dksX0_alike_0 10 rfl rfl)
theorem dX0_alike_13 : decode cX0_alike 13 = .ok (.astore 4, 2) := dk_58 4 (dk_at dksX0_alike_0 13 rfl rfl)
theorem dX0_alike_15 : decode cX0_alike 15 = .ok (.iconst 1, 1) := dk_4 (dk_at dksX0_alike_0 15 rfl rfl)
theorem dX0_alike_16 : decode cX0_alike 16 = .ok (.ireturn, 1) := dk_172 (dk_at dksX0_alike_0 16 rfl rfl)
theorem dX0_alike_17 : decode cX0_alike 17 = .ok (.iconst 0, 1) := dk_3 (dk_at dksX0_alike_0 17 rfl rfl)
theorem dX0_alike_18 : decode cX0_alike 18 = .ok (.ireturn, 1) := dk_172 (dk_at dksX0_alike_0 18 rfl rfl)
abbrev cX0_setKnotter : ByteArray := method_6_code
def yX0_setKnotter : MethodName := ⟨RX0, "setKnotter", "(LKnotLetters;II[J)I"⟩
def dkwX0_setKnotter_0 : List UInt8 := [45, 3, 42, 27, 28, 182, 0, 23, 133, 80, 167, 0, 7, 58, 4, 4, 172, 3, 172]
abbrev dktX0_setKnotter_0 : List UInt8 := dkwX0_setKnotter_0 ++ []
theorem dksX0_setKnotter_0 : cX0_setKnotter.data.toList.drop 0 = dktX0_setKnotter_0 := by decide +kernel
theorem dX0_setKnotter_0 : decode cX0_setKnotter 0 = .ok (.aload_n 3, 1) := dk_45 (dk_at dksX0_setKnotter_0 0 rfl rfl)
theorem dX0_setKnotter_1 : decode cX0_setKnotter 1 = .ok (.iconst 0, 1) := dk_3 (dk_at dksX0_setKnotter_0 1 rfl rfl)
theorem dX0_setKnotter_2 : decode cX0_setKnotter 2 = .ok (.aload_n 0, 1) := dk_42 (dk_at dksX0_setKnotter_0 2 rfl rfl)
theorem dX0_setKnotter_3 : decode cX0_setKnotter 3 = .ok (.iload_n 1, 1) := dk_27 (dk_at dksX0_setKnotter_0 3 rfl rfl)
theorem dX0_setKnotter_4 : decode cX0_setKnotter 4 = .ok (.iload_n 2, 1) := dk_28 (dk_at dksX0_setKnotter_0 4 rfl rfl)
theorem dX0_setKnotter_5 : decode cX0_setKnotter 5 = .ok (.invokevirtual 23, 3) := dk_182 0 23 (dk_at dksX0_setKnotter_0 5 rfl rfl)
theorem dX0_setKnotter_8 : decode cX0_setKnotter 8 = .ok (.i2l, 1) := dk_133 (dk_at dksX0_setKnotter_0 8 rfl rfl)
theorem dX0_setKnotter_9 : decode cX0_setKnotter 9 = .ok (.lastore, 1) := dk_80 (dk_at dksX0_setKnotter_0 9 rfl rfl)
theorem dX0_setKnotter_10 : decode cX0_setKnotter 10 = .ok (.goto 7, 3) := dk_167 0 7 (dk_at dksX0_setKnotter_0 10 rfl rfl)
theorem dX0_setKnotter_13 : decode cX0_setKnotter 13 = .ok (.astore 4, 2) := dk_58 4 (dk_at dksX0_setKnotter_0 13 rfl rfl)
theorem dX0_setKnotter_15 : decode cX0_setKnotter 15 = .ok (.iconst 1, 1) := dk_4 (dk_at dksX0_setKnotter_0 15 rfl rfl)
theorem dX0_setKnotter_16 : decode cX0_setKnotter 16 = .ok (.ireturn, 1) := dk_172 (dk_at dksX0_setKnotter_0 16 rfl rfl)
theorem dX0_setKnotter_17 : decode cX0_setKnotter 17 = .ok (.iconst 0, 1) := dk_3 (dk_at dksX0_setKnotter_0 17 rfl rfl)
theorem dX0_setKnotter_18 : decode cX0_setKnotter 18 = .ok (.ireturn, 1) := dk_172 (dk_at dksX0_setKnotter_0 18 rfl rfl)
abbrev cX0_setFeel : ByteArray := method_7_code
def yX0_setFeel : MethodName := ⟨RX0, "setFeel", "(LKnotLetters;III[J)I"⟩
def dkwX0_setFeel_0 : List UInt8 := [25, 4, 3, 42, 27, 28, 29, 182, 0, 26, 133, 80, 167, 0, 7, 58, 5, 4, 172, 3, 172]
abbrev dktX0_setFeel_0 : List UInt8 := dkwX0_setFeel_0 ++ []
theorem dksX0_setFeel_0 : cX0_setFeel.data.toList.drop 0 = dktX0_setFeel_0 := by decide +kernel
theorem dX0_setFeel_0 : decode cX0_setFeel 0 = .ok (.aload 4, 2) := dk_25 4 (dk_at dksX0_setFeel_0 0 rfl rfl)
theorem dX0_setFeel_2 : decode cX0_setFeel 2 = .ok (.iconst 0, 1) := dk_3 (dk_at dksX0_setFeel_0 2 rfl rfl)
theorem dX0_setFeel_3 : decode cX0_setFeel 3 = .ok (.aload_n 0, 1) := dk_42 (dk_at dksX0_setFeel_0 3 rfl rfl)
theorem dX0_setFeel_4 : decode cX0_setFeel 4 = .ok (.iload_n 1, 1) := dk_27 (dk_at dksX0_setFeel_0 4 rfl rfl)
theorem dX0_setFeel_5 : decode cX0_setFeel 5 = .ok (.iload_n 2, 1) := dk_28 (dk_at dksX0_setFeel_0 5 rfl rfl)
theorem dX0_setFeel_6 : decode cX0_setFeel 6 = .ok (.iload_n 3, 1) := dk_29 (dk_at dksX0_setFeel_0 6 rfl rfl)
theorem dX0_setFeel_7 : decode cX0_setFeel 7 = .ok (.invokevirtual 26, 3) := dk_182 0 26 (dk_at dksX0_setFeel_0 7 rfl rfl)
theorem dX0_setFeel_10 : decode cX0_setFeel 10 = .ok (.i2l, 1) := dk_133 (dk_at dksX0_setFeel_0 10 rfl rfl)
theorem dX0_setFeel_11 : decode cX0_setFeel 11 = .ok (.lastore, 1) := dk_80 (dk_at dksX0_setFeel_0 11 rfl rfl)
theorem dX0_setFeel_12 : decode cX0_setFeel 12 = .ok (.goto 7, 3) := dk_167 0 7 (dk_at dksX0_setFeel_0 12 rfl rfl)
theorem dX0_setFeel_15 : decode cX0_setFeel 15 = .ok (.astore 5, 2) := dk_58 5 (dk_at dksX0_setFeel_0 15 rfl rfl)
theorem dX0_setFeel_17 : decode cX0_setFeel 17 = .ok (.iconst 1, 1) := dk_4 (dk_at dksX0_setFeel_0 17 rfl rfl)
theorem dX0_setFeel_18 : decode cX0_setFeel 18 = .ok (.ireturn, 1) := dk_172 (dk_at dksX0_setFeel_0 18 rfl rfl)
theorem dX0_setFeel_19 : decode cX0_setFeel 19 = .ok (.iconst 0, 1) := dk_3 (dk_at dksX0_setFeel_0 19 rfl rfl)
theorem dX0_setFeel_20 : decode cX0_setFeel 20 = .ok (.ireturn, 1) := dk_172 (dk_at dksX0_setFeel_0 20 rfl rfl)
abbrev cX0_setCosts : ByteArray := method_8_code
def yX0_setCosts : MethodName := ⟨RX0, "setCosts", "(LKnotLetters;II[J)I"⟩
def dkwX0_setCosts_0 : List UInt8 := [45, 3, 42, 27, 28, 182, 0, 30, 133, 80, 167, 0, 7, 58, 4, 4, 172, 3, 172]
abbrev dktX0_setCosts_0 : List UInt8 := dkwX0_setCosts_0 ++ []
theorem dksX0_setCosts_0 : cX0_setCosts.data.toList.drop 0 = dktX0_setCosts_0 := by decide +kernel
theorem dX0_setCosts_0 : decode cX0_setCosts 0 = .ok (.aload_n 3, 1) := dk_45 (dk_at dksX0_setCosts_0 0 rfl rfl)
theorem dX0_setCosts_1 : decode cX0_setCosts 1 = .ok (.iconst 0, 1) := dk_3 (dk_at dksX0_setCosts_0 1 rfl rfl)
theorem dX0_setCosts_2 : decode cX0_setCosts 2 = .ok (.aload_n 0, 1) := dk_42 (dk_at dksX0_setCosts_0 2 rfl rfl)
theorem dX0_setCosts_3 : decode cX0_setCosts 3 = .ok (.iload_n 1, 1) := dk_27 (dk_at dksX0_setCosts_0 3 rfl rfl)
theorem dX0_setCosts_4 : decode cX0_setCosts 4 = .ok (.iload_n 2, 1) := dk_28 (dk_at dksX0_setCosts_0 4 rfl rfl)
theorem dX0_setCosts_5 : decode cX0_setCosts 5 = .ok (.invokevirtual 30, 3) := dk_182 0 30 (dk_at dksX0_setCosts_0 5 rfl rfl)
theorem dX0_setCosts_8 : decode cX0_setCosts 8 = .ok (.i2l, 1) := dk_133 (dk_at dksX0_setCosts_0 8 rfl rfl)
theorem dX0_setCosts_9 : decode cX0_setCosts 9 = .ok (.lastore, 1) := dk_80 (dk_at dksX0_setCosts_0 9 rfl rfl)
theorem dX0_setCosts_10 : decode cX0_setCosts 10 = .ok (.goto 7, 3) := dk_167 0 7 (dk_at dksX0_setCosts_0 10 rfl rfl)
theorem dX0_setCosts_13 : decode cX0_setCosts 13 = .ok (.astore 4, 2) := dk_58 4 (dk_at dksX0_setCosts_0 13 rfl rfl)
theorem dX0_setCosts_15 : decode cX0_setCosts 15 = .ok (.iconst 1, 1) := dk_4 (dk_at dksX0_setCosts_0 15 rfl rfl)
theorem dX0_setCosts_16 : decode cX0_setCosts 16 = .ok (.ireturn, 1) := dk_172 (dk_at dksX0_setCosts_0 16 rfl rfl)
theorem dX0_setCosts_17 : decode cX0_setCosts 17 = .ok (.iconst 0, 1) := dk_3 (dk_at dksX0_setCosts_0 17 rfl rfl)
theorem dX0_setCosts_18 : decode cX0_setCosts 18 = .ok (.ireturn, 1) := dk_172 (dk_at dksX0_setCosts_0 18 rfl rfl)
abbrev cX0_feed : ByteArray := method_9_code
def yX0_feed : MethodName := ⟨RX0, "feed", "(LKnotLetters;IIIII[J)I"⟩
def dkwX0_feed_1 : List UInt8 := [172]
abbrev dktX0_feed_1 : List UInt8 := dkwX0_feed_1 ++ []
def dkwX0_feed_0 : List UInt8 := [25, 6, 3, 42, 27, 28, 29, 21, 4, 21, 5, 182, 0, 33, 133, 80, 167, 0, 7, 58, 7, 4, 172, 3]
abbrev dktX0_feed_0 : List UInt8 := dkwX0_feed_0 ++ dktX0_feed_1
theorem dksX0_feed_0 : cX0_feed.data.toList.drop 0 = dktX0_feed_0 := by decide +kernel
theorem dksX0_feed_1 : cX0_feed.data.toList.drop 24 = dktX0_feed_1 := dk_seg dksX0_feed_0 24 rfl rfl
theorem dX0_feed_0 : decode cX0_feed 0 = .ok (.aload 6, 2) := dk_25 6 (dk_at dksX0_feed_0 0 rfl rfl)
theorem dX0_feed_2 : decode cX0_feed 2 = .ok (.iconst 0, 1) := dk_3 (dk_at dksX0_feed_0 2 rfl rfl)
theorem dX0_feed_3 : decode cX0_feed 3 = .ok (.aload_n 0, 1) := dk_42 (dk_at dksX0_feed_0 3 rfl rfl)
theorem dX0_feed_4 : decode cX0_feed 4 = .ok (.iload_n 1, 1) := dk_27 (dk_at dksX0_feed_0 4 rfl rfl)
theorem dX0_feed_5 : decode cX0_feed 5 = .ok (.iload_n 2, 1) := dk_28 (dk_at dksX0_feed_0 5 rfl rfl)
theorem dX0_feed_6 : decode cX0_feed 6 = .ok (.iload_n 3, 1) := dk_29 (dk_at dksX0_feed_0 6 rfl rfl)
theorem dX0_feed_7 : decode cX0_feed 7 = .ok (.iload 4, 2) := dk_21 4 (dk_at dksX0_feed_0 7 rfl rfl)
theorem dX0_feed_9 : decode cX0_feed 9 = .ok (.iload 5, 2) := dk_21 5 (dk_at dksX0_feed_0 9 rfl rfl)
theorem dX0_feed_11 : decode cX0_feed 11 = .ok (.invokevirtual 33, 3) := dk_182 0 33 (dk_at dksX0_feed_0 11 rfl rfl)
theorem dX0_feed_14 : decode cX0_feed 14 = .ok (.i2l, 1) := dk_133 (dk_at dksX0_feed_0 14 rfl rfl)
theorem dX0_feed_15 : decode cX0_feed 15 = .ok (.lastore, 1) := dk_80 (dk_at dksX0_feed_0 15 rfl rfl)
theorem dX0_feed_16 : decode cX0_feed 16 = .ok (.goto 7, 3) := dk_167 0 7 (dk_at dksX0_feed_0 16 rfl rfl)
theorem dX0_feed_19 : decode cX0_feed 19 = .ok (.astore 7, 2) := dk_58 7 (dk_at dksX0_feed_0 19 rfl rfl)
theorem dX0_feed_21 : decode cX0_feed 21 = .ok (.iconst 1, 1) := dk_4 (dk_at dksX0_feed_0 21 rfl rfl)
theorem dX0_feed_22 : decode cX0_feed 22 = .ok (.ireturn, 1) := dk_172 (dk_at dksX0_feed_0 22 rfl rfl)
theorem dX0_feed_23 : decode cX0_feed 23 = .ok (.iconst 0, 1) := dk_3 (dk_at dksX0_feed_0 23 rfl rfl)
theorem dX0_feed_24 : decode cX0_feed 24 = .ok (.ireturn, 1) := dk_172 (dk_at dksX0_feed_1 0 rfl rfl)
abbrev cX0_trim : ByteArray := method_10_code
def yX0_trim : MethodName := ⟨RX0, "trim", "(LKnotLetters;I[J)I"⟩
def dkwX0_trim_0 : List UInt8 := [44, 3, 42, 27, 182, 0, 39, 133, 80, 167, 0, 6, 78, 4, 172, 3, 172]
abbrev dktX0_trim_0 : List UInt8 := dkwX0_trim_0 ++ []
theorem dksX0_trim_0 : cX0_trim.data.toList.drop 0 = dktX0_trim_0 := by decide +kernel
theorem dX0_trim_0 : decode cX0_trim 0 = .ok (.aload_n 2, 1) := dk_44 (dk_at dksX0_trim_0 0 rfl rfl)
theorem dX0_trim_1 : decode cX0_trim 1 = .ok (.iconst 0, 1) := dk_3 (dk_at dksX0_trim_0 1 rfl rfl)
theorem dX0_trim_2 : decode cX0_trim 2 = .ok (.aload_n 0, 1) := dk_42 (dk_at dksX0_trim_0 2 rfl rfl)
theorem dX0_trim_3 : decode cX0_trim 3 = .ok (.iload_n 1, 1) := dk_27 (dk_at dksX0_trim_0 3 rfl rfl)
theorem dX0_trim_4 : decode cX0_trim 4 = .ok (.invokevirtual 39, 3) := dk_182 0 39 (dk_at dksX0_trim_0 4 rfl rfl)
theorem dX0_trim_7 : decode cX0_trim 7 = .ok (.i2l, 1) := dk_133 (dk_at dksX0_trim_0 7 rfl rfl)
theorem dX0_trim_8 : decode cX0_trim 8 = .ok (.lastore, 1) := dk_80 (dk_at dksX0_trim_0 8 rfl rfl)
theorem dX0_trim_9 : decode cX0_trim 9 = .ok (.goto 6, 3) := dk_167 0 6 (dk_at dksX0_trim_0 9 rfl rfl)
theorem dX0_trim_12 : decode cX0_trim 12 = .ok (.astore_n 3, 1) := dk_78 (dk_at dksX0_trim_0 12 rfl rfl)
theorem dX0_trim_13 : decode cX0_trim 13 = .ok (.iconst 1, 1) := dk_4 (dk_at dksX0_trim_0 13 rfl rfl)
theorem dX0_trim_14 : decode cX0_trim 14 = .ok (.ireturn, 1) := dk_172 (dk_at dksX0_trim_0 14 rfl rfl)
theorem dX0_trim_15 : decode cX0_trim 15 = .ok (.iconst 0, 1) := dk_3 (dk_at dksX0_trim_0 15 rfl rfl)
theorem dX0_trim_16 : decode cX0_trim 16 = .ok (.ireturn, 1) := dk_172 (dk_at dksX0_trim_0 16 rfl rfl)
abbrev cX0_tie : ByteArray := method_11_code
def yX0_tie : MethodName := ⟨RX0, "tie", "(LKnotLetters;[J)I"⟩
def dkwX0_tie_0 : List UInt8 := [43, 3, 42, 182, 0, 43, 133, 80, 167, 0, 6, 77, 4, 172, 3, 172]
abbrev dktX0_tie_0 : List UInt8 := dkwX0_tie_0 ++ []
theorem dksX0_tie_0 : cX0_tie.data.toList.drop 0 = dktX0_tie_0 := by decide +kernel
theorem dX0_tie_0 : decode cX0_tie 0 = .ok (.aload_n 1, 1) := dk_43 (dk_at dksX0_tie_0 0 rfl rfl)
theorem dX0_tie_1 : decode cX0_tie 1 = .ok (.iconst 0, 1) := dk_3 (dk_at dksX0_tie_0 1 rfl rfl)
theorem dX0_tie_2 : decode cX0_tie 2 = .ok (.aload_n 0, 1) := dk_42 (dk_at dksX0_tie_0 2 rfl rfl)
theorem dX0_tie_3 : decode cX0_tie 3 = .ok (.invokevirtual 43, 3) := dk_182 0 43 (dk_at dksX0_tie_0 3 rfl rfl)
theorem dX0_tie_6 : decode cX0_tie 6 = .ok (.i2l, 1) := dk_133 (dk_at dksX0_tie_0 6 rfl rfl)
theorem dX0_tie_7 : decode cX0_tie 7 = .ok (.lastore, 1) := dk_80 (dk_at dksX0_tie_0 7 rfl rfl)
theorem dX0_tie_8 : decode cX0_tie 8 = .ok (.goto 6, 3) := dk_167 0 6 (dk_at dksX0_tie_0 8 rfl rfl)
theorem dX0_tie_11 : decode cX0_tie 11 = .ok (.astore_n 2, 1) := dk_77 (dk_at dksX0_tie_0 11 rfl rfl)
theorem dX0_tie_12 : decode cX0_tie 12 = .ok (.iconst 1, 1) := dk_4 (dk_at dksX0_tie_0 12 rfl rfl)
theorem dX0_tie_13 : decode cX0_tie 13 = .ok (.ireturn, 1) := dk_172 (dk_at dksX0_tie_0 13 rfl rfl)
theorem dX0_tie_14 : decode cX0_tie 14 = .ok (.iconst 0, 1) := dk_3 (dk_at dksX0_tie_0 14 rfl rfl)
theorem dX0_tie_15 : decode cX0_tie 15 = .ok (.ireturn, 1) := dk_172 (dk_at dksX0_tie_0 15 rfl rfl)
abbrev cX0_cord : ByteArray := method_12_code
def yX0_cord : MethodName := ⟨RX0, "cord", "(LKnotLetters;II[J)I"⟩
def dkwX0_cord_0 : List UInt8 := [45, 3, 42, 27, 28, 182, 0, 47, 133, 80, 167, 0, 7, 58, 4, 4, 172, 3, 172]
abbrev dktX0_cord_0 : List UInt8 := dkwX0_cord_0 ++ []
theorem dksX0_cord_0 : cX0_cord.data.toList.drop 0 = dktX0_cord_0 := by decide +kernel
theorem dX0_cord_0 : decode cX0_cord 0 = .ok (.aload_n 3, 1) := dk_45 (dk_at dksX0_cord_0 0 rfl rfl)
theorem dX0_cord_1 : decode cX0_cord 1 = .ok (.iconst 0, 1) := dk_3 (dk_at dksX0_cord_0 1 rfl rfl)
theorem dX0_cord_2 : decode cX0_cord 2 = .ok (.aload_n 0, 1) := dk_42 (dk_at dksX0_cord_0 2 rfl rfl)
theorem dX0_cord_3 : decode cX0_cord 3 = .ok (.iload_n 1, 1) := dk_27 (dk_at dksX0_cord_0 3 rfl rfl)
theorem dX0_cord_4 : decode cX0_cord 4 = .ok (.iload_n 2, 1) := dk_28 (dk_at dksX0_cord_0 4 rfl rfl)
theorem dX0_cord_5 : decode cX0_cord 5 = .ok (.invokevirtual 47, 3) := dk_182 0 47 (dk_at dksX0_cord_0 5 rfl rfl)
theorem dX0_cord_8 : decode cX0_cord 8 = .ok (.i2l, 1) := dk_133 (dk_at dksX0_cord_0 8 rfl rfl)
theorem dX0_cord_9 : decode cX0_cord 9 = .ok (.lastore, 1) := dk_80 (dk_at dksX0_cord_0 9 rfl rfl)
theorem dX0_cord_10 : decode cX0_cord 10 = .ok (.goto 7, 3) := dk_167 0 7 (dk_at dksX0_cord_0 10 rfl rfl)
theorem dX0_cord_13 : decode cX0_cord 13 = .ok (.astore 4, 2) := dk_58 4 (dk_at dksX0_cord_0 13 rfl rfl)
theorem dX0_cord_15 : decode cX0_cord 15 = .ok (.iconst 1, 1) := dk_4 (dk_at dksX0_cord_0 15 rfl rfl)
theorem dX0_cord_16 : decode cX0_cord 16 = .ok (.ireturn, 1) := dk_172 (dk_at dksX0_cord_0 16 rfl rfl)
theorem dX0_cord_17 : decode cX0_cord 17 = .ok (.iconst 0, 1) := dk_3 (dk_at dksX0_cord_0 17 rfl rfl)
theorem dX0_cord_18 : decode cX0_cord 18 = .ok (.ireturn, 1) := dk_172 (dk_at dksX0_cord_0 18 rfl rfl)
abbrev cX0_knot : ByteArray := method_13_code
def yX0_knot : MethodName := ⟨RX0, "knot", "(LKnotLetters;II[J)I"⟩
def dkwX0_knot_0 : List UInt8 := [45, 3, 42, 27, 28, 182, 0, 50, 133, 80, 167, 0, 7, 58, 4, 4, 172, 3, 172]
abbrev dktX0_knot_0 : List UInt8 := dkwX0_knot_0 ++ []
theorem dksX0_knot_0 : cX0_knot.data.toList.drop 0 = dktX0_knot_0 := by decide +kernel
theorem dX0_knot_0 : decode cX0_knot 0 = .ok (.aload_n 3, 1) := dk_45 (dk_at dksX0_knot_0 0 rfl rfl)
theorem dX0_knot_1 : decode cX0_knot 1 = .ok (.iconst 0, 1) := dk_3 (dk_at dksX0_knot_0 1 rfl rfl)
theorem dX0_knot_2 : decode cX0_knot 2 = .ok (.aload_n 0, 1) := dk_42 (dk_at dksX0_knot_0 2 rfl rfl)
theorem dX0_knot_3 : decode cX0_knot 3 = .ok (.iload_n 1, 1) := dk_27 (dk_at dksX0_knot_0 3 rfl rfl)
theorem dX0_knot_4 : decode cX0_knot 4 = .ok (.iload_n 2, 1) := dk_28 (dk_at dksX0_knot_0 4 rfl rfl)
theorem dX0_knot_5 : decode cX0_knot 5 = .ok (.invokevirtual 50, 3) := dk_182 0 50 (dk_at dksX0_knot_0 5 rfl rfl)
theorem dX0_knot_8 : decode cX0_knot 8 = .ok (.i2l, 1) := dk_133 (dk_at dksX0_knot_0 8 rfl rfl)
theorem dX0_knot_9 : decode cX0_knot 9 = .ok (.lastore, 1) := dk_80 (dk_at dksX0_knot_0 9 rfl rfl)
theorem dX0_knot_10 : decode cX0_knot 10 = .ok (.goto 7, 3) := dk_167 0 7 (dk_at dksX0_knot_0 10 rfl rfl)
theorem dX0_knot_13 : decode cX0_knot 13 = .ok (.astore 4, 2) := dk_58 4 (dk_at dksX0_knot_0 13 rfl rfl)
theorem dX0_knot_15 : decode cX0_knot 15 = .ok (.iconst 1, 1) := dk_4 (dk_at dksX0_knot_0 15 rfl rfl)
theorem dX0_knot_16 : decode cX0_knot 16 = .ok (.ireturn, 1) := dk_172 (dk_at dksX0_knot_0 16 rfl rfl)
theorem dX0_knot_17 : decode cX0_knot 17 = .ok (.iconst 0, 1) := dk_3 (dk_at dksX0_knot_0 17 rfl rfl)
theorem dX0_knot_18 : decode cX0_knot 18 = .ok (.ireturn, 1) := dk_172 (dk_at dksX0_knot_0 18 rfl rfl)
abbrev cX0_retie : ByteArray := method_14_code
def yX0_retie : MethodName := ⟨RX0, "retie", "(LKnotLetters;III[J)I"⟩
def dkwX0_retie_1 : List UInt8 := [58, 5, 6, 172, 3, 172]
abbrev dktX0_retie_1 : List UInt8 := dkwX0_retie_1 ++ []
def dkwX0_retie_0 : List UInt8 := [25, 4, 3, 42, 27, 28, 29, 182, 0, 53, 133, 80, 167, 0, 15, 58, 5, 4, 172, 58, 5, 5, 172]
abbrev dktX0_retie_0 : List UInt8 := dkwX0_retie_0 ++ dktX0_retie_1
theorem dksX0_retie_0 : cX0_retie.data.toList.drop 0 = dktX0_retie_0 := by decide +kernel
theorem dksX0_retie_1 : cX0_retie.data.toList.drop 23 = dktX0_retie_1 := dk_seg dksX0_retie_0 23 rfl rfl
theorem dX0_retie_0 : decode cX0_retie 0 = .ok (.aload 4, 2) := dk_25 4 (dk_at dksX0_retie_0 0 rfl rfl)
theorem dX0_retie_2 : decode cX0_retie 2 = .ok (.iconst 0, 1) := dk_3 (dk_at dksX0_retie_0 2 rfl rfl)
theorem dX0_retie_3 : decode cX0_retie 3 = .ok (.aload_n 0, 1) := dk_42 (dk_at dksX0_retie_0 3 rfl rfl)
theorem dX0_retie_4 : decode cX0_retie 4 = .ok (.iload_n 1, 1) := dk_27 (dk_at dksX0_retie_0 4 rfl rfl)
theorem dX0_retie_5 : decode cX0_retie 5 = .ok (.iload_n 2, 1) := dk_28 (dk_at dksX0_retie_0 5 rfl rfl)
theorem dX0_retie_6 : decode cX0_retie 6 = .ok (.iload_n 3, 1) := dk_29 (dk_at dksX0_retie_0 6 rfl rfl)
theorem dX0_retie_7 : decode cX0_retie 7 = .ok (.invokevirtual 53, 3) := dk_182 0 53 (dk_at dksX0_retie_0 7 rfl rfl)
theorem dX0_retie_10 : decode cX0_retie 10 = .ok (.i2l, 1) := dk_133 (dk_at dksX0_retie_0 10 rfl rfl)
theorem dX0_retie_11 : decode cX0_retie 11 = .ok (.lastore, 1) := dk_80 (dk_at dksX0_retie_0 11 rfl rfl)
theorem dX0_retie_12 : decode cX0_retie 12 = .ok (.goto 15, 3) := dk_167 0 15 (dk_at dksX0_retie_0 12 rfl rfl)
theorem dX0_retie_15 : decode cX0_retie 15 = .ok (.astore 5, 2) := dk_58 5 (dk_at dksX0_retie_0 15 rfl rfl)
theorem dX0_retie_17 : decode cX0_retie 17 = .ok (.iconst 1, 1) := dk_4 (dk_at dksX0_retie_0 17 rfl rfl)
theorem dX0_retie_18 : decode cX0_retie 18 = .ok (.ireturn, 1) := dk_172 (dk_at dksX0_retie_0 18 rfl rfl)
theorem dX0_retie_19 : decode cX0_retie 19 = .ok (.astore 5, 2) := dk_58 5 (dk_at dksX0_retie_0 19 rfl rfl)
theorem dX0_retie_21 : decode cX0_retie 21 = .ok (.iconst 2, 1) := dk_5 (dk_at dksX0_retie_0 21 rfl rfl)
theorem dX0_retie_22 : decode cX0_retie 22 = .ok (.ireturn, 1) := dk_172 (dk_at dksX0_retie_0 22 rfl rfl)
theorem dX0_retie_23 : decode cX0_retie 23 = .ok (.astore 5, 2) := dk_58 5 (dk_at dksX0_retie_1 0 rfl rfl)
theorem dX0_retie_25 : decode cX0_retie 25 = .ok (.iconst 3, 1) := dk_6 (dk_at dksX0_retie_1 2 rfl rfl)
theorem dX0_retie_26 : decode cX0_retie 26 = .ok (.ireturn, 1) := dk_172 (dk_at dksX0_retie_1 3 rfl rfl)
theorem dX0_retie_27 : decode cX0_retie 27 = .ok (.iconst 0, 1) := dk_3 (dk_at dksX0_retie_1 4 rfl rfl)
theorem dX0_retie_28 : decode cX0_retie 28 = .ok (.ireturn, 1) := dk_172 (dk_at dksX0_retie_1 5 rfl rfl)
abbrev cX0_distance : ByteArray := method_15_code
def yX0_distance : MethodName := ⟨RX0, "distance", "(LKnotLetters;II[J)I"⟩
def dkwX0_distance_0 : List UInt8 := [45, 3, 42, 27, 28, 182, 0, 56, 133, 80, 167, 0, 7, 58, 4, 4, 172, 3, 172]
abbrev dktX0_distance_0 : List UInt8 := dkwX0_distance_0 ++ []
theorem dksX0_distance_0 : cX0_distance.data.toList.drop 0 = dktX0_distance_0 := by decide +kernel
theorem dX0_distance_0 : decode cX0_distance 0 = .ok (.aload_n 3, 1) := dk_45 (dk_at dksX0_distance_0 0 rfl rfl)
theorem dX0_distance_1 : decode cX0_distance 1 = .ok (.iconst 0, 1) := dk_3 (dk_at dksX0_distance_0 1 rfl rfl)
theorem dX0_distance_2 : decode cX0_distance 2 = .ok (.aload_n 0, 1) := dk_42 (dk_at dksX0_distance_0 2 rfl rfl)
theorem dX0_distance_3 : decode cX0_distance 3 = .ok (.iload_n 1, 1) := dk_27 (dk_at dksX0_distance_0 3 rfl rfl)
theorem dX0_distance_4 : decode cX0_distance 4 = .ok (.iload_n 2, 1) := dk_28 (dk_at dksX0_distance_0 4 rfl rfl)
theorem dX0_distance_5 : decode cX0_distance 5 = .ok (.invokevirtual 56, 3) := dk_182 0 56 (dk_at dksX0_distance_0 5 rfl rfl)
theorem dX0_distance_8 : decode cX0_distance 8 = .ok (.i2l, 1) := dk_133 (dk_at dksX0_distance_0 8 rfl rfl)
theorem dX0_distance_9 : decode cX0_distance 9 = .ok (.lastore, 1) := dk_80 (dk_at dksX0_distance_0 9 rfl rfl)
theorem dX0_distance_10 : decode cX0_distance 10 = .ok (.goto 7, 3) := dk_167 0 7 (dk_at dksX0_distance_0 10 rfl rfl)
theorem dX0_distance_13 : decode cX0_distance 13 = .ok (.astore 4, 2) := dk_58 4 (dk_at dksX0_distance_0 13 rfl rfl)
theorem dX0_distance_15 : decode cX0_distance 15 = .ok (.iconst 1, 1) := dk_4 (dk_at dksX0_distance_0 15 rfl rfl)
theorem dX0_distance_16 : decode cX0_distance 16 = .ok (.ireturn, 1) := dk_172 (dk_at dksX0_distance_0 16 rfl rfl)
theorem dX0_distance_17 : decode cX0_distance 17 = .ok (.iconst 0, 1) := dk_3 (dk_at dksX0_distance_0 17 rfl rfl)
theorem dX0_distance_18 : decode cX0_distance 18 = .ok (.ireturn, 1) := dk_172 (dk_at dksX0_distance_0 18 rfl rfl)
abbrev cX0_nearest : ByteArray := method_16_code
def yX0_nearest : MethodName := ⟨RX0, "nearest", "(LKnotLetters;I[J)I"⟩
def dkwX0_nearest_0 : List UInt8 := [44, 3, 42, 27, 182, 0, 59, 133, 80, 167, 0, 6, 78, 4, 172, 3, 172]
abbrev dktX0_nearest_0 : List UInt8 := dkwX0_nearest_0 ++ []
theorem dksX0_nearest_0 : cX0_nearest.data.toList.drop 0 = dktX0_nearest_0 := by decide +kernel
theorem dX0_nearest_0 : decode cX0_nearest 0 = .ok (.aload_n 2, 1) := dk_44 (dk_at dksX0_nearest_0 0 rfl rfl)
theorem dX0_nearest_1 : decode cX0_nearest 1 = .ok (.iconst 0, 1) := dk_3 (dk_at dksX0_nearest_0 1 rfl rfl)
theorem dX0_nearest_2 : decode cX0_nearest 2 = .ok (.aload_n 0, 1) := dk_42 (dk_at dksX0_nearest_0 2 rfl rfl)
theorem dX0_nearest_3 : decode cX0_nearest 3 = .ok (.iload_n 1, 1) := dk_27 (dk_at dksX0_nearest_0 3 rfl rfl)
theorem dX0_nearest_4 : decode cX0_nearest 4 = .ok (.invokevirtual 59, 3) := dk_182 0 59 (dk_at dksX0_nearest_0 4 rfl rfl)
theorem dX0_nearest_7 : decode cX0_nearest 7 = .ok (.i2l, 1) := dk_133 (dk_at dksX0_nearest_0 7 rfl rfl)
theorem dX0_nearest_8 : decode cX0_nearest 8 = .ok (.lastore, 1) := dk_80 (dk_at dksX0_nearest_0 8 rfl rfl)
theorem dX0_nearest_9 : decode cX0_nearest 9 = .ok (.goto 6, 3) := dk_167 0 6 (dk_at dksX0_nearest_0 9 rfl rfl)
theorem dX0_nearest_12 : decode cX0_nearest 12 = .ok (.astore_n 3, 1) := dk_78 (dk_at dksX0_nearest_0 12 rfl rfl)
theorem dX0_nearest_13 : decode cX0_nearest 13 = .ok (.iconst 1, 1) := dk_4 (dk_at dksX0_nearest_0 13 rfl rfl)
theorem dX0_nearest_14 : decode cX0_nearest 14 = .ok (.ireturn, 1) := dk_172 (dk_at dksX0_nearest_0 14 rfl rfl)
theorem dX0_nearest_15 : decode cX0_nearest 15 = .ok (.iconst 0, 1) := dk_3 (dk_at dksX0_nearest_0 15 rfl rfl)
theorem dX0_nearest_16 : decode cX0_nearest 16 = .ok (.ireturn, 1) := dk_172 (dk_at dksX0_nearest_0 16 rfl rfl)
abbrev cX0_read : ByteArray := method_17_code
def yX0_read : MethodName := ⟨RX0, "read", "(LKnotLetters;I[J)I"⟩
def dkwX0_read_0 : List UInt8 := [44, 3, 42, 27, 182, 0, 62, 133, 80, 167, 0, 6, 78, 4, 172, 3, 172]
abbrev dktX0_read_0 : List UInt8 := dkwX0_read_0 ++ []
theorem dksX0_read_0 : cX0_read.data.toList.drop 0 = dktX0_read_0 := by decide +kernel
theorem dX0_read_0 : decode cX0_read 0 = .ok (.aload_n 2, 1) := dk_44 (dk_at dksX0_read_0 0 rfl rfl)
theorem dX0_read_1 : decode cX0_read 1 = .ok (.iconst 0, 1) := dk_3 (dk_at dksX0_read_0 1 rfl rfl)
theorem dX0_read_2 : decode cX0_read 2 = .ok (.aload_n 0, 1) := dk_42 (dk_at dksX0_read_0 2 rfl rfl)
theorem dX0_read_3 : decode cX0_read 3 = .ok (.iload_n 1, 1) := dk_27 (dk_at dksX0_read_0 3 rfl rfl)
theorem dX0_read_4 : decode cX0_read 4 = .ok (.invokevirtual 62, 3) := dk_182 0 62 (dk_at dksX0_read_0 4 rfl rfl)
theorem dX0_read_7 : decode cX0_read 7 = .ok (.i2l, 1) := dk_133 (dk_at dksX0_read_0 7 rfl rfl)
theorem dX0_read_8 : decode cX0_read 8 = .ok (.lastore, 1) := dk_80 (dk_at dksX0_read_0 8 rfl rfl)
theorem dX0_read_9 : decode cX0_read 9 = .ok (.goto 6, 3) := dk_167 0 6 (dk_at dksX0_read_0 9 rfl rfl)
theorem dX0_read_12 : decode cX0_read 12 = .ok (.astore_n 3, 1) := dk_78 (dk_at dksX0_read_0 12 rfl rfl)
theorem dX0_read_13 : decode cX0_read 13 = .ok (.iconst 1, 1) := dk_4 (dk_at dksX0_read_0 13 rfl rfl)
theorem dX0_read_14 : decode cX0_read 14 = .ok (.ireturn, 1) := dk_172 (dk_at dksX0_read_0 14 rfl rfl)
theorem dX0_read_15 : decode cX0_read 15 = .ok (.iconst 0, 1) := dk_3 (dk_at dksX0_read_0 15 rfl rfl)
theorem dX0_read_16 : decode cX0_read 16 = .ok (.ireturn, 1) := dk_172 (dk_at dksX0_read_0 16 rfl rfl)
abbrev cX0_byteAt : ByteArray := method_18_code
def yX0_byteAt : MethodName := ⟨RX0, "byteAt", "(LKnotLetters;I[J)I"⟩
def dkwX0_byteAt_0 : List UInt8 := [44, 3, 42, 27, 182, 0, 65, 133, 80, 167, 0, 6, 78, 4, 172, 3, 172]
abbrev dktX0_byteAt_0 : List UInt8 := dkwX0_byteAt_0 ++ []
theorem dksX0_byteAt_0 : cX0_byteAt.data.toList.drop 0 = dktX0_byteAt_0 := by decide +kernel
theorem dX0_byteAt_0 : decode cX0_byteAt 0 = .ok (.aload_n 2, 1) := dk_44 (dk_at dksX0_byteAt_0 0 rfl rfl)
theorem dX0_byteAt_1 : decode cX0_byteAt 1 = .ok (.iconst 0, 1) := dk_3 (dk_at dksX0_byteAt_0 1 rfl rfl)
theorem dX0_byteAt_2 : decode cX0_byteAt 2 = .ok (.aload_n 0, 1) := dk_42 (dk_at dksX0_byteAt_0 2 rfl rfl)
theorem dX0_byteAt_3 : decode cX0_byteAt 3 = .ok (.iload_n 1, 1) := dk_27 (dk_at dksX0_byteAt_0 3 rfl rfl)
theorem dX0_byteAt_4 : decode cX0_byteAt 4 = .ok (.invokevirtual 65, 3) := dk_182 0 65 (dk_at dksX0_byteAt_0 4 rfl rfl)
theorem dX0_byteAt_7 : decode cX0_byteAt 7 = .ok (.i2l, 1) := dk_133 (dk_at dksX0_byteAt_0 7 rfl rfl)
theorem dX0_byteAt_8 : decode cX0_byteAt 8 = .ok (.lastore, 1) := dk_80 (dk_at dksX0_byteAt_0 8 rfl rfl)
theorem dX0_byteAt_9 : decode cX0_byteAt 9 = .ok (.goto 6, 3) := dk_167 0 6 (dk_at dksX0_byteAt_0 9 rfl rfl)
theorem dX0_byteAt_12 : decode cX0_byteAt 12 = .ok (.astore_n 3, 1) := dk_78 (dk_at dksX0_byteAt_0 12 rfl rfl)
theorem dX0_byteAt_13 : decode cX0_byteAt 13 = .ok (.iconst 1, 1) := dk_4 (dk_at dksX0_byteAt_0 13 rfl rfl)
theorem dX0_byteAt_14 : decode cX0_byteAt 14 = .ok (.ireturn, 1) := dk_172 (dk_at dksX0_byteAt_0 14 rfl rfl)
theorem dX0_byteAt_15 : decode cX0_byteAt 15 = .ok (.iconst 0, 1) := dk_3 (dk_at dksX0_byteAt_0 15 rfl rfl)
theorem dX0_byteAt_16 : decode cX0_byteAt 16 = .ok (.ireturn, 1) := dk_172 (dk_at dksX0_byteAt_0 16 rfl rfl)
abbrev cX0_count : ByteArray := method_19_code
def yX0_count : MethodName := ⟨RX0, "count", "(LKnotLetters;I[J)I"⟩
def dkwX0_count_0 : List UInt8 := [44, 3, 42, 27, 182, 0, 68, 133, 80, 167, 0, 6, 78, 4, 172, 3, 172]
abbrev dktX0_count_0 : List UInt8 := dkwX0_count_0 ++ []
theorem dksX0_count_0 : cX0_count.data.toList.drop 0 = dktX0_count_0 := by decide +kernel
theorem dX0_count_0 : decode cX0_count 0 = .ok (.aload_n 2, 1) := dk_44 (dk_at dksX0_count_0 0 rfl rfl)
theorem dX0_count_1 : decode cX0_count 1 = .ok (.iconst 0, 1) := dk_3 (dk_at dksX0_count_0 1 rfl rfl)
theorem dX0_count_2 : decode cX0_count 2 = .ok (.aload_n 0, 1) := dk_42 (dk_at dksX0_count_0 2 rfl rfl)
theorem dX0_count_3 : decode cX0_count 3 = .ok (.iload_n 1, 1) := dk_27 (dk_at dksX0_count_0 3 rfl rfl)
theorem dX0_count_4 : decode cX0_count 4 = .ok (.invokevirtual 68, 3) := dk_182 0 68 (dk_at dksX0_count_0 4 rfl rfl)
theorem dX0_count_7 : decode cX0_count 7 = .ok (.i2l, 1) := dk_133 (dk_at dksX0_count_0 7 rfl rfl)
theorem dX0_count_8 : decode cX0_count 8 = .ok (.lastore, 1) := dk_80 (dk_at dksX0_count_0 8 rfl rfl)
theorem dX0_count_9 : decode cX0_count 9 = .ok (.goto 6, 3) := dk_167 0 6 (dk_at dksX0_count_0 9 rfl rfl)
theorem dX0_count_12 : decode cX0_count 12 = .ok (.astore_n 3, 1) := dk_78 (dk_at dksX0_count_0 12 rfl rfl)
theorem dX0_count_13 : decode cX0_count 13 = .ok (.iconst 1, 1) := dk_4 (dk_at dksX0_count_0 13 rfl rfl)
theorem dX0_count_14 : decode cX0_count 14 = .ok (.ireturn, 1) := dk_172 (dk_at dksX0_count_0 14 rfl rfl)
theorem dX0_count_15 : decode cX0_count 15 = .ok (.iconst 0, 1) := dk_3 (dk_at dksX0_count_0 15 rfl rfl)
theorem dX0_count_16 : decode cX0_count 16 = .ok (.ireturn, 1) := dk_172 (dk_at dksX0_count_0 16 rfl rfl)
theorem q46 : (Jvm.Cond.initialized "KnotLettersLaw") ∈ lw_all := lw_g (lw_at lw_m1 0 rfl) rfl
theorem q95 : (Jvm.Cond.classLink "KnotLettersLaw" (8 : Nat) "KnotLetters") ∈ lw_all := lw_g (lw_at lw_m1 49 rfl) rfl
theorem q97 : (Jvm.Cond.methodLink "KnotLettersLaw" (71 : Nat) ({ cls := "KnotLetters", name := "<init>", desc := "()V" } : Jvm.MethodName)) ∈ lw_all := lw_g (lw_at lw_m1 51 rfl) rfl
theorem q260 : (Jvm.Cond.methodLink "KnotLettersLaw" (87 : Nat) ({ cls := "KnotLetters", name := "isFree", desc := "()Z" } : Jvm.MethodName)) ∈ lw_all := lw_g (lw_at lw_m1 214 rfl) rfl
theorem q372 : (Jvm.Cond.methodLink "KnotLettersLaw" (92 : Nat) ({ cls := "KnotLetters", name := "isClear", desc := "()Z" } : Jvm.MethodName)) ∈ lw_all := lw_g (lw_at lw_m2 86 rfl) rfl
theorem q1390 : (Jvm.Cond.methodLink "KnotLettersLaw" (99 : Nat) ({ cls := "KnotLetters", name := "closest", desc := "()I" } : Jvm.MethodName)) ∈ lw_all := lw_g (lw_at lw_m6 144 rfl) rfl
theorem q1426 : (Jvm.Cond.methodLink "KnotLettersLaw" (103 : Nat) ({ cls := "KnotLetters", name := "advise", desc := "()I" } : Jvm.MethodName)) ∈ lw_all := lw_g (lw_at lw_m6 180 rfl) rfl
theorem q1458 : (Jvm.Cond.methodLink "KnotLettersLaw" (153 : Nat) ({ cls := "KnotLetters", name := "mean", desc := "()D" } : Jvm.MethodName)) ∈ lw_all := lw_g (lw_at lw_m6 212 rfl) rfl
theorem q1467 : (Jvm.Cond.methodLink "KnotLettersLaw" (158 : Nat) ({ cls := "KnotLetters", name := "digest", desc := "()J" } : Jvm.MethodName)) ∈ lw_all := lw_g (lw_at lw_m6 221 rfl) rfl
theorem q1785 : (Jvm.Cond.methodLink "KnotLettersLaw" (75 : Nat) ({ cls := "KnotLettersLaw", name := "setLetter", desc := "(LKnotLetters;II[J)I" } : Jvm.MethodName)) ∈ lw_all := lw_g (lw_at lw_m8 59 rfl) rfl
theorem q1786 : (Jvm.Cond.static ({ cls := "KnotLettersLaw", name := "setLetter", desc := "(LKnotLetters;II[J)I" } : Jvm.MethodName)) ∈ lw_all := lw_g (lw_at lw_m8 60 rfl) rfl
theorem q1787 : (Jvm.Cond.codeWith ({ cls := "KnotLettersLaw", name := "setLetter", desc := "(LKnotLetters;II[J)I" } : Jvm.MethodName) method_3_code (5 : Nat) (Option.some Jvm.ClassFile.FieldType.int) [((0 : Nat), (10 : Nat), (13 : Nat), (13 : Nat)), ((0 : Nat), (10 : Nat), (17 : Nat), (15 : Nat))]) ∈ lw_all := lw_g (lw_at lw_m8 61 rfl) rfl
theorem q1788 : (Jvm.Cond.classLink "KnotLettersLaw" (13 : Nat) "java/lang/IndexOutOfBoundsException") ∈ lw_all := lw_g (lw_at lw_m8 62 rfl) rfl
theorem q1807 : (Jvm.Cond.classLink "KnotLettersLaw" (15 : Nat) "java/lang/IllegalArgumentException") ∈ lw_all := lw_g (lw_at lw_m8 81 rfl) rfl
theorem q1808 : (Jvm.Cond.methodLink "KnotLettersLaw" (7 : Nat) ({ cls := "KnotLetters", name := "setLetter", desc := "(II)I" } : Jvm.MethodName)) ∈ lw_all := lw_g (lw_at lw_m8 82 rfl) rfl
theorem q1821 : (Jvm.Cond.methodLink "KnotLettersLaw" (84 : Nat) ({ cls := "KnotLettersLaw", name := "letter", desc := "(LKnotLetters;II[J)I" } : Jvm.MethodName)) ∈ lw_all := lw_g (lw_at lw_m8 95 rfl) rfl
theorem q1822 : (Jvm.Cond.static ({ cls := "KnotLettersLaw", name := "letter", desc := "(LKnotLetters;II[J)I" } : Jvm.MethodName)) ∈ lw_all := lw_g (lw_at lw_m8 96 rfl) rfl
theorem q1823 : (Jvm.Cond.codeWith ({ cls := "KnotLettersLaw", name := "letter", desc := "(LKnotLetters;II[J)I" } : Jvm.MethodName) method_4_code (5 : Nat) (Option.some Jvm.ClassFile.FieldType.int) [((0 : Nat), (10 : Nat), (13 : Nat), (13 : Nat))]) ∈ lw_all := lw_g (lw_at lw_m8 97 rfl) rfl
theorem q1824 : (Jvm.Cond.methodLink "KnotLettersLaw" (17 : Nat) ({ cls := "KnotLetters", name := "letter", desc := "(II)I" } : Jvm.MethodName)) ∈ lw_all := lw_g (lw_at lw_m8 98 rfl) rfl
theorem q1828 : (Jvm.Cond.methodLink "KnotLettersLaw" (96 : Nat) ({ cls := "KnotLettersLaw", name := "alike", desc := "(LKnotLetters;II[J)I" } : Jvm.MethodName)) ∈ lw_all := lw_g (lw_at lw_m8 102 rfl) rfl
theorem q1829 : (Jvm.Cond.static ({ cls := "KnotLettersLaw", name := "alike", desc := "(LKnotLetters;II[J)I" } : Jvm.MethodName)) ∈ lw_all := lw_g (lw_at lw_m8 103 rfl) rfl
theorem q1830 : (Jvm.Cond.codeWith ({ cls := "KnotLettersLaw", name := "alike", desc := "(LKnotLetters;II[J)I" } : Jvm.MethodName) method_5_code (5 : Nat) (Option.some Jvm.ClassFile.FieldType.int) [((0 : Nat), (10 : Nat), (13 : Nat), (13 : Nat))]) ∈ lw_all := lw_g (lw_at lw_m8 104 rfl) rfl
theorem q1831 : (Jvm.Cond.methodLink "KnotLettersLaw" (20 : Nat) ({ cls := "KnotLetters", name := "alike", desc := "(II)I" } : Jvm.MethodName)) ∈ lw_all := lw_g (lw_at lw_m8 105 rfl) rfl
theorem q1835 : (Jvm.Cond.methodLink "KnotLettersLaw" (107 : Nat) ({ cls := "KnotLettersLaw", name := "setKnotter", desc := "(LKnotLetters;II[J)I" } : Jvm.MethodName)) ∈ lw_all := lw_g (lw_at lw_m8 109 rfl) rfl
theorem q1836 : (Jvm.Cond.static ({ cls := "KnotLettersLaw", name := "setKnotter", desc := "(LKnotLetters;II[J)I" } : Jvm.MethodName)) ∈ lw_all := lw_g (lw_at lw_m8 110 rfl) rfl
theorem q1837 : (Jvm.Cond.codeWith ({ cls := "KnotLettersLaw", name := "setKnotter", desc := "(LKnotLetters;II[J)I" } : Jvm.MethodName) method_6_code (5 : Nat) (Option.some Jvm.ClassFile.FieldType.int) [((0 : Nat), (10 : Nat), (13 : Nat), (15 : Nat))]) ∈ lw_all := lw_g (lw_at lw_m8 111 rfl) rfl
theorem q1838 : (Jvm.Cond.methodLink "KnotLettersLaw" (23 : Nat) ({ cls := "KnotLetters", name := "setKnotter", desc := "(II)I" } : Jvm.MethodName)) ∈ lw_all := lw_g (lw_at lw_m8 112 rfl) rfl
theorem q1845 : (Jvm.Cond.methodLink "KnotLettersLaw" (110 : Nat) ({ cls := "KnotLettersLaw", name := "setFeel", desc := "(LKnotLetters;III[J)I" } : Jvm.MethodName)) ∈ lw_all := lw_g (lw_at lw_m8 119 rfl) rfl
theorem q1846 : (Jvm.Cond.static ({ cls := "KnotLettersLaw", name := "setFeel", desc := "(LKnotLetters;III[J)I" } : Jvm.MethodName)) ∈ lw_all := lw_g (lw_at lw_m8 120 rfl) rfl
theorem q1847 : (Jvm.Cond.codeWith ({ cls := "KnotLettersLaw", name := "setFeel", desc := "(LKnotLetters;III[J)I" } : Jvm.MethodName) method_7_code (6 : Nat) (Option.some Jvm.ClassFile.FieldType.int) [((0 : Nat), (12 : Nat), (15 : Nat), (15 : Nat))]) ∈ lw_all := lw_g (lw_at lw_m8 121 rfl) rfl
theorem q1848 : (Jvm.Cond.methodLink "KnotLettersLaw" (26 : Nat) ({ cls := "KnotLetters", name := "setFeel", desc := "(III)I" } : Jvm.MethodName)) ∈ lw_all := lw_g (lw_at lw_m8 122 rfl) rfl
theorem q1852 : (Jvm.Cond.methodLink "KnotLettersLaw" (114 : Nat) ({ cls := "KnotLettersLaw", name := "setCosts", desc := "(LKnotLetters;II[J)I" } : Jvm.MethodName)) ∈ lw_all := lw_g (lw_at lw_m8 126 rfl) rfl
theorem q1853 : (Jvm.Cond.static ({ cls := "KnotLettersLaw", name := "setCosts", desc := "(LKnotLetters;II[J)I" } : Jvm.MethodName)) ∈ lw_all := lw_g (lw_at lw_m8 127 rfl) rfl
theorem q1854 : (Jvm.Cond.codeWith ({ cls := "KnotLettersLaw", name := "setCosts", desc := "(LKnotLetters;II[J)I" } : Jvm.MethodName) method_8_code (5 : Nat) (Option.some Jvm.ClassFile.FieldType.int) [((0 : Nat), (10 : Nat), (13 : Nat), (15 : Nat))]) ∈ lw_all := lw_g (lw_at lw_m8 128 rfl) rfl
theorem q1855 : (Jvm.Cond.methodLink "KnotLettersLaw" (30 : Nat) ({ cls := "KnotLetters", name := "setCosts", desc := "(II)I" } : Jvm.MethodName)) ∈ lw_all := lw_g (lw_at lw_m8 129 rfl) rfl
theorem q1859 : (Jvm.Cond.methodLink "KnotLettersLaw" (117 : Nat) ({ cls := "KnotLettersLaw", name := "feed", desc := "(LKnotLetters;IIIII[J)I" } : Jvm.MethodName)) ∈ lw_all := lw_g (lw_at lw_m8 133 rfl) rfl
theorem q1860 : (Jvm.Cond.static ({ cls := "KnotLettersLaw", name := "feed", desc := "(LKnotLetters;IIIII[J)I" } : Jvm.MethodName)) ∈ lw_all := lw_g (lw_at lw_m8 134 rfl) rfl
theorem q1861 : (Jvm.Cond.codeWith ({ cls := "KnotLettersLaw", name := "feed", desc := "(LKnotLetters;IIIII[J)I" } : Jvm.MethodName) method_9_code (8 : Nat) (Option.some Jvm.ClassFile.FieldType.int) [((0 : Nat), (16 : Nat), (19 : Nat), (37 : Nat))]) ∈ lw_all := lw_g (lw_at lw_m8 135 rfl) rfl
theorem q1862 : (Jvm.Cond.classLink "KnotLettersLaw" (37 : Nat) "java/lang/IllegalStateException") ∈ lw_all := lw_g (lw_at lw_m8 136 rfl) rfl
theorem q1863 : (Jvm.Cond.methodLink "KnotLettersLaw" (33 : Nat) ({ cls := "KnotLetters", name := "feed", desc := "(IIIII)I" } : Jvm.MethodName)) ∈ lw_all := lw_g (lw_at lw_m8 137 rfl) rfl
theorem q1889 : (Jvm.Cond.methodLink "KnotLettersLaw" (121 : Nat) ({ cls := "KnotLettersLaw", name := "trim", desc := "(LKnotLetters;I[J)I" } : Jvm.MethodName)) ∈ lw_all := lw_g (lw_at lw_m8 163 rfl) rfl
theorem q1890 : (Jvm.Cond.static ({ cls := "KnotLettersLaw", name := "trim", desc := "(LKnotLetters;I[J)I" } : Jvm.MethodName)) ∈ lw_all := lw_g (lw_at lw_m8 164 rfl) rfl
theorem q1891 : (Jvm.Cond.codeWith ({ cls := "KnotLettersLaw", name := "trim", desc := "(LKnotLetters;I[J)I" } : Jvm.MethodName) method_10_code (4 : Nat) (Option.some Jvm.ClassFile.FieldType.int) [((0 : Nat), (9 : Nat), (12 : Nat), (15 : Nat))]) ∈ lw_all := lw_g (lw_at lw_m8 165 rfl) rfl
theorem q1892 : (Jvm.Cond.methodLink "KnotLettersLaw" (39 : Nat) ({ cls := "KnotLetters", name := "trim", desc := "(I)I" } : Jvm.MethodName)) ∈ lw_all := lw_g (lw_at lw_m8 166 rfl) rfl
theorem q1896 : (Jvm.Cond.methodLink "KnotLettersLaw" (125 : Nat) ({ cls := "KnotLettersLaw", name := "tie", desc := "(LKnotLetters;[J)I" } : Jvm.MethodName)) ∈ lw_all := lw_g (lw_at lw_m8 170 rfl) rfl
theorem q1897 : (Jvm.Cond.static ({ cls := "KnotLettersLaw", name := "tie", desc := "(LKnotLetters;[J)I" } : Jvm.MethodName)) ∈ lw_all := lw_g (lw_at lw_m8 171 rfl) rfl
theorem q1898 : (Jvm.Cond.codeWith ({ cls := "KnotLettersLaw", name := "tie", desc := "(LKnotLetters;[J)I" } : Jvm.MethodName) method_11_code (3 : Nat) (Option.some Jvm.ClassFile.FieldType.int) [((0 : Nat), (8 : Nat), (11 : Nat), (37 : Nat))]) ∈ lw_all := lw_g (lw_at lw_m8 172 rfl) rfl
theorem q1899 : (Jvm.Cond.methodLink "KnotLettersLaw" (43 : Nat) ({ cls := "KnotLetters", name := "tie", desc := "()I" } : Jvm.MethodName)) ∈ lw_all := lw_g (lw_at lw_m8 173 rfl) rfl
theorem q1934 : (Jvm.Cond.methodLink "KnotLettersLaw" (129 : Nat) ({ cls := "KnotLettersLaw", name := "cord", desc := "(LKnotLetters;II[J)I" } : Jvm.MethodName)) ∈ lw_all := lw_g (lw_at lw_m8 208 rfl) rfl
theorem q1935 : (Jvm.Cond.static ({ cls := "KnotLettersLaw", name := "cord", desc := "(LKnotLetters;II[J)I" } : Jvm.MethodName)) ∈ lw_all := lw_g (lw_at lw_m8 209 rfl) rfl
theorem q1936 : (Jvm.Cond.codeWith ({ cls := "KnotLettersLaw", name := "cord", desc := "(LKnotLetters;II[J)I" } : Jvm.MethodName) method_12_code (5 : Nat) (Option.some Jvm.ClassFile.FieldType.int) [((0 : Nat), (10 : Nat), (13 : Nat), (13 : Nat))]) ∈ lw_all := lw_g (lw_at lw_m8 210 rfl) rfl
theorem q1937 : (Jvm.Cond.methodLink "KnotLettersLaw" (47 : Nat) ({ cls := "KnotLetters", name := "cord", desc := "(II)I" } : Jvm.MethodName)) ∈ lw_all := lw_g (lw_at lw_m8 211 rfl) rfl
theorem q1957 : (Jvm.Cond.methodLink "KnotLettersLaw" (132 : Nat) ({ cls := "KnotLettersLaw", name := "knot", desc := "(LKnotLetters;II[J)I" } : Jvm.MethodName)) ∈ lw_all := lw_g (lw_at lw_m8 231 rfl) rfl
theorem q1958 : (Jvm.Cond.static ({ cls := "KnotLettersLaw", name := "knot", desc := "(LKnotLetters;II[J)I" } : Jvm.MethodName)) ∈ lw_all := lw_g (lw_at lw_m8 232 rfl) rfl
theorem q1959 : (Jvm.Cond.codeWith ({ cls := "KnotLettersLaw", name := "knot", desc := "(LKnotLetters;II[J)I" } : Jvm.MethodName) method_13_code (5 : Nat) (Option.some Jvm.ClassFile.FieldType.int) [((0 : Nat), (10 : Nat), (13 : Nat), (13 : Nat))]) ∈ lw_all := lw_g (lw_at lw_m8 233 rfl) rfl
theorem q1960 : (Jvm.Cond.methodLink "KnotLettersLaw" (50 : Nat) ({ cls := "KnotLetters", name := "knot", desc := "(II)I" } : Jvm.MethodName)) ∈ lw_all := lw_g (lw_at lw_m8 234 rfl) rfl
theorem q1964 : (Jvm.Cond.methodLink "KnotLettersLaw" (135 : Nat) ({ cls := "KnotLettersLaw", name := "retie", desc := "(LKnotLetters;III[J)I" } : Jvm.MethodName)) ∈ lw_all := lw_g (lw_at lw_m8 238 rfl) rfl
theorem q1965 : (Jvm.Cond.static ({ cls := "KnotLettersLaw", name := "retie", desc := "(LKnotLetters;III[J)I" } : Jvm.MethodName)) ∈ lw_all := lw_g (lw_at lw_m8 239 rfl) rfl
theorem q1966 : (Jvm.Cond.codeWith ({ cls := "KnotLettersLaw", name := "retie", desc := "(LKnotLetters;III[J)I" } : Jvm.MethodName) method_14_code (6 : Nat) (Option.some Jvm.ClassFile.FieldType.int) [((0 : Nat), (12 : Nat), (15 : Nat), (13 : Nat)), ((0 : Nat), (12 : Nat), (19 : Nat), (15 : Nat)), ((0 : Nat), (12 : Nat), (23 : Nat), (37 : Nat))]) ∈ lw_all := lw_g (lw_at lw_m9 0 rfl) rfl
theorem q1967 : (Jvm.Cond.methodLink "KnotLettersLaw" (53 : Nat) ({ cls := "KnotLetters", name := "retie", desc := "(III)I" } : Jvm.MethodName)) ∈ lw_all := lw_g (lw_at lw_m9 1 rfl) rfl
theorem q1982 : (Jvm.Cond.methodLink "KnotLettersLaw" (138 : Nat) ({ cls := "KnotLettersLaw", name := "distance", desc := "(LKnotLetters;II[J)I" } : Jvm.MethodName)) ∈ lw_all := lw_g (lw_at lw_m9 16 rfl) rfl
theorem q1983 : (Jvm.Cond.static ({ cls := "KnotLettersLaw", name := "distance", desc := "(LKnotLetters;II[J)I" } : Jvm.MethodName)) ∈ lw_all := lw_g (lw_at lw_m9 17 rfl) rfl
theorem q1984 : (Jvm.Cond.codeWith ({ cls := "KnotLettersLaw", name := "distance", desc := "(LKnotLetters;II[J)I" } : Jvm.MethodName) method_15_code (5 : Nat) (Option.some Jvm.ClassFile.FieldType.int) [((0 : Nat), (10 : Nat), (13 : Nat), (13 : Nat))]) ∈ lw_all := lw_g (lw_at lw_m9 18 rfl) rfl
theorem q1985 : (Jvm.Cond.methodLink "KnotLettersLaw" (56 : Nat) ({ cls := "KnotLetters", name := "distance", desc := "(II)I" } : Jvm.MethodName)) ∈ lw_all := lw_g (lw_at lw_m9 19 rfl) rfl
theorem q1989 : (Jvm.Cond.methodLink "KnotLettersLaw" (141 : Nat) ({ cls := "KnotLettersLaw", name := "nearest", desc := "(LKnotLetters;I[J)I" } : Jvm.MethodName)) ∈ lw_all := lw_g (lw_at lw_m9 23 rfl) rfl
theorem q1990 : (Jvm.Cond.static ({ cls := "KnotLettersLaw", name := "nearest", desc := "(LKnotLetters;I[J)I" } : Jvm.MethodName)) ∈ lw_all := lw_g (lw_at lw_m9 24 rfl) rfl
theorem q1991 : (Jvm.Cond.codeWith ({ cls := "KnotLettersLaw", name := "nearest", desc := "(LKnotLetters;I[J)I" } : Jvm.MethodName) method_16_code (4 : Nat) (Option.some Jvm.ClassFile.FieldType.int) [((0 : Nat), (9 : Nat), (12 : Nat), (13 : Nat))]) ∈ lw_all := lw_g (lw_at lw_m9 25 rfl) rfl
theorem q1992 : (Jvm.Cond.methodLink "KnotLettersLaw" (59 : Nat) ({ cls := "KnotLetters", name := "nearest", desc := "(I)I" } : Jvm.MethodName)) ∈ lw_all := lw_g (lw_at lw_m9 26 rfl) rfl
theorem q1996 : (Jvm.Cond.methodLink "KnotLettersLaw" (144 : Nat) ({ cls := "KnotLettersLaw", name := "read", desc := "(LKnotLetters;I[J)I" } : Jvm.MethodName)) ∈ lw_all := lw_g (lw_at lw_m9 30 rfl) rfl
theorem q1997 : (Jvm.Cond.static ({ cls := "KnotLettersLaw", name := "read", desc := "(LKnotLetters;I[J)I" } : Jvm.MethodName)) ∈ lw_all := lw_g (lw_at lw_m9 31 rfl) rfl
theorem q1998 : (Jvm.Cond.codeWith ({ cls := "KnotLettersLaw", name := "read", desc := "(LKnotLetters;I[J)I" } : Jvm.MethodName) method_17_code (4 : Nat) (Option.some Jvm.ClassFile.FieldType.int) [((0 : Nat), (9 : Nat), (12 : Nat), (13 : Nat))]) ∈ lw_all := lw_g (lw_at lw_m9 32 rfl) rfl
theorem q1999 : (Jvm.Cond.methodLink "KnotLettersLaw" (62 : Nat) ({ cls := "KnotLetters", name := "read", desc := "(I)I" } : Jvm.MethodName)) ∈ lw_all := lw_g (lw_at lw_m9 33 rfl) rfl
theorem q2055 : (Jvm.Cond.methodLink "KnotLettersLaw" (147 : Nat) ({ cls := "KnotLettersLaw", name := "byteAt", desc := "(LKnotLetters;I[J)I" } : Jvm.MethodName)) ∈ lw_all := lw_g (lw_at lw_m9 89 rfl) rfl
theorem q2056 : (Jvm.Cond.static ({ cls := "KnotLettersLaw", name := "byteAt", desc := "(LKnotLetters;I[J)I" } : Jvm.MethodName)) ∈ lw_all := lw_g (lw_at lw_m9 90 rfl) rfl
theorem q2057 : (Jvm.Cond.codeWith ({ cls := "KnotLettersLaw", name := "byteAt", desc := "(LKnotLetters;I[J)I" } : Jvm.MethodName) method_18_code (4 : Nat) (Option.some Jvm.ClassFile.FieldType.int) [((0 : Nat), (9 : Nat), (12 : Nat), (13 : Nat))]) ∈ lw_all := lw_g (lw_at lw_m9 91 rfl) rfl
theorem q2058 : (Jvm.Cond.methodLink "KnotLettersLaw" (65 : Nat) ({ cls := "KnotLetters", name := "byteAt", desc := "(I)I" } : Jvm.MethodName)) ∈ lw_all := lw_g (lw_at lw_m9 92 rfl) rfl
theorem q2062 : (Jvm.Cond.methodLink "KnotLettersLaw" (150 : Nat) ({ cls := "KnotLettersLaw", name := "count", desc := "(LKnotLetters;I[J)I" } : Jvm.MethodName)) ∈ lw_all := lw_g (lw_at lw_m9 96 rfl) rfl
theorem q2063 : (Jvm.Cond.static ({ cls := "KnotLettersLaw", name := "count", desc := "(LKnotLetters;I[J)I" } : Jvm.MethodName)) ∈ lw_all := lw_g (lw_at lw_m9 97 rfl) rfl
theorem q2064 : (Jvm.Cond.codeWith ({ cls := "KnotLettersLaw", name := "count", desc := "(LKnotLetters;I[J)I" } : Jvm.MethodName) method_19_code (4 : Nat) (Option.some Jvm.ClassFile.FieldType.int) [((0 : Nat), (9 : Nat), (12 : Nat), (13 : Nat))]) ∈ lw_all := lw_g (lw_at lw_m9 98 rfl) rfl
theorem q2065 : (Jvm.Cond.methodLink "KnotLettersLaw" (68 : Nat) ({ cls := "KnotLetters", name := "count", desc := "(I)I" } : Jvm.MethodName)) ∈ lw_all := lw_g (lw_at lw_m9 99 rfl) rfl
theorem q2066 : (Jvm.Cond.classLink "KnotLettersLaw" (72 : Nat) "KnotLettersModel") ∈ lw_all := lw_g (lw_at lw_m9 100 rfl) rfl
theorem q2068 : (Jvm.Cond.methodLink "KnotLettersLaw" (74 : Nat) ({ cls := "KnotLettersModel", name := "<init>", desc := "()V" } : Jvm.MethodName)) ∈ lw_all := lw_g (lw_at lw_m9 102 rfl) rfl
theorem q2142 : (Jvm.Cond.methodLink "KnotLettersLaw" (81 : Nat) ({ cls := "KnotLettersModel", name := "thrown", desc := "()I" } : Jvm.MethodName)) ∈ lw_all := lw_g (lw_at lw_m9 176 rfl) rfl
theorem q2146 : (Jvm.Cond.methodLink "KnotLettersLaw" (80 : Nat) ({ cls := "KnotLettersModel", name := "setLetter", desc := "(II)I" } : Jvm.MethodName)) ∈ lw_all := lw_g (lw_at lw_m9 180 rfl) rfl
theorem q2160 : (Jvm.Cond.methodLink "KnotLettersLaw" (86 : Nat) ({ cls := "KnotLettersModel", name := "letter", desc := "(II)I" } : Jvm.MethodName)) ∈ lw_all := lw_g (lw_at lw_m9 194 rfl) rfl
theorem q2171 : (Jvm.Cond.methodLink "KnotLettersLaw" (91 : Nat) ({ cls := "KnotLettersModel", name := "isFree", desc := "()Z" } : Jvm.MethodName)) ∈ lw_all := lw_g (lw_at lw_m9 205 rfl) rfl
theorem q2178 : (Jvm.Cond.methodLink "KnotLettersLaw" (95 : Nat) ({ cls := "KnotLettersModel", name := "isClear", desc := "()Z" } : Jvm.MethodName)) ∈ lw_all := lw_g (lw_at lw_m9 212 rfl) rfl
theorem q2191 : (Jvm.Cond.methodLink "KnotLettersLaw" (98 : Nat) ({ cls := "KnotLettersModel", name := "alike", desc := "(II)I" } : Jvm.MethodName)) ∈ lw_all := lw_g (lw_at lw_m9 225 rfl) rfl
theorem q2200 : (Jvm.Cond.methodLink "KnotLettersLaw" (102 : Nat) ({ cls := "KnotLettersModel", name := "closest", desc := "()I" } : Jvm.MethodName)) ∈ lw_all := lw_g (lw_at lw_m9 234 rfl) rfl
theorem q2204 : (Jvm.Cond.methodLink "KnotLettersLaw" (106 : Nat) ({ cls := "KnotLettersModel", name := "advise", desc := "()I" } : Jvm.MethodName)) ∈ lw_all := lw_g (lw_at lw_m9 238 rfl) rfl
theorem q2208 : (Jvm.Cond.methodLink "KnotLettersLaw" (109 : Nat) ({ cls := "KnotLettersModel", name := "setKnotter", desc := "(II)I" } : Jvm.MethodName)) ∈ lw_all := lw_g (lw_at lw_m10 2 rfl) rfl
theorem q2212 : (Jvm.Cond.methodLink "KnotLettersLaw" (113 : Nat) ({ cls := "KnotLettersModel", name := "setFeel", desc := "(III)I" } : Jvm.MethodName)) ∈ lw_all := lw_g (lw_at lw_m10 6 rfl) rfl
theorem q2216 : (Jvm.Cond.methodLink "KnotLettersLaw" (116 : Nat) ({ cls := "KnotLettersModel", name := "setCosts", desc := "(II)I" } : Jvm.MethodName)) ∈ lw_all := lw_g (lw_at lw_m10 10 rfl) rfl
theorem q2220 : (Jvm.Cond.methodLink "KnotLettersLaw" (120 : Nat) ({ cls := "KnotLettersModel", name := "feed", desc := "(IIIII)I" } : Jvm.MethodName)) ∈ lw_all := lw_g (lw_at lw_m10 14 rfl) rfl
theorem q2224 : (Jvm.Cond.methodLink "KnotLettersLaw" (124 : Nat) ({ cls := "KnotLettersModel", name := "trim", desc := "(I)I" } : Jvm.MethodName)) ∈ lw_all := lw_g (lw_at lw_m10 18 rfl) rfl
theorem q2228 : (Jvm.Cond.methodLink "KnotLettersLaw" (128 : Nat) ({ cls := "KnotLettersModel", name := "tie", desc := "()I" } : Jvm.MethodName)) ∈ lw_all := lw_g (lw_at lw_m10 22 rfl) rfl
theorem q2244 : (Jvm.Cond.methodLink "KnotLettersLaw" (131 : Nat) ({ cls := "KnotLettersModel", name := "cord", desc := "(II)I" } : Jvm.MethodName)) ∈ lw_all := lw_g (lw_at lw_m10 38 rfl) rfl
theorem q2287 : (Jvm.Cond.methodLink "KnotLettersLaw" (134 : Nat) ({ cls := "KnotLettersModel", name := "knot", desc := "(II)I" } : Jvm.MethodName)) ∈ lw_all := lw_g (lw_at lw_m10 81 rfl) rfl
theorem q2291 : (Jvm.Cond.methodLink "KnotLettersLaw" (137 : Nat) ({ cls := "KnotLettersModel", name := "retie", desc := "(III)I" } : Jvm.MethodName)) ∈ lw_all := lw_g (lw_at lw_m10 85 rfl) rfl
theorem q2295 : (Jvm.Cond.methodLink "KnotLettersLaw" (140 : Nat) ({ cls := "KnotLettersModel", name := "distance", desc := "(II)I" } : Jvm.MethodName)) ∈ lw_all := lw_g (lw_at lw_m10 89 rfl) rfl
theorem q2303 : (Jvm.Cond.methodLink "KnotLettersLaw" (143 : Nat) ({ cls := "KnotLettersModel", name := "nearest", desc := "(I)I" } : Jvm.MethodName)) ∈ lw_all := lw_g (lw_at lw_m10 97 rfl) rfl
theorem q2307 : (Jvm.Cond.methodLink "KnotLettersLaw" (146 : Nat) ({ cls := "KnotLettersModel", name := "read", desc := "(I)I" } : Jvm.MethodName)) ∈ lw_all := lw_g (lw_at lw_m10 101 rfl) rfl
theorem q2311 : (Jvm.Cond.methodLink "KnotLettersLaw" (149 : Nat) ({ cls := "KnotLettersModel", name := "byteAt", desc := "(I)I" } : Jvm.MethodName)) ∈ lw_all := lw_g (lw_at lw_m10 105 rfl) rfl
theorem q2315 : (Jvm.Cond.methodLink "KnotLettersLaw" (152 : Nat) ({ cls := "KnotLettersModel", name := "count", desc := "(I)I" } : Jvm.MethodName)) ∈ lw_all := lw_g (lw_at lw_m10 109 rfl) rfl
theorem q2323 : (Jvm.Cond.methodLink "KnotLettersLaw" (157 : Nat) ({ cls := "KnotLettersModel", name := "mean", desc := "()D" } : Jvm.MethodName)) ∈ lw_all := lw_g (lw_at lw_m10 117 rfl) rfl
theorem q2327 : (Jvm.Cond.methodLink "KnotLettersLaw" (162 : Nat) ({ cls := "KnotLettersModel", name := "digest", desc := "()J" } : Jvm.MethodName)) ∈ lw_all := lw_g (lw_at lw_m10 121 rfl) rfl

/-! KnotLetters -/
set_option maxRecDepth 100000
def RX1 : String := "KnotLetters"
def TX1 : u_T := fun k => match k with
  | 0 => ("KnotLetters", "letters", "[LKnotLetters$Letter;", true)
  | 1 => ("KnotLetters", "feel", "LKnotLetters$Feel;", true)
  | 2 => ("KnotLetters", "cords", "Ljava/util/ArrayList;", true)
  | 3 => ("KnotLetters", "tape", "[B", true)
  | 4 => ("KnotLetters", "taped", "I", false)
  | 5 => ("KnotLetters", "slip", "I", false)
  | 6 => ("KnotLetters", "skip", "I", false)
  | 7 => ("KnotLetters", "tied", "I", false)
  | 8 => ("KnotLetters", "slipped", "I", false)
  | 9 => ("KnotLetters", "skipped", "I", false)
  | _ => ("KnotLetters", "paper", "Ljava/lang/StringBuilder;", true)
def tyX1 : Nat → FieldType := fun k => match k with
  | 0 => .array (.object "KnotLetters$Letter")
  | 1 => .object "KnotLetters$Feel"
  | 2 => .object "java/util/ArrayList"
  | 3 => .array .byte
  | 4 => .int
  | 5 => .int
  | 6 => .int
  | 7 => .int
  | 8 => .int
  | 9 => .int
  | _ => .object "java/lang/StringBuilder"
abbrev wsX10 : List Cond := u_ws RX1 TX1 11
theorem nmX1 : ∀ a, a < 11 → ∀ b, b < 11 → a ≠ b → (TX1 a).2.1 ≠ (TX1 b).2.1 := by decide +kernel
theorem tyX1_ok : ∀ k, k < 11 → parseFieldDescriptor (TX1 k).2.2.1 = some (tyX1 k) := by decide +kernel
abbrev cX1_init : ByteArray := prog_1_method_5_code
def yX1_init : MethodName := ⟨RX1, "<init>", "()V"⟩
def dkwX1_init_3 : List UInt8 := [183, 0, 53, 83, 132, 1, 1, 167, 255, 233, 177]
abbrev dktX1_init_3 : List UInt8 := dkwX1_init_3 ++ []
def dkwX1_init_2 : List UInt8 := [183, 0, 48, 181, 0, 49, 3, 60, 27, 16, 12, 162, 0, 23, 42, 180, 0, 24, 27, 187, 0, 22, 89, 27]
abbrev dktX1_init_2 : List UInt8 := dkwX1_init_2 ++ dktX1_init_3
def dkwX1_init_1 : List UInt8 := [42, 187, 0, 35, 89, 183, 0, 37, 181, 0, 38, 42, 16, 80, 188, 8, 181, 0, 42, 42, 187, 0, 46, 89]
abbrev dktX1_init_1 : List UInt8 := dkwX1_init_1 ++ dktX1_init_2
def dkwX1_init_0 : List UInt8 := [42, 183, 0, 19, 42, 16, 12, 189, 0, 22, 181, 0, 24, 42, 187, 0, 28, 89, 183, 0, 30, 181, 0, 31]
abbrev dktX1_init_0 : List UInt8 := dkwX1_init_0 ++ dktX1_init_1
theorem dksX1_init_0 : cX1_init.data.toList.drop 0 = dktX1_init_0 := by decide +kernel
theorem dksX1_init_1 : cX1_init.data.toList.drop 24 = dktX1_init_1 := dk_seg dksX1_init_0 24 rfl rfl
theorem dksX1_init_2 : cX1_init.data.toList.drop 48 = dktX1_init_2 := dk_seg dksX1_init_1 24 rfl rfl
theorem dksX1_init_3 : cX1_init.data.toList.drop 72 = dktX1_init_3 := dk_seg dksX1_init_2 24 rfl rfl
theorem dX1_init_0 : decode cX1_init 0 = .ok (.aload_n 0, 1) := dk_42 (dk_at dksX1_init_0 0 rfl rfl)
theorem dX1_init_1 : decode cX1_init 1 = .ok (.invokespecial 19, 3) := dk_183 0 19 (dk_at dksX1_init_0 1 rfl rfl)
theorem dX1_init_4 : decode cX1_init 4 = .ok (.aload_n 0, 1) := dk_42 (dk_at dksX1_init_0 4 rfl rfl)
theorem dX1_init_5 : decode cX1_init 5 = .ok (.bipush 12, 2) := dk_16 12 (dk_at dksX1_init_0 5 rfl rfl)
theorem dX1_init_7 : decode cX1_init 7 = .ok (.anewarray 22, 3) := dk_189 0 22 (dk_at dksX1_init_0 7 rfl rfl)
theorem dX1_init_10 : decode cX1_init 10 = .ok (.putfield 24, 3) := dk_181 0 24 (dk_at dksX1_init_0 10 rfl rfl)
theorem dX1_init_13 : decode cX1_init 13 = .ok (.aload_n 0, 1) := dk_42 (dk_at dksX1_init_0 13 rfl rfl)
theorem dX1_init_14 : decode cX1_init 14 = .ok (.new 28, 3) := dk_187 0 28 (dk_at dksX1_init_0 14 rfl rfl)
theorem dX1_init_17 : decode cX1_init 17 = .ok (.dup, 1) := dk_89 (dk_at dksX1_init_0 17 rfl rfl)
theorem dX1_init_18 : decode cX1_init 18 = .ok (.invokespecial 30, 3) := dk_183 0 30 (dk_at dksX1_init_0 18 rfl rfl)
theorem dX1_init_21 : decode cX1_init 21 = .ok (.putfield 31, 3) := dk_181 0 31 (dk_at dksX1_init_0 21 rfl rfl)
theorem dX1_init_24 : decode cX1_init 24 = .ok (.aload_n 0, 1) := dk_42 (dk_at dksX1_init_1 0 rfl rfl)
theorem dX1_init_25 : decode cX1_init 25 = .ok (.new 35, 3) := dk_187 0 35 (dk_at dksX1_init_1 1 rfl rfl)
theorem dX1_init_28 : decode cX1_init 28 = .ok (.dup, 1) := dk_89 (dk_at dksX1_init_1 4 rfl rfl)
theorem dX1_init_29 : decode cX1_init 29 = .ok (.invokespecial 37, 3) := dk_183 0 37 (dk_at dksX1_init_1 5 rfl rfl)
theorem dX1_init_32 : decode cX1_init 32 = .ok (.putfield 38, 3) := dk_181 0 38 (dk_at dksX1_init_1 8 rfl rfl)
theorem dX1_init_35 : decode cX1_init 35 = .ok (.aload_n 0, 1) := dk_42 (dk_at dksX1_init_1 11 rfl rfl)
theorem dX1_init_36 : decode cX1_init 36 = .ok (.bipush 80, 2) := dk_16 80 (dk_at dksX1_init_1 12 rfl rfl)
theorem dX1_init_38 : decode cX1_init 38 = .ok (.newarray .byte, 2) := dk_188_8 (dk_at dksX1_init_1 14 rfl rfl)
theorem dX1_init_40 : decode cX1_init 40 = .ok (.putfield 42, 3) := dk_181 0 42 (dk_at dksX1_init_1 16 rfl rfl)
theorem dX1_init_43 : decode cX1_init 43 = .ok (.aload_n 0, 1) := dk_42 (dk_at dksX1_init_1 19 rfl rfl)
theorem dX1_init_44 : decode cX1_init 44 = .ok (.new 46, 3) := dk_187 0 46 (dk_at dksX1_init_1 20 rfl rfl)
theorem dX1_init_47 : decode cX1_init 47 = .ok (.dup, 1) := dk_89 (dk_at dksX1_init_1 23 rfl rfl)
theorem dX1_init_48 : decode cX1_init 48 = .ok (.invokespecial 48, 3) := dk_183 0 48 (dk_at dksX1_init_2 0 rfl rfl)
theorem dX1_init_51 : decode cX1_init 51 = .ok (.putfield 49, 3) := dk_181 0 49 (dk_at dksX1_init_2 3 rfl rfl)
theorem dX1_init_54 : decode cX1_init 54 = .ok (.iconst 0, 1) := dk_3 (dk_at dksX1_init_2 6 rfl rfl)
theorem dX1_init_55 : decode cX1_init 55 = .ok (.istore_n 1, 1) := dk_60 (dk_at dksX1_init_2 7 rfl rfl)
theorem dX1_init_56 : decode cX1_init 56 = .ok (.iload_n 1, 1) := dk_27 (dk_at dksX1_init_2 8 rfl rfl)
theorem dX1_init_57 : decode cX1_init 57 = .ok (.bipush 12, 2) := dk_16 12 (dk_at dksX1_init_2 9 rfl rfl)
theorem dX1_init_59 : decode cX1_init 59 = .ok (.if_icmp .ge 23, 3) := dk_162 0 23 (dk_at dksX1_init_2 11 rfl rfl)
theorem dX1_init_62 : decode cX1_init 62 = .ok (.aload_n 0, 1) := dk_42 (dk_at dksX1_init_2 14 rfl rfl)
theorem dX1_init_63 : decode cX1_init 63 = .ok (.getfield 24, 3) := dk_180 0 24 (dk_at dksX1_init_2 15 rfl rfl)
theorem dX1_init_66 : decode cX1_init 66 = .ok (.iload_n 1, 1) := dk_27 (dk_at dksX1_init_2 18 rfl rfl)
theorem dX1_init_67 : decode cX1_init 67 = .ok (.new 22, 3) := dk_187 0 22 (dk_at dksX1_init_2 19 rfl rfl)
theorem dX1_init_70 : decode cX1_init 70 = .ok (.dup, 1) := dk_89 (dk_at dksX1_init_2 22 rfl rfl)
theorem dX1_init_71 : decode cX1_init 71 = .ok (.iload_n 1, 1) := dk_27 (dk_at dksX1_init_2 23 rfl rfl)
theorem dX1_init_72 : decode cX1_init 72 = .ok (.invokespecial 53, 3) := dk_183 0 53 (dk_at dksX1_init_3 0 rfl rfl)
theorem dX1_init_75 : decode cX1_init 75 = .ok (.aastore, 1) := dk_83 (dk_at dksX1_init_3 3 rfl rfl)
theorem dX1_init_76 : decode cX1_init 76 = .ok (.iinc 1 1, 3) := dk_132 1 1 (dk_at dksX1_init_3 4 rfl rfl)
theorem dX1_init_79 : decode cX1_init 79 = .ok (.goto (-23), 3) := dk_167 255 233 (dk_at dksX1_init_3 7 rfl rfl)
theorem dX1_init_82 : decode cX1_init 82 = .ok (.return_, 1) := dk_177 (dk_at dksX1_init_3 10 rfl rfl)
abbrev cX1_isFree : ByteArray := prog_1_method_8_code
def yX1_isFree : MethodName := ⟨RX1, "isFree", "()Z"⟩
def dkwX1_isFree_4 : List UInt8 := [132, 3, 1, 167, 255, 168, 4, 172]
abbrev dktX1_isFree_4 : List UInt8 := dkwX1_isFree_4 ++ []
def dkwX1_isFree_3 : List UInt8 := [25, 4, 180, 0, 66, 25, 8, 180, 0, 66, 182, 0, 82, 153, 0, 5, 3, 172, 132, 7, 1, 167, 255, 198]
abbrev dktX1_isFree_3 : List UInt8 := dkwX1_isFree_3 ++ dktX1_isFree_4
def dkwX1_isFree_2 : List UInt8 := [25, 4, 25, 8, 165, 0, 37, 25, 4, 182, 0, 78, 153, 0, 29, 25, 8, 182, 0, 78, 153, 0, 21]
abbrev dktX1_isFree_2 : List UInt8 := dkwX1_isFree_2 ++ dktX1_isFree_3
def dkwX1_isFree_1 : List UInt8 := [58, 5, 25, 5, 190, 54, 6, 3, 54, 7, 21, 7, 21, 6, 162, 0, 57, 25, 5, 21, 7, 50, 58, 8]
abbrev dktX1_isFree_1 : List UInt8 := dkwX1_isFree_1 ++ dktX1_isFree_2
def dkwX1_isFree_0 : List UInt8 := [42, 180, 0, 24, 76, 43, 190, 61, 3, 62, 29, 28, 162, 0, 89, 43, 29, 50, 58, 4, 42, 180, 0, 24]
abbrev dktX1_isFree_0 : List UInt8 := dkwX1_isFree_0 ++ dktX1_isFree_1
theorem dksX1_isFree_0 : cX1_isFree.data.toList.drop 0 = dktX1_isFree_0 := by decide +kernel
theorem dksX1_isFree_1 : cX1_isFree.data.toList.drop 24 = dktX1_isFree_1 := dk_seg dksX1_isFree_0 24 rfl rfl
theorem dksX1_isFree_2 : cX1_isFree.data.toList.drop 48 = dktX1_isFree_2 := dk_seg dksX1_isFree_1 24 rfl rfl
theorem dksX1_isFree_3 : cX1_isFree.data.toList.drop 71 = dktX1_isFree_3 := dk_seg dksX1_isFree_2 23 rfl rfl
theorem dksX1_isFree_4 : cX1_isFree.data.toList.drop 95 = dktX1_isFree_4 := dk_seg dksX1_isFree_3 24 rfl rfl
theorem dX1_isFree_0 : decode cX1_isFree 0 = .ok (.aload_n 0, 1) := dk_42 (dk_at dksX1_isFree_0 0 rfl rfl)
theorem dX1_isFree_1 : decode cX1_isFree 1 = .ok (.getfield 24, 3) := dk_180 0 24 (dk_at dksX1_isFree_0 1 rfl rfl)
theorem dX1_isFree_4 : decode cX1_isFree 4 = .ok (.astore_n 1, 1) := dk_76 (dk_at dksX1_isFree_0 4 rfl rfl)
theorem dX1_isFree_5 : decode cX1_isFree 5 = .ok (.aload_n 1, 1) := dk_43 (dk_at dksX1_isFree_0 5 rfl rfl)
theorem dX1_isFree_6 : decode cX1_isFree 6 = .ok (.arraylength, 1) := dk_190 (dk_at dksX1_isFree_0 6 rfl rfl)
theorem dX1_isFree_7 : decode cX1_isFree 7 = .ok (.istore_n 2, 1) := dk_61 (dk_at dksX1_isFree_0 7 rfl rfl)
theorem dX1_isFree_8 : decode cX1_isFree 8 = .ok (.iconst 0, 1) := dk_3 (dk_at dksX1_isFree_0 8 rfl rfl)
theorem dX1_isFree_9 : decode cX1_isFree 9 = .ok (.istore_n 3, 1) := dk_62 (dk_at dksX1_isFree_0 9 rfl rfl)
theorem dX1_isFree_10 : decode cX1_isFree 10 = .ok (.iload_n 3, 1) := dk_29 (dk_at dksX1_isFree_0 10 rfl rfl)
theorem dX1_isFree_11 : decode cX1_isFree 11 = .ok (.iload_n 2, 1) := dk_28 (dk_at dksX1_isFree_0 11 rfl rfl)
theorem dX1_isFree_12 : decode cX1_isFree 12 = .ok (.if_icmp .ge 89, 3) := dk_162 0 89 (dk_at dksX1_isFree_0 12 rfl rfl)
theorem dX1_isFree_15 : decode cX1_isFree 15 = .ok (.aload_n 1, 1) := dk_43 (dk_at dksX1_isFree_0 15 rfl rfl)
theorem dX1_isFree_16 : decode cX1_isFree 16 = .ok (.iload_n 3, 1) := dk_29 (dk_at dksX1_isFree_0 16 rfl rfl)
theorem dX1_isFree_17 : decode cX1_isFree 17 = .ok (.aaload, 1) := dk_50 (dk_at dksX1_isFree_0 17 rfl rfl)
theorem dX1_isFree_18 : decode cX1_isFree 18 = .ok (.astore 4, 2) := dk_58 4 (dk_at dksX1_isFree_0 18 rfl rfl)
theorem dX1_isFree_20 : decode cX1_isFree 20 = .ok (.aload_n 0, 1) := dk_42 (dk_at dksX1_isFree_0 20 rfl rfl)
theorem dX1_isFree_21 : decode cX1_isFree 21 = .ok (.getfield 24, 3) := dk_180 0 24 (dk_at dksX1_isFree_0 21 rfl rfl)
theorem dX1_isFree_24 : decode cX1_isFree 24 = .ok (.astore 5, 2) := dk_58 5 (dk_at dksX1_isFree_1 0 rfl rfl)
theorem dX1_isFree_26 : decode cX1_isFree 26 = .ok (.aload 5, 2) := dk_25 5 (dk_at dksX1_isFree_1 2 rfl rfl)
theorem dX1_isFree_28 : decode cX1_isFree 28 = .ok (.arraylength, 1) := dk_190 (dk_at dksX1_isFree_1 4 rfl rfl)
theorem dX1_isFree_29 : decode cX1_isFree 29 = .ok (.istore 6, 2) := dk_54 6 (dk_at dksX1_isFree_1 5 rfl rfl)
theorem dX1_isFree_31 : decode cX1_isFree 31 = .ok (.iconst 0, 1) := dk_3 (dk_at dksX1_isFree_1 7 rfl rfl)
theorem dX1_isFree_32 : decode cX1_isFree 32 = .ok (.istore 7, 2) := dk_54 7 (dk_at dksX1_isFree_1 8 rfl rfl)
theorem dX1_isFree_34 : decode cX1_isFree 34 = .ok (.iload 7, 2) := dk_21 7 (dk_at dksX1_isFree_1 10 rfl rfl)
theorem dX1_isFree_36 : decode cX1_isFree 36 = .ok (.iload 6, 2) := dk_21 6 (dk_at dksX1_isFree_1 12 rfl rfl)
theorem dX1_isFree_38 : decode cX1_isFree 38 = .ok (.if_icmp .ge 57, 3) := dk_162 0 57 (dk_at dksX1_isFree_1 14 rfl rfl)
theorem dX1_isFree_41 : decode cX1_isFree 41 = .ok (.aload 5, 2) := dk_25 5 (dk_at dksX1_isFree_1 17 rfl rfl)
theorem dX1_isFree_43 : decode cX1_isFree 43 = .ok (.iload 7, 2) := dk_21 7 (dk_at dksX1_isFree_1 19 rfl rfl)
theorem dX1_isFree_45 : decode cX1_isFree 45 = .ok (.aaload, 1) := dk_50 (dk_at dksX1_isFree_1 21 rfl rfl)
theorem dX1_isFree_46 : decode cX1_isFree 46 = .ok (.astore 8, 2) := dk_58 8 (dk_at dksX1_isFree_1 22 rfl rfl)
theorem dX1_isFree_48 : decode cX1_isFree 48 = .ok (.aload 4, 2) := dk_25 4 (dk_at dksX1_isFree_2 0 rfl rfl)
theorem dX1_isFree_50 : decode cX1_isFree 50 = .ok (.aload 8, 2) := dk_25 8 (dk_at dksX1_isFree_2 2 rfl rfl)
theorem dX1_isFree_52 : decode cX1_isFree 52 = .ok (.if_acmp .eq 37, 3) := dk_165 0 37 (dk_at dksX1_isFree_2 4 rfl rfl)
theorem dX1_isFree_55 : decode cX1_isFree 55 = .ok (.aload 4, 2) := dk_25 4 (dk_at dksX1_isFree_2 7 rfl rfl)
theorem dX1_isFree_57 : decode cX1_isFree 57 = .ok (.invokevirtual 78, 3) := dk_182 0 78 (dk_at dksX1_isFree_2 9 rfl rfl)
theorem dX1_isFree_60 : decode cX1_isFree 60 = .ok (.ifCond .eq 29, 3) := dk_153 0 29 (dk_at dksX1_isFree_2 12 rfl rfl)
theorem dX1_isFree_63 : decode cX1_isFree 63 = .ok (.aload 8, 2) := dk_25 8 (dk_at dksX1_isFree_2 15 rfl rfl)
theorem dX1_isFree_65 : decode cX1_isFree 65 = .ok (.invokevirtual 78, 3) := dk_182 0 78 (dk_at dksX1_isFree_2 17 rfl rfl)
theorem dX1_isFree_68 : decode cX1_isFree 68 = .ok (.ifCond .eq 21, 3) := dk_153 0 21 (dk_at dksX1_isFree_2 20 rfl rfl)
theorem dX1_isFree_71 : decode cX1_isFree 71 = .ok (.aload 4, 2) := dk_25 4 (dk_at dksX1_isFree_3 0 rfl rfl)
theorem dX1_isFree_73 : decode cX1_isFree 73 = .ok (.getfield 66, 3) := dk_180 0 66 (dk_at dksX1_isFree_3 2 rfl rfl)
theorem dX1_isFree_76 : decode cX1_isFree 76 = .ok (.aload 8, 2) := dk_25 8 (dk_at dksX1_isFree_3 5 rfl rfl)
theorem dX1_isFree_78 : decode cX1_isFree 78 = .ok (.getfield 66, 3) := dk_180 0 66 (dk_at dksX1_isFree_3 7 rfl rfl)
theorem dX1_isFree_81 : decode cX1_isFree 81 = .ok (.invokevirtual 82, 3) := dk_182 0 82 (dk_at dksX1_isFree_3 10 rfl rfl)
theorem dX1_isFree_84 : decode cX1_isFree 84 = .ok (.ifCond .eq 5, 3) := dk_153 0 5 (dk_at dksX1_isFree_3 13 rfl rfl)
theorem dX1_isFree_87 : decode cX1_isFree 87 = .ok (.iconst 0, 1) := dk_3 (dk_at dksX1_isFree_3 16 rfl rfl)
theorem dX1_isFree_88 : decode cX1_isFree 88 = .ok (.ireturn, 1) := dk_172 (dk_at dksX1_isFree_3 17 rfl rfl)
theorem dX1_isFree_89 : decode cX1_isFree 89 = .ok (.iinc 7 1, 3) := dk_132 7 1 (dk_at dksX1_isFree_3 18 rfl rfl)
theorem dX1_isFree_92 : decode cX1_isFree 92 = .ok (.goto (-58), 3) := dk_167 255 198 (dk_at dksX1_isFree_3 21 rfl rfl)
theorem dX1_isFree_95 : decode cX1_isFree 95 = .ok (.iinc 3 1, 3) := dk_132 3 1 (dk_at dksX1_isFree_4 0 rfl rfl)
theorem dX1_isFree_98 : decode cX1_isFree 98 = .ok (.goto (-88), 3) := dk_167 255 168 (dk_at dksX1_isFree_4 3 rfl rfl)
theorem dX1_isFree_101 : decode cX1_isFree 101 = .ok (.iconst 1, 1) := dk_4 (dk_at dksX1_isFree_4 6 rfl rfl)
theorem dX1_isFree_102 : decode cX1_isFree 102 = .ok (.ireturn, 1) := dk_172 (dk_at dksX1_isFree_4 7 rfl rfl)
abbrev cX1_isClear : ByteArray := prog_1_method_10_code
def yX1_isClear : MethodName := ⟨RX1, "isClear", "()Z"⟩
def dkwX1_isClear_11 : List UInt8 := [18, 133, 182, 0, 135, 154, 0, 7, 4, 167, 0, 4, 3, 172]
abbrev dktX1_isClear_11 : List UInt8 := dkwX1_isClear_11 ++ []
def dkwX1_isClear_10 : List UInt8 := [45, 25, 5, 184, 0, 138, 45, 44, 25, 5, 184, 0, 138, 45, 25, 5, 182, 0, 142, 87, 167, 255, 202, 45]
abbrev dktX1_isClear_10 : List UInt8 := dkwX1_isClear_10 ++ dktX1_isClear_11
def dkwX1_isClear_9 : List UInt8 := [18, 133, 182, 0, 135, 154, 0, 42, 45, 182, 0, 130, 54, 4, 187, 0, 115, 89, 183, 0, 120, 58, 5, 44]
abbrev dktX1_isClear_9 : List UInt8 := dkwX1_isClear_9 ++ dktX1_isClear_10
def dkwX1_isClear_8 : List UInt8 := [182, 0, 114, 87, 167, 255, 199, 167, 255, 168, 2, 54, 4, 21, 4, 45, 182, 0, 130, 159, 0, 51, 45]
abbrev dktX1_isClear_8 : List UInt8 := dkwX1_isClear_8 ++ dktX1_isClear_9
def dkwX1_isClear_7 : List UInt8 := [154, 0, 28, 25, 5, 25, 7, 182, 0, 103, 153, 0, 18, 45, 25, 5, 25, 7, 182, 0, 107, 182, 0, 110]
abbrev dktX1_isClear_7 : List UInt8 := dkwX1_isClear_7 ++ dktX1_isClear_8
def dkwX1_isClear_6 : List UInt8 := [153, 0, 53, 25, 6, 185, 0, 97, 1, 0, 192, 0, 101, 58, 7, 25, 5, 25, 7, 182, 0, 127]
abbrev dktX1_isClear_6 : List UInt8 := dkwX1_isClear_6 ++ dktX1_isClear_7
def dkwX1_isClear_5 : List UInt8 := [185, 0, 97, 1, 0, 192, 0, 101, 58, 5, 44, 182, 0, 126, 58, 6, 25, 6, 185, 0, 92, 1, 0]
abbrev dktX1_isClear_5 : List UInt8 := dkwX1_isClear_5 ++ dktX1_isClear_6
def dkwX1_isClear_4 : List UInt8 := [183, 0, 120, 78, 44, 182, 0, 126, 58, 4, 25, 4, 185, 0, 92, 1, 0, 153, 0, 84, 25, 4]
abbrev dktX1_isClear_4 : List UInt8 := dkwX1_isClear_4 ++ dktX1_isClear_5
def dkwX1_isClear_3 : List UInt8 := [25, 6, 180, 0, 66, 182, 0, 121, 182, 0, 125, 87, 132, 5, 1, 167, 255, 199, 187, 0, 115, 89]
abbrev dktX1_isClear_3 : List UInt8 := dkwX1_isClear_3 ++ dktX1_isClear_4
def dkwX1_isClear_2 : List UInt8 := [154, 0, 6, 167, 0, 33, 43, 25, 6, 180, 0, 66, 182, 0, 121, 182, 0, 114, 154, 0, 5, 3, 172, 44]
abbrev dktX1_isClear_2 : List UInt8 := dkwX1_isClear_2 ++ dktX1_isClear_3
def dkwX1_isClear_1 : List UInt8 := [54, 4, 3, 54, 5, 21, 5, 21, 4, 162, 0, 56, 45, 21, 5, 50, 58, 6, 25, 6, 182, 0, 78]
abbrev dktX1_isClear_1 : List UInt8 := dkwX1_isClear_1 ++ dktX1_isClear_2
def dkwX1_isClear_0 : List UInt8 := [187, 0, 115, 89, 183, 0, 120, 76, 187, 0, 35, 89, 183, 0, 37, 77, 42, 180, 0, 24, 78, 45, 190]
abbrev dktX1_isClear_0 : List UInt8 := dkwX1_isClear_0 ++ dktX1_isClear_1
theorem dksX1_isClear_0 : cX1_isClear.data.toList.drop 0 = dktX1_isClear_0 := by decide +kernel
theorem dksX1_isClear_1 : cX1_isClear.data.toList.drop 23 = dktX1_isClear_1 := dk_seg dksX1_isClear_0 23 rfl rfl
theorem dksX1_isClear_2 : cX1_isClear.data.toList.drop 46 = dktX1_isClear_2 := dk_seg dksX1_isClear_1 23 rfl rfl
theorem dksX1_isClear_3 : cX1_isClear.data.toList.drop 70 = dktX1_isClear_3 := dk_seg dksX1_isClear_2 24 rfl rfl
theorem dksX1_isClear_4 : cX1_isClear.data.toList.drop 92 = dktX1_isClear_4 := dk_seg dksX1_isClear_3 22 rfl rfl
theorem dksX1_isClear_5 : cX1_isClear.data.toList.drop 114 = dktX1_isClear_5 := dk_seg dksX1_isClear_4 22 rfl rfl
theorem dksX1_isClear_6 : cX1_isClear.data.toList.drop 137 = dktX1_isClear_6 := dk_seg dksX1_isClear_5 23 rfl rfl
theorem dksX1_isClear_7 : cX1_isClear.data.toList.drop 159 = dktX1_isClear_7 := dk_seg dksX1_isClear_6 22 rfl rfl
theorem dksX1_isClear_8 : cX1_isClear.data.toList.drop 183 = dktX1_isClear_8 := dk_seg dksX1_isClear_7 24 rfl rfl
theorem dksX1_isClear_9 : cX1_isClear.data.toList.drop 206 = dktX1_isClear_9 := dk_seg dksX1_isClear_8 23 rfl rfl
theorem dksX1_isClear_10 : cX1_isClear.data.toList.drop 230 = dktX1_isClear_10 := dk_seg dksX1_isClear_9 24 rfl rfl
theorem dksX1_isClear_11 : cX1_isClear.data.toList.drop 254 = dktX1_isClear_11 := dk_seg dksX1_isClear_10 24 rfl rfl
theorem dX1_isClear_0 : decode cX1_isClear 0 = .ok (.new 115, 3) := dk_187 0 115 (dk_at dksX1_isClear_0 0 rfl rfl)
theorem dX1_isClear_3 : decode cX1_isClear 3 = .ok (.dup, 1) := dk_89 (dk_at dksX1_isClear_0 3 rfl rfl)
theorem dX1_isClear_4 : decode cX1_isClear 4 = .ok (.invokespecial 120, 3) := dk_183 0 120 (dk_at dksX1_isClear_0 4 rfl rfl)
theorem dX1_isClear_7 : decode cX1_isClear 7 = .ok (.astore_n 1, 1) := dk_76 (dk_at dksX1_isClear_0 7 rfl rfl)
theorem dX1_isClear_8 : decode cX1_isClear 8 = .ok (.new 35, 3) := dk_187 0 35 (dk_at dksX1_isClear_0 8 rfl rfl)
theorem dX1_isClear_11 : decode cX1_isClear 11 = .ok (.dup, 1) := dk_89 (dk_at dksX1_isClear_0 11 rfl rfl)
theorem dX1_isClear_12 : decode cX1_isClear 12 = .ok (.invokespecial 37, 3) := dk_183 0 37 (dk_at dksX1_isClear_0 12 rfl rfl)
theorem dX1_isClear_15 : decode cX1_isClear 15 = .ok (.astore_n 2, 1) := dk_77 (dk_at dksX1_isClear_0 15 rfl rfl)
theorem dX1_isClear_16 : decode cX1_isClear 16 = .ok (.aload_n 0, 1) := dk_42 (dk_at dksX1_isClear_0 16 rfl rfl)
theorem dX1_isClear_17 : decode cX1_isClear 17 = .ok (.getfield 24, 3) := dk_180 0 24 (dk_at dksX1_isClear_0 17 rfl rfl)
theorem dX1_isClear_20 : decode cX1_isClear 20 = .ok (.astore_n 3, 1) := dk_78 (dk_at dksX1_isClear_0 20 rfl rfl)
theorem dX1_isClear_21 : decode cX1_isClear 21 = .ok (.aload_n 3, 1) := dk_45 (dk_at dksX1_isClear_0 21 rfl rfl)
theorem dX1_isClear_22 : decode cX1_isClear 22 = .ok (.arraylength, 1) := dk_190 (dk_at dksX1_isClear_0 22 rfl rfl)
theorem dX1_isClear_23 : decode cX1_isClear 23 = .ok (.istore 4, 2) := dk_54 4 (dk_at dksX1_isClear_1 0 rfl rfl)
theorem dX1_isClear_25 : decode cX1_isClear 25 = .ok (.iconst 0, 1) := dk_3 (dk_at dksX1_isClear_1 2 rfl rfl)
theorem dX1_isClear_26 : decode cX1_isClear 26 = .ok (.istore 5, 2) := dk_54 5 (dk_at dksX1_isClear_1 3 rfl rfl)
theorem dX1_isClear_28 : decode cX1_isClear 28 = .ok (.iload 5, 2) := dk_21 5 (dk_at dksX1_isClear_1 5 rfl rfl)
theorem dX1_isClear_30 : decode cX1_isClear 30 = .ok (.iload 4, 2) := dk_21 4 (dk_at dksX1_isClear_1 7 rfl rfl)
theorem dX1_isClear_32 : decode cX1_isClear 32 = .ok (.if_icmp .ge 56, 3) := dk_162 0 56 (dk_at dksX1_isClear_1 9 rfl rfl)
theorem dX1_isClear_35 : decode cX1_isClear 35 = .ok (.aload_n 3, 1) := dk_45 (dk_at dksX1_isClear_1 12 rfl rfl)
theorem dX1_isClear_36 : decode cX1_isClear 36 = .ok (.iload 5, 2) := dk_21 5 (dk_at dksX1_isClear_1 13 rfl rfl)
theorem dX1_isClear_38 : decode cX1_isClear 38 = .ok (.aaload, 1) := dk_50 (dk_at dksX1_isClear_1 15 rfl rfl)
theorem dX1_isClear_39 : decode cX1_isClear 39 = .ok (.astore 6, 2) := dk_58 6 (dk_at dksX1_isClear_1 16 rfl rfl)
theorem dX1_isClear_41 : decode cX1_isClear 41 = .ok (.aload 6, 2) := dk_25 6 (dk_at dksX1_isClear_1 18 rfl rfl)
theorem dX1_isClear_43 : decode cX1_isClear 43 = .ok (.invokevirtual 78, 3) := dk_182 0 78 (dk_at dksX1_isClear_1 20 rfl rfl)
theorem dX1_isClear_46 : decode cX1_isClear 46 = .ok (.ifCond .ne 6, 3) := dk_154 0 6 (dk_at dksX1_isClear_2 0 rfl rfl)
theorem dX1_isClear_49 : decode cX1_isClear 49 = .ok (.goto 33, 3) := dk_167 0 33 (dk_at dksX1_isClear_2 3 rfl rfl)
theorem dX1_isClear_52 : decode cX1_isClear 52 = .ok (.aload_n 1, 1) := dk_43 (dk_at dksX1_isClear_2 6 rfl rfl)
theorem dX1_isClear_53 : decode cX1_isClear 53 = .ok (.aload 6, 2) := dk_25 6 (dk_at dksX1_isClear_2 7 rfl rfl)
theorem dX1_isClear_55 : decode cX1_isClear 55 = .ok (.getfield 66, 3) := dk_180 0 66 (dk_at dksX1_isClear_2 9 rfl rfl)
theorem dX1_isClear_58 : decode cX1_isClear 58 = .ok (.invokevirtual 121, 3) := dk_182 0 121 (dk_at dksX1_isClear_2 12 rfl rfl)
theorem dX1_isClear_61 : decode cX1_isClear 61 = .ok (.invokevirtual 114, 3) := dk_182 0 114 (dk_at dksX1_isClear_2 15 rfl rfl)
theorem dX1_isClear_64 : decode cX1_isClear 64 = .ok (.ifCond .ne 5, 3) := dk_154 0 5 (dk_at dksX1_isClear_2 18 rfl rfl)
theorem dX1_isClear_67 : decode cX1_isClear 67 = .ok (.iconst 0, 1) := dk_3 (dk_at dksX1_isClear_2 21 rfl rfl)
theorem dX1_isClear_68 : decode cX1_isClear 68 = .ok (.ireturn, 1) := dk_172 (dk_at dksX1_isClear_2 22 rfl rfl)
theorem dX1_isClear_69 : decode cX1_isClear 69 = .ok (.aload_n 2, 1) := dk_44 (dk_at dksX1_isClear_2 23 rfl rfl)
theorem dX1_isClear_70 : decode cX1_isClear 70 = .ok (.aload 6, 2) := dk_25 6 (dk_at dksX1_isClear_3 0 rfl rfl)
theorem dX1_isClear_72 : decode cX1_isClear 72 = .ok (.getfield 66, 3) := dk_180 0 66 (dk_at dksX1_isClear_3 2 rfl rfl)
theorem dX1_isClear_75 : decode cX1_isClear 75 = .ok (.invokevirtual 121, 3) := dk_182 0 121 (dk_at dksX1_isClear_3 5 rfl rfl)
theorem dX1_isClear_78 : decode cX1_isClear 78 = .ok (.invokevirtual 125, 3) := dk_182 0 125 (dk_at dksX1_isClear_3 8 rfl rfl)
theorem dX1_isClear_81 : decode cX1_isClear 81 = .ok (.pop, 1) := dk_87 (dk_at dksX1_isClear_3 11 rfl rfl)
theorem dX1_isClear_82 : decode cX1_isClear 82 = .ok (.iinc 5 1, 3) := dk_132 5 1 (dk_at dksX1_isClear_3 12 rfl rfl)
theorem dX1_isClear_85 : decode cX1_isClear 85 = .ok (.goto (-57), 3) := dk_167 255 199 (dk_at dksX1_isClear_3 15 rfl rfl)
theorem dX1_isClear_88 : decode cX1_isClear 88 = .ok (.new 115, 3) := dk_187 0 115 (dk_at dksX1_isClear_3 18 rfl rfl)
theorem dX1_isClear_91 : decode cX1_isClear 91 = .ok (.dup, 1) := dk_89 (dk_at dksX1_isClear_3 21 rfl rfl)
theorem dX1_isClear_92 : decode cX1_isClear 92 = .ok (.invokespecial 120, 3) := dk_183 0 120 (dk_at dksX1_isClear_4 0 rfl rfl)
theorem dX1_isClear_95 : decode cX1_isClear 95 = .ok (.astore_n 3, 1) := dk_78 (dk_at dksX1_isClear_4 3 rfl rfl)
theorem dX1_isClear_96 : decode cX1_isClear 96 = .ok (.aload_n 2, 1) := dk_44 (dk_at dksX1_isClear_4 4 rfl rfl)
theorem dX1_isClear_97 : decode cX1_isClear 97 = .ok (.invokevirtual 126, 3) := dk_182 0 126 (dk_at dksX1_isClear_4 5 rfl rfl)
theorem dX1_isClear_100 : decode cX1_isClear 100 = .ok (.astore 4, 2) := dk_58 4 (dk_at dksX1_isClear_4 8 rfl rfl)
theorem dX1_isClear_102 : decode cX1_isClear 102 = .ok (.aload 4, 2) := dk_25 4 (dk_at dksX1_isClear_4 10 rfl rfl)
theorem dX1_isClear_104 : decode cX1_isClear 104 = .ok (.invokeinterface 92 1, 5) := by decide +kernel
theorem dX1_isClear_109 : decode cX1_isClear 109 = .ok (.ifCond .eq 84, 3) := dk_153 0 84 (dk_at dksX1_isClear_4 17 rfl rfl)
theorem dX1_isClear_112 : decode cX1_isClear 112 = .ok (.aload 4, 2) := dk_25 4 (dk_at dksX1_isClear_4 20 rfl rfl)
theorem dX1_isClear_114 : decode cX1_isClear 114 = .ok (.invokeinterface 97 1, 5) := by decide +kernel
theorem dX1_isClear_119 : decode cX1_isClear 119 = .ok (.checkcast 101, 3) := dk_192 0 101 (dk_at dksX1_isClear_5 5 rfl rfl)
theorem dX1_isClear_122 : decode cX1_isClear 122 = .ok (.astore 5, 2) := dk_58 5 (dk_at dksX1_isClear_5 8 rfl rfl)
theorem dX1_isClear_124 : decode cX1_isClear 124 = .ok (.aload_n 2, 1) := dk_44 (dk_at dksX1_isClear_5 10 rfl rfl)
theorem dX1_isClear_125 : decode cX1_isClear 125 = .ok (.invokevirtual 126, 3) := dk_182 0 126 (dk_at dksX1_isClear_5 11 rfl rfl)
theorem dX1_isClear_128 : decode cX1_isClear 128 = .ok (.astore 6, 2) := dk_58 6 (dk_at dksX1_isClear_5 14 rfl rfl)
theorem dX1_isClear_130 : decode cX1_isClear 130 = .ok (.aload 6, 2) := dk_25 6 (dk_at dksX1_isClear_5 16 rfl rfl)
theorem dX1_isClear_132 : decode cX1_isClear 132 = .ok (.invokeinterface 92 1, 5) := by decide +kernel
theorem dX1_isClear_137 : decode cX1_isClear 137 = .ok (.ifCond .eq 53, 3) := dk_153 0 53 (dk_at dksX1_isClear_6 0 rfl rfl)
theorem dX1_isClear_140 : decode cX1_isClear 140 = .ok (.aload 6, 2) := dk_25 6 (dk_at dksX1_isClear_6 3 rfl rfl)
theorem dX1_isClear_142 : decode cX1_isClear 142 = .ok (.invokeinterface 97 1, 5) := by decide +kernel
theorem dX1_isClear_147 : decode cX1_isClear 147 = .ok (.checkcast 101, 3) := dk_192 0 101 (dk_at dksX1_isClear_6 10 rfl rfl)
theorem dX1_isClear_150 : decode cX1_isClear 150 = .ok (.astore 7, 2) := dk_58 7 (dk_at dksX1_isClear_6 13 rfl rfl)
theorem dX1_isClear_152 : decode cX1_isClear 152 = .ok (.aload 5, 2) := dk_25 5 (dk_at dksX1_isClear_6 15 rfl rfl)
theorem dX1_isClear_154 : decode cX1_isClear 154 = .ok (.aload 7, 2) := dk_25 7 (dk_at dksX1_isClear_6 17 rfl rfl)
theorem dX1_isClear_156 : decode cX1_isClear 156 = .ok (.invokevirtual 127, 3) := dk_182 0 127 (dk_at dksX1_isClear_6 19 rfl rfl)
theorem dX1_isClear_159 : decode cX1_isClear 159 = .ok (.ifCond .ne 28, 3) := dk_154 0 28 (dk_at dksX1_isClear_7 0 rfl rfl)
theorem dX1_isClear_162 : decode cX1_isClear 162 = .ok (.aload 5, 2) := dk_25 5 (dk_at dksX1_isClear_7 3 rfl rfl)
theorem dX1_isClear_164 : decode cX1_isClear 164 = .ok (.aload 7, 2) := dk_25 7 (dk_at dksX1_isClear_7 5 rfl rfl)
theorem dX1_isClear_166 : decode cX1_isClear 166 = .ok (.invokevirtual 103, 3) := dk_182 0 103 (dk_at dksX1_isClear_7 7 rfl rfl)
theorem dX1_isClear_169 : decode cX1_isClear 169 = .ok (.ifCond .eq 18, 3) := dk_153 0 18 (dk_at dksX1_isClear_7 10 rfl rfl)
theorem dX1_isClear_172 : decode cX1_isClear 172 = .ok (.aload_n 3, 1) := dk_45 (dk_at dksX1_isClear_7 13 rfl rfl)
theorem dX1_isClear_173 : decode cX1_isClear 173 = .ok (.aload 5, 2) := dk_25 5 (dk_at dksX1_isClear_7 14 rfl rfl)
theorem dX1_isClear_175 : decode cX1_isClear 175 = .ok (.aload 7, 2) := dk_25 7 (dk_at dksX1_isClear_7 16 rfl rfl)
theorem dX1_isClear_177 : decode cX1_isClear 177 = .ok (.invokevirtual 107, 3) := dk_182 0 107 (dk_at dksX1_isClear_7 18 rfl rfl)
theorem dX1_isClear_180 : decode cX1_isClear 180 = .ok (.invokevirtual 110, 3) := dk_182 0 110 (dk_at dksX1_isClear_7 21 rfl rfl)
theorem dX1_isClear_183 : decode cX1_isClear 183 = .ok (.invokevirtual 114, 3) := dk_182 0 114 (dk_at dksX1_isClear_8 0 rfl rfl)
theorem dX1_isClear_186 : decode cX1_isClear 186 = .ok (.pop, 1) := dk_87 (dk_at dksX1_isClear_8 3 rfl rfl)
theorem dX1_isClear_187 : decode cX1_isClear 187 = .ok (.goto (-57), 3) := dk_167 255 199 (dk_at dksX1_isClear_8 4 rfl rfl)
theorem dX1_isClear_190 : decode cX1_isClear 190 = .ok (.goto (-88), 3) := dk_167 255 168 (dk_at dksX1_isClear_8 7 rfl rfl)
theorem dX1_isClear_193 : decode cX1_isClear 193 = .ok (.iconst (-1), 1) := dk_2 (dk_at dksX1_isClear_8 10 rfl rfl)
theorem dX1_isClear_194 : decode cX1_isClear 194 = .ok (.istore 4, 2) := dk_54 4 (dk_at dksX1_isClear_8 11 rfl rfl)
theorem dX1_isClear_196 : decode cX1_isClear 196 = .ok (.iload 4, 2) := dk_21 4 (dk_at dksX1_isClear_8 13 rfl rfl)
theorem dX1_isClear_198 : decode cX1_isClear 198 = .ok (.aload_n 3, 1) := dk_45 (dk_at dksX1_isClear_8 15 rfl rfl)
theorem dX1_isClear_199 : decode cX1_isClear 199 = .ok (.invokevirtual 130, 3) := dk_182 0 130 (dk_at dksX1_isClear_8 16 rfl rfl)
theorem dX1_isClear_202 : decode cX1_isClear 202 = .ok (.if_icmp .eq 51, 3) := dk_159 0 51 (dk_at dksX1_isClear_8 19 rfl rfl)
theorem dX1_isClear_205 : decode cX1_isClear 205 = .ok (.aload_n 3, 1) := dk_45 (dk_at dksX1_isClear_8 22 rfl rfl)
theorem dX1_isClear_206 : decode cX1_isClear 206 = .ok (.ldc 133, 2) := dk_18 133 (dk_at dksX1_isClear_9 0 rfl rfl)
theorem dX1_isClear_208 : decode cX1_isClear 208 = .ok (.invokevirtual 135, 3) := dk_182 0 135 (dk_at dksX1_isClear_9 2 rfl rfl)
theorem dX1_isClear_211 : decode cX1_isClear 211 = .ok (.ifCond .ne 42, 3) := dk_154 0 42 (dk_at dksX1_isClear_9 5 rfl rfl)
theorem dX1_isClear_214 : decode cX1_isClear 214 = .ok (.aload_n 3, 1) := dk_45 (dk_at dksX1_isClear_9 8 rfl rfl)
theorem dX1_isClear_215 : decode cX1_isClear 215 = .ok (.invokevirtual 130, 3) := dk_182 0 130 (dk_at dksX1_isClear_9 9 rfl rfl)
theorem dX1_isClear_218 : decode cX1_isClear 218 = .ok (.istore 4, 2) := dk_54 4 (dk_at dksX1_isClear_9 12 rfl rfl)
theorem dX1_isClear_220 : decode cX1_isClear 220 = .ok (.new 115, 3) := dk_187 0 115 (dk_at dksX1_isClear_9 14 rfl rfl)
theorem dX1_isClear_223 : decode cX1_isClear 223 = .ok (.dup, 1) := dk_89 (dk_at dksX1_isClear_9 17 rfl rfl)
theorem dX1_isClear_224 : decode cX1_isClear 224 = .ok (.invokespecial 120, 3) := dk_183 0 120 (dk_at dksX1_isClear_9 18 rfl rfl)
theorem dX1_isClear_227 : decode cX1_isClear 227 = .ok (.astore 5, 2) := dk_58 5 (dk_at dksX1_isClear_9 21 rfl rfl)
theorem dX1_isClear_229 : decode cX1_isClear 229 = .ok (.aload_n 2, 1) := dk_44 (dk_at dksX1_isClear_9 23 rfl rfl)
theorem dX1_isClear_230 : decode cX1_isClear 230 = .ok (.aload_n 3, 1) := dk_45 (dk_at dksX1_isClear_10 0 rfl rfl)
theorem dX1_isClear_231 : decode cX1_isClear 231 = .ok (.aload 5, 2) := dk_25 5 (dk_at dksX1_isClear_10 1 rfl rfl)
theorem dX1_isClear_233 : decode cX1_isClear 233 = .ok (.invokestatic 138, 3) := dk_184 0 138 (dk_at dksX1_isClear_10 3 rfl rfl)
theorem dX1_isClear_236 : decode cX1_isClear 236 = .ok (.aload_n 3, 1) := dk_45 (dk_at dksX1_isClear_10 6 rfl rfl)
theorem dX1_isClear_237 : decode cX1_isClear 237 = .ok (.aload_n 2, 1) := dk_44 (dk_at dksX1_isClear_10 7 rfl rfl)
theorem dX1_isClear_238 : decode cX1_isClear 238 = .ok (.aload 5, 2) := dk_25 5 (dk_at dksX1_isClear_10 8 rfl rfl)
theorem dX1_isClear_240 : decode cX1_isClear 240 = .ok (.invokestatic 138, 3) := dk_184 0 138 (dk_at dksX1_isClear_10 10 rfl rfl)
theorem dX1_isClear_243 : decode cX1_isClear 243 = .ok (.aload_n 3, 1) := dk_45 (dk_at dksX1_isClear_10 13 rfl rfl)
theorem dX1_isClear_244 : decode cX1_isClear 244 = .ok (.aload 5, 2) := dk_25 5 (dk_at dksX1_isClear_10 14 rfl rfl)
theorem dX1_isClear_246 : decode cX1_isClear 246 = .ok (.invokevirtual 142, 3) := dk_182 0 142 (dk_at dksX1_isClear_10 16 rfl rfl)
theorem dX1_isClear_249 : decode cX1_isClear 249 = .ok (.pop, 1) := dk_87 (dk_at dksX1_isClear_10 19 rfl rfl)
theorem dX1_isClear_250 : decode cX1_isClear 250 = .ok (.goto (-54), 3) := dk_167 255 202 (dk_at dksX1_isClear_10 20 rfl rfl)
theorem dX1_isClear_253 : decode cX1_isClear 253 = .ok (.aload_n 3, 1) := dk_45 (dk_at dksX1_isClear_10 23 rfl rfl)
theorem dX1_isClear_254 : decode cX1_isClear 254 = .ok (.ldc 133, 2) := dk_18 133 (dk_at dksX1_isClear_11 0 rfl rfl)
theorem dX1_isClear_256 : decode cX1_isClear 256 = .ok (.invokevirtual 135, 3) := dk_182 0 135 (dk_at dksX1_isClear_11 2 rfl rfl)
theorem dX1_isClear_259 : decode cX1_isClear 259 = .ok (.ifCond .ne 7, 3) := dk_154 0 7 (dk_at dksX1_isClear_11 5 rfl rfl)
theorem dX1_isClear_262 : decode cX1_isClear 262 = .ok (.iconst 1, 1) := dk_4 (dk_at dksX1_isClear_11 8 rfl rfl)
theorem dX1_isClear_263 : decode cX1_isClear 263 = .ok (.goto 4, 3) := dk_167 0 4 (dk_at dksX1_isClear_11 9 rfl rfl)
theorem dX1_isClear_266 : decode cX1_isClear 266 = .ok (.iconst 0, 1) := dk_3 (dk_at dksX1_isClear_11 12 rfl rfl)
theorem dX1_isClear_267 : decode cX1_isClear 267 = .ok (.ireturn, 1) := dk_172 (dk_at dksX1_isClear_11 13 rfl rfl)
abbrev cX1_leave : ByteArray := prog_1_method_9_code
def yX1_leave : MethodName := ⟨RX1, "leave", "(Ljava/lang/Iterable;Ljava/lang/Iterable;Ljava/util/TreeSet;)V"⟩
def dkwX1_leave_3 : List UInt8 := [25, 4, 25, 6, 182, 0, 107, 182, 0, 110, 182, 0, 114, 87, 167, 255, 209, 167, 255, 178, 177]
abbrev dktX1_leave_3 : List UInt8 := dkwX1_leave_3 ++ []
def dkwX1_leave_2 : List UInt8 := [25, 5, 185, 0, 97, 1, 0, 192, 0, 101, 58, 6, 25, 4, 25, 6, 182, 0, 103, 153, 0, 18, 44]
abbrev dktX1_leave_2 : List UInt8 := dkwX1_leave_2 ++ dktX1_leave_3
def dkwX1_leave_1 : List UInt8 := [192, 0, 101, 58, 4, 43, 185, 0, 86, 1, 0, 58, 5, 25, 5, 185, 0, 92, 1, 0, 153, 0, 43]
abbrev dktX1_leave_1 : List UInt8 := dkwX1_leave_1 ++ dktX1_leave_2
def dkwX1_leave_0 : List UInt8 := [42, 185, 0, 86, 1, 0, 78, 45, 185, 0, 92, 1, 0, 153, 0, 75, 45, 185, 0, 97, 1, 0]
abbrev dktX1_leave_0 : List UInt8 := dkwX1_leave_0 ++ dktX1_leave_1
theorem dksX1_leave_0 : cX1_leave.data.toList.drop 0 = dktX1_leave_0 := by decide +kernel
theorem dksX1_leave_1 : cX1_leave.data.toList.drop 22 = dktX1_leave_1 := dk_seg dksX1_leave_0 22 rfl rfl
theorem dksX1_leave_2 : cX1_leave.data.toList.drop 45 = dktX1_leave_2 := dk_seg dksX1_leave_1 23 rfl rfl
theorem dksX1_leave_3 : cX1_leave.data.toList.drop 68 = dktX1_leave_3 := dk_seg dksX1_leave_2 23 rfl rfl
theorem dX1_leave_0 : decode cX1_leave 0 = .ok (.aload_n 0, 1) := dk_42 (dk_at dksX1_leave_0 0 rfl rfl)
theorem dX1_leave_1 : decode cX1_leave 1 = .ok (.invokeinterface 86 1, 5) := by decide +kernel
theorem dX1_leave_6 : decode cX1_leave 6 = .ok (.astore_n 3, 1) := dk_78 (dk_at dksX1_leave_0 6 rfl rfl)
theorem dX1_leave_7 : decode cX1_leave 7 = .ok (.aload_n 3, 1) := dk_45 (dk_at dksX1_leave_0 7 rfl rfl)
theorem dX1_leave_8 : decode cX1_leave 8 = .ok (.invokeinterface 92 1, 5) := by decide +kernel
theorem dX1_leave_13 : decode cX1_leave 13 = .ok (.ifCond .eq 75, 3) := dk_153 0 75 (dk_at dksX1_leave_0 13 rfl rfl)
theorem dX1_leave_16 : decode cX1_leave 16 = .ok (.aload_n 3, 1) := dk_45 (dk_at dksX1_leave_0 16 rfl rfl)
theorem dX1_leave_17 : decode cX1_leave 17 = .ok (.invokeinterface 97 1, 5) := by decide +kernel
theorem dX1_leave_22 : decode cX1_leave 22 = .ok (.checkcast 101, 3) := dk_192 0 101 (dk_at dksX1_leave_1 0 rfl rfl)
theorem dX1_leave_25 : decode cX1_leave 25 = .ok (.astore 4, 2) := dk_58 4 (dk_at dksX1_leave_1 3 rfl rfl)
theorem dX1_leave_27 : decode cX1_leave 27 = .ok (.aload_n 1, 1) := dk_43 (dk_at dksX1_leave_1 5 rfl rfl)
theorem dX1_leave_28 : decode cX1_leave 28 = .ok (.invokeinterface 86 1, 5) := by decide +kernel
theorem dX1_leave_33 : decode cX1_leave 33 = .ok (.astore 5, 2) := dk_58 5 (dk_at dksX1_leave_1 11 rfl rfl)
theorem dX1_leave_35 : decode cX1_leave 35 = .ok (.aload 5, 2) := dk_25 5 (dk_at dksX1_leave_1 13 rfl rfl)
theorem dX1_leave_37 : decode cX1_leave 37 = .ok (.invokeinterface 92 1, 5) := by decide +kernel
theorem dX1_leave_42 : decode cX1_leave 42 = .ok (.ifCond .eq 43, 3) := dk_153 0 43 (dk_at dksX1_leave_1 20 rfl rfl)
theorem dX1_leave_45 : decode cX1_leave 45 = .ok (.aload 5, 2) := dk_25 5 (dk_at dksX1_leave_2 0 rfl rfl)
theorem dX1_leave_47 : decode cX1_leave 47 = .ok (.invokeinterface 97 1, 5) := by decide +kernel
theorem dX1_leave_52 : decode cX1_leave 52 = .ok (.checkcast 101, 3) := dk_192 0 101 (dk_at dksX1_leave_2 7 rfl rfl)
theorem dX1_leave_55 : decode cX1_leave 55 = .ok (.astore 6, 2) := dk_58 6 (dk_at dksX1_leave_2 10 rfl rfl)
theorem dX1_leave_57 : decode cX1_leave 57 = .ok (.aload 4, 2) := dk_25 4 (dk_at dksX1_leave_2 12 rfl rfl)
theorem dX1_leave_59 : decode cX1_leave 59 = .ok (.aload 6, 2) := dk_25 6 (dk_at dksX1_leave_2 14 rfl rfl)
theorem dX1_leave_61 : decode cX1_leave 61 = .ok (.invokevirtual 103, 3) := dk_182 0 103 (dk_at dksX1_leave_2 16 rfl rfl)
theorem dX1_leave_64 : decode cX1_leave 64 = .ok (.ifCond .eq 18, 3) := dk_153 0 18 (dk_at dksX1_leave_2 19 rfl rfl)
theorem dX1_leave_67 : decode cX1_leave 67 = .ok (.aload_n 2, 1) := dk_44 (dk_at dksX1_leave_2 22 rfl rfl)
theorem dX1_leave_68 : decode cX1_leave 68 = .ok (.aload 4, 2) := dk_25 4 (dk_at dksX1_leave_3 0 rfl rfl)
theorem dX1_leave_70 : decode cX1_leave 70 = .ok (.aload 6, 2) := dk_25 6 (dk_at dksX1_leave_3 2 rfl rfl)
theorem dX1_leave_72 : decode cX1_leave 72 = .ok (.invokevirtual 107, 3) := dk_182 0 107 (dk_at dksX1_leave_3 4 rfl rfl)
theorem dX1_leave_75 : decode cX1_leave 75 = .ok (.invokevirtual 110, 3) := dk_182 0 110 (dk_at dksX1_leave_3 7 rfl rfl)
theorem dX1_leave_78 : decode cX1_leave 78 = .ok (.invokevirtual 114, 3) := dk_182 0 114 (dk_at dksX1_leave_3 10 rfl rfl)
theorem dX1_leave_81 : decode cX1_leave 81 = .ok (.pop, 1) := dk_87 (dk_at dksX1_leave_3 13 rfl rfl)
theorem dX1_leave_82 : decode cX1_leave 82 = .ok (.goto (-47), 3) := dk_167 255 209 (dk_at dksX1_leave_3 14 rfl rfl)
theorem dX1_leave_85 : decode cX1_leave 85 = .ok (.goto (-78), 3) := dk_167 255 178 (dk_at dksX1_leave_3 17 rfl rfl)
theorem dX1_leave_88 : decode cX1_leave 88 = .ok (.return_, 1) := dk_177 (dk_at dksX1_leave_3 20 rfl rfl)
abbrev cX1_closest : ByteArray := prog_1_method_13_code
def yX1_closest : MethodName := ⟨RX1, "closest", "()I"⟩
def dkwX1_closest_3 : List UInt8 := [60, 21, 5, 61, 132, 4, 1, 167, 255, 196, 132, 3, 1, 167, 255, 179, 27, 172]
abbrev dktX1_closest_3 : List UInt8 := dkwX1_closest_3 ++ []
def dkwX1_closest_2 : List UInt8 := [159, 0, 28, 27, 2, 159, 0, 12, 21, 5, 28, 161, 0, 6, 167, 0, 14, 16, 12, 29, 104, 21, 4, 96]
abbrev dktX1_closest_2 : List UInt8 := dkwX1_closest_2 ++ dktX1_closest_3
def dkwX1_closest_1 : List UInt8 := [42, 42, 180, 0, 24, 29, 50, 42, 180, 0, 24, 21, 4, 50, 182, 0, 150, 54, 5, 21, 5, 2]
abbrev dktX1_closest_1 : List UInt8 := dkwX1_closest_1 ++ dktX1_closest_2
def dkwX1_closest_0 : List UInt8 := [2, 60, 3, 61, 3, 62, 29, 16, 12, 162, 0, 77, 29, 4, 96, 54, 4, 21, 4, 16, 12, 162, 0, 59]
abbrev dktX1_closest_0 : List UInt8 := dkwX1_closest_0 ++ dktX1_closest_1
theorem dksX1_closest_0 : cX1_closest.data.toList.drop 0 = dktX1_closest_0 := by decide +kernel
theorem dksX1_closest_1 : cX1_closest.data.toList.drop 24 = dktX1_closest_1 := dk_seg dksX1_closest_0 24 rfl rfl
theorem dksX1_closest_2 : cX1_closest.data.toList.drop 46 = dktX1_closest_2 := dk_seg dksX1_closest_1 22 rfl rfl
theorem dksX1_closest_3 : cX1_closest.data.toList.drop 70 = dktX1_closest_3 := dk_seg dksX1_closest_2 24 rfl rfl
theorem dX1_closest_0 : decode cX1_closest 0 = .ok (.iconst (-1), 1) := dk_2 (dk_at dksX1_closest_0 0 rfl rfl)
theorem dX1_closest_1 : decode cX1_closest 1 = .ok (.istore_n 1, 1) := dk_60 (dk_at dksX1_closest_0 1 rfl rfl)
theorem dX1_closest_2 : decode cX1_closest 2 = .ok (.iconst 0, 1) := dk_3 (dk_at dksX1_closest_0 2 rfl rfl)
theorem dX1_closest_3 : decode cX1_closest 3 = .ok (.istore_n 2, 1) := dk_61 (dk_at dksX1_closest_0 3 rfl rfl)
theorem dX1_closest_4 : decode cX1_closest 4 = .ok (.iconst 0, 1) := dk_3 (dk_at dksX1_closest_0 4 rfl rfl)
theorem dX1_closest_5 : decode cX1_closest 5 = .ok (.istore_n 3, 1) := dk_62 (dk_at dksX1_closest_0 5 rfl rfl)
theorem dX1_closest_6 : decode cX1_closest 6 = .ok (.iload_n 3, 1) := dk_29 (dk_at dksX1_closest_0 6 rfl rfl)
theorem dX1_closest_7 : decode cX1_closest 7 = .ok (.bipush 12, 2) := dk_16 12 (dk_at dksX1_closest_0 7 rfl rfl)
theorem dX1_closest_9 : decode cX1_closest 9 = .ok (.if_icmp .ge 77, 3) := dk_162 0 77 (dk_at dksX1_closest_0 9 rfl rfl)
theorem dX1_closest_12 : decode cX1_closest 12 = .ok (.iload_n 3, 1) := dk_29 (dk_at dksX1_closest_0 12 rfl rfl)
theorem dX1_closest_13 : decode cX1_closest 13 = .ok (.iconst 1, 1) := dk_4 (dk_at dksX1_closest_0 13 rfl rfl)
theorem dX1_closest_14 : decode cX1_closest 14 = .ok (.iadd, 1) := dk_96 (dk_at dksX1_closest_0 14 rfl rfl)
theorem dX1_closest_15 : decode cX1_closest 15 = .ok (.istore 4, 2) := dk_54 4 (dk_at dksX1_closest_0 15 rfl rfl)
theorem dX1_closest_17 : decode cX1_closest 17 = .ok (.iload 4, 2) := dk_21 4 (dk_at dksX1_closest_0 17 rfl rfl)
theorem dX1_closest_19 : decode cX1_closest 19 = .ok (.bipush 12, 2) := dk_16 12 (dk_at dksX1_closest_0 19 rfl rfl)
theorem dX1_closest_21 : decode cX1_closest 21 = .ok (.if_icmp .ge 59, 3) := dk_162 0 59 (dk_at dksX1_closest_0 21 rfl rfl)
theorem dX1_closest_24 : decode cX1_closest 24 = .ok (.aload_n 0, 1) := dk_42 (dk_at dksX1_closest_1 0 rfl rfl)
theorem dX1_closest_25 : decode cX1_closest 25 = .ok (.aload_n 0, 1) := dk_42 (dk_at dksX1_closest_1 1 rfl rfl)
theorem dX1_closest_26 : decode cX1_closest 26 = .ok (.getfield 24, 3) := dk_180 0 24 (dk_at dksX1_closest_1 2 rfl rfl)
theorem dX1_closest_29 : decode cX1_closest 29 = .ok (.iload_n 3, 1) := dk_29 (dk_at dksX1_closest_1 5 rfl rfl)
theorem dX1_closest_30 : decode cX1_closest 30 = .ok (.aaload, 1) := dk_50 (dk_at dksX1_closest_1 6 rfl rfl)
theorem dX1_closest_31 : decode cX1_closest 31 = .ok (.aload_n 0, 1) := dk_42 (dk_at dksX1_closest_1 7 rfl rfl)
theorem dX1_closest_32 : decode cX1_closest 32 = .ok (.getfield 24, 3) := dk_180 0 24 (dk_at dksX1_closest_1 8 rfl rfl)
theorem dX1_closest_35 : decode cX1_closest 35 = .ok (.iload 4, 2) := dk_21 4 (dk_at dksX1_closest_1 11 rfl rfl)
theorem dX1_closest_37 : decode cX1_closest 37 = .ok (.aaload, 1) := dk_50 (dk_at dksX1_closest_1 13 rfl rfl)
theorem dX1_closest_38 : decode cX1_closest 38 = .ok (.invokevirtual 150, 3) := dk_182 0 150 (dk_at dksX1_closest_1 14 rfl rfl)
theorem dX1_closest_41 : decode cX1_closest 41 = .ok (.istore 5, 2) := dk_54 5 (dk_at dksX1_closest_1 17 rfl rfl)
theorem dX1_closest_43 : decode cX1_closest 43 = .ok (.iload 5, 2) := dk_21 5 (dk_at dksX1_closest_1 19 rfl rfl)
theorem dX1_closest_45 : decode cX1_closest 45 = .ok (.iconst (-1), 1) := dk_2 (dk_at dksX1_closest_1 21 rfl rfl)
theorem dX1_closest_46 : decode cX1_closest 46 = .ok (.if_icmp .eq 28, 3) := dk_159 0 28 (dk_at dksX1_closest_2 0 rfl rfl)
theorem dX1_closest_49 : decode cX1_closest 49 = .ok (.iload_n 1, 1) := dk_27 (dk_at dksX1_closest_2 3 rfl rfl)
theorem dX1_closest_50 : decode cX1_closest 50 = .ok (.iconst (-1), 1) := dk_2 (dk_at dksX1_closest_2 4 rfl rfl)
theorem dX1_closest_51 : decode cX1_closest 51 = .ok (.if_icmp .eq 12, 3) := dk_159 0 12 (dk_at dksX1_closest_2 5 rfl rfl)
theorem dX1_closest_54 : decode cX1_closest 54 = .ok (.iload 5, 2) := dk_21 5 (dk_at dksX1_closest_2 8 rfl rfl)
theorem dX1_closest_56 : decode cX1_closest 56 = .ok (.iload_n 2, 1) := dk_28 (dk_at dksX1_closest_2 10 rfl rfl)
theorem dX1_closest_57 : decode cX1_closest 57 = .ok (.if_icmp .lt 6, 3) := dk_161 0 6 (dk_at dksX1_closest_2 11 rfl rfl)
theorem dX1_closest_60 : decode cX1_closest 60 = .ok (.goto 14, 3) := dk_167 0 14 (dk_at dksX1_closest_2 14 rfl rfl)
theorem dX1_closest_63 : decode cX1_closest 63 = .ok (.bipush 12, 2) := dk_16 12 (dk_at dksX1_closest_2 17 rfl rfl)
theorem dX1_closest_65 : decode cX1_closest 65 = .ok (.iload_n 3, 1) := dk_29 (dk_at dksX1_closest_2 19 rfl rfl)
theorem dX1_closest_66 : decode cX1_closest 66 = .ok (.imul, 1) := dk_104 (dk_at dksX1_closest_2 20 rfl rfl)
theorem dX1_closest_67 : decode cX1_closest 67 = .ok (.iload 4, 2) := dk_21 4 (dk_at dksX1_closest_2 21 rfl rfl)
theorem dX1_closest_69 : decode cX1_closest 69 = .ok (.iadd, 1) := dk_96 (dk_at dksX1_closest_2 23 rfl rfl)
theorem dX1_closest_70 : decode cX1_closest 70 = .ok (.istore_n 1, 1) := dk_60 (dk_at dksX1_closest_3 0 rfl rfl)
theorem dX1_closest_71 : decode cX1_closest 71 = .ok (.iload 5, 2) := dk_21 5 (dk_at dksX1_closest_3 1 rfl rfl)
theorem dX1_closest_73 : decode cX1_closest 73 = .ok (.istore_n 2, 1) := dk_61 (dk_at dksX1_closest_3 3 rfl rfl)
theorem dX1_closest_74 : decode cX1_closest 74 = .ok (.iinc 4 1, 3) := dk_132 4 1 (dk_at dksX1_closest_3 4 rfl rfl)
theorem dX1_closest_77 : decode cX1_closest 77 = .ok (.goto (-60), 3) := dk_167 255 196 (dk_at dksX1_closest_3 7 rfl rfl)
theorem dX1_closest_80 : decode cX1_closest 80 = .ok (.iinc 3 1, 3) := dk_132 3 1 (dk_at dksX1_closest_3 10 rfl rfl)
theorem dX1_closest_83 : decode cX1_closest 83 = .ok (.goto (-77), 3) := dk_167 255 179 (dk_at dksX1_closest_3 13 rfl rfl)
theorem dX1_closest_86 : decode cX1_closest 86 = .ok (.iload_n 1, 1) := dk_27 (dk_at dksX1_closest_3 16 rfl rfl)
theorem dX1_closest_87 : decode cX1_closest 87 = .ok (.ireturn, 1) := dk_172 (dk_at dksX1_closest_3 17 rfl rfl)
abbrev cX1_between : ByteArray := prog_1_method_11_code
def yX1_between : MethodName := ⟨RX1, "between", "(LKnotLetters$Letter;LKnotLetters$Letter;)I"⟩
def dkwX1_between_1 : List UInt8 := [180, 0, 66, 182, 0, 146, 167, 0, 4, 2, 172]
abbrev dktX1_between_1 : List UInt8 := dkwX1_between_1 ++ []
def dkwX1_between_0 : List UInt8 := [43, 182, 0, 78, 153, 0, 28, 44, 182, 0, 78, 153, 0, 21, 42, 180, 0, 31, 43, 180, 0, 66, 44]
abbrev dktX1_between_0 : List UInt8 := dkwX1_between_0 ++ dktX1_between_1
theorem dksX1_between_0 : cX1_between.data.toList.drop 0 = dktX1_between_0 := by decide +kernel
theorem dksX1_between_1 : cX1_between.data.toList.drop 23 = dktX1_between_1 := dk_seg dksX1_between_0 23 rfl rfl
theorem dX1_between_0 : decode cX1_between 0 = .ok (.aload_n 1, 1) := dk_43 (dk_at dksX1_between_0 0 rfl rfl)
theorem dX1_between_1 : decode cX1_between 1 = .ok (.invokevirtual 78, 3) := dk_182 0 78 (dk_at dksX1_between_0 1 rfl rfl)
theorem dX1_between_4 : decode cX1_between 4 = .ok (.ifCond .eq 28, 3) := dk_153 0 28 (dk_at dksX1_between_0 4 rfl rfl)
theorem dX1_between_7 : decode cX1_between 7 = .ok (.aload_n 2, 1) := dk_44 (dk_at dksX1_between_0 7 rfl rfl)
theorem dX1_between_8 : decode cX1_between 8 = .ok (.invokevirtual 78, 3) := dk_182 0 78 (dk_at dksX1_between_0 8 rfl rfl)
theorem dX1_between_11 : decode cX1_between 11 = .ok (.ifCond .eq 21, 3) := dk_153 0 21 (dk_at dksX1_between_0 11 rfl rfl)
theorem dX1_between_14 : decode cX1_between 14 = .ok (.aload_n 0, 1) := dk_42 (dk_at dksX1_between_0 14 rfl rfl)
theorem dX1_between_15 : decode cX1_between 15 = .ok (.getfield 31, 3) := dk_180 0 31 (dk_at dksX1_between_0 15 rfl rfl)
theorem dX1_between_18 : decode cX1_between 18 = .ok (.aload_n 1, 1) := dk_43 (dk_at dksX1_between_0 18 rfl rfl)
theorem dX1_between_19 : decode cX1_between 19 = .ok (.getfield 66, 3) := dk_180 0 66 (dk_at dksX1_between_0 19 rfl rfl)
theorem dX1_between_22 : decode cX1_between 22 = .ok (.aload_n 2, 1) := dk_44 (dk_at dksX1_between_0 22 rfl rfl)
theorem dX1_between_23 : decode cX1_between 23 = .ok (.getfield 66, 3) := dk_180 0 66 (dk_at dksX1_between_1 0 rfl rfl)
theorem dX1_between_26 : decode cX1_between 26 = .ok (.invokevirtual 146, 3) := dk_182 0 146 (dk_at dksX1_between_1 3 rfl rfl)
theorem dX1_between_29 : decode cX1_between 29 = .ok (.goto 4, 3) := dk_167 0 4 (dk_at dksX1_between_1 6 rfl rfl)
theorem dX1_between_32 : decode cX1_between 32 = .ok (.iconst (-1), 1) := dk_2 (dk_at dksX1_between_1 9 rfl rfl)
theorem dX1_between_33 : decode cX1_between 33 = .ok (.ireturn, 1) := dk_172 (dk_at dksX1_between_1 10 rfl rfl)
abbrev cX1_advise : ByteArray := prog_1_method_15_code
def yX1_advise : MethodName := ⟨RX1, "advise", "()I"⟩
def dkwX1_advise_3 : List UInt8 := [167, 255, 197, 132, 1, 1, 167, 255, 184, 3, 172]
abbrev dktX1_advise_3 : List UInt8 := dkwX1_advise_3 ++ []
def dkwX1_advise_2 : List UInt8 := [132, 4, 255, 167, 255, 232, 42, 29, 184, 0, 60, 182, 0, 154, 153, 0, 5, 29, 172, 132, 2, 1]
abbrev dktX1_advise_2 : List UInt8 := dkwX1_advise_2 ++ dktX1_advise_3
def dkwX1_advise_1 : List UInt8 := [54, 4, 21, 4, 155, 0, 25, 16, 10, 29, 104, 4, 96, 28, 5, 21, 4, 104, 122, 6, 126, 96, 62]
abbrev dktX1_advise_1 : List UInt8 := dkwX1_advise_1 ++ dktX1_advise_2
def dkwX1_advise_0 : List UInt8 := [4, 60, 27, 7, 163, 0, 73, 3, 61, 28, 4, 5, 27, 104, 120, 162, 0, 56, 3, 62, 27, 4, 100]
abbrev dktX1_advise_0 : List UInt8 := dkwX1_advise_0 ++ dktX1_advise_1
theorem dksX1_advise_0 : cX1_advise.data.toList.drop 0 = dktX1_advise_0 := by decide +kernel
theorem dksX1_advise_1 : cX1_advise.data.toList.drop 23 = dktX1_advise_1 := dk_seg dksX1_advise_0 23 rfl rfl
theorem dksX1_advise_2 : cX1_advise.data.toList.drop 46 = dktX1_advise_2 := dk_seg dksX1_advise_1 23 rfl rfl
theorem dksX1_advise_3 : cX1_advise.data.toList.drop 68 = dktX1_advise_3 := dk_seg dksX1_advise_2 22 rfl rfl
theorem dX1_advise_0 : decode cX1_advise 0 = .ok (.iconst 1, 1) := dk_4 (dk_at dksX1_advise_0 0 rfl rfl)
theorem dX1_advise_1 : decode cX1_advise 1 = .ok (.istore_n 1, 1) := dk_60 (dk_at dksX1_advise_0 1 rfl rfl)
theorem dX1_advise_2 : decode cX1_advise 2 = .ok (.iload_n 1, 1) := dk_27 (dk_at dksX1_advise_0 2 rfl rfl)
theorem dX1_advise_3 : decode cX1_advise 3 = .ok (.iconst 4, 1) := dk_7 (dk_at dksX1_advise_0 3 rfl rfl)
theorem dX1_advise_4 : decode cX1_advise 4 = .ok (.if_icmp .gt 73, 3) := dk_163 0 73 (dk_at dksX1_advise_0 4 rfl rfl)
theorem dX1_advise_7 : decode cX1_advise 7 = .ok (.iconst 0, 1) := dk_3 (dk_at dksX1_advise_0 7 rfl rfl)
theorem dX1_advise_8 : decode cX1_advise 8 = .ok (.istore_n 2, 1) := dk_61 (dk_at dksX1_advise_0 8 rfl rfl)
theorem dX1_advise_9 : decode cX1_advise 9 = .ok (.iload_n 2, 1) := dk_28 (dk_at dksX1_advise_0 9 rfl rfl)
theorem dX1_advise_10 : decode cX1_advise 10 = .ok (.iconst 1, 1) := dk_4 (dk_at dksX1_advise_0 10 rfl rfl)
theorem dX1_advise_11 : decode cX1_advise 11 = .ok (.iconst 2, 1) := dk_5 (dk_at dksX1_advise_0 11 rfl rfl)
theorem dX1_advise_12 : decode cX1_advise 12 = .ok (.iload_n 1, 1) := dk_27 (dk_at dksX1_advise_0 12 rfl rfl)
theorem dX1_advise_13 : decode cX1_advise 13 = .ok (.imul, 1) := dk_104 (dk_at dksX1_advise_0 13 rfl rfl)
theorem dX1_advise_14 : decode cX1_advise 14 = .ok (.ishl, 1) := dk_120 (dk_at dksX1_advise_0 14 rfl rfl)
theorem dX1_advise_15 : decode cX1_advise 15 = .ok (.if_icmp .ge 56, 3) := dk_162 0 56 (dk_at dksX1_advise_0 15 rfl rfl)
theorem dX1_advise_18 : decode cX1_advise 18 = .ok (.iconst 0, 1) := dk_3 (dk_at dksX1_advise_0 18 rfl rfl)
theorem dX1_advise_19 : decode cX1_advise 19 = .ok (.istore_n 3, 1) := dk_62 (dk_at dksX1_advise_0 19 rfl rfl)
theorem dX1_advise_20 : decode cX1_advise 20 = .ok (.iload_n 1, 1) := dk_27 (dk_at dksX1_advise_0 20 rfl rfl)
theorem dX1_advise_21 : decode cX1_advise 21 = .ok (.iconst 1, 1) := dk_4 (dk_at dksX1_advise_0 21 rfl rfl)
theorem dX1_advise_22 : decode cX1_advise 22 = .ok (.isub, 1) := dk_100 (dk_at dksX1_advise_0 22 rfl rfl)
theorem dX1_advise_23 : decode cX1_advise 23 = .ok (.istore 4, 2) := dk_54 4 (dk_at dksX1_advise_1 0 rfl rfl)
theorem dX1_advise_25 : decode cX1_advise 25 = .ok (.iload 4, 2) := dk_21 4 (dk_at dksX1_advise_1 2 rfl rfl)
theorem dX1_advise_27 : decode cX1_advise 27 = .ok (.ifCond .lt 25, 3) := dk_155 0 25 (dk_at dksX1_advise_1 4 rfl rfl)
theorem dX1_advise_30 : decode cX1_advise 30 = .ok (.bipush 10, 2) := dk_16 10 (dk_at dksX1_advise_1 7 rfl rfl)
theorem dX1_advise_32 : decode cX1_advise 32 = .ok (.iload_n 3, 1) := dk_29 (dk_at dksX1_advise_1 9 rfl rfl)
theorem dX1_advise_33 : decode cX1_advise 33 = .ok (.imul, 1) := dk_104 (dk_at dksX1_advise_1 10 rfl rfl)
theorem dX1_advise_34 : decode cX1_advise 34 = .ok (.iconst 1, 1) := dk_4 (dk_at dksX1_advise_1 11 rfl rfl)
theorem dX1_advise_35 : decode cX1_advise 35 = .ok (.iadd, 1) := dk_96 (dk_at dksX1_advise_1 12 rfl rfl)
theorem dX1_advise_36 : decode cX1_advise 36 = .ok (.iload_n 2, 1) := dk_28 (dk_at dksX1_advise_1 13 rfl rfl)
theorem dX1_advise_37 : decode cX1_advise 37 = .ok (.iconst 2, 1) := dk_5 (dk_at dksX1_advise_1 14 rfl rfl)
theorem dX1_advise_38 : decode cX1_advise 38 = .ok (.iload 4, 2) := dk_21 4 (dk_at dksX1_advise_1 15 rfl rfl)
theorem dX1_advise_40 : decode cX1_advise 40 = .ok (.imul, 1) := dk_104 (dk_at dksX1_advise_1 17 rfl rfl)
theorem dX1_advise_41 : decode cX1_advise 41 = .ok (.ishr, 1) := dk_122 (dk_at dksX1_advise_1 18 rfl rfl)
theorem dX1_advise_42 : decode cX1_advise 42 = .ok (.iconst 3, 1) := dk_6 (dk_at dksX1_advise_1 19 rfl rfl)
theorem dX1_advise_43 : decode cX1_advise 43 = .ok (.iand, 1) := dk_126 (dk_at dksX1_advise_1 20 rfl rfl)
theorem dX1_advise_44 : decode cX1_advise 44 = .ok (.iadd, 1) := dk_96 (dk_at dksX1_advise_1 21 rfl rfl)
theorem dX1_advise_45 : decode cX1_advise 45 = .ok (.istore_n 3, 1) := dk_62 (dk_at dksX1_advise_1 22 rfl rfl)
theorem dX1_advise_46 : decode cX1_advise 46 = .ok (.iinc 4 (-1), 3) := dk_132 4 255 (dk_at dksX1_advise_2 0 rfl rfl)
theorem dX1_advise_49 : decode cX1_advise 49 = .ok (.goto (-24), 3) := dk_167 255 232 (dk_at dksX1_advise_2 3 rfl rfl)
theorem dX1_advise_52 : decode cX1_advise 52 = .ok (.aload_n 0, 1) := dk_42 (dk_at dksX1_advise_2 6 rfl rfl)
theorem dX1_advise_53 : decode cX1_advise 53 = .ok (.iload_n 3, 1) := dk_29 (dk_at dksX1_advise_2 7 rfl rfl)
theorem dX1_advise_54 : decode cX1_advise 54 = .ok (.invokestatic 60, 3) := dk_184 0 60 (dk_at dksX1_advise_2 8 rfl rfl)
theorem dX1_advise_57 : decode cX1_advise 57 = .ok (.invokevirtual 154, 3) := dk_182 0 154 (dk_at dksX1_advise_2 11 rfl rfl)
theorem dX1_advise_60 : decode cX1_advise 60 = .ok (.ifCond .eq 5, 3) := dk_153 0 5 (dk_at dksX1_advise_2 14 rfl rfl)
theorem dX1_advise_63 : decode cX1_advise 63 = .ok (.iload_n 3, 1) := dk_29 (dk_at dksX1_advise_2 17 rfl rfl)
theorem dX1_advise_64 : decode cX1_advise 64 = .ok (.ireturn, 1) := dk_172 (dk_at dksX1_advise_2 18 rfl rfl)
theorem dX1_advise_65 : decode cX1_advise 65 = .ok (.iinc 2 1, 3) := dk_132 2 1 (dk_at dksX1_advise_2 19 rfl rfl)
theorem dX1_advise_68 : decode cX1_advise 68 = .ok (.goto (-59), 3) := dk_167 255 197 (dk_at dksX1_advise_3 0 rfl rfl)
theorem dX1_advise_71 : decode cX1_advise 71 = .ok (.iinc 1 1, 3) := dk_132 1 1 (dk_at dksX1_advise_3 3 rfl rfl)
theorem dX1_advise_74 : decode cX1_advise 74 = .ok (.goto (-72), 3) := dk_167 255 184 (dk_at dksX1_advise_3 6 rfl rfl)
theorem dX1_advise_77 : decode cX1_advise 77 = .ok (.iconst 0, 1) := dk_3 (dk_at dksX1_advise_3 9 rfl rfl)
theorem dX1_advise_78 : decode cX1_advise 78 = .ok (.ireturn, 1) := dk_172 (dk_at dksX1_advise_3 10 rfl rfl)
abbrev cX1_isOpen : ByteArray := prog_1_method_14_code
def yX1_isOpen : MethodName := ⟨RX1, "isOpen", "(LKnotLetters$Knots;)Z"⟩
def dkwX1_isOpen_2 : List UInt8 := [180, 0, 66, 182, 0, 82, 153, 0, 5, 3, 172, 132, 4, 1, 167, 255, 207, 4, 172]
abbrev dktX1_isOpen_2 : List UInt8 := dkwX1_isOpen_2 ++ []
def dkwX1_isOpen_1 : List UInt8 := [25, 5, 182, 0, 78, 153, 0, 29, 25, 5, 180, 0, 66, 43, 182, 0, 82, 154, 0, 15, 43, 25, 5]
abbrev dktX1_isOpen_1 : List UInt8 := dkwX1_isOpen_1 ++ dktX1_isOpen_2
def dkwX1_isOpen_0 : List UInt8 := [42, 180, 0, 24, 77, 44, 190, 62, 3, 54, 4, 21, 4, 29, 162, 0, 49, 44, 21, 4, 50, 58, 5]
abbrev dktX1_isOpen_0 : List UInt8 := dkwX1_isOpen_0 ++ dktX1_isOpen_1
theorem dksX1_isOpen_0 : cX1_isOpen.data.toList.drop 0 = dktX1_isOpen_0 := by decide +kernel
theorem dksX1_isOpen_1 : cX1_isOpen.data.toList.drop 23 = dktX1_isOpen_1 := dk_seg dksX1_isOpen_0 23 rfl rfl
theorem dksX1_isOpen_2 : cX1_isOpen.data.toList.drop 46 = dktX1_isOpen_2 := dk_seg dksX1_isOpen_1 23 rfl rfl
theorem dX1_isOpen_0 : decode cX1_isOpen 0 = .ok (.aload_n 0, 1) := dk_42 (dk_at dksX1_isOpen_0 0 rfl rfl)
theorem dX1_isOpen_1 : decode cX1_isOpen 1 = .ok (.getfield 24, 3) := dk_180 0 24 (dk_at dksX1_isOpen_0 1 rfl rfl)
theorem dX1_isOpen_4 : decode cX1_isOpen 4 = .ok (.astore_n 2, 1) := dk_77 (dk_at dksX1_isOpen_0 4 rfl rfl)
theorem dX1_isOpen_5 : decode cX1_isOpen 5 = .ok (.aload_n 2, 1) := dk_44 (dk_at dksX1_isOpen_0 5 rfl rfl)
theorem dX1_isOpen_6 : decode cX1_isOpen 6 = .ok (.arraylength, 1) := dk_190 (dk_at dksX1_isOpen_0 6 rfl rfl)
theorem dX1_isOpen_7 : decode cX1_isOpen 7 = .ok (.istore_n 3, 1) := dk_62 (dk_at dksX1_isOpen_0 7 rfl rfl)
theorem dX1_isOpen_8 : decode cX1_isOpen 8 = .ok (.iconst 0, 1) := dk_3 (dk_at dksX1_isOpen_0 8 rfl rfl)
theorem dX1_isOpen_9 : decode cX1_isOpen 9 = .ok (.istore 4, 2) := dk_54 4 (dk_at dksX1_isOpen_0 9 rfl rfl)
theorem dX1_isOpen_11 : decode cX1_isOpen 11 = .ok (.iload 4, 2) := dk_21 4 (dk_at dksX1_isOpen_0 11 rfl rfl)
theorem dX1_isOpen_13 : decode cX1_isOpen 13 = .ok (.iload_n 3, 1) := dk_29 (dk_at dksX1_isOpen_0 13 rfl rfl)
theorem dX1_isOpen_14 : decode cX1_isOpen 14 = .ok (.if_icmp .ge 49, 3) := dk_162 0 49 (dk_at dksX1_isOpen_0 14 rfl rfl)
theorem dX1_isOpen_17 : decode cX1_isOpen 17 = .ok (.aload_n 2, 1) := dk_44 (dk_at dksX1_isOpen_0 17 rfl rfl)
theorem dX1_isOpen_18 : decode cX1_isOpen 18 = .ok (.iload 4, 2) := dk_21 4 (dk_at dksX1_isOpen_0 18 rfl rfl)
theorem dX1_isOpen_20 : decode cX1_isOpen 20 = .ok (.aaload, 1) := dk_50 (dk_at dksX1_isOpen_0 20 rfl rfl)
theorem dX1_isOpen_21 : decode cX1_isOpen 21 = .ok (.astore 5, 2) := dk_58 5 (dk_at dksX1_isOpen_0 21 rfl rfl)
theorem dX1_isOpen_23 : decode cX1_isOpen 23 = .ok (.aload 5, 2) := dk_25 5 (dk_at dksX1_isOpen_1 0 rfl rfl)
theorem dX1_isOpen_25 : decode cX1_isOpen 25 = .ok (.invokevirtual 78, 3) := dk_182 0 78 (dk_at dksX1_isOpen_1 2 rfl rfl)
theorem dX1_isOpen_28 : decode cX1_isOpen 28 = .ok (.ifCond .eq 29, 3) := dk_153 0 29 (dk_at dksX1_isOpen_1 5 rfl rfl)
theorem dX1_isOpen_31 : decode cX1_isOpen 31 = .ok (.aload 5, 2) := dk_25 5 (dk_at dksX1_isOpen_1 8 rfl rfl)
theorem dX1_isOpen_33 : decode cX1_isOpen 33 = .ok (.getfield 66, 3) := dk_180 0 66 (dk_at dksX1_isOpen_1 10 rfl rfl)
theorem dX1_isOpen_36 : decode cX1_isOpen 36 = .ok (.aload_n 1, 1) := dk_43 (dk_at dksX1_isOpen_1 13 rfl rfl)
theorem dX1_isOpen_37 : decode cX1_isOpen 37 = .ok (.invokevirtual 82, 3) := dk_182 0 82 (dk_at dksX1_isOpen_1 14 rfl rfl)
theorem dX1_isOpen_40 : decode cX1_isOpen 40 = .ok (.ifCond .ne 15, 3) := dk_154 0 15 (dk_at dksX1_isOpen_1 17 rfl rfl)
theorem dX1_isOpen_43 : decode cX1_isOpen 43 = .ok (.aload_n 1, 1) := dk_43 (dk_at dksX1_isOpen_1 20 rfl rfl)
theorem dX1_isOpen_44 : decode cX1_isOpen 44 = .ok (.aload 5, 2) := dk_25 5 (dk_at dksX1_isOpen_1 21 rfl rfl)
theorem dX1_isOpen_46 : decode cX1_isOpen 46 = .ok (.getfield 66, 3) := dk_180 0 66 (dk_at dksX1_isOpen_2 0 rfl rfl)
theorem dX1_isOpen_49 : decode cX1_isOpen 49 = .ok (.invokevirtual 82, 3) := dk_182 0 82 (dk_at dksX1_isOpen_2 3 rfl rfl)
theorem dX1_isOpen_52 : decode cX1_isOpen 52 = .ok (.ifCond .eq 5, 3) := dk_153 0 5 (dk_at dksX1_isOpen_2 6 rfl rfl)
theorem dX1_isOpen_55 : decode cX1_isOpen 55 = .ok (.iconst 0, 1) := dk_3 (dk_at dksX1_isOpen_2 9 rfl rfl)
theorem dX1_isOpen_56 : decode cX1_isOpen 56 = .ok (.ireturn, 1) := dk_172 (dk_at dksX1_isOpen_2 10 rfl rfl)
theorem dX1_isOpen_57 : decode cX1_isOpen 57 = .ok (.iinc 4 1, 3) := dk_132 4 1 (dk_at dksX1_isOpen_2 11 rfl rfl)
theorem dX1_isOpen_60 : decode cX1_isOpen 60 = .ok (.goto (-49), 3) := dk_167 255 207 (dk_at dksX1_isOpen_2 14 rfl rfl)
theorem dX1_isOpen_63 : decode cX1_isOpen 63 = .ok (.iconst 1, 1) := dk_4 (dk_at dksX1_isOpen_2 17 rfl rfl)
theorem dX1_isOpen_64 : decode cX1_isOpen 64 = .ok (.ireturn, 1) := dk_172 (dk_at dksX1_isOpen_2 18 rfl rfl)
abbrev cX1_mean : ByteArray := prog_1_method_40_code
def yX1_mean : MethodName := ⟨RX1, "mean", "()D"⟩
def dkwX1_mean_2 : List UInt8 := [154, 0, 7, 14, 167, 0, 11, 27, 135, 42, 182, 1, 70, 135, 111, 175]
abbrev dktX1_mean_2 : List UInt8 := dkwX1_mean_2 ++ []
def dkwX1_mean_1 : List UInt8 := [58, 5, 27, 25, 5, 180, 0, 66, 182, 0, 198, 96, 60, 132, 4, 1, 167, 255, 230, 42, 182, 1, 70]
abbrev dktX1_mean_1 : List UInt8 := dkwX1_mean_1 ++ dktX1_mean_2
def dkwX1_mean_0 : List UInt8 := [3, 60, 42, 180, 0, 24, 77, 44, 190, 62, 3, 54, 4, 21, 4, 29, 162, 0, 26, 44, 21, 4, 50]
abbrev dktX1_mean_0 : List UInt8 := dkwX1_mean_0 ++ dktX1_mean_1
theorem dksX1_mean_0 : cX1_mean.data.toList.drop 0 = dktX1_mean_0 := by decide +kernel
theorem dksX1_mean_1 : cX1_mean.data.toList.drop 23 = dktX1_mean_1 := dk_seg dksX1_mean_0 23 rfl rfl
theorem dksX1_mean_2 : cX1_mean.data.toList.drop 46 = dktX1_mean_2 := dk_seg dksX1_mean_1 23 rfl rfl
theorem dX1_mean_0 : decode cX1_mean 0 = .ok (.iconst 0, 1) := dk_3 (dk_at dksX1_mean_0 0 rfl rfl)
theorem dX1_mean_1 : decode cX1_mean 1 = .ok (.istore_n 1, 1) := dk_60 (dk_at dksX1_mean_0 1 rfl rfl)
theorem dX1_mean_2 : decode cX1_mean 2 = .ok (.aload_n 0, 1) := dk_42 (dk_at dksX1_mean_0 2 rfl rfl)
theorem dX1_mean_3 : decode cX1_mean 3 = .ok (.getfield 24, 3) := dk_180 0 24 (dk_at dksX1_mean_0 3 rfl rfl)
theorem dX1_mean_6 : decode cX1_mean 6 = .ok (.astore_n 2, 1) := dk_77 (dk_at dksX1_mean_0 6 rfl rfl)
theorem dX1_mean_7 : decode cX1_mean 7 = .ok (.aload_n 2, 1) := dk_44 (dk_at dksX1_mean_0 7 rfl rfl)
theorem dX1_mean_8 : decode cX1_mean 8 = .ok (.arraylength, 1) := dk_190 (dk_at dksX1_mean_0 8 rfl rfl)
theorem dX1_mean_9 : decode cX1_mean 9 = .ok (.istore_n 3, 1) := dk_62 (dk_at dksX1_mean_0 9 rfl rfl)
theorem dX1_mean_10 : decode cX1_mean 10 = .ok (.iconst 0, 1) := dk_3 (dk_at dksX1_mean_0 10 rfl rfl)
theorem dX1_mean_11 : decode cX1_mean 11 = .ok (.istore 4, 2) := dk_54 4 (dk_at dksX1_mean_0 11 rfl rfl)
theorem dX1_mean_13 : decode cX1_mean 13 = .ok (.iload 4, 2) := dk_21 4 (dk_at dksX1_mean_0 13 rfl rfl)
theorem dX1_mean_15 : decode cX1_mean 15 = .ok (.iload_n 3, 1) := dk_29 (dk_at dksX1_mean_0 15 rfl rfl)
theorem dX1_mean_16 : decode cX1_mean 16 = .ok (.if_icmp .ge 26, 3) := dk_162 0 26 (dk_at dksX1_mean_0 16 rfl rfl)
theorem dX1_mean_19 : decode cX1_mean 19 = .ok (.aload_n 2, 1) := dk_44 (dk_at dksX1_mean_0 19 rfl rfl)
theorem dX1_mean_20 : decode cX1_mean 20 = .ok (.iload 4, 2) := dk_21 4 (dk_at dksX1_mean_0 20 rfl rfl)
theorem dX1_mean_22 : decode cX1_mean 22 = .ok (.aaload, 1) := dk_50 (dk_at dksX1_mean_0 22 rfl rfl)
theorem dX1_mean_23 : decode cX1_mean 23 = .ok (.astore 5, 2) := dk_58 5 (dk_at dksX1_mean_1 0 rfl rfl)
theorem dX1_mean_25 : decode cX1_mean 25 = .ok (.iload_n 1, 1) := dk_27 (dk_at dksX1_mean_1 2 rfl rfl)
theorem dX1_mean_26 : decode cX1_mean 26 = .ok (.aload 5, 2) := dk_25 5 (dk_at dksX1_mean_1 3 rfl rfl)
theorem dX1_mean_28 : decode cX1_mean 28 = .ok (.getfield 66, 3) := dk_180 0 66 (dk_at dksX1_mean_1 5 rfl rfl)
theorem dX1_mean_31 : decode cX1_mean 31 = .ok (.invokevirtual 198, 3) := dk_182 0 198 (dk_at dksX1_mean_1 8 rfl rfl)
theorem dX1_mean_34 : decode cX1_mean 34 = .ok (.iadd, 1) := dk_96 (dk_at dksX1_mean_1 11 rfl rfl)
theorem dX1_mean_35 : decode cX1_mean 35 = .ok (.istore_n 1, 1) := dk_60 (dk_at dksX1_mean_1 12 rfl rfl)
theorem dX1_mean_36 : decode cX1_mean 36 = .ok (.iinc 4 1, 3) := dk_132 4 1 (dk_at dksX1_mean_1 13 rfl rfl)
theorem dX1_mean_39 : decode cX1_mean 39 = .ok (.goto (-26), 3) := dk_167 255 230 (dk_at dksX1_mean_1 16 rfl rfl)
theorem dX1_mean_42 : decode cX1_mean 42 = .ok (.aload_n 0, 1) := dk_42 (dk_at dksX1_mean_1 19 rfl rfl)
theorem dX1_mean_43 : decode cX1_mean 43 = .ok (.invokevirtual 326, 3) := dk_182 1 70 (dk_at dksX1_mean_1 20 rfl rfl)
theorem dX1_mean_46 : decode cX1_mean 46 = .ok (.ifCond .ne 7, 3) := dk_154 0 7 (dk_at dksX1_mean_2 0 rfl rfl)
theorem dX1_mean_49 : decode cX1_mean 49 = .ok (.dconst 0, 1) := dk_14 (dk_at dksX1_mean_2 3 rfl rfl)
theorem dX1_mean_50 : decode cX1_mean 50 = .ok (.goto 11, 3) := dk_167 0 11 (dk_at dksX1_mean_2 4 rfl rfl)
theorem dX1_mean_53 : decode cX1_mean 53 = .ok (.iload_n 1, 1) := dk_27 (dk_at dksX1_mean_2 7 rfl rfl)
theorem dX1_mean_54 : decode cX1_mean 54 = .ok (.i2d, 1) := dk_135 (dk_at dksX1_mean_2 8 rfl rfl)
theorem dX1_mean_55 : decode cX1_mean 55 = .ok (.aload_n 0, 1) := dk_42 (dk_at dksX1_mean_2 9 rfl rfl)
theorem dX1_mean_56 : decode cX1_mean 56 = .ok (.invokevirtual 326, 3) := dk_182 1 70 (dk_at dksX1_mean_2 10 rfl rfl)
theorem dX1_mean_59 : decode cX1_mean 59 = .ok (.i2d, 1) := dk_135 (dk_at dksX1_mean_2 13 rfl rfl)
theorem dX1_mean_60 : decode cX1_mean 60 = .ok (.ddiv, 1) := dk_111 (dk_at dksX1_mean_2 14 rfl rfl)
theorem dX1_mean_61 : decode cX1_mean 61 = .ok (.dreturn, 1) := dk_175 (dk_at dksX1_mean_2 15 rfl rfl)
abbrev cX1_withKnots : ByteArray := prog_1_method_38_code
def yX1_withKnots : MethodName := ⟨RX1, "withKnots", "()I"⟩
def dkwX1_withKnots_2 : List UInt8 := [27, 172]
abbrev dktX1_withKnots_2 : List UInt8 := dkwX1_withKnots_2 ++ []
def dkwX1_withKnots_1 : List UInt8 := [58, 5, 27, 25, 5, 182, 0, 78, 153, 0, 7, 4, 167, 0, 4, 3, 96, 60, 132, 4, 1, 167, 255, 225]
abbrev dktX1_withKnots_1 : List UInt8 := dkwX1_withKnots_1 ++ dktX1_withKnots_2
def dkwX1_withKnots_0 : List UInt8 := [3, 60, 42, 180, 0, 24, 77, 44, 190, 62, 3, 54, 4, 21, 4, 29, 162, 0, 31, 44, 21, 4, 50]
abbrev dktX1_withKnots_0 : List UInt8 := dkwX1_withKnots_0 ++ dktX1_withKnots_1
theorem dksX1_withKnots_0 : cX1_withKnots.data.toList.drop 0 = dktX1_withKnots_0 := by decide +kernel
theorem dksX1_withKnots_1 : cX1_withKnots.data.toList.drop 23 = dktX1_withKnots_1 := dk_seg dksX1_withKnots_0 23 rfl rfl
theorem dksX1_withKnots_2 : cX1_withKnots.data.toList.drop 47 = dktX1_withKnots_2 := dk_seg dksX1_withKnots_1 24 rfl rfl
theorem dX1_withKnots_0 : decode cX1_withKnots 0 = .ok (.iconst 0, 1) := dk_3 (dk_at dksX1_withKnots_0 0 rfl rfl)
theorem dX1_withKnots_1 : decode cX1_withKnots 1 = .ok (.istore_n 1, 1) := dk_60 (dk_at dksX1_withKnots_0 1 rfl rfl)
theorem dX1_withKnots_2 : decode cX1_withKnots 2 = .ok (.aload_n 0, 1) := dk_42 (dk_at dksX1_withKnots_0 2 rfl rfl)
theorem dX1_withKnots_3 : decode cX1_withKnots 3 = .ok (.getfield 24, 3) := dk_180 0 24 (dk_at dksX1_withKnots_0 3 rfl rfl)
theorem dX1_withKnots_6 : decode cX1_withKnots 6 = .ok (.astore_n 2, 1) := dk_77 (dk_at dksX1_withKnots_0 6 rfl rfl)
theorem dX1_withKnots_7 : decode cX1_withKnots 7 = .ok (.aload_n 2, 1) := dk_44 (dk_at dksX1_withKnots_0 7 rfl rfl)
theorem dX1_withKnots_8 : decode cX1_withKnots 8 = .ok (.arraylength, 1) := dk_190 (dk_at dksX1_withKnots_0 8 rfl rfl)
theorem dX1_withKnots_9 : decode cX1_withKnots 9 = .ok (.istore_n 3, 1) := dk_62 (dk_at dksX1_withKnots_0 9 rfl rfl)
theorem dX1_withKnots_10 : decode cX1_withKnots 10 = .ok (.iconst 0, 1) := dk_3 (dk_at dksX1_withKnots_0 10 rfl rfl)
theorem dX1_withKnots_11 : decode cX1_withKnots 11 = .ok (.istore 4, 2) := dk_54 4 (dk_at dksX1_withKnots_0 11 rfl rfl)
theorem dX1_withKnots_13 : decode cX1_withKnots 13 = .ok (.iload 4, 2) := dk_21 4 (dk_at dksX1_withKnots_0 13 rfl rfl)
theorem dX1_withKnots_15 : decode cX1_withKnots 15 = .ok (.iload_n 3, 1) := dk_29 (dk_at dksX1_withKnots_0 15 rfl rfl)
theorem dX1_withKnots_16 : decode cX1_withKnots 16 = .ok (.if_icmp .ge 31, 3) := dk_162 0 31 (dk_at dksX1_withKnots_0 16 rfl rfl)
theorem dX1_withKnots_19 : decode cX1_withKnots 19 = .ok (.aload_n 2, 1) := dk_44 (dk_at dksX1_withKnots_0 19 rfl rfl)
theorem dX1_withKnots_20 : decode cX1_withKnots 20 = .ok (.iload 4, 2) := dk_21 4 (dk_at dksX1_withKnots_0 20 rfl rfl)
theorem dX1_withKnots_22 : decode cX1_withKnots 22 = .ok (.aaload, 1) := dk_50 (dk_at dksX1_withKnots_0 22 rfl rfl)
theorem dX1_withKnots_23 : decode cX1_withKnots 23 = .ok (.astore 5, 2) := dk_58 5 (dk_at dksX1_withKnots_1 0 rfl rfl)
theorem dX1_withKnots_25 : decode cX1_withKnots 25 = .ok (.iload_n 1, 1) := dk_27 (dk_at dksX1_withKnots_1 2 rfl rfl)
theorem dX1_withKnots_26 : decode cX1_withKnots 26 = .ok (.aload 5, 2) := dk_25 5 (dk_at dksX1_withKnots_1 3 rfl rfl)
theorem dX1_withKnots_28 : decode cX1_withKnots 28 = .ok (.invokevirtual 78, 3) := dk_182 0 78 (dk_at dksX1_withKnots_1 5 rfl rfl)
theorem dX1_withKnots_31 : decode cX1_withKnots 31 = .ok (.ifCond .eq 7, 3) := dk_153 0 7 (dk_at dksX1_withKnots_1 8 rfl rfl)
theorem dX1_withKnots_34 : decode cX1_withKnots 34 = .ok (.iconst 1, 1) := dk_4 (dk_at dksX1_withKnots_1 11 rfl rfl)
theorem dX1_withKnots_35 : decode cX1_withKnots 35 = .ok (.goto 4, 3) := dk_167 0 4 (dk_at dksX1_withKnots_1 12 rfl rfl)
theorem dX1_withKnots_38 : decode cX1_withKnots 38 = .ok (.iconst 0, 1) := dk_3 (dk_at dksX1_withKnots_1 15 rfl rfl)
theorem dX1_withKnots_39 : decode cX1_withKnots 39 = .ok (.iadd, 1) := dk_96 (dk_at dksX1_withKnots_1 16 rfl rfl)
theorem dX1_withKnots_40 : decode cX1_withKnots 40 = .ok (.istore_n 1, 1) := dk_60 (dk_at dksX1_withKnots_1 17 rfl rfl)
theorem dX1_withKnots_41 : decode cX1_withKnots 41 = .ok (.iinc 4 1, 3) := dk_132 4 1 (dk_at dksX1_withKnots_1 18 rfl rfl)
theorem dX1_withKnots_44 : decode cX1_withKnots 44 = .ok (.goto (-31), 3) := dk_167 255 225 (dk_at dksX1_withKnots_1 21 rfl rfl)
theorem dX1_withKnots_47 : decode cX1_withKnots 47 = .ok (.iload_n 1, 1) := dk_27 (dk_at dksX1_withKnots_2 0 rfl rfl)
theorem dX1_withKnots_48 : decode cX1_withKnots 48 = .ok (.ireturn, 1) := dk_172 (dk_at dksX1_withKnots_2 1 rfl rfl)
abbrev cX1_digest : ByteArray := prog_1_method_41_code
def yX1_digest : MethodName := ⟨RX1, "digest", "()J"⟩
def dkwX1_digest_10 : List UInt8 := [167, 255, 226, 31, 173]
abbrev dktX1_digest_10 : List UInt8 := dkwX1_digest_10 ++ []
def dkwX1_digest_9 : List UInt8 := [162, 0, 25, 31, 20, 1, 75, 105, 42, 180, 0, 49, 29, 182, 1, 69, 133, 97, 64, 132, 3, 1]
abbrev dktX1_digest_9 : List UInt8 := dkwX1_digest_9 ++ dktX1_digest_10
def dkwX1_digest_8 : List UInt8 := [133, 97, 64, 132, 5, 1, 167, 255, 219, 167, 255, 161, 3, 62, 29, 42, 180, 0, 49, 182, 1, 44]
abbrev dktX1_digest_8 : List UInt8 := dkwX1_digest_8 ++ dktX1_digest_9
def dkwX1_digest_7 : List UInt8 := [182, 0, 198, 162, 0, 30, 31, 20, 1, 75, 105, 25, 4, 180, 0, 200, 21, 5, 182, 0, 213, 16, 48, 100]
abbrev dktX1_digest_7 : List UInt8 := dkwX1_digest_7 ++ dktX1_digest_8
def dkwX1_digest_6 : List UInt8 := [21, 5, 182, 1, 58, 133, 97, 64, 132, 5, 1, 167, 255, 230, 3, 54, 5, 21, 5, 25, 4, 180, 0, 200]
abbrev dktX1_digest_6 : List UInt8 := dkwX1_digest_6 ++ dktX1_digest_7
def dkwX1_digest_5 : List UInt8 := [192, 0, 183, 58, 4, 3, 54, 5, 21, 5, 16, 7, 162, 0, 25, 31, 20, 1, 75, 105, 42, 25, 4]
abbrev dktX1_digest_5 : List UInt8 := dkwX1_digest_5 ++ dktX1_digest_6
def dkwX1_digest_4 : List UInt8 := [180, 0, 38, 182, 0, 126, 78, 45, 185, 0, 92, 1, 0, 153, 0, 92, 45, 185, 0, 97, 1, 0]
abbrev dktX1_digest_4 : List UInt8 := dkwX1_digest_4 ++ dktX1_digest_5
def dkwX1_digest_3 : List UInt8 := [25, 6, 21, 7, 182, 0, 74, 133, 97, 64, 132, 7, 1, 167, 255, 232, 132, 5, 1, 167, 255, 210, 42]
abbrev dktX1_digest_3 : List UInt8 := dkwX1_digest_3 ++ dktX1_digest_4
def dkwX1_digest_2 : List UInt8 := [162, 0, 45, 45, 21, 5, 50, 58, 6, 3, 54, 7, 21, 7, 6, 162, 0, 24, 31, 20, 1, 75, 105]
abbrev dktX1_digest_2 : List UInt8 := dkwX1_digest_2 ++ dktX1_digest_3
def dkwX1_digest_1 : List UInt8 := [64, 132, 3, 1, 167, 255, 234, 42, 180, 0, 24, 78, 45, 190, 54, 4, 3, 54, 5, 21, 5, 21, 4]
abbrev dktX1_digest_1 : List UInt8 := dkwX1_digest_1 ++ dktX1_digest_2
def dkwX1_digest_0 : List UInt8 := [20, 1, 73, 64, 3, 62, 29, 16, 7, 162, 0, 22, 31, 20, 1, 75, 105, 42, 29, 182, 1, 77, 133, 97]
abbrev dktX1_digest_0 : List UInt8 := dkwX1_digest_0 ++ dktX1_digest_1
theorem dksX1_digest_0 : cX1_digest.data.toList.drop 0 = dktX1_digest_0 := by decide +kernel
theorem dksX1_digest_1 : cX1_digest.data.toList.drop 24 = dktX1_digest_1 := dk_seg dksX1_digest_0 24 rfl rfl
theorem dksX1_digest_2 : cX1_digest.data.toList.drop 47 = dktX1_digest_2 := dk_seg dksX1_digest_1 23 rfl rfl
theorem dksX1_digest_3 : cX1_digest.data.toList.drop 70 = dktX1_digest_3 := dk_seg dksX1_digest_2 23 rfl rfl
theorem dksX1_digest_4 : cX1_digest.data.toList.drop 93 = dktX1_digest_4 := dk_seg dksX1_digest_3 23 rfl rfl
theorem dksX1_digest_5 : cX1_digest.data.toList.drop 115 = dktX1_digest_5 := dk_seg dksX1_digest_4 22 rfl rfl
theorem dksX1_digest_6 : cX1_digest.data.toList.drop 138 = dktX1_digest_6 := dk_seg dksX1_digest_5 23 rfl rfl
theorem dksX1_digest_7 : cX1_digest.data.toList.drop 162 = dktX1_digest_7 := dk_seg dksX1_digest_6 24 rfl rfl
theorem dksX1_digest_8 : cX1_digest.data.toList.drop 186 = dktX1_digest_8 := dk_seg dksX1_digest_7 24 rfl rfl
theorem dksX1_digest_9 : cX1_digest.data.toList.drop 208 = dktX1_digest_9 := dk_seg dksX1_digest_8 22 rfl rfl
theorem dksX1_digest_10 : cX1_digest.data.toList.drop 230 = dktX1_digest_10 := dk_seg dksX1_digest_9 22 rfl rfl
theorem dX1_digest_0 : decode cX1_digest 0 = .ok (.ldc2_w 329, 3) := dk_20 1 73 (dk_at dksX1_digest_0 0 rfl rfl)
theorem dX1_digest_3 : decode cX1_digest 3 = .ok (.lstore_n 1, 1) := dk_64 (dk_at dksX1_digest_0 3 rfl rfl)
theorem dX1_digest_4 : decode cX1_digest 4 = .ok (.iconst 0, 1) := dk_3 (dk_at dksX1_digest_0 4 rfl rfl)
theorem dX1_digest_5 : decode cX1_digest 5 = .ok (.istore_n 3, 1) := dk_62 (dk_at dksX1_digest_0 5 rfl rfl)
theorem dX1_digest_6 : decode cX1_digest 6 = .ok (.iload_n 3, 1) := dk_29 (dk_at dksX1_digest_0 6 rfl rfl)
theorem dX1_digest_7 : decode cX1_digest 7 = .ok (.bipush 7, 2) := dk_16 7 (dk_at dksX1_digest_0 7 rfl rfl)
theorem dX1_digest_9 : decode cX1_digest 9 = .ok (.if_icmp .ge 22, 3) := dk_162 0 22 (dk_at dksX1_digest_0 9 rfl rfl)
theorem dX1_digest_12 : decode cX1_digest 12 = .ok (.lload_n 1, 1) := dk_31 (dk_at dksX1_digest_0 12 rfl rfl)
theorem dX1_digest_13 : decode cX1_digest 13 = .ok (.ldc2_w 331, 3) := dk_20 1 75 (dk_at dksX1_digest_0 13 rfl rfl)
theorem dX1_digest_16 : decode cX1_digest 16 = .ok (.lmul, 1) := dk_105 (dk_at dksX1_digest_0 16 rfl rfl)
theorem dX1_digest_17 : decode cX1_digest 17 = .ok (.aload_n 0, 1) := dk_42 (dk_at dksX1_digest_0 17 rfl rfl)
theorem dX1_digest_18 : decode cX1_digest 18 = .ok (.iload_n 3, 1) := dk_29 (dk_at dksX1_digest_0 18 rfl rfl)
theorem dX1_digest_19 : decode cX1_digest 19 = .ok (.invokevirtual 333, 3) := dk_182 1 77 (dk_at dksX1_digest_0 19 rfl rfl)
theorem dX1_digest_22 : decode cX1_digest 22 = .ok (.i2l, 1) := dk_133 (dk_at dksX1_digest_0 22 rfl rfl)
theorem dX1_digest_23 : decode cX1_digest 23 = .ok (.ladd, 1) := dk_97 (dk_at dksX1_digest_0 23 rfl rfl)
theorem dX1_digest_24 : decode cX1_digest 24 = .ok (.lstore_n 1, 1) := dk_64 (dk_at dksX1_digest_1 0 rfl rfl)
theorem dX1_digest_25 : decode cX1_digest 25 = .ok (.iinc 3 1, 3) := dk_132 3 1 (dk_at dksX1_digest_1 1 rfl rfl)
theorem dX1_digest_28 : decode cX1_digest 28 = .ok (.goto (-22), 3) := dk_167 255 234 (dk_at dksX1_digest_1 4 rfl rfl)
theorem dX1_digest_31 : decode cX1_digest 31 = .ok (.aload_n 0, 1) := dk_42 (dk_at dksX1_digest_1 7 rfl rfl)
theorem dX1_digest_32 : decode cX1_digest 32 = .ok (.getfield 24, 3) := dk_180 0 24 (dk_at dksX1_digest_1 8 rfl rfl)
theorem dX1_digest_35 : decode cX1_digest 35 = .ok (.astore_n 3, 1) := dk_78 (dk_at dksX1_digest_1 11 rfl rfl)
theorem dX1_digest_36 : decode cX1_digest 36 = .ok (.aload_n 3, 1) := dk_45 (dk_at dksX1_digest_1 12 rfl rfl)
theorem dX1_digest_37 : decode cX1_digest 37 = .ok (.arraylength, 1) := dk_190 (dk_at dksX1_digest_1 13 rfl rfl)
theorem dX1_digest_38 : decode cX1_digest 38 = .ok (.istore 4, 2) := dk_54 4 (dk_at dksX1_digest_1 14 rfl rfl)
theorem dX1_digest_40 : decode cX1_digest 40 = .ok (.iconst 0, 1) := dk_3 (dk_at dksX1_digest_1 16 rfl rfl)
theorem dX1_digest_41 : decode cX1_digest 41 = .ok (.istore 5, 2) := dk_54 5 (dk_at dksX1_digest_1 17 rfl rfl)
theorem dX1_digest_43 : decode cX1_digest 43 = .ok (.iload 5, 2) := dk_21 5 (dk_at dksX1_digest_1 19 rfl rfl)
theorem dX1_digest_45 : decode cX1_digest 45 = .ok (.iload 4, 2) := dk_21 4 (dk_at dksX1_digest_1 21 rfl rfl)
theorem dX1_digest_47 : decode cX1_digest 47 = .ok (.if_icmp .ge 45, 3) := dk_162 0 45 (dk_at dksX1_digest_2 0 rfl rfl)
theorem dX1_digest_50 : decode cX1_digest 50 = .ok (.aload_n 3, 1) := dk_45 (dk_at dksX1_digest_2 3 rfl rfl)
theorem dX1_digest_51 : decode cX1_digest 51 = .ok (.iload 5, 2) := dk_21 5 (dk_at dksX1_digest_2 4 rfl rfl)
theorem dX1_digest_53 : decode cX1_digest 53 = .ok (.aaload, 1) := dk_50 (dk_at dksX1_digest_2 6 rfl rfl)
theorem dX1_digest_54 : decode cX1_digest 54 = .ok (.astore 6, 2) := dk_58 6 (dk_at dksX1_digest_2 7 rfl rfl)
theorem dX1_digest_56 : decode cX1_digest 56 = .ok (.iconst 0, 1) := dk_3 (dk_at dksX1_digest_2 9 rfl rfl)
theorem dX1_digest_57 : decode cX1_digest 57 = .ok (.istore 7, 2) := dk_54 7 (dk_at dksX1_digest_2 10 rfl rfl)
theorem dX1_digest_59 : decode cX1_digest 59 = .ok (.iload 7, 2) := dk_21 7 (dk_at dksX1_digest_2 12 rfl rfl)
theorem dX1_digest_61 : decode cX1_digest 61 = .ok (.iconst 3, 1) := dk_6 (dk_at dksX1_digest_2 14 rfl rfl)
theorem dX1_digest_62 : decode cX1_digest 62 = .ok (.if_icmp .ge 24, 3) := dk_162 0 24 (dk_at dksX1_digest_2 15 rfl rfl)
theorem dX1_digest_65 : decode cX1_digest 65 = .ok (.lload_n 1, 1) := dk_31 (dk_at dksX1_digest_2 18 rfl rfl)
theorem dX1_digest_66 : decode cX1_digest 66 = .ok (.ldc2_w 331, 3) := dk_20 1 75 (dk_at dksX1_digest_2 19 rfl rfl)
theorem dX1_digest_69 : decode cX1_digest 69 = .ok (.lmul, 1) := dk_105 (dk_at dksX1_digest_2 22 rfl rfl)
theorem dX1_digest_70 : decode cX1_digest 70 = .ok (.aload 6, 2) := dk_25 6 (dk_at dksX1_digest_3 0 rfl rfl)
theorem dX1_digest_72 : decode cX1_digest 72 = .ok (.iload 7, 2) := dk_21 7 (dk_at dksX1_digest_3 2 rfl rfl)
theorem dX1_digest_74 : decode cX1_digest 74 = .ok (.invokevirtual 74, 3) := dk_182 0 74 (dk_at dksX1_digest_3 4 rfl rfl)
theorem dX1_digest_77 : decode cX1_digest 77 = .ok (.i2l, 1) := dk_133 (dk_at dksX1_digest_3 7 rfl rfl)
theorem dX1_digest_78 : decode cX1_digest 78 = .ok (.ladd, 1) := dk_97 (dk_at dksX1_digest_3 8 rfl rfl)
theorem dX1_digest_79 : decode cX1_digest 79 = .ok (.lstore_n 1, 1) := dk_64 (dk_at dksX1_digest_3 9 rfl rfl)
theorem dX1_digest_80 : decode cX1_digest 80 = .ok (.iinc 7 1, 3) := dk_132 7 1 (dk_at dksX1_digest_3 10 rfl rfl)
theorem dX1_digest_83 : decode cX1_digest 83 = .ok (.goto (-24), 3) := dk_167 255 232 (dk_at dksX1_digest_3 13 rfl rfl)
theorem dX1_digest_86 : decode cX1_digest 86 = .ok (.iinc 5 1, 3) := dk_132 5 1 (dk_at dksX1_digest_3 16 rfl rfl)
theorem dX1_digest_89 : decode cX1_digest 89 = .ok (.goto (-46), 3) := dk_167 255 210 (dk_at dksX1_digest_3 19 rfl rfl)
theorem dX1_digest_92 : decode cX1_digest 92 = .ok (.aload_n 0, 1) := dk_42 (dk_at dksX1_digest_3 22 rfl rfl)
theorem dX1_digest_93 : decode cX1_digest 93 = .ok (.getfield 38, 3) := dk_180 0 38 (dk_at dksX1_digest_4 0 rfl rfl)
theorem dX1_digest_96 : decode cX1_digest 96 = .ok (.invokevirtual 126, 3) := dk_182 0 126 (dk_at dksX1_digest_4 3 rfl rfl)
theorem dX1_digest_99 : decode cX1_digest 99 = .ok (.astore_n 3, 1) := dk_78 (dk_at dksX1_digest_4 6 rfl rfl)
theorem dX1_digest_100 : decode cX1_digest 100 = .ok (.aload_n 3, 1) := dk_45 (dk_at dksX1_digest_4 7 rfl rfl)
theorem dX1_digest_101 : decode cX1_digest 101 = .ok (.invokeinterface 92 1, 5) := by decide +kernel
theorem dX1_digest_106 : decode cX1_digest 106 = .ok (.ifCond .eq 92, 3) := dk_153 0 92 (dk_at dksX1_digest_4 13 rfl rfl)
theorem dX1_digest_109 : decode cX1_digest 109 = .ok (.aload_n 3, 1) := dk_45 (dk_at dksX1_digest_4 16 rfl rfl)
theorem dX1_digest_110 : decode cX1_digest 110 = .ok (.invokeinterface 97 1, 5) := by decide +kernel
theorem dX1_digest_115 : decode cX1_digest 115 = .ok (.checkcast 183, 3) := dk_192 0 183 (dk_at dksX1_digest_5 0 rfl rfl)
theorem dX1_digest_118 : decode cX1_digest 118 = .ok (.astore 4, 2) := dk_58 4 (dk_at dksX1_digest_5 3 rfl rfl)
theorem dX1_digest_120 : decode cX1_digest 120 = .ok (.iconst 0, 1) := dk_3 (dk_at dksX1_digest_5 5 rfl rfl)
theorem dX1_digest_121 : decode cX1_digest 121 = .ok (.istore 5, 2) := dk_54 5 (dk_at dksX1_digest_5 6 rfl rfl)
theorem dX1_digest_123 : decode cX1_digest 123 = .ok (.iload 5, 2) := dk_21 5 (dk_at dksX1_digest_5 8 rfl rfl)
theorem dX1_digest_125 : decode cX1_digest 125 = .ok (.bipush 7, 2) := dk_16 7 (dk_at dksX1_digest_5 10 rfl rfl)
theorem dX1_digest_127 : decode cX1_digest 127 = .ok (.if_icmp .ge 25, 3) := dk_162 0 25 (dk_at dksX1_digest_5 12 rfl rfl)
theorem dX1_digest_130 : decode cX1_digest 130 = .ok (.lload_n 1, 1) := dk_31 (dk_at dksX1_digest_5 15 rfl rfl)
theorem dX1_digest_131 : decode cX1_digest 131 = .ok (.ldc2_w 331, 3) := dk_20 1 75 (dk_at dksX1_digest_5 16 rfl rfl)
theorem dX1_digest_134 : decode cX1_digest 134 = .ok (.lmul, 1) := dk_105 (dk_at dksX1_digest_5 19 rfl rfl)
theorem dX1_digest_135 : decode cX1_digest 135 = .ok (.aload_n 0, 1) := dk_42 (dk_at dksX1_digest_5 20 rfl rfl)
theorem dX1_digest_136 : decode cX1_digest 136 = .ok (.aload 4, 2) := dk_25 4 (dk_at dksX1_digest_5 21 rfl rfl)
theorem dX1_digest_138 : decode cX1_digest 138 = .ok (.iload 5, 2) := dk_21 5 (dk_at dksX1_digest_6 0 rfl rfl)
theorem dX1_digest_140 : decode cX1_digest 140 = .ok (.invokevirtual 314, 3) := dk_182 1 58 (dk_at dksX1_digest_6 2 rfl rfl)
theorem dX1_digest_143 : decode cX1_digest 143 = .ok (.i2l, 1) := dk_133 (dk_at dksX1_digest_6 5 rfl rfl)
theorem dX1_digest_144 : decode cX1_digest 144 = .ok (.ladd, 1) := dk_97 (dk_at dksX1_digest_6 6 rfl rfl)
theorem dX1_digest_145 : decode cX1_digest 145 = .ok (.lstore_n 1, 1) := dk_64 (dk_at dksX1_digest_6 7 rfl rfl)
theorem dX1_digest_146 : decode cX1_digest 146 = .ok (.iinc 5 1, 3) := dk_132 5 1 (dk_at dksX1_digest_6 8 rfl rfl)
theorem dX1_digest_149 : decode cX1_digest 149 = .ok (.goto (-26), 3) := dk_167 255 230 (dk_at dksX1_digest_6 11 rfl rfl)
theorem dX1_digest_152 : decode cX1_digest 152 = .ok (.iconst 0, 1) := dk_3 (dk_at dksX1_digest_6 14 rfl rfl)
theorem dX1_digest_153 : decode cX1_digest 153 = .ok (.istore 5, 2) := dk_54 5 (dk_at dksX1_digest_6 15 rfl rfl)
theorem dX1_digest_155 : decode cX1_digest 155 = .ok (.iload 5, 2) := dk_21 5 (dk_at dksX1_digest_6 17 rfl rfl)
theorem dX1_digest_157 : decode cX1_digest 157 = .ok (.aload 4, 2) := dk_25 4 (dk_at dksX1_digest_6 19 rfl rfl)
theorem dX1_digest_159 : decode cX1_digest 159 = .ok (.getfield 200, 3) := dk_180 0 200 (dk_at dksX1_digest_6 21 rfl rfl)
theorem dX1_digest_162 : decode cX1_digest 162 = .ok (.invokevirtual 198, 3) := dk_182 0 198 (dk_at dksX1_digest_7 0 rfl rfl)
theorem dX1_digest_165 : decode cX1_digest 165 = .ok (.if_icmp .ge 30, 3) := dk_162 0 30 (dk_at dksX1_digest_7 3 rfl rfl)
theorem dX1_digest_168 : decode cX1_digest 168 = .ok (.lload_n 1, 1) := dk_31 (dk_at dksX1_digest_7 6 rfl rfl)
theorem dX1_digest_169 : decode cX1_digest 169 = .ok (.ldc2_w 331, 3) := dk_20 1 75 (dk_at dksX1_digest_7 7 rfl rfl)
theorem dX1_digest_172 : decode cX1_digest 172 = .ok (.lmul, 1) := dk_105 (dk_at dksX1_digest_7 10 rfl rfl)
theorem dX1_digest_173 : decode cX1_digest 173 = .ok (.aload 4, 2) := dk_25 4 (dk_at dksX1_digest_7 11 rfl rfl)
theorem dX1_digest_175 : decode cX1_digest 175 = .ok (.getfield 200, 3) := dk_180 0 200 (dk_at dksX1_digest_7 13 rfl rfl)
theorem dX1_digest_178 : decode cX1_digest 178 = .ok (.iload 5, 2) := dk_21 5 (dk_at dksX1_digest_7 16 rfl rfl)
theorem dX1_digest_180 : decode cX1_digest 180 = .ok (.invokevirtual 213, 3) := dk_182 0 213 (dk_at dksX1_digest_7 18 rfl rfl)
theorem dX1_digest_183 : decode cX1_digest 183 = .ok (.bipush 48, 2) := dk_16 48 (dk_at dksX1_digest_7 21 rfl rfl)
theorem dX1_digest_185 : decode cX1_digest 185 = .ok (.isub, 1) := dk_100 (dk_at dksX1_digest_7 23 rfl rfl)
theorem dX1_digest_186 : decode cX1_digest 186 = .ok (.i2l, 1) := dk_133 (dk_at dksX1_digest_8 0 rfl rfl)
theorem dX1_digest_187 : decode cX1_digest 187 = .ok (.ladd, 1) := dk_97 (dk_at dksX1_digest_8 1 rfl rfl)
theorem dX1_digest_188 : decode cX1_digest 188 = .ok (.lstore_n 1, 1) := dk_64 (dk_at dksX1_digest_8 2 rfl rfl)
theorem dX1_digest_189 : decode cX1_digest 189 = .ok (.iinc 5 1, 3) := dk_132 5 1 (dk_at dksX1_digest_8 3 rfl rfl)
theorem dX1_digest_192 : decode cX1_digest 192 = .ok (.goto (-37), 3) := dk_167 255 219 (dk_at dksX1_digest_8 6 rfl rfl)
theorem dX1_digest_195 : decode cX1_digest 195 = .ok (.goto (-95), 3) := dk_167 255 161 (dk_at dksX1_digest_8 9 rfl rfl)
theorem dX1_digest_198 : decode cX1_digest 198 = .ok (.iconst 0, 1) := dk_3 (dk_at dksX1_digest_8 12 rfl rfl)
theorem dX1_digest_199 : decode cX1_digest 199 = .ok (.istore_n 3, 1) := dk_62 (dk_at dksX1_digest_8 13 rfl rfl)
theorem dX1_digest_200 : decode cX1_digest 200 = .ok (.iload_n 3, 1) := dk_29 (dk_at dksX1_digest_8 14 rfl rfl)
theorem dX1_digest_201 : decode cX1_digest 201 = .ok (.aload_n 0, 1) := dk_42 (dk_at dksX1_digest_8 15 rfl rfl)
theorem dX1_digest_202 : decode cX1_digest 202 = .ok (.getfield 49, 3) := dk_180 0 49 (dk_at dksX1_digest_8 16 rfl rfl)
theorem dX1_digest_205 : decode cX1_digest 205 = .ok (.invokevirtual 300, 3) := dk_182 1 44 (dk_at dksX1_digest_8 19 rfl rfl)
theorem dX1_digest_208 : decode cX1_digest 208 = .ok (.if_icmp .ge 25, 3) := dk_162 0 25 (dk_at dksX1_digest_9 0 rfl rfl)
theorem dX1_digest_211 : decode cX1_digest 211 = .ok (.lload_n 1, 1) := dk_31 (dk_at dksX1_digest_9 3 rfl rfl)
theorem dX1_digest_212 : decode cX1_digest 212 = .ok (.ldc2_w 331, 3) := dk_20 1 75 (dk_at dksX1_digest_9 4 rfl rfl)
theorem dX1_digest_215 : decode cX1_digest 215 = .ok (.lmul, 1) := dk_105 (dk_at dksX1_digest_9 7 rfl rfl)
theorem dX1_digest_216 : decode cX1_digest 216 = .ok (.aload_n 0, 1) := dk_42 (dk_at dksX1_digest_9 8 rfl rfl)
theorem dX1_digest_217 : decode cX1_digest 217 = .ok (.getfield 49, 3) := dk_180 0 49 (dk_at dksX1_digest_9 9 rfl rfl)
theorem dX1_digest_220 : decode cX1_digest 220 = .ok (.iload_n 3, 1) := dk_29 (dk_at dksX1_digest_9 12 rfl rfl)
theorem dX1_digest_221 : decode cX1_digest 221 = .ok (.invokevirtual 325, 3) := dk_182 1 69 (dk_at dksX1_digest_9 13 rfl rfl)
theorem dX1_digest_224 : decode cX1_digest 224 = .ok (.i2l, 1) := dk_133 (dk_at dksX1_digest_9 16 rfl rfl)
theorem dX1_digest_225 : decode cX1_digest 225 = .ok (.ladd, 1) := dk_97 (dk_at dksX1_digest_9 17 rfl rfl)
theorem dX1_digest_226 : decode cX1_digest 226 = .ok (.lstore_n 1, 1) := dk_64 (dk_at dksX1_digest_9 18 rfl rfl)
theorem dX1_digest_227 : decode cX1_digest 227 = .ok (.iinc 3 1, 3) := dk_132 3 1 (dk_at dksX1_digest_9 19 rfl rfl)
theorem dX1_digest_230 : decode cX1_digest 230 = .ok (.goto (-30), 3) := dk_167 255 226 (dk_at dksX1_digest_10 0 rfl rfl)
theorem dX1_digest_233 : decode cX1_digest 233 = .ok (.lload_n 1, 1) := dk_31 (dk_at dksX1_digest_10 3 rfl rfl)
theorem dX1_digest_234 : decode cX1_digest 234 = .ok (.lreturn, 1) := dk_173 (dk_at dksX1_digest_10 4 rfl rfl)
abbrev cX1_count : ByteArray := prog_1_method_39_code
def yX1_count : MethodName := ⟨RX1, "count", "(I)I"⟩
def dkwX1_count_3 : List UInt8 := [180, 0, 221, 172, 42, 180, 0, 185, 172, 42, 180, 0, 49, 182, 1, 44, 172]
abbrev dktX1_count_3 : List UInt8 := dkwX1_count_3 ++ []
def dkwX1_count_2 : List UInt8 := [42, 182, 1, 70, 172, 42, 180, 0, 38, 182, 0, 179, 172, 42, 180, 0, 217, 172, 42, 180, 0, 225, 172, 42]
abbrev dktX1_count_2 : List UInt8 := dkwX1_count_2 ++ dktX1_count_3
def dkwX1_count_1 : List UInt8 := [170, 0, 0, 0, 70, 0, 0, 0, 0, 0, 0, 0, 5, 0, 0, 0, 37, 0, 0, 0, 42, 0, 0, 0, 50, 0, 0, 0, 55, 0, 0, 0, 60, 0, 0, 0, 65]
abbrev dktX1_count_1 : List UInt8 := dkwX1_count_1 ++ dktX1_count_2
def dkwX1_count_0 : List UInt8 := [27, 16, 7, 184, 0, 56, 27]
abbrev dktX1_count_0 : List UInt8 := dkwX1_count_0 ++ dktX1_count_1
theorem dksX1_count_0 : cX1_count.data.toList.drop 0 = dktX1_count_0 := by decide +kernel
theorem dksX1_count_1 : cX1_count.data.toList.drop 7 = dktX1_count_1 := dk_seg dksX1_count_0 7 rfl rfl
theorem dksX1_count_2 : cX1_count.data.toList.drop 44 = dktX1_count_2 := dk_seg dksX1_count_1 37 rfl rfl
theorem dksX1_count_3 : cX1_count.data.toList.drop 68 = dktX1_count_3 := dk_seg dksX1_count_2 24 rfl rfl
theorem dX1_count_0 : decode cX1_count 0 = .ok (.iload_n 1, 1) := dk_27 (dk_at dksX1_count_0 0 rfl rfl)
theorem dX1_count_1 : decode cX1_count 1 = .ok (.bipush 7, 2) := dk_16 7 (dk_at dksX1_count_0 1 rfl rfl)
theorem dX1_count_3 : decode cX1_count 3 = .ok (.invokestatic 56, 3) := dk_184 0 56 (dk_at dksX1_count_0 3 rfl rfl)
theorem dX1_count_6 : decode cX1_count 6 = .ok (.iload_n 1, 1) := dk_27 (dk_at dksX1_count_0 6 rfl rfl)
theorem dX1_count_7 : decode cX1_count 7 = .ok (.tableswitch 70 0 5 #[37, 42, 50, 55, 60, 65], 37) := by decide +kernel
theorem dX1_count_44 : decode cX1_count 44 = .ok (.aload_n 0, 1) := dk_42 (dk_at dksX1_count_2 0 rfl rfl)
theorem dX1_count_45 : decode cX1_count 45 = .ok (.invokevirtual 326, 3) := dk_182 1 70 (dk_at dksX1_count_2 1 rfl rfl)
theorem dX1_count_48 : decode cX1_count 48 = .ok (.ireturn, 1) := dk_172 (dk_at dksX1_count_2 4 rfl rfl)
theorem dX1_count_49 : decode cX1_count 49 = .ok (.aload_n 0, 1) := dk_42 (dk_at dksX1_count_2 5 rfl rfl)
theorem dX1_count_50 : decode cX1_count 50 = .ok (.getfield 38, 3) := dk_180 0 38 (dk_at dksX1_count_2 6 rfl rfl)
theorem dX1_count_53 : decode cX1_count 53 = .ok (.invokevirtual 179, 3) := dk_182 0 179 (dk_at dksX1_count_2 9 rfl rfl)
theorem dX1_count_56 : decode cX1_count 56 = .ok (.ireturn, 1) := dk_172 (dk_at dksX1_count_2 12 rfl rfl)
theorem dX1_count_57 : decode cX1_count 57 = .ok (.aload_n 0, 1) := dk_42 (dk_at dksX1_count_2 13 rfl rfl)
theorem dX1_count_58 : decode cX1_count 58 = .ok (.getfield 217, 3) := dk_180 0 217 (dk_at dksX1_count_2 14 rfl rfl)
theorem dX1_count_61 : decode cX1_count 61 = .ok (.ireturn, 1) := dk_172 (dk_at dksX1_count_2 17 rfl rfl)
theorem dX1_count_62 : decode cX1_count 62 = .ok (.aload_n 0, 1) := dk_42 (dk_at dksX1_count_2 18 rfl rfl)
theorem dX1_count_63 : decode cX1_count 63 = .ok (.getfield 225, 3) := dk_180 0 225 (dk_at dksX1_count_2 19 rfl rfl)
theorem dX1_count_66 : decode cX1_count 66 = .ok (.ireturn, 1) := dk_172 (dk_at dksX1_count_2 22 rfl rfl)
theorem dX1_count_67 : decode cX1_count 67 = .ok (.aload_n 0, 1) := dk_42 (dk_at dksX1_count_2 23 rfl rfl)
theorem dX1_count_68 : decode cX1_count 68 = .ok (.getfield 221, 3) := dk_180 0 221 (dk_at dksX1_count_3 0 rfl rfl)
theorem dX1_count_71 : decode cX1_count 71 = .ok (.ireturn, 1) := dk_172 (dk_at dksX1_count_3 3 rfl rfl)
theorem dX1_count_72 : decode cX1_count 72 = .ok (.aload_n 0, 1) := dk_42 (dk_at dksX1_count_3 4 rfl rfl)
theorem dX1_count_73 : decode cX1_count 73 = .ok (.getfield 185, 3) := dk_180 0 185 (dk_at dksX1_count_3 5 rfl rfl)
theorem dX1_count_76 : decode cX1_count 76 = .ok (.ireturn, 1) := dk_172 (dk_at dksX1_count_3 8 rfl rfl)
theorem dX1_count_77 : decode cX1_count 77 = .ok (.aload_n 0, 1) := dk_42 (dk_at dksX1_count_3 9 rfl rfl)
theorem dX1_count_78 : decode cX1_count 78 = .ok (.getfield 49, 3) := dk_180 0 49 (dk_at dksX1_count_3 10 rfl rfl)
theorem dX1_count_81 : decode cX1_count 81 = .ok (.invokevirtual 300, 3) := dk_182 1 44 (dk_at dksX1_count_3 13 rfl rfl)
theorem dX1_count_84 : decode cX1_count 84 = .ok (.ireturn, 1) := dk_172 (dk_at dksX1_count_3 16 rfl rfl)
abbrev cX1_requireIndex : ByteArray := prog_1_method_3_code
def yX1_requireIndex : MethodName := ⟨RX1, "requireIndex", "(II)V"⟩
def dkwX1_requireIndex_0 : List UInt8 := [26, 155, 0, 8, 26, 27, 161, 0, 11, 187, 0, 10, 89, 183, 0, 12, 191, 177]
abbrev dktX1_requireIndex_0 : List UInt8 := dkwX1_requireIndex_0 ++ []
theorem dksX1_requireIndex_0 : cX1_requireIndex.data.toList.drop 0 = dktX1_requireIndex_0 := by decide +kernel
theorem dX1_requireIndex_0 : decode cX1_requireIndex 0 = .ok (.iload_n 0, 1) := dk_26 (dk_at dksX1_requireIndex_0 0 rfl rfl)
theorem dX1_requireIndex_1 : decode cX1_requireIndex 1 = .ok (.ifCond .lt 8, 3) := dk_155 0 8 (dk_at dksX1_requireIndex_0 1 rfl rfl)
theorem dX1_requireIndex_4 : decode cX1_requireIndex 4 = .ok (.iload_n 0, 1) := dk_26 (dk_at dksX1_requireIndex_0 4 rfl rfl)
theorem dX1_requireIndex_5 : decode cX1_requireIndex 5 = .ok (.iload_n 1, 1) := dk_27 (dk_at dksX1_requireIndex_0 5 rfl rfl)
theorem dX1_requireIndex_6 : decode cX1_requireIndex 6 = .ok (.if_icmp .lt 11, 3) := dk_161 0 11 (dk_at dksX1_requireIndex_0 6 rfl rfl)
theorem dX1_requireIndex_9 : decode cX1_requireIndex 9 = .ok (.new 10, 3) := dk_187 0 10 (dk_at dksX1_requireIndex_0 9 rfl rfl)
theorem dX1_requireIndex_12 : decode cX1_requireIndex 12 = .ok (.dup, 1) := dk_89 (dk_at dksX1_requireIndex_0 12 rfl rfl)
theorem dX1_requireIndex_13 : decode cX1_requireIndex 13 = .ok (.invokespecial 12, 3) := dk_183 0 12 (dk_at dksX1_requireIndex_0 13 rfl rfl)
theorem dX1_requireIndex_16 : decode cX1_requireIndex 16 = .ok (.athrow, 1) := dk_191 (dk_at dksX1_requireIndex_0 16 rfl rfl)
theorem dX1_requireIndex_17 : decode cX1_requireIndex 17 = .ok (.return_, 1) := dk_177 (dk_at dksX1_requireIndex_0 17 rfl rfl)
abbrev cX1_cordGet : ByteArray := prog_1_method_30_code
def yX1_cordGet : MethodName := ⟨RX1, "cordGet", "(LKnotLetters$Cord;I)I"⟩
def dkwX1_cordGet_7 : List UInt8 := [184, 1, 51, 55, 4, 167, 255, 216, 22, 4, 136, 172]
abbrev dktX1_cordGet_7 : List UInt8 := dkwX1_cordGet_7 ++ []
def dkwX1_cordGet_6 : List UInt8 := [185, 0, 97, 1, 0, 192, 0, 61, 58, 7, 20, 1, 45, 22, 4, 42, 25, 7, 182, 1, 47, 133, 105]
abbrev dktX1_cordGet_6 : List UInt8 := dkwX1_cordGet_6 ++ dktX1_cordGet_7
def dkwX1_cordGet_5 : List UInt8 := [42, 43, 182, 1, 21, 182, 0, 126, 58, 6, 25, 6, 185, 0, 92, 1, 0, 153, 0, 36, 25, 6]
abbrev dktX1_cordGet_5 : List UInt8 := dkwX1_cordGet_5 ++ dktX1_cordGet_6
def dkwX1_cordGet_4 : List UInt8 := [78, 42, 43, 45, 182, 1, 40, 87, 45, 182, 1, 44, 43, 180, 0, 200, 182, 1, 37, 100, 172, 10, 55, 4]
abbrev dktX1_cordGet_4 : List UInt8 := dkwX1_cordGet_4 ++ dktX1_cordGet_5
def dkwX1_cordGet_3 : List UInt8 := [180, 0, 218, 172, 42, 43, 187, 0, 46, 89, 183, 0, 48, 182, 1, 40, 172, 187, 0, 46, 89, 183, 0, 48]
abbrev dktX1_cordGet_3 : List UInt8 := dkwX1_cordGet_3 ++ dktX1_cordGet_4
def dkwX1_cordGet_2 : List UInt8 := [43, 180, 0, 200, 182, 0, 198, 172, 43, 180, 0, 200, 182, 1, 37, 172, 43, 180, 0, 222, 172, 43]
abbrev dktX1_cordGet_2 : List UInt8 := dkwX1_cordGet_2 ++ dktX1_cordGet_3
def dkwX1_cordGet_1 : List UInt8 := [170, 0, 0, 0, 0, 0, 106, 0, 0, 0, 0, 0, 0, 0, 5, 0, 0, 0, 39, 0, 0, 0, 47, 0, 0, 0, 55, 0, 0, 0, 60, 0, 0, 0, 65, 0, 0, 0, 78]
abbrev dktX1_cordGet_1 : List UInt8 := dkwX1_cordGet_1 ++ dktX1_cordGet_2
def dkwX1_cordGet_0 : List UInt8 := [28]
abbrev dktX1_cordGet_0 : List UInt8 := dkwX1_cordGet_0 ++ dktX1_cordGet_1
theorem dksX1_cordGet_0 : cX1_cordGet.data.toList.drop 0 = dktX1_cordGet_0 := by decide +kernel
theorem dksX1_cordGet_1 : cX1_cordGet.data.toList.drop 1 = dktX1_cordGet_1 := dk_seg dksX1_cordGet_0 1 rfl rfl
theorem dksX1_cordGet_2 : cX1_cordGet.data.toList.drop 40 = dktX1_cordGet_2 := dk_seg dksX1_cordGet_1 39 rfl rfl
theorem dksX1_cordGet_3 : cX1_cordGet.data.toList.drop 62 = dktX1_cordGet_3 := dk_seg dksX1_cordGet_2 22 rfl rfl
theorem dksX1_cordGet_4 : cX1_cordGet.data.toList.drop 86 = dktX1_cordGet_4 := dk_seg dksX1_cordGet_3 24 rfl rfl
theorem dksX1_cordGet_5 : cX1_cordGet.data.toList.drop 110 = dktX1_cordGet_5 := dk_seg dksX1_cordGet_4 24 rfl rfl
theorem dksX1_cordGet_6 : cX1_cordGet.data.toList.drop 132 = dktX1_cordGet_6 := dk_seg dksX1_cordGet_5 22 rfl rfl
theorem dksX1_cordGet_7 : cX1_cordGet.data.toList.drop 155 = dktX1_cordGet_7 := dk_seg dksX1_cordGet_6 23 rfl rfl
theorem dX1_cordGet_0 : decode cX1_cordGet 0 = .ok (.iload_n 2, 1) := dk_28 (dk_at dksX1_cordGet_0 0 rfl rfl)
theorem dX1_cordGet_1 : decode cX1_cordGet 1 = .ok (.tableswitch 106 0 5 #[39, 47, 55, 60, 65, 78], 39) := by decide +kernel
theorem dX1_cordGet_40 : decode cX1_cordGet 40 = .ok (.aload_n 1, 1) := dk_43 (dk_at dksX1_cordGet_2 0 rfl rfl)
theorem dX1_cordGet_41 : decode cX1_cordGet 41 = .ok (.getfield 200, 3) := dk_180 0 200 (dk_at dksX1_cordGet_2 1 rfl rfl)
theorem dX1_cordGet_44 : decode cX1_cordGet 44 = .ok (.invokevirtual 198, 3) := dk_182 0 198 (dk_at dksX1_cordGet_2 4 rfl rfl)
theorem dX1_cordGet_47 : decode cX1_cordGet 47 = .ok (.ireturn, 1) := dk_172 (dk_at dksX1_cordGet_2 7 rfl rfl)
theorem dX1_cordGet_48 : decode cX1_cordGet 48 = .ok (.aload_n 1, 1) := dk_43 (dk_at dksX1_cordGet_2 8 rfl rfl)
theorem dX1_cordGet_49 : decode cX1_cordGet 49 = .ok (.getfield 200, 3) := dk_180 0 200 (dk_at dksX1_cordGet_2 9 rfl rfl)
theorem dX1_cordGet_52 : decode cX1_cordGet 52 = .ok (.invokevirtual 293, 3) := dk_182 1 37 (dk_at dksX1_cordGet_2 12 rfl rfl)
theorem dX1_cordGet_55 : decode cX1_cordGet 55 = .ok (.ireturn, 1) := dk_172 (dk_at dksX1_cordGet_2 15 rfl rfl)
theorem dX1_cordGet_56 : decode cX1_cordGet 56 = .ok (.aload_n 1, 1) := dk_43 (dk_at dksX1_cordGet_2 16 rfl rfl)
theorem dX1_cordGet_57 : decode cX1_cordGet 57 = .ok (.getfield 222, 3) := dk_180 0 222 (dk_at dksX1_cordGet_2 17 rfl rfl)
theorem dX1_cordGet_60 : decode cX1_cordGet 60 = .ok (.ireturn, 1) := dk_172 (dk_at dksX1_cordGet_2 20 rfl rfl)
theorem dX1_cordGet_61 : decode cX1_cordGet 61 = .ok (.aload_n 1, 1) := dk_43 (dk_at dksX1_cordGet_2 21 rfl rfl)
theorem dX1_cordGet_62 : decode cX1_cordGet 62 = .ok (.getfield 218, 3) := dk_180 0 218 (dk_at dksX1_cordGet_3 0 rfl rfl)
theorem dX1_cordGet_65 : decode cX1_cordGet 65 = .ok (.ireturn, 1) := dk_172 (dk_at dksX1_cordGet_3 3 rfl rfl)
theorem dX1_cordGet_66 : decode cX1_cordGet 66 = .ok (.aload_n 0, 1) := dk_42 (dk_at dksX1_cordGet_3 4 rfl rfl)
theorem dX1_cordGet_67 : decode cX1_cordGet 67 = .ok (.aload_n 1, 1) := dk_43 (dk_at dksX1_cordGet_3 5 rfl rfl)
theorem dX1_cordGet_68 : decode cX1_cordGet 68 = .ok (.new 46, 3) := dk_187 0 46 (dk_at dksX1_cordGet_3 6 rfl rfl)
theorem dX1_cordGet_71 : decode cX1_cordGet 71 = .ok (.dup, 1) := dk_89 (dk_at dksX1_cordGet_3 9 rfl rfl)
theorem dX1_cordGet_72 : decode cX1_cordGet 72 = .ok (.invokespecial 48, 3) := dk_183 0 48 (dk_at dksX1_cordGet_3 10 rfl rfl)
theorem dX1_cordGet_75 : decode cX1_cordGet 75 = .ok (.invokevirtual 296, 3) := dk_182 1 40 (dk_at dksX1_cordGet_3 13 rfl rfl)
theorem dX1_cordGet_78 : decode cX1_cordGet 78 = .ok (.ireturn, 1) := dk_172 (dk_at dksX1_cordGet_3 16 rfl rfl)
theorem dX1_cordGet_79 : decode cX1_cordGet 79 = .ok (.new 46, 3) := dk_187 0 46 (dk_at dksX1_cordGet_3 17 rfl rfl)
theorem dX1_cordGet_82 : decode cX1_cordGet 82 = .ok (.dup, 1) := dk_89 (dk_at dksX1_cordGet_3 20 rfl rfl)
theorem dX1_cordGet_83 : decode cX1_cordGet 83 = .ok (.invokespecial 48, 3) := dk_183 0 48 (dk_at dksX1_cordGet_3 21 rfl rfl)
theorem dX1_cordGet_86 : decode cX1_cordGet 86 = .ok (.astore_n 3, 1) := dk_78 (dk_at dksX1_cordGet_4 0 rfl rfl)
theorem dX1_cordGet_87 : decode cX1_cordGet 87 = .ok (.aload_n 0, 1) := dk_42 (dk_at dksX1_cordGet_4 1 rfl rfl)
theorem dX1_cordGet_88 : decode cX1_cordGet 88 = .ok (.aload_n 1, 1) := dk_43 (dk_at dksX1_cordGet_4 2 rfl rfl)
theorem dX1_cordGet_89 : decode cX1_cordGet 89 = .ok (.aload_n 3, 1) := dk_45 (dk_at dksX1_cordGet_4 3 rfl rfl)
theorem dX1_cordGet_90 : decode cX1_cordGet 90 = .ok (.invokevirtual 296, 3) := dk_182 1 40 (dk_at dksX1_cordGet_4 4 rfl rfl)
theorem dX1_cordGet_93 : decode cX1_cordGet 93 = .ok (.pop, 1) := dk_87 (dk_at dksX1_cordGet_4 7 rfl rfl)
theorem dX1_cordGet_94 : decode cX1_cordGet 94 = .ok (.aload_n 3, 1) := dk_45 (dk_at dksX1_cordGet_4 8 rfl rfl)
theorem dX1_cordGet_95 : decode cX1_cordGet 95 = .ok (.invokevirtual 300, 3) := dk_182 1 44 (dk_at dksX1_cordGet_4 9 rfl rfl)
theorem dX1_cordGet_98 : decode cX1_cordGet 98 = .ok (.aload_n 1, 1) := dk_43 (dk_at dksX1_cordGet_4 12 rfl rfl)
theorem dX1_cordGet_99 : decode cX1_cordGet 99 = .ok (.getfield 200, 3) := dk_180 0 200 (dk_at dksX1_cordGet_4 13 rfl rfl)
theorem dX1_cordGet_102 : decode cX1_cordGet 102 = .ok (.invokevirtual 293, 3) := dk_182 1 37 (dk_at dksX1_cordGet_4 16 rfl rfl)
theorem dX1_cordGet_105 : decode cX1_cordGet 105 = .ok (.isub, 1) := dk_100 (dk_at dksX1_cordGet_4 19 rfl rfl)
theorem dX1_cordGet_106 : decode cX1_cordGet 106 = .ok (.ireturn, 1) := dk_172 (dk_at dksX1_cordGet_4 20 rfl rfl)
theorem dX1_cordGet_107 : decode cX1_cordGet 107 = .ok (.lconst 1, 1) := dk_10 (dk_at dksX1_cordGet_4 21 rfl rfl)
theorem dX1_cordGet_108 : decode cX1_cordGet 108 = .ok (.lstore 4, 2) := dk_55 4 (dk_at dksX1_cordGet_4 22 rfl rfl)
theorem dX1_cordGet_110 : decode cX1_cordGet 110 = .ok (.aload_n 0, 1) := dk_42 (dk_at dksX1_cordGet_5 0 rfl rfl)
theorem dX1_cordGet_111 : decode cX1_cordGet 111 = .ok (.aload_n 1, 1) := dk_43 (dk_at dksX1_cordGet_5 1 rfl rfl)
theorem dX1_cordGet_112 : decode cX1_cordGet 112 = .ok (.invokevirtual 277, 3) := dk_182 1 21 (dk_at dksX1_cordGet_5 2 rfl rfl)
theorem dX1_cordGet_115 : decode cX1_cordGet 115 = .ok (.invokevirtual 126, 3) := dk_182 0 126 (dk_at dksX1_cordGet_5 5 rfl rfl)
theorem dX1_cordGet_118 : decode cX1_cordGet 118 = .ok (.astore 6, 2) := dk_58 6 (dk_at dksX1_cordGet_5 8 rfl rfl)
theorem dX1_cordGet_120 : decode cX1_cordGet 120 = .ok (.aload 6, 2) := dk_25 6 (dk_at dksX1_cordGet_5 10 rfl rfl)
theorem dX1_cordGet_122 : decode cX1_cordGet 122 = .ok (.invokeinterface 92 1, 5) := by decide +kernel
theorem dX1_cordGet_127 : decode cX1_cordGet 127 = .ok (.ifCond .eq 36, 3) := dk_153 0 36 (dk_at dksX1_cordGet_5 17 rfl rfl)
theorem dX1_cordGet_130 : decode cX1_cordGet 130 = .ok (.aload 6, 2) := dk_25 6 (dk_at dksX1_cordGet_5 20 rfl rfl)
theorem dX1_cordGet_132 : decode cX1_cordGet 132 = .ok (.invokeinterface 97 1, 5) := by decide +kernel
theorem dX1_cordGet_137 : decode cX1_cordGet 137 = .ok (.checkcast 61, 3) := dk_192 0 61 (dk_at dksX1_cordGet_6 5 rfl rfl)
theorem dX1_cordGet_140 : decode cX1_cordGet 140 = .ok (.astore 7, 2) := dk_58 7 (dk_at dksX1_cordGet_6 8 rfl rfl)
theorem dX1_cordGet_142 : decode cX1_cordGet 142 = .ok (.ldc2_w 301, 3) := dk_20 1 45 (dk_at dksX1_cordGet_6 10 rfl rfl)
theorem dX1_cordGet_145 : decode cX1_cordGet 145 = .ok (.lload 4, 2) := dk_22 4 (dk_at dksX1_cordGet_6 13 rfl rfl)
theorem dX1_cordGet_147 : decode cX1_cordGet 147 = .ok (.aload_n 0, 1) := dk_42 (dk_at dksX1_cordGet_6 15 rfl rfl)
theorem dX1_cordGet_148 : decode cX1_cordGet 148 = .ok (.aload 7, 2) := dk_25 7 (dk_at dksX1_cordGet_6 16 rfl rfl)
theorem dX1_cordGet_150 : decode cX1_cordGet 150 = .ok (.invokevirtual 303, 3) := dk_182 1 47 (dk_at dksX1_cordGet_6 18 rfl rfl)
theorem dX1_cordGet_153 : decode cX1_cordGet 153 = .ok (.i2l, 1) := dk_133 (dk_at dksX1_cordGet_6 21 rfl rfl)
theorem dX1_cordGet_154 : decode cX1_cordGet 154 = .ok (.lmul, 1) := dk_105 (dk_at dksX1_cordGet_6 22 rfl rfl)
theorem dX1_cordGet_155 : decode cX1_cordGet 155 = .ok (.invokestatic 307, 3) := dk_184 1 51 (dk_at dksX1_cordGet_7 0 rfl rfl)
theorem dX1_cordGet_158 : decode cX1_cordGet 158 = .ok (.lstore 4, 2) := dk_55 4 (dk_at dksX1_cordGet_7 3 rfl rfl)
theorem dX1_cordGet_160 : decode cX1_cordGet 160 = .ok (.goto (-40), 3) := dk_167 255 216 (dk_at dksX1_cordGet_7 5 rfl rfl)
theorem dX1_cordGet_163 : decode cX1_cordGet 163 = .ok (.lload 4, 2) := dk_22 4 (dk_at dksX1_cordGet_7 8 rfl rfl)
theorem dX1_cordGet_165 : decode cX1_cordGet 165 = .ok (.l2i, 1) := dk_136 (dk_at dksX1_cordGet_7 10 rfl rfl)
theorem dX1_cordGet_166 : decode cX1_cordGet 166 = .ok (.ireturn, 1) := dk_172 (dk_at dksX1_cordGet_7 11 rfl rfl)
abbrev cX1_readCord : ByteArray := prog_1_method_29_code
def yX1_readCord : MethodName := ⟨RX1, "readCord", "(LKnotLetters$Cord;Ljava/lang/StringBuilder;)I"⟩
def dkwX1_readCord_3 : List UInt8 := [25, 7, 44, 182, 1, 33, 167, 255, 197, 29, 172]
abbrev dktX1_readCord_3 : List UInt8 := dkwX1_readCord_3 ++ []
def dkwX1_readCord_2 : List UInt8 := [182, 1, 25, 87, 3, 54, 4, 42, 25, 6, 182, 1, 29, 58, 7, 29, 25, 7, 180, 0, 233, 96, 62]
abbrev dktX1_readCord_2 : List UInt8 := dkwX1_readCord_2 ++ dktX1_readCord_3
def dkwX1_readCord_1 : List UInt8 := [153, 0, 55, 25, 5, 185, 0, 97, 1, 0, 192, 0, 61, 58, 6, 21, 4, 154, 0, 10, 44, 16, 32]
abbrev dktX1_readCord_1 : List UInt8 := dkwX1_readCord_1 ++ dktX1_readCord_2
def dkwX1_readCord_0 : List UInt8 := [3, 62, 4, 54, 4, 42, 43, 182, 1, 21, 182, 0, 126, 58, 5, 25, 5, 185, 0, 92, 1, 0]
abbrev dktX1_readCord_0 : List UInt8 := dkwX1_readCord_0 ++ dktX1_readCord_1
theorem dksX1_readCord_0 : cX1_readCord.data.toList.drop 0 = dktX1_readCord_0 := by decide +kernel
theorem dksX1_readCord_1 : cX1_readCord.data.toList.drop 22 = dktX1_readCord_1 := dk_seg dksX1_readCord_0 22 rfl rfl
theorem dksX1_readCord_2 : cX1_readCord.data.toList.drop 45 = dktX1_readCord_2 := dk_seg dksX1_readCord_1 23 rfl rfl
theorem dksX1_readCord_3 : cX1_readCord.data.toList.drop 68 = dktX1_readCord_3 := dk_seg dksX1_readCord_2 23 rfl rfl
theorem dX1_readCord_0 : decode cX1_readCord 0 = .ok (.iconst 0, 1) := dk_3 (dk_at dksX1_readCord_0 0 rfl rfl)
theorem dX1_readCord_1 : decode cX1_readCord 1 = .ok (.istore_n 3, 1) := dk_62 (dk_at dksX1_readCord_0 1 rfl rfl)
theorem dX1_readCord_2 : decode cX1_readCord 2 = .ok (.iconst 1, 1) := dk_4 (dk_at dksX1_readCord_0 2 rfl rfl)
theorem dX1_readCord_3 : decode cX1_readCord 3 = .ok (.istore 4, 2) := dk_54 4 (dk_at dksX1_readCord_0 3 rfl rfl)
theorem dX1_readCord_5 : decode cX1_readCord 5 = .ok (.aload_n 0, 1) := dk_42 (dk_at dksX1_readCord_0 5 rfl rfl)
theorem dX1_readCord_6 : decode cX1_readCord 6 = .ok (.aload_n 1, 1) := dk_43 (dk_at dksX1_readCord_0 6 rfl rfl)
theorem dX1_readCord_7 : decode cX1_readCord 7 = .ok (.invokevirtual 277, 3) := dk_182 1 21 (dk_at dksX1_readCord_0 7 rfl rfl)
theorem dX1_readCord_10 : decode cX1_readCord 10 = .ok (.invokevirtual 126, 3) := dk_182 0 126 (dk_at dksX1_readCord_0 10 rfl rfl)
theorem dX1_readCord_13 : decode cX1_readCord 13 = .ok (.astore 5, 2) := dk_58 5 (dk_at dksX1_readCord_0 13 rfl rfl)
theorem dX1_readCord_15 : decode cX1_readCord 15 = .ok (.aload 5, 2) := dk_25 5 (dk_at dksX1_readCord_0 15 rfl rfl)
theorem dX1_readCord_17 : decode cX1_readCord 17 = .ok (.invokeinterface 92 1, 5) := by decide +kernel
theorem dX1_readCord_22 : decode cX1_readCord 22 = .ok (.ifCond .eq 55, 3) := dk_153 0 55 (dk_at dksX1_readCord_1 0 rfl rfl)
theorem dX1_readCord_25 : decode cX1_readCord 25 = .ok (.aload 5, 2) := dk_25 5 (dk_at dksX1_readCord_1 3 rfl rfl)
theorem dX1_readCord_27 : decode cX1_readCord 27 = .ok (.invokeinterface 97 1, 5) := by decide +kernel
theorem dX1_readCord_32 : decode cX1_readCord 32 = .ok (.checkcast 61, 3) := dk_192 0 61 (dk_at dksX1_readCord_1 10 rfl rfl)
theorem dX1_readCord_35 : decode cX1_readCord 35 = .ok (.astore 6, 2) := dk_58 6 (dk_at dksX1_readCord_1 13 rfl rfl)
theorem dX1_readCord_37 : decode cX1_readCord 37 = .ok (.iload 4, 2) := dk_21 4 (dk_at dksX1_readCord_1 15 rfl rfl)
theorem dX1_readCord_39 : decode cX1_readCord 39 = .ok (.ifCond .ne 10, 3) := dk_154 0 10 (dk_at dksX1_readCord_1 17 rfl rfl)
theorem dX1_readCord_42 : decode cX1_readCord 42 = .ok (.aload_n 2, 1) := dk_44 (dk_at dksX1_readCord_1 20 rfl rfl)
theorem dX1_readCord_43 : decode cX1_readCord 43 = .ok (.bipush 32, 2) := dk_16 32 (dk_at dksX1_readCord_1 21 rfl rfl)
theorem dX1_readCord_45 : decode cX1_readCord 45 = .ok (.invokevirtual 281, 3) := dk_182 1 25 (dk_at dksX1_readCord_2 0 rfl rfl)
theorem dX1_readCord_48 : decode cX1_readCord 48 = .ok (.pop, 1) := dk_87 (dk_at dksX1_readCord_2 3 rfl rfl)
theorem dX1_readCord_49 : decode cX1_readCord 49 = .ok (.iconst 0, 1) := dk_3 (dk_at dksX1_readCord_2 4 rfl rfl)
theorem dX1_readCord_50 : decode cX1_readCord 50 = .ok (.istore 4, 2) := dk_54 4 (dk_at dksX1_readCord_2 5 rfl rfl)
theorem dX1_readCord_52 : decode cX1_readCord 52 = .ok (.aload_n 0, 1) := dk_42 (dk_at dksX1_readCord_2 7 rfl rfl)
theorem dX1_readCord_53 : decode cX1_readCord 53 = .ok (.aload 6, 2) := dk_25 6 (dk_at dksX1_readCord_2 8 rfl rfl)
theorem dX1_readCord_55 : decode cX1_readCord 55 = .ok (.invokevirtual 285, 3) := dk_182 1 29 (dk_at dksX1_readCord_2 10 rfl rfl)
theorem dX1_readCord_58 : decode cX1_readCord 58 = .ok (.astore 7, 2) := dk_58 7 (dk_at dksX1_readCord_2 13 rfl rfl)
theorem dX1_readCord_60 : decode cX1_readCord 60 = .ok (.iload_n 3, 1) := dk_29 (dk_at dksX1_readCord_2 15 rfl rfl)
theorem dX1_readCord_61 : decode cX1_readCord 61 = .ok (.aload 7, 2) := dk_25 7 (dk_at dksX1_readCord_2 16 rfl rfl)
theorem dX1_readCord_63 : decode cX1_readCord 63 = .ok (.getfield 233, 3) := dk_180 0 233 (dk_at dksX1_readCord_2 18 rfl rfl)
theorem dX1_readCord_66 : decode cX1_readCord 66 = .ok (.iadd, 1) := dk_96 (dk_at dksX1_readCord_2 21 rfl rfl)
theorem dX1_readCord_67 : decode cX1_readCord 67 = .ok (.istore_n 3, 1) := dk_62 (dk_at dksX1_readCord_2 22 rfl rfl)
theorem dX1_readCord_68 : decode cX1_readCord 68 = .ok (.aload 7, 2) := dk_25 7 (dk_at dksX1_readCord_3 0 rfl rfl)
theorem dX1_readCord_70 : decode cX1_readCord 70 = .ok (.aload_n 2, 1) := dk_44 (dk_at dksX1_readCord_3 2 rfl rfl)
theorem dX1_readCord_71 : decode cX1_readCord 71 = .ok (.invokevirtual 289, 3) := dk_182 1 33 (dk_at dksX1_readCord_3 3 rfl rfl)
theorem dX1_readCord_74 : decode cX1_readCord 74 = .ok (.goto (-59), 3) := dk_167 255 197 (dk_at dksX1_readCord_3 6 rfl rfl)
theorem dX1_readCord_77 : decode cX1_readCord 77 = .ok (.iload_n 3, 1) := dk_29 (dk_at dksX1_readCord_3 9 rfl rfl)
theorem dX1_readCord_78 : decode cX1_readCord 78 = .ok (.ireturn, 1) := dk_172 (dk_at dksX1_readCord_3 10 rfl rfl)
abbrev cX1_wordsOf : ByteArray := prog_1_method_28_code
def yX1_wordsOf : MethodName := ⟨RX1, "wordsOf", "(LKnotLetters$Cord;)Ljava/util/ArrayList;"⟩
def dkwX1_wordsOf_3 : List UInt8 := [21, 4, 4, 96, 62, 132, 4, 1, 167, 255, 192, 44, 176]
abbrev dktX1_wordsOf_3 : List UInt8 := dkwX1_wordsOf_3 ++ []
def dkwX1_wordsOf_2 : List UInt8 := [16, 53, 159, 0, 6, 167, 0, 23, 44, 43, 180, 0, 200, 29, 21, 4, 182, 1, 17, 182, 0, 125, 87]
abbrev dktX1_wordsOf_2 : List UInt8 := dkwX1_wordsOf_2 ++ dktX1_wordsOf_3
def dkwX1_wordsOf_1 : List UInt8 := [163, 0, 58, 21, 4, 43, 180, 0, 200, 182, 0, 198, 162, 0, 20, 43, 180, 0, 200, 21, 4, 182, 0, 213]
abbrev dktX1_wordsOf_1 : List UInt8 := dkwX1_wordsOf_1 ++ dktX1_wordsOf_2
def dkwX1_wordsOf_0 : List UInt8 := [187, 0, 35, 89, 183, 0, 37, 77, 3, 62, 3, 54, 4, 21, 4, 43, 180, 0, 200, 182, 0, 198]
abbrev dktX1_wordsOf_0 : List UInt8 := dkwX1_wordsOf_0 ++ dktX1_wordsOf_1
theorem dksX1_wordsOf_0 : cX1_wordsOf.data.toList.drop 0 = dktX1_wordsOf_0 := by decide +kernel
theorem dksX1_wordsOf_1 : cX1_wordsOf.data.toList.drop 22 = dktX1_wordsOf_1 := dk_seg dksX1_wordsOf_0 22 rfl rfl
theorem dksX1_wordsOf_2 : cX1_wordsOf.data.toList.drop 46 = dktX1_wordsOf_2 := dk_seg dksX1_wordsOf_1 24 rfl rfl
theorem dksX1_wordsOf_3 : cX1_wordsOf.data.toList.drop 69 = dktX1_wordsOf_3 := dk_seg dksX1_wordsOf_2 23 rfl rfl
theorem dX1_wordsOf_0 : decode cX1_wordsOf 0 = .ok (.new 35, 3) := dk_187 0 35 (dk_at dksX1_wordsOf_0 0 rfl rfl)
theorem dX1_wordsOf_3 : decode cX1_wordsOf 3 = .ok (.dup, 1) := dk_89 (dk_at dksX1_wordsOf_0 3 rfl rfl)
theorem dX1_wordsOf_4 : decode cX1_wordsOf 4 = .ok (.invokespecial 37, 3) := dk_183 0 37 (dk_at dksX1_wordsOf_0 4 rfl rfl)
theorem dX1_wordsOf_7 : decode cX1_wordsOf 7 = .ok (.astore_n 2, 1) := dk_77 (dk_at dksX1_wordsOf_0 7 rfl rfl)
theorem dX1_wordsOf_8 : decode cX1_wordsOf 8 = .ok (.iconst 0, 1) := dk_3 (dk_at dksX1_wordsOf_0 8 rfl rfl)
theorem dX1_wordsOf_9 : decode cX1_wordsOf 9 = .ok (.istore_n 3, 1) := dk_62 (dk_at dksX1_wordsOf_0 9 rfl rfl)
theorem dX1_wordsOf_10 : decode cX1_wordsOf 10 = .ok (.iconst 0, 1) := dk_3 (dk_at dksX1_wordsOf_0 10 rfl rfl)
theorem dX1_wordsOf_11 : decode cX1_wordsOf 11 = .ok (.istore 4, 2) := dk_54 4 (dk_at dksX1_wordsOf_0 11 rfl rfl)
theorem dX1_wordsOf_13 : decode cX1_wordsOf 13 = .ok (.iload 4, 2) := dk_21 4 (dk_at dksX1_wordsOf_0 13 rfl rfl)
theorem dX1_wordsOf_15 : decode cX1_wordsOf 15 = .ok (.aload_n 1, 1) := dk_43 (dk_at dksX1_wordsOf_0 15 rfl rfl)
theorem dX1_wordsOf_16 : decode cX1_wordsOf 16 = .ok (.getfield 200, 3) := dk_180 0 200 (dk_at dksX1_wordsOf_0 16 rfl rfl)
theorem dX1_wordsOf_19 : decode cX1_wordsOf 19 = .ok (.invokevirtual 198, 3) := dk_182 0 198 (dk_at dksX1_wordsOf_0 19 rfl rfl)
theorem dX1_wordsOf_22 : decode cX1_wordsOf 22 = .ok (.if_icmp .gt 58, 3) := dk_163 0 58 (dk_at dksX1_wordsOf_1 0 rfl rfl)
theorem dX1_wordsOf_25 : decode cX1_wordsOf 25 = .ok (.iload 4, 2) := dk_21 4 (dk_at dksX1_wordsOf_1 3 rfl rfl)
theorem dX1_wordsOf_27 : decode cX1_wordsOf 27 = .ok (.aload_n 1, 1) := dk_43 (dk_at dksX1_wordsOf_1 5 rfl rfl)
theorem dX1_wordsOf_28 : decode cX1_wordsOf 28 = .ok (.getfield 200, 3) := dk_180 0 200 (dk_at dksX1_wordsOf_1 6 rfl rfl)
theorem dX1_wordsOf_31 : decode cX1_wordsOf 31 = .ok (.invokevirtual 198, 3) := dk_182 0 198 (dk_at dksX1_wordsOf_1 9 rfl rfl)
theorem dX1_wordsOf_34 : decode cX1_wordsOf 34 = .ok (.if_icmp .ge 20, 3) := dk_162 0 20 (dk_at dksX1_wordsOf_1 12 rfl rfl)
theorem dX1_wordsOf_37 : decode cX1_wordsOf 37 = .ok (.aload_n 1, 1) := dk_43 (dk_at dksX1_wordsOf_1 15 rfl rfl)
theorem dX1_wordsOf_38 : decode cX1_wordsOf 38 = .ok (.getfield 200, 3) := dk_180 0 200 (dk_at dksX1_wordsOf_1 16 rfl rfl)
theorem dX1_wordsOf_41 : decode cX1_wordsOf 41 = .ok (.iload 4, 2) := dk_21 4 (dk_at dksX1_wordsOf_1 19 rfl rfl)
theorem dX1_wordsOf_43 : decode cX1_wordsOf 43 = .ok (.invokevirtual 213, 3) := dk_182 0 213 (dk_at dksX1_wordsOf_1 21 rfl rfl)
theorem dX1_wordsOf_46 : decode cX1_wordsOf 46 = .ok (.bipush 53, 2) := dk_16 53 (dk_at dksX1_wordsOf_2 0 rfl rfl)
theorem dX1_wordsOf_48 : decode cX1_wordsOf 48 = .ok (.if_icmp .eq 6, 3) := dk_159 0 6 (dk_at dksX1_wordsOf_2 2 rfl rfl)
theorem dX1_wordsOf_51 : decode cX1_wordsOf 51 = .ok (.goto 23, 3) := dk_167 0 23 (dk_at dksX1_wordsOf_2 5 rfl rfl)
theorem dX1_wordsOf_54 : decode cX1_wordsOf 54 = .ok (.aload_n 2, 1) := dk_44 (dk_at dksX1_wordsOf_2 8 rfl rfl)
theorem dX1_wordsOf_55 : decode cX1_wordsOf 55 = .ok (.aload_n 1, 1) := dk_43 (dk_at dksX1_wordsOf_2 9 rfl rfl)
theorem dX1_wordsOf_56 : decode cX1_wordsOf 56 = .ok (.getfield 200, 3) := dk_180 0 200 (dk_at dksX1_wordsOf_2 10 rfl rfl)
theorem dX1_wordsOf_59 : decode cX1_wordsOf 59 = .ok (.iload_n 3, 1) := dk_29 (dk_at dksX1_wordsOf_2 13 rfl rfl)
theorem dX1_wordsOf_60 : decode cX1_wordsOf 60 = .ok (.iload 4, 2) := dk_21 4 (dk_at dksX1_wordsOf_2 14 rfl rfl)
theorem dX1_wordsOf_62 : decode cX1_wordsOf 62 = .ok (.invokevirtual 273, 3) := dk_182 1 17 (dk_at dksX1_wordsOf_2 16 rfl rfl)
theorem dX1_wordsOf_65 : decode cX1_wordsOf 65 = .ok (.invokevirtual 125, 3) := dk_182 0 125 (dk_at dksX1_wordsOf_2 19 rfl rfl)
theorem dX1_wordsOf_68 : decode cX1_wordsOf 68 = .ok (.pop, 1) := dk_87 (dk_at dksX1_wordsOf_2 22 rfl rfl)
theorem dX1_wordsOf_69 : decode cX1_wordsOf 69 = .ok (.iload 4, 2) := dk_21 4 (dk_at dksX1_wordsOf_3 0 rfl rfl)
theorem dX1_wordsOf_71 : decode cX1_wordsOf 71 = .ok (.iconst 1, 1) := dk_4 (dk_at dksX1_wordsOf_3 2 rfl rfl)
theorem dX1_wordsOf_72 : decode cX1_wordsOf 72 = .ok (.iadd, 1) := dk_96 (dk_at dksX1_wordsOf_3 3 rfl rfl)
theorem dX1_wordsOf_73 : decode cX1_wordsOf 73 = .ok (.istore_n 3, 1) := dk_62 (dk_at dksX1_wordsOf_3 4 rfl rfl)
theorem dX1_wordsOf_74 : decode cX1_wordsOf 74 = .ok (.iinc 4 1, 3) := dk_132 4 1 (dk_at dksX1_wordsOf_3 5 rfl rfl)
theorem dX1_wordsOf_77 : decode cX1_wordsOf 77 = .ok (.goto (-64), 3) := dk_167 255 192 (dk_at dksX1_wordsOf_3 8 rfl rfl)
theorem dX1_wordsOf_80 : decode cX1_wordsOf 80 = .ok (.aload_n 2, 1) := dk_44 (dk_at dksX1_wordsOf_3 11 rfl rfl)
theorem dX1_wordsOf_81 : decode cX1_wordsOf 81 = .ok (.areturn, 1) := dk_176 (dk_at dksX1_wordsOf_3 12 rfl rfl)
abbrev cX1_readWord : ByteArray := prog_1_method_26_code
def yX1_readWord : MethodName := ⟨RX1, "readWord", "(LKnotLetters$Knots;)LKnotLetters$Reading;"⟩
def dkwX1_readWord_8 : List UInt8 := [21, 4, 25, 5, 182, 1, 2, 83, 132, 4, 255, 167, 255, 90, 45, 3, 50, 176]
abbrev dktX1_readWord_8 : List UInt8 := dkwX1_readWord_8 ++ []
def dkwX1_readWord_7 : List UInt8 := [180, 0, 251, 45, 21, 10, 50, 182, 0, 255, 132, 10, 1, 167, 255, 212, 132, 8, 1, 167, 255, 159, 45]
abbrev dktX1_readWord_7 : List UInt8 := dkwX1_readWord_7 ++ dktX1_readWord_8
def dkwX1_readWord_6 : List UInt8 := [42, 180, 0, 31, 180, 0, 247, 21, 10, 21, 4, 100, 46, 45, 21, 10, 50, 180, 0, 233, 96, 25, 9]
abbrev dktX1_readWord_6 : List UInt8 := dkwX1_readWord_6 ++ dktX1_readWord_7
def dkwX1_readWord_5 : List UInt8 := [180, 0, 66, 43, 21, 4, 28, 182, 0, 243, 21, 4, 4, 96, 54, 10, 21, 10, 28, 163, 0, 44, 25, 5]
abbrev dktX1_readWord_5 : List UInt8 := dkwX1_readWord_5 ++ dktX1_readWord_6
def dkwX1_readWord_4 : List UInt8 := [25, 6, 21, 8, 50, 58, 9, 25, 9, 182, 0, 78, 154, 0, 6, 167, 0, 72, 42, 180, 0, 31, 25, 9]
abbrev dktX1_readWord_4 : List UInt8 := dkwX1_readWord_4 ++ dktX1_readWord_5
def dkwX1_readWord_3 : List UInt8 := [58, 5, 42, 180, 0, 24, 58, 6, 25, 6, 190, 54, 7, 3, 54, 8, 21, 8, 21, 7, 162, 0, 96]
abbrev dktX1_readWord_3 : List UInt8 := dkwX1_readWord_3 ++ dktX1_readWord_4
def dkwX1_readWord_2 : List UInt8 := [45, 21, 4, 4, 96, 50, 180, 0, 233, 42, 180, 0, 31, 180, 0, 176, 96, 182, 0, 236, 183, 0, 240]
abbrev dktX1_readWord_2 : List UInt8 := dkwX1_readWord_2 ++ dktX1_readWord_3
def dkwX1_readWord_1 : List UInt8 := [183, 0, 228, 83, 28, 4, 100, 54, 4, 21, 4, 155, 0, 167, 187, 0, 231, 89, 45, 21, 4, 4, 96, 50]
abbrev dktX1_readWord_1 : List UInt8 := dkwX1_readWord_1 ++ dktX1_readWord_2
def dkwX1_readWord_0 : List UInt8 := [43, 182, 0, 198, 61, 28, 4, 96, 189, 0, 226, 78, 45, 28, 187, 0, 226, 89, 3, 16, 32, 1]
abbrev dktX1_readWord_0 : List UInt8 := dkwX1_readWord_0 ++ dktX1_readWord_1
theorem dksX1_readWord_0 : cX1_readWord.data.toList.drop 0 = dktX1_readWord_0 := by decide +kernel
theorem dksX1_readWord_1 : cX1_readWord.data.toList.drop 22 = dktX1_readWord_1 := dk_seg dksX1_readWord_0 22 rfl rfl
theorem dksX1_readWord_2 : cX1_readWord.data.toList.drop 46 = dktX1_readWord_2 := dk_seg dksX1_readWord_1 24 rfl rfl
theorem dksX1_readWord_3 : cX1_readWord.data.toList.drop 69 = dktX1_readWord_3 := dk_seg dksX1_readWord_2 23 rfl rfl
theorem dksX1_readWord_4 : cX1_readWord.data.toList.drop 92 = dktX1_readWord_4 := dk_seg dksX1_readWord_3 23 rfl rfl
theorem dksX1_readWord_5 : cX1_readWord.data.toList.drop 116 = dktX1_readWord_5 := dk_seg dksX1_readWord_4 24 rfl rfl
theorem dksX1_readWord_6 : cX1_readWord.data.toList.drop 140 = dktX1_readWord_6 := dk_seg dksX1_readWord_5 24 rfl rfl
theorem dksX1_readWord_7 : cX1_readWord.data.toList.drop 163 = dktX1_readWord_7 := dk_seg dksX1_readWord_6 23 rfl rfl
theorem dksX1_readWord_8 : cX1_readWord.data.toList.drop 186 = dktX1_readWord_8 := dk_seg dksX1_readWord_7 23 rfl rfl
theorem dX1_readWord_0 : decode cX1_readWord 0 = .ok (.aload_n 1, 1) := dk_43 (dk_at dksX1_readWord_0 0 rfl rfl)
theorem dX1_readWord_1 : decode cX1_readWord 1 = .ok (.invokevirtual 198, 3) := dk_182 0 198 (dk_at dksX1_readWord_0 1 rfl rfl)
theorem dX1_readWord_4 : decode cX1_readWord 4 = .ok (.istore_n 2, 1) := dk_61 (dk_at dksX1_readWord_0 4 rfl rfl)
theorem dX1_readWord_5 : decode cX1_readWord 5 = .ok (.iload_n 2, 1) := dk_28 (dk_at dksX1_readWord_0 5 rfl rfl)
theorem dX1_readWord_6 : decode cX1_readWord 6 = .ok (.iconst 1, 1) := dk_4 (dk_at dksX1_readWord_0 6 rfl rfl)
theorem dX1_readWord_7 : decode cX1_readWord 7 = .ok (.iadd, 1) := dk_96 (dk_at dksX1_readWord_0 7 rfl rfl)
theorem dX1_readWord_8 : decode cX1_readWord 8 = .ok (.anewarray 226, 3) := dk_189 0 226 (dk_at dksX1_readWord_0 8 rfl rfl)
theorem dX1_readWord_11 : decode cX1_readWord 11 = .ok (.astore_n 3, 1) := dk_78 (dk_at dksX1_readWord_0 11 rfl rfl)
theorem dX1_readWord_12 : decode cX1_readWord 12 = .ok (.aload_n 3, 1) := dk_45 (dk_at dksX1_readWord_0 12 rfl rfl)
theorem dX1_readWord_13 : decode cX1_readWord 13 = .ok (.iload_n 2, 1) := dk_28 (dk_at dksX1_readWord_0 13 rfl rfl)
theorem dX1_readWord_14 : decode cX1_readWord 14 = .ok (.new 226, 3) := dk_187 0 226 (dk_at dksX1_readWord_0 14 rfl rfl)
theorem dX1_readWord_17 : decode cX1_readWord 17 = .ok (.dup, 1) := dk_89 (dk_at dksX1_readWord_0 17 rfl rfl)
theorem dX1_readWord_18 : decode cX1_readWord 18 = .ok (.iconst 0, 1) := dk_3 (dk_at dksX1_readWord_0 18 rfl rfl)
theorem dX1_readWord_19 : decode cX1_readWord 19 = .ok (.bipush 32, 2) := dk_16 32 (dk_at dksX1_readWord_0 19 rfl rfl)
theorem dX1_readWord_21 : decode cX1_readWord 21 = .ok (.aconst_null, 1) := dk_1 (dk_at dksX1_readWord_0 21 rfl rfl)
theorem dX1_readWord_22 : decode cX1_readWord 22 = .ok (.invokespecial 228, 3) := dk_183 0 228 (dk_at dksX1_readWord_1 0 rfl rfl)
theorem dX1_readWord_25 : decode cX1_readWord 25 = .ok (.aastore, 1) := dk_83 (dk_at dksX1_readWord_1 3 rfl rfl)
theorem dX1_readWord_26 : decode cX1_readWord 26 = .ok (.iload_n 2, 1) := dk_28 (dk_at dksX1_readWord_1 4 rfl rfl)
theorem dX1_readWord_27 : decode cX1_readWord 27 = .ok (.iconst 1, 1) := dk_4 (dk_at dksX1_readWord_1 5 rfl rfl)
theorem dX1_readWord_28 : decode cX1_readWord 28 = .ok (.isub, 1) := dk_100 (dk_at dksX1_readWord_1 6 rfl rfl)
theorem dX1_readWord_29 : decode cX1_readWord 29 = .ok (.istore 4, 2) := dk_54 4 (dk_at dksX1_readWord_1 7 rfl rfl)
theorem dX1_readWord_31 : decode cX1_readWord 31 = .ok (.iload 4, 2) := dk_21 4 (dk_at dksX1_readWord_1 9 rfl rfl)
theorem dX1_readWord_33 : decode cX1_readWord 33 = .ok (.ifCond .lt 167, 3) := dk_155 0 167 (dk_at dksX1_readWord_1 11 rfl rfl)
theorem dX1_readWord_36 : decode cX1_readWord 36 = .ok (.new 231, 3) := dk_187 0 231 (dk_at dksX1_readWord_1 14 rfl rfl)
theorem dX1_readWord_39 : decode cX1_readWord 39 = .ok (.dup, 1) := dk_89 (dk_at dksX1_readWord_1 17 rfl rfl)
theorem dX1_readWord_40 : decode cX1_readWord 40 = .ok (.aload_n 3, 1) := dk_45 (dk_at dksX1_readWord_1 18 rfl rfl)
theorem dX1_readWord_41 : decode cX1_readWord 41 = .ok (.iload 4, 2) := dk_21 4 (dk_at dksX1_readWord_1 19 rfl rfl)
theorem dX1_readWord_43 : decode cX1_readWord 43 = .ok (.iconst 1, 1) := dk_4 (dk_at dksX1_readWord_1 21 rfl rfl)
theorem dX1_readWord_44 : decode cX1_readWord 44 = .ok (.iadd, 1) := dk_96 (dk_at dksX1_readWord_1 22 rfl rfl)
theorem dX1_readWord_45 : decode cX1_readWord 45 = .ok (.aaload, 1) := dk_50 (dk_at dksX1_readWord_1 23 rfl rfl)
theorem dX1_readWord_46 : decode cX1_readWord 46 = .ok (.aload_n 3, 1) := dk_45 (dk_at dksX1_readWord_2 0 rfl rfl)
theorem dX1_readWord_47 : decode cX1_readWord 47 = .ok (.iload 4, 2) := dk_21 4 (dk_at dksX1_readWord_2 1 rfl rfl)
theorem dX1_readWord_49 : decode cX1_readWord 49 = .ok (.iconst 1, 1) := dk_4 (dk_at dksX1_readWord_2 3 rfl rfl)
theorem dX1_readWord_50 : decode cX1_readWord 50 = .ok (.iadd, 1) := dk_96 (dk_at dksX1_readWord_2 4 rfl rfl)
theorem dX1_readWord_51 : decode cX1_readWord 51 = .ok (.aaload, 1) := dk_50 (dk_at dksX1_readWord_2 5 rfl rfl)
theorem dX1_readWord_52 : decode cX1_readWord 52 = .ok (.getfield 233, 3) := dk_180 0 233 (dk_at dksX1_readWord_2 6 rfl rfl)
theorem dX1_readWord_55 : decode cX1_readWord 55 = .ok (.aload_n 0, 1) := dk_42 (dk_at dksX1_readWord_2 9 rfl rfl)
theorem dX1_readWord_56 : decode cX1_readWord 56 = .ok (.getfield 31, 3) := dk_180 0 31 (dk_at dksX1_readWord_2 10 rfl rfl)
theorem dX1_readWord_59 : decode cX1_readWord 59 = .ok (.getfield 176, 3) := dk_180 0 176 (dk_at dksX1_readWord_2 13 rfl rfl)
theorem dX1_readWord_62 : decode cX1_readWord 62 = .ok (.iadd, 1) := dk_96 (dk_at dksX1_readWord_2 16 rfl rfl)
theorem dX1_readWord_63 : decode cX1_readWord 63 = .ok (.invokevirtual 236, 3) := dk_182 0 236 (dk_at dksX1_readWord_2 17 rfl rfl)
theorem dX1_readWord_66 : decode cX1_readWord 66 = .ok (.invokespecial 240, 3) := dk_183 0 240 (dk_at dksX1_readWord_2 20 rfl rfl)
theorem dX1_readWord_69 : decode cX1_readWord 69 = .ok (.astore 5, 2) := dk_58 5 (dk_at dksX1_readWord_3 0 rfl rfl)
theorem dX1_readWord_71 : decode cX1_readWord 71 = .ok (.aload_n 0, 1) := dk_42 (dk_at dksX1_readWord_3 2 rfl rfl)
theorem dX1_readWord_72 : decode cX1_readWord 72 = .ok (.getfield 24, 3) := dk_180 0 24 (dk_at dksX1_readWord_3 3 rfl rfl)
theorem dX1_readWord_75 : decode cX1_readWord 75 = .ok (.astore 6, 2) := dk_58 6 (dk_at dksX1_readWord_3 6 rfl rfl)
theorem dX1_readWord_77 : decode cX1_readWord 77 = .ok (.aload 6, 2) := dk_25 6 (dk_at dksX1_readWord_3 8 rfl rfl)
theorem dX1_readWord_79 : decode cX1_readWord 79 = .ok (.arraylength, 1) := dk_190 (dk_at dksX1_readWord_3 10 rfl rfl)
theorem dX1_readWord_80 : decode cX1_readWord 80 = .ok (.istore 7, 2) := dk_54 7 (dk_at dksX1_readWord_3 11 rfl rfl)
theorem dX1_readWord_82 : decode cX1_readWord 82 = .ok (.iconst 0, 1) := dk_3 (dk_at dksX1_readWord_3 13 rfl rfl)
theorem dX1_readWord_83 : decode cX1_readWord 83 = .ok (.istore 8, 2) := dk_54 8 (dk_at dksX1_readWord_3 14 rfl rfl)
theorem dX1_readWord_85 : decode cX1_readWord 85 = .ok (.iload 8, 2) := dk_21 8 (dk_at dksX1_readWord_3 16 rfl rfl)
theorem dX1_readWord_87 : decode cX1_readWord 87 = .ok (.iload 7, 2) := dk_21 7 (dk_at dksX1_readWord_3 18 rfl rfl)
theorem dX1_readWord_89 : decode cX1_readWord 89 = .ok (.if_icmp .ge 96, 3) := dk_162 0 96 (dk_at dksX1_readWord_3 20 rfl rfl)
theorem dX1_readWord_92 : decode cX1_readWord 92 = .ok (.aload 6, 2) := dk_25 6 (dk_at dksX1_readWord_4 0 rfl rfl)
theorem dX1_readWord_94 : decode cX1_readWord 94 = .ok (.iload 8, 2) := dk_21 8 (dk_at dksX1_readWord_4 2 rfl rfl)
theorem dX1_readWord_96 : decode cX1_readWord 96 = .ok (.aaload, 1) := dk_50 (dk_at dksX1_readWord_4 4 rfl rfl)
theorem dX1_readWord_97 : decode cX1_readWord 97 = .ok (.astore 9, 2) := dk_58 9 (dk_at dksX1_readWord_4 5 rfl rfl)
theorem dX1_readWord_99 : decode cX1_readWord 99 = .ok (.aload 9, 2) := dk_25 9 (dk_at dksX1_readWord_4 7 rfl rfl)
theorem dX1_readWord_101 : decode cX1_readWord 101 = .ok (.invokevirtual 78, 3) := dk_182 0 78 (dk_at dksX1_readWord_4 9 rfl rfl)
theorem dX1_readWord_104 : decode cX1_readWord 104 = .ok (.ifCond .ne 6, 3) := dk_154 0 6 (dk_at dksX1_readWord_4 12 rfl rfl)
theorem dX1_readWord_107 : decode cX1_readWord 107 = .ok (.goto 72, 3) := dk_167 0 72 (dk_at dksX1_readWord_4 15 rfl rfl)
theorem dX1_readWord_110 : decode cX1_readWord 110 = .ok (.aload_n 0, 1) := dk_42 (dk_at dksX1_readWord_4 18 rfl rfl)
theorem dX1_readWord_111 : decode cX1_readWord 111 = .ok (.getfield 31, 3) := dk_180 0 31 (dk_at dksX1_readWord_4 19 rfl rfl)
theorem dX1_readWord_114 : decode cX1_readWord 114 = .ok (.aload 9, 2) := dk_25 9 (dk_at dksX1_readWord_4 22 rfl rfl)
theorem dX1_readWord_116 : decode cX1_readWord 116 = .ok (.getfield 66, 3) := dk_180 0 66 (dk_at dksX1_readWord_5 0 rfl rfl)
theorem dX1_readWord_119 : decode cX1_readWord 119 = .ok (.aload_n 1, 1) := dk_43 (dk_at dksX1_readWord_5 3 rfl rfl)
theorem dX1_readWord_120 : decode cX1_readWord 120 = .ok (.iload 4, 2) := dk_21 4 (dk_at dksX1_readWord_5 4 rfl rfl)
theorem dX1_readWord_122 : decode cX1_readWord 122 = .ok (.iload_n 2, 1) := dk_28 (dk_at dksX1_readWord_5 6 rfl rfl)
theorem dX1_readWord_123 : decode cX1_readWord 123 = .ok (.invokevirtual 243, 3) := dk_182 0 243 (dk_at dksX1_readWord_5 7 rfl rfl)
theorem dX1_readWord_126 : decode cX1_readWord 126 = .ok (.iload 4, 2) := dk_21 4 (dk_at dksX1_readWord_5 10 rfl rfl)
theorem dX1_readWord_128 : decode cX1_readWord 128 = .ok (.iconst 1, 1) := dk_4 (dk_at dksX1_readWord_5 12 rfl rfl)
theorem dX1_readWord_129 : decode cX1_readWord 129 = .ok (.iadd, 1) := dk_96 (dk_at dksX1_readWord_5 13 rfl rfl)
theorem dX1_readWord_130 : decode cX1_readWord 130 = .ok (.istore 10, 2) := dk_54 10 (dk_at dksX1_readWord_5 14 rfl rfl)
theorem dX1_readWord_132 : decode cX1_readWord 132 = .ok (.iload 10, 2) := dk_21 10 (dk_at dksX1_readWord_5 16 rfl rfl)
theorem dX1_readWord_134 : decode cX1_readWord 134 = .ok (.iload_n 2, 1) := dk_28 (dk_at dksX1_readWord_5 18 rfl rfl)
theorem dX1_readWord_135 : decode cX1_readWord 135 = .ok (.if_icmp .gt 44, 3) := dk_163 0 44 (dk_at dksX1_readWord_5 19 rfl rfl)
theorem dX1_readWord_138 : decode cX1_readWord 138 = .ok (.aload 5, 2) := dk_25 5 (dk_at dksX1_readWord_5 22 rfl rfl)
theorem dX1_readWord_140 : decode cX1_readWord 140 = .ok (.aload_n 0, 1) := dk_42 (dk_at dksX1_readWord_6 0 rfl rfl)
theorem dX1_readWord_141 : decode cX1_readWord 141 = .ok (.getfield 31, 3) := dk_180 0 31 (dk_at dksX1_readWord_6 1 rfl rfl)
theorem dX1_readWord_144 : decode cX1_readWord 144 = .ok (.getfield 247, 3) := dk_180 0 247 (dk_at dksX1_readWord_6 4 rfl rfl)
theorem dX1_readWord_147 : decode cX1_readWord 147 = .ok (.iload 10, 2) := dk_21 10 (dk_at dksX1_readWord_6 7 rfl rfl)
theorem dX1_readWord_149 : decode cX1_readWord 149 = .ok (.iload 4, 2) := dk_21 4 (dk_at dksX1_readWord_6 9 rfl rfl)
theorem dX1_readWord_151 : decode cX1_readWord 151 = .ok (.isub, 1) := dk_100 (dk_at dksX1_readWord_6 11 rfl rfl)
theorem dX1_readWord_152 : decode cX1_readWord 152 = .ok (.iaload, 1) := dk_46 (dk_at dksX1_readWord_6 12 rfl rfl)
theorem dX1_readWord_153 : decode cX1_readWord 153 = .ok (.aload_n 3, 1) := dk_45 (dk_at dksX1_readWord_6 13 rfl rfl)
theorem dX1_readWord_154 : decode cX1_readWord 154 = .ok (.iload 10, 2) := dk_21 10 (dk_at dksX1_readWord_6 14 rfl rfl)
theorem dX1_readWord_156 : decode cX1_readWord 156 = .ok (.aaload, 1) := dk_50 (dk_at dksX1_readWord_6 16 rfl rfl)
theorem dX1_readWord_157 : decode cX1_readWord 157 = .ok (.getfield 233, 3) := dk_180 0 233 (dk_at dksX1_readWord_6 17 rfl rfl)
theorem dX1_readWord_160 : decode cX1_readWord 160 = .ok (.iadd, 1) := dk_96 (dk_at dksX1_readWord_6 20 rfl rfl)
theorem dX1_readWord_161 : decode cX1_readWord 161 = .ok (.aload 9, 2) := dk_25 9 (dk_at dksX1_readWord_6 21 rfl rfl)
theorem dX1_readWord_163 : decode cX1_readWord 163 = .ok (.getfield 251, 3) := dk_180 0 251 (dk_at dksX1_readWord_7 0 rfl rfl)
theorem dX1_readWord_166 : decode cX1_readWord 166 = .ok (.aload_n 3, 1) := dk_45 (dk_at dksX1_readWord_7 3 rfl rfl)
theorem dX1_readWord_167 : decode cX1_readWord 167 = .ok (.iload 10, 2) := dk_21 10 (dk_at dksX1_readWord_7 4 rfl rfl)
theorem dX1_readWord_169 : decode cX1_readWord 169 = .ok (.aaload, 1) := dk_50 (dk_at dksX1_readWord_7 6 rfl rfl)
theorem dX1_readWord_170 : decode cX1_readWord 170 = .ok (.invokevirtual 255, 3) := dk_182 0 255 (dk_at dksX1_readWord_7 7 rfl rfl)
theorem dX1_readWord_173 : decode cX1_readWord 173 = .ok (.iinc 10 1, 3) := dk_132 10 1 (dk_at dksX1_readWord_7 10 rfl rfl)
theorem dX1_readWord_176 : decode cX1_readWord 176 = .ok (.goto (-44), 3) := dk_167 255 212 (dk_at dksX1_readWord_7 13 rfl rfl)
theorem dX1_readWord_179 : decode cX1_readWord 179 = .ok (.iinc 8 1, 3) := dk_132 8 1 (dk_at dksX1_readWord_7 16 rfl rfl)
theorem dX1_readWord_182 : decode cX1_readWord 182 = .ok (.goto (-97), 3) := dk_167 255 159 (dk_at dksX1_readWord_7 19 rfl rfl)
theorem dX1_readWord_185 : decode cX1_readWord 185 = .ok (.aload_n 3, 1) := dk_45 (dk_at dksX1_readWord_7 22 rfl rfl)
theorem dX1_readWord_186 : decode cX1_readWord 186 = .ok (.iload 4, 2) := dk_21 4 (dk_at dksX1_readWord_8 0 rfl rfl)
theorem dX1_readWord_188 : decode cX1_readWord 188 = .ok (.aload 5, 2) := dk_25 5 (dk_at dksX1_readWord_8 2 rfl rfl)
theorem dX1_readWord_190 : decode cX1_readWord 190 = .ok (.invokevirtual 258, 3) := dk_182 1 2 (dk_at dksX1_readWord_8 4 rfl rfl)
theorem dX1_readWord_193 : decode cX1_readWord 193 = .ok (.aastore, 1) := dk_83 (dk_at dksX1_readWord_8 7 rfl rfl)
theorem dX1_readWord_194 : decode cX1_readWord 194 = .ok (.iinc 4 (-1), 3) := dk_132 4 255 (dk_at dksX1_readWord_8 8 rfl rfl)
theorem dX1_readWord_197 : decode cX1_readWord 197 = .ok (.goto (-166), 3) := dk_167 255 90 (dk_at dksX1_readWord_8 11 rfl rfl)
theorem dX1_readWord_200 : decode cX1_readWord 200 = .ok (.aload_n 3, 1) := dk_45 (dk_at dksX1_readWord_8 14 rfl rfl)
theorem dX1_readWord_201 : decode cX1_readWord 201 = .ok (.iconst 0, 1) := dk_3 (dk_at dksX1_readWord_8 15 rfl rfl)
theorem dX1_readWord_202 : decode cX1_readWord 202 = .ok (.aaload, 1) := dk_50 (dk_at dksX1_readWord_8 16 rfl rfl)
theorem dX1_readWord_203 : decode cX1_readWord 203 = .ok (.areturn, 1) := dk_176 (dk_at dksX1_readWord_8 17 rfl rfl)
abbrev cX1_waysOf : ByteArray := prog_1_method_27_code
def yX1_waysOf : MethodName := ⟨RX1, "waysOf", "(LKnotLetters$Knots;)I"⟩
def dkwX1_waysOf_5 : List UInt8 := [46, 172]
abbrev dktX1_waysOf_5 : List UInt8 := dkwX1_waysOf_5 ++ []
def dkwX1_waysOf_4 : List UInt8 := [182, 0, 198, 96, 46, 96, 184, 1, 11, 79, 132, 7, 1, 167, 255, 189, 132, 4, 255, 167, 255, 164, 45, 3]
abbrev dktX1_waysOf_4 : List UInt8 := dkwX1_waysOf_4 ++ dktX1_waysOf_5
def dkwX1_waysOf_3 : List UInt8 := [182, 1, 6, 153, 0, 31, 45, 21, 4, 19, 1, 10, 45, 21, 4, 46, 45, 21, 4, 25, 8, 180, 0, 66]
abbrev dktX1_waysOf_3 : List UInt8 := dkwX1_waysOf_3 ++ dktX1_waysOf_4
def dkwX1_waysOf_2 : List UInt8 := [25, 5, 21, 7, 50, 58, 8, 25, 8, 182, 0, 78, 153, 0, 45, 43, 21, 4, 25, 8, 180, 0, 66]
abbrev dktX1_waysOf_2 : List UInt8 := dkwX1_waysOf_2 ++ dktX1_waysOf_3
def dkwX1_waysOf_1 : List UInt8 := [155, 0, 93, 42, 180, 0, 24, 58, 5, 25, 5, 190, 54, 6, 3, 54, 7, 21, 7, 21, 6, 162, 0, 66]
abbrev dktX1_waysOf_1 : List UInt8 := dkwX1_waysOf_1 ++ dktX1_waysOf_2
def dkwX1_waysOf_0 : List UInt8 := [43, 182, 0, 198, 61, 28, 4, 96, 188, 10, 78, 45, 28, 4, 79, 28, 4, 100, 54, 4, 21, 4]
abbrev dktX1_waysOf_0 : List UInt8 := dkwX1_waysOf_0 ++ dktX1_waysOf_1
theorem dksX1_waysOf_0 : cX1_waysOf.data.toList.drop 0 = dktX1_waysOf_0 := by decide +kernel
theorem dksX1_waysOf_1 : cX1_waysOf.data.toList.drop 22 = dktX1_waysOf_1 := dk_seg dksX1_waysOf_0 22 rfl rfl
theorem dksX1_waysOf_2 : cX1_waysOf.data.toList.drop 46 = dktX1_waysOf_2 := dk_seg dksX1_waysOf_1 24 rfl rfl
theorem dksX1_waysOf_3 : cX1_waysOf.data.toList.drop 69 = dktX1_waysOf_3 := dk_seg dksX1_waysOf_2 23 rfl rfl
theorem dksX1_waysOf_4 : cX1_waysOf.data.toList.drop 93 = dktX1_waysOf_4 := dk_seg dksX1_waysOf_3 24 rfl rfl
theorem dksX1_waysOf_5 : cX1_waysOf.data.toList.drop 117 = dktX1_waysOf_5 := dk_seg dksX1_waysOf_4 24 rfl rfl
theorem dX1_waysOf_0 : decode cX1_waysOf 0 = .ok (.aload_n 1, 1) := dk_43 (dk_at dksX1_waysOf_0 0 rfl rfl)
theorem dX1_waysOf_1 : decode cX1_waysOf 1 = .ok (.invokevirtual 198, 3) := dk_182 0 198 (dk_at dksX1_waysOf_0 1 rfl rfl)
theorem dX1_waysOf_4 : decode cX1_waysOf 4 = .ok (.istore_n 2, 1) := dk_61 (dk_at dksX1_waysOf_0 4 rfl rfl)
theorem dX1_waysOf_5 : decode cX1_waysOf 5 = .ok (.iload_n 2, 1) := dk_28 (dk_at dksX1_waysOf_0 5 rfl rfl)
theorem dX1_waysOf_6 : decode cX1_waysOf 6 = .ok (.iconst 1, 1) := dk_4 (dk_at dksX1_waysOf_0 6 rfl rfl)
theorem dX1_waysOf_7 : decode cX1_waysOf 7 = .ok (.iadd, 1) := dk_96 (dk_at dksX1_waysOf_0 7 rfl rfl)
theorem dX1_waysOf_8 : decode cX1_waysOf 8 = .ok (.newarray .int, 2) := dk_188_10 (dk_at dksX1_waysOf_0 8 rfl rfl)
theorem dX1_waysOf_10 : decode cX1_waysOf 10 = .ok (.astore_n 3, 1) := dk_78 (dk_at dksX1_waysOf_0 10 rfl rfl)
theorem dX1_waysOf_11 : decode cX1_waysOf 11 = .ok (.aload_n 3, 1) := dk_45 (dk_at dksX1_waysOf_0 11 rfl rfl)
theorem dX1_waysOf_12 : decode cX1_waysOf 12 = .ok (.iload_n 2, 1) := dk_28 (dk_at dksX1_waysOf_0 12 rfl rfl)
theorem dX1_waysOf_13 : decode cX1_waysOf 13 = .ok (.iconst 1, 1) := dk_4 (dk_at dksX1_waysOf_0 13 rfl rfl)
theorem dX1_waysOf_14 : decode cX1_waysOf 14 = .ok (.iastore, 1) := dk_79 (dk_at dksX1_waysOf_0 14 rfl rfl)
theorem dX1_waysOf_15 : decode cX1_waysOf 15 = .ok (.iload_n 2, 1) := dk_28 (dk_at dksX1_waysOf_0 15 rfl rfl)
theorem dX1_waysOf_16 : decode cX1_waysOf 16 = .ok (.iconst 1, 1) := dk_4 (dk_at dksX1_waysOf_0 16 rfl rfl)
theorem dX1_waysOf_17 : decode cX1_waysOf 17 = .ok (.isub, 1) := dk_100 (dk_at dksX1_waysOf_0 17 rfl rfl)
theorem dX1_waysOf_18 : decode cX1_waysOf 18 = .ok (.istore 4, 2) := dk_54 4 (dk_at dksX1_waysOf_0 18 rfl rfl)
theorem dX1_waysOf_20 : decode cX1_waysOf 20 = .ok (.iload 4, 2) := dk_21 4 (dk_at dksX1_waysOf_0 20 rfl rfl)
theorem dX1_waysOf_22 : decode cX1_waysOf 22 = .ok (.ifCond .lt 93, 3) := dk_155 0 93 (dk_at dksX1_waysOf_1 0 rfl rfl)
theorem dX1_waysOf_25 : decode cX1_waysOf 25 = .ok (.aload_n 0, 1) := dk_42 (dk_at dksX1_waysOf_1 3 rfl rfl)
theorem dX1_waysOf_26 : decode cX1_waysOf 26 = .ok (.getfield 24, 3) := dk_180 0 24 (dk_at dksX1_waysOf_1 4 rfl rfl)
theorem dX1_waysOf_29 : decode cX1_waysOf 29 = .ok (.astore 5, 2) := dk_58 5 (dk_at dksX1_waysOf_1 7 rfl rfl)
theorem dX1_waysOf_31 : decode cX1_waysOf 31 = .ok (.aload 5, 2) := dk_25 5 (dk_at dksX1_waysOf_1 9 rfl rfl)
theorem dX1_waysOf_33 : decode cX1_waysOf 33 = .ok (.arraylength, 1) := dk_190 (dk_at dksX1_waysOf_1 11 rfl rfl)
theorem dX1_waysOf_34 : decode cX1_waysOf 34 = .ok (.istore 6, 2) := dk_54 6 (dk_at dksX1_waysOf_1 12 rfl rfl)
theorem dX1_waysOf_36 : decode cX1_waysOf 36 = .ok (.iconst 0, 1) := dk_3 (dk_at dksX1_waysOf_1 14 rfl rfl)
theorem dX1_waysOf_37 : decode cX1_waysOf 37 = .ok (.istore 7, 2) := dk_54 7 (dk_at dksX1_waysOf_1 15 rfl rfl)
theorem dX1_waysOf_39 : decode cX1_waysOf 39 = .ok (.iload 7, 2) := dk_21 7 (dk_at dksX1_waysOf_1 17 rfl rfl)
theorem dX1_waysOf_41 : decode cX1_waysOf 41 = .ok (.iload 6, 2) := dk_21 6 (dk_at dksX1_waysOf_1 19 rfl rfl)
theorem dX1_waysOf_43 : decode cX1_waysOf 43 = .ok (.if_icmp .ge 66, 3) := dk_162 0 66 (dk_at dksX1_waysOf_1 21 rfl rfl)
theorem dX1_waysOf_46 : decode cX1_waysOf 46 = .ok (.aload 5, 2) := dk_25 5 (dk_at dksX1_waysOf_2 0 rfl rfl)
theorem dX1_waysOf_48 : decode cX1_waysOf 48 = .ok (.iload 7, 2) := dk_21 7 (dk_at dksX1_waysOf_2 2 rfl rfl)
theorem dX1_waysOf_50 : decode cX1_waysOf 50 = .ok (.aaload, 1) := dk_50 (dk_at dksX1_waysOf_2 4 rfl rfl)
theorem dX1_waysOf_51 : decode cX1_waysOf 51 = .ok (.astore 8, 2) := dk_58 8 (dk_at dksX1_waysOf_2 5 rfl rfl)
theorem dX1_waysOf_53 : decode cX1_waysOf 53 = .ok (.aload 8, 2) := dk_25 8 (dk_at dksX1_waysOf_2 7 rfl rfl)
theorem dX1_waysOf_55 : decode cX1_waysOf 55 = .ok (.invokevirtual 78, 3) := dk_182 0 78 (dk_at dksX1_waysOf_2 9 rfl rfl)
theorem dX1_waysOf_58 : decode cX1_waysOf 58 = .ok (.ifCond .eq 45, 3) := dk_153 0 45 (dk_at dksX1_waysOf_2 12 rfl rfl)
theorem dX1_waysOf_61 : decode cX1_waysOf 61 = .ok (.aload_n 1, 1) := dk_43 (dk_at dksX1_waysOf_2 15 rfl rfl)
theorem dX1_waysOf_62 : decode cX1_waysOf 62 = .ok (.iload 4, 2) := dk_21 4 (dk_at dksX1_waysOf_2 16 rfl rfl)
theorem dX1_waysOf_64 : decode cX1_waysOf 64 = .ok (.aload 8, 2) := dk_25 8 (dk_at dksX1_waysOf_2 18 rfl rfl)
theorem dX1_waysOf_66 : decode cX1_waysOf 66 = .ok (.getfield 66, 3) := dk_180 0 66 (dk_at dksX1_waysOf_2 20 rfl rfl)
theorem dX1_waysOf_69 : decode cX1_waysOf 69 = .ok (.invokevirtual 262, 3) := dk_182 1 6 (dk_at dksX1_waysOf_3 0 rfl rfl)
theorem dX1_waysOf_72 : decode cX1_waysOf 72 = .ok (.ifCond .eq 31, 3) := dk_153 0 31 (dk_at dksX1_waysOf_3 3 rfl rfl)
theorem dX1_waysOf_75 : decode cX1_waysOf 75 = .ok (.aload_n 3, 1) := dk_45 (dk_at dksX1_waysOf_3 6 rfl rfl)
theorem dX1_waysOf_76 : decode cX1_waysOf 76 = .ok (.iload 4, 2) := dk_21 4 (dk_at dksX1_waysOf_3 7 rfl rfl)
theorem dX1_waysOf_78 : decode cX1_waysOf 78 = .ok (.ldc_w 266, 3) := dk_19 1 10 (dk_at dksX1_waysOf_3 9 rfl rfl)
theorem dX1_waysOf_81 : decode cX1_waysOf 81 = .ok (.aload_n 3, 1) := dk_45 (dk_at dksX1_waysOf_3 12 rfl rfl)
theorem dX1_waysOf_82 : decode cX1_waysOf 82 = .ok (.iload 4, 2) := dk_21 4 (dk_at dksX1_waysOf_3 13 rfl rfl)
theorem dX1_waysOf_84 : decode cX1_waysOf 84 = .ok (.iaload, 1) := dk_46 (dk_at dksX1_waysOf_3 15 rfl rfl)
theorem dX1_waysOf_85 : decode cX1_waysOf 85 = .ok (.aload_n 3, 1) := dk_45 (dk_at dksX1_waysOf_3 16 rfl rfl)
theorem dX1_waysOf_86 : decode cX1_waysOf 86 = .ok (.iload 4, 2) := dk_21 4 (dk_at dksX1_waysOf_3 17 rfl rfl)
theorem dX1_waysOf_88 : decode cX1_waysOf 88 = .ok (.aload 8, 2) := dk_25 8 (dk_at dksX1_waysOf_3 19 rfl rfl)
theorem dX1_waysOf_90 : decode cX1_waysOf 90 = .ok (.getfield 66, 3) := dk_180 0 66 (dk_at dksX1_waysOf_3 21 rfl rfl)
theorem dX1_waysOf_93 : decode cX1_waysOf 93 = .ok (.invokevirtual 198, 3) := dk_182 0 198 (dk_at dksX1_waysOf_4 0 rfl rfl)
theorem dX1_waysOf_96 : decode cX1_waysOf 96 = .ok (.iadd, 1) := dk_96 (dk_at dksX1_waysOf_4 3 rfl rfl)
theorem dX1_waysOf_97 : decode cX1_waysOf 97 = .ok (.iaload, 1) := dk_46 (dk_at dksX1_waysOf_4 4 rfl rfl)
theorem dX1_waysOf_98 : decode cX1_waysOf 98 = .ok (.iadd, 1) := dk_96 (dk_at dksX1_waysOf_4 5 rfl rfl)
theorem dX1_waysOf_99 : decode cX1_waysOf 99 = .ok (.invokestatic 267, 3) := dk_184 1 11 (dk_at dksX1_waysOf_4 6 rfl rfl)
theorem dX1_waysOf_102 : decode cX1_waysOf 102 = .ok (.iastore, 1) := dk_79 (dk_at dksX1_waysOf_4 9 rfl rfl)
theorem dX1_waysOf_103 : decode cX1_waysOf 103 = .ok (.iinc 7 1, 3) := dk_132 7 1 (dk_at dksX1_waysOf_4 10 rfl rfl)
theorem dX1_waysOf_106 : decode cX1_waysOf 106 = .ok (.goto (-67), 3) := dk_167 255 189 (dk_at dksX1_waysOf_4 13 rfl rfl)
theorem dX1_waysOf_109 : decode cX1_waysOf 109 = .ok (.iinc 4 (-1), 3) := dk_132 4 255 (dk_at dksX1_waysOf_4 16 rfl rfl)
theorem dX1_waysOf_112 : decode cX1_waysOf 112 = .ok (.goto (-92), 3) := dk_167 255 164 (dk_at dksX1_waysOf_4 19 rfl rfl)
theorem dX1_waysOf_115 : decode cX1_waysOf 115 = .ok (.aload_n 3, 1) := dk_45 (dk_at dksX1_waysOf_4 22 rfl rfl)
theorem dX1_waysOf_116 : decode cX1_waysOf 116 = .ok (.iconst 0, 1) := dk_3 (dk_at dksX1_waysOf_4 23 rfl rfl)
theorem dX1_waysOf_117 : decode cX1_waysOf 117 = .ok (.iaload, 1) := dk_46 (dk_at dksX1_waysOf_5 0 rfl rfl)
theorem dX1_waysOf_118 : decode cX1_waysOf 118 = .ok (.ireturn, 1) := dk_172 (dk_at dksX1_waysOf_5 1 rfl rfl)
abbrev cX1_setLetter : ByteArray := prog_1_method_6_code
def yX1_setLetter : MethodName := ⟨RX1, "setLetter", "(II)I"⟩
def dkwX1_setLetter_2 : List UInt8 := [21, 4, 172]
abbrev dktX1_setLetter_2 : List UInt8 := dkwX1_setLetter_2 ++ []
def dkwX1_setLetter_1 : List UInt8 := [180, 0, 24, 27, 50, 180, 0, 66, 182, 0, 70, 54, 4, 42, 180, 0, 24, 27, 50, 45, 181, 0, 66]
abbrev dktX1_setLetter_1 : List UInt8 := dkwX1_setLetter_1 ++ dktX1_setLetter_2
def dkwX1_setLetter_0 : List UInt8 := [27, 16, 12, 184, 0, 56, 28, 184, 0, 60, 78, 45, 198, 0, 7, 4, 167, 0, 4, 3, 184, 0, 13, 42]
abbrev dktX1_setLetter_0 : List UInt8 := dkwX1_setLetter_0 ++ dktX1_setLetter_1
theorem dksX1_setLetter_0 : cX1_setLetter.data.toList.drop 0 = dktX1_setLetter_0 := by decide +kernel
theorem dksX1_setLetter_1 : cX1_setLetter.data.toList.drop 24 = dktX1_setLetter_1 := dk_seg dksX1_setLetter_0 24 rfl rfl
theorem dksX1_setLetter_2 : cX1_setLetter.data.toList.drop 47 = dktX1_setLetter_2 := dk_seg dksX1_setLetter_1 23 rfl rfl
theorem dX1_setLetter_0 : decode cX1_setLetter 0 = .ok (.iload_n 1, 1) := dk_27 (dk_at dksX1_setLetter_0 0 rfl rfl)
theorem dX1_setLetter_1 : decode cX1_setLetter 1 = .ok (.bipush 12, 2) := dk_16 12 (dk_at dksX1_setLetter_0 1 rfl rfl)
theorem dX1_setLetter_3 : decode cX1_setLetter 3 = .ok (.invokestatic 56, 3) := dk_184 0 56 (dk_at dksX1_setLetter_0 3 rfl rfl)
theorem dX1_setLetter_6 : decode cX1_setLetter 6 = .ok (.iload_n 2, 1) := dk_28 (dk_at dksX1_setLetter_0 6 rfl rfl)
theorem dX1_setLetter_7 : decode cX1_setLetter 7 = .ok (.invokestatic 60, 3) := dk_184 0 60 (dk_at dksX1_setLetter_0 7 rfl rfl)
theorem dX1_setLetter_10 : decode cX1_setLetter 10 = .ok (.astore_n 3, 1) := dk_78 (dk_at dksX1_setLetter_0 10 rfl rfl)
theorem dX1_setLetter_11 : decode cX1_setLetter 11 = .ok (.aload_n 3, 1) := dk_45 (dk_at dksX1_setLetter_0 11 rfl rfl)
theorem dX1_setLetter_12 : decode cX1_setLetter 12 = .ok (.ifnull 7, 3) := dk_198 0 7 (dk_at dksX1_setLetter_0 12 rfl rfl)
theorem dX1_setLetter_15 : decode cX1_setLetter 15 = .ok (.iconst 1, 1) := dk_4 (dk_at dksX1_setLetter_0 15 rfl rfl)
theorem dX1_setLetter_16 : decode cX1_setLetter 16 = .ok (.goto 4, 3) := dk_167 0 4 (dk_at dksX1_setLetter_0 16 rfl rfl)
theorem dX1_setLetter_19 : decode cX1_setLetter 19 = .ok (.iconst 0, 1) := dk_3 (dk_at dksX1_setLetter_0 19 rfl rfl)
theorem dX1_setLetter_20 : decode cX1_setLetter 20 = .ok (.invokestatic 13, 3) := dk_184 0 13 (dk_at dksX1_setLetter_0 20 rfl rfl)
theorem dX1_setLetter_23 : decode cX1_setLetter 23 = .ok (.aload_n 0, 1) := dk_42 (dk_at dksX1_setLetter_0 23 rfl rfl)
theorem dX1_setLetter_24 : decode cX1_setLetter 24 = .ok (.getfield 24, 3) := dk_180 0 24 (dk_at dksX1_setLetter_1 0 rfl rfl)
theorem dX1_setLetter_27 : decode cX1_setLetter 27 = .ok (.iload_n 1, 1) := dk_27 (dk_at dksX1_setLetter_1 3 rfl rfl)
theorem dX1_setLetter_28 : decode cX1_setLetter 28 = .ok (.aaload, 1) := dk_50 (dk_at dksX1_setLetter_1 4 rfl rfl)
theorem dX1_setLetter_29 : decode cX1_setLetter 29 = .ok (.getfield 66, 3) := dk_180 0 66 (dk_at dksX1_setLetter_1 5 rfl rfl)
theorem dX1_setLetter_32 : decode cX1_setLetter 32 = .ok (.invokevirtual 70, 3) := dk_182 0 70 (dk_at dksX1_setLetter_1 8 rfl rfl)
theorem dX1_setLetter_35 : decode cX1_setLetter 35 = .ok (.istore 4, 2) := dk_54 4 (dk_at dksX1_setLetter_1 11 rfl rfl)
theorem dX1_setLetter_37 : decode cX1_setLetter 37 = .ok (.aload_n 0, 1) := dk_42 (dk_at dksX1_setLetter_1 13 rfl rfl)
theorem dX1_setLetter_38 : decode cX1_setLetter 38 = .ok (.getfield 24, 3) := dk_180 0 24 (dk_at dksX1_setLetter_1 14 rfl rfl)
theorem dX1_setLetter_41 : decode cX1_setLetter 41 = .ok (.iload_n 1, 1) := dk_27 (dk_at dksX1_setLetter_1 17 rfl rfl)
theorem dX1_setLetter_42 : decode cX1_setLetter 42 = .ok (.aaload, 1) := dk_50 (dk_at dksX1_setLetter_1 18 rfl rfl)
theorem dX1_setLetter_43 : decode cX1_setLetter 43 = .ok (.aload_n 3, 1) := dk_45 (dk_at dksX1_setLetter_1 19 rfl rfl)
theorem dX1_setLetter_44 : decode cX1_setLetter 44 = .ok (.putfield 66, 3) := dk_181 0 66 (dk_at dksX1_setLetter_1 20 rfl rfl)
theorem dX1_setLetter_47 : decode cX1_setLetter 47 = .ok (.iload 4, 2) := dk_21 4 (dk_at dksX1_setLetter_2 0 rfl rfl)
theorem dX1_setLetter_49 : decode cX1_setLetter 49 = .ok (.ireturn, 1) := dk_172 (dk_at dksX1_setLetter_2 2 rfl rfl)
abbrev cX1_require : ByteArray := prog_1_method_1_code
def yX1_require : MethodName := ⟨RX1, "require", "(Z)V"⟩
def dkwX1_require_0 : List UInt8 := [26, 154, 0, 11, 187, 0, 1, 89, 183, 0, 3, 191, 177]
abbrev dktX1_require_0 : List UInt8 := dkwX1_require_0 ++ []
theorem dksX1_require_0 : cX1_require.data.toList.drop 0 = dktX1_require_0 := by decide +kernel
theorem dX1_require_0 : decode cX1_require 0 = .ok (.iload_n 0, 1) := dk_26 (dk_at dksX1_require_0 0 rfl rfl)
theorem dX1_require_1 : decode cX1_require 1 = .ok (.ifCond .ne 11, 3) := dk_154 0 11 (dk_at dksX1_require_0 1 rfl rfl)
theorem dX1_require_4 : decode cX1_require 4 = .ok (.new 1, 3) := dk_187 0 1 (dk_at dksX1_require_0 4 rfl rfl)
theorem dX1_require_7 : decode cX1_require 7 = .ok (.dup, 1) := dk_89 (dk_at dksX1_require_0 7 rfl rfl)
theorem dX1_require_8 : decode cX1_require 8 = .ok (.invokespecial 3, 3) := dk_183 0 3 (dk_at dksX1_require_0 8 rfl rfl)
theorem dX1_require_11 : decode cX1_require 11 = .ok (.athrow, 1) := dk_191 (dk_at dksX1_require_0 11 rfl rfl)
theorem dX1_require_12 : decode cX1_require 12 = .ok (.return_, 1) := dk_177 (dk_at dksX1_require_0 12 rfl rfl)
abbrev cX1_letter : ByteArray := prog_1_method_7_code
def yX1_letter : MethodName := ⟨RX1, "letter", "(II)I"⟩
def dkwX1_letter_0 : List UInt8 := [27, 16, 12, 184, 0, 56, 28, 6, 184, 0, 56, 42, 180, 0, 24, 27, 50, 28, 182, 0, 74, 172]
abbrev dktX1_letter_0 : List UInt8 := dkwX1_letter_0 ++ []
theorem dksX1_letter_0 : cX1_letter.data.toList.drop 0 = dktX1_letter_0 := by decide +kernel
theorem dX1_letter_0 : decode cX1_letter 0 = .ok (.iload_n 1, 1) := dk_27 (dk_at dksX1_letter_0 0 rfl rfl)
theorem dX1_letter_1 : decode cX1_letter 1 = .ok (.bipush 12, 2) := dk_16 12 (dk_at dksX1_letter_0 1 rfl rfl)
theorem dX1_letter_3 : decode cX1_letter 3 = .ok (.invokestatic 56, 3) := dk_184 0 56 (dk_at dksX1_letter_0 3 rfl rfl)
theorem dX1_letter_6 : decode cX1_letter 6 = .ok (.iload_n 2, 1) := dk_28 (dk_at dksX1_letter_0 6 rfl rfl)
theorem dX1_letter_7 : decode cX1_letter 7 = .ok (.iconst 3, 1) := dk_6 (dk_at dksX1_letter_0 7 rfl rfl)
theorem dX1_letter_8 : decode cX1_letter 8 = .ok (.invokestatic 56, 3) := dk_184 0 56 (dk_at dksX1_letter_0 8 rfl rfl)
theorem dX1_letter_11 : decode cX1_letter 11 = .ok (.aload_n 0, 1) := dk_42 (dk_at dksX1_letter_0 11 rfl rfl)
theorem dX1_letter_12 : decode cX1_letter 12 = .ok (.getfield 24, 3) := dk_180 0 24 (dk_at dksX1_letter_0 12 rfl rfl)
theorem dX1_letter_15 : decode cX1_letter 15 = .ok (.iload_n 1, 1) := dk_27 (dk_at dksX1_letter_0 15 rfl rfl)
theorem dX1_letter_16 : decode cX1_letter 16 = .ok (.aaload, 1) := dk_50 (dk_at dksX1_letter_0 16 rfl rfl)
theorem dX1_letter_17 : decode cX1_letter 17 = .ok (.iload_n 2, 1) := dk_28 (dk_at dksX1_letter_0 17 rfl rfl)
theorem dX1_letter_18 : decode cX1_letter 18 = .ok (.invokevirtual 74, 3) := dk_182 0 74 (dk_at dksX1_letter_0 18 rfl rfl)
theorem dX1_letter_21 : decode cX1_letter 21 = .ok (.ireturn, 1) := dk_172 (dk_at dksX1_letter_0 21 rfl rfl)
abbrev cX1_alike : ByteArray := prog_1_method_12_code
def yX1_alike : MethodName := ⟨RX1, "alike", "(II)I"⟩
def dkwX1_alike_1 : List UInt8 := [50, 182, 0, 150, 172]
abbrev dktX1_alike_1 : List UInt8 := dkwX1_alike_1 ++ []
def dkwX1_alike_0 : List UInt8 := [27, 16, 12, 184, 0, 56, 28, 16, 12, 184, 0, 56, 42, 42, 180, 0, 24, 27, 50, 42, 180, 0, 24, 28]
abbrev dktX1_alike_0 : List UInt8 := dkwX1_alike_0 ++ dktX1_alike_1
theorem dksX1_alike_0 : cX1_alike.data.toList.drop 0 = dktX1_alike_0 := by decide +kernel
theorem dksX1_alike_1 : cX1_alike.data.toList.drop 24 = dktX1_alike_1 := dk_seg dksX1_alike_0 24 rfl rfl
theorem dX1_alike_0 : decode cX1_alike 0 = .ok (.iload_n 1, 1) := dk_27 (dk_at dksX1_alike_0 0 rfl rfl)
theorem dX1_alike_1 : decode cX1_alike 1 = .ok (.bipush 12, 2) := dk_16 12 (dk_at dksX1_alike_0 1 rfl rfl)
theorem dX1_alike_3 : decode cX1_alike 3 = .ok (.invokestatic 56, 3) := dk_184 0 56 (dk_at dksX1_alike_0 3 rfl rfl)
theorem dX1_alike_6 : decode cX1_alike 6 = .ok (.iload_n 2, 1) := dk_28 (dk_at dksX1_alike_0 6 rfl rfl)
theorem dX1_alike_7 : decode cX1_alike 7 = .ok (.bipush 12, 2) := dk_16 12 (dk_at dksX1_alike_0 7 rfl rfl)
theorem dX1_alike_9 : decode cX1_alike 9 = .ok (.invokestatic 56, 3) := dk_184 0 56 (dk_at dksX1_alike_0 9 rfl rfl)
theorem dX1_alike_12 : decode cX1_alike 12 = .ok (.aload_n 0, 1) := dk_42 (dk_at dksX1_alike_0 12 rfl rfl)
theorem dX1_alike_13 : decode cX1_alike 13 = .ok (.aload_n 0, 1) := dk_42 (dk_at dksX1_alike_0 13 rfl rfl)
theorem dX1_alike_14 : decode cX1_alike 14 = .ok (.getfield 24, 3) := dk_180 0 24 (dk_at dksX1_alike_0 14 rfl rfl)
theorem dX1_alike_17 : decode cX1_alike 17 = .ok (.iload_n 1, 1) := dk_27 (dk_at dksX1_alike_0 17 rfl rfl)
theorem dX1_alike_18 : decode cX1_alike 18 = .ok (.aaload, 1) := dk_50 (dk_at dksX1_alike_0 18 rfl rfl)
theorem dX1_alike_19 : decode cX1_alike 19 = .ok (.aload_n 0, 1) := dk_42 (dk_at dksX1_alike_0 19 rfl rfl)
theorem dX1_alike_20 : decode cX1_alike 20 = .ok (.getfield 24, 3) := dk_180 0 24 (dk_at dksX1_alike_0 20 rfl rfl)
theorem dX1_alike_23 : decode cX1_alike 23 = .ok (.iload_n 2, 1) := dk_28 (dk_at dksX1_alike_0 23 rfl rfl)
theorem dX1_alike_24 : decode cX1_alike 24 = .ok (.aaload, 1) := dk_50 (dk_at dksX1_alike_1 0 rfl rfl)
theorem dX1_alike_25 : decode cX1_alike 25 = .ok (.invokevirtual 150, 3) := dk_182 0 150 (dk_at dksX1_alike_1 1 rfl rfl)
theorem dX1_alike_28 : decode cX1_alike 28 = .ok (.ireturn, 1) := dk_172 (dk_at dksX1_alike_1 4 rfl rfl)
abbrev cX1_setKnotter : ByteArray := prog_1_method_16_code
def yX1_setKnotter : MethodName := ⟨RX1, "setKnotter", "(II)I"⟩
def dkwX1_setKnotter_1 : List UInt8 := [180, 0, 166, 96, 62, 42, 27, 181, 0, 162, 42, 28, 181, 0, 166, 29, 172]
abbrev dktX1_setKnotter_1 : List UInt8 := dkwX1_setKnotter_1 ++ []
def dkwX1_setKnotter_0 : List UInt8 := [3, 16, 99, 27, 184, 0, 158, 3, 16, 99, 28, 184, 0, 158, 16, 100, 42, 180, 0, 162, 104, 42]
abbrev dktX1_setKnotter_0 : List UInt8 := dkwX1_setKnotter_0 ++ dktX1_setKnotter_1
theorem dksX1_setKnotter_0 : cX1_setKnotter.data.toList.drop 0 = dktX1_setKnotter_0 := by decide +kernel
theorem dksX1_setKnotter_1 : cX1_setKnotter.data.toList.drop 22 = dktX1_setKnotter_1 := dk_seg dksX1_setKnotter_0 22 rfl rfl
theorem dX1_setKnotter_0 : decode cX1_setKnotter 0 = .ok (.iconst 0, 1) := dk_3 (dk_at dksX1_setKnotter_0 0 rfl rfl)
theorem dX1_setKnotter_1 : decode cX1_setKnotter 1 = .ok (.bipush 99, 2) := dk_16 99 (dk_at dksX1_setKnotter_0 1 rfl rfl)
theorem dX1_setKnotter_3 : decode cX1_setKnotter 3 = .ok (.iload_n 1, 1) := dk_27 (dk_at dksX1_setKnotter_0 3 rfl rfl)
theorem dX1_setKnotter_4 : decode cX1_setKnotter 4 = .ok (.invokestatic 158, 3) := dk_184 0 158 (dk_at dksX1_setKnotter_0 4 rfl rfl)
theorem dX1_setKnotter_7 : decode cX1_setKnotter 7 = .ok (.iconst 0, 1) := dk_3 (dk_at dksX1_setKnotter_0 7 rfl rfl)
theorem dX1_setKnotter_8 : decode cX1_setKnotter 8 = .ok (.bipush 99, 2) := dk_16 99 (dk_at dksX1_setKnotter_0 8 rfl rfl)
theorem dX1_setKnotter_10 : decode cX1_setKnotter 10 = .ok (.iload_n 2, 1) := dk_28 (dk_at dksX1_setKnotter_0 10 rfl rfl)
theorem dX1_setKnotter_11 : decode cX1_setKnotter 11 = .ok (.invokestatic 158, 3) := dk_184 0 158 (dk_at dksX1_setKnotter_0 11 rfl rfl)
theorem dX1_setKnotter_14 : decode cX1_setKnotter 14 = .ok (.bipush 100, 2) := dk_16 100 (dk_at dksX1_setKnotter_0 14 rfl rfl)
theorem dX1_setKnotter_16 : decode cX1_setKnotter 16 = .ok (.aload_n 0, 1) := dk_42 (dk_at dksX1_setKnotter_0 16 rfl rfl)
theorem dX1_setKnotter_17 : decode cX1_setKnotter 17 = .ok (.getfield 162, 3) := dk_180 0 162 (dk_at dksX1_setKnotter_0 17 rfl rfl)
theorem dX1_setKnotter_20 : decode cX1_setKnotter 20 = .ok (.imul, 1) := dk_104 (dk_at dksX1_setKnotter_0 20 rfl rfl)
theorem dX1_setKnotter_21 : decode cX1_setKnotter 21 = .ok (.aload_n 0, 1) := dk_42 (dk_at dksX1_setKnotter_0 21 rfl rfl)
theorem dX1_setKnotter_22 : decode cX1_setKnotter 22 = .ok (.getfield 166, 3) := dk_180 0 166 (dk_at dksX1_setKnotter_1 0 rfl rfl)
theorem dX1_setKnotter_25 : decode cX1_setKnotter 25 = .ok (.iadd, 1) := dk_96 (dk_at dksX1_setKnotter_1 3 rfl rfl)
theorem dX1_setKnotter_26 : decode cX1_setKnotter 26 = .ok (.istore_n 3, 1) := dk_62 (dk_at dksX1_setKnotter_1 4 rfl rfl)
theorem dX1_setKnotter_27 : decode cX1_setKnotter 27 = .ok (.aload_n 0, 1) := dk_42 (dk_at dksX1_setKnotter_1 5 rfl rfl)
theorem dX1_setKnotter_28 : decode cX1_setKnotter 28 = .ok (.iload_n 1, 1) := dk_27 (dk_at dksX1_setKnotter_1 6 rfl rfl)
theorem dX1_setKnotter_29 : decode cX1_setKnotter 29 = .ok (.putfield 162, 3) := dk_181 0 162 (dk_at dksX1_setKnotter_1 7 rfl rfl)
theorem dX1_setKnotter_32 : decode cX1_setKnotter 32 = .ok (.aload_n 0, 1) := dk_42 (dk_at dksX1_setKnotter_1 10 rfl rfl)
theorem dX1_setKnotter_33 : decode cX1_setKnotter 33 = .ok (.iload_n 2, 1) := dk_28 (dk_at dksX1_setKnotter_1 11 rfl rfl)
theorem dX1_setKnotter_34 : decode cX1_setKnotter 34 = .ok (.putfield 166, 3) := dk_181 0 166 (dk_at dksX1_setKnotter_1 12 rfl rfl)
theorem dX1_setKnotter_37 : decode cX1_setKnotter 37 = .ok (.iload_n 3, 1) := dk_29 (dk_at dksX1_setKnotter_1 15 rfl rfl)
theorem dX1_setKnotter_38 : decode cX1_setKnotter 38 = .ok (.ireturn, 1) := dk_172 (dk_at dksX1_setKnotter_1 16 rfl rfl)
abbrev cX1_requireFrom : ByteArray := prog_1_method_4_code
def yX1_requireFrom : MethodName := ⟨RX1, "requireFrom", "(III)V"⟩
def dkwX1_requireFrom_0 : List UInt8 := [28, 26, 161, 0, 12, 28, 27, 163, 0, 7, 4, 167, 0, 4, 3, 184, 0, 13, 177]
abbrev dktX1_requireFrom_0 : List UInt8 := dkwX1_requireFrom_0 ++ []
theorem dksX1_requireFrom_0 : cX1_requireFrom.data.toList.drop 0 = dktX1_requireFrom_0 := by decide +kernel
theorem dX1_requireFrom_0 : decode cX1_requireFrom 0 = .ok (.iload_n 2, 1) := dk_28 (dk_at dksX1_requireFrom_0 0 rfl rfl)
theorem dX1_requireFrom_1 : decode cX1_requireFrom 1 = .ok (.iload_n 0, 1) := dk_26 (dk_at dksX1_requireFrom_0 1 rfl rfl)
theorem dX1_requireFrom_2 : decode cX1_requireFrom 2 = .ok (.if_icmp .lt 12, 3) := dk_161 0 12 (dk_at dksX1_requireFrom_0 2 rfl rfl)
theorem dX1_requireFrom_5 : decode cX1_requireFrom 5 = .ok (.iload_n 2, 1) := dk_28 (dk_at dksX1_requireFrom_0 5 rfl rfl)
theorem dX1_requireFrom_6 : decode cX1_requireFrom 6 = .ok (.iload_n 1, 1) := dk_27 (dk_at dksX1_requireFrom_0 6 rfl rfl)
theorem dX1_requireFrom_7 : decode cX1_requireFrom 7 = .ok (.if_icmp .gt 7, 3) := dk_163 0 7 (dk_at dksX1_requireFrom_0 7 rfl rfl)
theorem dX1_requireFrom_10 : decode cX1_requireFrom 10 = .ok (.iconst 1, 1) := dk_4 (dk_at dksX1_requireFrom_0 10 rfl rfl)
theorem dX1_requireFrom_11 : decode cX1_requireFrom 11 = .ok (.goto 4, 3) := dk_167 0 4 (dk_at dksX1_requireFrom_0 11 rfl rfl)
theorem dX1_requireFrom_14 : decode cX1_requireFrom 14 = .ok (.iconst 0, 1) := dk_3 (dk_at dksX1_requireFrom_0 14 rfl rfl)
theorem dX1_requireFrom_15 : decode cX1_requireFrom 15 = .ok (.invokestatic 13, 3) := dk_184 0 13 (dk_at dksX1_requireFrom_0 15 rfl rfl)
theorem dX1_requireFrom_18 : decode cX1_requireFrom 18 = .ok (.return_, 1) := dk_177 (dk_at dksX1_requireFrom_0 18 rfl rfl)
abbrev cX1_setFeel : ByteArray := prog_1_method_17_code
def yX1_setFeel : MethodName := ⟨RX1, "setFeel", "(III)I"⟩
def dkwX1_setFeel_3 : List UInt8 := [21, 4, 172]
abbrev dktX1_setFeel_3 : List UInt8 := dkwX1_setFeel_3 ++ []
def dkwX1_setFeel_2 : List UInt8 := [180, 0, 31, 180, 0, 169, 27, 50, 28, 29, 79, 42, 180, 0, 31, 180, 0, 169, 28, 50, 27, 29, 79]
abbrev dktX1_setFeel_2 : List UInt8 := dkwX1_setFeel_2 ++ dktX1_setFeel_3
def dkwX1_setFeel_1 : List UInt8 := [184, 0, 13, 3, 16, 9, 29, 184, 0, 158, 42, 180, 0, 31, 180, 0, 169, 27, 50, 28, 46, 54, 4, 42]
abbrev dktX1_setFeel_1 : List UInt8 := dkwX1_setFeel_1 ++ dktX1_setFeel_2
def dkwX1_setFeel_0 : List UInt8 := [4, 7, 27, 184, 0, 158, 4, 7, 28, 184, 0, 158, 27, 28, 159, 0, 7, 4, 167, 0, 4, 3]
abbrev dktX1_setFeel_0 : List UInt8 := dkwX1_setFeel_0 ++ dktX1_setFeel_1
theorem dksX1_setFeel_0 : cX1_setFeel.data.toList.drop 0 = dktX1_setFeel_0 := by decide +kernel
theorem dksX1_setFeel_1 : cX1_setFeel.data.toList.drop 22 = dktX1_setFeel_1 := dk_seg dksX1_setFeel_0 22 rfl rfl
theorem dksX1_setFeel_2 : cX1_setFeel.data.toList.drop 46 = dktX1_setFeel_2 := dk_seg dksX1_setFeel_1 24 rfl rfl
theorem dksX1_setFeel_3 : cX1_setFeel.data.toList.drop 69 = dktX1_setFeel_3 := dk_seg dksX1_setFeel_2 23 rfl rfl
theorem dX1_setFeel_0 : decode cX1_setFeel 0 = .ok (.iconst 1, 1) := dk_4 (dk_at dksX1_setFeel_0 0 rfl rfl)
theorem dX1_setFeel_1 : decode cX1_setFeel 1 = .ok (.iconst 4, 1) := dk_7 (dk_at dksX1_setFeel_0 1 rfl rfl)
theorem dX1_setFeel_2 : decode cX1_setFeel 2 = .ok (.iload_n 1, 1) := dk_27 (dk_at dksX1_setFeel_0 2 rfl rfl)
theorem dX1_setFeel_3 : decode cX1_setFeel 3 = .ok (.invokestatic 158, 3) := dk_184 0 158 (dk_at dksX1_setFeel_0 3 rfl rfl)
theorem dX1_setFeel_6 : decode cX1_setFeel 6 = .ok (.iconst 1, 1) := dk_4 (dk_at dksX1_setFeel_0 6 rfl rfl)
theorem dX1_setFeel_7 : decode cX1_setFeel 7 = .ok (.iconst 4, 1) := dk_7 (dk_at dksX1_setFeel_0 7 rfl rfl)
theorem dX1_setFeel_8 : decode cX1_setFeel 8 = .ok (.iload_n 2, 1) := dk_28 (dk_at dksX1_setFeel_0 8 rfl rfl)
theorem dX1_setFeel_9 : decode cX1_setFeel 9 = .ok (.invokestatic 158, 3) := dk_184 0 158 (dk_at dksX1_setFeel_0 9 rfl rfl)
theorem dX1_setFeel_12 : decode cX1_setFeel 12 = .ok (.iload_n 1, 1) := dk_27 (dk_at dksX1_setFeel_0 12 rfl rfl)
theorem dX1_setFeel_13 : decode cX1_setFeel 13 = .ok (.iload_n 2, 1) := dk_28 (dk_at dksX1_setFeel_0 13 rfl rfl)
theorem dX1_setFeel_14 : decode cX1_setFeel 14 = .ok (.if_icmp .eq 7, 3) := dk_159 0 7 (dk_at dksX1_setFeel_0 14 rfl rfl)
theorem dX1_setFeel_17 : decode cX1_setFeel 17 = .ok (.iconst 1, 1) := dk_4 (dk_at dksX1_setFeel_0 17 rfl rfl)
theorem dX1_setFeel_18 : decode cX1_setFeel 18 = .ok (.goto 4, 3) := dk_167 0 4 (dk_at dksX1_setFeel_0 18 rfl rfl)
theorem dX1_setFeel_21 : decode cX1_setFeel 21 = .ok (.iconst 0, 1) := dk_3 (dk_at dksX1_setFeel_0 21 rfl rfl)
theorem dX1_setFeel_22 : decode cX1_setFeel 22 = .ok (.invokestatic 13, 3) := dk_184 0 13 (dk_at dksX1_setFeel_1 0 rfl rfl)
theorem dX1_setFeel_25 : decode cX1_setFeel 25 = .ok (.iconst 0, 1) := dk_3 (dk_at dksX1_setFeel_1 3 rfl rfl)
theorem dX1_setFeel_26 : decode cX1_setFeel 26 = .ok (.bipush 9, 2) := dk_16 9 (dk_at dksX1_setFeel_1 4 rfl rfl)
theorem dX1_setFeel_28 : decode cX1_setFeel 28 = .ok (.iload_n 3, 1) := dk_29 (dk_at dksX1_setFeel_1 6 rfl rfl)
theorem dX1_setFeel_29 : decode cX1_setFeel 29 = .ok (.invokestatic 158, 3) := dk_184 0 158 (dk_at dksX1_setFeel_1 7 rfl rfl)
theorem dX1_setFeel_32 : decode cX1_setFeel 32 = .ok (.aload_n 0, 1) := dk_42 (dk_at dksX1_setFeel_1 10 rfl rfl)
theorem dX1_setFeel_33 : decode cX1_setFeel 33 = .ok (.getfield 31, 3) := dk_180 0 31 (dk_at dksX1_setFeel_1 11 rfl rfl)
theorem dX1_setFeel_36 : decode cX1_setFeel 36 = .ok (.getfield 169, 3) := dk_180 0 169 (dk_at dksX1_setFeel_1 14 rfl rfl)
theorem dX1_setFeel_39 : decode cX1_setFeel 39 = .ok (.iload_n 1, 1) := dk_27 (dk_at dksX1_setFeel_1 17 rfl rfl)
theorem dX1_setFeel_40 : decode cX1_setFeel 40 = .ok (.aaload, 1) := dk_50 (dk_at dksX1_setFeel_1 18 rfl rfl)
theorem dX1_setFeel_41 : decode cX1_setFeel 41 = .ok (.iload_n 2, 1) := dk_28 (dk_at dksX1_setFeel_1 19 rfl rfl)
theorem dX1_setFeel_42 : decode cX1_setFeel 42 = .ok (.iaload, 1) := dk_46 (dk_at dksX1_setFeel_1 20 rfl rfl)
theorem dX1_setFeel_43 : decode cX1_setFeel 43 = .ok (.istore 4, 2) := dk_54 4 (dk_at dksX1_setFeel_1 21 rfl rfl)
theorem dX1_setFeel_45 : decode cX1_setFeel 45 = .ok (.aload_n 0, 1) := dk_42 (dk_at dksX1_setFeel_1 23 rfl rfl)
theorem dX1_setFeel_46 : decode cX1_setFeel 46 = .ok (.getfield 31, 3) := dk_180 0 31 (dk_at dksX1_setFeel_2 0 rfl rfl)
theorem dX1_setFeel_49 : decode cX1_setFeel 49 = .ok (.getfield 169, 3) := dk_180 0 169 (dk_at dksX1_setFeel_2 3 rfl rfl)
theorem dX1_setFeel_52 : decode cX1_setFeel 52 = .ok (.iload_n 1, 1) := dk_27 (dk_at dksX1_setFeel_2 6 rfl rfl)
theorem dX1_setFeel_53 : decode cX1_setFeel 53 = .ok (.aaload, 1) := dk_50 (dk_at dksX1_setFeel_2 7 rfl rfl)
theorem dX1_setFeel_54 : decode cX1_setFeel 54 = .ok (.iload_n 2, 1) := dk_28 (dk_at dksX1_setFeel_2 8 rfl rfl)
theorem dX1_setFeel_55 : decode cX1_setFeel 55 = .ok (.iload_n 3, 1) := dk_29 (dk_at dksX1_setFeel_2 9 rfl rfl)
theorem dX1_setFeel_56 : decode cX1_setFeel 56 = .ok (.iastore, 1) := dk_79 (dk_at dksX1_setFeel_2 10 rfl rfl)
theorem dX1_setFeel_57 : decode cX1_setFeel 57 = .ok (.aload_n 0, 1) := dk_42 (dk_at dksX1_setFeel_2 11 rfl rfl)
theorem dX1_setFeel_58 : decode cX1_setFeel 58 = .ok (.getfield 31, 3) := dk_180 0 31 (dk_at dksX1_setFeel_2 12 rfl rfl)
theorem dX1_setFeel_61 : decode cX1_setFeel 61 = .ok (.getfield 169, 3) := dk_180 0 169 (dk_at dksX1_setFeel_2 15 rfl rfl)
theorem dX1_setFeel_64 : decode cX1_setFeel 64 = .ok (.iload_n 2, 1) := dk_28 (dk_at dksX1_setFeel_2 18 rfl rfl)
theorem dX1_setFeel_65 : decode cX1_setFeel 65 = .ok (.aaload, 1) := dk_50 (dk_at dksX1_setFeel_2 19 rfl rfl)
theorem dX1_setFeel_66 : decode cX1_setFeel 66 = .ok (.iload_n 1, 1) := dk_27 (dk_at dksX1_setFeel_2 20 rfl rfl)
theorem dX1_setFeel_67 : decode cX1_setFeel 67 = .ok (.iload_n 3, 1) := dk_29 (dk_at dksX1_setFeel_2 21 rfl rfl)
theorem dX1_setFeel_68 : decode cX1_setFeel 68 = .ok (.iastore, 1) := dk_79 (dk_at dksX1_setFeel_2 22 rfl rfl)
theorem dX1_setFeel_69 : decode cX1_setFeel 69 = .ok (.iload 4, 2) := dk_21 4 (dk_at dksX1_setFeel_3 0 rfl rfl)
theorem dX1_setFeel_71 : decode cX1_setFeel 71 = .ok (.ireturn, 1) := dk_172 (dk_at dksX1_setFeel_3 2 rfl rfl)
abbrev cX1_setCosts : ByteArray := prog_1_method_18_code
def yX1_setCosts : MethodName := ⟨RX1, "setCosts", "(II)I"⟩
def dkwX1_setCosts_2 : List UInt8 := [181, 0, 176, 29, 172]
abbrev dktX1_setCosts_2 : List UInt8 := dkwX1_setCosts_2 ++ []
def dkwX1_setCosts_1 : List UInt8 := [42, 180, 0, 31, 180, 0, 176, 96, 62, 42, 180, 0, 31, 27, 181, 0, 173, 42, 180, 0, 31, 28]
abbrev dktX1_setCosts_1 : List UInt8 := dkwX1_setCosts_1 ++ dktX1_setCosts_2
def dkwX1_setCosts_0 : List UInt8 := [4, 16, 9, 27, 184, 0, 158, 4, 16, 9, 28, 184, 0, 158, 16, 10, 42, 180, 0, 31, 180, 0, 173, 104]
abbrev dktX1_setCosts_0 : List UInt8 := dkwX1_setCosts_0 ++ dktX1_setCosts_1
theorem dksX1_setCosts_0 : cX1_setCosts.data.toList.drop 0 = dktX1_setCosts_0 := by decide +kernel
theorem dksX1_setCosts_1 : cX1_setCosts.data.toList.drop 24 = dktX1_setCosts_1 := dk_seg dksX1_setCosts_0 24 rfl rfl
theorem dksX1_setCosts_2 : cX1_setCosts.data.toList.drop 46 = dktX1_setCosts_2 := dk_seg dksX1_setCosts_1 22 rfl rfl
theorem dX1_setCosts_0 : decode cX1_setCosts 0 = .ok (.iconst 1, 1) := dk_4 (dk_at dksX1_setCosts_0 0 rfl rfl)
theorem dX1_setCosts_1 : decode cX1_setCosts 1 = .ok (.bipush 9, 2) := dk_16 9 (dk_at dksX1_setCosts_0 1 rfl rfl)
theorem dX1_setCosts_3 : decode cX1_setCosts 3 = .ok (.iload_n 1, 1) := dk_27 (dk_at dksX1_setCosts_0 3 rfl rfl)
theorem dX1_setCosts_4 : decode cX1_setCosts 4 = .ok (.invokestatic 158, 3) := dk_184 0 158 (dk_at dksX1_setCosts_0 4 rfl rfl)
theorem dX1_setCosts_7 : decode cX1_setCosts 7 = .ok (.iconst 1, 1) := dk_4 (dk_at dksX1_setCosts_0 7 rfl rfl)
theorem dX1_setCosts_8 : decode cX1_setCosts 8 = .ok (.bipush 9, 2) := dk_16 9 (dk_at dksX1_setCosts_0 8 rfl rfl)
theorem dX1_setCosts_10 : decode cX1_setCosts 10 = .ok (.iload_n 2, 1) := dk_28 (dk_at dksX1_setCosts_0 10 rfl rfl)
theorem dX1_setCosts_11 : decode cX1_setCosts 11 = .ok (.invokestatic 158, 3) := dk_184 0 158 (dk_at dksX1_setCosts_0 11 rfl rfl)
theorem dX1_setCosts_14 : decode cX1_setCosts 14 = .ok (.bipush 10, 2) := dk_16 10 (dk_at dksX1_setCosts_0 14 rfl rfl)
theorem dX1_setCosts_16 : decode cX1_setCosts 16 = .ok (.aload_n 0, 1) := dk_42 (dk_at dksX1_setCosts_0 16 rfl rfl)
theorem dX1_setCosts_17 : decode cX1_setCosts 17 = .ok (.getfield 31, 3) := dk_180 0 31 (dk_at dksX1_setCosts_0 17 rfl rfl)
theorem dX1_setCosts_20 : decode cX1_setCosts 20 = .ok (.getfield 173, 3) := dk_180 0 173 (dk_at dksX1_setCosts_0 20 rfl rfl)
theorem dX1_setCosts_23 : decode cX1_setCosts 23 = .ok (.imul, 1) := dk_104 (dk_at dksX1_setCosts_0 23 rfl rfl)
theorem dX1_setCosts_24 : decode cX1_setCosts 24 = .ok (.aload_n 0, 1) := dk_42 (dk_at dksX1_setCosts_1 0 rfl rfl)
theorem dX1_setCosts_25 : decode cX1_setCosts 25 = .ok (.getfield 31, 3) := dk_180 0 31 (dk_at dksX1_setCosts_1 1 rfl rfl)
theorem dX1_setCosts_28 : decode cX1_setCosts 28 = .ok (.getfield 176, 3) := dk_180 0 176 (dk_at dksX1_setCosts_1 4 rfl rfl)
theorem dX1_setCosts_31 : decode cX1_setCosts 31 = .ok (.iadd, 1) := dk_96 (dk_at dksX1_setCosts_1 7 rfl rfl)
theorem dX1_setCosts_32 : decode cX1_setCosts 32 = .ok (.istore_n 3, 1) := dk_62 (dk_at dksX1_setCosts_1 8 rfl rfl)
theorem dX1_setCosts_33 : decode cX1_setCosts 33 = .ok (.aload_n 0, 1) := dk_42 (dk_at dksX1_setCosts_1 9 rfl rfl)
theorem dX1_setCosts_34 : decode cX1_setCosts 34 = .ok (.getfield 31, 3) := dk_180 0 31 (dk_at dksX1_setCosts_1 10 rfl rfl)
theorem dX1_setCosts_37 : decode cX1_setCosts 37 = .ok (.iload_n 1, 1) := dk_27 (dk_at dksX1_setCosts_1 13 rfl rfl)
theorem dX1_setCosts_38 : decode cX1_setCosts 38 = .ok (.putfield 173, 3) := dk_181 0 173 (dk_at dksX1_setCosts_1 14 rfl rfl)
theorem dX1_setCosts_41 : decode cX1_setCosts 41 = .ok (.aload_n 0, 1) := dk_42 (dk_at dksX1_setCosts_1 17 rfl rfl)
theorem dX1_setCosts_42 : decode cX1_setCosts 42 = .ok (.getfield 31, 3) := dk_180 0 31 (dk_at dksX1_setCosts_1 18 rfl rfl)
theorem dX1_setCosts_45 : decode cX1_setCosts 45 = .ok (.iload_n 2, 1) := dk_28 (dk_at dksX1_setCosts_1 21 rfl rfl)
theorem dX1_setCosts_46 : decode cX1_setCosts 46 = .ok (.putfield 176, 3) := dk_181 0 176 (dk_at dksX1_setCosts_2 0 rfl rfl)
theorem dX1_setCosts_49 : decode cX1_setCosts 49 = .ok (.iload_n 3, 1) := dk_29 (dk_at dksX1_setCosts_2 3 rfl rfl)
theorem dX1_setCosts_50 : decode cX1_setCosts 50 = .ok (.ireturn, 1) := dk_172 (dk_at dksX1_setCosts_2 4 rfl rfl)
abbrev cX1_feed : ByteArray := prog_1_method_21_code
def yX1_feed : MethodName := ⟨RX1, "feed", "(IIIII)I"⟩
def dkwX1_feed_2 : List UInt8 := [182, 0, 191, 42, 180, 0, 185, 172]
abbrev dktX1_feed_2 : List UInt8 := dkwX1_feed_2 ++ []
def dkwX1_feed_1 : List UInt8 := [182, 0, 191, 42, 28, 182, 0, 191, 42, 29, 182, 0, 191, 42, 21, 4, 182, 0, 191, 42, 21, 5]
abbrev dktX1_feed_1 : List UInt8 := dkwX1_feed_1 ++ dktX1_feed_2
def dkwX1_feed_0 : List UInt8 := [42, 180, 0, 185, 16, 20, 96, 16, 80, 163, 0, 7, 4, 167, 0, 4, 3, 184, 0, 188, 42, 27]
abbrev dktX1_feed_0 : List UInt8 := dkwX1_feed_0 ++ dktX1_feed_1
theorem dksX1_feed_0 : cX1_feed.data.toList.drop 0 = dktX1_feed_0 := by decide +kernel
theorem dksX1_feed_1 : cX1_feed.data.toList.drop 22 = dktX1_feed_1 := dk_seg dksX1_feed_0 22 rfl rfl
theorem dksX1_feed_2 : cX1_feed.data.toList.drop 44 = dktX1_feed_2 := dk_seg dksX1_feed_1 22 rfl rfl
theorem dX1_feed_0 : decode cX1_feed 0 = .ok (.aload_n 0, 1) := dk_42 (dk_at dksX1_feed_0 0 rfl rfl)
theorem dX1_feed_1 : decode cX1_feed 1 = .ok (.getfield 185, 3) := dk_180 0 185 (dk_at dksX1_feed_0 1 rfl rfl)
theorem dX1_feed_4 : decode cX1_feed 4 = .ok (.bipush 20, 2) := dk_16 20 (dk_at dksX1_feed_0 4 rfl rfl)
theorem dX1_feed_6 : decode cX1_feed 6 = .ok (.iadd, 1) := dk_96 (dk_at dksX1_feed_0 6 rfl rfl)
theorem dX1_feed_7 : decode cX1_feed 7 = .ok (.bipush 80, 2) := dk_16 80 (dk_at dksX1_feed_0 7 rfl rfl)
theorem dX1_feed_9 : decode cX1_feed 9 = .ok (.if_icmp .gt 7, 3) := dk_163 0 7 (dk_at dksX1_feed_0 9 rfl rfl)
theorem dX1_feed_12 : decode cX1_feed 12 = .ok (.iconst 1, 1) := dk_4 (dk_at dksX1_feed_0 12 rfl rfl)
theorem dX1_feed_13 : decode cX1_feed 13 = .ok (.goto 4, 3) := dk_167 0 4 (dk_at dksX1_feed_0 13 rfl rfl)
theorem dX1_feed_16 : decode cX1_feed 16 = .ok (.iconst 0, 1) := dk_3 (dk_at dksX1_feed_0 16 rfl rfl)
theorem dX1_feed_17 : decode cX1_feed 17 = .ok (.invokestatic 188, 3) := dk_184 0 188 (dk_at dksX1_feed_0 17 rfl rfl)
theorem dX1_feed_20 : decode cX1_feed 20 = .ok (.aload_n 0, 1) := dk_42 (dk_at dksX1_feed_0 20 rfl rfl)
theorem dX1_feed_21 : decode cX1_feed 21 = .ok (.iload_n 1, 1) := dk_27 (dk_at dksX1_feed_0 21 rfl rfl)
theorem dX1_feed_22 : decode cX1_feed 22 = .ok (.invokevirtual 191, 3) := dk_182 0 191 (dk_at dksX1_feed_1 0 rfl rfl)
theorem dX1_feed_25 : decode cX1_feed 25 = .ok (.aload_n 0, 1) := dk_42 (dk_at dksX1_feed_1 3 rfl rfl)
theorem dX1_feed_26 : decode cX1_feed 26 = .ok (.iload_n 2, 1) := dk_28 (dk_at dksX1_feed_1 4 rfl rfl)
theorem dX1_feed_27 : decode cX1_feed 27 = .ok (.invokevirtual 191, 3) := dk_182 0 191 (dk_at dksX1_feed_1 5 rfl rfl)
theorem dX1_feed_30 : decode cX1_feed 30 = .ok (.aload_n 0, 1) := dk_42 (dk_at dksX1_feed_1 8 rfl rfl)
theorem dX1_feed_31 : decode cX1_feed 31 = .ok (.iload_n 3, 1) := dk_29 (dk_at dksX1_feed_1 9 rfl rfl)
theorem dX1_feed_32 : decode cX1_feed 32 = .ok (.invokevirtual 191, 3) := dk_182 0 191 (dk_at dksX1_feed_1 10 rfl rfl)
theorem dX1_feed_35 : decode cX1_feed 35 = .ok (.aload_n 0, 1) := dk_42 (dk_at dksX1_feed_1 13 rfl rfl)
theorem dX1_feed_36 : decode cX1_feed 36 = .ok (.iload 4, 2) := dk_21 4 (dk_at dksX1_feed_1 14 rfl rfl)
theorem dX1_feed_38 : decode cX1_feed 38 = .ok (.invokevirtual 191, 3) := dk_182 0 191 (dk_at dksX1_feed_1 16 rfl rfl)
theorem dX1_feed_41 : decode cX1_feed 41 = .ok (.aload_n 0, 1) := dk_42 (dk_at dksX1_feed_1 19 rfl rfl)
theorem dX1_feed_42 : decode cX1_feed 42 = .ok (.iload 5, 2) := dk_21 5 (dk_at dksX1_feed_1 20 rfl rfl)
theorem dX1_feed_44 : decode cX1_feed 44 = .ok (.invokevirtual 191, 3) := dk_182 0 191 (dk_at dksX1_feed_2 0 rfl rfl)
theorem dX1_feed_47 : decode cX1_feed 47 = .ok (.aload_n 0, 1) := dk_42 (dk_at dksX1_feed_2 3 rfl rfl)
theorem dX1_feed_48 : decode cX1_feed 48 = .ok (.getfield 185, 3) := dk_180 0 185 (dk_at dksX1_feed_2 4 rfl rfl)
theorem dX1_feed_51 : decode cX1_feed 51 = .ok (.ireturn, 1) := dk_172 (dk_at dksX1_feed_2 7 rfl rfl)
abbrev cX1_requireState : ByteArray := prog_1_method_2_code
def yX1_requireState : MethodName := ⟨RX1, "requireState", "(Z)V"⟩
def dkwX1_requireState_0 : List UInt8 := [26, 154, 0, 11, 187, 0, 7, 89, 183, 0, 9, 191, 177]
abbrev dktX1_requireState_0 : List UInt8 := dkwX1_requireState_0 ++ []
theorem dksX1_requireState_0 : cX1_requireState.data.toList.drop 0 = dktX1_requireState_0 := by decide +kernel
theorem dX1_requireState_0 : decode cX1_requireState 0 = .ok (.iload_n 0, 1) := dk_26 (dk_at dksX1_requireState_0 0 rfl rfl)
theorem dX1_requireState_1 : decode cX1_requireState 1 = .ok (.ifCond .ne 11, 3) := dk_154 0 11 (dk_at dksX1_requireState_0 1 rfl rfl)
theorem dX1_requireState_4 : decode cX1_requireState 4 = .ok (.new 7, 3) := dk_187 0 7 (dk_at dksX1_requireState_0 4 rfl rfl)
theorem dX1_requireState_7 : decode cX1_requireState 7 = .ok (.dup, 1) := dk_89 (dk_at dksX1_requireState_0 7 rfl rfl)
theorem dX1_requireState_8 : decode cX1_requireState 8 = .ok (.invokespecial 9, 3) := dk_183 0 9 (dk_at dksX1_requireState_0 8 rfl rfl)
theorem dX1_requireState_11 : decode cX1_requireState 11 = .ok (.athrow, 1) := dk_191 (dk_at dksX1_requireState_0 11 rfl rfl)
theorem dX1_requireState_12 : decode cX1_requireState 12 = .ok (.return_, 1) := dk_177 (dk_at dksX1_requireState_0 12 rfl rfl)
abbrev cX1_put : ByteArray := prog_1_method_20_code
def yX1_put : MethodName := ⟨RX1, "put", "(I)V"⟩
def dkwX1_put_1 : List UInt8 := [180, 0, 185, 4, 96, 181, 0, 185, 132, 2, 248, 167, 255, 226, 177]
abbrev dktX1_put_1 : List UInt8 := dkwX1_put_1 ++ []
def dkwX1_put_0 : List UInt8 := [16, 24, 61, 28, 155, 0, 32, 42, 180, 0, 42, 42, 180, 0, 185, 27, 28, 122, 145, 84, 42, 89]
abbrev dktX1_put_0 : List UInt8 := dkwX1_put_0 ++ dktX1_put_1
theorem dksX1_put_0 : cX1_put.data.toList.drop 0 = dktX1_put_0 := by decide +kernel
theorem dksX1_put_1 : cX1_put.data.toList.drop 22 = dktX1_put_1 := dk_seg dksX1_put_0 22 rfl rfl
theorem dX1_put_0 : decode cX1_put 0 = .ok (.bipush 24, 2) := dk_16 24 (dk_at dksX1_put_0 0 rfl rfl)
theorem dX1_put_2 : decode cX1_put 2 = .ok (.istore_n 2, 1) := dk_61 (dk_at dksX1_put_0 2 rfl rfl)
theorem dX1_put_3 : decode cX1_put 3 = .ok (.iload_n 2, 1) := dk_28 (dk_at dksX1_put_0 3 rfl rfl)
theorem dX1_put_4 : decode cX1_put 4 = .ok (.ifCond .lt 32, 3) := dk_155 0 32 (dk_at dksX1_put_0 4 rfl rfl)
theorem dX1_put_7 : decode cX1_put 7 = .ok (.aload_n 0, 1) := dk_42 (dk_at dksX1_put_0 7 rfl rfl)
theorem dX1_put_8 : decode cX1_put 8 = .ok (.getfield 42, 3) := dk_180 0 42 (dk_at dksX1_put_0 8 rfl rfl)
theorem dX1_put_11 : decode cX1_put 11 = .ok (.aload_n 0, 1) := dk_42 (dk_at dksX1_put_0 11 rfl rfl)
theorem dX1_put_12 : decode cX1_put 12 = .ok (.getfield 185, 3) := dk_180 0 185 (dk_at dksX1_put_0 12 rfl rfl)
theorem dX1_put_15 : decode cX1_put 15 = .ok (.iload_n 1, 1) := dk_27 (dk_at dksX1_put_0 15 rfl rfl)
theorem dX1_put_16 : decode cX1_put 16 = .ok (.iload_n 2, 1) := dk_28 (dk_at dksX1_put_0 16 rfl rfl)
theorem dX1_put_17 : decode cX1_put 17 = .ok (.ishr, 1) := dk_122 (dk_at dksX1_put_0 17 rfl rfl)
theorem dX1_put_18 : decode cX1_put 18 = .ok (.i2b, 1) := dk_145 (dk_at dksX1_put_0 18 rfl rfl)
theorem dX1_put_19 : decode cX1_put 19 = .ok (.bastore, 1) := dk_84 (dk_at dksX1_put_0 19 rfl rfl)
theorem dX1_put_20 : decode cX1_put 20 = .ok (.aload_n 0, 1) := dk_42 (dk_at dksX1_put_0 20 rfl rfl)
theorem dX1_put_21 : decode cX1_put 21 = .ok (.dup, 1) := dk_89 (dk_at dksX1_put_0 21 rfl rfl)
theorem dX1_put_22 : decode cX1_put 22 = .ok (.getfield 185, 3) := dk_180 0 185 (dk_at dksX1_put_1 0 rfl rfl)
theorem dX1_put_25 : decode cX1_put 25 = .ok (.iconst 1, 1) := dk_4 (dk_at dksX1_put_1 3 rfl rfl)
theorem dX1_put_26 : decode cX1_put 26 = .ok (.iadd, 1) := dk_96 (dk_at dksX1_put_1 4 rfl rfl)
theorem dX1_put_27 : decode cX1_put 27 = .ok (.putfield 185, 3) := dk_181 0 185 (dk_at dksX1_put_1 5 rfl rfl)
theorem dX1_put_30 : decode cX1_put 30 = .ok (.iinc 2 (-8), 3) := dk_132 2 248 (dk_at dksX1_put_1 8 rfl rfl)
theorem dX1_put_33 : decode cX1_put 33 = .ok (.goto (-30), 3) := dk_167 255 226 (dk_at dksX1_put_1 11 rfl rfl)
theorem dX1_put_36 : decode cX1_put 36 = .ok (.return_, 1) := dk_177 (dk_at dksX1_put_1 14 rfl rfl)
abbrev cX1_trim : ByteArray := prog_1_method_22_code
def yX1_trim : MethodName := ⟨RX1, "trim", "(I)I"⟩
def dkwX1_trim_0 : List UInt8 := [3, 42, 180, 0, 185, 27, 184, 0, 158, 42, 27, 181, 0, 185, 27, 172]
abbrev dktX1_trim_0 : List UInt8 := dkwX1_trim_0 ++ []
theorem dksX1_trim_0 : cX1_trim.data.toList.drop 0 = dktX1_trim_0 := by decide +kernel
theorem dX1_trim_0 : decode cX1_trim 0 = .ok (.iconst 0, 1) := dk_3 (dk_at dksX1_trim_0 0 rfl rfl)
theorem dX1_trim_1 : decode cX1_trim 1 = .ok (.aload_n 0, 1) := dk_42 (dk_at dksX1_trim_0 1 rfl rfl)
theorem dX1_trim_2 : decode cX1_trim 2 = .ok (.getfield 185, 3) := dk_180 0 185 (dk_at dksX1_trim_0 2 rfl rfl)
theorem dX1_trim_5 : decode cX1_trim 5 = .ok (.iload_n 1, 1) := dk_27 (dk_at dksX1_trim_0 5 rfl rfl)
theorem dX1_trim_6 : decode cX1_trim 6 = .ok (.invokestatic 158, 3) := dk_184 0 158 (dk_at dksX1_trim_0 6 rfl rfl)
theorem dX1_trim_9 : decode cX1_trim 9 = .ok (.aload_n 0, 1) := dk_42 (dk_at dksX1_trim_0 9 rfl rfl)
theorem dX1_trim_10 : decode cX1_trim 10 = .ok (.iload_n 1, 1) := dk_27 (dk_at dksX1_trim_0 10 rfl rfl)
theorem dX1_trim_11 : decode cX1_trim 11 = .ok (.putfield 185, 3) := dk_181 0 185 (dk_at dksX1_trim_0 11 rfl rfl)
theorem dX1_trim_14 : decode cX1_trim 14 = .ok (.iload_n 1, 1) := dk_27 (dk_at dksX1_trim_0 14 rfl rfl)
theorem dX1_trim_15 : decode cX1_trim 15 = .ok (.ireturn, 1) := dk_172 (dk_at dksX1_trim_0 15 rfl rfl)
abbrev cX1_tie : ByteArray := prog_1_method_24_code
def yX1_tie : MethodName := ⟨RX1, "tie", "()I"⟩
def dkwX1_tie_9 : List UInt8 := [182, 0, 125, 87, 42, 180, 0, 38, 182, 0, 179, 4, 100, 172]
abbrev dktX1_tie_9 : List UInt8 := dkwX1_tie_9 ++ []
def dkwX1_tie_8 : List UInt8 := [51, 182, 0, 194, 182, 0, 206, 132, 4, 1, 167, 255, 204, 42, 3, 181, 0, 185, 42, 180, 0, 38, 45]
abbrev dktX1_tie_8 : List UInt8 := dkwX1_tie_8 ++ dktX1_tie_9
def dkwX1_tie_7 : List UInt8 := [160, 0, 15, 45, 180, 0, 200, 16, 53, 182, 0, 203, 167, 0, 19, 42, 45, 42, 42, 180, 0, 42, 21, 4]
abbrev dktX1_tie_7 : List UInt8 := dkwX1_tie_7 ++ dktX1_tie_8
def dkwX1_tie_6 : List UInt8 := [78, 3, 54, 4, 21, 4, 42, 180, 0, 185, 162, 0, 49, 42, 180, 0, 42, 21, 4, 51, 16, 32]
abbrev dktX1_tie_6 : List UInt8 := dkwX1_tie_6 ++ dktX1_tie_7
def dkwX1_tie_5 : List UInt8 := [163, 0, 7, 4, 167, 0, 4, 3, 184, 0, 188, 28, 154, 0, 5, 2, 172, 187, 0, 183, 89, 183, 0, 199]
abbrev dktX1_tie_5 : List UInt8 := dkwX1_tie_5 ++ dktX1_tie_6
def dkwX1_tie_4 : List UInt8 := [159, 0, 8, 25, 4, 198, 0, 7, 4, 167, 0, 4, 3, 61, 132, 3, 1, 167, 255, 172, 27, 16, 40]
abbrev dktX1_tie_4 : List UInt8 := dkwX1_tie_4 ++ dktX1_tie_5
def dkwX1_tie_3 : List UInt8 := [25, 4, 180, 0, 66, 182, 0, 198, 96, 60, 28, 153, 0, 23, 42, 180, 0, 42, 29, 51, 16, 32]
abbrev dktX1_tie_3 : List UInt8 := dkwX1_tie_3 ++ dktX1_tie_4
def dkwX1_tie_2 : List UInt8 := [180, 0, 42, 29, 51, 16, 32, 160, 0, 7, 4, 167, 0, 20, 25, 4, 199, 0, 7, 3, 167, 0, 11]
abbrev dktX1_tie_2 : List UInt8 := dkwX1_tie_2 ++ dktX1_tie_3
def dkwX1_tie_1 : List UInt8 := [3, 62, 29, 42, 180, 0, 185, 162, 0, 82, 42, 42, 180, 0, 42, 29, 51, 182, 0, 194, 58, 4, 27, 42]
abbrev dktX1_tie_1 : List UInt8 := dkwX1_tie_1 ++ dktX1_tie_2
def dkwX1_tie_0 : List UInt8 := [42, 180, 0, 38, 182, 0, 179, 16, 10, 162, 0, 7, 4, 167, 0, 4, 3, 184, 0, 188, 3, 60, 4, 61]
abbrev dktX1_tie_0 : List UInt8 := dkwX1_tie_0 ++ dktX1_tie_1
theorem dksX1_tie_0 : cX1_tie.data.toList.drop 0 = dktX1_tie_0 := by decide +kernel
theorem dksX1_tie_1 : cX1_tie.data.toList.drop 24 = dktX1_tie_1 := dk_seg dksX1_tie_0 24 rfl rfl
theorem dksX1_tie_2 : cX1_tie.data.toList.drop 48 = dktX1_tie_2 := dk_seg dksX1_tie_1 24 rfl rfl
theorem dksX1_tie_3 : cX1_tie.data.toList.drop 71 = dktX1_tie_3 := dk_seg dksX1_tie_2 23 rfl rfl
theorem dksX1_tie_4 : cX1_tie.data.toList.drop 93 = dktX1_tie_4 := dk_seg dksX1_tie_3 22 rfl rfl
theorem dksX1_tie_5 : cX1_tie.data.toList.drop 116 = dktX1_tie_5 := dk_seg dksX1_tie_4 23 rfl rfl
theorem dksX1_tie_6 : cX1_tie.data.toList.drop 140 = dktX1_tie_6 := dk_seg dksX1_tie_5 24 rfl rfl
theorem dksX1_tie_7 : cX1_tie.data.toList.drop 162 = dktX1_tie_7 := dk_seg dksX1_tie_6 22 rfl rfl
theorem dksX1_tie_8 : cX1_tie.data.toList.drop 186 = dktX1_tie_8 := dk_seg dksX1_tie_7 24 rfl rfl
theorem dksX1_tie_9 : cX1_tie.data.toList.drop 209 = dktX1_tie_9 := dk_seg dksX1_tie_8 23 rfl rfl
theorem dX1_tie_0 : decode cX1_tie 0 = .ok (.aload_n 0, 1) := dk_42 (dk_at dksX1_tie_0 0 rfl rfl)
theorem dX1_tie_1 : decode cX1_tie 1 = .ok (.getfield 38, 3) := dk_180 0 38 (dk_at dksX1_tie_0 1 rfl rfl)
theorem dX1_tie_4 : decode cX1_tie 4 = .ok (.invokevirtual 179, 3) := dk_182 0 179 (dk_at dksX1_tie_0 4 rfl rfl)
theorem dX1_tie_7 : decode cX1_tie 7 = .ok (.bipush 10, 2) := dk_16 10 (dk_at dksX1_tie_0 7 rfl rfl)
theorem dX1_tie_9 : decode cX1_tie 9 = .ok (.if_icmp .ge 7, 3) := dk_162 0 7 (dk_at dksX1_tie_0 9 rfl rfl)
theorem dX1_tie_12 : decode cX1_tie 12 = .ok (.iconst 1, 1) := dk_4 (dk_at dksX1_tie_0 12 rfl rfl)
theorem dX1_tie_13 : decode cX1_tie 13 = .ok (.goto 4, 3) := dk_167 0 4 (dk_at dksX1_tie_0 13 rfl rfl)
theorem dX1_tie_16 : decode cX1_tie 16 = .ok (.iconst 0, 1) := dk_3 (dk_at dksX1_tie_0 16 rfl rfl)
theorem dX1_tie_17 : decode cX1_tie 17 = .ok (.invokestatic 188, 3) := dk_184 0 188 (dk_at dksX1_tie_0 17 rfl rfl)
theorem dX1_tie_20 : decode cX1_tie 20 = .ok (.iconst 0, 1) := dk_3 (dk_at dksX1_tie_0 20 rfl rfl)
theorem dX1_tie_21 : decode cX1_tie 21 = .ok (.istore_n 1, 1) := dk_60 (dk_at dksX1_tie_0 21 rfl rfl)
theorem dX1_tie_22 : decode cX1_tie 22 = .ok (.iconst 1, 1) := dk_4 (dk_at dksX1_tie_0 22 rfl rfl)
theorem dX1_tie_23 : decode cX1_tie 23 = .ok (.istore_n 2, 1) := dk_61 (dk_at dksX1_tie_0 23 rfl rfl)
theorem dX1_tie_24 : decode cX1_tie 24 = .ok (.iconst 0, 1) := dk_3 (dk_at dksX1_tie_1 0 rfl rfl)
theorem dX1_tie_25 : decode cX1_tie 25 = .ok (.istore_n 3, 1) := dk_62 (dk_at dksX1_tie_1 1 rfl rfl)
theorem dX1_tie_26 : decode cX1_tie 26 = .ok (.iload_n 3, 1) := dk_29 (dk_at dksX1_tie_1 2 rfl rfl)
theorem dX1_tie_27 : decode cX1_tie 27 = .ok (.aload_n 0, 1) := dk_42 (dk_at dksX1_tie_1 3 rfl rfl)
theorem dX1_tie_28 : decode cX1_tie 28 = .ok (.getfield 185, 3) := dk_180 0 185 (dk_at dksX1_tie_1 4 rfl rfl)
theorem dX1_tie_31 : decode cX1_tie 31 = .ok (.if_icmp .ge 82, 3) := dk_162 0 82 (dk_at dksX1_tie_1 7 rfl rfl)
theorem dX1_tie_34 : decode cX1_tie 34 = .ok (.aload_n 0, 1) := dk_42 (dk_at dksX1_tie_1 10 rfl rfl)
theorem dX1_tie_35 : decode cX1_tie 35 = .ok (.aload_n 0, 1) := dk_42 (dk_at dksX1_tie_1 11 rfl rfl)
theorem dX1_tie_36 : decode cX1_tie 36 = .ok (.getfield 42, 3) := dk_180 0 42 (dk_at dksX1_tie_1 12 rfl rfl)
theorem dX1_tie_39 : decode cX1_tie 39 = .ok (.iload_n 3, 1) := dk_29 (dk_at dksX1_tie_1 15 rfl rfl)
theorem dX1_tie_40 : decode cX1_tie 40 = .ok (.baload, 1) := dk_51 (dk_at dksX1_tie_1 16 rfl rfl)
theorem dX1_tie_41 : decode cX1_tie 41 = .ok (.invokevirtual 194, 3) := dk_182 0 194 (dk_at dksX1_tie_1 17 rfl rfl)
theorem dX1_tie_44 : decode cX1_tie 44 = .ok (.astore 4, 2) := dk_58 4 (dk_at dksX1_tie_1 20 rfl rfl)
theorem dX1_tie_46 : decode cX1_tie 46 = .ok (.iload_n 1, 1) := dk_27 (dk_at dksX1_tie_1 22 rfl rfl)
theorem dX1_tie_47 : decode cX1_tie 47 = .ok (.aload_n 0, 1) := dk_42 (dk_at dksX1_tie_1 23 rfl rfl)
theorem dX1_tie_48 : decode cX1_tie 48 = .ok (.getfield 42, 3) := dk_180 0 42 (dk_at dksX1_tie_2 0 rfl rfl)
theorem dX1_tie_51 : decode cX1_tie 51 = .ok (.iload_n 3, 1) := dk_29 (dk_at dksX1_tie_2 3 rfl rfl)
theorem dX1_tie_52 : decode cX1_tie 52 = .ok (.baload, 1) := dk_51 (dk_at dksX1_tie_2 4 rfl rfl)
theorem dX1_tie_53 : decode cX1_tie 53 = .ok (.bipush 32, 2) := dk_16 32 (dk_at dksX1_tie_2 5 rfl rfl)
theorem dX1_tie_55 : decode cX1_tie 55 = .ok (.if_icmp .ne 7, 3) := dk_160 0 7 (dk_at dksX1_tie_2 7 rfl rfl)
theorem dX1_tie_58 : decode cX1_tie 58 = .ok (.iconst 1, 1) := dk_4 (dk_at dksX1_tie_2 10 rfl rfl)
theorem dX1_tie_59 : decode cX1_tie 59 = .ok (.goto 20, 3) := dk_167 0 20 (dk_at dksX1_tie_2 11 rfl rfl)
theorem dX1_tie_62 : decode cX1_tie 62 = .ok (.aload 4, 2) := dk_25 4 (dk_at dksX1_tie_2 14 rfl rfl)
theorem dX1_tie_64 : decode cX1_tie 64 = .ok (.ifnonnull 7, 3) := dk_199 0 7 (dk_at dksX1_tie_2 16 rfl rfl)
theorem dX1_tie_67 : decode cX1_tie 67 = .ok (.iconst 0, 1) := dk_3 (dk_at dksX1_tie_2 19 rfl rfl)
theorem dX1_tie_68 : decode cX1_tie 68 = .ok (.goto 11, 3) := dk_167 0 11 (dk_at dksX1_tie_2 20 rfl rfl)
theorem dX1_tie_71 : decode cX1_tie 71 = .ok (.aload 4, 2) := dk_25 4 (dk_at dksX1_tie_3 0 rfl rfl)
theorem dX1_tie_73 : decode cX1_tie 73 = .ok (.getfield 66, 3) := dk_180 0 66 (dk_at dksX1_tie_3 2 rfl rfl)
theorem dX1_tie_76 : decode cX1_tie 76 = .ok (.invokevirtual 198, 3) := dk_182 0 198 (dk_at dksX1_tie_3 5 rfl rfl)
theorem dX1_tie_79 : decode cX1_tie 79 = .ok (.iadd, 1) := dk_96 (dk_at dksX1_tie_3 8 rfl rfl)
theorem dX1_tie_80 : decode cX1_tie 80 = .ok (.istore_n 1, 1) := dk_60 (dk_at dksX1_tie_3 9 rfl rfl)
theorem dX1_tie_81 : decode cX1_tie 81 = .ok (.iload_n 2, 1) := dk_28 (dk_at dksX1_tie_3 10 rfl rfl)
theorem dX1_tie_82 : decode cX1_tie 82 = .ok (.ifCond .eq 23, 3) := dk_153 0 23 (dk_at dksX1_tie_3 11 rfl rfl)
theorem dX1_tie_85 : decode cX1_tie 85 = .ok (.aload_n 0, 1) := dk_42 (dk_at dksX1_tie_3 14 rfl rfl)
theorem dX1_tie_86 : decode cX1_tie 86 = .ok (.getfield 42, 3) := dk_180 0 42 (dk_at dksX1_tie_3 15 rfl rfl)
theorem dX1_tie_89 : decode cX1_tie 89 = .ok (.iload_n 3, 1) := dk_29 (dk_at dksX1_tie_3 18 rfl rfl)
theorem dX1_tie_90 : decode cX1_tie 90 = .ok (.baload, 1) := dk_51 (dk_at dksX1_tie_3 19 rfl rfl)
theorem dX1_tie_91 : decode cX1_tie 91 = .ok (.bipush 32, 2) := dk_16 32 (dk_at dksX1_tie_3 20 rfl rfl)
theorem dX1_tie_93 : decode cX1_tie 93 = .ok (.if_icmp .eq 8, 3) := dk_159 0 8 (dk_at dksX1_tie_4 0 rfl rfl)
theorem dX1_tie_96 : decode cX1_tie 96 = .ok (.aload 4, 2) := dk_25 4 (dk_at dksX1_tie_4 3 rfl rfl)
theorem dX1_tie_98 : decode cX1_tie 98 = .ok (.ifnull 7, 3) := dk_198 0 7 (dk_at dksX1_tie_4 5 rfl rfl)
theorem dX1_tie_101 : decode cX1_tie 101 = .ok (.iconst 1, 1) := dk_4 (dk_at dksX1_tie_4 8 rfl rfl)
theorem dX1_tie_102 : decode cX1_tie 102 = .ok (.goto 4, 3) := dk_167 0 4 (dk_at dksX1_tie_4 9 rfl rfl)
theorem dX1_tie_105 : decode cX1_tie 105 = .ok (.iconst 0, 1) := dk_3 (dk_at dksX1_tie_4 12 rfl rfl)
theorem dX1_tie_106 : decode cX1_tie 106 = .ok (.istore_n 2, 1) := dk_61 (dk_at dksX1_tie_4 13 rfl rfl)
theorem dX1_tie_107 : decode cX1_tie 107 = .ok (.iinc 3 1, 3) := dk_132 3 1 (dk_at dksX1_tie_4 14 rfl rfl)
theorem dX1_tie_110 : decode cX1_tie 110 = .ok (.goto (-84), 3) := dk_167 255 172 (dk_at dksX1_tie_4 17 rfl rfl)
theorem dX1_tie_113 : decode cX1_tie 113 = .ok (.iload_n 1, 1) := dk_27 (dk_at dksX1_tie_4 20 rfl rfl)
theorem dX1_tie_114 : decode cX1_tie 114 = .ok (.bipush 40, 2) := dk_16 40 (dk_at dksX1_tie_4 21 rfl rfl)
theorem dX1_tie_116 : decode cX1_tie 116 = .ok (.if_icmp .gt 7, 3) := dk_163 0 7 (dk_at dksX1_tie_5 0 rfl rfl)
theorem dX1_tie_119 : decode cX1_tie 119 = .ok (.iconst 1, 1) := dk_4 (dk_at dksX1_tie_5 3 rfl rfl)
theorem dX1_tie_120 : decode cX1_tie 120 = .ok (.goto 4, 3) := dk_167 0 4 (dk_at dksX1_tie_5 4 rfl rfl)
theorem dX1_tie_123 : decode cX1_tie 123 = .ok (.iconst 0, 1) := dk_3 (dk_at dksX1_tie_5 7 rfl rfl)
theorem dX1_tie_124 : decode cX1_tie 124 = .ok (.invokestatic 188, 3) := dk_184 0 188 (dk_at dksX1_tie_5 8 rfl rfl)
theorem dX1_tie_127 : decode cX1_tie 127 = .ok (.iload_n 2, 1) := dk_28 (dk_at dksX1_tie_5 11 rfl rfl)
theorem dX1_tie_128 : decode cX1_tie 128 = .ok (.ifCond .ne 5, 3) := dk_154 0 5 (dk_at dksX1_tie_5 12 rfl rfl)
theorem dX1_tie_131 : decode cX1_tie 131 = .ok (.iconst (-1), 1) := dk_2 (dk_at dksX1_tie_5 15 rfl rfl)
theorem dX1_tie_132 : decode cX1_tie 132 = .ok (.ireturn, 1) := dk_172 (dk_at dksX1_tie_5 16 rfl rfl)
theorem dX1_tie_133 : decode cX1_tie 133 = .ok (.new 183, 3) := dk_187 0 183 (dk_at dksX1_tie_5 17 rfl rfl)
theorem dX1_tie_136 : decode cX1_tie 136 = .ok (.dup, 1) := dk_89 (dk_at dksX1_tie_5 20 rfl rfl)
theorem dX1_tie_137 : decode cX1_tie 137 = .ok (.invokespecial 199, 3) := dk_183 0 199 (dk_at dksX1_tie_5 21 rfl rfl)
theorem dX1_tie_140 : decode cX1_tie 140 = .ok (.astore_n 3, 1) := dk_78 (dk_at dksX1_tie_6 0 rfl rfl)
theorem dX1_tie_141 : decode cX1_tie 141 = .ok (.iconst 0, 1) := dk_3 (dk_at dksX1_tie_6 1 rfl rfl)
theorem dX1_tie_142 : decode cX1_tie 142 = .ok (.istore 4, 2) := dk_54 4 (dk_at dksX1_tie_6 2 rfl rfl)
theorem dX1_tie_144 : decode cX1_tie 144 = .ok (.iload 4, 2) := dk_21 4 (dk_at dksX1_tie_6 4 rfl rfl)
theorem dX1_tie_146 : decode cX1_tie 146 = .ok (.aload_n 0, 1) := dk_42 (dk_at dksX1_tie_6 6 rfl rfl)
theorem dX1_tie_147 : decode cX1_tie 147 = .ok (.getfield 185, 3) := dk_180 0 185 (dk_at dksX1_tie_6 7 rfl rfl)
theorem dX1_tie_150 : decode cX1_tie 150 = .ok (.if_icmp .ge 49, 3) := dk_162 0 49 (dk_at dksX1_tie_6 10 rfl rfl)
theorem dX1_tie_153 : decode cX1_tie 153 = .ok (.aload_n 0, 1) := dk_42 (dk_at dksX1_tie_6 13 rfl rfl)
theorem dX1_tie_154 : decode cX1_tie 154 = .ok (.getfield 42, 3) := dk_180 0 42 (dk_at dksX1_tie_6 14 rfl rfl)
theorem dX1_tie_157 : decode cX1_tie 157 = .ok (.iload 4, 2) := dk_21 4 (dk_at dksX1_tie_6 17 rfl rfl)
theorem dX1_tie_159 : decode cX1_tie 159 = .ok (.baload, 1) := dk_51 (dk_at dksX1_tie_6 19 rfl rfl)
theorem dX1_tie_160 : decode cX1_tie 160 = .ok (.bipush 32, 2) := dk_16 32 (dk_at dksX1_tie_6 20 rfl rfl)
theorem dX1_tie_162 : decode cX1_tie 162 = .ok (.if_icmp .ne 15, 3) := dk_160 0 15 (dk_at dksX1_tie_7 0 rfl rfl)
theorem dX1_tie_165 : decode cX1_tie 165 = .ok (.aload_n 3, 1) := dk_45 (dk_at dksX1_tie_7 3 rfl rfl)
theorem dX1_tie_166 : decode cX1_tie 166 = .ok (.getfield 200, 3) := dk_180 0 200 (dk_at dksX1_tie_7 4 rfl rfl)
theorem dX1_tie_169 : decode cX1_tie 169 = .ok (.bipush 53, 2) := dk_16 53 (dk_at dksX1_tie_7 7 rfl rfl)
theorem dX1_tie_171 : decode cX1_tie 171 = .ok (.invokevirtual 203, 3) := dk_182 0 203 (dk_at dksX1_tie_7 9 rfl rfl)
theorem dX1_tie_174 : decode cX1_tie 174 = .ok (.goto 19, 3) := dk_167 0 19 (dk_at dksX1_tie_7 12 rfl rfl)
theorem dX1_tie_177 : decode cX1_tie 177 = .ok (.aload_n 0, 1) := dk_42 (dk_at dksX1_tie_7 15 rfl rfl)
theorem dX1_tie_178 : decode cX1_tie 178 = .ok (.aload_n 3, 1) := dk_45 (dk_at dksX1_tie_7 16 rfl rfl)
theorem dX1_tie_179 : decode cX1_tie 179 = .ok (.aload_n 0, 1) := dk_42 (dk_at dksX1_tie_7 17 rfl rfl)
theorem dX1_tie_180 : decode cX1_tie 180 = .ok (.aload_n 0, 1) := dk_42 (dk_at dksX1_tie_7 18 rfl rfl)
theorem dX1_tie_181 : decode cX1_tie 181 = .ok (.getfield 42, 3) := dk_180 0 42 (dk_at dksX1_tie_7 19 rfl rfl)
theorem dX1_tie_184 : decode cX1_tie 184 = .ok (.iload 4, 2) := dk_21 4 (dk_at dksX1_tie_7 22 rfl rfl)
theorem dX1_tie_186 : decode cX1_tie 186 = .ok (.baload, 1) := dk_51 (dk_at dksX1_tie_8 0 rfl rfl)
theorem dX1_tie_187 : decode cX1_tie 187 = .ok (.invokevirtual 194, 3) := dk_182 0 194 (dk_at dksX1_tie_8 1 rfl rfl)
theorem dX1_tie_190 : decode cX1_tie 190 = .ok (.invokevirtual 206, 3) := dk_182 0 206 (dk_at dksX1_tie_8 4 rfl rfl)
theorem dX1_tie_193 : decode cX1_tie 193 = .ok (.iinc 4 1, 3) := dk_132 4 1 (dk_at dksX1_tie_8 7 rfl rfl)
theorem dX1_tie_196 : decode cX1_tie 196 = .ok (.goto (-52), 3) := dk_167 255 204 (dk_at dksX1_tie_8 10 rfl rfl)
theorem dX1_tie_199 : decode cX1_tie 199 = .ok (.aload_n 0, 1) := dk_42 (dk_at dksX1_tie_8 13 rfl rfl)
theorem dX1_tie_200 : decode cX1_tie 200 = .ok (.iconst 0, 1) := dk_3 (dk_at dksX1_tie_8 14 rfl rfl)
theorem dX1_tie_201 : decode cX1_tie 201 = .ok (.putfield 185, 3) := dk_181 0 185 (dk_at dksX1_tie_8 15 rfl rfl)
theorem dX1_tie_204 : decode cX1_tie 204 = .ok (.aload_n 0, 1) := dk_42 (dk_at dksX1_tie_8 18 rfl rfl)
theorem dX1_tie_205 : decode cX1_tie 205 = .ok (.getfield 38, 3) := dk_180 0 38 (dk_at dksX1_tie_8 19 rfl rfl)
theorem dX1_tie_208 : decode cX1_tie 208 = .ok (.aload_n 3, 1) := dk_45 (dk_at dksX1_tie_8 22 rfl rfl)
theorem dX1_tie_209 : decode cX1_tie 209 = .ok (.invokevirtual 125, 3) := dk_182 0 125 (dk_at dksX1_tie_9 0 rfl rfl)
theorem dX1_tie_212 : decode cX1_tie 212 = .ok (.pop, 1) := dk_87 (dk_at dksX1_tie_9 3 rfl rfl)
theorem dX1_tie_213 : decode cX1_tie 213 = .ok (.aload_n 0, 1) := dk_42 (dk_at dksX1_tie_9 4 rfl rfl)
theorem dX1_tie_214 : decode cX1_tie 214 = .ok (.getfield 38, 3) := dk_180 0 38 (dk_at dksX1_tie_9 5 rfl rfl)
theorem dX1_tie_217 : decode cX1_tie 217 = .ok (.invokevirtual 179, 3) := dk_182 0 179 (dk_at dksX1_tie_9 8 rfl rfl)
theorem dX1_tie_220 : decode cX1_tie 220 = .ok (.iconst 1, 1) := dk_4 (dk_at dksX1_tie_9 11 rfl rfl)
theorem dX1_tie_221 : decode cX1_tie 221 = .ok (.isub, 1) := dk_100 (dk_at dksX1_tie_9 12 rfl rfl)
theorem dX1_tie_222 : decode cX1_tie 222 = .ok (.ireturn, 1) := dk_172 (dk_at dksX1_tie_9 13 rfl rfl)
abbrev cX1_letterOf : ByteArray := prog_1_method_23_code
def yX1_letterOf : MethodName := ⟨RX1, "letterOf", "(B)LKnotLetters$Letter;"⟩
def dkwX1_letterOf_1 : List UInt8 := [153, 0, 12, 42, 180, 0, 24, 28, 50, 167, 0, 4, 1, 176]
abbrev dktX1_letterOf_1 : List UInt8 := dkwX1_letterOf_1 ++ []
def dkwX1_letterOf_0 : List UInt8 := [27, 16, 97, 100, 61, 28, 155, 0, 30, 28, 16, 12, 162, 0, 24, 42, 180, 0, 24, 28, 50, 182, 0, 78]
abbrev dktX1_letterOf_0 : List UInt8 := dkwX1_letterOf_0 ++ dktX1_letterOf_1
theorem dksX1_letterOf_0 : cX1_letterOf.data.toList.drop 0 = dktX1_letterOf_0 := by decide +kernel
theorem dksX1_letterOf_1 : cX1_letterOf.data.toList.drop 24 = dktX1_letterOf_1 := dk_seg dksX1_letterOf_0 24 rfl rfl
theorem dX1_letterOf_0 : decode cX1_letterOf 0 = .ok (.iload_n 1, 1) := dk_27 (dk_at dksX1_letterOf_0 0 rfl rfl)
theorem dX1_letterOf_1 : decode cX1_letterOf 1 = .ok (.bipush 97, 2) := dk_16 97 (dk_at dksX1_letterOf_0 1 rfl rfl)
theorem dX1_letterOf_3 : decode cX1_letterOf 3 = .ok (.isub, 1) := dk_100 (dk_at dksX1_letterOf_0 3 rfl rfl)
theorem dX1_letterOf_4 : decode cX1_letterOf 4 = .ok (.istore_n 2, 1) := dk_61 (dk_at dksX1_letterOf_0 4 rfl rfl)
theorem dX1_letterOf_5 : decode cX1_letterOf 5 = .ok (.iload_n 2, 1) := dk_28 (dk_at dksX1_letterOf_0 5 rfl rfl)
theorem dX1_letterOf_6 : decode cX1_letterOf 6 = .ok (.ifCond .lt 30, 3) := dk_155 0 30 (dk_at dksX1_letterOf_0 6 rfl rfl)
theorem dX1_letterOf_9 : decode cX1_letterOf 9 = .ok (.iload_n 2, 1) := dk_28 (dk_at dksX1_letterOf_0 9 rfl rfl)
theorem dX1_letterOf_10 : decode cX1_letterOf 10 = .ok (.bipush 12, 2) := dk_16 12 (dk_at dksX1_letterOf_0 10 rfl rfl)
theorem dX1_letterOf_12 : decode cX1_letterOf 12 = .ok (.if_icmp .ge 24, 3) := dk_162 0 24 (dk_at dksX1_letterOf_0 12 rfl rfl)
theorem dX1_letterOf_15 : decode cX1_letterOf 15 = .ok (.aload_n 0, 1) := dk_42 (dk_at dksX1_letterOf_0 15 rfl rfl)
theorem dX1_letterOf_16 : decode cX1_letterOf 16 = .ok (.getfield 24, 3) := dk_180 0 24 (dk_at dksX1_letterOf_0 16 rfl rfl)
theorem dX1_letterOf_19 : decode cX1_letterOf 19 = .ok (.iload_n 2, 1) := dk_28 (dk_at dksX1_letterOf_0 19 rfl rfl)
theorem dX1_letterOf_20 : decode cX1_letterOf 20 = .ok (.aaload, 1) := dk_50 (dk_at dksX1_letterOf_0 20 rfl rfl)
theorem dX1_letterOf_21 : decode cX1_letterOf 21 = .ok (.invokevirtual 78, 3) := dk_182 0 78 (dk_at dksX1_letterOf_0 21 rfl rfl)
theorem dX1_letterOf_24 : decode cX1_letterOf 24 = .ok (.ifCond .eq 12, 3) := dk_153 0 12 (dk_at dksX1_letterOf_1 0 rfl rfl)
theorem dX1_letterOf_27 : decode cX1_letterOf 27 = .ok (.aload_n 0, 1) := dk_42 (dk_at dksX1_letterOf_1 3 rfl rfl)
theorem dX1_letterOf_28 : decode cX1_letterOf 28 = .ok (.getfield 24, 3) := dk_180 0 24 (dk_at dksX1_letterOf_1 4 rfl rfl)
theorem dX1_letterOf_31 : decode cX1_letterOf 31 = .ok (.iload_n 2, 1) := dk_28 (dk_at dksX1_letterOf_1 7 rfl rfl)
theorem dX1_letterOf_32 : decode cX1_letterOf 32 = .ok (.aaload, 1) := dk_50 (dk_at dksX1_letterOf_1 8 rfl rfl)
theorem dX1_letterOf_33 : decode cX1_letterOf 33 = .ok (.goto 4, 3) := dk_167 0 4 (dk_at dksX1_letterOf_1 9 rfl rfl)
theorem dX1_letterOf_36 : decode cX1_letterOf 36 = .ok (.aconst_null, 1) := dk_1 (dk_at dksX1_letterOf_1 12 rfl rfl)
theorem dX1_letterOf_37 : decode cX1_letterOf 37 = .ok (.areturn, 1) := dk_176 (dk_at dksX1_letterOf_1 13 rfl rfl)
abbrev cX1_tie_2 : ByteArray := prog_1_method_25_code
def yX1_tie_2 : MethodName := ⟨RX1, "tie", "(LKnotLetters$Cord;LKnotLetters$Letter;)V"⟩
def dkwX1_tie_2_7 : List UInt8 := [167, 255, 105, 177]
abbrev dktX1_tie_2_7 : List UInt8 := dkwX1_tie_2_7 ++ []
def dkwX1_tie_2_6 : List UInt8 := [180, 0, 225, 4, 96, 181, 0, 225, 167, 0, 12, 43, 180, 0, 200, 21, 4, 182, 0, 203, 132, 3, 1]
abbrev dktX1_tie_2_6 : List UInt8 := dkwX1_tie_2_6 ++ dktX1_tie_2_7
def dkwX1_tie_2_5 : List UInt8 := [167, 0, 8, 21, 4, 4, 96, 146, 182, 0, 203, 43, 89, 180, 0, 222, 4, 96, 181, 0, 222, 42, 89]
abbrev dktX1_tie_2_5 : List UInt8 := dkwX1_tie_2_5 ++ dktX1_tie_2_6
def dkwX1_tie_2_4 : List UInt8 := [180, 0, 217, 42, 180, 0, 162, 112, 154, 0, 50, 43, 180, 0, 200, 21, 4, 16, 52, 160, 0, 8, 16, 49]
abbrev dktX1_tie_2_4 : List UInt8 := dkwX1_tie_2_4 ++ dktX1_tie_2_5
def dkwX1_tie_2_3 : List UInt8 := [181, 0, 218, 42, 89, 180, 0, 221, 4, 96, 181, 0, 221, 167, 0, 78, 42, 180, 0, 162, 158, 0, 62, 42]
abbrev dktX1_tie_2_3 : List UInt8 := dkwX1_tie_2_3 ++ dktX1_tie_2_4
def dkwX1_tie_2_2 : List UInt8 := [158, 0, 38, 42, 180, 0, 217, 42, 180, 0, 166, 112, 154, 0, 26, 43, 89, 180, 0, 218, 4, 96]
abbrev dktX1_tie_2_2 : List UInt8 := dkwX1_tie_2_2 ++ dktX1_tie_2_3
def dkwX1_tie_2_1 : List UInt8 := [180, 0, 66, 29, 182, 0, 213, 54, 4, 42, 89, 180, 0, 217, 4, 96, 181, 0, 217, 42, 180, 0, 166]
abbrev dktX1_tie_2_1 : List UInt8 := dkwX1_tie_2_1 ++ dktX1_tie_2_2
def dkwX1_tie_2_0 : List UInt8 := [44, 89, 180, 0, 210, 4, 96, 181, 0, 210, 3, 62, 29, 44, 180, 0, 66, 182, 0, 198, 162, 0, 146, 44]
abbrev dktX1_tie_2_0 : List UInt8 := dkwX1_tie_2_0 ++ dktX1_tie_2_1
theorem dksX1_tie_2_0 : cX1_tie_2.data.toList.drop 0 = dktX1_tie_2_0 := by decide +kernel
theorem dksX1_tie_2_1 : cX1_tie_2.data.toList.drop 24 = dktX1_tie_2_1 := dk_seg dksX1_tie_2_0 24 rfl rfl
theorem dksX1_tie_2_2 : cX1_tie_2.data.toList.drop 47 = dktX1_tie_2_2 := dk_seg dksX1_tie_2_1 23 rfl rfl
theorem dksX1_tie_2_3 : cX1_tie_2.data.toList.drop 69 = dktX1_tie_2_3 := dk_seg dksX1_tie_2_2 22 rfl rfl
theorem dksX1_tie_2_4 : cX1_tie_2.data.toList.drop 93 = dktX1_tie_2_4 := dk_seg dksX1_tie_2_3 24 rfl rfl
theorem dksX1_tie_2_5 : cX1_tie_2.data.toList.drop 117 = dktX1_tie_2_5 := dk_seg dksX1_tie_2_4 24 rfl rfl
theorem dksX1_tie_2_6 : cX1_tie_2.data.toList.drop 140 = dktX1_tie_2_6 := dk_seg dksX1_tie_2_5 23 rfl rfl
theorem dksX1_tie_2_7 : cX1_tie_2.data.toList.drop 163 = dktX1_tie_2_7 := dk_seg dksX1_tie_2_6 23 rfl rfl
theorem dX1_tie_2_0 : decode cX1_tie_2 0 = .ok (.aload_n 2, 1) := dk_44 (dk_at dksX1_tie_2_0 0 rfl rfl)
theorem dX1_tie_2_1 : decode cX1_tie_2 1 = .ok (.dup, 1) := dk_89 (dk_at dksX1_tie_2_0 1 rfl rfl)
theorem dX1_tie_2_2 : decode cX1_tie_2 2 = .ok (.getfield 210, 3) := dk_180 0 210 (dk_at dksX1_tie_2_0 2 rfl rfl)
theorem dX1_tie_2_5 : decode cX1_tie_2 5 = .ok (.iconst 1, 1) := dk_4 (dk_at dksX1_tie_2_0 5 rfl rfl)
theorem dX1_tie_2_6 : decode cX1_tie_2 6 = .ok (.iadd, 1) := dk_96 (dk_at dksX1_tie_2_0 6 rfl rfl)
theorem dX1_tie_2_7 : decode cX1_tie_2 7 = .ok (.putfield 210, 3) := dk_181 0 210 (dk_at dksX1_tie_2_0 7 rfl rfl)
theorem dX1_tie_2_10 : decode cX1_tie_2 10 = .ok (.iconst 0, 1) := dk_3 (dk_at dksX1_tie_2_0 10 rfl rfl)
theorem dX1_tie_2_11 : decode cX1_tie_2 11 = .ok (.istore_n 3, 1) := dk_62 (dk_at dksX1_tie_2_0 11 rfl rfl)
theorem dX1_tie_2_12 : decode cX1_tie_2 12 = .ok (.iload_n 3, 1) := dk_29 (dk_at dksX1_tie_2_0 12 rfl rfl)
theorem dX1_tie_2_13 : decode cX1_tie_2 13 = .ok (.aload_n 2, 1) := dk_44 (dk_at dksX1_tie_2_0 13 rfl rfl)
theorem dX1_tie_2_14 : decode cX1_tie_2 14 = .ok (.getfield 66, 3) := dk_180 0 66 (dk_at dksX1_tie_2_0 14 rfl rfl)
theorem dX1_tie_2_17 : decode cX1_tie_2 17 = .ok (.invokevirtual 198, 3) := dk_182 0 198 (dk_at dksX1_tie_2_0 17 rfl rfl)
theorem dX1_tie_2_20 : decode cX1_tie_2 20 = .ok (.if_icmp .ge 146, 3) := dk_162 0 146 (dk_at dksX1_tie_2_0 20 rfl rfl)
theorem dX1_tie_2_23 : decode cX1_tie_2 23 = .ok (.aload_n 2, 1) := dk_44 (dk_at dksX1_tie_2_0 23 rfl rfl)
theorem dX1_tie_2_24 : decode cX1_tie_2 24 = .ok (.getfield 66, 3) := dk_180 0 66 (dk_at dksX1_tie_2_1 0 rfl rfl)
theorem dX1_tie_2_27 : decode cX1_tie_2 27 = .ok (.iload_n 3, 1) := dk_29 (dk_at dksX1_tie_2_1 3 rfl rfl)
theorem dX1_tie_2_28 : decode cX1_tie_2 28 = .ok (.invokevirtual 213, 3) := dk_182 0 213 (dk_at dksX1_tie_2_1 4 rfl rfl)
theorem dX1_tie_2_31 : decode cX1_tie_2 31 = .ok (.istore 4, 2) := dk_54 4 (dk_at dksX1_tie_2_1 7 rfl rfl)
theorem dX1_tie_2_33 : decode cX1_tie_2 33 = .ok (.aload_n 0, 1) := dk_42 (dk_at dksX1_tie_2_1 9 rfl rfl)
theorem dX1_tie_2_34 : decode cX1_tie_2 34 = .ok (.dup, 1) := dk_89 (dk_at dksX1_tie_2_1 10 rfl rfl)
theorem dX1_tie_2_35 : decode cX1_tie_2 35 = .ok (.getfield 217, 3) := dk_180 0 217 (dk_at dksX1_tie_2_1 11 rfl rfl)
theorem dX1_tie_2_38 : decode cX1_tie_2 38 = .ok (.iconst 1, 1) := dk_4 (dk_at dksX1_tie_2_1 14 rfl rfl)
theorem dX1_tie_2_39 : decode cX1_tie_2 39 = .ok (.iadd, 1) := dk_96 (dk_at dksX1_tie_2_1 15 rfl rfl)
theorem dX1_tie_2_40 : decode cX1_tie_2 40 = .ok (.putfield 217, 3) := dk_181 0 217 (dk_at dksX1_tie_2_1 16 rfl rfl)
theorem dX1_tie_2_43 : decode cX1_tie_2 43 = .ok (.aload_n 0, 1) := dk_42 (dk_at dksX1_tie_2_1 19 rfl rfl)
theorem dX1_tie_2_44 : decode cX1_tie_2 44 = .ok (.getfield 166, 3) := dk_180 0 166 (dk_at dksX1_tie_2_1 20 rfl rfl)
theorem dX1_tie_2_47 : decode cX1_tie_2 47 = .ok (.ifCond .le 38, 3) := dk_158 0 38 (dk_at dksX1_tie_2_2 0 rfl rfl)
theorem dX1_tie_2_50 : decode cX1_tie_2 50 = .ok (.aload_n 0, 1) := dk_42 (dk_at dksX1_tie_2_2 3 rfl rfl)
theorem dX1_tie_2_51 : decode cX1_tie_2 51 = .ok (.getfield 217, 3) := dk_180 0 217 (dk_at dksX1_tie_2_2 4 rfl rfl)
theorem dX1_tie_2_54 : decode cX1_tie_2 54 = .ok (.aload_n 0, 1) := dk_42 (dk_at dksX1_tie_2_2 7 rfl rfl)
theorem dX1_tie_2_55 : decode cX1_tie_2 55 = .ok (.getfield 166, 3) := dk_180 0 166 (dk_at dksX1_tie_2_2 8 rfl rfl)
theorem dX1_tie_2_58 : decode cX1_tie_2 58 = .ok (.irem, 1) := dk_112 (dk_at dksX1_tie_2_2 11 rfl rfl)
theorem dX1_tie_2_59 : decode cX1_tie_2 59 = .ok (.ifCond .ne 26, 3) := dk_154 0 26 (dk_at dksX1_tie_2_2 12 rfl rfl)
theorem dX1_tie_2_62 : decode cX1_tie_2 62 = .ok (.aload_n 1, 1) := dk_43 (dk_at dksX1_tie_2_2 15 rfl rfl)
theorem dX1_tie_2_63 : decode cX1_tie_2 63 = .ok (.dup, 1) := dk_89 (dk_at dksX1_tie_2_2 16 rfl rfl)
theorem dX1_tie_2_64 : decode cX1_tie_2 64 = .ok (.getfield 218, 3) := dk_180 0 218 (dk_at dksX1_tie_2_2 17 rfl rfl)
theorem dX1_tie_2_67 : decode cX1_tie_2 67 = .ok (.iconst 1, 1) := dk_4 (dk_at dksX1_tie_2_2 20 rfl rfl)
theorem dX1_tie_2_68 : decode cX1_tie_2 68 = .ok (.iadd, 1) := dk_96 (dk_at dksX1_tie_2_2 21 rfl rfl)
theorem dX1_tie_2_69 : decode cX1_tie_2 69 = .ok (.putfield 218, 3) := dk_181 0 218 (dk_at dksX1_tie_2_3 0 rfl rfl)
theorem dX1_tie_2_72 : decode cX1_tie_2 72 = .ok (.aload_n 0, 1) := dk_42 (dk_at dksX1_tie_2_3 3 rfl rfl)
theorem dX1_tie_2_73 : decode cX1_tie_2 73 = .ok (.dup, 1) := dk_89 (dk_at dksX1_tie_2_3 4 rfl rfl)
theorem dX1_tie_2_74 : decode cX1_tie_2 74 = .ok (.getfield 221, 3) := dk_180 0 221 (dk_at dksX1_tie_2_3 5 rfl rfl)
theorem dX1_tie_2_77 : decode cX1_tie_2 77 = .ok (.iconst 1, 1) := dk_4 (dk_at dksX1_tie_2_3 8 rfl rfl)
theorem dX1_tie_2_78 : decode cX1_tie_2 78 = .ok (.iadd, 1) := dk_96 (dk_at dksX1_tie_2_3 9 rfl rfl)
theorem dX1_tie_2_79 : decode cX1_tie_2 79 = .ok (.putfield 221, 3) := dk_181 0 221 (dk_at dksX1_tie_2_3 10 rfl rfl)
theorem dX1_tie_2_82 : decode cX1_tie_2 82 = .ok (.goto 78, 3) := dk_167 0 78 (dk_at dksX1_tie_2_3 13 rfl rfl)
theorem dX1_tie_2_85 : decode cX1_tie_2 85 = .ok (.aload_n 0, 1) := dk_42 (dk_at dksX1_tie_2_3 16 rfl rfl)
theorem dX1_tie_2_86 : decode cX1_tie_2 86 = .ok (.getfield 162, 3) := dk_180 0 162 (dk_at dksX1_tie_2_3 17 rfl rfl)
theorem dX1_tie_2_89 : decode cX1_tie_2 89 = .ok (.ifCond .le 62, 3) := dk_158 0 62 (dk_at dksX1_tie_2_3 20 rfl rfl)
theorem dX1_tie_2_92 : decode cX1_tie_2 92 = .ok (.aload_n 0, 1) := dk_42 (dk_at dksX1_tie_2_3 23 rfl rfl)
theorem dX1_tie_2_93 : decode cX1_tie_2 93 = .ok (.getfield 217, 3) := dk_180 0 217 (dk_at dksX1_tie_2_4 0 rfl rfl)
theorem dX1_tie_2_96 : decode cX1_tie_2 96 = .ok (.aload_n 0, 1) := dk_42 (dk_at dksX1_tie_2_4 3 rfl rfl)
theorem dX1_tie_2_97 : decode cX1_tie_2 97 = .ok (.getfield 162, 3) := dk_180 0 162 (dk_at dksX1_tie_2_4 4 rfl rfl)
theorem dX1_tie_2_100 : decode cX1_tie_2 100 = .ok (.irem, 1) := dk_112 (dk_at dksX1_tie_2_4 7 rfl rfl)
theorem dX1_tie_2_101 : decode cX1_tie_2 101 = .ok (.ifCond .ne 50, 3) := dk_154 0 50 (dk_at dksX1_tie_2_4 8 rfl rfl)
theorem dX1_tie_2_104 : decode cX1_tie_2 104 = .ok (.aload_n 1, 1) := dk_43 (dk_at dksX1_tie_2_4 11 rfl rfl)
theorem dX1_tie_2_105 : decode cX1_tie_2 105 = .ok (.getfield 200, 3) := dk_180 0 200 (dk_at dksX1_tie_2_4 12 rfl rfl)
theorem dX1_tie_2_108 : decode cX1_tie_2 108 = .ok (.iload 4, 2) := dk_21 4 (dk_at dksX1_tie_2_4 15 rfl rfl)
theorem dX1_tie_2_110 : decode cX1_tie_2 110 = .ok (.bipush 52, 2) := dk_16 52 (dk_at dksX1_tie_2_4 17 rfl rfl)
theorem dX1_tie_2_112 : decode cX1_tie_2 112 = .ok (.if_icmp .ne 8, 3) := dk_160 0 8 (dk_at dksX1_tie_2_4 19 rfl rfl)
theorem dX1_tie_2_115 : decode cX1_tie_2 115 = .ok (.bipush 49, 2) := dk_16 49 (dk_at dksX1_tie_2_4 22 rfl rfl)
theorem dX1_tie_2_117 : decode cX1_tie_2 117 = .ok (.goto 8, 3) := dk_167 0 8 (dk_at dksX1_tie_2_5 0 rfl rfl)
theorem dX1_tie_2_120 : decode cX1_tie_2 120 = .ok (.iload 4, 2) := dk_21 4 (dk_at dksX1_tie_2_5 3 rfl rfl)
theorem dX1_tie_2_122 : decode cX1_tie_2 122 = .ok (.iconst 1, 1) := dk_4 (dk_at dksX1_tie_2_5 5 rfl rfl)
theorem dX1_tie_2_123 : decode cX1_tie_2 123 = .ok (.iadd, 1) := dk_96 (dk_at dksX1_tie_2_5 6 rfl rfl)
theorem dX1_tie_2_124 : decode cX1_tie_2 124 = .ok (.i2c, 1) := dk_146 (dk_at dksX1_tie_2_5 7 rfl rfl)
theorem dX1_tie_2_125 : decode cX1_tie_2 125 = .ok (.invokevirtual 203, 3) := dk_182 0 203 (dk_at dksX1_tie_2_5 8 rfl rfl)
theorem dX1_tie_2_128 : decode cX1_tie_2 128 = .ok (.aload_n 1, 1) := dk_43 (dk_at dksX1_tie_2_5 11 rfl rfl)
theorem dX1_tie_2_129 : decode cX1_tie_2 129 = .ok (.dup, 1) := dk_89 (dk_at dksX1_tie_2_5 12 rfl rfl)
theorem dX1_tie_2_130 : decode cX1_tie_2 130 = .ok (.getfield 222, 3) := dk_180 0 222 (dk_at dksX1_tie_2_5 13 rfl rfl)
theorem dX1_tie_2_133 : decode cX1_tie_2 133 = .ok (.iconst 1, 1) := dk_4 (dk_at dksX1_tie_2_5 16 rfl rfl)
theorem dX1_tie_2_134 : decode cX1_tie_2 134 = .ok (.iadd, 1) := dk_96 (dk_at dksX1_tie_2_5 17 rfl rfl)
theorem dX1_tie_2_135 : decode cX1_tie_2 135 = .ok (.putfield 222, 3) := dk_181 0 222 (dk_at dksX1_tie_2_5 18 rfl rfl)
theorem dX1_tie_2_138 : decode cX1_tie_2 138 = .ok (.aload_n 0, 1) := dk_42 (dk_at dksX1_tie_2_5 21 rfl rfl)
theorem dX1_tie_2_139 : decode cX1_tie_2 139 = .ok (.dup, 1) := dk_89 (dk_at dksX1_tie_2_5 22 rfl rfl)
theorem dX1_tie_2_140 : decode cX1_tie_2 140 = .ok (.getfield 225, 3) := dk_180 0 225 (dk_at dksX1_tie_2_6 0 rfl rfl)
theorem dX1_tie_2_143 : decode cX1_tie_2 143 = .ok (.iconst 1, 1) := dk_4 (dk_at dksX1_tie_2_6 3 rfl rfl)
theorem dX1_tie_2_144 : decode cX1_tie_2 144 = .ok (.iadd, 1) := dk_96 (dk_at dksX1_tie_2_6 4 rfl rfl)
theorem dX1_tie_2_145 : decode cX1_tie_2 145 = .ok (.putfield 225, 3) := dk_181 0 225 (dk_at dksX1_tie_2_6 5 rfl rfl)
theorem dX1_tie_2_148 : decode cX1_tie_2 148 = .ok (.goto 12, 3) := dk_167 0 12 (dk_at dksX1_tie_2_6 8 rfl rfl)
theorem dX1_tie_2_151 : decode cX1_tie_2 151 = .ok (.aload_n 1, 1) := dk_43 (dk_at dksX1_tie_2_6 11 rfl rfl)
theorem dX1_tie_2_152 : decode cX1_tie_2 152 = .ok (.getfield 200, 3) := dk_180 0 200 (dk_at dksX1_tie_2_6 12 rfl rfl)
theorem dX1_tie_2_155 : decode cX1_tie_2 155 = .ok (.iload 4, 2) := dk_21 4 (dk_at dksX1_tie_2_6 15 rfl rfl)
theorem dX1_tie_2_157 : decode cX1_tie_2 157 = .ok (.invokevirtual 203, 3) := dk_182 0 203 (dk_at dksX1_tie_2_6 17 rfl rfl)
theorem dX1_tie_2_160 : decode cX1_tie_2 160 = .ok (.iinc 3 1, 3) := dk_132 3 1 (dk_at dksX1_tie_2_6 20 rfl rfl)
theorem dX1_tie_2_163 : decode cX1_tie_2 163 = .ok (.goto (-151), 3) := dk_167 255 105 (dk_at dksX1_tie_2_7 0 rfl rfl)
theorem dX1_tie_2_166 : decode cX1_tie_2 166 = .ok (.return_, 1) := dk_177 (dk_at dksX1_tie_2_7 3 rfl rfl)
abbrev cX1_cord : ByteArray := prog_1_method_31_code
def yX1_cord : MethodName := ⟨RX1, "cord", "(II)I"⟩
def dkwX1_cord_0 : List UInt8 := [42, 27, 182, 1, 54, 78, 28, 16, 7, 184, 0, 56, 42, 45, 28, 182, 1, 58, 172]
abbrev dktX1_cord_0 : List UInt8 := dkwX1_cord_0 ++ []
theorem dksX1_cord_0 : cX1_cord.data.toList.drop 0 = dktX1_cord_0 := by decide +kernel
theorem dX1_cord_0 : decode cX1_cord 0 = .ok (.aload_n 0, 1) := dk_42 (dk_at dksX1_cord_0 0 rfl rfl)
theorem dX1_cord_1 : decode cX1_cord 1 = .ok (.iload_n 1, 1) := dk_27 (dk_at dksX1_cord_0 1 rfl rfl)
theorem dX1_cord_2 : decode cX1_cord 2 = .ok (.invokevirtual 310, 3) := dk_182 1 54 (dk_at dksX1_cord_0 2 rfl rfl)
theorem dX1_cord_5 : decode cX1_cord 5 = .ok (.astore_n 3, 1) := dk_78 (dk_at dksX1_cord_0 5 rfl rfl)
theorem dX1_cord_6 : decode cX1_cord 6 = .ok (.iload_n 2, 1) := dk_28 (dk_at dksX1_cord_0 6 rfl rfl)
theorem dX1_cord_7 : decode cX1_cord 7 = .ok (.bipush 7, 2) := dk_16 7 (dk_at dksX1_cord_0 7 rfl rfl)
theorem dX1_cord_9 : decode cX1_cord 9 = .ok (.invokestatic 56, 3) := dk_184 0 56 (dk_at dksX1_cord_0 9 rfl rfl)
theorem dX1_cord_12 : decode cX1_cord 12 = .ok (.aload_n 0, 1) := dk_42 (dk_at dksX1_cord_0 12 rfl rfl)
theorem dX1_cord_13 : decode cX1_cord 13 = .ok (.aload_n 3, 1) := dk_45 (dk_at dksX1_cord_0 13 rfl rfl)
theorem dX1_cord_14 : decode cX1_cord 14 = .ok (.iload_n 2, 1) := dk_28 (dk_at dksX1_cord_0 14 rfl rfl)
theorem dX1_cord_15 : decode cX1_cord 15 = .ok (.invokevirtual 314, 3) := dk_182 1 58 (dk_at dksX1_cord_0 15 rfl rfl)
theorem dX1_cord_18 : decode cX1_cord 18 = .ok (.ireturn, 1) := dk_172 (dk_at dksX1_cord_0 18 rfl rfl)
abbrev cX1_cordAt : ByteArray := prog_1_method_19_code
def yX1_cordAt : MethodName := ⟨RX1, "cordAt", "(I)LKnotLetters$Cord;"⟩
def dkwX1_cordAt_0 : List UInt8 := [27, 42, 180, 0, 38, 182, 0, 179, 184, 0, 56, 42, 180, 0, 38, 27, 182, 0, 180, 192, 0, 183, 176]
abbrev dktX1_cordAt_0 : List UInt8 := dkwX1_cordAt_0 ++ []
theorem dksX1_cordAt_0 : cX1_cordAt.data.toList.drop 0 = dktX1_cordAt_0 := by decide +kernel
theorem dX1_cordAt_0 : decode cX1_cordAt 0 = .ok (.iload_n 1, 1) := dk_27 (dk_at dksX1_cordAt_0 0 rfl rfl)
theorem dX1_cordAt_1 : decode cX1_cordAt 1 = .ok (.aload_n 0, 1) := dk_42 (dk_at dksX1_cordAt_0 1 rfl rfl)
theorem dX1_cordAt_2 : decode cX1_cordAt 2 = .ok (.getfield 38, 3) := dk_180 0 38 (dk_at dksX1_cordAt_0 2 rfl rfl)
theorem dX1_cordAt_5 : decode cX1_cordAt 5 = .ok (.invokevirtual 179, 3) := dk_182 0 179 (dk_at dksX1_cordAt_0 5 rfl rfl)
theorem dX1_cordAt_8 : decode cX1_cordAt 8 = .ok (.invokestatic 56, 3) := dk_184 0 56 (dk_at dksX1_cordAt_0 8 rfl rfl)
theorem dX1_cordAt_11 : decode cX1_cordAt 11 = .ok (.aload_n 0, 1) := dk_42 (dk_at dksX1_cordAt_0 11 rfl rfl)
theorem dX1_cordAt_12 : decode cX1_cordAt 12 = .ok (.getfield 38, 3) := dk_180 0 38 (dk_at dksX1_cordAt_0 12 rfl rfl)
theorem dX1_cordAt_15 : decode cX1_cordAt 15 = .ok (.iload_n 1, 1) := dk_27 (dk_at dksX1_cordAt_0 15 rfl rfl)
theorem dX1_cordAt_16 : decode cX1_cordAt 16 = .ok (.invokevirtual 180, 3) := dk_182 0 180 (dk_at dksX1_cordAt_0 16 rfl rfl)
theorem dX1_cordAt_19 : decode cX1_cordAt 19 = .ok (.checkcast 183, 3) := dk_192 0 183 (dk_at dksX1_cordAt_0 19 rfl rfl)
theorem dX1_cordAt_22 : decode cX1_cordAt 22 = .ok (.areturn, 1) := dk_176 (dk_at dksX1_cordAt_0 22 rfl rfl)
abbrev cX1_knot : ByteArray := prog_1_method_32_code
def yX1_knot : MethodName := ⟨RX1, "knot", "(II)I"⟩
def dkwX1_knot_1 : List UInt8 := [182, 0, 213, 16, 48, 100, 172]
abbrev dktX1_knot_1 : List UInt8 := dkwX1_knot_1 ++ []
def dkwX1_knot_0 : List UInt8 := [42, 27, 182, 1, 54, 78, 28, 45, 180, 0, 200, 182, 0, 198, 184, 0, 56, 45, 180, 0, 200, 28]
abbrev dktX1_knot_0 : List UInt8 := dkwX1_knot_0 ++ dktX1_knot_1
theorem dksX1_knot_0 : cX1_knot.data.toList.drop 0 = dktX1_knot_0 := by decide +kernel
theorem dksX1_knot_1 : cX1_knot.data.toList.drop 22 = dktX1_knot_1 := dk_seg dksX1_knot_0 22 rfl rfl
theorem dX1_knot_0 : decode cX1_knot 0 = .ok (.aload_n 0, 1) := dk_42 (dk_at dksX1_knot_0 0 rfl rfl)
theorem dX1_knot_1 : decode cX1_knot 1 = .ok (.iload_n 1, 1) := dk_27 (dk_at dksX1_knot_0 1 rfl rfl)
theorem dX1_knot_2 : decode cX1_knot 2 = .ok (.invokevirtual 310, 3) := dk_182 1 54 (dk_at dksX1_knot_0 2 rfl rfl)
theorem dX1_knot_5 : decode cX1_knot 5 = .ok (.astore_n 3, 1) := dk_78 (dk_at dksX1_knot_0 5 rfl rfl)
theorem dX1_knot_6 : decode cX1_knot 6 = .ok (.iload_n 2, 1) := dk_28 (dk_at dksX1_knot_0 6 rfl rfl)
theorem dX1_knot_7 : decode cX1_knot 7 = .ok (.aload_n 3, 1) := dk_45 (dk_at dksX1_knot_0 7 rfl rfl)
theorem dX1_knot_8 : decode cX1_knot 8 = .ok (.getfield 200, 3) := dk_180 0 200 (dk_at dksX1_knot_0 8 rfl rfl)
theorem dX1_knot_11 : decode cX1_knot 11 = .ok (.invokevirtual 198, 3) := dk_182 0 198 (dk_at dksX1_knot_0 11 rfl rfl)
theorem dX1_knot_14 : decode cX1_knot 14 = .ok (.invokestatic 56, 3) := dk_184 0 56 (dk_at dksX1_knot_0 14 rfl rfl)
theorem dX1_knot_17 : decode cX1_knot 17 = .ok (.aload_n 3, 1) := dk_45 (dk_at dksX1_knot_0 17 rfl rfl)
theorem dX1_knot_18 : decode cX1_knot 18 = .ok (.getfield 200, 3) := dk_180 0 200 (dk_at dksX1_knot_0 18 rfl rfl)
theorem dX1_knot_21 : decode cX1_knot 21 = .ok (.iload_n 2, 1) := dk_28 (dk_at dksX1_knot_0 21 rfl rfl)
theorem dX1_knot_22 : decode cX1_knot 22 = .ok (.invokevirtual 213, 3) := dk_182 0 213 (dk_at dksX1_knot_1 0 rfl rfl)
theorem dX1_knot_25 : decode cX1_knot 25 = .ok (.bipush 48, 2) := dk_16 48 (dk_at dksX1_knot_1 3 rfl rfl)
theorem dX1_knot_27 : decode cX1_knot 27 = .ok (.isub, 1) := dk_100 (dk_at dksX1_knot_1 5 rfl rfl)
theorem dX1_knot_28 : decode cX1_knot 28 = .ok (.ireturn, 1) := dk_172 (dk_at dksX1_knot_1 6 rfl rfl)
abbrev cX1_retie : ByteArray := prog_1_method_33_code
def yX1_retie : MethodName := ⟨RX1, "retie", "(III)I"⟩
def dkwX1_retie_3 : List UInt8 := [16, 48, 29, 96, 146, 182, 1, 62, 21, 5, 172]
abbrev dktX1_retie_3 : List UInt8 := dkwX1_retie_3 ++ []
def dkwX1_retie_2 : List UInt8 := [184, 0, 188, 25, 4, 180, 0, 200, 28, 182, 0, 213, 16, 48, 100, 54, 5, 25, 4, 180, 0, 200, 28]
abbrev dktX1_retie_2 : List UInt8 := dkwX1_retie_2 ++ dktX1_retie_3
def dkwX1_retie_1 : List UInt8 := [184, 0, 158, 25, 4, 180, 0, 200, 28, 182, 0, 213, 16, 53, 159, 0, 7, 4, 167, 0, 4, 3]
abbrev dktX1_retie_1 : List UInt8 := dkwX1_retie_1 ++ dktX1_retie_2
def dkwX1_retie_0 : List UInt8 := [42, 27, 182, 1, 54, 58, 4, 28, 25, 4, 180, 0, 200, 182, 0, 198, 184, 0, 56, 4, 7, 29]
abbrev dktX1_retie_0 : List UInt8 := dkwX1_retie_0 ++ dktX1_retie_1
theorem dksX1_retie_0 : cX1_retie.data.toList.drop 0 = dktX1_retie_0 := by decide +kernel
theorem dksX1_retie_1 : cX1_retie.data.toList.drop 22 = dktX1_retie_1 := dk_seg dksX1_retie_0 22 rfl rfl
theorem dksX1_retie_2 : cX1_retie.data.toList.drop 44 = dktX1_retie_2 := dk_seg dksX1_retie_1 22 rfl rfl
theorem dksX1_retie_3 : cX1_retie.data.toList.drop 67 = dktX1_retie_3 := dk_seg dksX1_retie_2 23 rfl rfl
theorem dX1_retie_0 : decode cX1_retie 0 = .ok (.aload_n 0, 1) := dk_42 (dk_at dksX1_retie_0 0 rfl rfl)
theorem dX1_retie_1 : decode cX1_retie 1 = .ok (.iload_n 1, 1) := dk_27 (dk_at dksX1_retie_0 1 rfl rfl)
theorem dX1_retie_2 : decode cX1_retie 2 = .ok (.invokevirtual 310, 3) := dk_182 1 54 (dk_at dksX1_retie_0 2 rfl rfl)
theorem dX1_retie_5 : decode cX1_retie 5 = .ok (.astore 4, 2) := dk_58 4 (dk_at dksX1_retie_0 5 rfl rfl)
theorem dX1_retie_7 : decode cX1_retie 7 = .ok (.iload_n 2, 1) := dk_28 (dk_at dksX1_retie_0 7 rfl rfl)
theorem dX1_retie_8 : decode cX1_retie 8 = .ok (.aload 4, 2) := dk_25 4 (dk_at dksX1_retie_0 8 rfl rfl)
theorem dX1_retie_10 : decode cX1_retie 10 = .ok (.getfield 200, 3) := dk_180 0 200 (dk_at dksX1_retie_0 10 rfl rfl)
theorem dX1_retie_13 : decode cX1_retie 13 = .ok (.invokevirtual 198, 3) := dk_182 0 198 (dk_at dksX1_retie_0 13 rfl rfl)
theorem dX1_retie_16 : decode cX1_retie 16 = .ok (.invokestatic 56, 3) := dk_184 0 56 (dk_at dksX1_retie_0 16 rfl rfl)
theorem dX1_retie_19 : decode cX1_retie 19 = .ok (.iconst 1, 1) := dk_4 (dk_at dksX1_retie_0 19 rfl rfl)
theorem dX1_retie_20 : decode cX1_retie 20 = .ok (.iconst 4, 1) := dk_7 (dk_at dksX1_retie_0 20 rfl rfl)
theorem dX1_retie_21 : decode cX1_retie 21 = .ok (.iload_n 3, 1) := dk_29 (dk_at dksX1_retie_0 21 rfl rfl)
theorem dX1_retie_22 : decode cX1_retie 22 = .ok (.invokestatic 158, 3) := dk_184 0 158 (dk_at dksX1_retie_1 0 rfl rfl)
theorem dX1_retie_25 : decode cX1_retie 25 = .ok (.aload 4, 2) := dk_25 4 (dk_at dksX1_retie_1 3 rfl rfl)
theorem dX1_retie_27 : decode cX1_retie 27 = .ok (.getfield 200, 3) := dk_180 0 200 (dk_at dksX1_retie_1 5 rfl rfl)
theorem dX1_retie_30 : decode cX1_retie 30 = .ok (.iload_n 2, 1) := dk_28 (dk_at dksX1_retie_1 8 rfl rfl)
theorem dX1_retie_31 : decode cX1_retie 31 = .ok (.invokevirtual 213, 3) := dk_182 0 213 (dk_at dksX1_retie_1 9 rfl rfl)
theorem dX1_retie_34 : decode cX1_retie 34 = .ok (.bipush 53, 2) := dk_16 53 (dk_at dksX1_retie_1 12 rfl rfl)
theorem dX1_retie_36 : decode cX1_retie 36 = .ok (.if_icmp .eq 7, 3) := dk_159 0 7 (dk_at dksX1_retie_1 14 rfl rfl)
theorem dX1_retie_39 : decode cX1_retie 39 = .ok (.iconst 1, 1) := dk_4 (dk_at dksX1_retie_1 17 rfl rfl)
theorem dX1_retie_40 : decode cX1_retie 40 = .ok (.goto 4, 3) := dk_167 0 4 (dk_at dksX1_retie_1 18 rfl rfl)
theorem dX1_retie_43 : decode cX1_retie 43 = .ok (.iconst 0, 1) := dk_3 (dk_at dksX1_retie_1 21 rfl rfl)
theorem dX1_retie_44 : decode cX1_retie 44 = .ok (.invokestatic 188, 3) := dk_184 0 188 (dk_at dksX1_retie_2 0 rfl rfl)
theorem dX1_retie_47 : decode cX1_retie 47 = .ok (.aload 4, 2) := dk_25 4 (dk_at dksX1_retie_2 3 rfl rfl)
theorem dX1_retie_49 : decode cX1_retie 49 = .ok (.getfield 200, 3) := dk_180 0 200 (dk_at dksX1_retie_2 5 rfl rfl)
theorem dX1_retie_52 : decode cX1_retie 52 = .ok (.iload_n 2, 1) := dk_28 (dk_at dksX1_retie_2 8 rfl rfl)
theorem dX1_retie_53 : decode cX1_retie 53 = .ok (.invokevirtual 213, 3) := dk_182 0 213 (dk_at dksX1_retie_2 9 rfl rfl)
theorem dX1_retie_56 : decode cX1_retie 56 = .ok (.bipush 48, 2) := dk_16 48 (dk_at dksX1_retie_2 12 rfl rfl)
theorem dX1_retie_58 : decode cX1_retie 58 = .ok (.isub, 1) := dk_100 (dk_at dksX1_retie_2 14 rfl rfl)
theorem dX1_retie_59 : decode cX1_retie 59 = .ok (.istore 5, 2) := dk_54 5 (dk_at dksX1_retie_2 15 rfl rfl)
theorem dX1_retie_61 : decode cX1_retie 61 = .ok (.aload 4, 2) := dk_25 4 (dk_at dksX1_retie_2 17 rfl rfl)
theorem dX1_retie_63 : decode cX1_retie 63 = .ok (.getfield 200, 3) := dk_180 0 200 (dk_at dksX1_retie_2 19 rfl rfl)
theorem dX1_retie_66 : decode cX1_retie 66 = .ok (.iload_n 2, 1) := dk_28 (dk_at dksX1_retie_2 22 rfl rfl)
theorem dX1_retie_67 : decode cX1_retie 67 = .ok (.bipush 48, 2) := dk_16 48 (dk_at dksX1_retie_3 0 rfl rfl)
theorem dX1_retie_69 : decode cX1_retie 69 = .ok (.iload_n 3, 1) := dk_29 (dk_at dksX1_retie_3 2 rfl rfl)
theorem dX1_retie_70 : decode cX1_retie 70 = .ok (.iadd, 1) := dk_96 (dk_at dksX1_retie_3 3 rfl rfl)
theorem dX1_retie_71 : decode cX1_retie 71 = .ok (.i2c, 1) := dk_146 (dk_at dksX1_retie_3 4 rfl rfl)
theorem dX1_retie_72 : decode cX1_retie 72 = .ok (.invokevirtual 318, 3) := dk_182 1 62 (dk_at dksX1_retie_3 5 rfl rfl)
theorem dX1_retie_75 : decode cX1_retie 75 = .ok (.iload 5, 2) := dk_21 5 (dk_at dksX1_retie_3 8 rfl rfl)
theorem dX1_retie_77 : decode cX1_retie 77 = .ok (.ireturn, 1) := dk_172 (dk_at dksX1_retie_3 10 rfl rfl)
abbrev cX1_distance : ByteArray := prog_1_method_34_code
def yX1_distance : MethodName := ⟨RX1, "distance", "(II)I"⟩
def dkwX1_distance_1 : List UInt8 := [180, 0, 200, 182, 0, 146, 172]
abbrev dktX1_distance_1 : List UInt8 := dkwX1_distance_1 ++ []
def dkwX1_distance_0 : List UInt8 := [42, 27, 182, 1, 54, 78, 42, 28, 182, 1, 54, 58, 4, 42, 180, 0, 31, 45, 180, 0, 200, 25, 4]
abbrev dktX1_distance_0 : List UInt8 := dkwX1_distance_0 ++ dktX1_distance_1
theorem dksX1_distance_0 : cX1_distance.data.toList.drop 0 = dktX1_distance_0 := by decide +kernel
theorem dksX1_distance_1 : cX1_distance.data.toList.drop 23 = dktX1_distance_1 := dk_seg dksX1_distance_0 23 rfl rfl
theorem dX1_distance_0 : decode cX1_distance 0 = .ok (.aload_n 0, 1) := dk_42 (dk_at dksX1_distance_0 0 rfl rfl)
theorem dX1_distance_1 : decode cX1_distance 1 = .ok (.iload_n 1, 1) := dk_27 (dk_at dksX1_distance_0 1 rfl rfl)
theorem dX1_distance_2 : decode cX1_distance 2 = .ok (.invokevirtual 310, 3) := dk_182 1 54 (dk_at dksX1_distance_0 2 rfl rfl)
theorem dX1_distance_5 : decode cX1_distance 5 = .ok (.astore_n 3, 1) := dk_78 (dk_at dksX1_distance_0 5 rfl rfl)
theorem dX1_distance_6 : decode cX1_distance 6 = .ok (.aload_n 0, 1) := dk_42 (dk_at dksX1_distance_0 6 rfl rfl)
theorem dX1_distance_7 : decode cX1_distance 7 = .ok (.iload_n 2, 1) := dk_28 (dk_at dksX1_distance_0 7 rfl rfl)
theorem dX1_distance_8 : decode cX1_distance 8 = .ok (.invokevirtual 310, 3) := dk_182 1 54 (dk_at dksX1_distance_0 8 rfl rfl)
theorem dX1_distance_11 : decode cX1_distance 11 = .ok (.astore 4, 2) := dk_58 4 (dk_at dksX1_distance_0 11 rfl rfl)
theorem dX1_distance_13 : decode cX1_distance 13 = .ok (.aload_n 0, 1) := dk_42 (dk_at dksX1_distance_0 13 rfl rfl)
theorem dX1_distance_14 : decode cX1_distance 14 = .ok (.getfield 31, 3) := dk_180 0 31 (dk_at dksX1_distance_0 14 rfl rfl)
theorem dX1_distance_17 : decode cX1_distance 17 = .ok (.aload_n 3, 1) := dk_45 (dk_at dksX1_distance_0 17 rfl rfl)
theorem dX1_distance_18 : decode cX1_distance 18 = .ok (.getfield 200, 3) := dk_180 0 200 (dk_at dksX1_distance_0 18 rfl rfl)
theorem dX1_distance_21 : decode cX1_distance 21 = .ok (.aload 4, 2) := dk_25 4 (dk_at dksX1_distance_0 21 rfl rfl)
theorem dX1_distance_23 : decode cX1_distance 23 = .ok (.getfield 200, 3) := dk_180 0 200 (dk_at dksX1_distance_1 0 rfl rfl)
theorem dX1_distance_26 : decode cX1_distance 26 = .ok (.invokevirtual 146, 3) := dk_182 0 146 (dk_at dksX1_distance_1 3 rfl rfl)
theorem dX1_distance_29 : decode cX1_distance 29 = .ok (.ireturn, 1) := dk_172 (dk_at dksX1_distance_1 6 rfl rfl)
abbrev cX1_nearest : ByteArray := prog_1_method_35_code
def yX1_nearest : MethodName := ⟨RX1, "nearest", "(I)I"⟩
def dkwX1_nearest_3 : List UInt8 := [21, 4, 161, 0, 6, 167, 0, 10, 21, 5, 62, 21, 6, 54, 4, 132, 5, 1, 167, 255, 182, 29, 172]
abbrev dktX1_nearest_3 : List UInt8 := dkwX1_nearest_3 ++ []
def dkwX1_nearest_2 : List UInt8 := [21, 5, 182, 0, 180, 192, 0, 183, 180, 0, 200, 182, 0, 146, 54, 6, 29, 2, 159, 0, 13, 21, 6]
abbrev dktX1_nearest_2 : List UInt8 := dkwX1_nearest_2 ++ dktX1_nearest_3
def dkwX1_nearest_1 : List UInt8 := [162, 0, 68, 21, 5, 27, 160, 0, 6, 167, 0, 53, 42, 180, 0, 31, 44, 180, 0, 200, 42, 180, 0, 38]
abbrev dktX1_nearest_1 : List UInt8 := dkwX1_nearest_1 ++ dktX1_nearest_2
def dkwX1_nearest_0 : List UInt8 := [42, 27, 182, 1, 54, 77, 2, 62, 3, 54, 4, 3, 54, 5, 21, 5, 42, 180, 0, 38, 182, 0, 179]
abbrev dktX1_nearest_0 : List UInt8 := dkwX1_nearest_0 ++ dktX1_nearest_1
theorem dksX1_nearest_0 : cX1_nearest.data.toList.drop 0 = dktX1_nearest_0 := by decide +kernel
theorem dksX1_nearest_1 : cX1_nearest.data.toList.drop 23 = dktX1_nearest_1 := dk_seg dksX1_nearest_0 23 rfl rfl
theorem dksX1_nearest_2 : cX1_nearest.data.toList.drop 47 = dktX1_nearest_2 := dk_seg dksX1_nearest_1 24 rfl rfl
theorem dksX1_nearest_3 : cX1_nearest.data.toList.drop 70 = dktX1_nearest_3 := dk_seg dksX1_nearest_2 23 rfl rfl
theorem dX1_nearest_0 : decode cX1_nearest 0 = .ok (.aload_n 0, 1) := dk_42 (dk_at dksX1_nearest_0 0 rfl rfl)
theorem dX1_nearest_1 : decode cX1_nearest 1 = .ok (.iload_n 1, 1) := dk_27 (dk_at dksX1_nearest_0 1 rfl rfl)
theorem dX1_nearest_2 : decode cX1_nearest 2 = .ok (.invokevirtual 310, 3) := dk_182 1 54 (dk_at dksX1_nearest_0 2 rfl rfl)
theorem dX1_nearest_5 : decode cX1_nearest 5 = .ok (.astore_n 2, 1) := dk_77 (dk_at dksX1_nearest_0 5 rfl rfl)
theorem dX1_nearest_6 : decode cX1_nearest 6 = .ok (.iconst (-1), 1) := dk_2 (dk_at dksX1_nearest_0 6 rfl rfl)
theorem dX1_nearest_7 : decode cX1_nearest 7 = .ok (.istore_n 3, 1) := dk_62 (dk_at dksX1_nearest_0 7 rfl rfl)
theorem dX1_nearest_8 : decode cX1_nearest 8 = .ok (.iconst 0, 1) := dk_3 (dk_at dksX1_nearest_0 8 rfl rfl)
theorem dX1_nearest_9 : decode cX1_nearest 9 = .ok (.istore 4, 2) := dk_54 4 (dk_at dksX1_nearest_0 9 rfl rfl)
theorem dX1_nearest_11 : decode cX1_nearest 11 = .ok (.iconst 0, 1) := dk_3 (dk_at dksX1_nearest_0 11 rfl rfl)
theorem dX1_nearest_12 : decode cX1_nearest 12 = .ok (.istore 5, 2) := dk_54 5 (dk_at dksX1_nearest_0 12 rfl rfl)
theorem dX1_nearest_14 : decode cX1_nearest 14 = .ok (.iload 5, 2) := dk_21 5 (dk_at dksX1_nearest_0 14 rfl rfl)
theorem dX1_nearest_16 : decode cX1_nearest 16 = .ok (.aload_n 0, 1) := dk_42 (dk_at dksX1_nearest_0 16 rfl rfl)
theorem dX1_nearest_17 : decode cX1_nearest 17 = .ok (.getfield 38, 3) := dk_180 0 38 (dk_at dksX1_nearest_0 17 rfl rfl)
theorem dX1_nearest_20 : decode cX1_nearest 20 = .ok (.invokevirtual 179, 3) := dk_182 0 179 (dk_at dksX1_nearest_0 20 rfl rfl)
theorem dX1_nearest_23 : decode cX1_nearest 23 = .ok (.if_icmp .ge 68, 3) := dk_162 0 68 (dk_at dksX1_nearest_1 0 rfl rfl)
theorem dX1_nearest_26 : decode cX1_nearest 26 = .ok (.iload 5, 2) := dk_21 5 (dk_at dksX1_nearest_1 3 rfl rfl)
theorem dX1_nearest_28 : decode cX1_nearest 28 = .ok (.iload_n 1, 1) := dk_27 (dk_at dksX1_nearest_1 5 rfl rfl)
theorem dX1_nearest_29 : decode cX1_nearest 29 = .ok (.if_icmp .ne 6, 3) := dk_160 0 6 (dk_at dksX1_nearest_1 6 rfl rfl)
theorem dX1_nearest_32 : decode cX1_nearest 32 = .ok (.goto 53, 3) := dk_167 0 53 (dk_at dksX1_nearest_1 9 rfl rfl)
theorem dX1_nearest_35 : decode cX1_nearest 35 = .ok (.aload_n 0, 1) := dk_42 (dk_at dksX1_nearest_1 12 rfl rfl)
theorem dX1_nearest_36 : decode cX1_nearest 36 = .ok (.getfield 31, 3) := dk_180 0 31 (dk_at dksX1_nearest_1 13 rfl rfl)
theorem dX1_nearest_39 : decode cX1_nearest 39 = .ok (.aload_n 2, 1) := dk_44 (dk_at dksX1_nearest_1 16 rfl rfl)
theorem dX1_nearest_40 : decode cX1_nearest 40 = .ok (.getfield 200, 3) := dk_180 0 200 (dk_at dksX1_nearest_1 17 rfl rfl)
theorem dX1_nearest_43 : decode cX1_nearest 43 = .ok (.aload_n 0, 1) := dk_42 (dk_at dksX1_nearest_1 20 rfl rfl)
theorem dX1_nearest_44 : decode cX1_nearest 44 = .ok (.getfield 38, 3) := dk_180 0 38 (dk_at dksX1_nearest_1 21 rfl rfl)
theorem dX1_nearest_47 : decode cX1_nearest 47 = .ok (.iload 5, 2) := dk_21 5 (dk_at dksX1_nearest_2 0 rfl rfl)
theorem dX1_nearest_49 : decode cX1_nearest 49 = .ok (.invokevirtual 180, 3) := dk_182 0 180 (dk_at dksX1_nearest_2 2 rfl rfl)
theorem dX1_nearest_52 : decode cX1_nearest 52 = .ok (.checkcast 183, 3) := dk_192 0 183 (dk_at dksX1_nearest_2 5 rfl rfl)
theorem dX1_nearest_55 : decode cX1_nearest 55 = .ok (.getfield 200, 3) := dk_180 0 200 (dk_at dksX1_nearest_2 8 rfl rfl)
theorem dX1_nearest_58 : decode cX1_nearest 58 = .ok (.invokevirtual 146, 3) := dk_182 0 146 (dk_at dksX1_nearest_2 11 rfl rfl)
theorem dX1_nearest_61 : decode cX1_nearest 61 = .ok (.istore 6, 2) := dk_54 6 (dk_at dksX1_nearest_2 14 rfl rfl)
theorem dX1_nearest_63 : decode cX1_nearest 63 = .ok (.iload_n 3, 1) := dk_29 (dk_at dksX1_nearest_2 16 rfl rfl)
theorem dX1_nearest_64 : decode cX1_nearest 64 = .ok (.iconst (-1), 1) := dk_2 (dk_at dksX1_nearest_2 17 rfl rfl)
theorem dX1_nearest_65 : decode cX1_nearest 65 = .ok (.if_icmp .eq 13, 3) := dk_159 0 13 (dk_at dksX1_nearest_2 18 rfl rfl)
theorem dX1_nearest_68 : decode cX1_nearest 68 = .ok (.iload 6, 2) := dk_21 6 (dk_at dksX1_nearest_2 21 rfl rfl)
theorem dX1_nearest_70 : decode cX1_nearest 70 = .ok (.iload 4, 2) := dk_21 4 (dk_at dksX1_nearest_3 0 rfl rfl)
theorem dX1_nearest_72 : decode cX1_nearest 72 = .ok (.if_icmp .lt 6, 3) := dk_161 0 6 (dk_at dksX1_nearest_3 2 rfl rfl)
theorem dX1_nearest_75 : decode cX1_nearest 75 = .ok (.goto 10, 3) := dk_167 0 10 (dk_at dksX1_nearest_3 5 rfl rfl)
theorem dX1_nearest_78 : decode cX1_nearest 78 = .ok (.iload 5, 2) := dk_21 5 (dk_at dksX1_nearest_3 8 rfl rfl)
theorem dX1_nearest_80 : decode cX1_nearest 80 = .ok (.istore_n 3, 1) := dk_62 (dk_at dksX1_nearest_3 10 rfl rfl)
theorem dX1_nearest_81 : decode cX1_nearest 81 = .ok (.iload 6, 2) := dk_21 6 (dk_at dksX1_nearest_3 11 rfl rfl)
theorem dX1_nearest_83 : decode cX1_nearest 83 = .ok (.istore 4, 2) := dk_54 4 (dk_at dksX1_nearest_3 13 rfl rfl)
theorem dX1_nearest_85 : decode cX1_nearest 85 = .ok (.iinc 5 1, 3) := dk_132 5 1 (dk_at dksX1_nearest_3 15 rfl rfl)
theorem dX1_nearest_88 : decode cX1_nearest 88 = .ok (.goto (-74), 3) := dk_167 255 182 (dk_at dksX1_nearest_3 18 rfl rfl)
theorem dX1_nearest_91 : decode cX1_nearest 91 = .ok (.iload_n 3, 1) := dk_29 (dk_at dksX1_nearest_3 21 rfl rfl)
theorem dX1_nearest_92 : decode cX1_nearest 92 = .ok (.ireturn, 1) := dk_172 (dk_at dksX1_nearest_3 22 rfl rfl)
abbrev cX1_read : ByteArray := prog_1_method_36_code
def yX1_read : MethodName := ⟨RX1, "read", "(I)I"⟩
def dkwX1_read_1 : List UInt8 := [42, 180, 0, 49, 182, 1, 44, 172]
abbrev dktX1_read_1 : List UInt8 := dkwX1_read_1 ++ []
def dkwX1_read_0 : List UInt8 := [42, 27, 182, 1, 54, 77, 42, 180, 0, 49, 3, 182, 1, 66, 42, 44, 42, 180, 0, 49, 182, 1, 40, 87]
abbrev dktX1_read_0 : List UInt8 := dkwX1_read_0 ++ dktX1_read_1
theorem dksX1_read_0 : cX1_read.data.toList.drop 0 = dktX1_read_0 := by decide +kernel
theorem dksX1_read_1 : cX1_read.data.toList.drop 24 = dktX1_read_1 := dk_seg dksX1_read_0 24 rfl rfl
theorem dX1_read_0 : decode cX1_read 0 = .ok (.aload_n 0, 1) := dk_42 (dk_at dksX1_read_0 0 rfl rfl)
theorem dX1_read_1 : decode cX1_read 1 = .ok (.iload_n 1, 1) := dk_27 (dk_at dksX1_read_0 1 rfl rfl)
theorem dX1_read_2 : decode cX1_read 2 = .ok (.invokevirtual 310, 3) := dk_182 1 54 (dk_at dksX1_read_0 2 rfl rfl)
theorem dX1_read_5 : decode cX1_read 5 = .ok (.astore_n 2, 1) := dk_77 (dk_at dksX1_read_0 5 rfl rfl)
theorem dX1_read_6 : decode cX1_read 6 = .ok (.aload_n 0, 1) := dk_42 (dk_at dksX1_read_0 6 rfl rfl)
theorem dX1_read_7 : decode cX1_read 7 = .ok (.getfield 49, 3) := dk_180 0 49 (dk_at dksX1_read_0 7 rfl rfl)
theorem dX1_read_10 : decode cX1_read 10 = .ok (.iconst 0, 1) := dk_3 (dk_at dksX1_read_0 10 rfl rfl)
theorem dX1_read_11 : decode cX1_read 11 = .ok (.invokevirtual 322, 3) := dk_182 1 66 (dk_at dksX1_read_0 11 rfl rfl)
theorem dX1_read_14 : decode cX1_read 14 = .ok (.aload_n 0, 1) := dk_42 (dk_at dksX1_read_0 14 rfl rfl)
theorem dX1_read_15 : decode cX1_read 15 = .ok (.aload_n 2, 1) := dk_44 (dk_at dksX1_read_0 15 rfl rfl)
theorem dX1_read_16 : decode cX1_read 16 = .ok (.aload_n 0, 1) := dk_42 (dk_at dksX1_read_0 16 rfl rfl)
theorem dX1_read_17 : decode cX1_read 17 = .ok (.getfield 49, 3) := dk_180 0 49 (dk_at dksX1_read_0 17 rfl rfl)
theorem dX1_read_20 : decode cX1_read 20 = .ok (.invokevirtual 296, 3) := dk_182 1 40 (dk_at dksX1_read_0 20 rfl rfl)
theorem dX1_read_23 : decode cX1_read 23 = .ok (.pop, 1) := dk_87 (dk_at dksX1_read_0 23 rfl rfl)
theorem dX1_read_24 : decode cX1_read 24 = .ok (.aload_n 0, 1) := dk_42 (dk_at dksX1_read_1 0 rfl rfl)
theorem dX1_read_25 : decode cX1_read 25 = .ok (.getfield 49, 3) := dk_180 0 49 (dk_at dksX1_read_1 1 rfl rfl)
theorem dX1_read_28 : decode cX1_read 28 = .ok (.invokevirtual 300, 3) := dk_182 1 44 (dk_at dksX1_read_1 4 rfl rfl)
theorem dX1_read_31 : decode cX1_read 31 = .ok (.ireturn, 1) := dk_172 (dk_at dksX1_read_1 7 rfl rfl)
abbrev cX1_byteAt : ByteArray := prog_1_method_37_code
def yX1_byteAt : MethodName := ⟨RX1, "byteAt", "(I)I"⟩
def dkwX1_byteAt_0 : List UInt8 := [27, 42, 180, 0, 49, 182, 1, 44, 184, 0, 56, 42, 180, 0, 49, 27, 182, 1, 69, 172]
abbrev dktX1_byteAt_0 : List UInt8 := dkwX1_byteAt_0 ++ []
theorem dksX1_byteAt_0 : cX1_byteAt.data.toList.drop 0 = dktX1_byteAt_0 := by decide +kernel
theorem dX1_byteAt_0 : decode cX1_byteAt 0 = .ok (.iload_n 1, 1) := dk_27 (dk_at dksX1_byteAt_0 0 rfl rfl)
theorem dX1_byteAt_1 : decode cX1_byteAt 1 = .ok (.aload_n 0, 1) := dk_42 (dk_at dksX1_byteAt_0 1 rfl rfl)
theorem dX1_byteAt_2 : decode cX1_byteAt 2 = .ok (.getfield 49, 3) := dk_180 0 49 (dk_at dksX1_byteAt_0 2 rfl rfl)
theorem dX1_byteAt_5 : decode cX1_byteAt 5 = .ok (.invokevirtual 300, 3) := dk_182 1 44 (dk_at dksX1_byteAt_0 5 rfl rfl)
theorem dX1_byteAt_8 : decode cX1_byteAt 8 = .ok (.invokestatic 56, 3) := dk_184 0 56 (dk_at dksX1_byteAt_0 8 rfl rfl)
theorem dX1_byteAt_11 : decode cX1_byteAt 11 = .ok (.aload_n 0, 1) := dk_42 (dk_at dksX1_byteAt_0 11 rfl rfl)
theorem dX1_byteAt_12 : decode cX1_byteAt 12 = .ok (.getfield 49, 3) := dk_180 0 49 (dk_at dksX1_byteAt_0 12 rfl rfl)
theorem dX1_byteAt_15 : decode cX1_byteAt 15 = .ok (.iload_n 1, 1) := dk_27 (dk_at dksX1_byteAt_0 15 rfl rfl)
theorem dX1_byteAt_16 : decode cX1_byteAt 16 = .ok (.invokevirtual 325, 3) := dk_182 1 69 (dk_at dksX1_byteAt_0 16 rfl rfl)
theorem dX1_byteAt_19 : decode cX1_byteAt 19 = .ok (.ireturn, 1) := dk_172 (dk_at dksX1_byteAt_0 19 rfl rfl)
theorem q47 : (Jvm.Cond.initialized "KnotLetters") ∈ lw_all := lw_g (lw_at lw_m1 1 rfl) rfl
theorem q96 : (Jvm.Cond.instantiable "KnotLetters" (11 : Nat)) ∈ lw_all := lw_g (lw_at lw_m1 50 rfl) rfl
theorem q98 : (Jvm.Cond.instanceMethod ({ cls := "KnotLetters", name := "<init>", desc := "()V" } : Jvm.MethodName)) ∈ lw_all := lw_g (lw_at lw_m1 52 rfl) rfl
theorem q99 : (Jvm.Cond.code ({ cls := "KnotLetters", name := "<init>", desc := "()V" } : Jvm.MethodName) prog_1_method_5_code (2 : Nat) (Option.none : Option Jvm.ClassFile.FieldType)) ∈ lw_all := lw_g (lw_at lw_m1 53 rfl) rfl
theorem q100 : (Jvm.Cond.methodLink "KnotLetters" (19 : Nat) ({ cls := "java/lang/Object", name := "<init>", desc := "()V" } : Jvm.MethodName)) ∈ lw_all := lw_g (lw_at lw_m1 54 rfl) rfl
theorem q103 : (Jvm.Cond.classLink "KnotLetters" (22 : Nat) "KnotLetters$Letter") ∈ lw_all := lw_g (lw_at lw_m1 57 rfl) rfl
theorem q105 : (Jvm.Cond.classLink "KnotLetters" (28 : Nat) "KnotLetters$Feel") ∈ lw_all := lw_g (lw_at lw_m1 59 rfl) rfl
theorem q107 : (Jvm.Cond.methodLinkNest "KnotLetters" (30 : Nat) ({ cls := "KnotLetters$Feel", name := "<init>", desc := "()V" } : Jvm.MethodName) "KnotLetters") ∈ lw_tbl := lw_at lw_m1 61 rfl
theorem q114 : (Jvm.Cond.fieldLinkNest "KnotLetters" (169 : Nat) "KnotLetters$Feel" "costs" "[[I" "KnotLetters") ∈ lw_tbl := lw_at lw_m1 68 rfl
theorem q116 : (Jvm.Cond.fieldLinkNest "KnotLetters" (173 : Nat) "KnotLetters$Feel" "missed" "I" "KnotLetters") ∈ lw_tbl := lw_at lw_m1 70 rfl
theorem q118 : (Jvm.Cond.fieldLinkNest "KnotLetters" (176 : Nat) "KnotLetters$Feel" "ghost" "I" "KnotLetters") ∈ lw_tbl := lw_at lw_m1 72 rfl
theorem q120 : (Jvm.Cond.fieldLinkNest "KnotLetters" (247 : Nat) "KnotLetters$Feel" "last" "[I" "KnotLetters") ∈ lw_tbl := lw_at lw_m1 74 rfl
theorem q134 : (Jvm.Cond.classLink "KnotLetters" (35 : Nat) "java/util/ArrayList") ∈ lw_all := lw_g (lw_at lw_m1 88 rfl) rfl
theorem q136 : (Jvm.Cond.methodLink "KnotLetters" (37 : Nat) ({ cls := "java/util/ArrayList", name := "<init>", desc := "()V" } : Jvm.MethodName)) ∈ lw_all := lw_g (lw_at lw_m1 90 rfl) rfl
theorem q163 : (Jvm.Cond.classLink "KnotLetters" (46 : Nat) "java/lang/StringBuilder") ∈ lw_all := lw_g (lw_at lw_m1 117 rfl) rfl
theorem q165 : (Jvm.Cond.methodLink "KnotLetters" (48 : Nat) ({ cls := "java/lang/StringBuilder", name := "<init>", desc := "()V" } : Jvm.MethodName)) ∈ lw_all := lw_g (lw_at lw_m1 119 rfl) rfl
theorem q197 : (Jvm.Cond.methodLink "KnotLetters" (53 : Nat) ({ cls := "KnotLetters$Letter", name := "<init>", desc := "(I)V" } : Jvm.MethodName)) ∈ lw_all := lw_g (lw_at lw_m1 151 rfl) rfl
theorem q214 : (Jvm.Cond.fieldLink "KnotLetters" (251 : Nat) "KnotLetters$Letter" "name" "C") ∈ lw_all := lw_g (lw_at lw_m1 168 rfl) rfl
theorem q216 : (Jvm.Cond.fieldLinkNest "KnotLetters" (66 : Nat) "KnotLetters$Letter" "row" "LKnotLetters$Knots;" "KnotLetters") ∈ lw_tbl := lw_at lw_m1 170 rfl
theorem q218 : (Jvm.Cond.fieldLinkNest "KnotLetters" (210 : Nat) "KnotLetters$Letter" "tied" "I" "KnotLetters") ∈ lw_tbl := lw_at lw_m1 172 rfl
theorem q226 : (Jvm.Cond.fieldLink "KnotLetters" (24 : Nat) "KnotLetters" "letters" "[LKnotLetters$Letter;") ∈ lw_all := lw_g (lw_at lw_m1 180 rfl) rfl
theorem q227 : (Jvm.Cond.fieldLink "KnotLetters" (31 : Nat) "KnotLetters" "feel" "LKnotLetters$Feel;") ∈ lw_all := lw_g (lw_at lw_m1 181 rfl) rfl
theorem q228 : (Jvm.Cond.fieldLink "KnotLetters" (38 : Nat) "KnotLetters" "cords" "Ljava/util/ArrayList;") ∈ lw_all := lw_g (lw_at lw_m1 182 rfl) rfl
theorem q229 : (Jvm.Cond.fieldLink "KnotLetters" (42 : Nat) "KnotLetters" "tape" "[B") ∈ lw_all := lw_g (lw_at lw_m1 183 rfl) rfl
theorem q230 : (Jvm.Cond.fieldLink "KnotLetters" (185 : Nat) "KnotLetters" "taped" "I") ∈ lw_all := lw_g (lw_at lw_m1 184 rfl) rfl
theorem q231 : (Jvm.Cond.fieldLink "KnotLetters" (162 : Nat) "KnotLetters" "slip" "I") ∈ lw_all := lw_g (lw_at lw_m1 185 rfl) rfl
theorem q232 : (Jvm.Cond.fieldLink "KnotLetters" (166 : Nat) "KnotLetters" "skip" "I") ∈ lw_all := lw_g (lw_at lw_m1 186 rfl) rfl
theorem q233 : (Jvm.Cond.fieldLink "KnotLetters" (217 : Nat) "KnotLetters" "tied" "I") ∈ lw_all := lw_g (lw_at lw_m1 187 rfl) rfl
theorem q234 : (Jvm.Cond.fieldLink "KnotLetters" (225 : Nat) "KnotLetters" "slipped" "I") ∈ lw_all := lw_g (lw_at lw_m1 188 rfl) rfl
theorem q235 : (Jvm.Cond.fieldLink "KnotLetters" (221 : Nat) "KnotLetters" "skipped" "I") ∈ lw_all := lw_g (lw_at lw_m1 189 rfl) rfl
theorem q236 : (Jvm.Cond.fieldLink "KnotLetters" (49 : Nat) "KnotLetters" "paper" "Ljava/lang/StringBuilder;") ∈ lw_all := lw_g (lw_at lw_m1 190 rfl) rfl
theorem q237 : (Jvm.Cond.laysFinal "KnotLetters" "KnotLetters" "letters" "[LKnotLetters$Letter;") ∈ lw_all := lw_g (lw_at lw_m1 191 rfl) rfl
theorem q238 : (Jvm.Cond.soleField "KnotLetters" "letters") ∈ lw_all := lw_g (lw_at lw_m1 192 rfl) rfl
theorem q239 : (Jvm.Cond.laysFinal "KnotLetters" "KnotLetters" "feel" "LKnotLetters$Feel;") ∈ lw_all := lw_g (lw_at lw_m1 193 rfl) rfl
theorem q240 : (Jvm.Cond.soleField "KnotLetters" "feel") ∈ lw_all := lw_g (lw_at lw_m1 194 rfl) rfl
theorem q241 : (Jvm.Cond.laysFinal "KnotLetters" "KnotLetters" "cords" "Ljava/util/ArrayList;") ∈ lw_all := lw_g (lw_at lw_m1 195 rfl) rfl
theorem q242 : (Jvm.Cond.soleField "KnotLetters" "cords") ∈ lw_all := lw_g (lw_at lw_m1 196 rfl) rfl
theorem q243 : (Jvm.Cond.laysFinal "KnotLetters" "KnotLetters" "tape" "[B") ∈ lw_all := lw_g (lw_at lw_m1 197 rfl) rfl
theorem q244 : (Jvm.Cond.soleField "KnotLetters" "tape") ∈ lw_all := lw_g (lw_at lw_m1 198 rfl) rfl
theorem q245 : (Jvm.Cond.lays "KnotLetters" "KnotLetters" "taped" "I") ∈ lw_all := lw_g (lw_at lw_m1 199 rfl) rfl
theorem q246 : (Jvm.Cond.soleField "KnotLetters" "taped") ∈ lw_all := lw_g (lw_at lw_m1 200 rfl) rfl
theorem q247 : (Jvm.Cond.lays "KnotLetters" "KnotLetters" "slip" "I") ∈ lw_all := lw_g (lw_at lw_m1 201 rfl) rfl
theorem q248 : (Jvm.Cond.soleField "KnotLetters" "slip") ∈ lw_all := lw_g (lw_at lw_m1 202 rfl) rfl
theorem q249 : (Jvm.Cond.lays "KnotLetters" "KnotLetters" "skip" "I") ∈ lw_all := lw_g (lw_at lw_m1 203 rfl) rfl
theorem q250 : (Jvm.Cond.soleField "KnotLetters" "skip") ∈ lw_all := lw_g (lw_at lw_m1 204 rfl) rfl
theorem q251 : (Jvm.Cond.lays "KnotLetters" "KnotLetters" "tied" "I") ∈ lw_all := lw_g (lw_at lw_m1 205 rfl) rfl
theorem q252 : (Jvm.Cond.soleField "KnotLetters" "tied") ∈ lw_all := lw_g (lw_at lw_m1 206 rfl) rfl
theorem q253 : (Jvm.Cond.lays "KnotLetters" "KnotLetters" "slipped" "I") ∈ lw_all := lw_g (lw_at lw_m1 207 rfl) rfl
theorem q254 : (Jvm.Cond.soleField "KnotLetters" "slipped") ∈ lw_all := lw_g (lw_at lw_m1 208 rfl) rfl
theorem q255 : (Jvm.Cond.lays "KnotLetters" "KnotLetters" "skipped" "I") ∈ lw_all := lw_g (lw_at lw_m1 209 rfl) rfl
theorem q256 : (Jvm.Cond.soleField "KnotLetters" "skipped") ∈ lw_all := lw_g (lw_at lw_m1 210 rfl) rfl
theorem q257 : (Jvm.Cond.laysFinal "KnotLetters" "KnotLetters" "paper" "Ljava/lang/StringBuilder;") ∈ lw_all := lw_g (lw_at lw_m1 211 rfl) rfl
theorem q258 : (Jvm.Cond.soleField "KnotLetters" "paper") ∈ lw_all := lw_g (lw_at lw_m1 212 rfl) rfl
theorem q259 : (Jvm.Cond.superclass "KnotLetters" "java/lang/Object") ∈ lw_all := lw_g (lw_at lw_m1 213 rfl) rfl
theorem q261 : (Jvm.Cond.instanceMethod ({ cls := "KnotLetters", name := "isFree", desc := "()Z" } : Jvm.MethodName)) ∈ lw_all := lw_g (lw_at lw_m1 215 rfl) rfl
theorem q262 : (Jvm.Cond.selects "KnotLetters" ({ cls := "KnotLetters", name := "isFree", desc := "()Z" } : Jvm.MethodName) ({ cls := "KnotLetters", name := "isFree", desc := "()Z" } : Jvm.MethodName)) ∈ lw_all := lw_g (lw_at lw_m1 216 rfl) rfl
theorem q263 : (Jvm.Cond.code ({ cls := "KnotLetters", name := "isFree", desc := "()Z" } : Jvm.MethodName) prog_1_method_8_code (9 : Nat) (Option.some Jvm.ClassFile.FieldType.boolean)) ∈ lw_all := lw_g (lw_at lw_m1 217 rfl) rfl
theorem q264 : (Jvm.Cond.methodLink "KnotLetters" (78 : Nat) ({ cls := "KnotLetters$Letter", name := "hasKnots", desc := "()Z" } : Jvm.MethodName)) ∈ lw_all := lw_g (lw_at lw_m1 218 rfl) rfl
theorem q279 : (Jvm.Cond.methodLink "KnotLetters" (82 : Nat) ({ cls := "KnotLetters$Knots", name := "beginsWith", desc := "(Ljava/lang/CharSequence;)Z" } : Jvm.MethodName)) ∈ lw_all := lw_g (lw_at lw_m1 233 rfl) rfl
theorem q373 : (Jvm.Cond.instanceMethod ({ cls := "KnotLetters", name := "isClear", desc := "()Z" } : Jvm.MethodName)) ∈ lw_all := lw_g (lw_at lw_m2 87 rfl) rfl
theorem q374 : (Jvm.Cond.selects "KnotLetters" ({ cls := "KnotLetters", name := "isClear", desc := "()Z" } : Jvm.MethodName) ({ cls := "KnotLetters", name := "isClear", desc := "()Z" } : Jvm.MethodName)) ∈ lw_all := lw_g (lw_at lw_m2 88 rfl) rfl
theorem q375 : (Jvm.Cond.code ({ cls := "KnotLetters", name := "isClear", desc := "()Z" } : Jvm.MethodName) prog_1_method_10_code (8 : Nat) (Option.some Jvm.ClassFile.FieldType.boolean)) ∈ lw_all := lw_g (lw_at lw_m2 89 rfl) rfl
theorem q376 : (Jvm.Cond.classLink "KnotLetters" (115 : Nat) "java/util/TreeSet") ∈ lw_all := lw_g (lw_at lw_m2 90 rfl) rfl
theorem q378 : (Jvm.Cond.methodLink "KnotLetters" (120 : Nat) ({ cls := "java/util/TreeSet", name := "<init>", desc := "()V" } : Jvm.MethodName)) ∈ lw_all := lw_g (lw_at lw_m2 92 rfl) rfl
theorem q426 : (Jvm.Cond.methodLink "KnotLetters" (121 : Nat) ({ cls := "KnotLetters$Knots", name := "toString", desc := "()Ljava/lang/String;" } : Jvm.MethodName)) ∈ lw_all := lw_g (lw_at lw_m2 140 rfl) rfl
theorem q677 : (Jvm.Cond.methodLink "KnotLetters" (114 : Nat) ({ cls := "java/util/TreeSet", name := "add", desc := "(Ljava/lang/Object;)Z" } : Jvm.MethodName)) ∈ lw_all := lw_g (lw_at lw_m3 151 rfl) rfl
theorem q956 : (Jvm.Cond.methodLink "KnotLetters" (125 : Nat) ({ cls := "java/util/ArrayList", name := "add", desc := "(Ljava/lang/Object;)Z" } : Jvm.MethodName)) ∈ lw_all := lw_g (lw_at lw_m4 190 rfl) rfl
theorem q979 : (Jvm.Cond.selects "KnotLetters" ({ cls := "java/lang/Object", name := "getClass", desc := "()Ljava/lang/Class;" } : Jvm.MethodName) ({ cls := "java/lang/Object", name := "getClass", desc := "()Ljava/lang/Class;" } : Jvm.MethodName)) ∈ lw_all := lw_g (lw_at lw_m4 213 rfl) rfl
theorem q1013 : (Jvm.Cond.methodLink "KnotLetters" (126 : Nat) ({ cls := "java/util/ArrayList", name := "iterator", desc := "()Ljava/util/Iterator;" } : Jvm.MethodName)) ∈ lw_all := lw_g (lw_at lw_m5 7 rfl) rfl
theorem q1036 : (Jvm.Cond.interfaceEntry "KnotLetters" (92 : Nat)) ∈ lw_tbl := lw_at lw_m5 30 rfl
theorem q1037 : (Jvm.Cond.methodLink "KnotLetters" (92 : Nat) ({ cls := "java/util/Iterator", name := "hasNext", desc := "()Z" } : Jvm.MethodName)) ∈ lw_all := lw_g (lw_at lw_m5 31 rfl) rfl
theorem q1052 : (Jvm.Cond.interfaceEntry "KnotLetters" (97 : Nat)) ∈ lw_tbl := lw_at lw_m5 46 rfl
theorem q1053 : (Jvm.Cond.methodLink "KnotLetters" (97 : Nat) ({ cls := "java/util/Iterator", name := "next", desc := "()Ljava/lang/Object;" } : Jvm.MethodName)) ∈ lw_all := lw_g (lw_at lw_m5 47 rfl) rfl
theorem q1079 : (Jvm.Cond.classLink "KnotLetters" (101 : Nat) "java/lang/String") ∈ lw_all := lw_g (lw_at lw_m5 73 rfl) rfl
theorem q1080 : (Jvm.Cond.methodLink "KnotLetters" (127 : Nat) ({ cls := "java/lang/String", name := "equals", desc := "(Ljava/lang/Object;)Z" } : Jvm.MethodName)) ∈ lw_all := lw_g (lw_at lw_m5 74 rfl) rfl
theorem q1087 : (Jvm.Cond.methodLink "KnotLetters" (103 : Nat) ({ cls := "java/lang/String", name := "startsWith", desc := "(Ljava/lang/String;)Z" } : Jvm.MethodName)) ∈ lw_all := lw_g (lw_at lw_m5 81 rfl) rfl
theorem q1100 : (Jvm.Cond.methodLink "KnotLetters" (107 : Nat) ({ cls := "java/lang/String", name := "length", desc := "()I" } : Jvm.MethodName)) ∈ lw_all := lw_g (lw_at lw_m5 94 rfl) rfl
theorem q1101 : (Jvm.Cond.methodLink "KnotLetters" (110 : Nat) ({ cls := "java/lang/String", name := "substring", desc := "(I)Ljava/lang/String;" } : Jvm.MethodName)) ∈ lw_all := lw_g (lw_at lw_m5 95 rfl) rfl
theorem q1128 : (Jvm.Cond.methodLink "KnotLetters" (130 : Nat) ({ cls := "java/util/TreeSet", name := "size", desc := "()I" } : Jvm.MethodName)) ∈ lw_all := lw_g (lw_at lw_m5 122 rfl) rfl
theorem q1140 : (Jvm.Cond.stringRef "KnotLetters" (133 : Nat) "") ∈ lw_tbl := lw_at lw_m5 134 rfl
theorem q1141 : (Jvm.Cond.methodLink "KnotLetters" (135 : Nat) ({ cls := "java/util/TreeSet", name := "contains", desc := "(Ljava/lang/Object;)Z" } : Jvm.MethodName)) ∈ lw_all := lw_g (lw_at lw_m5 135 rfl) rfl
theorem q1161 : (Jvm.Cond.methodLink "KnotLetters" (138 : Nat) ({ cls := "KnotLetters", name := "leave", desc := "(Ljava/lang/Iterable;Ljava/lang/Iterable;Ljava/util/TreeSet;)V" } : Jvm.MethodName)) ∈ lw_all := lw_g (lw_at lw_m5 155 rfl) rfl
theorem q1162 : (Jvm.Cond.static ({ cls := "KnotLetters", name := "leave", desc := "(Ljava/lang/Iterable;Ljava/lang/Iterable;Ljava/util/TreeSet;)V" } : Jvm.MethodName)) ∈ lw_all := lw_g (lw_at lw_m5 156 rfl) rfl
theorem q1163 : (Jvm.Cond.code ({ cls := "KnotLetters", name := "leave", desc := "(Ljava/lang/Iterable;Ljava/lang/Iterable;Ljava/util/TreeSet;)V" } : Jvm.MethodName) prog_1_method_9_code (7 : Nat) (Option.none : Option Jvm.ClassFile.FieldType)) ∈ lw_all := lw_g (lw_at lw_m5 157 rfl) rfl
theorem q1164 : (Jvm.Cond.interfaceEntry "KnotLetters" (86 : Nat)) ∈ lw_tbl := lw_at lw_m5 158 rfl
theorem q1165 : (Jvm.Cond.methodLink "KnotLetters" (86 : Nat) ({ cls := "java/lang/Iterable", name := "iterator", desc := "()Ljava/util/Iterator;" } : Jvm.MethodName)) ∈ lw_all := lw_g (lw_at lw_m5 159 rfl) rfl
theorem q1246 : (Jvm.Cond.methodLink "KnotLetters" (142 : Nat) ({ cls := "java/util/TreeSet", name := "addAll", desc := "(Ljava/util/Collection;)Z" } : Jvm.MethodName)) ∈ lw_all := lw_g (lw_at lw_m6 0 rfl) rfl
theorem q1305 : (Jvm.Cond.selects "KnotLetters" ({ cls := "java/lang/Object", name := "equals", desc := "(Ljava/lang/Object;)Z" } : Jvm.MethodName) ({ cls := "java/lang/Object", name := "equals", desc := "(Ljava/lang/Object;)Z" } : Jvm.MethodName)) ∈ lw_all := lw_g (lw_at lw_m6 59 rfl) rfl
theorem q1391 : (Jvm.Cond.instanceMethod ({ cls := "KnotLetters", name := "closest", desc := "()I" } : Jvm.MethodName)) ∈ lw_all := lw_g (lw_at lw_m6 145 rfl) rfl
theorem q1392 : (Jvm.Cond.selects "KnotLetters" ({ cls := "KnotLetters", name := "closest", desc := "()I" } : Jvm.MethodName) ({ cls := "KnotLetters", name := "closest", desc := "()I" } : Jvm.MethodName)) ∈ lw_all := lw_g (lw_at lw_m6 146 rfl) rfl
theorem q1393 : (Jvm.Cond.code ({ cls := "KnotLetters", name := "closest", desc := "()I" } : Jvm.MethodName) prog_1_method_13_code (6 : Nat) (Option.some Jvm.ClassFile.FieldType.int)) ∈ lw_all := lw_g (lw_at lw_m6 147 rfl) rfl
theorem q1394 : (Jvm.Cond.methodLink "KnotLetters" (150 : Nat) ({ cls := "KnotLetters", name := "between", desc := "(LKnotLetters$Letter;LKnotLetters$Letter;)I" } : Jvm.MethodName)) ∈ lw_all := lw_g (lw_at lw_m6 148 rfl) rfl
theorem q1395 : (Jvm.Cond.privateMethod ({ cls := "KnotLetters", name := "between", desc := "(LKnotLetters$Letter;LKnotLetters$Letter;)I" } : Jvm.MethodName)) ∈ lw_tbl := lw_at lw_m6 149 rfl
theorem q1396 : (Jvm.Cond.instanceMethod ({ cls := "KnotLetters", name := "between", desc := "(LKnotLetters$Letter;LKnotLetters$Letter;)I" } : Jvm.MethodName)) ∈ lw_all := lw_g (lw_at lw_m6 150 rfl) rfl
theorem q1397 : (Jvm.Cond.code ({ cls := "KnotLetters", name := "between", desc := "(LKnotLetters$Letter;LKnotLetters$Letter;)I" } : Jvm.MethodName) prog_1_method_11_code (3 : Nat) (Option.some Jvm.ClassFile.FieldType.int)) ∈ lw_all := lw_g (lw_at lw_m6 151 rfl) rfl
theorem q1398 : (Jvm.Cond.methodLink "KnotLetters" (146 : Nat) ({ cls := "KnotLetters$Feel", name := "distance", desc := "(Ljava/lang/CharSequence;LKnotLetters$Knots;)I" } : Jvm.MethodName)) ∈ lw_all := lw_g (lw_at lw_m6 152 rfl) rfl
theorem q1427 : (Jvm.Cond.instanceMethod ({ cls := "KnotLetters", name := "advise", desc := "()I" } : Jvm.MethodName)) ∈ lw_all := lw_g (lw_at lw_m6 181 rfl) rfl
theorem q1428 : (Jvm.Cond.selects "KnotLetters" ({ cls := "KnotLetters", name := "advise", desc := "()I" } : Jvm.MethodName) ({ cls := "KnotLetters", name := "advise", desc := "()I" } : Jvm.MethodName)) ∈ lw_all := lw_g (lw_at lw_m6 182 rfl) rfl
theorem q1429 : (Jvm.Cond.code ({ cls := "KnotLetters", name := "advise", desc := "()I" } : Jvm.MethodName) prog_1_method_15_code (5 : Nat) (Option.some Jvm.ClassFile.FieldType.int)) ∈ lw_all := lw_g (lw_at lw_m6 183 rfl) rfl
theorem q1430 : (Jvm.Cond.methodLink "KnotLetters" (60 : Nat) ({ cls := "KnotLetters$Knots", name := "of", desc := "(I)LKnotLetters$Knots;" } : Jvm.MethodName)) ∈ lw_all := lw_g (lw_at lw_m6 184 rfl) rfl
theorem q1454 : (Jvm.Cond.methodLink "KnotLetters" (154 : Nat) ({ cls := "KnotLetters", name := "isOpen", desc := "(LKnotLetters$Knots;)Z" } : Jvm.MethodName)) ∈ lw_all := lw_g (lw_at lw_m6 208 rfl) rfl
theorem q1455 : (Jvm.Cond.privateMethod ({ cls := "KnotLetters", name := "isOpen", desc := "(LKnotLetters$Knots;)Z" } : Jvm.MethodName)) ∈ lw_tbl := lw_at lw_m6 209 rfl
theorem q1456 : (Jvm.Cond.instanceMethod ({ cls := "KnotLetters", name := "isOpen", desc := "(LKnotLetters$Knots;)Z" } : Jvm.MethodName)) ∈ lw_all := lw_g (lw_at lw_m6 210 rfl) rfl
theorem q1457 : (Jvm.Cond.code ({ cls := "KnotLetters", name := "isOpen", desc := "(LKnotLetters$Knots;)Z" } : Jvm.MethodName) prog_1_method_14_code (6 : Nat) (Option.some Jvm.ClassFile.FieldType.boolean)) ∈ lw_all := lw_g (lw_at lw_m6 211 rfl) rfl
theorem q1459 : (Jvm.Cond.instanceMethod ({ cls := "KnotLetters", name := "mean", desc := "()D" } : Jvm.MethodName)) ∈ lw_all := lw_g (lw_at lw_m6 213 rfl) rfl
theorem q1460 : (Jvm.Cond.selects "KnotLetters" ({ cls := "KnotLetters", name := "mean", desc := "()D" } : Jvm.MethodName) ({ cls := "KnotLetters", name := "mean", desc := "()D" } : Jvm.MethodName)) ∈ lw_all := lw_g (lw_at lw_m6 214 rfl) rfl
theorem q1461 : (Jvm.Cond.code ({ cls := "KnotLetters", name := "mean", desc := "()D" } : Jvm.MethodName) prog_1_method_40_code (6 : Nat) (Option.some Jvm.ClassFile.FieldType.double)) ∈ lw_all := lw_g (lw_at lw_m6 215 rfl) rfl
theorem q1462 : (Jvm.Cond.methodLink "KnotLetters" (198 : Nat) ({ cls := "KnotLetters$Knots", name := "length", desc := "()I" } : Jvm.MethodName)) ∈ lw_all := lw_g (lw_at lw_m6 216 rfl) rfl
theorem q1463 : (Jvm.Cond.methodLink "KnotLetters" (326 : Nat) ({ cls := "KnotLetters", name := "withKnots", desc := "()I" } : Jvm.MethodName)) ∈ lw_all := lw_g (lw_at lw_m6 217 rfl) rfl
theorem q1464 : (Jvm.Cond.privateMethod ({ cls := "KnotLetters", name := "withKnots", desc := "()I" } : Jvm.MethodName)) ∈ lw_tbl := lw_at lw_m6 218 rfl
theorem q1465 : (Jvm.Cond.instanceMethod ({ cls := "KnotLetters", name := "withKnots", desc := "()I" } : Jvm.MethodName)) ∈ lw_all := lw_g (lw_at lw_m6 219 rfl) rfl
theorem q1466 : (Jvm.Cond.code ({ cls := "KnotLetters", name := "withKnots", desc := "()I" } : Jvm.MethodName) prog_1_method_38_code (6 : Nat) (Option.some Jvm.ClassFile.FieldType.int)) ∈ lw_all := lw_g (lw_at lw_m6 220 rfl) rfl
theorem q1468 : (Jvm.Cond.instanceMethod ({ cls := "KnotLetters", name := "digest", desc := "()J" } : Jvm.MethodName)) ∈ lw_all := lw_g (lw_at lw_m6 222 rfl) rfl
theorem q1469 : (Jvm.Cond.selects "KnotLetters" ({ cls := "KnotLetters", name := "digest", desc := "()J" } : Jvm.MethodName) ({ cls := "KnotLetters", name := "digest", desc := "()J" } : Jvm.MethodName)) ∈ lw_all := lw_g (lw_at lw_m6 223 rfl) rfl
theorem q1470 : (Jvm.Cond.code ({ cls := "KnotLetters", name := "digest", desc := "()J" } : Jvm.MethodName) prog_1_method_41_code (8 : Nat) (Option.some Jvm.ClassFile.FieldType.long)) ∈ lw_all := lw_g (lw_at lw_m6 224 rfl) rfl
theorem q1471 : (Jvm.Cond.constantLong "KnotLetters" (329 : Nat) (571 : Int64)) ∈ lw_all := lw_g (lw_at lw_m6 225 rfl) rfl
theorem q1472 : (Jvm.Cond.constantLong "KnotLetters" (331 : Nat) (31 : Int64)) ∈ lw_all := lw_g (lw_at lw_m6 226 rfl) rfl
theorem q1473 : (Jvm.Cond.methodLink "KnotLetters" (333 : Nat) ({ cls := "KnotLetters", name := "count", desc := "(I)I" } : Jvm.MethodName)) ∈ lw_all := lw_g (lw_at lw_m6 227 rfl) rfl
theorem q1474 : (Jvm.Cond.instanceMethod ({ cls := "KnotLetters", name := "count", desc := "(I)I" } : Jvm.MethodName)) ∈ lw_all := lw_g (lw_at lw_m6 228 rfl) rfl
theorem q1475 : (Jvm.Cond.selects "KnotLetters" ({ cls := "KnotLetters", name := "count", desc := "(I)I" } : Jvm.MethodName) ({ cls := "KnotLetters", name := "count", desc := "(I)I" } : Jvm.MethodName)) ∈ lw_all := lw_g (lw_at lw_m6 229 rfl) rfl
theorem q1476 : (Jvm.Cond.code ({ cls := "KnotLetters", name := "count", desc := "(I)I" } : Jvm.MethodName) prog_1_method_39_code (2 : Nat) (Option.some Jvm.ClassFile.FieldType.int)) ∈ lw_all := lw_g (lw_at lw_m6 230 rfl) rfl
theorem q1477 : (Jvm.Cond.methodLink "KnotLetters" (56 : Nat) ({ cls := "KnotLetters", name := "requireIndex", desc := "(II)V" } : Jvm.MethodName)) ∈ lw_all := lw_g (lw_at lw_m6 231 rfl) rfl
theorem q1478 : (Jvm.Cond.static ({ cls := "KnotLetters", name := "requireIndex", desc := "(II)V" } : Jvm.MethodName)) ∈ lw_all := lw_g (lw_at lw_m6 232 rfl) rfl
theorem q1479 : (Jvm.Cond.code ({ cls := "KnotLetters", name := "requireIndex", desc := "(II)V" } : Jvm.MethodName) prog_1_method_3_code (2 : Nat) (Option.none : Option Jvm.ClassFile.FieldType)) ∈ lw_all := lw_g (lw_at lw_m6 233 rfl) rfl
theorem q1480 : (Jvm.Cond.classLink "KnotLetters" (10 : Nat) "java/lang/IndexOutOfBoundsException") ∈ lw_all := lw_g (lw_at lw_m6 234 rfl) rfl
theorem q1489 : (Jvm.Cond.methodLink "KnotLetters" (12 : Nat) ({ cls := "java/lang/IndexOutOfBoundsException", name := "<init>", desc := "()V" } : Jvm.MethodName)) ∈ lw_all := lw_g (lw_at lw_m7 3 rfl) rfl
theorem q1501 : (Jvm.Cond.methodLink "KnotLetters" (179 : Nat) ({ cls := "java/util/ArrayList", name := "size", desc := "()I" } : Jvm.MethodName)) ∈ lw_all := lw_g (lw_at lw_m7 15 rfl) rfl
theorem q1502 : (Jvm.Cond.methodLink "KnotLetters" (300 : Nat) ({ cls := "java/lang/StringBuilder", name := "length", desc := "()I" } : Jvm.MethodName)) ∈ lw_all := lw_g (lw_at lw_m7 16 rfl) rfl
theorem q1503 : (Jvm.Cond.methodLink "KnotLetters" (74 : Nat) ({ cls := "KnotLetters$Letter", name := "get", desc := "(I)I" } : Jvm.MethodName)) ∈ lw_all := lw_g (lw_at lw_m7 17 rfl) rfl
theorem q1580 : (Jvm.Cond.classLink "KnotLetters" (183 : Nat) "KnotLetters$Cord") ∈ lw_all := lw_g (lw_at lw_m7 94 rfl) rfl
theorem q1581 : (Jvm.Cond.methodLink "KnotLetters" (314 : Nat) ({ cls := "KnotLetters", name := "cordGet", desc := "(LKnotLetters$Cord;I)I" } : Jvm.MethodName)) ∈ lw_all := lw_g (lw_at lw_m7 95 rfl) rfl
theorem q1582 : (Jvm.Cond.privateMethod ({ cls := "KnotLetters", name := "cordGet", desc := "(LKnotLetters$Cord;I)I" } : Jvm.MethodName)) ∈ lw_tbl := lw_at lw_m7 96 rfl
theorem q1583 : (Jvm.Cond.instanceMethod ({ cls := "KnotLetters", name := "cordGet", desc := "(LKnotLetters$Cord;I)I" } : Jvm.MethodName)) ∈ lw_all := lw_g (lw_at lw_m7 97 rfl) rfl
theorem q1584 : (Jvm.Cond.code ({ cls := "KnotLetters", name := "cordGet", desc := "(LKnotLetters$Cord;I)I" } : Jvm.MethodName) prog_1_method_30_code (8 : Nat) (Option.some Jvm.ClassFile.FieldType.int)) ∈ lw_all := lw_g (lw_at lw_m7 98 rfl) rfl
theorem q1585 : (Jvm.Cond.methodLink "KnotLetters" (293 : Nat) ({ cls := "KnotLetters$Knots", name := "gaps", desc := "()I" } : Jvm.MethodName)) ∈ lw_all := lw_g (lw_at lw_m7 99 rfl) rfl
theorem q1589 : (Jvm.Cond.methodLink "KnotLetters" (296 : Nat) ({ cls := "KnotLetters", name := "readCord", desc := "(LKnotLetters$Cord;Ljava/lang/StringBuilder;)I" } : Jvm.MethodName)) ∈ lw_all := lw_g (lw_at lw_m7 103 rfl) rfl
theorem q1590 : (Jvm.Cond.privateMethod ({ cls := "KnotLetters", name := "readCord", desc := "(LKnotLetters$Cord;Ljava/lang/StringBuilder;)I" } : Jvm.MethodName)) ∈ lw_tbl := lw_at lw_m7 104 rfl
theorem q1591 : (Jvm.Cond.instanceMethod ({ cls := "KnotLetters", name := "readCord", desc := "(LKnotLetters$Cord;Ljava/lang/StringBuilder;)I" } : Jvm.MethodName)) ∈ lw_all := lw_g (lw_at lw_m7 105 rfl) rfl
theorem q1592 : (Jvm.Cond.code ({ cls := "KnotLetters", name := "readCord", desc := "(LKnotLetters$Cord;Ljava/lang/StringBuilder;)I" } : Jvm.MethodName) prog_1_method_29_code (8 : Nat) (Option.some Jvm.ClassFile.FieldType.int)) ∈ lw_all := lw_g (lw_at lw_m7 106 rfl) rfl
theorem q1593 : (Jvm.Cond.methodLink "KnotLetters" (277 : Nat) ({ cls := "KnotLetters", name := "wordsOf", desc := "(LKnotLetters$Cord;)Ljava/util/ArrayList;" } : Jvm.MethodName)) ∈ lw_all := lw_g (lw_at lw_m7 107 rfl) rfl
theorem q1594 : (Jvm.Cond.privateMethod ({ cls := "KnotLetters", name := "wordsOf", desc := "(LKnotLetters$Cord;)Ljava/util/ArrayList;" } : Jvm.MethodName)) ∈ lw_tbl := lw_at lw_m7 108 rfl
theorem q1595 : (Jvm.Cond.instanceMethod ({ cls := "KnotLetters", name := "wordsOf", desc := "(LKnotLetters$Cord;)Ljava/util/ArrayList;" } : Jvm.MethodName)) ∈ lw_all := lw_g (lw_at lw_m7 109 rfl) rfl
theorem q1596 : (Jvm.Cond.code ({ cls := "KnotLetters", name := "wordsOf", desc := "(LKnotLetters$Cord;)Ljava/util/ArrayList;" } : Jvm.MethodName) prog_1_method_28_code (5 : Nat) (Option.some (Jvm.ClassFile.FieldType.object "java/util/ArrayList"))) ∈ lw_all := lw_g (lw_at lw_m7 110 rfl) rfl
theorem q1597 : (Jvm.Cond.methodLink "KnotLetters" (213 : Nat) ({ cls := "KnotLetters$Knots", name := "charAt", desc := "(I)C" } : Jvm.MethodName)) ∈ lw_all := lw_g (lw_at lw_m7 111 rfl) rfl
theorem q1598 : (Jvm.Cond.methodLink "KnotLetters" (273 : Nat) ({ cls := "KnotLetters$Knots", name := "subSequence", desc := "(II)LKnotLetters$Knots;" } : Jvm.MethodName)) ∈ lw_all := lw_g (lw_at lw_m7 112 rfl) rfl
theorem q1687 : (Jvm.Cond.classLink "KnotLetters" (61 : Nat) "KnotLetters$Knots") ∈ lw_all := lw_g (lw_at lw_m7 201 rfl) rfl
theorem q1688 : (Jvm.Cond.methodLink "KnotLetters" (281 : Nat) ({ cls := "java/lang/StringBuilder", name := "append", desc := "(C)Ljava/lang/StringBuilder;" } : Jvm.MethodName)) ∈ lw_all := lw_g (lw_at lw_m7 202 rfl) rfl
theorem q1695 : (Jvm.Cond.methodLink "KnotLetters" (285 : Nat) ({ cls := "KnotLetters", name := "readWord", desc := "(LKnotLetters$Knots;)LKnotLetters$Reading;" } : Jvm.MethodName)) ∈ lw_all := lw_g (lw_at lw_m7 209 rfl) rfl
theorem q1696 : (Jvm.Cond.privateMethod ({ cls := "KnotLetters", name := "readWord", desc := "(LKnotLetters$Knots;)LKnotLetters$Reading;" } : Jvm.MethodName)) ∈ lw_tbl := lw_at lw_m7 210 rfl
theorem q1697 : (Jvm.Cond.instanceMethod ({ cls := "KnotLetters", name := "readWord", desc := "(LKnotLetters$Knots;)LKnotLetters$Reading;" } : Jvm.MethodName)) ∈ lw_all := lw_g (lw_at lw_m7 211 rfl) rfl
theorem q1698 : (Jvm.Cond.code ({ cls := "KnotLetters", name := "readWord", desc := "(LKnotLetters$Knots;)LKnotLetters$Reading;" } : Jvm.MethodName) prog_1_method_26_code (11 : Nat) (Option.some (Jvm.ClassFile.FieldType.object "KnotLetters$Reading"))) ∈ lw_all := lw_g (lw_at lw_m7 212 rfl) rfl
theorem q1699 : (Jvm.Cond.classLink "KnotLetters" (226 : Nat) "KnotLetters$Reading") ∈ lw_all := lw_g (lw_at lw_m7 213 rfl) rfl
theorem q1702 : (Jvm.Cond.methodLink "KnotLetters" (228 : Nat) ({ cls := "KnotLetters$Reading", name := "<init>", desc := "(ICLKnotLetters$Reading;)V" } : Jvm.MethodName)) ∈ lw_all := lw_g (lw_at lw_m7 216 rfl) rfl
theorem q1708 : (Jvm.Cond.fieldLink "KnotLetters" (233 : Nat) "KnotLetters$Reading" "cost" "I") ∈ lw_all := lw_g (lw_at lw_m7 222 rfl) rfl
theorem q1724 : (Jvm.Cond.classLink "KnotLetters" (231 : Nat) "KnotLetters$Choice") ∈ lw_all := lw_g (lw_at lw_m7 238 rfl) rfl
theorem q1726 : (Jvm.Cond.methodLink "KnotLetters" (236 : Nat) ({ cls := "KnotLetters$Reading", name := "at", desc := "(I)LKnotLetters$Reading;" } : Jvm.MethodName)) ∈ lw_all := lw_g (lw_at lw_m8 0 rfl) rfl
theorem q1732 : (Jvm.Cond.methodLink "KnotLetters" (240 : Nat) ({ cls := "KnotLetters$Choice", name := "<init>", desc := "(LKnotLetters$Reading;)V" } : Jvm.MethodName)) ∈ lw_all := lw_g (lw_at lw_m8 6 rfl) rfl
theorem q1746 : (Jvm.Cond.methodLink "KnotLetters" (243 : Nat) ({ cls := "KnotLetters$Feel", name := "measure", desc := "(Ljava/lang/CharSequence;LKnotLetters$Knots;II)V" } : Jvm.MethodName)) ∈ lw_all := lw_g (lw_at lw_m8 20 rfl) rfl
theorem q1747 : (Jvm.Cond.methodLink "KnotLetters" (255 : Nat) ({ cls := "KnotLetters$Choice", name := "offer", desc := "(ICLKnotLetters$Reading;)V" } : Jvm.MethodName)) ∈ lw_all := lw_g (lw_at lw_m8 21 rfl) rfl
theorem q1759 : (Jvm.Cond.methodLink "KnotLetters" (258 : Nat) ({ cls := "KnotLetters$Choice", name := "made", desc := "()LKnotLetters$Reading;" } : Jvm.MethodName)) ∈ lw_all := lw_g (lw_at lw_m8 33 rfl) rfl
theorem q1765 : (Jvm.Cond.methodLink "KnotLetters" (289 : Nat) ({ cls := "KnotLetters$Reading", name := "putInto", desc := "(Ljava/lang/StringBuilder;)V" } : Jvm.MethodName)) ∈ lw_all := lw_g (lw_at lw_m8 39 rfl) rfl
theorem q1770 : (Jvm.Cond.constantLong "KnotLetters" (301 : Nat) (1000000 : Int64)) ∈ lw_all := lw_g (lw_at lw_m8 44 rfl) rfl
theorem q1771 : (Jvm.Cond.methodLink "KnotLetters" (303 : Nat) ({ cls := "KnotLetters", name := "waysOf", desc := "(LKnotLetters$Knots;)I" } : Jvm.MethodName)) ∈ lw_all := lw_g (lw_at lw_m8 45 rfl) rfl
theorem q1772 : (Jvm.Cond.privateMethod ({ cls := "KnotLetters", name := "waysOf", desc := "(LKnotLetters$Knots;)I" } : Jvm.MethodName)) ∈ lw_tbl := lw_at lw_m8 46 rfl
theorem q1773 : (Jvm.Cond.instanceMethod ({ cls := "KnotLetters", name := "waysOf", desc := "(LKnotLetters$Knots;)I" } : Jvm.MethodName)) ∈ lw_all := lw_g (lw_at lw_m8 47 rfl) rfl
theorem q1774 : (Jvm.Cond.code ({ cls := "KnotLetters", name := "waysOf", desc := "(LKnotLetters$Knots;)I" } : Jvm.MethodName) prog_1_method_27_code (9 : Nat) (Option.some Jvm.ClassFile.FieldType.int)) ∈ lw_all := lw_g (lw_at lw_m8 48 rfl) rfl
theorem q1775 : (Jvm.Cond.methodLink "KnotLetters" (262 : Nat) ({ cls := "KnotLetters$Knots", name := "hasAt", desc := "(ILjava/lang/CharSequence;)Z" } : Jvm.MethodName)) ∈ lw_all := lw_g (lw_at lw_m8 49 rfl) rfl
theorem q1779 : (Jvm.Cond.constant "KnotLetters" (266 : Nat) (1000000 : Int32)) ∈ lw_all := lw_g (lw_at lw_m8 53 rfl) rfl
theorem q1780 : (Jvm.Cond.methodLink "KnotLetters" (267 : Nat) ({ cls := "java/lang/Math", name := "min", desc := "(II)I" } : Jvm.MethodName)) ∈ lw_all := lw_g (lw_at lw_m8 54 rfl) rfl
theorem q1781 : (Jvm.Cond.methodLink "KnotLetters" (307 : Nat) ({ cls := "java/lang/Math", name := "min", desc := "(JJ)J" } : Jvm.MethodName)) ∈ lw_all := lw_g (lw_at lw_m8 55 rfl) rfl
theorem q1784 : (Jvm.Cond.methodLink "KnotLetters" (325 : Nat) ({ cls := "java/lang/StringBuilder", name := "charAt", desc := "(I)C" } : Jvm.MethodName)) ∈ lw_all := lw_g (lw_at lw_m8 58 rfl) rfl
theorem q1809 : (Jvm.Cond.instanceMethod ({ cls := "KnotLetters", name := "setLetter", desc := "(II)I" } : Jvm.MethodName)) ∈ lw_all := lw_g (lw_at lw_m8 83 rfl) rfl
theorem q1810 : (Jvm.Cond.selects "KnotLetters" ({ cls := "KnotLetters", name := "setLetter", desc := "(II)I" } : Jvm.MethodName) ({ cls := "KnotLetters", name := "setLetter", desc := "(II)I" } : Jvm.MethodName)) ∈ lw_all := lw_g (lw_at lw_m8 84 rfl) rfl
theorem q1811 : (Jvm.Cond.code ({ cls := "KnotLetters", name := "setLetter", desc := "(II)I" } : Jvm.MethodName) prog_1_method_6_code (5 : Nat) (Option.some Jvm.ClassFile.FieldType.int)) ∈ lw_all := lw_g (lw_at lw_m8 85 rfl) rfl
theorem q1812 : (Jvm.Cond.methodLink "KnotLetters" (13 : Nat) ({ cls := "KnotLetters", name := "require", desc := "(Z)V" } : Jvm.MethodName)) ∈ lw_all := lw_g (lw_at lw_m8 86 rfl) rfl
theorem q1813 : (Jvm.Cond.static ({ cls := "KnotLetters", name := "require", desc := "(Z)V" } : Jvm.MethodName)) ∈ lw_all := lw_g (lw_at lw_m8 87 rfl) rfl
theorem q1814 : (Jvm.Cond.code ({ cls := "KnotLetters", name := "require", desc := "(Z)V" } : Jvm.MethodName) prog_1_method_1_code (1 : Nat) (Option.none : Option Jvm.ClassFile.FieldType)) ∈ lw_all := lw_g (lw_at lw_m8 88 rfl) rfl
theorem q1815 : (Jvm.Cond.classLink "KnotLetters" (1 : Nat) "java/lang/IllegalArgumentException") ∈ lw_all := lw_g (lw_at lw_m8 89 rfl) rfl
theorem q1816 : (Jvm.Cond.methodLink "KnotLetters" (3 : Nat) ({ cls := "java/lang/IllegalArgumentException", name := "<init>", desc := "()V" } : Jvm.MethodName)) ∈ lw_all := lw_g (lw_at lw_m8 90 rfl) rfl
theorem q1820 : (Jvm.Cond.methodLink "KnotLetters" (70 : Nat) ({ cls := "KnotLetters$Knots", name := "number", desc := "()I" } : Jvm.MethodName)) ∈ lw_all := lw_g (lw_at lw_m8 94 rfl) rfl
theorem q1825 : (Jvm.Cond.instanceMethod ({ cls := "KnotLetters", name := "letter", desc := "(II)I" } : Jvm.MethodName)) ∈ lw_all := lw_g (lw_at lw_m8 99 rfl) rfl
theorem q1826 : (Jvm.Cond.selects "KnotLetters" ({ cls := "KnotLetters", name := "letter", desc := "(II)I" } : Jvm.MethodName) ({ cls := "KnotLetters", name := "letter", desc := "(II)I" } : Jvm.MethodName)) ∈ lw_all := lw_g (lw_at lw_m8 100 rfl) rfl
theorem q1827 : (Jvm.Cond.code ({ cls := "KnotLetters", name := "letter", desc := "(II)I" } : Jvm.MethodName) prog_1_method_7_code (3 : Nat) (Option.some Jvm.ClassFile.FieldType.int)) ∈ lw_all := lw_g (lw_at lw_m8 101 rfl) rfl
theorem q1832 : (Jvm.Cond.instanceMethod ({ cls := "KnotLetters", name := "alike", desc := "(II)I" } : Jvm.MethodName)) ∈ lw_all := lw_g (lw_at lw_m8 106 rfl) rfl
theorem q1833 : (Jvm.Cond.selects "KnotLetters" ({ cls := "KnotLetters", name := "alike", desc := "(II)I" } : Jvm.MethodName) ({ cls := "KnotLetters", name := "alike", desc := "(II)I" } : Jvm.MethodName)) ∈ lw_all := lw_g (lw_at lw_m8 107 rfl) rfl
theorem q1834 : (Jvm.Cond.code ({ cls := "KnotLetters", name := "alike", desc := "(II)I" } : Jvm.MethodName) prog_1_method_12_code (3 : Nat) (Option.some Jvm.ClassFile.FieldType.int)) ∈ lw_all := lw_g (lw_at lw_m8 108 rfl) rfl
theorem q1839 : (Jvm.Cond.instanceMethod ({ cls := "KnotLetters", name := "setKnotter", desc := "(II)I" } : Jvm.MethodName)) ∈ lw_all := lw_g (lw_at lw_m8 113 rfl) rfl
theorem q1840 : (Jvm.Cond.selects "KnotLetters" ({ cls := "KnotLetters", name := "setKnotter", desc := "(II)I" } : Jvm.MethodName) ({ cls := "KnotLetters", name := "setKnotter", desc := "(II)I" } : Jvm.MethodName)) ∈ lw_all := lw_g (lw_at lw_m8 114 rfl) rfl
theorem q1841 : (Jvm.Cond.code ({ cls := "KnotLetters", name := "setKnotter", desc := "(II)I" } : Jvm.MethodName) prog_1_method_16_code (4 : Nat) (Option.some Jvm.ClassFile.FieldType.int)) ∈ lw_all := lw_g (lw_at lw_m8 115 rfl) rfl
theorem q1842 : (Jvm.Cond.methodLink "KnotLetters" (158 : Nat) ({ cls := "KnotLetters", name := "requireFrom", desc := "(III)V" } : Jvm.MethodName)) ∈ lw_all := lw_g (lw_at lw_m8 116 rfl) rfl
theorem q1843 : (Jvm.Cond.static ({ cls := "KnotLetters", name := "requireFrom", desc := "(III)V" } : Jvm.MethodName)) ∈ lw_all := lw_g (lw_at lw_m8 117 rfl) rfl
theorem q1844 : (Jvm.Cond.code ({ cls := "KnotLetters", name := "requireFrom", desc := "(III)V" } : Jvm.MethodName) prog_1_method_4_code (3 : Nat) (Option.none : Option Jvm.ClassFile.FieldType)) ∈ lw_all := lw_g (lw_at lw_m8 118 rfl) rfl
theorem q1849 : (Jvm.Cond.instanceMethod ({ cls := "KnotLetters", name := "setFeel", desc := "(III)I" } : Jvm.MethodName)) ∈ lw_all := lw_g (lw_at lw_m8 123 rfl) rfl
theorem q1850 : (Jvm.Cond.selects "KnotLetters" ({ cls := "KnotLetters", name := "setFeel", desc := "(III)I" } : Jvm.MethodName) ({ cls := "KnotLetters", name := "setFeel", desc := "(III)I" } : Jvm.MethodName)) ∈ lw_all := lw_g (lw_at lw_m8 124 rfl) rfl
theorem q1851 : (Jvm.Cond.code ({ cls := "KnotLetters", name := "setFeel", desc := "(III)I" } : Jvm.MethodName) prog_1_method_17_code (5 : Nat) (Option.some Jvm.ClassFile.FieldType.int)) ∈ lw_all := lw_g (lw_at lw_m8 125 rfl) rfl
theorem q1856 : (Jvm.Cond.instanceMethod ({ cls := "KnotLetters", name := "setCosts", desc := "(II)I" } : Jvm.MethodName)) ∈ lw_all := lw_g (lw_at lw_m8 130 rfl) rfl
theorem q1857 : (Jvm.Cond.selects "KnotLetters" ({ cls := "KnotLetters", name := "setCosts", desc := "(II)I" } : Jvm.MethodName) ({ cls := "KnotLetters", name := "setCosts", desc := "(II)I" } : Jvm.MethodName)) ∈ lw_all := lw_g (lw_at lw_m8 131 rfl) rfl
theorem q1858 : (Jvm.Cond.code ({ cls := "KnotLetters", name := "setCosts", desc := "(II)I" } : Jvm.MethodName) prog_1_method_18_code (4 : Nat) (Option.some Jvm.ClassFile.FieldType.int)) ∈ lw_all := lw_g (lw_at lw_m8 132 rfl) rfl
theorem q1864 : (Jvm.Cond.instanceMethod ({ cls := "KnotLetters", name := "feed", desc := "(IIIII)I" } : Jvm.MethodName)) ∈ lw_all := lw_g (lw_at lw_m8 138 rfl) rfl
theorem q1865 : (Jvm.Cond.selects "KnotLetters" ({ cls := "KnotLetters", name := "feed", desc := "(IIIII)I" } : Jvm.MethodName) ({ cls := "KnotLetters", name := "feed", desc := "(IIIII)I" } : Jvm.MethodName)) ∈ lw_all := lw_g (lw_at lw_m8 139 rfl) rfl
theorem q1866 : (Jvm.Cond.code ({ cls := "KnotLetters", name := "feed", desc := "(IIIII)I" } : Jvm.MethodName) prog_1_method_21_code (6 : Nat) (Option.some Jvm.ClassFile.FieldType.int)) ∈ lw_all := lw_g (lw_at lw_m8 140 rfl) rfl
theorem q1867 : (Jvm.Cond.methodLink "KnotLetters" (188 : Nat) ({ cls := "KnotLetters", name := "requireState", desc := "(Z)V" } : Jvm.MethodName)) ∈ lw_all := lw_g (lw_at lw_m8 141 rfl) rfl
theorem q1868 : (Jvm.Cond.static ({ cls := "KnotLetters", name := "requireState", desc := "(Z)V" } : Jvm.MethodName)) ∈ lw_all := lw_g (lw_at lw_m8 142 rfl) rfl
theorem q1869 : (Jvm.Cond.code ({ cls := "KnotLetters", name := "requireState", desc := "(Z)V" } : Jvm.MethodName) prog_1_method_2_code (1 : Nat) (Option.none : Option Jvm.ClassFile.FieldType)) ∈ lw_all := lw_g (lw_at lw_m8 143 rfl) rfl
theorem q1870 : (Jvm.Cond.classLink "KnotLetters" (7 : Nat) "java/lang/IllegalStateException") ∈ lw_all := lw_g (lw_at lw_m8 144 rfl) rfl
theorem q1879 : (Jvm.Cond.methodLink "KnotLetters" (9 : Nat) ({ cls := "java/lang/IllegalStateException", name := "<init>", desc := "()V" } : Jvm.MethodName)) ∈ lw_all := lw_g (lw_at lw_m8 153 rfl) rfl
theorem q1885 : (Jvm.Cond.methodLink "KnotLetters" (191 : Nat) ({ cls := "KnotLetters", name := "put", desc := "(I)V" } : Jvm.MethodName)) ∈ lw_all := lw_g (lw_at lw_m8 159 rfl) rfl
theorem q1886 : (Jvm.Cond.privateMethod ({ cls := "KnotLetters", name := "put", desc := "(I)V" } : Jvm.MethodName)) ∈ lw_tbl := lw_at lw_m8 160 rfl
theorem q1887 : (Jvm.Cond.instanceMethod ({ cls := "KnotLetters", name := "put", desc := "(I)V" } : Jvm.MethodName)) ∈ lw_all := lw_g (lw_at lw_m8 161 rfl) rfl
theorem q1888 : (Jvm.Cond.code ({ cls := "KnotLetters", name := "put", desc := "(I)V" } : Jvm.MethodName) prog_1_method_20_code (3 : Nat) (Option.none : Option Jvm.ClassFile.FieldType)) ∈ lw_all := lw_g (lw_at lw_m8 162 rfl) rfl
theorem q1893 : (Jvm.Cond.instanceMethod ({ cls := "KnotLetters", name := "trim", desc := "(I)I" } : Jvm.MethodName)) ∈ lw_all := lw_g (lw_at lw_m8 167 rfl) rfl
theorem q1894 : (Jvm.Cond.selects "KnotLetters" ({ cls := "KnotLetters", name := "trim", desc := "(I)I" } : Jvm.MethodName) ({ cls := "KnotLetters", name := "trim", desc := "(I)I" } : Jvm.MethodName)) ∈ lw_all := lw_g (lw_at lw_m8 168 rfl) rfl
theorem q1895 : (Jvm.Cond.code ({ cls := "KnotLetters", name := "trim", desc := "(I)I" } : Jvm.MethodName) prog_1_method_22_code (2 : Nat) (Option.some Jvm.ClassFile.FieldType.int)) ∈ lw_all := lw_g (lw_at lw_m8 169 rfl) rfl
theorem q1900 : (Jvm.Cond.instanceMethod ({ cls := "KnotLetters", name := "tie", desc := "()I" } : Jvm.MethodName)) ∈ lw_all := lw_g (lw_at lw_m8 174 rfl) rfl
theorem q1901 : (Jvm.Cond.selects "KnotLetters" ({ cls := "KnotLetters", name := "tie", desc := "()I" } : Jvm.MethodName) ({ cls := "KnotLetters", name := "tie", desc := "()I" } : Jvm.MethodName)) ∈ lw_all := lw_g (lw_at lw_m8 175 rfl) rfl
theorem q1902 : (Jvm.Cond.code ({ cls := "KnotLetters", name := "tie", desc := "()I" } : Jvm.MethodName) prog_1_method_24_code (5 : Nat) (Option.some Jvm.ClassFile.FieldType.int)) ∈ lw_all := lw_g (lw_at lw_m8 176 rfl) rfl
theorem q1903 : (Jvm.Cond.methodLink "KnotLetters" (194 : Nat) ({ cls := "KnotLetters", name := "letterOf", desc := "(B)LKnotLetters$Letter;" } : Jvm.MethodName)) ∈ lw_all := lw_g (lw_at lw_m8 177 rfl) rfl
theorem q1904 : (Jvm.Cond.privateMethod ({ cls := "KnotLetters", name := "letterOf", desc := "(B)LKnotLetters$Letter;" } : Jvm.MethodName)) ∈ lw_tbl := lw_at lw_m8 178 rfl
theorem q1905 : (Jvm.Cond.instanceMethod ({ cls := "KnotLetters", name := "letterOf", desc := "(B)LKnotLetters$Letter;" } : Jvm.MethodName)) ∈ lw_all := lw_g (lw_at lw_m8 179 rfl) rfl
theorem q1906 : (Jvm.Cond.code ({ cls := "KnotLetters", name := "letterOf", desc := "(B)LKnotLetters$Letter;" } : Jvm.MethodName) prog_1_method_23_code (3 : Nat) (Option.some (Jvm.ClassFile.FieldType.object "KnotLetters$Letter"))) ∈ lw_all := lw_g (lw_at lw_m8 180 rfl) rfl
theorem q1908 : (Jvm.Cond.methodLinkNest "KnotLetters" (199 : Nat) ({ cls := "KnotLetters$Cord", name := "<init>", desc := "()V" } : Jvm.MethodName) "KnotLetters") ∈ lw_tbl := lw_at lw_m8 182 rfl
theorem q1915 : (Jvm.Cond.fieldLinkNest "KnotLetters" (200 : Nat) "KnotLetters$Cord" "knots" "LKnotLetters$Knots;" "KnotLetters") ∈ lw_tbl := lw_at lw_m8 189 rfl
theorem q1916 : (Jvm.Cond.fieldLinkNest "KnotLetters" (222 : Nat) "KnotLetters$Cord" "slipped" "I" "KnotLetters") ∈ lw_tbl := lw_at lw_m8 190 rfl
theorem q1917 : (Jvm.Cond.fieldLinkNest "KnotLetters" (218 : Nat) "KnotLetters$Cord" "skipped" "I" "KnotLetters") ∈ lw_tbl := lw_at lw_m8 191 rfl
theorem q1925 : (Jvm.Cond.methodLink "KnotLetters" (203 : Nat) ({ cls := "KnotLetters$Knots", name := "add", desc := "(C)V" } : Jvm.MethodName)) ∈ lw_all := lw_g (lw_at lw_m8 199 rfl) rfl
theorem q1930 : (Jvm.Cond.methodLink "KnotLetters" (206 : Nat) ({ cls := "KnotLetters", name := "tie", desc := "(LKnotLetters$Cord;LKnotLetters$Letter;)V" } : Jvm.MethodName)) ∈ lw_all := lw_g (lw_at lw_m8 204 rfl) rfl
theorem q1931 : (Jvm.Cond.privateMethod ({ cls := "KnotLetters", name := "tie", desc := "(LKnotLetters$Cord;LKnotLetters$Letter;)V" } : Jvm.MethodName)) ∈ lw_tbl := lw_at lw_m8 205 rfl
theorem q1932 : (Jvm.Cond.instanceMethod ({ cls := "KnotLetters", name := "tie", desc := "(LKnotLetters$Cord;LKnotLetters$Letter;)V" } : Jvm.MethodName)) ∈ lw_all := lw_g (lw_at lw_m8 206 rfl) rfl
theorem q1933 : (Jvm.Cond.code ({ cls := "KnotLetters", name := "tie", desc := "(LKnotLetters$Cord;LKnotLetters$Letter;)V" } : Jvm.MethodName) prog_1_method_25_code (5 : Nat) (Option.none : Option Jvm.ClassFile.FieldType)) ∈ lw_all := lw_g (lw_at lw_m8 207 rfl) rfl
theorem q1938 : (Jvm.Cond.instanceMethod ({ cls := "KnotLetters", name := "cord", desc := "(II)I" } : Jvm.MethodName)) ∈ lw_all := lw_g (lw_at lw_m8 212 rfl) rfl
theorem q1939 : (Jvm.Cond.selects "KnotLetters" ({ cls := "KnotLetters", name := "cord", desc := "(II)I" } : Jvm.MethodName) ({ cls := "KnotLetters", name := "cord", desc := "(II)I" } : Jvm.MethodName)) ∈ lw_all := lw_g (lw_at lw_m8 213 rfl) rfl
theorem q1940 : (Jvm.Cond.code ({ cls := "KnotLetters", name := "cord", desc := "(II)I" } : Jvm.MethodName) prog_1_method_31_code (4 : Nat) (Option.some Jvm.ClassFile.FieldType.int)) ∈ lw_all := lw_g (lw_at lw_m8 214 rfl) rfl
theorem q1941 : (Jvm.Cond.methodLink "KnotLetters" (310 : Nat) ({ cls := "KnotLetters", name := "cordAt", desc := "(I)LKnotLetters$Cord;" } : Jvm.MethodName)) ∈ lw_all := lw_g (lw_at lw_m8 215 rfl) rfl
theorem q1942 : (Jvm.Cond.privateMethod ({ cls := "KnotLetters", name := "cordAt", desc := "(I)LKnotLetters$Cord;" } : Jvm.MethodName)) ∈ lw_tbl := lw_at lw_m8 216 rfl
theorem q1943 : (Jvm.Cond.instanceMethod ({ cls := "KnotLetters", name := "cordAt", desc := "(I)LKnotLetters$Cord;" } : Jvm.MethodName)) ∈ lw_all := lw_g (lw_at lw_m8 217 rfl) rfl
theorem q1944 : (Jvm.Cond.code ({ cls := "KnotLetters", name := "cordAt", desc := "(I)LKnotLetters$Cord;" } : Jvm.MethodName) prog_1_method_19_code (2 : Nat) (Option.some (Jvm.ClassFile.FieldType.object "KnotLetters$Cord"))) ∈ lw_all := lw_g (lw_at lw_m8 218 rfl) rfl
theorem q1945 : (Jvm.Cond.methodLink "KnotLetters" (180 : Nat) ({ cls := "java/util/ArrayList", name := "get", desc := "(I)Ljava/lang/Object;" } : Jvm.MethodName)) ∈ lw_all := lw_g (lw_at lw_m8 219 rfl) rfl
theorem q1961 : (Jvm.Cond.instanceMethod ({ cls := "KnotLetters", name := "knot", desc := "(II)I" } : Jvm.MethodName)) ∈ lw_all := lw_g (lw_at lw_m8 235 rfl) rfl
theorem q1962 : (Jvm.Cond.selects "KnotLetters" ({ cls := "KnotLetters", name := "knot", desc := "(II)I" } : Jvm.MethodName) ({ cls := "KnotLetters", name := "knot", desc := "(II)I" } : Jvm.MethodName)) ∈ lw_all := lw_g (lw_at lw_m8 236 rfl) rfl
theorem q1963 : (Jvm.Cond.code ({ cls := "KnotLetters", name := "knot", desc := "(II)I" } : Jvm.MethodName) prog_1_method_32_code (4 : Nat) (Option.some Jvm.ClassFile.FieldType.int)) ∈ lw_all := lw_g (lw_at lw_m8 237 rfl) rfl
theorem q1968 : (Jvm.Cond.instanceMethod ({ cls := "KnotLetters", name := "retie", desc := "(III)I" } : Jvm.MethodName)) ∈ lw_all := lw_g (lw_at lw_m9 2 rfl) rfl
theorem q1969 : (Jvm.Cond.selects "KnotLetters" ({ cls := "KnotLetters", name := "retie", desc := "(III)I" } : Jvm.MethodName) ({ cls := "KnotLetters", name := "retie", desc := "(III)I" } : Jvm.MethodName)) ∈ lw_all := lw_g (lw_at lw_m9 3 rfl) rfl
theorem q1970 : (Jvm.Cond.code ({ cls := "KnotLetters", name := "retie", desc := "(III)I" } : Jvm.MethodName) prog_1_method_33_code (6 : Nat) (Option.some Jvm.ClassFile.FieldType.int)) ∈ lw_all := lw_g (lw_at lw_m9 4 rfl) rfl
theorem q1971 : (Jvm.Cond.methodLink "KnotLetters" (318 : Nat) ({ cls := "KnotLetters$Knots", name := "set", desc := "(IC)V" } : Jvm.MethodName)) ∈ lw_all := lw_g (lw_at lw_m9 5 rfl) rfl
theorem q1986 : (Jvm.Cond.instanceMethod ({ cls := "KnotLetters", name := "distance", desc := "(II)I" } : Jvm.MethodName)) ∈ lw_all := lw_g (lw_at lw_m9 20 rfl) rfl
theorem q1987 : (Jvm.Cond.selects "KnotLetters" ({ cls := "KnotLetters", name := "distance", desc := "(II)I" } : Jvm.MethodName) ({ cls := "KnotLetters", name := "distance", desc := "(II)I" } : Jvm.MethodName)) ∈ lw_all := lw_g (lw_at lw_m9 21 rfl) rfl
theorem q1988 : (Jvm.Cond.code ({ cls := "KnotLetters", name := "distance", desc := "(II)I" } : Jvm.MethodName) prog_1_method_34_code (5 : Nat) (Option.some Jvm.ClassFile.FieldType.int)) ∈ lw_all := lw_g (lw_at lw_m9 22 rfl) rfl
theorem q1993 : (Jvm.Cond.instanceMethod ({ cls := "KnotLetters", name := "nearest", desc := "(I)I" } : Jvm.MethodName)) ∈ lw_all := lw_g (lw_at lw_m9 27 rfl) rfl
theorem q1994 : (Jvm.Cond.selects "KnotLetters" ({ cls := "KnotLetters", name := "nearest", desc := "(I)I" } : Jvm.MethodName) ({ cls := "KnotLetters", name := "nearest", desc := "(I)I" } : Jvm.MethodName)) ∈ lw_all := lw_g (lw_at lw_m9 28 rfl) rfl
theorem q1995 : (Jvm.Cond.code ({ cls := "KnotLetters", name := "nearest", desc := "(I)I" } : Jvm.MethodName) prog_1_method_35_code (7 : Nat) (Option.some Jvm.ClassFile.FieldType.int)) ∈ lw_all := lw_g (lw_at lw_m9 29 rfl) rfl
theorem q2000 : (Jvm.Cond.instanceMethod ({ cls := "KnotLetters", name := "read", desc := "(I)I" } : Jvm.MethodName)) ∈ lw_all := lw_g (lw_at lw_m9 34 rfl) rfl
theorem q2001 : (Jvm.Cond.selects "KnotLetters" ({ cls := "KnotLetters", name := "read", desc := "(I)I" } : Jvm.MethodName) ({ cls := "KnotLetters", name := "read", desc := "(I)I" } : Jvm.MethodName)) ∈ lw_all := lw_g (lw_at lw_m9 35 rfl) rfl
theorem q2002 : (Jvm.Cond.code ({ cls := "KnotLetters", name := "read", desc := "(I)I" } : Jvm.MethodName) prog_1_method_36_code (3 : Nat) (Option.some Jvm.ClassFile.FieldType.int)) ∈ lw_all := lw_g (lw_at lw_m9 36 rfl) rfl
theorem q2003 : (Jvm.Cond.methodLink "KnotLetters" (322 : Nat) ({ cls := "java/lang/StringBuilder", name := "setLength", desc := "(I)V" } : Jvm.MethodName)) ∈ lw_all := lw_g (lw_at lw_m9 37 rfl) rfl
theorem q2059 : (Jvm.Cond.instanceMethod ({ cls := "KnotLetters", name := "byteAt", desc := "(I)I" } : Jvm.MethodName)) ∈ lw_all := lw_g (lw_at lw_m9 93 rfl) rfl
theorem q2060 : (Jvm.Cond.selects "KnotLetters" ({ cls := "KnotLetters", name := "byteAt", desc := "(I)I" } : Jvm.MethodName) ({ cls := "KnotLetters", name := "byteAt", desc := "(I)I" } : Jvm.MethodName)) ∈ lw_all := lw_g (lw_at lw_m9 94 rfl) rfl
theorem q2061 : (Jvm.Cond.code ({ cls := "KnotLetters", name := "byteAt", desc := "(I)I" } : Jvm.MethodName) prog_1_method_37_code (2 : Nat) (Option.some Jvm.ClassFile.FieldType.int)) ∈ lw_all := lw_g (lw_at lw_m9 95 rfl) rfl
theorem q2370 : (Jvm.Cond.castable "KnotLetters" "java/lang/Object") ∈ lw_tbl := lw_at lw_m10 164 rfl
theorem in_X1 : ∀ w ∈ wsX10, w ∈ lw_all := lw_in wsX10 [237, 239, 241, 243, 245, 247, 249, 251, 253, 255, 257] (by decide +kernel) (by decide +kernel)

/-! KnotLetters$Feel -/
set_option maxRecDepth 100000
def RX2 : String := "KnotLetters$Feel"
def TX2 : u_T := fun k => match k with
  | 0 => ("KnotLetters$Feel", "costs", "[[I", true)
  | 1 => ("KnotLetters$Feel", "missed", "I", false)
  | 2 => ("KnotLetters$Feel", "ghost", "I", false)
  | 3 => ("KnotLetters$Feel", "last", "[I", true)
  | _ => ("KnotLetters$Feel", "next", "[I", true)
def tyX2 : Nat → FieldType := fun k => match k with
  | 0 => .array (.array .int)
  | 1 => .int
  | 2 => .int
  | 3 => .array .int
  | _ => .array .int
abbrev wsX20 : List Cond := u_ws RX2 TX2 5
theorem nmX2 : ∀ a, a < 5 → ∀ b, b < 5 → a ≠ b → (TX2 a).2.1 ≠ (TX2 b).2.1 := by decide +kernel
theorem tyX2_ok : ∀ k, k < 5 → parseFieldDescriptor (TX2 k).2.2.1 = some (tyX2 k) := by decide +kernel
abbrev cX2_init : ByteArray := prog_4_method_1_code
def yX2_init : MethodName := ⟨RX2, "<init>", "()V"⟩
def dkwX2_init_3 : List UInt8 := [79, 132, 2, 1, 167, 255, 230, 132, 1, 1, 167, 255, 217, 177]
abbrev dktX2_init_3 : List UInt8 := dkwX2_init_3 ++ []
def dkwX2_init_2 : List UInt8 := [4, 61, 28, 7, 163, 0, 27, 42, 180, 0, 11, 27, 50, 28, 27, 28, 160, 0, 7, 3, 167, 0, 4, 6]
abbrev dktX2_init_2 : List UInt8 := dkwX2_init_2 ++ dktX2_init_3
def dkwX2_init_1 : List UInt8 := [16, 41, 188, 10, 181, 0, 20, 42, 7, 181, 0, 23, 42, 7, 181, 0, 27, 4, 60, 27, 7, 163, 0, 40]
abbrev dktX2_init_1 : List UInt8 := dkwX2_init_1 ++ dktX2_init_2
def dkwX2_init_0 : List UInt8 := [42, 183, 0, 3, 42, 8, 8, 197, 0, 9, 2, 181, 0, 11, 42, 16, 41, 188, 10, 181, 0, 16, 42]
abbrev dktX2_init_0 : List UInt8 := dkwX2_init_0 ++ dktX2_init_1
theorem dksX2_init_0 : cX2_init.data.toList.drop 0 = dktX2_init_0 := by decide +kernel
theorem dksX2_init_1 : cX2_init.data.toList.drop 23 = dktX2_init_1 := dk_seg dksX2_init_0 23 rfl rfl
theorem dksX2_init_2 : cX2_init.data.toList.drop 47 = dktX2_init_2 := dk_seg dksX2_init_1 24 rfl rfl
theorem dksX2_init_3 : cX2_init.data.toList.drop 71 = dktX2_init_3 := dk_seg dksX2_init_2 24 rfl rfl
theorem dX2_init_0 : decode cX2_init 0 = .ok (.aload_n 0, 1) := dk_42 (dk_at dksX2_init_0 0 rfl rfl)
theorem dX2_init_1 : decode cX2_init 1 = .ok (.invokespecial 3, 3) := dk_183 0 3 (dk_at dksX2_init_0 1 rfl rfl)
theorem dX2_init_4 : decode cX2_init 4 = .ok (.aload_n 0, 1) := dk_42 (dk_at dksX2_init_0 4 rfl rfl)
theorem dX2_init_5 : decode cX2_init 5 = .ok (.iconst 5, 1) := dk_8 (dk_at dksX2_init_0 5 rfl rfl)
theorem dX2_init_6 : decode cX2_init 6 = .ok (.iconst 5, 1) := dk_8 (dk_at dksX2_init_0 6 rfl rfl)
theorem dX2_init_7 : decode cX2_init 7 = .ok (.multianewarray 9 2, 4) := by decide +kernel
theorem dX2_init_11 : decode cX2_init 11 = .ok (.putfield 11, 3) := dk_181 0 11 (dk_at dksX2_init_0 11 rfl rfl)
theorem dX2_init_14 : decode cX2_init 14 = .ok (.aload_n 0, 1) := dk_42 (dk_at dksX2_init_0 14 rfl rfl)
theorem dX2_init_15 : decode cX2_init 15 = .ok (.bipush 41, 2) := dk_16 41 (dk_at dksX2_init_0 15 rfl rfl)
theorem dX2_init_17 : decode cX2_init 17 = .ok (.newarray .int, 2) := dk_188_10 (dk_at dksX2_init_0 17 rfl rfl)
theorem dX2_init_19 : decode cX2_init 19 = .ok (.putfield 16, 3) := dk_181 0 16 (dk_at dksX2_init_0 19 rfl rfl)
theorem dX2_init_22 : decode cX2_init 22 = .ok (.aload_n 0, 1) := dk_42 (dk_at dksX2_init_0 22 rfl rfl)
theorem dX2_init_23 : decode cX2_init 23 = .ok (.bipush 41, 2) := dk_16 41 (dk_at dksX2_init_1 0 rfl rfl)
theorem dX2_init_25 : decode cX2_init 25 = .ok (.newarray .int, 2) := dk_188_10 (dk_at dksX2_init_1 2 rfl rfl)
theorem dX2_init_27 : decode cX2_init 27 = .ok (.putfield 20, 3) := dk_181 0 20 (dk_at dksX2_init_1 4 rfl rfl)
theorem dX2_init_30 : decode cX2_init 30 = .ok (.aload_n 0, 1) := dk_42 (dk_at dksX2_init_1 7 rfl rfl)
theorem dX2_init_31 : decode cX2_init 31 = .ok (.iconst 4, 1) := dk_7 (dk_at dksX2_init_1 8 rfl rfl)
theorem dX2_init_32 : decode cX2_init 32 = .ok (.putfield 23, 3) := dk_181 0 23 (dk_at dksX2_init_1 9 rfl rfl)
theorem dX2_init_35 : decode cX2_init 35 = .ok (.aload_n 0, 1) := dk_42 (dk_at dksX2_init_1 12 rfl rfl)
theorem dX2_init_36 : decode cX2_init 36 = .ok (.iconst 4, 1) := dk_7 (dk_at dksX2_init_1 13 rfl rfl)
theorem dX2_init_37 : decode cX2_init 37 = .ok (.putfield 27, 3) := dk_181 0 27 (dk_at dksX2_init_1 14 rfl rfl)
theorem dX2_init_40 : decode cX2_init 40 = .ok (.iconst 1, 1) := dk_4 (dk_at dksX2_init_1 17 rfl rfl)
theorem dX2_init_41 : decode cX2_init 41 = .ok (.istore_n 1, 1) := dk_60 (dk_at dksX2_init_1 18 rfl rfl)
theorem dX2_init_42 : decode cX2_init 42 = .ok (.iload_n 1, 1) := dk_27 (dk_at dksX2_init_1 19 rfl rfl)
theorem dX2_init_43 : decode cX2_init 43 = .ok (.iconst 4, 1) := dk_7 (dk_at dksX2_init_1 20 rfl rfl)
theorem dX2_init_44 : decode cX2_init 44 = .ok (.if_icmp .gt 40, 3) := dk_163 0 40 (dk_at dksX2_init_1 21 rfl rfl)
theorem dX2_init_47 : decode cX2_init 47 = .ok (.iconst 1, 1) := dk_4 (dk_at dksX2_init_2 0 rfl rfl)
theorem dX2_init_48 : decode cX2_init 48 = .ok (.istore_n 2, 1) := dk_61 (dk_at dksX2_init_2 1 rfl rfl)
theorem dX2_init_49 : decode cX2_init 49 = .ok (.iload_n 2, 1) := dk_28 (dk_at dksX2_init_2 2 rfl rfl)
theorem dX2_init_50 : decode cX2_init 50 = .ok (.iconst 4, 1) := dk_7 (dk_at dksX2_init_2 3 rfl rfl)
theorem dX2_init_51 : decode cX2_init 51 = .ok (.if_icmp .gt 27, 3) := dk_163 0 27 (dk_at dksX2_init_2 4 rfl rfl)
theorem dX2_init_54 : decode cX2_init 54 = .ok (.aload_n 0, 1) := dk_42 (dk_at dksX2_init_2 7 rfl rfl)
theorem dX2_init_55 : decode cX2_init 55 = .ok (.getfield 11, 3) := dk_180 0 11 (dk_at dksX2_init_2 8 rfl rfl)
theorem dX2_init_58 : decode cX2_init 58 = .ok (.iload_n 1, 1) := dk_27 (dk_at dksX2_init_2 11 rfl rfl)
theorem dX2_init_59 : decode cX2_init 59 = .ok (.aaload, 1) := dk_50 (dk_at dksX2_init_2 12 rfl rfl)
theorem dX2_init_60 : decode cX2_init 60 = .ok (.iload_n 2, 1) := dk_28 (dk_at dksX2_init_2 13 rfl rfl)
theorem dX2_init_61 : decode cX2_init 61 = .ok (.iload_n 1, 1) := dk_27 (dk_at dksX2_init_2 14 rfl rfl)
theorem dX2_init_62 : decode cX2_init 62 = .ok (.iload_n 2, 1) := dk_28 (dk_at dksX2_init_2 15 rfl rfl)
theorem dX2_init_63 : decode cX2_init 63 = .ok (.if_icmp .ne 7, 3) := dk_160 0 7 (dk_at dksX2_init_2 16 rfl rfl)
theorem dX2_init_66 : decode cX2_init 66 = .ok (.iconst 0, 1) := dk_3 (dk_at dksX2_init_2 19 rfl rfl)
theorem dX2_init_67 : decode cX2_init 67 = .ok (.goto 4, 3) := dk_167 0 4 (dk_at dksX2_init_2 20 rfl rfl)
theorem dX2_init_70 : decode cX2_init 70 = .ok (.iconst 3, 1) := dk_6 (dk_at dksX2_init_2 23 rfl rfl)
theorem dX2_init_71 : decode cX2_init 71 = .ok (.iastore, 1) := dk_79 (dk_at dksX2_init_3 0 rfl rfl)
theorem dX2_init_72 : decode cX2_init 72 = .ok (.iinc 2 1, 3) := dk_132 2 1 (dk_at dksX2_init_3 1 rfl rfl)
theorem dX2_init_75 : decode cX2_init 75 = .ok (.goto (-26), 3) := dk_167 255 230 (dk_at dksX2_init_3 4 rfl rfl)
theorem dX2_init_78 : decode cX2_init 78 = .ok (.iinc 1 1, 3) := dk_132 1 1 (dk_at dksX2_init_3 7 rfl rfl)
theorem dX2_init_81 : decode cX2_init 81 = .ok (.goto (-39), 3) := dk_167 255 217 (dk_at dksX2_init_3 10 rfl rfl)
theorem dX2_init_84 : decode cX2_init 84 = .ok (.return_, 1) := dk_177 (dk_at dksX2_init_3 13 rfl rfl)
abbrev cX2_distance : ByteArray := prog_4_method_6_code
def yX2_distance : MethodName := ⟨RX2, "distance", "(Ljava/lang/CharSequence;LKnotLetters$Knots;)I"⟩
def dkwX2_distance_0 : List UInt8 := [42, 43, 44, 3, 44, 182, 0, 66, 182, 0, 67, 42, 180, 0, 16, 44, 182, 0, 66, 46, 172]
abbrev dktX2_distance_0 : List UInt8 := dkwX2_distance_0 ++ []
theorem dksX2_distance_0 : cX2_distance.data.toList.drop 0 = dktX2_distance_0 := by decide +kernel
theorem dX2_distance_0 : decode cX2_distance 0 = .ok (.aload_n 0, 1) := dk_42 (dk_at dksX2_distance_0 0 rfl rfl)
theorem dX2_distance_1 : decode cX2_distance 1 = .ok (.aload_n 1, 1) := dk_43 (dk_at dksX2_distance_0 1 rfl rfl)
theorem dX2_distance_2 : decode cX2_distance 2 = .ok (.aload_n 2, 1) := dk_44 (dk_at dksX2_distance_0 2 rfl rfl)
theorem dX2_distance_3 : decode cX2_distance 3 = .ok (.iconst 0, 1) := dk_3 (dk_at dksX2_distance_0 3 rfl rfl)
theorem dX2_distance_4 : decode cX2_distance 4 = .ok (.aload_n 2, 1) := dk_44 (dk_at dksX2_distance_0 4 rfl rfl)
theorem dX2_distance_5 : decode cX2_distance 5 = .ok (.invokevirtual 66, 3) := dk_182 0 66 (dk_at dksX2_distance_0 5 rfl rfl)
theorem dX2_distance_8 : decode cX2_distance 8 = .ok (.invokevirtual 67, 3) := dk_182 0 67 (dk_at dksX2_distance_0 8 rfl rfl)
theorem dX2_distance_11 : decode cX2_distance 11 = .ok (.aload_n 0, 1) := dk_42 (dk_at dksX2_distance_0 11 rfl rfl)
theorem dX2_distance_12 : decode cX2_distance 12 = .ok (.getfield 16, 3) := dk_180 0 16 (dk_at dksX2_distance_0 12 rfl rfl)
theorem dX2_distance_15 : decode cX2_distance 15 = .ok (.aload_n 2, 1) := dk_44 (dk_at dksX2_distance_0 15 rfl rfl)
theorem dX2_distance_16 : decode cX2_distance 16 = .ok (.invokevirtual 66, 3) := dk_182 0 66 (dk_at dksX2_distance_0 16 rfl rfl)
theorem dX2_distance_19 : decode cX2_distance 19 = .ok (.iaload, 1) := dk_46 (dk_at dksX2_distance_0 19 rfl rfl)
theorem dX2_distance_20 : decode cX2_distance 20 = .ok (.ireturn, 1) := dk_172 (dk_at dksX2_distance_0 20 rfl rfl)
abbrev cX2_measure : ByteArray := prog_4_method_5_code
def yX2_measure : MethodName := ⟨RX2, "measure", "(Ljava/lang/CharSequence;LKnotLetters$Knots;II)V"⟩
def dkwX2_measure_9 : List UInt8 := [4, 96, 184, 0, 60, 132, 5, 1, 167, 255, 91, 177]
abbrev dktX2_measure_9 : List UInt8 := dkwX2_measure_9 ++ []
def dkwX2_measure_8 : List UInt8 := [184, 0, 54, 79, 132, 6, 1, 167, 255, 155, 42, 180, 0, 20, 3, 42, 180, 0, 16, 3, 21, 4, 29, 100]
abbrev dktX2_measure_8 : List UInt8 := dkwX2_measure_8 ++ dktX2_measure_9
def dkwX2_measure_7 : List UInt8 := [96, 42, 180, 0, 20, 21, 7, 46, 42, 44, 21, 6, 182, 0, 30, 182, 0, 36, 96, 184, 0, 54]
abbrev dktX2_measure_7 : List UInt8 := dkwX2_measure_7 ++ dktX2_measure_8
def dkwX2_measure_6 : List UInt8 := [96, 21, 8, 42, 180, 0, 16, 21, 7, 4, 96, 46, 42, 43, 21, 5, 185, 0, 46, 2, 0, 182, 0, 47]
abbrev dktX2_measure_6 : List UInt8 := dkwX2_measure_6 ++ dktX2_measure_7
def dkwX2_measure_5 : List UInt8 := [185, 0, 46, 2, 0, 44, 21, 6, 182, 0, 30, 182, 0, 50, 96, 54, 8, 42, 180, 0, 20, 21, 7, 4]
abbrev dktX2_measure_5 : List UInt8 := dkwX2_measure_5 ++ dktX2_measure_6
def dkwX2_measure_4 : List UInt8 := [21, 6, 21, 4, 162, 0, 100, 21, 6, 29, 100, 54, 7, 42, 180, 0, 16, 21, 7, 46, 42, 43, 21, 5]
abbrev dktX2_measure_4 : List UInt8 := dkwX2_measure_4 ++ dktX2_measure_5
def dkwX2_measure_3 : List UInt8 := [3, 42, 180, 0, 16, 3, 46, 42, 43, 21, 5, 185, 0, 46, 2, 0, 182, 0, 47, 96, 79, 29, 54, 6]
abbrev dktX2_measure_3 : List UInt8 := dkwX2_measure_3 ++ dktX2_measure_4
def dkwX2_measure_2 : List UInt8 := [132, 5, 1, 167, 255, 215, 3, 54, 5, 21, 5, 43, 185, 0, 40, 1, 0, 162, 0, 160, 42, 180, 0, 20]
abbrev dktX2_measure_2 : List UInt8 := dkwX2_measure_2 ++ dktX2_measure_3
def dkwX2_measure_1 : List UInt8 := [100, 4, 96, 42, 180, 0, 16, 21, 5, 29, 100, 46, 42, 44, 21, 5, 182, 0, 30, 182, 0, 36, 96, 79]
abbrev dktX2_measure_1 : List UInt8 := dkwX2_measure_1 ++ dktX2_measure_2
def dkwX2_measure_0 : List UInt8 := [42, 180, 0, 16, 3, 3, 79, 29, 54, 5, 21, 5, 21, 4, 162, 0, 40, 42, 180, 0, 16, 21, 5, 29]
abbrev dktX2_measure_0 : List UInt8 := dkwX2_measure_0 ++ dktX2_measure_1
theorem dksX2_measure_0 : cX2_measure.data.toList.drop 0 = dktX2_measure_0 := by decide +kernel
theorem dksX2_measure_1 : cX2_measure.data.toList.drop 24 = dktX2_measure_1 := dk_seg dksX2_measure_0 24 rfl rfl
theorem dksX2_measure_2 : cX2_measure.data.toList.drop 48 = dktX2_measure_2 := dk_seg dksX2_measure_1 24 rfl rfl
theorem dksX2_measure_3 : cX2_measure.data.toList.drop 72 = dktX2_measure_3 := dk_seg dksX2_measure_2 24 rfl rfl
theorem dksX2_measure_4 : cX2_measure.data.toList.drop 96 = dktX2_measure_4 := dk_seg dksX2_measure_3 24 rfl rfl
theorem dksX2_measure_5 : cX2_measure.data.toList.drop 120 = dktX2_measure_5 := dk_seg dksX2_measure_4 24 rfl rfl
theorem dksX2_measure_6 : cX2_measure.data.toList.drop 144 = dktX2_measure_6 := dk_seg dksX2_measure_5 24 rfl rfl
theorem dksX2_measure_7 : cX2_measure.data.toList.drop 168 = dktX2_measure_7 := dk_seg dksX2_measure_6 24 rfl rfl
theorem dksX2_measure_8 : cX2_measure.data.toList.drop 190 = dktX2_measure_8 := dk_seg dksX2_measure_7 22 rfl rfl
theorem dksX2_measure_9 : cX2_measure.data.toList.drop 214 = dktX2_measure_9 := dk_seg dksX2_measure_8 24 rfl rfl
theorem dX2_measure_0 : decode cX2_measure 0 = .ok (.aload_n 0, 1) := dk_42 (dk_at dksX2_measure_0 0 rfl rfl)
theorem dX2_measure_1 : decode cX2_measure 1 = .ok (.getfield 16, 3) := dk_180 0 16 (dk_at dksX2_measure_0 1 rfl rfl)
theorem dX2_measure_4 : decode cX2_measure 4 = .ok (.iconst 0, 1) := dk_3 (dk_at dksX2_measure_0 4 rfl rfl)
theorem dX2_measure_5 : decode cX2_measure 5 = .ok (.iconst 0, 1) := dk_3 (dk_at dksX2_measure_0 5 rfl rfl)
theorem dX2_measure_6 : decode cX2_measure 6 = .ok (.iastore, 1) := dk_79 (dk_at dksX2_measure_0 6 rfl rfl)
theorem dX2_measure_7 : decode cX2_measure 7 = .ok (.iload_n 3, 1) := dk_29 (dk_at dksX2_measure_0 7 rfl rfl)
theorem dX2_measure_8 : decode cX2_measure 8 = .ok (.istore 5, 2) := dk_54 5 (dk_at dksX2_measure_0 8 rfl rfl)
theorem dX2_measure_10 : decode cX2_measure 10 = .ok (.iload 5, 2) := dk_21 5 (dk_at dksX2_measure_0 10 rfl rfl)
theorem dX2_measure_12 : decode cX2_measure 12 = .ok (.iload 4, 2) := dk_21 4 (dk_at dksX2_measure_0 12 rfl rfl)
theorem dX2_measure_14 : decode cX2_measure 14 = .ok (.if_icmp .ge 40, 3) := dk_162 0 40 (dk_at dksX2_measure_0 14 rfl rfl)
theorem dX2_measure_17 : decode cX2_measure 17 = .ok (.aload_n 0, 1) := dk_42 (dk_at dksX2_measure_0 17 rfl rfl)
theorem dX2_measure_18 : decode cX2_measure 18 = .ok (.getfield 16, 3) := dk_180 0 16 (dk_at dksX2_measure_0 18 rfl rfl)
theorem dX2_measure_21 : decode cX2_measure 21 = .ok (.iload 5, 2) := dk_21 5 (dk_at dksX2_measure_0 21 rfl rfl)
theorem dX2_measure_23 : decode cX2_measure 23 = .ok (.iload_n 3, 1) := dk_29 (dk_at dksX2_measure_0 23 rfl rfl)
theorem dX2_measure_24 : decode cX2_measure 24 = .ok (.isub, 1) := dk_100 (dk_at dksX2_measure_1 0 rfl rfl)
theorem dX2_measure_25 : decode cX2_measure 25 = .ok (.iconst 1, 1) := dk_4 (dk_at dksX2_measure_1 1 rfl rfl)
theorem dX2_measure_26 : decode cX2_measure 26 = .ok (.iadd, 1) := dk_96 (dk_at dksX2_measure_1 2 rfl rfl)
theorem dX2_measure_27 : decode cX2_measure 27 = .ok (.aload_n 0, 1) := dk_42 (dk_at dksX2_measure_1 3 rfl rfl)
theorem dX2_measure_28 : decode cX2_measure 28 = .ok (.getfield 16, 3) := dk_180 0 16 (dk_at dksX2_measure_1 4 rfl rfl)
theorem dX2_measure_31 : decode cX2_measure 31 = .ok (.iload 5, 2) := dk_21 5 (dk_at dksX2_measure_1 7 rfl rfl)
theorem dX2_measure_33 : decode cX2_measure 33 = .ok (.iload_n 3, 1) := dk_29 (dk_at dksX2_measure_1 9 rfl rfl)
theorem dX2_measure_34 : decode cX2_measure 34 = .ok (.isub, 1) := dk_100 (dk_at dksX2_measure_1 10 rfl rfl)
theorem dX2_measure_35 : decode cX2_measure 35 = .ok (.iaload, 1) := dk_46 (dk_at dksX2_measure_1 11 rfl rfl)
theorem dX2_measure_36 : decode cX2_measure 36 = .ok (.aload_n 0, 1) := dk_42 (dk_at dksX2_measure_1 12 rfl rfl)
theorem dX2_measure_37 : decode cX2_measure 37 = .ok (.aload_n 2, 1) := dk_44 (dk_at dksX2_measure_1 13 rfl rfl)
theorem dX2_measure_38 : decode cX2_measure 38 = .ok (.iload 5, 2) := dk_21 5 (dk_at dksX2_measure_1 14 rfl rfl)
theorem dX2_measure_40 : decode cX2_measure 40 = .ok (.invokevirtual 30, 3) := dk_182 0 30 (dk_at dksX2_measure_1 16 rfl rfl)
theorem dX2_measure_43 : decode cX2_measure 43 = .ok (.invokevirtual 36, 3) := dk_182 0 36 (dk_at dksX2_measure_1 19 rfl rfl)
theorem dX2_measure_46 : decode cX2_measure 46 = .ok (.iadd, 1) := dk_96 (dk_at dksX2_measure_1 22 rfl rfl)
theorem dX2_measure_47 : decode cX2_measure 47 = .ok (.iastore, 1) := dk_79 (dk_at dksX2_measure_1 23 rfl rfl)
theorem dX2_measure_48 : decode cX2_measure 48 = .ok (.iinc 5 1, 3) := dk_132 5 1 (dk_at dksX2_measure_2 0 rfl rfl)
theorem dX2_measure_51 : decode cX2_measure 51 = .ok (.goto (-41), 3) := dk_167 255 215 (dk_at dksX2_measure_2 3 rfl rfl)
theorem dX2_measure_54 : decode cX2_measure 54 = .ok (.iconst 0, 1) := dk_3 (dk_at dksX2_measure_2 6 rfl rfl)
theorem dX2_measure_55 : decode cX2_measure 55 = .ok (.istore 5, 2) := dk_54 5 (dk_at dksX2_measure_2 7 rfl rfl)
theorem dX2_measure_57 : decode cX2_measure 57 = .ok (.iload 5, 2) := dk_21 5 (dk_at dksX2_measure_2 9 rfl rfl)
theorem dX2_measure_59 : decode cX2_measure 59 = .ok (.aload_n 1, 1) := dk_43 (dk_at dksX2_measure_2 11 rfl rfl)
theorem dX2_measure_60 : decode cX2_measure 60 = .ok (.invokeinterface 40 1, 5) := by decide +kernel
theorem dX2_measure_65 : decode cX2_measure 65 = .ok (.if_icmp .ge 160, 3) := dk_162 0 160 (dk_at dksX2_measure_2 17 rfl rfl)
theorem dX2_measure_68 : decode cX2_measure 68 = .ok (.aload_n 0, 1) := dk_42 (dk_at dksX2_measure_2 20 rfl rfl)
theorem dX2_measure_69 : decode cX2_measure 69 = .ok (.getfield 20, 3) := dk_180 0 20 (dk_at dksX2_measure_2 21 rfl rfl)
theorem dX2_measure_72 : decode cX2_measure 72 = .ok (.iconst 0, 1) := dk_3 (dk_at dksX2_measure_3 0 rfl rfl)
theorem dX2_measure_73 : decode cX2_measure 73 = .ok (.aload_n 0, 1) := dk_42 (dk_at dksX2_measure_3 1 rfl rfl)
theorem dX2_measure_74 : decode cX2_measure 74 = .ok (.getfield 16, 3) := dk_180 0 16 (dk_at dksX2_measure_3 2 rfl rfl)
theorem dX2_measure_77 : decode cX2_measure 77 = .ok (.iconst 0, 1) := dk_3 (dk_at dksX2_measure_3 5 rfl rfl)
theorem dX2_measure_78 : decode cX2_measure 78 = .ok (.iaload, 1) := dk_46 (dk_at dksX2_measure_3 6 rfl rfl)
theorem dX2_measure_79 : decode cX2_measure 79 = .ok (.aload_n 0, 1) := dk_42 (dk_at dksX2_measure_3 7 rfl rfl)
theorem dX2_measure_80 : decode cX2_measure 80 = .ok (.aload_n 1, 1) := dk_43 (dk_at dksX2_measure_3 8 rfl rfl)
theorem dX2_measure_81 : decode cX2_measure 81 = .ok (.iload 5, 2) := dk_21 5 (dk_at dksX2_measure_3 9 rfl rfl)
theorem dX2_measure_83 : decode cX2_measure 83 = .ok (.invokeinterface 46 2, 5) := by decide +kernel
theorem dX2_measure_88 : decode cX2_measure 88 = .ok (.invokevirtual 47, 3) := dk_182 0 47 (dk_at dksX2_measure_3 16 rfl rfl)
theorem dX2_measure_91 : decode cX2_measure 91 = .ok (.iadd, 1) := dk_96 (dk_at dksX2_measure_3 19 rfl rfl)
theorem dX2_measure_92 : decode cX2_measure 92 = .ok (.iastore, 1) := dk_79 (dk_at dksX2_measure_3 20 rfl rfl)
theorem dX2_measure_93 : decode cX2_measure 93 = .ok (.iload_n 3, 1) := dk_29 (dk_at dksX2_measure_3 21 rfl rfl)
theorem dX2_measure_94 : decode cX2_measure 94 = .ok (.istore 6, 2) := dk_54 6 (dk_at dksX2_measure_3 22 rfl rfl)
theorem dX2_measure_96 : decode cX2_measure 96 = .ok (.iload 6, 2) := dk_21 6 (dk_at dksX2_measure_4 0 rfl rfl)
theorem dX2_measure_98 : decode cX2_measure 98 = .ok (.iload 4, 2) := dk_21 4 (dk_at dksX2_measure_4 2 rfl rfl)
theorem dX2_measure_100 : decode cX2_measure 100 = .ok (.if_icmp .ge 100, 3) := dk_162 0 100 (dk_at dksX2_measure_4 4 rfl rfl)
theorem dX2_measure_103 : decode cX2_measure 103 = .ok (.iload 6, 2) := dk_21 6 (dk_at dksX2_measure_4 7 rfl rfl)
theorem dX2_measure_105 : decode cX2_measure 105 = .ok (.iload_n 3, 1) := dk_29 (dk_at dksX2_measure_4 9 rfl rfl)
theorem dX2_measure_106 : decode cX2_measure 106 = .ok (.isub, 1) := dk_100 (dk_at dksX2_measure_4 10 rfl rfl)
theorem dX2_measure_107 : decode cX2_measure 107 = .ok (.istore 7, 2) := dk_54 7 (dk_at dksX2_measure_4 11 rfl rfl)
theorem dX2_measure_109 : decode cX2_measure 109 = .ok (.aload_n 0, 1) := dk_42 (dk_at dksX2_measure_4 13 rfl rfl)
theorem dX2_measure_110 : decode cX2_measure 110 = .ok (.getfield 16, 3) := dk_180 0 16 (dk_at dksX2_measure_4 14 rfl rfl)
theorem dX2_measure_113 : decode cX2_measure 113 = .ok (.iload 7, 2) := dk_21 7 (dk_at dksX2_measure_4 17 rfl rfl)
theorem dX2_measure_115 : decode cX2_measure 115 = .ok (.iaload, 1) := dk_46 (dk_at dksX2_measure_4 19 rfl rfl)
theorem dX2_measure_116 : decode cX2_measure 116 = .ok (.aload_n 0, 1) := dk_42 (dk_at dksX2_measure_4 20 rfl rfl)
theorem dX2_measure_117 : decode cX2_measure 117 = .ok (.aload_n 1, 1) := dk_43 (dk_at dksX2_measure_4 21 rfl rfl)
theorem dX2_measure_118 : decode cX2_measure 118 = .ok (.iload 5, 2) := dk_21 5 (dk_at dksX2_measure_4 22 rfl rfl)
theorem dX2_measure_120 : decode cX2_measure 120 = .ok (.invokeinterface 46 2, 5) := by decide +kernel
theorem dX2_measure_125 : decode cX2_measure 125 = .ok (.aload_n 2, 1) := dk_44 (dk_at dksX2_measure_5 5 rfl rfl)
theorem dX2_measure_126 : decode cX2_measure 126 = .ok (.iload 6, 2) := dk_21 6 (dk_at dksX2_measure_5 6 rfl rfl)
theorem dX2_measure_128 : decode cX2_measure 128 = .ok (.invokevirtual 30, 3) := dk_182 0 30 (dk_at dksX2_measure_5 8 rfl rfl)
theorem dX2_measure_131 : decode cX2_measure 131 = .ok (.invokevirtual 50, 3) := dk_182 0 50 (dk_at dksX2_measure_5 11 rfl rfl)
theorem dX2_measure_134 : decode cX2_measure 134 = .ok (.iadd, 1) := dk_96 (dk_at dksX2_measure_5 14 rfl rfl)
theorem dX2_measure_135 : decode cX2_measure 135 = .ok (.istore 8, 2) := dk_54 8 (dk_at dksX2_measure_5 15 rfl rfl)
theorem dX2_measure_137 : decode cX2_measure 137 = .ok (.aload_n 0, 1) := dk_42 (dk_at dksX2_measure_5 17 rfl rfl)
theorem dX2_measure_138 : decode cX2_measure 138 = .ok (.getfield 20, 3) := dk_180 0 20 (dk_at dksX2_measure_5 18 rfl rfl)
theorem dX2_measure_141 : decode cX2_measure 141 = .ok (.iload 7, 2) := dk_21 7 (dk_at dksX2_measure_5 21 rfl rfl)
theorem dX2_measure_143 : decode cX2_measure 143 = .ok (.iconst 1, 1) := dk_4 (dk_at dksX2_measure_5 23 rfl rfl)
theorem dX2_measure_144 : decode cX2_measure 144 = .ok (.iadd, 1) := dk_96 (dk_at dksX2_measure_6 0 rfl rfl)
theorem dX2_measure_145 : decode cX2_measure 145 = .ok (.iload 8, 2) := dk_21 8 (dk_at dksX2_measure_6 1 rfl rfl)
theorem dX2_measure_147 : decode cX2_measure 147 = .ok (.aload_n 0, 1) := dk_42 (dk_at dksX2_measure_6 3 rfl rfl)
theorem dX2_measure_148 : decode cX2_measure 148 = .ok (.getfield 16, 3) := dk_180 0 16 (dk_at dksX2_measure_6 4 rfl rfl)
theorem dX2_measure_151 : decode cX2_measure 151 = .ok (.iload 7, 2) := dk_21 7 (dk_at dksX2_measure_6 7 rfl rfl)
theorem dX2_measure_153 : decode cX2_measure 153 = .ok (.iconst 1, 1) := dk_4 (dk_at dksX2_measure_6 9 rfl rfl)
theorem dX2_measure_154 : decode cX2_measure 154 = .ok (.iadd, 1) := dk_96 (dk_at dksX2_measure_6 10 rfl rfl)
theorem dX2_measure_155 : decode cX2_measure 155 = .ok (.iaload, 1) := dk_46 (dk_at dksX2_measure_6 11 rfl rfl)
theorem dX2_measure_156 : decode cX2_measure 156 = .ok (.aload_n 0, 1) := dk_42 (dk_at dksX2_measure_6 12 rfl rfl)
theorem dX2_measure_157 : decode cX2_measure 157 = .ok (.aload_n 1, 1) := dk_43 (dk_at dksX2_measure_6 13 rfl rfl)
theorem dX2_measure_158 : decode cX2_measure 158 = .ok (.iload 5, 2) := dk_21 5 (dk_at dksX2_measure_6 14 rfl rfl)
theorem dX2_measure_160 : decode cX2_measure 160 = .ok (.invokeinterface 46 2, 5) := by decide +kernel
theorem dX2_measure_165 : decode cX2_measure 165 = .ok (.invokevirtual 47, 3) := dk_182 0 47 (dk_at dksX2_measure_6 21 rfl rfl)
theorem dX2_measure_168 : decode cX2_measure 168 = .ok (.iadd, 1) := dk_96 (dk_at dksX2_measure_7 0 rfl rfl)
theorem dX2_measure_169 : decode cX2_measure 169 = .ok (.aload_n 0, 1) := dk_42 (dk_at dksX2_measure_7 1 rfl rfl)
theorem dX2_measure_170 : decode cX2_measure 170 = .ok (.getfield 20, 3) := dk_180 0 20 (dk_at dksX2_measure_7 2 rfl rfl)
theorem dX2_measure_173 : decode cX2_measure 173 = .ok (.iload 7, 2) := dk_21 7 (dk_at dksX2_measure_7 5 rfl rfl)
theorem dX2_measure_175 : decode cX2_measure 175 = .ok (.iaload, 1) := dk_46 (dk_at dksX2_measure_7 7 rfl rfl)
theorem dX2_measure_176 : decode cX2_measure 176 = .ok (.aload_n 0, 1) := dk_42 (dk_at dksX2_measure_7 8 rfl rfl)
theorem dX2_measure_177 : decode cX2_measure 177 = .ok (.aload_n 2, 1) := dk_44 (dk_at dksX2_measure_7 9 rfl rfl)
theorem dX2_measure_178 : decode cX2_measure 178 = .ok (.iload 6, 2) := dk_21 6 (dk_at dksX2_measure_7 10 rfl rfl)
theorem dX2_measure_180 : decode cX2_measure 180 = .ok (.invokevirtual 30, 3) := dk_182 0 30 (dk_at dksX2_measure_7 12 rfl rfl)
theorem dX2_measure_183 : decode cX2_measure 183 = .ok (.invokevirtual 36, 3) := dk_182 0 36 (dk_at dksX2_measure_7 15 rfl rfl)
theorem dX2_measure_186 : decode cX2_measure 186 = .ok (.iadd, 1) := dk_96 (dk_at dksX2_measure_7 18 rfl rfl)
theorem dX2_measure_187 : decode cX2_measure 187 = .ok (.invokestatic 54, 3) := dk_184 0 54 (dk_at dksX2_measure_7 19 rfl rfl)
theorem dX2_measure_190 : decode cX2_measure 190 = .ok (.invokestatic 54, 3) := dk_184 0 54 (dk_at dksX2_measure_8 0 rfl rfl)
theorem dX2_measure_193 : decode cX2_measure 193 = .ok (.iastore, 1) := dk_79 (dk_at dksX2_measure_8 3 rfl rfl)
theorem dX2_measure_194 : decode cX2_measure 194 = .ok (.iinc 6 1, 3) := dk_132 6 1 (dk_at dksX2_measure_8 4 rfl rfl)
theorem dX2_measure_197 : decode cX2_measure 197 = .ok (.goto (-101), 3) := dk_167 255 155 (dk_at dksX2_measure_8 7 rfl rfl)
theorem dX2_measure_200 : decode cX2_measure 200 = .ok (.aload_n 0, 1) := dk_42 (dk_at dksX2_measure_8 10 rfl rfl)
theorem dX2_measure_201 : decode cX2_measure 201 = .ok (.getfield 20, 3) := dk_180 0 20 (dk_at dksX2_measure_8 11 rfl rfl)
theorem dX2_measure_204 : decode cX2_measure 204 = .ok (.iconst 0, 1) := dk_3 (dk_at dksX2_measure_8 14 rfl rfl)
theorem dX2_measure_205 : decode cX2_measure 205 = .ok (.aload_n 0, 1) := dk_42 (dk_at dksX2_measure_8 15 rfl rfl)
theorem dX2_measure_206 : decode cX2_measure 206 = .ok (.getfield 16, 3) := dk_180 0 16 (dk_at dksX2_measure_8 16 rfl rfl)
theorem dX2_measure_209 : decode cX2_measure 209 = .ok (.iconst 0, 1) := dk_3 (dk_at dksX2_measure_8 19 rfl rfl)
theorem dX2_measure_210 : decode cX2_measure 210 = .ok (.iload 4, 2) := dk_21 4 (dk_at dksX2_measure_8 20 rfl rfl)
theorem dX2_measure_212 : decode cX2_measure 212 = .ok (.iload_n 3, 1) := dk_29 (dk_at dksX2_measure_8 22 rfl rfl)
theorem dX2_measure_213 : decode cX2_measure 213 = .ok (.isub, 1) := dk_100 (dk_at dksX2_measure_8 23 rfl rfl)
theorem dX2_measure_214 : decode cX2_measure 214 = .ok (.iconst 1, 1) := dk_4 (dk_at dksX2_measure_9 0 rfl rfl)
theorem dX2_measure_215 : decode cX2_measure 215 = .ok (.iadd, 1) := dk_96 (dk_at dksX2_measure_9 1 rfl rfl)
theorem dX2_measure_216 : decode cX2_measure 216 = .ok (.invokestatic 60, 3) := dk_184 0 60 (dk_at dksX2_measure_9 2 rfl rfl)
theorem dX2_measure_219 : decode cX2_measure 219 = .ok (.iinc 5 1, 3) := dk_132 5 1 (dk_at dksX2_measure_9 5 rfl rfl)
theorem dX2_measure_222 : decode cX2_measure 222 = .ok (.goto (-165), 3) := dk_167 255 91 (dk_at dksX2_measure_9 8 rfl rfl)
theorem dX2_measure_225 : decode cX2_measure 225 = .ok (.return_, 1) := dk_177 (dk_at dksX2_measure_9 11 rfl rfl)
abbrev cX2_haunting : ByteArray := prog_4_method_3_code
def yX2_haunting : MethodName := ⟨RX2, "haunting", "(C)I"⟩
def dkwX2_haunting_0 : List UInt8 := [27, 16, 53, 160, 0, 8, 16, 9, 167, 0, 7, 42, 180, 0, 27, 172]
abbrev dktX2_haunting_0 : List UInt8 := dkwX2_haunting_0 ++ []
theorem dksX2_haunting_0 : cX2_haunting.data.toList.drop 0 = dktX2_haunting_0 := by decide +kernel
theorem dX2_haunting_0 : decode cX2_haunting 0 = .ok (.iload_n 1, 1) := dk_27 (dk_at dksX2_haunting_0 0 rfl rfl)
theorem dX2_haunting_1 : decode cX2_haunting 1 = .ok (.bipush 53, 2) := dk_16 53 (dk_at dksX2_haunting_0 1 rfl rfl)
theorem dX2_haunting_3 : decode cX2_haunting 3 = .ok (.if_icmp .ne 8, 3) := dk_160 0 8 (dk_at dksX2_haunting_0 3 rfl rfl)
theorem dX2_haunting_6 : decode cX2_haunting 6 = .ok (.bipush 9, 2) := dk_16 9 (dk_at dksX2_haunting_0 6 rfl rfl)
theorem dX2_haunting_8 : decode cX2_haunting 8 = .ok (.goto 7, 3) := dk_167 0 7 (dk_at dksX2_haunting_0 8 rfl rfl)
theorem dX2_haunting_11 : decode cX2_haunting 11 = .ok (.aload_n 0, 1) := dk_42 (dk_at dksX2_haunting_0 11 rfl rfl)
theorem dX2_haunting_12 : decode cX2_haunting 12 = .ok (.getfield 27, 3) := dk_180 0 27 (dk_at dksX2_haunting_0 12 rfl rfl)
theorem dX2_haunting_15 : decode cX2_haunting 15 = .ok (.ireturn, 1) := dk_172 (dk_at dksX2_haunting_0 15 rfl rfl)
abbrev cX2_missing : ByteArray := prog_4_method_2_code
def yX2_missing : MethodName := ⟨RX2, "missing", "(C)I"⟩
def dkwX2_missing_0 : List UInt8 := [27, 16, 53, 160, 0, 8, 16, 9, 167, 0, 7, 42, 180, 0, 23, 172]
abbrev dktX2_missing_0 : List UInt8 := dkwX2_missing_0 ++ []
theorem dksX2_missing_0 : cX2_missing.data.toList.drop 0 = dktX2_missing_0 := by decide +kernel
theorem dX2_missing_0 : decode cX2_missing 0 = .ok (.iload_n 1, 1) := dk_27 (dk_at dksX2_missing_0 0 rfl rfl)
theorem dX2_missing_1 : decode cX2_missing 1 = .ok (.bipush 53, 2) := dk_16 53 (dk_at dksX2_missing_0 1 rfl rfl)
theorem dX2_missing_3 : decode cX2_missing 3 = .ok (.if_icmp .ne 8, 3) := dk_160 0 8 (dk_at dksX2_missing_0 3 rfl rfl)
theorem dX2_missing_6 : decode cX2_missing 6 = .ok (.bipush 9, 2) := dk_16 9 (dk_at dksX2_missing_0 6 rfl rfl)
theorem dX2_missing_8 : decode cX2_missing 8 = .ok (.goto 7, 3) := dk_167 0 7 (dk_at dksX2_missing_0 8 rfl rfl)
theorem dX2_missing_11 : decode cX2_missing 11 = .ok (.aload_n 0, 1) := dk_42 (dk_at dksX2_missing_0 11 rfl rfl)
theorem dX2_missing_12 : decode cX2_missing 12 = .ok (.getfield 23, 3) := dk_180 0 23 (dk_at dksX2_missing_0 12 rfl rfl)
theorem dX2_missing_15 : decode cX2_missing 15 = .ok (.ireturn, 1) := dk_172 (dk_at dksX2_missing_0 15 rfl rfl)
abbrev cX2_taking : ByteArray := prog_4_method_4_code
def yX2_taking : MethodName := ⟨RX2, "taking", "(CC)I"⟩
def dkwX2_taking_1 : List UInt8 := [167, 0, 17, 42, 180, 0, 11, 27, 16, 48, 100, 50, 28, 16, 48, 100, 46, 172]
abbrev dktX2_taking_1 : List UInt8 := dkwX2_taking_1 ++ []
def dkwX2_taking_0 : List UInt8 := [27, 28, 160, 0, 5, 3, 172, 27, 16, 53, 159, 0, 9, 28, 16, 53, 160, 0, 9, 17, 3, 232]
abbrev dktX2_taking_0 : List UInt8 := dkwX2_taking_0 ++ dktX2_taking_1
theorem dksX2_taking_0 : cX2_taking.data.toList.drop 0 = dktX2_taking_0 := by decide +kernel
theorem dksX2_taking_1 : cX2_taking.data.toList.drop 22 = dktX2_taking_1 := dk_seg dksX2_taking_0 22 rfl rfl
theorem dX2_taking_0 : decode cX2_taking 0 = .ok (.iload_n 1, 1) := dk_27 (dk_at dksX2_taking_0 0 rfl rfl)
theorem dX2_taking_1 : decode cX2_taking 1 = .ok (.iload_n 2, 1) := dk_28 (dk_at dksX2_taking_0 1 rfl rfl)
theorem dX2_taking_2 : decode cX2_taking 2 = .ok (.if_icmp .ne 5, 3) := dk_160 0 5 (dk_at dksX2_taking_0 2 rfl rfl)
theorem dX2_taking_5 : decode cX2_taking 5 = .ok (.iconst 0, 1) := dk_3 (dk_at dksX2_taking_0 5 rfl rfl)
theorem dX2_taking_6 : decode cX2_taking 6 = .ok (.ireturn, 1) := dk_172 (dk_at dksX2_taking_0 6 rfl rfl)
theorem dX2_taking_7 : decode cX2_taking 7 = .ok (.iload_n 1, 1) := dk_27 (dk_at dksX2_taking_0 7 rfl rfl)
theorem dX2_taking_8 : decode cX2_taking 8 = .ok (.bipush 53, 2) := dk_16 53 (dk_at dksX2_taking_0 8 rfl rfl)
theorem dX2_taking_10 : decode cX2_taking 10 = .ok (.if_icmp .eq 9, 3) := dk_159 0 9 (dk_at dksX2_taking_0 10 rfl rfl)
theorem dX2_taking_13 : decode cX2_taking 13 = .ok (.iload_n 2, 1) := dk_28 (dk_at dksX2_taking_0 13 rfl rfl)
theorem dX2_taking_14 : decode cX2_taking 14 = .ok (.bipush 53, 2) := dk_16 53 (dk_at dksX2_taking_0 14 rfl rfl)
theorem dX2_taking_16 : decode cX2_taking 16 = .ok (.if_icmp .ne 9, 3) := dk_160 0 9 (dk_at dksX2_taking_0 16 rfl rfl)
theorem dX2_taking_19 : decode cX2_taking 19 = .ok (.sipush 1000, 3) := dk_17 3 232 (dk_at dksX2_taking_0 19 rfl rfl)
theorem dX2_taking_22 : decode cX2_taking 22 = .ok (.goto 17, 3) := dk_167 0 17 (dk_at dksX2_taking_1 0 rfl rfl)
theorem dX2_taking_25 : decode cX2_taking 25 = .ok (.aload_n 0, 1) := dk_42 (dk_at dksX2_taking_1 3 rfl rfl)
theorem dX2_taking_26 : decode cX2_taking 26 = .ok (.getfield 11, 3) := dk_180 0 11 (dk_at dksX2_taking_1 4 rfl rfl)
theorem dX2_taking_29 : decode cX2_taking 29 = .ok (.iload_n 1, 1) := dk_27 (dk_at dksX2_taking_1 7 rfl rfl)
theorem dX2_taking_30 : decode cX2_taking 30 = .ok (.bipush 48, 2) := dk_16 48 (dk_at dksX2_taking_1 8 rfl rfl)
theorem dX2_taking_32 : decode cX2_taking 32 = .ok (.isub, 1) := dk_100 (dk_at dksX2_taking_1 10 rfl rfl)
theorem dX2_taking_33 : decode cX2_taking 33 = .ok (.aaload, 1) := dk_50 (dk_at dksX2_taking_1 11 rfl rfl)
theorem dX2_taking_34 : decode cX2_taking 34 = .ok (.iload_n 2, 1) := dk_28 (dk_at dksX2_taking_1 12 rfl rfl)
theorem dX2_taking_35 : decode cX2_taking 35 = .ok (.bipush 48, 2) := dk_16 48 (dk_at dksX2_taking_1 13 rfl rfl)
theorem dX2_taking_37 : decode cX2_taking 37 = .ok (.isub, 1) := dk_100 (dk_at dksX2_taking_1 15 rfl rfl)
theorem dX2_taking_38 : decode cX2_taking 38 = .ok (.iaload, 1) := dk_46 (dk_at dksX2_taking_1 16 rfl rfl)
theorem dX2_taking_39 : decode cX2_taking 39 = .ok (.ireturn, 1) := dk_172 (dk_at dksX2_taking_1 17 rfl rfl)
theorem q48 : (Jvm.Cond.initialized "KnotLetters$Feel") ∈ lw_all := lw_g (lw_at lw_m1 2 rfl) rfl
theorem q106 : (Jvm.Cond.instantiable "KnotLetters$Feel" (5 : Nat)) ∈ lw_all := lw_g (lw_at lw_m1 60 rfl) rfl
theorem q108 : (Jvm.Cond.instanceMethod ({ cls := "KnotLetters$Feel", name := "<init>", desc := "()V" } : Jvm.MethodName)) ∈ lw_all := lw_g (lw_at lw_m1 62 rfl) rfl
theorem q109 : (Jvm.Cond.code ({ cls := "KnotLetters$Feel", name := "<init>", desc := "()V" } : Jvm.MethodName) prog_4_method_1_code (3 : Nat) (Option.none : Option Jvm.ClassFile.FieldType)) ∈ lw_all := lw_g (lw_at lw_m1 63 rfl) rfl
theorem q110 : (Jvm.Cond.methodLink "KnotLetters$Feel" (3 : Nat) ({ cls := "java/lang/Object", name := "<init>", desc := "()V" } : Jvm.MethodName)) ∈ lw_all := lw_g (lw_at lw_m1 64 rfl) rfl
theorem q111 : (Jvm.Cond.classLink "KnotLetters$Feel" (9 : Nat) "[[I") ∈ lw_all := lw_g (lw_at lw_m1 65 rfl) rfl
theorem q113 : (Jvm.Cond.fieldLink "KnotLetters$Feel" (11 : Nat) "KnotLetters$Feel" "costs" "[[I") ∈ lw_all := lw_g (lw_at lw_m1 67 rfl) rfl
theorem q115 : (Jvm.Cond.fieldLink "KnotLetters$Feel" (23 : Nat) "KnotLetters$Feel" "missed" "I") ∈ lw_all := lw_g (lw_at lw_m1 69 rfl) rfl
theorem q117 : (Jvm.Cond.fieldLink "KnotLetters$Feel" (27 : Nat) "KnotLetters$Feel" "ghost" "I") ∈ lw_all := lw_g (lw_at lw_m1 71 rfl) rfl
theorem q119 : (Jvm.Cond.fieldLink "KnotLetters$Feel" (16 : Nat) "KnotLetters$Feel" "last" "[I") ∈ lw_all := lw_g (lw_at lw_m1 73 rfl) rfl
theorem q121 : (Jvm.Cond.fieldLink "KnotLetters$Feel" (20 : Nat) "KnotLetters$Feel" "next" "[I") ∈ lw_all := lw_g (lw_at lw_m1 75 rfl) rfl
theorem q122 : (Jvm.Cond.laysFinal "KnotLetters$Feel" "KnotLetters$Feel" "costs" "[[I") ∈ lw_all := lw_g (lw_at lw_m1 76 rfl) rfl
theorem q123 : (Jvm.Cond.soleField "KnotLetters$Feel" "costs") ∈ lw_all := lw_g (lw_at lw_m1 77 rfl) rfl
theorem q124 : (Jvm.Cond.lays "KnotLetters$Feel" "KnotLetters$Feel" "missed" "I") ∈ lw_all := lw_g (lw_at lw_m1 78 rfl) rfl
theorem q125 : (Jvm.Cond.soleField "KnotLetters$Feel" "missed") ∈ lw_all := lw_g (lw_at lw_m1 79 rfl) rfl
theorem q126 : (Jvm.Cond.lays "KnotLetters$Feel" "KnotLetters$Feel" "ghost" "I") ∈ lw_all := lw_g (lw_at lw_m1 80 rfl) rfl
theorem q127 : (Jvm.Cond.soleField "KnotLetters$Feel" "ghost") ∈ lw_all := lw_g (lw_at lw_m1 81 rfl) rfl
theorem q128 : (Jvm.Cond.laysFinal "KnotLetters$Feel" "KnotLetters$Feel" "last" "[I") ∈ lw_all := lw_g (lw_at lw_m1 82 rfl) rfl
theorem q129 : (Jvm.Cond.soleField "KnotLetters$Feel" "last") ∈ lw_all := lw_g (lw_at lw_m1 83 rfl) rfl
theorem q130 : (Jvm.Cond.laysFinal "KnotLetters$Feel" "KnotLetters$Feel" "next" "[I") ∈ lw_all := lw_g (lw_at lw_m1 84 rfl) rfl
theorem q131 : (Jvm.Cond.soleField "KnotLetters$Feel" "next") ∈ lw_all := lw_g (lw_at lw_m1 85 rfl) rfl
theorem q132 : (Jvm.Cond.superclass "KnotLetters$Feel" "java/lang/Object") ∈ lw_all := lw_g (lw_at lw_m1 86 rfl) rfl
theorem q982 : (Jvm.Cond.selects "KnotLetters$Feel" ({ cls := "java/lang/Object", name := "getClass", desc := "()Ljava/lang/Class;" } : Jvm.MethodName) ({ cls := "java/lang/Object", name := "getClass", desc := "()Ljava/lang/Class;" } : Jvm.MethodName)) ∈ lw_all := lw_g (lw_at lw_m4 216 rfl) rfl
theorem q1308 : (Jvm.Cond.selects "KnotLetters$Feel" ({ cls := "java/lang/Object", name := "equals", desc := "(Ljava/lang/Object;)Z" } : Jvm.MethodName) ({ cls := "java/lang/Object", name := "equals", desc := "(Ljava/lang/Object;)Z" } : Jvm.MethodName)) ∈ lw_all := lw_g (lw_at lw_m6 62 rfl) rfl
theorem q1399 : (Jvm.Cond.instanceMethod ({ cls := "KnotLetters$Feel", name := "distance", desc := "(Ljava/lang/CharSequence;LKnotLetters$Knots;)I" } : Jvm.MethodName)) ∈ lw_all := lw_g (lw_at lw_m6 153 rfl) rfl
theorem q1400 : (Jvm.Cond.selects "KnotLetters$Feel" ({ cls := "KnotLetters$Feel", name := "distance", desc := "(Ljava/lang/CharSequence;LKnotLetters$Knots;)I" } : Jvm.MethodName) ({ cls := "KnotLetters$Feel", name := "distance", desc := "(Ljava/lang/CharSequence;LKnotLetters$Knots;)I" } : Jvm.MethodName)) ∈ lw_all := lw_g (lw_at lw_m6 154 rfl) rfl
theorem q1401 : (Jvm.Cond.code ({ cls := "KnotLetters$Feel", name := "distance", desc := "(Ljava/lang/CharSequence;LKnotLetters$Knots;)I" } : Jvm.MethodName) prog_4_method_6_code (3 : Nat) (Option.some Jvm.ClassFile.FieldType.int)) ∈ lw_all := lw_g (lw_at lw_m6 155 rfl) rfl
theorem q1402 : (Jvm.Cond.methodLink "KnotLetters$Feel" (66 : Nat) ({ cls := "KnotLetters$Knots", name := "length", desc := "()I" } : Jvm.MethodName)) ∈ lw_all := lw_g (lw_at lw_m6 156 rfl) rfl
theorem q1403 : (Jvm.Cond.methodLink "KnotLetters$Feel" (67 : Nat) ({ cls := "KnotLetters$Feel", name := "measure", desc := "(Ljava/lang/CharSequence;LKnotLetters$Knots;II)V" } : Jvm.MethodName)) ∈ lw_all := lw_g (lw_at lw_m6 157 rfl) rfl
theorem q1404 : (Jvm.Cond.instanceMethod ({ cls := "KnotLetters$Feel", name := "measure", desc := "(Ljava/lang/CharSequence;LKnotLetters$Knots;II)V" } : Jvm.MethodName)) ∈ lw_all := lw_g (lw_at lw_m6 158 rfl) rfl
theorem q1405 : (Jvm.Cond.selects "KnotLetters$Feel" ({ cls := "KnotLetters$Feel", name := "measure", desc := "(Ljava/lang/CharSequence;LKnotLetters$Knots;II)V" } : Jvm.MethodName) ({ cls := "KnotLetters$Feel", name := "measure", desc := "(Ljava/lang/CharSequence;LKnotLetters$Knots;II)V" } : Jvm.MethodName)) ∈ lw_all := lw_g (lw_at lw_m6 159 rfl) rfl
theorem q1406 : (Jvm.Cond.code ({ cls := "KnotLetters$Feel", name := "measure", desc := "(Ljava/lang/CharSequence;LKnotLetters$Knots;II)V" } : Jvm.MethodName) prog_4_method_5_code (9 : Nat) (Option.none : Option Jvm.ClassFile.FieldType)) ∈ lw_all := lw_g (lw_at lw_m6 160 rfl) rfl
theorem q1407 : (Jvm.Cond.methodLink "KnotLetters$Feel" (30 : Nat) ({ cls := "KnotLetters$Knots", name := "charAt", desc := "(I)C" } : Jvm.MethodName)) ∈ lw_all := lw_g (lw_at lw_m6 161 rfl) rfl
theorem q1408 : (Jvm.Cond.methodLink "KnotLetters$Feel" (36 : Nat) ({ cls := "KnotLetters$Feel", name := "haunting", desc := "(C)I" } : Jvm.MethodName)) ∈ lw_all := lw_g (lw_at lw_m6 162 rfl) rfl
theorem q1409 : (Jvm.Cond.privateMethod ({ cls := "KnotLetters$Feel", name := "haunting", desc := "(C)I" } : Jvm.MethodName)) ∈ lw_tbl := lw_at lw_m6 163 rfl
theorem q1410 : (Jvm.Cond.instanceMethod ({ cls := "KnotLetters$Feel", name := "haunting", desc := "(C)I" } : Jvm.MethodName)) ∈ lw_all := lw_g (lw_at lw_m6 164 rfl) rfl
theorem q1411 : (Jvm.Cond.code ({ cls := "KnotLetters$Feel", name := "haunting", desc := "(C)I" } : Jvm.MethodName) prog_4_method_3_code (2 : Nat) (Option.some Jvm.ClassFile.FieldType.int)) ∈ lw_all := lw_g (lw_at lw_m6 165 rfl) rfl
theorem q1412 : (Jvm.Cond.interfaceEntry "KnotLetters$Feel" (40 : Nat)) ∈ lw_tbl := lw_at lw_m6 166 rfl
theorem q1413 : (Jvm.Cond.methodLink "KnotLetters$Feel" (40 : Nat) ({ cls := "java/lang/CharSequence", name := "length", desc := "()I" } : Jvm.MethodName)) ∈ lw_all := lw_g (lw_at lw_m6 167 rfl) rfl
theorem q1414 : (Jvm.Cond.interfaceEntry "KnotLetters$Feel" (46 : Nat)) ∈ lw_tbl := lw_at lw_m6 168 rfl
theorem q1415 : (Jvm.Cond.methodLink "KnotLetters$Feel" (46 : Nat) ({ cls := "java/lang/CharSequence", name := "charAt", desc := "(I)C" } : Jvm.MethodName)) ∈ lw_all := lw_g (lw_at lw_m6 169 rfl) rfl
theorem q1416 : (Jvm.Cond.methodLink "KnotLetters$Feel" (47 : Nat) ({ cls := "KnotLetters$Feel", name := "missing", desc := "(C)I" } : Jvm.MethodName)) ∈ lw_all := lw_g (lw_at lw_m6 170 rfl) rfl
theorem q1417 : (Jvm.Cond.privateMethod ({ cls := "KnotLetters$Feel", name := "missing", desc := "(C)I" } : Jvm.MethodName)) ∈ lw_tbl := lw_at lw_m6 171 rfl
theorem q1418 : (Jvm.Cond.instanceMethod ({ cls := "KnotLetters$Feel", name := "missing", desc := "(C)I" } : Jvm.MethodName)) ∈ lw_all := lw_g (lw_at lw_m6 172 rfl) rfl
theorem q1419 : (Jvm.Cond.code ({ cls := "KnotLetters$Feel", name := "missing", desc := "(C)I" } : Jvm.MethodName) prog_4_method_2_code (2 : Nat) (Option.some Jvm.ClassFile.FieldType.int)) ∈ lw_all := lw_g (lw_at lw_m6 173 rfl) rfl
theorem q1420 : (Jvm.Cond.methodLink "KnotLetters$Feel" (50 : Nat) ({ cls := "KnotLetters$Feel", name := "taking", desc := "(CC)I" } : Jvm.MethodName)) ∈ lw_all := lw_g (lw_at lw_m6 174 rfl) rfl
theorem q1421 : (Jvm.Cond.privateMethod ({ cls := "KnotLetters$Feel", name := "taking", desc := "(CC)I" } : Jvm.MethodName)) ∈ lw_tbl := lw_at lw_m6 175 rfl
theorem q1422 : (Jvm.Cond.instanceMethod ({ cls := "KnotLetters$Feel", name := "taking", desc := "(CC)I" } : Jvm.MethodName)) ∈ lw_all := lw_g (lw_at lw_m6 176 rfl) rfl
theorem q1423 : (Jvm.Cond.code ({ cls := "KnotLetters$Feel", name := "taking", desc := "(CC)I" } : Jvm.MethodName) prog_4_method_4_code (3 : Nat) (Option.some Jvm.ClassFile.FieldType.int)) ∈ lw_all := lw_g (lw_at lw_m6 177 rfl) rfl
theorem q1424 : (Jvm.Cond.methodLink "KnotLetters$Feel" (54 : Nat) ({ cls := "java/lang/Math", name := "min", desc := "(II)I" } : Jvm.MethodName)) ∈ lw_all := lw_g (lw_at lw_m6 178 rfl) rfl
theorem q1425 : (Jvm.Cond.methodLink "KnotLetters$Feel" (60 : Nat) ({ cls := "java/lang/System", name := "arraycopy", desc := "(Ljava/lang/Object;ILjava/lang/Object;II)V" } : Jvm.MethodName)) ∈ lw_all := lw_g (lw_at lw_m6 179 rfl) rfl
theorem q2371 : (Jvm.Cond.castable "KnotLetters$Feel" "java/lang/Object") ∈ lw_tbl := lw_at lw_m10 165 rfl
theorem in_X2 : ∀ w ∈ wsX20, w ∈ lw_all := lw_in wsX20 [122, 124, 126, 128, 130] (by decide +kernel) (by decide +kernel)

/-! KnotLetters$Letter -/
set_option maxRecDepth 100000
def RX3 : String := "KnotLetters$Letter"
def TX3 : u_T := fun k => match k with
  | 0 => ("KnotLetters$Letter", "name", "C", true)
  | 1 => ("KnotLetters$Letter", "row", "LKnotLetters$Knots;", false)
  | _ => ("KnotLetters$Letter", "tied", "I", false)
def tyX3 : Nat → FieldType := fun k => match k with
  | 0 => .char
  | 1 => .object "KnotLetters$Knots"
  | _ => .int
abbrev wsX30 : List Cond := u_ws RX3 TX3 3
theorem nmX3 : ∀ a, a < 3 → ∀ b, b < 3 → a ≠ b → (TX3 a).2.1 ≠ (TX3 b).2.1 := by decide +kernel
theorem tyX3_ok : ∀ k, k < 3 → parseFieldDescriptor (TX3 k).2.2.1 = some (tyX3 k) := by decide +kernel
abbrev cX3_init : ByteArray := prog_6_method_1_code
def yX3_init : MethodName := ⟨RX3, "<init>", "(I)V"⟩
def dkwX3_init_1 : List UInt8 := [177]
abbrev dktX3_init_1 : List UInt8 := dkwX3_init_1 ++ []
def dkwX3_init_0 : List UInt8 := [42, 183, 0, 1, 42, 187, 0, 7, 89, 183, 0, 9, 181, 0, 10, 42, 16, 97, 27, 96, 146, 181, 0, 16]
abbrev dktX3_init_0 : List UInt8 := dkwX3_init_0 ++ dktX3_init_1
theorem dksX3_init_0 : cX3_init.data.toList.drop 0 = dktX3_init_0 := by decide +kernel
theorem dksX3_init_1 : cX3_init.data.toList.drop 24 = dktX3_init_1 := dk_seg dksX3_init_0 24 rfl rfl
theorem dX3_init_0 : decode cX3_init 0 = .ok (.aload_n 0, 1) := dk_42 (dk_at dksX3_init_0 0 rfl rfl)
theorem dX3_init_1 : decode cX3_init 1 = .ok (.invokespecial 1, 3) := dk_183 0 1 (dk_at dksX3_init_0 1 rfl rfl)
theorem dX3_init_4 : decode cX3_init 4 = .ok (.aload_n 0, 1) := dk_42 (dk_at dksX3_init_0 4 rfl rfl)
theorem dX3_init_5 : decode cX3_init 5 = .ok (.new 7, 3) := dk_187 0 7 (dk_at dksX3_init_0 5 rfl rfl)
theorem dX3_init_8 : decode cX3_init 8 = .ok (.dup, 1) := dk_89 (dk_at dksX3_init_0 8 rfl rfl)
theorem dX3_init_9 : decode cX3_init 9 = .ok (.invokespecial 9, 3) := dk_183 0 9 (dk_at dksX3_init_0 9 rfl rfl)
theorem dX3_init_12 : decode cX3_init 12 = .ok (.putfield 10, 3) := dk_181 0 10 (dk_at dksX3_init_0 12 rfl rfl)
theorem dX3_init_15 : decode cX3_init 15 = .ok (.aload_n 0, 1) := dk_42 (dk_at dksX3_init_0 15 rfl rfl)
theorem dX3_init_16 : decode cX3_init 16 = .ok (.bipush 97, 2) := dk_16 97 (dk_at dksX3_init_0 16 rfl rfl)
theorem dX3_init_18 : decode cX3_init 18 = .ok (.iload_n 1, 1) := dk_27 (dk_at dksX3_init_0 18 rfl rfl)
theorem dX3_init_19 : decode cX3_init 19 = .ok (.iadd, 1) := dk_96 (dk_at dksX3_init_0 19 rfl rfl)
theorem dX3_init_20 : decode cX3_init 20 = .ok (.i2c, 1) := dk_146 (dk_at dksX3_init_0 20 rfl rfl)
theorem dX3_init_21 : decode cX3_init 21 = .ok (.putfield 16, 3) := dk_181 0 16 (dk_at dksX3_init_0 21 rfl rfl)
theorem dX3_init_24 : decode cX3_init 24 = .ok (.return_, 1) := dk_177 (dk_at dksX3_init_1 0 rfl rfl)
abbrev cX3_hasKnots : ByteArray := prog_6_method_2_code
def yX3_hasKnots : MethodName := ⟨RX3, "hasKnots", "()Z"⟩
def dkwX3_hasKnots_0 : List UInt8 := [42, 180, 0, 10, 182, 0, 20, 158, 0, 7, 4, 167, 0, 4, 3, 172]
abbrev dktX3_hasKnots_0 : List UInt8 := dkwX3_hasKnots_0 ++ []
theorem dksX3_hasKnots_0 : cX3_hasKnots.data.toList.drop 0 = dktX3_hasKnots_0 := by decide +kernel
theorem dX3_hasKnots_0 : decode cX3_hasKnots 0 = .ok (.aload_n 0, 1) := dk_42 (dk_at dksX3_hasKnots_0 0 rfl rfl)
theorem dX3_hasKnots_1 : decode cX3_hasKnots 1 = .ok (.getfield 10, 3) := dk_180 0 10 (dk_at dksX3_hasKnots_0 1 rfl rfl)
theorem dX3_hasKnots_4 : decode cX3_hasKnots 4 = .ok (.invokevirtual 20, 3) := dk_182 0 20 (dk_at dksX3_hasKnots_0 4 rfl rfl)
theorem dX3_hasKnots_7 : decode cX3_hasKnots 7 = .ok (.ifCond .le 7, 3) := dk_158 0 7 (dk_at dksX3_hasKnots_0 7 rfl rfl)
theorem dX3_hasKnots_10 : decode cX3_hasKnots 10 = .ok (.iconst 1, 1) := dk_4 (dk_at dksX3_hasKnots_0 10 rfl rfl)
theorem dX3_hasKnots_11 : decode cX3_hasKnots 11 = .ok (.goto 4, 3) := dk_167 0 4 (dk_at dksX3_hasKnots_0 11 rfl rfl)
theorem dX3_hasKnots_14 : decode cX3_hasKnots 14 = .ok (.iconst 0, 1) := dk_3 (dk_at dksX3_hasKnots_0 14 rfl rfl)
theorem dX3_hasKnots_15 : decode cX3_hasKnots 15 = .ok (.ireturn, 1) := dk_172 (dk_at dksX3_hasKnots_0 15 rfl rfl)
abbrev cX3_get : ByteArray := prog_6_method_3_code
def yX3_get : MethodName := ⟨RX3, "get", "(I)I"⟩
def dkwX3_get_1 : List UInt8 := [182, 0, 20, 167, 0, 7, 42, 180, 0, 27, 172]
abbrev dktX3_get_1 : List UInt8 := dkwX3_get_1 ++ []
def dkwX3_get_0 : List UInt8 := [27, 154, 0, 13, 42, 180, 0, 10, 182, 0, 24, 167, 0, 22, 27, 4, 160, 0, 13, 42, 180, 0, 10]
abbrev dktX3_get_0 : List UInt8 := dkwX3_get_0 ++ dktX3_get_1
theorem dksX3_get_0 : cX3_get.data.toList.drop 0 = dktX3_get_0 := by decide +kernel
theorem dksX3_get_1 : cX3_get.data.toList.drop 23 = dktX3_get_1 := dk_seg dksX3_get_0 23 rfl rfl
theorem dX3_get_0 : decode cX3_get 0 = .ok (.iload_n 1, 1) := dk_27 (dk_at dksX3_get_0 0 rfl rfl)
theorem dX3_get_1 : decode cX3_get 1 = .ok (.ifCond .ne 13, 3) := dk_154 0 13 (dk_at dksX3_get_0 1 rfl rfl)
theorem dX3_get_4 : decode cX3_get 4 = .ok (.aload_n 0, 1) := dk_42 (dk_at dksX3_get_0 4 rfl rfl)
theorem dX3_get_5 : decode cX3_get 5 = .ok (.getfield 10, 3) := dk_180 0 10 (dk_at dksX3_get_0 5 rfl rfl)
theorem dX3_get_8 : decode cX3_get 8 = .ok (.invokevirtual 24, 3) := dk_182 0 24 (dk_at dksX3_get_0 8 rfl rfl)
theorem dX3_get_11 : decode cX3_get 11 = .ok (.goto 22, 3) := dk_167 0 22 (dk_at dksX3_get_0 11 rfl rfl)
theorem dX3_get_14 : decode cX3_get 14 = .ok (.iload_n 1, 1) := dk_27 (dk_at dksX3_get_0 14 rfl rfl)
theorem dX3_get_15 : decode cX3_get 15 = .ok (.iconst 1, 1) := dk_4 (dk_at dksX3_get_0 15 rfl rfl)
theorem dX3_get_16 : decode cX3_get 16 = .ok (.if_icmp .ne 13, 3) := dk_160 0 13 (dk_at dksX3_get_0 16 rfl rfl)
theorem dX3_get_19 : decode cX3_get 19 = .ok (.aload_n 0, 1) := dk_42 (dk_at dksX3_get_0 19 rfl rfl)
theorem dX3_get_20 : decode cX3_get 20 = .ok (.getfield 10, 3) := dk_180 0 10 (dk_at dksX3_get_0 20 rfl rfl)
theorem dX3_get_23 : decode cX3_get 23 = .ok (.invokevirtual 20, 3) := dk_182 0 20 (dk_at dksX3_get_1 0 rfl rfl)
theorem dX3_get_26 : decode cX3_get 26 = .ok (.goto 7, 3) := dk_167 0 7 (dk_at dksX3_get_1 3 rfl rfl)
theorem dX3_get_29 : decode cX3_get 29 = .ok (.aload_n 0, 1) := dk_42 (dk_at dksX3_get_1 6 rfl rfl)
theorem dX3_get_30 : decode cX3_get 30 = .ok (.getfield 27, 3) := dk_180 0 27 (dk_at dksX3_get_1 7 rfl rfl)
theorem dX3_get_33 : decode cX3_get 33 = .ok (.ireturn, 1) := dk_172 (dk_at dksX3_get_1 10 rfl rfl)
theorem q56 : (Jvm.Cond.initialized "KnotLetters$Letter") ∈ lw_all := lw_g (lw_at lw_m1 10 rfl) rfl
theorem q196 : (Jvm.Cond.instantiable "KnotLetters$Letter" (3 : Nat)) ∈ lw_all := lw_g (lw_at lw_m1 150 rfl) rfl
theorem q198 : (Jvm.Cond.instanceMethod ({ cls := "KnotLetters$Letter", name := "<init>", desc := "(I)V" } : Jvm.MethodName)) ∈ lw_all := lw_g (lw_at lw_m1 152 rfl) rfl
theorem q199 : (Jvm.Cond.code ({ cls := "KnotLetters$Letter", name := "<init>", desc := "(I)V" } : Jvm.MethodName) prog_6_method_1_code (2 : Nat) (Option.none : Option Jvm.ClassFile.FieldType)) ∈ lw_all := lw_g (lw_at lw_m1 153 rfl) rfl
theorem q200 : (Jvm.Cond.methodLink "KnotLetters$Letter" (1 : Nat) ({ cls := "java/lang/Object", name := "<init>", desc := "()V" } : Jvm.MethodName)) ∈ lw_all := lw_g (lw_at lw_m1 154 rfl) rfl
theorem q201 : (Jvm.Cond.classLink "KnotLetters$Letter" (7 : Nat) "KnotLetters$Knots") ∈ lw_all := lw_g (lw_at lw_m1 155 rfl) rfl
theorem q203 : (Jvm.Cond.methodLink "KnotLetters$Letter" (9 : Nat) ({ cls := "KnotLetters$Knots", name := "<init>", desc := "()V" } : Jvm.MethodName)) ∈ lw_all := lw_g (lw_at lw_m1 157 rfl) rfl
theorem q213 : (Jvm.Cond.fieldLink "KnotLetters$Letter" (16 : Nat) "KnotLetters$Letter" "name" "C") ∈ lw_all := lw_g (lw_at lw_m1 167 rfl) rfl
theorem q215 : (Jvm.Cond.fieldLink "KnotLetters$Letter" (10 : Nat) "KnotLetters$Letter" "row" "LKnotLetters$Knots;") ∈ lw_all := lw_g (lw_at lw_m1 169 rfl) rfl
theorem q217 : (Jvm.Cond.fieldLink "KnotLetters$Letter" (27 : Nat) "KnotLetters$Letter" "tied" "I") ∈ lw_all := lw_g (lw_at lw_m1 171 rfl) rfl
theorem q219 : (Jvm.Cond.laysFinal "KnotLetters$Letter" "KnotLetters$Letter" "name" "C") ∈ lw_all := lw_g (lw_at lw_m1 173 rfl) rfl
theorem q220 : (Jvm.Cond.soleField "KnotLetters$Letter" "name") ∈ lw_all := lw_g (lw_at lw_m1 174 rfl) rfl
theorem q221 : (Jvm.Cond.lays "KnotLetters$Letter" "KnotLetters$Letter" "row" "LKnotLetters$Knots;") ∈ lw_all := lw_g (lw_at lw_m1 175 rfl) rfl
theorem q222 : (Jvm.Cond.soleField "KnotLetters$Letter" "row") ∈ lw_all := lw_g (lw_at lw_m1 176 rfl) rfl
theorem q223 : (Jvm.Cond.lays "KnotLetters$Letter" "KnotLetters$Letter" "tied" "I") ∈ lw_all := lw_g (lw_at lw_m1 177 rfl) rfl
theorem q224 : (Jvm.Cond.soleField "KnotLetters$Letter" "tied") ∈ lw_all := lw_g (lw_at lw_m1 178 rfl) rfl
theorem q225 : (Jvm.Cond.superclass "KnotLetters$Letter" "java/lang/Object") ∈ lw_all := lw_g (lw_at lw_m1 179 rfl) rfl
theorem q265 : (Jvm.Cond.instanceMethod ({ cls := "KnotLetters$Letter", name := "hasKnots", desc := "()Z" } : Jvm.MethodName)) ∈ lw_all := lw_g (lw_at lw_m1 219 rfl) rfl
theorem q266 : (Jvm.Cond.selects "KnotLetters$Letter" ({ cls := "KnotLetters$Letter", name := "hasKnots", desc := "()Z" } : Jvm.MethodName) ({ cls := "KnotLetters$Letter", name := "hasKnots", desc := "()Z" } : Jvm.MethodName)) ∈ lw_all := lw_g (lw_at lw_m1 220 rfl) rfl
theorem q267 : (Jvm.Cond.code ({ cls := "KnotLetters$Letter", name := "hasKnots", desc := "()Z" } : Jvm.MethodName) prog_6_method_2_code (1 : Nat) (Option.some Jvm.ClassFile.FieldType.boolean)) ∈ lw_all := lw_g (lw_at lw_m1 221 rfl) rfl
theorem q268 : (Jvm.Cond.methodLink "KnotLetters$Letter" (20 : Nat) ({ cls := "KnotLetters$Knots", name := "length", desc := "()I" } : Jvm.MethodName)) ∈ lw_all := lw_g (lw_at lw_m1 222 rfl) rfl
theorem q984 : (Jvm.Cond.selects "KnotLetters$Letter" ({ cls := "java/lang/Object", name := "getClass", desc := "()Ljava/lang/Class;" } : Jvm.MethodName) ({ cls := "java/lang/Object", name := "getClass", desc := "()Ljava/lang/Class;" } : Jvm.MethodName)) ∈ lw_all := lw_g (lw_at lw_m4 218 rfl) rfl
theorem q1310 : (Jvm.Cond.selects "KnotLetters$Letter" ({ cls := "java/lang/Object", name := "equals", desc := "(Ljava/lang/Object;)Z" } : Jvm.MethodName) ({ cls := "java/lang/Object", name := "equals", desc := "(Ljava/lang/Object;)Z" } : Jvm.MethodName)) ∈ lw_all := lw_g (lw_at lw_m6 64 rfl) rfl
theorem q1504 : (Jvm.Cond.instanceMethod ({ cls := "KnotLetters$Letter", name := "get", desc := "(I)I" } : Jvm.MethodName)) ∈ lw_all := lw_g (lw_at lw_m7 18 rfl) rfl
theorem q1505 : (Jvm.Cond.selects "KnotLetters$Letter" ({ cls := "KnotLetters$Letter", name := "get", desc := "(I)I" } : Jvm.MethodName) ({ cls := "KnotLetters$Letter", name := "get", desc := "(I)I" } : Jvm.MethodName)) ∈ lw_all := lw_g (lw_at lw_m7 19 rfl) rfl
theorem q1506 : (Jvm.Cond.code ({ cls := "KnotLetters$Letter", name := "get", desc := "(I)I" } : Jvm.MethodName) prog_6_method_3_code (2 : Nat) (Option.some Jvm.ClassFile.FieldType.int)) ∈ lw_all := lw_g (lw_at lw_m7 20 rfl) rfl
theorem q1507 : (Jvm.Cond.methodLink "KnotLetters$Letter" (24 : Nat) ({ cls := "KnotLetters$Knots", name := "number", desc := "()I" } : Jvm.MethodName)) ∈ lw_all := lw_g (lw_at lw_m7 21 rfl) rfl
theorem q2368 : (Jvm.Cond.castable "KnotLetters$Letter" "java/lang/Object") ∈ lw_tbl := lw_at lw_m10 162 rfl
theorem in_X3 : ∀ w ∈ wsX30, w ∈ lw_all := lw_in wsX30 [219, 221, 223] (by decide +kernel) (by decide +kernel)

/-! KnotLetters$Knots -/
set_option maxRecDepth 100000
def RX4 : String := "KnotLetters$Knots"
def TX4 : u_T := fun k => match k with
  | _ => ("KnotLetters$Knots", "row", "Ljava/lang/StringBuilder;", true)
def tyX4 : Nat → FieldType := fun k => match k with
  | _ => .object "java/lang/StringBuilder"
abbrev wsX40 : List Cond := u_ws RX4 TX4 1
theorem nmX4 : ∀ a, a < 1 → ∀ b, b < 1 → a ≠ b → (TX4 a).2.1 ≠ (TX4 b).2.1 := by decide +kernel
theorem tyX4_ok : ∀ k, k < 1 → parseFieldDescriptor (TX4 k).2.2.1 = some (tyX4 k) := by decide +kernel
abbrev cX4_init : ByteArray := prog_5_method_1_code
def yX4_init : MethodName := ⟨RX4, "<init>", "()V"⟩
def dkwX4_init_0 : List UInt8 := [42, 183, 0, 3, 42, 187, 0, 9, 89, 183, 0, 11, 181, 0, 12, 177]
abbrev dktX4_init_0 : List UInt8 := dkwX4_init_0 ++ []
theorem dksX4_init_0 : cX4_init.data.toList.drop 0 = dktX4_init_0 := by decide +kernel
theorem dX4_init_0 : decode cX4_init 0 = .ok (.aload_n 0, 1) := dk_42 (dk_at dksX4_init_0 0 rfl rfl)
theorem dX4_init_1 : decode cX4_init 1 = .ok (.invokespecial 3, 3) := dk_183 0 3 (dk_at dksX4_init_0 1 rfl rfl)
theorem dX4_init_4 : decode cX4_init 4 = .ok (.aload_n 0, 1) := dk_42 (dk_at dksX4_init_0 4 rfl rfl)
theorem dX4_init_5 : decode cX4_init 5 = .ok (.new 9, 3) := dk_187 0 9 (dk_at dksX4_init_0 5 rfl rfl)
theorem dX4_init_8 : decode cX4_init 8 = .ok (.dup, 1) := dk_89 (dk_at dksX4_init_0 8 rfl rfl)
theorem dX4_init_9 : decode cX4_init 9 = .ok (.invokespecial 11, 3) := dk_183 0 11 (dk_at dksX4_init_0 9 rfl rfl)
theorem dX4_init_12 : decode cX4_init 12 = .ok (.putfield 12, 3) := dk_181 0 12 (dk_at dksX4_init_0 12 rfl rfl)
theorem dX4_init_15 : decode cX4_init 15 = .ok (.return_, 1) := dk_177 (dk_at dksX4_init_0 15 rfl rfl)
abbrev cX4_length : ByteArray := prog_5_method_5_code
def yX4_length : MethodName := ⟨RX4, "length", "()I"⟩
def dkwX4_length_0 : List UInt8 := [42, 180, 0, 12, 182, 0, 29, 172]
abbrev dktX4_length_0 : List UInt8 := dkwX4_length_0 ++ []
theorem dksX4_length_0 : cX4_length.data.toList.drop 0 = dktX4_length_0 := by decide +kernel
theorem dX4_length_0 : decode cX4_length 0 = .ok (.aload_n 0, 1) := dk_42 (dk_at dksX4_length_0 0 rfl rfl)
theorem dX4_length_1 : decode cX4_length 1 = .ok (.getfield 12, 3) := dk_180 0 12 (dk_at dksX4_length_0 1 rfl rfl)
theorem dX4_length_4 : decode cX4_length 4 = .ok (.invokevirtual 29, 3) := dk_182 0 29 (dk_at dksX4_length_0 4 rfl rfl)
theorem dX4_length_7 : decode cX4_length 7 = .ok (.ireturn, 1) := dk_172 (dk_at dksX4_length_0 7 rfl rfl)
abbrev cX4_beginsWith : ByteArray := prog_5_method_9_code
def yX4_beginsWith : MethodName := ⟨RX4, "beginsWith", "(Ljava/lang/CharSequence;)Z"⟩
def dkwX4_beginsWith_2 : List UInt8 := [167, 255, 226, 4, 172]
abbrev dktX4_beginsWith_2 : List UInt8 := dkwX4_beginsWith_2 ++ []
def dkwX4_beginsWith_1 : List UInt8 := [162, 0, 26, 42, 28, 182, 0, 52, 43, 28, 185, 0, 53, 2, 0, 159, 0, 5, 3, 172, 132, 2, 1]
abbrev dktX4_beginsWith_1 : List UInt8 := dkwX4_beginsWith_1 ++ dktX4_beginsWith_2
def dkwX4_beginsWith_0 : List UInt8 := [43, 185, 0, 48, 1, 0, 42, 182, 0, 51, 164, 0, 5, 3, 172, 3, 61, 28, 43, 185, 0, 48, 1, 0]
abbrev dktX4_beginsWith_0 : List UInt8 := dkwX4_beginsWith_0 ++ dktX4_beginsWith_1
theorem dksX4_beginsWith_0 : cX4_beginsWith.data.toList.drop 0 = dktX4_beginsWith_0 := by decide +kernel
theorem dksX4_beginsWith_1 : cX4_beginsWith.data.toList.drop 24 = dktX4_beginsWith_1 := dk_seg dksX4_beginsWith_0 24 rfl rfl
theorem dksX4_beginsWith_2 : cX4_beginsWith.data.toList.drop 47 = dktX4_beginsWith_2 := dk_seg dksX4_beginsWith_1 23 rfl rfl
theorem dX4_beginsWith_0 : decode cX4_beginsWith 0 = .ok (.aload_n 1, 1) := dk_43 (dk_at dksX4_beginsWith_0 0 rfl rfl)
theorem dX4_beginsWith_1 : decode cX4_beginsWith 1 = .ok (.invokeinterface 48 1, 5) := by decide +kernel
theorem dX4_beginsWith_6 : decode cX4_beginsWith 6 = .ok (.aload_n 0, 1) := dk_42 (dk_at dksX4_beginsWith_0 6 rfl rfl)
theorem dX4_beginsWith_7 : decode cX4_beginsWith 7 = .ok (.invokevirtual 51, 3) := dk_182 0 51 (dk_at dksX4_beginsWith_0 7 rfl rfl)
theorem dX4_beginsWith_10 : decode cX4_beginsWith 10 = .ok (.if_icmp .le 5, 3) := dk_164 0 5 (dk_at dksX4_beginsWith_0 10 rfl rfl)
theorem dX4_beginsWith_13 : decode cX4_beginsWith 13 = .ok (.iconst 0, 1) := dk_3 (dk_at dksX4_beginsWith_0 13 rfl rfl)
theorem dX4_beginsWith_14 : decode cX4_beginsWith 14 = .ok (.ireturn, 1) := dk_172 (dk_at dksX4_beginsWith_0 14 rfl rfl)
theorem dX4_beginsWith_15 : decode cX4_beginsWith 15 = .ok (.iconst 0, 1) := dk_3 (dk_at dksX4_beginsWith_0 15 rfl rfl)
theorem dX4_beginsWith_16 : decode cX4_beginsWith 16 = .ok (.istore_n 2, 1) := dk_61 (dk_at dksX4_beginsWith_0 16 rfl rfl)
theorem dX4_beginsWith_17 : decode cX4_beginsWith 17 = .ok (.iload_n 2, 1) := dk_28 (dk_at dksX4_beginsWith_0 17 rfl rfl)
theorem dX4_beginsWith_18 : decode cX4_beginsWith 18 = .ok (.aload_n 1, 1) := dk_43 (dk_at dksX4_beginsWith_0 18 rfl rfl)
theorem dX4_beginsWith_19 : decode cX4_beginsWith 19 = .ok (.invokeinterface 48 1, 5) := by decide +kernel
theorem dX4_beginsWith_24 : decode cX4_beginsWith 24 = .ok (.if_icmp .ge 26, 3) := dk_162 0 26 (dk_at dksX4_beginsWith_1 0 rfl rfl)
theorem dX4_beginsWith_27 : decode cX4_beginsWith 27 = .ok (.aload_n 0, 1) := dk_42 (dk_at dksX4_beginsWith_1 3 rfl rfl)
theorem dX4_beginsWith_28 : decode cX4_beginsWith 28 = .ok (.iload_n 2, 1) := dk_28 (dk_at dksX4_beginsWith_1 4 rfl rfl)
theorem dX4_beginsWith_29 : decode cX4_beginsWith 29 = .ok (.invokevirtual 52, 3) := dk_182 0 52 (dk_at dksX4_beginsWith_1 5 rfl rfl)
theorem dX4_beginsWith_32 : decode cX4_beginsWith 32 = .ok (.aload_n 1, 1) := dk_43 (dk_at dksX4_beginsWith_1 8 rfl rfl)
theorem dX4_beginsWith_33 : decode cX4_beginsWith 33 = .ok (.iload_n 2, 1) := dk_28 (dk_at dksX4_beginsWith_1 9 rfl rfl)
theorem dX4_beginsWith_34 : decode cX4_beginsWith 34 = .ok (.invokeinterface 53 2, 5) := by decide +kernel
theorem dX4_beginsWith_39 : decode cX4_beginsWith 39 = .ok (.if_icmp .eq 5, 3) := dk_159 0 5 (dk_at dksX4_beginsWith_1 15 rfl rfl)
theorem dX4_beginsWith_42 : decode cX4_beginsWith 42 = .ok (.iconst 0, 1) := dk_3 (dk_at dksX4_beginsWith_1 18 rfl rfl)
theorem dX4_beginsWith_43 : decode cX4_beginsWith 43 = .ok (.ireturn, 1) := dk_172 (dk_at dksX4_beginsWith_1 19 rfl rfl)
theorem dX4_beginsWith_44 : decode cX4_beginsWith 44 = .ok (.iinc 2 1, 3) := dk_132 2 1 (dk_at dksX4_beginsWith_1 20 rfl rfl)
theorem dX4_beginsWith_47 : decode cX4_beginsWith 47 = .ok (.goto (-30), 3) := dk_167 255 226 (dk_at dksX4_beginsWith_2 0 rfl rfl)
theorem dX4_beginsWith_50 : decode cX4_beginsWith 50 = .ok (.iconst 1, 1) := dk_4 (dk_at dksX4_beginsWith_2 3 rfl rfl)
theorem dX4_beginsWith_51 : decode cX4_beginsWith 51 = .ok (.ireturn, 1) := dk_172 (dk_at dksX4_beginsWith_2 4 rfl rfl)
abbrev cX4_charAt : ByteArray := prog_5_method_6_code
def yX4_charAt : MethodName := ⟨RX4, "charAt", "(I)C"⟩
def dkwX4_charAt_0 : List UInt8 := [42, 180, 0, 12, 27, 182, 0, 33, 172]
abbrev dktX4_charAt_0 : List UInt8 := dkwX4_charAt_0 ++ []
theorem dksX4_charAt_0 : cX4_charAt.data.toList.drop 0 = dktX4_charAt_0 := by decide +kernel
theorem dX4_charAt_0 : decode cX4_charAt 0 = .ok (.aload_n 0, 1) := dk_42 (dk_at dksX4_charAt_0 0 rfl rfl)
theorem dX4_charAt_1 : decode cX4_charAt 1 = .ok (.getfield 12, 3) := dk_180 0 12 (dk_at dksX4_charAt_0 1 rfl rfl)
theorem dX4_charAt_4 : decode cX4_charAt 4 = .ok (.iload_n 1, 1) := dk_27 (dk_at dksX4_charAt_0 4 rfl rfl)
theorem dX4_charAt_5 : decode cX4_charAt 5 = .ok (.invokevirtual 33, 3) := dk_182 0 33 (dk_at dksX4_charAt_0 5 rfl rfl)
theorem dX4_charAt_8 : decode cX4_charAt 8 = .ok (.ireturn, 1) := dk_172 (dk_at dksX4_charAt_0 8 rfl rfl)
abbrev cX4_toString : ByteArray := prog_5_method_8_code
def yX4_toString : MethodName := ⟨RX4, "toString", "()Ljava/lang/String;"⟩
def dkwX4_toString_0 : List UInt8 := [42, 180, 0, 12, 182, 0, 44, 176]
abbrev dktX4_toString_0 : List UInt8 := dkwX4_toString_0 ++ []
theorem dksX4_toString_0 : cX4_toString.data.toList.drop 0 = dktX4_toString_0 := by decide +kernel
theorem dX4_toString_0 : decode cX4_toString 0 = .ok (.aload_n 0, 1) := dk_42 (dk_at dksX4_toString_0 0 rfl rfl)
theorem dX4_toString_1 : decode cX4_toString 1 = .ok (.getfield 12, 3) := dk_180 0 12 (dk_at dksX4_toString_0 1 rfl rfl)
theorem dX4_toString_4 : decode cX4_toString 4 = .ok (.invokevirtual 44, 3) := dk_182 0 44 (dk_at dksX4_toString_0 4 rfl rfl)
theorem dX4_toString_7 : decode cX4_toString 7 = .ok (.areturn, 1) := dk_176 (dk_at dksX4_toString_0 7 rfl rfl)
abbrev cX4_of : ByteArray := prog_5_method_13_code
def yX4_of : MethodName := ⟨RX4, "of", "(I)LKnotLetters$Knots;"⟩
def dkwX4_of_2 : List UInt8 := [28, 16, 10, 112, 96, 146, 182, 0, 61, 87, 28, 16, 10, 108, 61, 167, 255, 204, 43, 176]
abbrev dktX4_of_2 : List UInt8 := dkwX4_of_2 ++ []
def dkwX4_of_1 : List UInt8 := [16, 10, 112, 7, 163, 0, 11, 43, 182, 0, 51, 7, 160, 0, 5, 1, 176, 43, 180, 0, 12, 3, 16, 48]
abbrev dktX4_of_1 : List UInt8 := dkwX4_of_1 ++ dktX4_of_2
def dkwX4_of_0 : List UInt8 := [187, 0, 13, 89, 183, 0, 60, 76, 26, 61, 28, 153, 0, 54, 28, 16, 10, 112, 4, 161, 0, 19, 28]
abbrev dktX4_of_0 : List UInt8 := dkwX4_of_0 ++ dktX4_of_1
theorem dksX4_of_0 : cX4_of.data.toList.drop 0 = dktX4_of_0 := by decide +kernel
theorem dksX4_of_1 : cX4_of.data.toList.drop 23 = dktX4_of_1 := dk_seg dksX4_of_0 23 rfl rfl
theorem dksX4_of_2 : cX4_of.data.toList.drop 47 = dktX4_of_2 := dk_seg dksX4_of_1 24 rfl rfl
theorem dX4_of_0 : decode cX4_of 0 = .ok (.new 13, 3) := dk_187 0 13 (dk_at dksX4_of_0 0 rfl rfl)
theorem dX4_of_3 : decode cX4_of 3 = .ok (.dup, 1) := dk_89 (dk_at dksX4_of_0 3 rfl rfl)
theorem dX4_of_4 : decode cX4_of 4 = .ok (.invokespecial 60, 3) := dk_183 0 60 (dk_at dksX4_of_0 4 rfl rfl)
theorem dX4_of_7 : decode cX4_of 7 = .ok (.astore_n 1, 1) := dk_76 (dk_at dksX4_of_0 7 rfl rfl)
theorem dX4_of_8 : decode cX4_of 8 = .ok (.iload_n 0, 1) := dk_26 (dk_at dksX4_of_0 8 rfl rfl)
theorem dX4_of_9 : decode cX4_of 9 = .ok (.istore_n 2, 1) := dk_61 (dk_at dksX4_of_0 9 rfl rfl)
theorem dX4_of_10 : decode cX4_of 10 = .ok (.iload_n 2, 1) := dk_28 (dk_at dksX4_of_0 10 rfl rfl)
theorem dX4_of_11 : decode cX4_of 11 = .ok (.ifCond .eq 54, 3) := dk_153 0 54 (dk_at dksX4_of_0 11 rfl rfl)
theorem dX4_of_14 : decode cX4_of 14 = .ok (.iload_n 2, 1) := dk_28 (dk_at dksX4_of_0 14 rfl rfl)
theorem dX4_of_15 : decode cX4_of 15 = .ok (.bipush 10, 2) := dk_16 10 (dk_at dksX4_of_0 15 rfl rfl)
theorem dX4_of_17 : decode cX4_of 17 = .ok (.irem, 1) := dk_112 (dk_at dksX4_of_0 17 rfl rfl)
theorem dX4_of_18 : decode cX4_of 18 = .ok (.iconst 1, 1) := dk_4 (dk_at dksX4_of_0 18 rfl rfl)
theorem dX4_of_19 : decode cX4_of 19 = .ok (.if_icmp .lt 19, 3) := dk_161 0 19 (dk_at dksX4_of_0 19 rfl rfl)
theorem dX4_of_22 : decode cX4_of 22 = .ok (.iload_n 2, 1) := dk_28 (dk_at dksX4_of_0 22 rfl rfl)
theorem dX4_of_23 : decode cX4_of 23 = .ok (.bipush 10, 2) := dk_16 10 (dk_at dksX4_of_1 0 rfl rfl)
theorem dX4_of_25 : decode cX4_of 25 = .ok (.irem, 1) := dk_112 (dk_at dksX4_of_1 2 rfl rfl)
theorem dX4_of_26 : decode cX4_of 26 = .ok (.iconst 4, 1) := dk_7 (dk_at dksX4_of_1 3 rfl rfl)
theorem dX4_of_27 : decode cX4_of 27 = .ok (.if_icmp .gt 11, 3) := dk_163 0 11 (dk_at dksX4_of_1 4 rfl rfl)
theorem dX4_of_30 : decode cX4_of 30 = .ok (.aload_n 1, 1) := dk_43 (dk_at dksX4_of_1 7 rfl rfl)
theorem dX4_of_31 : decode cX4_of 31 = .ok (.invokevirtual 51, 3) := dk_182 0 51 (dk_at dksX4_of_1 8 rfl rfl)
theorem dX4_of_34 : decode cX4_of 34 = .ok (.iconst 4, 1) := dk_7 (dk_at dksX4_of_1 11 rfl rfl)
theorem dX4_of_35 : decode cX4_of 35 = .ok (.if_icmp .ne 5, 3) := dk_160 0 5 (dk_at dksX4_of_1 12 rfl rfl)
theorem dX4_of_38 : decode cX4_of 38 = .ok (.aconst_null, 1) := dk_1 (dk_at dksX4_of_1 15 rfl rfl)
theorem dX4_of_39 : decode cX4_of 39 = .ok (.areturn, 1) := dk_176 (dk_at dksX4_of_1 16 rfl rfl)
theorem dX4_of_40 : decode cX4_of 40 = .ok (.aload_n 1, 1) := dk_43 (dk_at dksX4_of_1 17 rfl rfl)
theorem dX4_of_41 : decode cX4_of 41 = .ok (.getfield 12, 3) := dk_180 0 12 (dk_at dksX4_of_1 18 rfl rfl)
theorem dX4_of_44 : decode cX4_of 44 = .ok (.iconst 0, 1) := dk_3 (dk_at dksX4_of_1 21 rfl rfl)
theorem dX4_of_45 : decode cX4_of 45 = .ok (.bipush 48, 2) := dk_16 48 (dk_at dksX4_of_1 22 rfl rfl)
theorem dX4_of_47 : decode cX4_of 47 = .ok (.iload_n 2, 1) := dk_28 (dk_at dksX4_of_2 0 rfl rfl)
theorem dX4_of_48 : decode cX4_of 48 = .ok (.bipush 10, 2) := dk_16 10 (dk_at dksX4_of_2 1 rfl rfl)
theorem dX4_of_50 : decode cX4_of 50 = .ok (.irem, 1) := dk_112 (dk_at dksX4_of_2 3 rfl rfl)
theorem dX4_of_51 : decode cX4_of 51 = .ok (.iadd, 1) := dk_96 (dk_at dksX4_of_2 4 rfl rfl)
theorem dX4_of_52 : decode cX4_of 52 = .ok (.i2c, 1) := dk_146 (dk_at dksX4_of_2 5 rfl rfl)
theorem dX4_of_53 : decode cX4_of 53 = .ok (.invokevirtual 61, 3) := dk_182 0 61 (dk_at dksX4_of_2 6 rfl rfl)
theorem dX4_of_56 : decode cX4_of 56 = .ok (.pop, 1) := dk_87 (dk_at dksX4_of_2 9 rfl rfl)
theorem dX4_of_57 : decode cX4_of 57 = .ok (.iload_n 2, 1) := dk_28 (dk_at dksX4_of_2 10 rfl rfl)
theorem dX4_of_58 : decode cX4_of 58 = .ok (.bipush 10, 2) := dk_16 10 (dk_at dksX4_of_2 11 rfl rfl)
theorem dX4_of_60 : decode cX4_of 60 = .ok (.idiv, 1) := dk_108 (dk_at dksX4_of_2 13 rfl rfl)
theorem dX4_of_61 : decode cX4_of 61 = .ok (.istore_n 2, 1) := dk_61 (dk_at dksX4_of_2 14 rfl rfl)
theorem dX4_of_62 : decode cX4_of 62 = .ok (.goto (-52), 3) := dk_167 255 204 (dk_at dksX4_of_2 15 rfl rfl)
theorem dX4_of_65 : decode cX4_of 65 = .ok (.aload_n 1, 1) := dk_43 (dk_at dksX4_of_2 18 rfl rfl)
theorem dX4_of_66 : decode cX4_of 66 = .ok (.areturn, 1) := dk_176 (dk_at dksX4_of_2 19 rfl rfl)
abbrev cX4_number : ByteArray := prog_5_method_11_code
def yX4_number : MethodName := ⟨RX4, "number", "()I"⟩
def dkwX4_number_1 : List UInt8 := [172]
abbrev dktX4_number_1 : List UInt8 := dkwX4_number_1 ++ []
def dkwX4_number_0 : List UInt8 := [42, 180, 0, 12, 182, 0, 29, 154, 0, 7, 3, 167, 0, 13, 42, 180, 0, 12, 182, 0, 44, 184, 0, 54]
abbrev dktX4_number_0 : List UInt8 := dkwX4_number_0 ++ dktX4_number_1
theorem dksX4_number_0 : cX4_number.data.toList.drop 0 = dktX4_number_0 := by decide +kernel
theorem dksX4_number_1 : cX4_number.data.toList.drop 24 = dktX4_number_1 := dk_seg dksX4_number_0 24 rfl rfl
theorem dX4_number_0 : decode cX4_number 0 = .ok (.aload_n 0, 1) := dk_42 (dk_at dksX4_number_0 0 rfl rfl)
theorem dX4_number_1 : decode cX4_number 1 = .ok (.getfield 12, 3) := dk_180 0 12 (dk_at dksX4_number_0 1 rfl rfl)
theorem dX4_number_4 : decode cX4_number 4 = .ok (.invokevirtual 29, 3) := dk_182 0 29 (dk_at dksX4_number_0 4 rfl rfl)
theorem dX4_number_7 : decode cX4_number 7 = .ok (.ifCond .ne 7, 3) := dk_154 0 7 (dk_at dksX4_number_0 7 rfl rfl)
theorem dX4_number_10 : decode cX4_number 10 = .ok (.iconst 0, 1) := dk_3 (dk_at dksX4_number_0 10 rfl rfl)
theorem dX4_number_11 : decode cX4_number 11 = .ok (.goto 13, 3) := dk_167 0 13 (dk_at dksX4_number_0 11 rfl rfl)
theorem dX4_number_14 : decode cX4_number 14 = .ok (.aload_n 0, 1) := dk_42 (dk_at dksX4_number_0 14 rfl rfl)
theorem dX4_number_15 : decode cX4_number 15 = .ok (.getfield 12, 3) := dk_180 0 12 (dk_at dksX4_number_0 15 rfl rfl)
theorem dX4_number_18 : decode cX4_number 18 = .ok (.invokevirtual 44, 3) := dk_182 0 44 (dk_at dksX4_number_0 18 rfl rfl)
theorem dX4_number_21 : decode cX4_number 21 = .ok (.invokestatic 54, 3) := dk_184 0 54 (dk_at dksX4_number_0 21 rfl rfl)
theorem dX4_number_24 : decode cX4_number 24 = .ok (.ireturn, 1) := dk_172 (dk_at dksX4_number_1 0 rfl rfl)
abbrev cX4_gaps : ByteArray := prog_5_method_12_code
def yX4_gaps : MethodName := ⟨RX4, "gaps", "()I"⟩
def dkwX4_gaps_1 : List UInt8 := [167, 0, 4, 3, 96, 60, 132, 2, 1, 167, 255, 227, 27, 172]
abbrev dktX4_gaps_1 : List UInt8 := dkwX4_gaps_1 ++ []
def dkwX4_gaps_0 : List UInt8 := [3, 60, 3, 61, 28, 42, 182, 0, 51, 162, 0, 27, 27, 42, 28, 182, 0, 52, 16, 53, 160, 0, 7, 4]
abbrev dktX4_gaps_0 : List UInt8 := dkwX4_gaps_0 ++ dktX4_gaps_1
theorem dksX4_gaps_0 : cX4_gaps.data.toList.drop 0 = dktX4_gaps_0 := by decide +kernel
theorem dksX4_gaps_1 : cX4_gaps.data.toList.drop 24 = dktX4_gaps_1 := dk_seg dksX4_gaps_0 24 rfl rfl
theorem dX4_gaps_0 : decode cX4_gaps 0 = .ok (.iconst 0, 1) := dk_3 (dk_at dksX4_gaps_0 0 rfl rfl)
theorem dX4_gaps_1 : decode cX4_gaps 1 = .ok (.istore_n 1, 1) := dk_60 (dk_at dksX4_gaps_0 1 rfl rfl)
theorem dX4_gaps_2 : decode cX4_gaps 2 = .ok (.iconst 0, 1) := dk_3 (dk_at dksX4_gaps_0 2 rfl rfl)
theorem dX4_gaps_3 : decode cX4_gaps 3 = .ok (.istore_n 2, 1) := dk_61 (dk_at dksX4_gaps_0 3 rfl rfl)
theorem dX4_gaps_4 : decode cX4_gaps 4 = .ok (.iload_n 2, 1) := dk_28 (dk_at dksX4_gaps_0 4 rfl rfl)
theorem dX4_gaps_5 : decode cX4_gaps 5 = .ok (.aload_n 0, 1) := dk_42 (dk_at dksX4_gaps_0 5 rfl rfl)
theorem dX4_gaps_6 : decode cX4_gaps 6 = .ok (.invokevirtual 51, 3) := dk_182 0 51 (dk_at dksX4_gaps_0 6 rfl rfl)
theorem dX4_gaps_9 : decode cX4_gaps 9 = .ok (.if_icmp .ge 27, 3) := dk_162 0 27 (dk_at dksX4_gaps_0 9 rfl rfl)
theorem dX4_gaps_12 : decode cX4_gaps 12 = .ok (.iload_n 1, 1) := dk_27 (dk_at dksX4_gaps_0 12 rfl rfl)
theorem dX4_gaps_13 : decode cX4_gaps 13 = .ok (.aload_n 0, 1) := dk_42 (dk_at dksX4_gaps_0 13 rfl rfl)
theorem dX4_gaps_14 : decode cX4_gaps 14 = .ok (.iload_n 2, 1) := dk_28 (dk_at dksX4_gaps_0 14 rfl rfl)
theorem dX4_gaps_15 : decode cX4_gaps 15 = .ok (.invokevirtual 52, 3) := dk_182 0 52 (dk_at dksX4_gaps_0 15 rfl rfl)
theorem dX4_gaps_18 : decode cX4_gaps 18 = .ok (.bipush 53, 2) := dk_16 53 (dk_at dksX4_gaps_0 18 rfl rfl)
theorem dX4_gaps_20 : decode cX4_gaps 20 = .ok (.if_icmp .ne 7, 3) := dk_160 0 7 (dk_at dksX4_gaps_0 20 rfl rfl)
theorem dX4_gaps_23 : decode cX4_gaps 23 = .ok (.iconst 1, 1) := dk_4 (dk_at dksX4_gaps_0 23 rfl rfl)
theorem dX4_gaps_24 : decode cX4_gaps 24 = .ok (.goto 4, 3) := dk_167 0 4 (dk_at dksX4_gaps_1 0 rfl rfl)
theorem dX4_gaps_27 : decode cX4_gaps 27 = .ok (.iconst 0, 1) := dk_3 (dk_at dksX4_gaps_1 3 rfl rfl)
theorem dX4_gaps_28 : decode cX4_gaps 28 = .ok (.iadd, 1) := dk_96 (dk_at dksX4_gaps_1 4 rfl rfl)
theorem dX4_gaps_29 : decode cX4_gaps 29 = .ok (.istore_n 1, 1) := dk_60 (dk_at dksX4_gaps_1 5 rfl rfl)
theorem dX4_gaps_30 : decode cX4_gaps 30 = .ok (.iinc 2 1, 3) := dk_132 2 1 (dk_at dksX4_gaps_1 6 rfl rfl)
theorem dX4_gaps_33 : decode cX4_gaps 33 = .ok (.goto (-29), 3) := dk_167 255 227 (dk_at dksX4_gaps_1 9 rfl rfl)
theorem dX4_gaps_36 : decode cX4_gaps 36 = .ok (.iload_n 1, 1) := dk_27 (dk_at dksX4_gaps_1 12 rfl rfl)
theorem dX4_gaps_37 : decode cX4_gaps 37 = .ok (.ireturn, 1) := dk_172 (dk_at dksX4_gaps_1 13 rfl rfl)
abbrev cX4_subSequence : ByteArray := prog_5_method_7_code
def yX4_subSequence : MethodName := ⟨RX4, "subSequence", "(II)LKnotLetters$Knots;"⟩
def dkwX4_subSequence_0 : List UInt8 := [187, 0, 13, 89, 42, 180, 0, 12, 27, 28, 182, 0, 37, 183, 0, 41, 176]
abbrev dktX4_subSequence_0 : List UInt8 := dkwX4_subSequence_0 ++ []
theorem dksX4_subSequence_0 : cX4_subSequence.data.toList.drop 0 = dktX4_subSequence_0 := by decide +kernel
theorem dX4_subSequence_0 : decode cX4_subSequence 0 = .ok (.new 13, 3) := dk_187 0 13 (dk_at dksX4_subSequence_0 0 rfl rfl)
theorem dX4_subSequence_3 : decode cX4_subSequence 3 = .ok (.dup, 1) := dk_89 (dk_at dksX4_subSequence_0 3 rfl rfl)
theorem dX4_subSequence_4 : decode cX4_subSequence 4 = .ok (.aload_n 0, 1) := dk_42 (dk_at dksX4_subSequence_0 4 rfl rfl)
theorem dX4_subSequence_5 : decode cX4_subSequence 5 = .ok (.getfield 12, 3) := dk_180 0 12 (dk_at dksX4_subSequence_0 5 rfl rfl)
theorem dX4_subSequence_8 : decode cX4_subSequence 8 = .ok (.iload_n 1, 1) := dk_27 (dk_at dksX4_subSequence_0 8 rfl rfl)
theorem dX4_subSequence_9 : decode cX4_subSequence 9 = .ok (.iload_n 2, 1) := dk_28 (dk_at dksX4_subSequence_0 9 rfl rfl)
theorem dX4_subSequence_10 : decode cX4_subSequence 10 = .ok (.invokevirtual 37, 3) := dk_182 0 37 (dk_at dksX4_subSequence_0 10 rfl rfl)
theorem dX4_subSequence_13 : decode cX4_subSequence 13 = .ok (.invokespecial 41, 3) := dk_183 0 41 (dk_at dksX4_subSequence_0 13 rfl rfl)
theorem dX4_subSequence_16 : decode cX4_subSequence 16 = .ok (.areturn, 1) := dk_176 (dk_at dksX4_subSequence_0 16 rfl rfl)
abbrev cX4_init_2 : ByteArray := prog_5_method_2_code
def yX4_init_2 : MethodName := ⟨RX4, "<init>", "(Ljava/lang/CharSequence;)V"⟩
def dkwX4_init_2_1 : List UInt8 := [177]
abbrev dktX4_init_2_1 : List UInt8 := dkwX4_init_2_1 ++ []
def dkwX4_init_2_0 : List UInt8 := [42, 183, 0, 3, 42, 187, 0, 9, 89, 183, 0, 11, 181, 0, 12, 42, 180, 0, 12, 43, 182, 0, 18, 87]
abbrev dktX4_init_2_0 : List UInt8 := dkwX4_init_2_0 ++ dktX4_init_2_1
theorem dksX4_init_2_0 : cX4_init_2.data.toList.drop 0 = dktX4_init_2_0 := by decide +kernel
theorem dksX4_init_2_1 : cX4_init_2.data.toList.drop 24 = dktX4_init_2_1 := dk_seg dksX4_init_2_0 24 rfl rfl
theorem dX4_init_2_0 : decode cX4_init_2 0 = .ok (.aload_n 0, 1) := dk_42 (dk_at dksX4_init_2_0 0 rfl rfl)
theorem dX4_init_2_1 : decode cX4_init_2 1 = .ok (.invokespecial 3, 3) := dk_183 0 3 (dk_at dksX4_init_2_0 1 rfl rfl)
theorem dX4_init_2_4 : decode cX4_init_2 4 = .ok (.aload_n 0, 1) := dk_42 (dk_at dksX4_init_2_0 4 rfl rfl)
theorem dX4_init_2_5 : decode cX4_init_2 5 = .ok (.new 9, 3) := dk_187 0 9 (dk_at dksX4_init_2_0 5 rfl rfl)
theorem dX4_init_2_8 : decode cX4_init_2 8 = .ok (.dup, 1) := dk_89 (dk_at dksX4_init_2_0 8 rfl rfl)
theorem dX4_init_2_9 : decode cX4_init_2 9 = .ok (.invokespecial 11, 3) := dk_183 0 11 (dk_at dksX4_init_2_0 9 rfl rfl)
theorem dX4_init_2_12 : decode cX4_init_2 12 = .ok (.putfield 12, 3) := dk_181 0 12 (dk_at dksX4_init_2_0 12 rfl rfl)
theorem dX4_init_2_15 : decode cX4_init_2 15 = .ok (.aload_n 0, 1) := dk_42 (dk_at dksX4_init_2_0 15 rfl rfl)
theorem dX4_init_2_16 : decode cX4_init_2 16 = .ok (.getfield 12, 3) := dk_180 0 12 (dk_at dksX4_init_2_0 16 rfl rfl)
theorem dX4_init_2_19 : decode cX4_init_2 19 = .ok (.aload_n 1, 1) := dk_43 (dk_at dksX4_init_2_0 19 rfl rfl)
theorem dX4_init_2_20 : decode cX4_init_2 20 = .ok (.invokevirtual 18, 3) := dk_182 0 18 (dk_at dksX4_init_2_0 20 rfl rfl)
theorem dX4_init_2_23 : decode cX4_init_2 23 = .ok (.pop, 1) := dk_87 (dk_at dksX4_init_2_0 23 rfl rfl)
theorem dX4_init_2_24 : decode cX4_init_2 24 = .ok (.return_, 1) := dk_177 (dk_at dksX4_init_2_1 0 rfl rfl)
abbrev cX4_hasAt : ByteArray := prog_5_method_10_code
def yX4_hasAt : MethodName := ⟨RX4, "hasAt", "(ILjava/lang/CharSequence;)Z"⟩
def dkwX4_hasAt_2 : List UInt8 := [159, 0, 5, 3, 172, 132, 3, 1, 167, 255, 224, 4, 172]
abbrev dktX4_hasAt_2 : List UInt8 := dkwX4_hasAt_2 ++ []
def dkwX4_hasAt_1 : List UInt8 := [185, 0, 48, 1, 0, 162, 0, 28, 42, 27, 29, 96, 182, 0, 52, 44, 29, 185, 0, 53, 2, 0]
abbrev dktX4_hasAt_1 : List UInt8 := dkwX4_hasAt_1 ++ dktX4_hasAt_2
def dkwX4_hasAt_0 : List UInt8 := [27, 44, 185, 0, 48, 1, 0, 96, 42, 182, 0, 51, 164, 0, 5, 3, 172, 3, 62, 29, 44]
abbrev dktX4_hasAt_0 : List UInt8 := dkwX4_hasAt_0 ++ dktX4_hasAt_1
theorem dksX4_hasAt_0 : cX4_hasAt.data.toList.drop 0 = dktX4_hasAt_0 := by decide +kernel
theorem dksX4_hasAt_1 : cX4_hasAt.data.toList.drop 21 = dktX4_hasAt_1 := dk_seg dksX4_hasAt_0 21 rfl rfl
theorem dksX4_hasAt_2 : cX4_hasAt.data.toList.drop 43 = dktX4_hasAt_2 := dk_seg dksX4_hasAt_1 22 rfl rfl
theorem dX4_hasAt_0 : decode cX4_hasAt 0 = .ok (.iload_n 1, 1) := dk_27 (dk_at dksX4_hasAt_0 0 rfl rfl)
theorem dX4_hasAt_1 : decode cX4_hasAt 1 = .ok (.aload_n 2, 1) := dk_44 (dk_at dksX4_hasAt_0 1 rfl rfl)
theorem dX4_hasAt_2 : decode cX4_hasAt 2 = .ok (.invokeinterface 48 1, 5) := by decide +kernel
theorem dX4_hasAt_7 : decode cX4_hasAt 7 = .ok (.iadd, 1) := dk_96 (dk_at dksX4_hasAt_0 7 rfl rfl)
theorem dX4_hasAt_8 : decode cX4_hasAt 8 = .ok (.aload_n 0, 1) := dk_42 (dk_at dksX4_hasAt_0 8 rfl rfl)
theorem dX4_hasAt_9 : decode cX4_hasAt 9 = .ok (.invokevirtual 51, 3) := dk_182 0 51 (dk_at dksX4_hasAt_0 9 rfl rfl)
theorem dX4_hasAt_12 : decode cX4_hasAt 12 = .ok (.if_icmp .le 5, 3) := dk_164 0 5 (dk_at dksX4_hasAt_0 12 rfl rfl)
theorem dX4_hasAt_15 : decode cX4_hasAt 15 = .ok (.iconst 0, 1) := dk_3 (dk_at dksX4_hasAt_0 15 rfl rfl)
theorem dX4_hasAt_16 : decode cX4_hasAt 16 = .ok (.ireturn, 1) := dk_172 (dk_at dksX4_hasAt_0 16 rfl rfl)
theorem dX4_hasAt_17 : decode cX4_hasAt 17 = .ok (.iconst 0, 1) := dk_3 (dk_at dksX4_hasAt_0 17 rfl rfl)
theorem dX4_hasAt_18 : decode cX4_hasAt 18 = .ok (.istore_n 3, 1) := dk_62 (dk_at dksX4_hasAt_0 18 rfl rfl)
theorem dX4_hasAt_19 : decode cX4_hasAt 19 = .ok (.iload_n 3, 1) := dk_29 (dk_at dksX4_hasAt_0 19 rfl rfl)
theorem dX4_hasAt_20 : decode cX4_hasAt 20 = .ok (.aload_n 2, 1) := dk_44 (dk_at dksX4_hasAt_0 20 rfl rfl)
theorem dX4_hasAt_21 : decode cX4_hasAt 21 = .ok (.invokeinterface 48 1, 5) := by decide +kernel
theorem dX4_hasAt_26 : decode cX4_hasAt 26 = .ok (.if_icmp .ge 28, 3) := dk_162 0 28 (dk_at dksX4_hasAt_1 5 rfl rfl)
theorem dX4_hasAt_29 : decode cX4_hasAt 29 = .ok (.aload_n 0, 1) := dk_42 (dk_at dksX4_hasAt_1 8 rfl rfl)
theorem dX4_hasAt_30 : decode cX4_hasAt 30 = .ok (.iload_n 1, 1) := dk_27 (dk_at dksX4_hasAt_1 9 rfl rfl)
theorem dX4_hasAt_31 : decode cX4_hasAt 31 = .ok (.iload_n 3, 1) := dk_29 (dk_at dksX4_hasAt_1 10 rfl rfl)
theorem dX4_hasAt_32 : decode cX4_hasAt 32 = .ok (.iadd, 1) := dk_96 (dk_at dksX4_hasAt_1 11 rfl rfl)
theorem dX4_hasAt_33 : decode cX4_hasAt 33 = .ok (.invokevirtual 52, 3) := dk_182 0 52 (dk_at dksX4_hasAt_1 12 rfl rfl)
theorem dX4_hasAt_36 : decode cX4_hasAt 36 = .ok (.aload_n 2, 1) := dk_44 (dk_at dksX4_hasAt_1 15 rfl rfl)
theorem dX4_hasAt_37 : decode cX4_hasAt 37 = .ok (.iload_n 3, 1) := dk_29 (dk_at dksX4_hasAt_1 16 rfl rfl)
theorem dX4_hasAt_38 : decode cX4_hasAt 38 = .ok (.invokeinterface 53 2, 5) := by decide +kernel
theorem dX4_hasAt_43 : decode cX4_hasAt 43 = .ok (.if_icmp .eq 5, 3) := dk_159 0 5 (dk_at dksX4_hasAt_2 0 rfl rfl)
theorem dX4_hasAt_46 : decode cX4_hasAt 46 = .ok (.iconst 0, 1) := dk_3 (dk_at dksX4_hasAt_2 3 rfl rfl)
theorem dX4_hasAt_47 : decode cX4_hasAt 47 = .ok (.ireturn, 1) := dk_172 (dk_at dksX4_hasAt_2 4 rfl rfl)
theorem dX4_hasAt_48 : decode cX4_hasAt 48 = .ok (.iinc 3 1, 3) := dk_132 3 1 (dk_at dksX4_hasAt_2 5 rfl rfl)
theorem dX4_hasAt_51 : decode cX4_hasAt 51 = .ok (.goto (-32), 3) := dk_167 255 224 (dk_at dksX4_hasAt_2 8 rfl rfl)
theorem dX4_hasAt_54 : decode cX4_hasAt 54 = .ok (.iconst 1, 1) := dk_4 (dk_at dksX4_hasAt_2 11 rfl rfl)
theorem dX4_hasAt_55 : decode cX4_hasAt 55 = .ok (.ireturn, 1) := dk_172 (dk_at dksX4_hasAt_2 12 rfl rfl)
abbrev cX4_add : ByteArray := prog_5_method_3_code
def yX4_add : MethodName := ⟨RX4, "add", "(C)V"⟩
def dkwX4_add_0 : List UInt8 := [42, 180, 0, 12, 27, 182, 0, 22, 87, 177]
abbrev dktX4_add_0 : List UInt8 := dkwX4_add_0 ++ []
theorem dksX4_add_0 : cX4_add.data.toList.drop 0 = dktX4_add_0 := by decide +kernel
theorem dX4_add_0 : decode cX4_add 0 = .ok (.aload_n 0, 1) := dk_42 (dk_at dksX4_add_0 0 rfl rfl)
theorem dX4_add_1 : decode cX4_add 1 = .ok (.getfield 12, 3) := dk_180 0 12 (dk_at dksX4_add_0 1 rfl rfl)
theorem dX4_add_4 : decode cX4_add 4 = .ok (.iload_n 1, 1) := dk_27 (dk_at dksX4_add_0 4 rfl rfl)
theorem dX4_add_5 : decode cX4_add 5 = .ok (.invokevirtual 22, 3) := dk_182 0 22 (dk_at dksX4_add_0 5 rfl rfl)
theorem dX4_add_8 : decode cX4_add 8 = .ok (.pop, 1) := dk_87 (dk_at dksX4_add_0 8 rfl rfl)
theorem dX4_add_9 : decode cX4_add 9 = .ok (.return_, 1) := dk_177 (dk_at dksX4_add_0 9 rfl rfl)
abbrev cX4_set : ByteArray := prog_5_method_4_code
def yX4_set : MethodName := ⟨RX4, "set", "(IC)V"⟩
def dkwX4_set_0 : List UInt8 := [42, 180, 0, 12, 27, 28, 182, 0, 25, 177]
abbrev dktX4_set_0 : List UInt8 := dkwX4_set_0 ++ []
theorem dksX4_set_0 : cX4_set.data.toList.drop 0 = dktX4_set_0 := by decide +kernel
theorem dX4_set_0 : decode cX4_set 0 = .ok (.aload_n 0, 1) := dk_42 (dk_at dksX4_set_0 0 rfl rfl)
theorem dX4_set_1 : decode cX4_set 1 = .ok (.getfield 12, 3) := dk_180 0 12 (dk_at dksX4_set_0 1 rfl rfl)
theorem dX4_set_4 : decode cX4_set 4 = .ok (.iload_n 1, 1) := dk_27 (dk_at dksX4_set_0 4 rfl rfl)
theorem dX4_set_5 : decode cX4_set 5 = .ok (.iload_n 2, 1) := dk_28 (dk_at dksX4_set_0 5 rfl rfl)
theorem dX4_set_6 : decode cX4_set 6 = .ok (.invokevirtual 25, 3) := dk_182 0 25 (dk_at dksX4_set_0 6 rfl rfl)
theorem dX4_set_9 : decode cX4_set 9 = .ok (.return_, 1) := dk_177 (dk_at dksX4_set_0 9 rfl rfl)
theorem q57 : (Jvm.Cond.initialized "KnotLetters$Knots") ∈ lw_all := lw_g (lw_at lw_m1 11 rfl) rfl
theorem q202 : (Jvm.Cond.instantiable "KnotLetters$Knots" (1 : Nat)) ∈ lw_all := lw_g (lw_at lw_m1 156 rfl) rfl
theorem q204 : (Jvm.Cond.instanceMethod ({ cls := "KnotLetters$Knots", name := "<init>", desc := "()V" } : Jvm.MethodName)) ∈ lw_all := lw_g (lw_at lw_m1 158 rfl) rfl
theorem q205 : (Jvm.Cond.code ({ cls := "KnotLetters$Knots", name := "<init>", desc := "()V" } : Jvm.MethodName) prog_5_method_1_code (1 : Nat) (Option.none : Option Jvm.ClassFile.FieldType)) ∈ lw_all := lw_g (lw_at lw_m1 159 rfl) rfl
theorem q206 : (Jvm.Cond.methodLink "KnotLetters$Knots" (3 : Nat) ({ cls := "java/lang/Object", name := "<init>", desc := "()V" } : Jvm.MethodName)) ∈ lw_all := lw_g (lw_at lw_m1 160 rfl) rfl
theorem q207 : (Jvm.Cond.classLink "KnotLetters$Knots" (9 : Nat) "java/lang/StringBuilder") ∈ lw_all := lw_g (lw_at lw_m1 161 rfl) rfl
theorem q208 : (Jvm.Cond.methodLink "KnotLetters$Knots" (11 : Nat) ({ cls := "java/lang/StringBuilder", name := "<init>", desc := "()V" } : Jvm.MethodName)) ∈ lw_all := lw_g (lw_at lw_m1 162 rfl) rfl
theorem q209 : (Jvm.Cond.fieldLink "KnotLetters$Knots" (12 : Nat) "KnotLetters$Knots" "row" "Ljava/lang/StringBuilder;") ∈ lw_all := lw_g (lw_at lw_m1 163 rfl) rfl
theorem q210 : (Jvm.Cond.laysFinal "KnotLetters$Knots" "KnotLetters$Knots" "row" "Ljava/lang/StringBuilder;") ∈ lw_all := lw_g (lw_at lw_m1 164 rfl) rfl
theorem q211 : (Jvm.Cond.soleField "KnotLetters$Knots" "row") ∈ lw_all := lw_g (lw_at lw_m1 165 rfl) rfl
theorem q212 : (Jvm.Cond.superclass "KnotLetters$Knots" "java/lang/Object") ∈ lw_all := lw_g (lw_at lw_m1 166 rfl) rfl
theorem q269 : (Jvm.Cond.instanceMethod ({ cls := "KnotLetters$Knots", name := "length", desc := "()I" } : Jvm.MethodName)) ∈ lw_all := lw_g (lw_at lw_m1 223 rfl) rfl
theorem q270 : (Jvm.Cond.selects "KnotLetters$Knots" ({ cls := "KnotLetters$Knots", name := "length", desc := "()I" } : Jvm.MethodName) ({ cls := "KnotLetters$Knots", name := "length", desc := "()I" } : Jvm.MethodName)) ∈ lw_all := lw_g (lw_at lw_m1 224 rfl) rfl
theorem q271 : (Jvm.Cond.code ({ cls := "KnotLetters$Knots", name := "length", desc := "()I" } : Jvm.MethodName) prog_5_method_5_code (1 : Nat) (Option.some Jvm.ClassFile.FieldType.int)) ∈ lw_all := lw_g (lw_at lw_m1 225 rfl) rfl
theorem q272 : (Jvm.Cond.methodLink "KnotLetters$Knots" (29 : Nat) ({ cls := "java/lang/StringBuilder", name := "length", desc := "()I" } : Jvm.MethodName)) ∈ lw_all := lw_g (lw_at lw_m1 226 rfl) rfl
theorem q280 : (Jvm.Cond.instanceMethod ({ cls := "KnotLetters$Knots", name := "beginsWith", desc := "(Ljava/lang/CharSequence;)Z" } : Jvm.MethodName)) ∈ lw_all := lw_g (lw_at lw_m1 234 rfl) rfl
theorem q281 : (Jvm.Cond.selects "KnotLetters$Knots" ({ cls := "KnotLetters$Knots", name := "beginsWith", desc := "(Ljava/lang/CharSequence;)Z" } : Jvm.MethodName) ({ cls := "KnotLetters$Knots", name := "beginsWith", desc := "(Ljava/lang/CharSequence;)Z" } : Jvm.MethodName)) ∈ lw_all := lw_g (lw_at lw_m1 235 rfl) rfl
theorem q282 : (Jvm.Cond.code ({ cls := "KnotLetters$Knots", name := "beginsWith", desc := "(Ljava/lang/CharSequence;)Z" } : Jvm.MethodName) prog_5_method_9_code (3 : Nat) (Option.some Jvm.ClassFile.FieldType.boolean)) ∈ lw_all := lw_g (lw_at lw_m1 236 rfl) rfl
theorem q283 : (Jvm.Cond.interfaceEntry "KnotLetters$Knots" (48 : Nat)) ∈ lw_tbl := lw_at lw_m1 237 rfl
theorem q284 : (Jvm.Cond.methodLink "KnotLetters$Knots" (48 : Nat) ({ cls := "java/lang/CharSequence", name := "length", desc := "()I" } : Jvm.MethodName)) ∈ lw_all := lw_g (lw_at lw_m1 238 rfl) rfl
theorem q287 : (Jvm.Cond.castable "KnotLetters$Knots" "java/lang/CharSequence") ∈ lw_tbl := lw_at lw_m2 1 rfl
theorem q288 : (Jvm.Cond.selects "KnotLetters$Knots" ({ cls := "java/lang/CharSequence", name := "length", desc := "()I" } : Jvm.MethodName) ({ cls := "KnotLetters$Knots", name := "length", desc := "()I" } : Jvm.MethodName)) ∈ lw_all := lw_g (lw_at lw_m2 2 rfl) rfl
theorem q289 : (Jvm.Cond.unhidden "KnotLetters$Knots" "length" "()I") ∈ lw_tbl := lw_at lw_m2 3 rfl
theorem q290 : (Jvm.Cond.publicMethod ({ cls := "KnotLetters$Knots", name := "length", desc := "()I" } : Jvm.MethodName)) ∈ lw_tbl := lw_at lw_m2 4 rfl
theorem q306 : (Jvm.Cond.methodLink "KnotLetters$Knots" (51 : Nat) ({ cls := "KnotLetters$Knots", name := "length", desc := "()I" } : Jvm.MethodName)) ∈ lw_all := lw_g (lw_at lw_m2 20 rfl) rfl
theorem q307 : (Jvm.Cond.methodLink "KnotLetters$Knots" (52 : Nat) ({ cls := "KnotLetters$Knots", name := "charAt", desc := "(I)C" } : Jvm.MethodName)) ∈ lw_all := lw_g (lw_at lw_m2 21 rfl) rfl
theorem q308 : (Jvm.Cond.instanceMethod ({ cls := "KnotLetters$Knots", name := "charAt", desc := "(I)C" } : Jvm.MethodName)) ∈ lw_all := lw_g (lw_at lw_m2 22 rfl) rfl
theorem q309 : (Jvm.Cond.selects "KnotLetters$Knots" ({ cls := "KnotLetters$Knots", name := "charAt", desc := "(I)C" } : Jvm.MethodName) ({ cls := "KnotLetters$Knots", name := "charAt", desc := "(I)C" } : Jvm.MethodName)) ∈ lw_all := lw_g (lw_at lw_m2 23 rfl) rfl
theorem q310 : (Jvm.Cond.code ({ cls := "KnotLetters$Knots", name := "charAt", desc := "(I)C" } : Jvm.MethodName) prog_5_method_6_code (2 : Nat) (Option.some Jvm.ClassFile.FieldType.char)) ∈ lw_all := lw_g (lw_at lw_m2 24 rfl) rfl
theorem q311 : (Jvm.Cond.methodLink "KnotLetters$Knots" (33 : Nat) ({ cls := "java/lang/StringBuilder", name := "charAt", desc := "(I)C" } : Jvm.MethodName)) ∈ lw_all := lw_g (lw_at lw_m2 25 rfl) rfl
theorem q341 : (Jvm.Cond.interfaceEntry "KnotLetters$Knots" (53 : Nat)) ∈ lw_tbl := lw_at lw_m2 55 rfl
theorem q342 : (Jvm.Cond.methodLink "KnotLetters$Knots" (53 : Nat) ({ cls := "java/lang/CharSequence", name := "charAt", desc := "(I)C" } : Jvm.MethodName)) ∈ lw_all := lw_g (lw_at lw_m2 56 rfl) rfl
theorem q345 : (Jvm.Cond.selects "KnotLetters$Knots" ({ cls := "java/lang/CharSequence", name := "charAt", desc := "(I)C" } : Jvm.MethodName) ({ cls := "KnotLetters$Knots", name := "charAt", desc := "(I)C" } : Jvm.MethodName)) ∈ lw_all := lw_g (lw_at lw_m2 59 rfl) rfl
theorem q346 : (Jvm.Cond.unhidden "KnotLetters$Knots" "charAt" "(I)C") ∈ lw_tbl := lw_at lw_m2 60 rfl
theorem q347 : (Jvm.Cond.publicMethod ({ cls := "KnotLetters$Knots", name := "charAt", desc := "(I)C" } : Jvm.MethodName)) ∈ lw_tbl := lw_at lw_m2 61 rfl
theorem q427 : (Jvm.Cond.instanceMethod ({ cls := "KnotLetters$Knots", name := "toString", desc := "()Ljava/lang/String;" } : Jvm.MethodName)) ∈ lw_all := lw_g (lw_at lw_m2 141 rfl) rfl
theorem q428 : (Jvm.Cond.selects "KnotLetters$Knots" ({ cls := "KnotLetters$Knots", name := "toString", desc := "()Ljava/lang/String;" } : Jvm.MethodName) ({ cls := "KnotLetters$Knots", name := "toString", desc := "()Ljava/lang/String;" } : Jvm.MethodName)) ∈ lw_all := lw_g (lw_at lw_m2 142 rfl) rfl
theorem q429 : (Jvm.Cond.code ({ cls := "KnotLetters$Knots", name := "toString", desc := "()Ljava/lang/String;" } : Jvm.MethodName) prog_5_method_8_code (1 : Nat) (Option.some (Jvm.ClassFile.FieldType.object "java/lang/String"))) ∈ lw_all := lw_g (lw_at lw_m2 143 rfl) rfl
theorem q430 : (Jvm.Cond.methodLink "KnotLetters$Knots" (44 : Nat) ({ cls := "java/lang/StringBuilder", name := "toString", desc := "()Ljava/lang/String;" } : Jvm.MethodName)) ∈ lw_all := lw_g (lw_at lw_m2 144 rfl) rfl
theorem q983 : (Jvm.Cond.selects "KnotLetters$Knots" ({ cls := "java/lang/Object", name := "getClass", desc := "()Ljava/lang/Class;" } : Jvm.MethodName) ({ cls := "java/lang/Object", name := "getClass", desc := "()Ljava/lang/Class;" } : Jvm.MethodName)) ∈ lw_all := lw_g (lw_at lw_m4 217 rfl) rfl
theorem q1309 : (Jvm.Cond.selects "KnotLetters$Knots" ({ cls := "java/lang/Object", name := "equals", desc := "(Ljava/lang/Object;)Z" } : Jvm.MethodName) ({ cls := "java/lang/Object", name := "equals", desc := "(Ljava/lang/Object;)Z" } : Jvm.MethodName)) ∈ lw_all := lw_g (lw_at lw_m6 63 rfl) rfl
theorem q1431 : (Jvm.Cond.static ({ cls := "KnotLetters$Knots", name := "of", desc := "(I)LKnotLetters$Knots;" } : Jvm.MethodName)) ∈ lw_all := lw_g (lw_at lw_m6 185 rfl) rfl
theorem q1432 : (Jvm.Cond.code ({ cls := "KnotLetters$Knots", name := "of", desc := "(I)LKnotLetters$Knots;" } : Jvm.MethodName) prog_5_method_13_code (3 : Nat) (Option.some (Jvm.ClassFile.FieldType.object "KnotLetters$Knots"))) ∈ lw_all := lw_g (lw_at lw_m6 186 rfl) rfl
theorem q1433 : (Jvm.Cond.classLink "KnotLetters$Knots" (13 : Nat) "KnotLetters$Knots") ∈ lw_all := lw_g (lw_at lw_m6 187 rfl) rfl
theorem q1434 : (Jvm.Cond.methodLink "KnotLetters$Knots" (60 : Nat) ({ cls := "KnotLetters$Knots", name := "<init>", desc := "()V" } : Jvm.MethodName)) ∈ lw_all := lw_g (lw_at lw_m6 188 rfl) rfl
theorem q1435 : (Jvm.Cond.methodLink "KnotLetters$Knots" (61 : Nat) ({ cls := "java/lang/StringBuilder", name := "insert", desc := "(IC)Ljava/lang/StringBuilder;" } : Jvm.MethodName)) ∈ lw_all := lw_g (lw_at lw_m6 189 rfl) rfl
theorem q1508 : (Jvm.Cond.instanceMethod ({ cls := "KnotLetters$Knots", name := "number", desc := "()I" } : Jvm.MethodName)) ∈ lw_all := lw_g (lw_at lw_m7 22 rfl) rfl
theorem q1509 : (Jvm.Cond.selects "KnotLetters$Knots" ({ cls := "KnotLetters$Knots", name := "number", desc := "()I" } : Jvm.MethodName) ({ cls := "KnotLetters$Knots", name := "number", desc := "()I" } : Jvm.MethodName)) ∈ lw_all := lw_g (lw_at lw_m7 23 rfl) rfl
theorem q1510 : (Jvm.Cond.code ({ cls := "KnotLetters$Knots", name := "number", desc := "()I" } : Jvm.MethodName) prog_5_method_11_code (1 : Nat) (Option.some Jvm.ClassFile.FieldType.int)) ∈ lw_all := lw_g (lw_at lw_m7 24 rfl) rfl
theorem q1511 : (Jvm.Cond.methodLink "KnotLetters$Knots" (54 : Nat) ({ cls := "java/lang/Integer", name := "parseInt", desc := "(Ljava/lang/String;)I" } : Jvm.MethodName)) ∈ lw_all := lw_g (lw_at lw_m7 25 rfl) rfl
theorem q1586 : (Jvm.Cond.instanceMethod ({ cls := "KnotLetters$Knots", name := "gaps", desc := "()I" } : Jvm.MethodName)) ∈ lw_all := lw_g (lw_at lw_m7 100 rfl) rfl
theorem q1587 : (Jvm.Cond.selects "KnotLetters$Knots" ({ cls := "KnotLetters$Knots", name := "gaps", desc := "()I" } : Jvm.MethodName) ({ cls := "KnotLetters$Knots", name := "gaps", desc := "()I" } : Jvm.MethodName)) ∈ lw_all := lw_g (lw_at lw_m7 101 rfl) rfl
theorem q1588 : (Jvm.Cond.code ({ cls := "KnotLetters$Knots", name := "gaps", desc := "()I" } : Jvm.MethodName) prog_5_method_12_code (3 : Nat) (Option.some Jvm.ClassFile.FieldType.int)) ∈ lw_all := lw_g (lw_at lw_m7 102 rfl) rfl
theorem q1599 : (Jvm.Cond.instanceMethod ({ cls := "KnotLetters$Knots", name := "subSequence", desc := "(II)LKnotLetters$Knots;" } : Jvm.MethodName)) ∈ lw_all := lw_g (lw_at lw_m7 113 rfl) rfl
theorem q1600 : (Jvm.Cond.selects "KnotLetters$Knots" ({ cls := "KnotLetters$Knots", name := "subSequence", desc := "(II)LKnotLetters$Knots;" } : Jvm.MethodName) ({ cls := "KnotLetters$Knots", name := "subSequence", desc := "(II)LKnotLetters$Knots;" } : Jvm.MethodName)) ∈ lw_all := lw_g (lw_at lw_m7 114 rfl) rfl
theorem q1601 : (Jvm.Cond.code ({ cls := "KnotLetters$Knots", name := "subSequence", desc := "(II)LKnotLetters$Knots;" } : Jvm.MethodName) prog_5_method_7_code (3 : Nat) (Option.some (Jvm.ClassFile.FieldType.object "KnotLetters$Knots"))) ∈ lw_all := lw_g (lw_at lw_m7 115 rfl) rfl
theorem q1602 : (Jvm.Cond.methodLink "KnotLetters$Knots" (37 : Nat) ({ cls := "java/lang/StringBuilder", name := "substring", desc := "(II)Ljava/lang/String;" } : Jvm.MethodName)) ∈ lw_all := lw_g (lw_at lw_m7 116 rfl) rfl
theorem q1613 : (Jvm.Cond.methodLink "KnotLetters$Knots" (41 : Nat) ({ cls := "KnotLetters$Knots", name := "<init>", desc := "(Ljava/lang/CharSequence;)V" } : Jvm.MethodName)) ∈ lw_all := lw_g (lw_at lw_m7 127 rfl) rfl
theorem q1614 : (Jvm.Cond.instanceMethod ({ cls := "KnotLetters$Knots", name := "<init>", desc := "(Ljava/lang/CharSequence;)V" } : Jvm.MethodName)) ∈ lw_all := lw_g (lw_at lw_m7 128 rfl) rfl
theorem q1615 : (Jvm.Cond.code ({ cls := "KnotLetters$Knots", name := "<init>", desc := "(Ljava/lang/CharSequence;)V" } : Jvm.MethodName) prog_5_method_2_code (2 : Nat) (Option.none : Option Jvm.ClassFile.FieldType)) ∈ lw_all := lw_g (lw_at lw_m7 129 rfl) rfl
theorem q1616 : (Jvm.Cond.methodLink "KnotLetters$Knots" (18 : Nat) ({ cls := "java/lang/StringBuilder", name := "append", desc := "(Ljava/lang/CharSequence;)Ljava/lang/StringBuilder;" } : Jvm.MethodName)) ∈ lw_all := lw_g (lw_at lw_m7 130 rfl) rfl
theorem q1776 : (Jvm.Cond.instanceMethod ({ cls := "KnotLetters$Knots", name := "hasAt", desc := "(ILjava/lang/CharSequence;)Z" } : Jvm.MethodName)) ∈ lw_all := lw_g (lw_at lw_m8 50 rfl) rfl
theorem q1777 : (Jvm.Cond.selects "KnotLetters$Knots" ({ cls := "KnotLetters$Knots", name := "hasAt", desc := "(ILjava/lang/CharSequence;)Z" } : Jvm.MethodName) ({ cls := "KnotLetters$Knots", name := "hasAt", desc := "(ILjava/lang/CharSequence;)Z" } : Jvm.MethodName)) ∈ lw_all := lw_g (lw_at lw_m8 51 rfl) rfl
theorem q1778 : (Jvm.Cond.code ({ cls := "KnotLetters$Knots", name := "hasAt", desc := "(ILjava/lang/CharSequence;)Z" } : Jvm.MethodName) prog_5_method_10_code (4 : Nat) (Option.some Jvm.ClassFile.FieldType.boolean)) ∈ lw_all := lw_g (lw_at lw_m8 52 rfl) rfl
theorem q1926 : (Jvm.Cond.instanceMethod ({ cls := "KnotLetters$Knots", name := "add", desc := "(C)V" } : Jvm.MethodName)) ∈ lw_all := lw_g (lw_at lw_m8 200 rfl) rfl
theorem q1927 : (Jvm.Cond.selects "KnotLetters$Knots" ({ cls := "KnotLetters$Knots", name := "add", desc := "(C)V" } : Jvm.MethodName) ({ cls := "KnotLetters$Knots", name := "add", desc := "(C)V" } : Jvm.MethodName)) ∈ lw_all := lw_g (lw_at lw_m8 201 rfl) rfl
theorem q1928 : (Jvm.Cond.code ({ cls := "KnotLetters$Knots", name := "add", desc := "(C)V" } : Jvm.MethodName) prog_5_method_3_code (2 : Nat) (Option.none : Option Jvm.ClassFile.FieldType)) ∈ lw_all := lw_g (lw_at lw_m8 202 rfl) rfl
theorem q1929 : (Jvm.Cond.methodLink "KnotLetters$Knots" (22 : Nat) ({ cls := "java/lang/StringBuilder", name := "append", desc := "(C)Ljava/lang/StringBuilder;" } : Jvm.MethodName)) ∈ lw_all := lw_g (lw_at lw_m8 203 rfl) rfl
theorem q1972 : (Jvm.Cond.instanceMethod ({ cls := "KnotLetters$Knots", name := "set", desc := "(IC)V" } : Jvm.MethodName)) ∈ lw_all := lw_g (lw_at lw_m9 6 rfl) rfl
theorem q1973 : (Jvm.Cond.selects "KnotLetters$Knots" ({ cls := "KnotLetters$Knots", name := "set", desc := "(IC)V" } : Jvm.MethodName) ({ cls := "KnotLetters$Knots", name := "set", desc := "(IC)V" } : Jvm.MethodName)) ∈ lw_all := lw_g (lw_at lw_m9 7 rfl) rfl
theorem q1974 : (Jvm.Cond.code ({ cls := "KnotLetters$Knots", name := "set", desc := "(IC)V" } : Jvm.MethodName) prog_5_method_4_code (3 : Nat) (Option.none : Option Jvm.ClassFile.FieldType)) ∈ lw_all := lw_g (lw_at lw_m9 8 rfl) rfl
theorem q1975 : (Jvm.Cond.methodLink "KnotLetters$Knots" (25 : Nat) ({ cls := "java/lang/StringBuilder", name := "setCharAt", desc := "(IC)V" } : Jvm.MethodName)) ∈ lw_all := lw_g (lw_at lw_m9 9 rfl) rfl
theorem q2374 : (Jvm.Cond.castable "KnotLetters$Knots" "java/lang/Object") ∈ lw_tbl := lw_at lw_m10 168 rfl
theorem in_X4 : ∀ w ∈ wsX40, w ∈ lw_all := lw_in wsX40 [210] (by decide +kernel) (by decide +kernel)

/-! KnotLettersModel -/
set_option maxRecDepth 100000
def RX5 : String := "KnotLettersModel"
def TX5 : u_T := fun k => match k with
  | 0 => ("KnotLettersModel", "thrown", "I", false)
  | 1 => ("KnotLettersModel", "rows", "[I", true)
  | 2 => ("KnotLettersModel", "tied", "[I", true)
  | 3 => ("KnotLettersModel", "slip", "I", false)
  | 4 => ("KnotLettersModel", "skip", "I", false)
  | 5 => ("KnotLettersModel", "counted", "I", false)
  | 6 => ("KnotLettersModel", "feel", "[I", true)
  | 7 => ("KnotLettersModel", "missed", "I", false)
  | 8 => ("KnotLettersModel", "ghost", "I", false)
  | 9 => ("KnotLettersModel", "cords", "I", false)
  | 10 => ("KnotLettersModel", "size", "[I", true)
  | 11 => ("KnotLettersModel", "knots", "[I", true)
  | 12 => ("KnotLettersModel", "slipped", "[I", true)
  | 13 => ("KnotLettersModel", "skipped", "[I", true)
  | 14 => ("KnotLettersModel", "tape", "[I", true)
  | 15 => ("KnotLettersModel", "taped", "I", false)
  | 16 => ("KnotLettersModel", "paper", "[I", true)
  | 17 => ("KnotLettersModel", "papered", "I", false)
  | 18 => ("KnotLettersModel", "cost", "[I", true)
  | 19 => ("KnotLettersModel", "many", "[I", true)
  | 20 => ("KnotLettersModel", "letters", "[I", true)
  | 21 => ("KnotLettersModel", "nexts", "[I", true)
  | _ => ("KnotLettersModel", "line", "[I", true)
def tyX5 : Nat → FieldType := fun k => match k with
  | 0 => .int
  | 1 => .array .int
  | 2 => .array .int
  | 3 => .int
  | 4 => .int
  | 5 => .int
  | 6 => .array .int
  | 7 => .int
  | 8 => .int
  | 9 => .int
  | 10 => .array .int
  | 11 => .array .int
  | 12 => .array .int
  | 13 => .array .int
  | 14 => .array .int
  | 15 => .int
  | 16 => .array .int
  | 17 => .int
  | 18 => .array .int
  | 19 => .array .int
  | 20 => .array .int
  | 21 => .array .int
  | _ => .array .int
abbrev wsX50 : List Cond := u_ws RX5 TX5 23
set_option maxRecDepth 100000 in
theorem nmX5 : ∀ a, a < 23 → ∀ b, b < 23 → a ≠ b → (TX5 a).2.1 ≠ (TX5 b).2.1 := by decide +kernel
set_option maxRecDepth 100000 in
theorem tyX5_ok : ∀ k, k < 23 → parseFieldDescriptor (TX5 k).2.2.1 = some (tyX5 k) := by decide +kernel
abbrev cX5_init : ByteArray := prog_9_method_1_code
def yX5_init : MethodName := ⟨RX5, "<init>", "()V"⟩
def dkwX5_init_6 : List UInt8 := [27, 8, 112, 160, 0, 7, 3, 167, 0, 4, 6, 79, 132, 1, 1, 167, 255, 227, 177]
abbrev dktX5_init_6 : List UInt8 := dkwX5_init_6 ++ []
def dkwX5_init_5 : List UInt8 := [42, 16, 41, 188, 10, 181, 0, 56, 3, 60, 27, 16, 25, 162, 0, 29, 42, 180, 0, 16, 27, 27, 8, 108]
abbrev dktX5_init_5 : List UInt8 := dkwX5_init_5 ++ dktX5_init_6
def dkwX5_init_4 : List UInt8 := [42, 16, 41, 188, 10, 181, 0, 47, 42, 16, 41, 188, 10, 181, 0, 50, 42, 16, 41, 188, 10, 181, 0, 53]
abbrev dktX5_init_4 : List UInt8 := dkwX5_init_4 ++ dktX5_init_5
def dkwX5_init_3 : List UInt8 := [42, 16, 80, 188, 10, 181, 0, 38, 42, 16, 40, 188, 10, 181, 0, 41, 42, 16, 41, 188, 10, 181, 0, 44]
abbrev dktX5_init_3 : List UInt8 := dkwX5_init_3 ++ dktX5_init_4
def dkwX5_init_2 : List UInt8 := [17, 1, 144, 188, 10, 181, 0, 29, 42, 16, 10, 188, 10, 181, 0, 32, 42, 16, 10, 188, 10, 181, 0, 35]
abbrev dktX5_init_2 : List UInt8 := dkwX5_init_2 ++ dktX5_init_3
def dkwX5_init_1 : List UInt8 := [188, 10, 181, 0, 16, 42, 7, 181, 0, 19, 42, 7, 181, 0, 23, 42, 16, 10, 188, 10, 181, 0, 26, 42]
abbrev dktX5_init_1 : List UInt8 := dkwX5_init_1 ++ dktX5_init_2
def dkwX5_init_0 : List UInt8 := [42, 183, 0, 1, 42, 16, 12, 188, 10, 181, 0, 9, 42, 16, 12, 188, 10, 181, 0, 13, 42, 16, 25]
abbrev dktX5_init_0 : List UInt8 := dkwX5_init_0 ++ dktX5_init_1
theorem dksX5_init_0 : cX5_init.data.toList.drop 0 = dktX5_init_0 := by decide +kernel
theorem dksX5_init_1 : cX5_init.data.toList.drop 23 = dktX5_init_1 := dk_seg dksX5_init_0 23 rfl rfl
theorem dksX5_init_2 : cX5_init.data.toList.drop 47 = dktX5_init_2 := dk_seg dksX5_init_1 24 rfl rfl
theorem dksX5_init_3 : cX5_init.data.toList.drop 71 = dktX5_init_3 := dk_seg dksX5_init_2 24 rfl rfl
theorem dksX5_init_4 : cX5_init.data.toList.drop 95 = dktX5_init_4 := dk_seg dksX5_init_3 24 rfl rfl
theorem dksX5_init_5 : cX5_init.data.toList.drop 119 = dktX5_init_5 := dk_seg dksX5_init_4 24 rfl rfl
theorem dksX5_init_6 : cX5_init.data.toList.drop 143 = dktX5_init_6 := dk_seg dksX5_init_5 24 rfl rfl
theorem dX5_init_0 : decode cX5_init 0 = .ok (.aload_n 0, 1) := dk_42 (dk_at dksX5_init_0 0 rfl rfl)
theorem dX5_init_1 : decode cX5_init 1 = .ok (.invokespecial 1, 3) := dk_183 0 1 (dk_at dksX5_init_0 1 rfl rfl)
theorem dX5_init_4 : decode cX5_init 4 = .ok (.aload_n 0, 1) := dk_42 (dk_at dksX5_init_0 4 rfl rfl)
theorem dX5_init_5 : decode cX5_init 5 = .ok (.bipush 12, 2) := dk_16 12 (dk_at dksX5_init_0 5 rfl rfl)
theorem dX5_init_7 : decode cX5_init 7 = .ok (.newarray .int, 2) := dk_188_10 (dk_at dksX5_init_0 7 rfl rfl)
theorem dX5_init_9 : decode cX5_init 9 = .ok (.putfield 9, 3) := dk_181 0 9 (dk_at dksX5_init_0 9 rfl rfl)
theorem dX5_init_12 : decode cX5_init 12 = .ok (.aload_n 0, 1) := dk_42 (dk_at dksX5_init_0 12 rfl rfl)
theorem dX5_init_13 : decode cX5_init 13 = .ok (.bipush 12, 2) := dk_16 12 (dk_at dksX5_init_0 13 rfl rfl)
theorem dX5_init_15 : decode cX5_init 15 = .ok (.newarray .int, 2) := dk_188_10 (dk_at dksX5_init_0 15 rfl rfl)
theorem dX5_init_17 : decode cX5_init 17 = .ok (.putfield 13, 3) := dk_181 0 13 (dk_at dksX5_init_0 17 rfl rfl)
theorem dX5_init_20 : decode cX5_init 20 = .ok (.aload_n 0, 1) := dk_42 (dk_at dksX5_init_0 20 rfl rfl)
theorem dX5_init_21 : decode cX5_init 21 = .ok (.bipush 25, 2) := dk_16 25 (dk_at dksX5_init_0 21 rfl rfl)
theorem dX5_init_23 : decode cX5_init 23 = .ok (.newarray .int, 2) := dk_188_10 (dk_at dksX5_init_1 0 rfl rfl)
theorem dX5_init_25 : decode cX5_init 25 = .ok (.putfield 16, 3) := dk_181 0 16 (dk_at dksX5_init_1 2 rfl rfl)
theorem dX5_init_28 : decode cX5_init 28 = .ok (.aload_n 0, 1) := dk_42 (dk_at dksX5_init_1 5 rfl rfl)
theorem dX5_init_29 : decode cX5_init 29 = .ok (.iconst 4, 1) := dk_7 (dk_at dksX5_init_1 6 rfl rfl)
theorem dX5_init_30 : decode cX5_init 30 = .ok (.putfield 19, 3) := dk_181 0 19 (dk_at dksX5_init_1 7 rfl rfl)
theorem dX5_init_33 : decode cX5_init 33 = .ok (.aload_n 0, 1) := dk_42 (dk_at dksX5_init_1 10 rfl rfl)
theorem dX5_init_34 : decode cX5_init 34 = .ok (.iconst 4, 1) := dk_7 (dk_at dksX5_init_1 11 rfl rfl)
theorem dX5_init_35 : decode cX5_init 35 = .ok (.putfield 23, 3) := dk_181 0 23 (dk_at dksX5_init_1 12 rfl rfl)
theorem dX5_init_38 : decode cX5_init 38 = .ok (.aload_n 0, 1) := dk_42 (dk_at dksX5_init_1 15 rfl rfl)
theorem dX5_init_39 : decode cX5_init 39 = .ok (.bipush 10, 2) := dk_16 10 (dk_at dksX5_init_1 16 rfl rfl)
theorem dX5_init_41 : decode cX5_init 41 = .ok (.newarray .int, 2) := dk_188_10 (dk_at dksX5_init_1 18 rfl rfl)
theorem dX5_init_43 : decode cX5_init 43 = .ok (.putfield 26, 3) := dk_181 0 26 (dk_at dksX5_init_1 20 rfl rfl)
theorem dX5_init_46 : decode cX5_init 46 = .ok (.aload_n 0, 1) := dk_42 (dk_at dksX5_init_1 23 rfl rfl)
theorem dX5_init_47 : decode cX5_init 47 = .ok (.sipush 400, 3) := dk_17 1 144 (dk_at dksX5_init_2 0 rfl rfl)
theorem dX5_init_50 : decode cX5_init 50 = .ok (.newarray .int, 2) := dk_188_10 (dk_at dksX5_init_2 3 rfl rfl)
theorem dX5_init_52 : decode cX5_init 52 = .ok (.putfield 29, 3) := dk_181 0 29 (dk_at dksX5_init_2 5 rfl rfl)
theorem dX5_init_55 : decode cX5_init 55 = .ok (.aload_n 0, 1) := dk_42 (dk_at dksX5_init_2 8 rfl rfl)
theorem dX5_init_56 : decode cX5_init 56 = .ok (.bipush 10, 2) := dk_16 10 (dk_at dksX5_init_2 9 rfl rfl)
theorem dX5_init_58 : decode cX5_init 58 = .ok (.newarray .int, 2) := dk_188_10 (dk_at dksX5_init_2 11 rfl rfl)
theorem dX5_init_60 : decode cX5_init 60 = .ok (.putfield 32, 3) := dk_181 0 32 (dk_at dksX5_init_2 13 rfl rfl)
theorem dX5_init_63 : decode cX5_init 63 = .ok (.aload_n 0, 1) := dk_42 (dk_at dksX5_init_2 16 rfl rfl)
theorem dX5_init_64 : decode cX5_init 64 = .ok (.bipush 10, 2) := dk_16 10 (dk_at dksX5_init_2 17 rfl rfl)
theorem dX5_init_66 : decode cX5_init 66 = .ok (.newarray .int, 2) := dk_188_10 (dk_at dksX5_init_2 19 rfl rfl)
theorem dX5_init_68 : decode cX5_init 68 = .ok (.putfield 35, 3) := dk_181 0 35 (dk_at dksX5_init_2 21 rfl rfl)
theorem dX5_init_71 : decode cX5_init 71 = .ok (.aload_n 0, 1) := dk_42 (dk_at dksX5_init_3 0 rfl rfl)
theorem dX5_init_72 : decode cX5_init 72 = .ok (.bipush 80, 2) := dk_16 80 (dk_at dksX5_init_3 1 rfl rfl)
theorem dX5_init_74 : decode cX5_init 74 = .ok (.newarray .int, 2) := dk_188_10 (dk_at dksX5_init_3 3 rfl rfl)
theorem dX5_init_76 : decode cX5_init 76 = .ok (.putfield 38, 3) := dk_181 0 38 (dk_at dksX5_init_3 5 rfl rfl)
theorem dX5_init_79 : decode cX5_init 79 = .ok (.aload_n 0, 1) := dk_42 (dk_at dksX5_init_3 8 rfl rfl)
theorem dX5_init_80 : decode cX5_init 80 = .ok (.bipush 40, 2) := dk_16 40 (dk_at dksX5_init_3 9 rfl rfl)
theorem dX5_init_82 : decode cX5_init 82 = .ok (.newarray .int, 2) := dk_188_10 (dk_at dksX5_init_3 11 rfl rfl)
theorem dX5_init_84 : decode cX5_init 84 = .ok (.putfield 41, 3) := dk_181 0 41 (dk_at dksX5_init_3 13 rfl rfl)
theorem dX5_init_87 : decode cX5_init 87 = .ok (.aload_n 0, 1) := dk_42 (dk_at dksX5_init_3 16 rfl rfl)
theorem dX5_init_88 : decode cX5_init 88 = .ok (.bipush 41, 2) := dk_16 41 (dk_at dksX5_init_3 17 rfl rfl)
theorem dX5_init_90 : decode cX5_init 90 = .ok (.newarray .int, 2) := dk_188_10 (dk_at dksX5_init_3 19 rfl rfl)
theorem dX5_init_92 : decode cX5_init 92 = .ok (.putfield 44, 3) := dk_181 0 44 (dk_at dksX5_init_3 21 rfl rfl)
theorem dX5_init_95 : decode cX5_init 95 = .ok (.aload_n 0, 1) := dk_42 (dk_at dksX5_init_4 0 rfl rfl)
theorem dX5_init_96 : decode cX5_init 96 = .ok (.bipush 41, 2) := dk_16 41 (dk_at dksX5_init_4 1 rfl rfl)
theorem dX5_init_98 : decode cX5_init 98 = .ok (.newarray .int, 2) := dk_188_10 (dk_at dksX5_init_4 3 rfl rfl)
theorem dX5_init_100 : decode cX5_init 100 = .ok (.putfield 47, 3) := dk_181 0 47 (dk_at dksX5_init_4 5 rfl rfl)
theorem dX5_init_103 : decode cX5_init 103 = .ok (.aload_n 0, 1) := dk_42 (dk_at dksX5_init_4 8 rfl rfl)
theorem dX5_init_104 : decode cX5_init 104 = .ok (.bipush 41, 2) := dk_16 41 (dk_at dksX5_init_4 9 rfl rfl)
theorem dX5_init_106 : decode cX5_init 106 = .ok (.newarray .int, 2) := dk_188_10 (dk_at dksX5_init_4 11 rfl rfl)
theorem dX5_init_108 : decode cX5_init 108 = .ok (.putfield 50, 3) := dk_181 0 50 (dk_at dksX5_init_4 13 rfl rfl)
theorem dX5_init_111 : decode cX5_init 111 = .ok (.aload_n 0, 1) := dk_42 (dk_at dksX5_init_4 16 rfl rfl)
theorem dX5_init_112 : decode cX5_init 112 = .ok (.bipush 41, 2) := dk_16 41 (dk_at dksX5_init_4 17 rfl rfl)
theorem dX5_init_114 : decode cX5_init 114 = .ok (.newarray .int, 2) := dk_188_10 (dk_at dksX5_init_4 19 rfl rfl)
theorem dX5_init_116 : decode cX5_init 116 = .ok (.putfield 53, 3) := dk_181 0 53 (dk_at dksX5_init_4 21 rfl rfl)
theorem dX5_init_119 : decode cX5_init 119 = .ok (.aload_n 0, 1) := dk_42 (dk_at dksX5_init_5 0 rfl rfl)
theorem dX5_init_120 : decode cX5_init 120 = .ok (.bipush 41, 2) := dk_16 41 (dk_at dksX5_init_5 1 rfl rfl)
theorem dX5_init_122 : decode cX5_init 122 = .ok (.newarray .int, 2) := dk_188_10 (dk_at dksX5_init_5 3 rfl rfl)
theorem dX5_init_124 : decode cX5_init 124 = .ok (.putfield 56, 3) := dk_181 0 56 (dk_at dksX5_init_5 5 rfl rfl)
theorem dX5_init_127 : decode cX5_init 127 = .ok (.iconst 0, 1) := dk_3 (dk_at dksX5_init_5 8 rfl rfl)
theorem dX5_init_128 : decode cX5_init 128 = .ok (.istore_n 1, 1) := dk_60 (dk_at dksX5_init_5 9 rfl rfl)
theorem dX5_init_129 : decode cX5_init 129 = .ok (.iload_n 1, 1) := dk_27 (dk_at dksX5_init_5 10 rfl rfl)
theorem dX5_init_130 : decode cX5_init 130 = .ok (.bipush 25, 2) := dk_16 25 (dk_at dksX5_init_5 11 rfl rfl)
theorem dX5_init_132 : decode cX5_init 132 = .ok (.if_icmp .ge 29, 3) := dk_162 0 29 (dk_at dksX5_init_5 13 rfl rfl)
theorem dX5_init_135 : decode cX5_init 135 = .ok (.aload_n 0, 1) := dk_42 (dk_at dksX5_init_5 16 rfl rfl)
theorem dX5_init_136 : decode cX5_init 136 = .ok (.getfield 16, 3) := dk_180 0 16 (dk_at dksX5_init_5 17 rfl rfl)
theorem dX5_init_139 : decode cX5_init 139 = .ok (.iload_n 1, 1) := dk_27 (dk_at dksX5_init_5 20 rfl rfl)
theorem dX5_init_140 : decode cX5_init 140 = .ok (.iload_n 1, 1) := dk_27 (dk_at dksX5_init_5 21 rfl rfl)
theorem dX5_init_141 : decode cX5_init 141 = .ok (.iconst 5, 1) := dk_8 (dk_at dksX5_init_5 22 rfl rfl)
theorem dX5_init_142 : decode cX5_init 142 = .ok (.idiv, 1) := dk_108 (dk_at dksX5_init_5 23 rfl rfl)
theorem dX5_init_143 : decode cX5_init 143 = .ok (.iload_n 1, 1) := dk_27 (dk_at dksX5_init_6 0 rfl rfl)
theorem dX5_init_144 : decode cX5_init 144 = .ok (.iconst 5, 1) := dk_8 (dk_at dksX5_init_6 1 rfl rfl)
theorem dX5_init_145 : decode cX5_init 145 = .ok (.irem, 1) := dk_112 (dk_at dksX5_init_6 2 rfl rfl)
theorem dX5_init_146 : decode cX5_init 146 = .ok (.if_icmp .ne 7, 3) := dk_160 0 7 (dk_at dksX5_init_6 3 rfl rfl)
theorem dX5_init_149 : decode cX5_init 149 = .ok (.iconst 0, 1) := dk_3 (dk_at dksX5_init_6 6 rfl rfl)
theorem dX5_init_150 : decode cX5_init 150 = .ok (.goto 4, 3) := dk_167 0 4 (dk_at dksX5_init_6 7 rfl rfl)
theorem dX5_init_153 : decode cX5_init 153 = .ok (.iconst 3, 1) := dk_6 (dk_at dksX5_init_6 10 rfl rfl)
theorem dX5_init_154 : decode cX5_init 154 = .ok (.iastore, 1) := dk_79 (dk_at dksX5_init_6 11 rfl rfl)
theorem dX5_init_155 : decode cX5_init 155 = .ok (.iinc 1 1, 3) := dk_132 1 1 (dk_at dksX5_init_6 12 rfl rfl)
theorem dX5_init_158 : decode cX5_init 158 = .ok (.goto (-29), 3) := dk_167 255 227 (dk_at dksX5_init_6 15 rfl rfl)
theorem dX5_init_161 : decode cX5_init 161 = .ok (.return_, 1) := dk_177 (dk_at dksX5_init_6 18 rfl rfl)
abbrev cX5_thrown : ByteArray := prog_9_method_2_code
def yX5_thrown : MethodName := ⟨RX5, "thrown", "()I"⟩
theorem dX5_thrown_0 : decode cX5_thrown 0 = .ok (.aload_n 0, 1) := by decide +kernel
theorem dX5_thrown_1 : decode cX5_thrown 1 = .ok (.getfield 59, 3) := by decide +kernel
theorem dX5_thrown_4 : decode cX5_thrown 4 = .ok (.ireturn, 1) := by decide +kernel
abbrev cX5_setLetter : ByteArray := prog_9_method_8_code
def yX5_setLetter : MethodName := ⟨RX5, "setLetter", "(II)I"⟩
def dkwX5_setLetter_2 : List UInt8 := [28, 79, 29, 172]
abbrev dktX5_setLetter_2 : List UInt8 := dkwX5_setLetter_2 ++ []
def dkwX5_setLetter_1 : List UInt8 := [184, 0, 73, 154, 0, 9, 42, 5, 182, 0, 70, 172, 42, 180, 0, 9, 27, 46, 62, 42, 180, 0, 9, 27]
abbrev dktX5_setLetter_1 : List UInt8 := dkwX5_setLetter_1 ++ dktX5_setLetter_2
def dkwX5_setLetter_0 : List UInt8 := [42, 3, 181, 0, 59, 27, 3, 16, 11, 184, 0, 66, 154, 0, 9, 42, 4, 182, 0, 70, 172, 28]
abbrev dktX5_setLetter_0 : List UInt8 := dkwX5_setLetter_0 ++ dktX5_setLetter_1
theorem dksX5_setLetter_0 : cX5_setLetter.data.toList.drop 0 = dktX5_setLetter_0 := by decide +kernel
theorem dksX5_setLetter_1 : cX5_setLetter.data.toList.drop 22 = dktX5_setLetter_1 := dk_seg dksX5_setLetter_0 22 rfl rfl
theorem dksX5_setLetter_2 : cX5_setLetter.data.toList.drop 46 = dktX5_setLetter_2 := dk_seg dksX5_setLetter_1 24 rfl rfl
theorem dX5_setLetter_0 : decode cX5_setLetter 0 = .ok (.aload_n 0, 1) := dk_42 (dk_at dksX5_setLetter_0 0 rfl rfl)
theorem dX5_setLetter_1 : decode cX5_setLetter 1 = .ok (.iconst 0, 1) := dk_3 (dk_at dksX5_setLetter_0 1 rfl rfl)
theorem dX5_setLetter_2 : decode cX5_setLetter 2 = .ok (.putfield 59, 3) := dk_181 0 59 (dk_at dksX5_setLetter_0 2 rfl rfl)
theorem dX5_setLetter_5 : decode cX5_setLetter 5 = .ok (.iload_n 1, 1) := dk_27 (dk_at dksX5_setLetter_0 5 rfl rfl)
theorem dX5_setLetter_6 : decode cX5_setLetter 6 = .ok (.iconst 0, 1) := dk_3 (dk_at dksX5_setLetter_0 6 rfl rfl)
theorem dX5_setLetter_7 : decode cX5_setLetter 7 = .ok (.bipush 11, 2) := dk_16 11 (dk_at dksX5_setLetter_0 7 rfl rfl)
theorem dX5_setLetter_9 : decode cX5_setLetter 9 = .ok (.invokestatic 66, 3) := dk_184 0 66 (dk_at dksX5_setLetter_0 9 rfl rfl)
theorem dX5_setLetter_12 : decode cX5_setLetter 12 = .ok (.ifCond .ne 9, 3) := dk_154 0 9 (dk_at dksX5_setLetter_0 12 rfl rfl)
theorem dX5_setLetter_15 : decode cX5_setLetter 15 = .ok (.aload_n 0, 1) := dk_42 (dk_at dksX5_setLetter_0 15 rfl rfl)
theorem dX5_setLetter_16 : decode cX5_setLetter 16 = .ok (.iconst 1, 1) := dk_4 (dk_at dksX5_setLetter_0 16 rfl rfl)
theorem dX5_setLetter_17 : decode cX5_setLetter 17 = .ok (.invokevirtual 70, 3) := dk_182 0 70 (dk_at dksX5_setLetter_0 17 rfl rfl)
theorem dX5_setLetter_20 : decode cX5_setLetter 20 = .ok (.ireturn, 1) := dk_172 (dk_at dksX5_setLetter_0 20 rfl rfl)
theorem dX5_setLetter_21 : decode cX5_setLetter 21 = .ok (.iload_n 2, 1) := dk_28 (dk_at dksX5_setLetter_0 21 rfl rfl)
theorem dX5_setLetter_22 : decode cX5_setLetter 22 = .ok (.invokestatic 73, 3) := dk_184 0 73 (dk_at dksX5_setLetter_1 0 rfl rfl)
theorem dX5_setLetter_25 : decode cX5_setLetter 25 = .ok (.ifCond .ne 9, 3) := dk_154 0 9 (dk_at dksX5_setLetter_1 3 rfl rfl)
theorem dX5_setLetter_28 : decode cX5_setLetter 28 = .ok (.aload_n 0, 1) := dk_42 (dk_at dksX5_setLetter_1 6 rfl rfl)
theorem dX5_setLetter_29 : decode cX5_setLetter 29 = .ok (.iconst 2, 1) := dk_5 (dk_at dksX5_setLetter_1 7 rfl rfl)
theorem dX5_setLetter_30 : decode cX5_setLetter 30 = .ok (.invokevirtual 70, 3) := dk_182 0 70 (dk_at dksX5_setLetter_1 8 rfl rfl)
theorem dX5_setLetter_33 : decode cX5_setLetter 33 = .ok (.ireturn, 1) := dk_172 (dk_at dksX5_setLetter_1 11 rfl rfl)
theorem dX5_setLetter_34 : decode cX5_setLetter 34 = .ok (.aload_n 0, 1) := dk_42 (dk_at dksX5_setLetter_1 12 rfl rfl)
theorem dX5_setLetter_35 : decode cX5_setLetter 35 = .ok (.getfield 9, 3) := dk_180 0 9 (dk_at dksX5_setLetter_1 13 rfl rfl)
theorem dX5_setLetter_38 : decode cX5_setLetter 38 = .ok (.iload_n 1, 1) := dk_27 (dk_at dksX5_setLetter_1 16 rfl rfl)
theorem dX5_setLetter_39 : decode cX5_setLetter 39 = .ok (.iaload, 1) := dk_46 (dk_at dksX5_setLetter_1 17 rfl rfl)
theorem dX5_setLetter_40 : decode cX5_setLetter 40 = .ok (.istore_n 3, 1) := dk_62 (dk_at dksX5_setLetter_1 18 rfl rfl)
theorem dX5_setLetter_41 : decode cX5_setLetter 41 = .ok (.aload_n 0, 1) := dk_42 (dk_at dksX5_setLetter_1 19 rfl rfl)
theorem dX5_setLetter_42 : decode cX5_setLetter 42 = .ok (.getfield 9, 3) := dk_180 0 9 (dk_at dksX5_setLetter_1 20 rfl rfl)
theorem dX5_setLetter_45 : decode cX5_setLetter 45 = .ok (.iload_n 1, 1) := dk_27 (dk_at dksX5_setLetter_1 23 rfl rfl)
theorem dX5_setLetter_46 : decode cX5_setLetter 46 = .ok (.iload_n 2, 1) := dk_28 (dk_at dksX5_setLetter_2 0 rfl rfl)
theorem dX5_setLetter_47 : decode cX5_setLetter 47 = .ok (.iastore, 1) := dk_79 (dk_at dksX5_setLetter_2 1 rfl rfl)
theorem dX5_setLetter_48 : decode cX5_setLetter 48 = .ok (.iload_n 3, 1) := dk_29 (dk_at dksX5_setLetter_2 2 rfl rfl)
theorem dX5_setLetter_49 : decode cX5_setLetter 49 = .ok (.ireturn, 1) := dk_172 (dk_at dksX5_setLetter_2 3 rfl rfl)
abbrev cX5_isIn : ByteArray := prog_9_method_4_code
def yX5_isIn : MethodName := ⟨RX5, "isIn", "(III)Z"⟩
def dkwX5_isIn_0 : List UInt8 := [26, 27, 161, 0, 12, 26, 28, 163, 0, 7, 4, 167, 0, 4, 3, 172]
abbrev dktX5_isIn_0 : List UInt8 := dkwX5_isIn_0 ++ []
theorem dksX5_isIn_0 : cX5_isIn.data.toList.drop 0 = dktX5_isIn_0 := by decide +kernel
theorem dX5_isIn_0 : decode cX5_isIn 0 = .ok (.iload_n 0, 1) := dk_26 (dk_at dksX5_isIn_0 0 rfl rfl)
theorem dX5_isIn_1 : decode cX5_isIn 1 = .ok (.iload_n 1, 1) := dk_27 (dk_at dksX5_isIn_0 1 rfl rfl)
theorem dX5_isIn_2 : decode cX5_isIn 2 = .ok (.if_icmp .lt 12, 3) := dk_161 0 12 (dk_at dksX5_isIn_0 2 rfl rfl)
theorem dX5_isIn_5 : decode cX5_isIn 5 = .ok (.iload_n 0, 1) := dk_26 (dk_at dksX5_isIn_0 5 rfl rfl)
theorem dX5_isIn_6 : decode cX5_isIn 6 = .ok (.iload_n 2, 1) := dk_28 (dk_at dksX5_isIn_0 6 rfl rfl)
theorem dX5_isIn_7 : decode cX5_isIn 7 = .ok (.if_icmp .gt 7, 3) := dk_163 0 7 (dk_at dksX5_isIn_0 7 rfl rfl)
theorem dX5_isIn_10 : decode cX5_isIn 10 = .ok (.iconst 1, 1) := dk_4 (dk_at dksX5_isIn_0 10 rfl rfl)
theorem dX5_isIn_11 : decode cX5_isIn 11 = .ok (.goto 4, 3) := dk_167 0 4 (dk_at dksX5_isIn_0 11 rfl rfl)
theorem dX5_isIn_14 : decode cX5_isIn 14 = .ok (.iconst 0, 1) := dk_3 (dk_at dksX5_isIn_0 14 rfl rfl)
theorem dX5_isIn_15 : decode cX5_isIn 15 = .ok (.ireturn, 1) := dk_172 (dk_at dksX5_isIn_0 15 rfl rfl)
abbrev cX5_no : ByteArray := prog_9_method_3_code
def yX5_no : MethodName := ⟨RX5, "no", "(I)I"⟩
def dkwX5_no_0 : List UInt8 := [42, 27, 181, 0, 59, 3, 172]
abbrev dktX5_no_0 : List UInt8 := dkwX5_no_0 ++ []
theorem dksX5_no_0 : cX5_no.data.toList.drop 0 = dktX5_no_0 := by decide +kernel
theorem dX5_no_0 : decode cX5_no 0 = .ok (.aload_n 0, 1) := dk_42 (dk_at dksX5_no_0 0 rfl rfl)
theorem dX5_no_1 : decode cX5_no 1 = .ok (.iload_n 1, 1) := dk_27 (dk_at dksX5_no_0 1 rfl rfl)
theorem dX5_no_2 : decode cX5_no 2 = .ok (.putfield 59, 3) := dk_181 0 59 (dk_at dksX5_no_0 2 rfl rfl)
theorem dX5_no_5 : decode cX5_no 5 = .ok (.iconst 0, 1) := dk_3 (dk_at dksX5_no_0 5 rfl rfl)
theorem dX5_no_6 : decode cX5_no 6 = .ok (.ireturn, 1) := dk_172 (dk_at dksX5_no_0 6 rfl rfl)
abbrev cX5_isRow : ByteArray := prog_9_method_7_code
def yX5_isRow : MethodName := ⟨RX5, "isRow", "(I)Z"⟩
def dkwX5_isRow_1 : List UInt8 := [153, 0, 21, 28, 16, 10, 112, 4, 7, 184, 0, 66, 60, 28, 16, 10, 108, 61, 167, 255, 233, 27, 172]
abbrev dktX5_isRow_1 : List UInt8 := dkwX5_isRow_1 ++ []
def dkwX5_isRow_0 : List UInt8 := [26, 155, 0, 14, 26, 17, 39, 16, 162, 0, 7, 4, 167, 0, 4, 3, 60, 26, 61, 28, 158, 0, 25, 27]
abbrev dktX5_isRow_0 : List UInt8 := dkwX5_isRow_0 ++ dktX5_isRow_1
theorem dksX5_isRow_0 : cX5_isRow.data.toList.drop 0 = dktX5_isRow_0 := by decide +kernel
theorem dksX5_isRow_1 : cX5_isRow.data.toList.drop 24 = dktX5_isRow_1 := dk_seg dksX5_isRow_0 24 rfl rfl
theorem dX5_isRow_0 : decode cX5_isRow 0 = .ok (.iload_n 0, 1) := dk_26 (dk_at dksX5_isRow_0 0 rfl rfl)
theorem dX5_isRow_1 : decode cX5_isRow 1 = .ok (.ifCond .lt 14, 3) := dk_155 0 14 (dk_at dksX5_isRow_0 1 rfl rfl)
theorem dX5_isRow_4 : decode cX5_isRow 4 = .ok (.iload_n 0, 1) := dk_26 (dk_at dksX5_isRow_0 4 rfl rfl)
theorem dX5_isRow_5 : decode cX5_isRow 5 = .ok (.sipush 10000, 3) := dk_17 39 16 (dk_at dksX5_isRow_0 5 rfl rfl)
theorem dX5_isRow_8 : decode cX5_isRow 8 = .ok (.if_icmp .ge 7, 3) := dk_162 0 7 (dk_at dksX5_isRow_0 8 rfl rfl)
theorem dX5_isRow_11 : decode cX5_isRow 11 = .ok (.iconst 1, 1) := dk_4 (dk_at dksX5_isRow_0 11 rfl rfl)
theorem dX5_isRow_12 : decode cX5_isRow 12 = .ok (.goto 4, 3) := dk_167 0 4 (dk_at dksX5_isRow_0 12 rfl rfl)
theorem dX5_isRow_15 : decode cX5_isRow 15 = .ok (.iconst 0, 1) := dk_3 (dk_at dksX5_isRow_0 15 rfl rfl)
theorem dX5_isRow_16 : decode cX5_isRow 16 = .ok (.istore_n 1, 1) := dk_60 (dk_at dksX5_isRow_0 16 rfl rfl)
theorem dX5_isRow_17 : decode cX5_isRow 17 = .ok (.iload_n 0, 1) := dk_26 (dk_at dksX5_isRow_0 17 rfl rfl)
theorem dX5_isRow_18 : decode cX5_isRow 18 = .ok (.istore_n 2, 1) := dk_61 (dk_at dksX5_isRow_0 18 rfl rfl)
theorem dX5_isRow_19 : decode cX5_isRow 19 = .ok (.iload_n 2, 1) := dk_28 (dk_at dksX5_isRow_0 19 rfl rfl)
theorem dX5_isRow_20 : decode cX5_isRow 20 = .ok (.ifCond .le 25, 3) := dk_158 0 25 (dk_at dksX5_isRow_0 20 rfl rfl)
theorem dX5_isRow_23 : decode cX5_isRow 23 = .ok (.iload_n 1, 1) := dk_27 (dk_at dksX5_isRow_0 23 rfl rfl)
theorem dX5_isRow_24 : decode cX5_isRow 24 = .ok (.ifCond .eq 21, 3) := dk_153 0 21 (dk_at dksX5_isRow_1 0 rfl rfl)
theorem dX5_isRow_27 : decode cX5_isRow 27 = .ok (.iload_n 2, 1) := dk_28 (dk_at dksX5_isRow_1 3 rfl rfl)
theorem dX5_isRow_28 : decode cX5_isRow 28 = .ok (.bipush 10, 2) := dk_16 10 (dk_at dksX5_isRow_1 4 rfl rfl)
theorem dX5_isRow_30 : decode cX5_isRow 30 = .ok (.irem, 1) := dk_112 (dk_at dksX5_isRow_1 6 rfl rfl)
theorem dX5_isRow_31 : decode cX5_isRow 31 = .ok (.iconst 1, 1) := dk_4 (dk_at dksX5_isRow_1 7 rfl rfl)
theorem dX5_isRow_32 : decode cX5_isRow 32 = .ok (.iconst 4, 1) := dk_7 (dk_at dksX5_isRow_1 8 rfl rfl)
theorem dX5_isRow_33 : decode cX5_isRow 33 = .ok (.invokestatic 66, 3) := dk_184 0 66 (dk_at dksX5_isRow_1 9 rfl rfl)
theorem dX5_isRow_36 : decode cX5_isRow 36 = .ok (.istore_n 1, 1) := dk_60 (dk_at dksX5_isRow_1 12 rfl rfl)
theorem dX5_isRow_37 : decode cX5_isRow 37 = .ok (.iload_n 2, 1) := dk_28 (dk_at dksX5_isRow_1 13 rfl rfl)
theorem dX5_isRow_38 : decode cX5_isRow 38 = .ok (.bipush 10, 2) := dk_16 10 (dk_at dksX5_isRow_1 14 rfl rfl)
theorem dX5_isRow_40 : decode cX5_isRow 40 = .ok (.idiv, 1) := dk_108 (dk_at dksX5_isRow_1 16 rfl rfl)
theorem dX5_isRow_41 : decode cX5_isRow 41 = .ok (.istore_n 2, 1) := dk_61 (dk_at dksX5_isRow_1 17 rfl rfl)
theorem dX5_isRow_42 : decode cX5_isRow 42 = .ok (.goto (-23), 3) := dk_167 255 233 (dk_at dksX5_isRow_1 18 rfl rfl)
theorem dX5_isRow_45 : decode cX5_isRow 45 = .ok (.iload_n 1, 1) := dk_27 (dk_at dksX5_isRow_1 21 rfl rfl)
theorem dX5_isRow_46 : decode cX5_isRow 46 = .ok (.ireturn, 1) := dk_172 (dk_at dksX5_isRow_1 22 rfl rfl)
abbrev cX5_letter : ByteArray := prog_9_method_10_code
def yX5_letter : MethodName := ⟨RX5, "letter", "(II)I"⟩
def dkwX5_letter_1 : List UInt8 := [42, 27, 28, 182, 0, 77, 167, 0, 8, 42, 4, 182, 0, 70, 172]
abbrev dktX5_letter_1 : List UInt8 := dkwX5_letter_1 ++ []
def dkwX5_letter_0 : List UInt8 := [42, 3, 181, 0, 59, 27, 3, 16, 11, 184, 0, 66, 153, 0, 21, 28, 3, 5, 184, 0, 66, 153, 0, 12]
abbrev dktX5_letter_0 : List UInt8 := dkwX5_letter_0 ++ dktX5_letter_1
theorem dksX5_letter_0 : cX5_letter.data.toList.drop 0 = dktX5_letter_0 := by decide +kernel
theorem dksX5_letter_1 : cX5_letter.data.toList.drop 24 = dktX5_letter_1 := dk_seg dksX5_letter_0 24 rfl rfl
theorem dX5_letter_0 : decode cX5_letter 0 = .ok (.aload_n 0, 1) := dk_42 (dk_at dksX5_letter_0 0 rfl rfl)
theorem dX5_letter_1 : decode cX5_letter 1 = .ok (.iconst 0, 1) := dk_3 (dk_at dksX5_letter_0 1 rfl rfl)
theorem dX5_letter_2 : decode cX5_letter 2 = .ok (.putfield 59, 3) := dk_181 0 59 (dk_at dksX5_letter_0 2 rfl rfl)
theorem dX5_letter_5 : decode cX5_letter 5 = .ok (.iload_n 1, 1) := dk_27 (dk_at dksX5_letter_0 5 rfl rfl)
theorem dX5_letter_6 : decode cX5_letter 6 = .ok (.iconst 0, 1) := dk_3 (dk_at dksX5_letter_0 6 rfl rfl)
theorem dX5_letter_7 : decode cX5_letter 7 = .ok (.bipush 11, 2) := dk_16 11 (dk_at dksX5_letter_0 7 rfl rfl)
theorem dX5_letter_9 : decode cX5_letter 9 = .ok (.invokestatic 66, 3) := dk_184 0 66 (dk_at dksX5_letter_0 9 rfl rfl)
theorem dX5_letter_12 : decode cX5_letter 12 = .ok (.ifCond .eq 21, 3) := dk_153 0 21 (dk_at dksX5_letter_0 12 rfl rfl)
theorem dX5_letter_15 : decode cX5_letter 15 = .ok (.iload_n 2, 1) := dk_28 (dk_at dksX5_letter_0 15 rfl rfl)
theorem dX5_letter_16 : decode cX5_letter 16 = .ok (.iconst 0, 1) := dk_3 (dk_at dksX5_letter_0 16 rfl rfl)
theorem dX5_letter_17 : decode cX5_letter 17 = .ok (.iconst 2, 1) := dk_5 (dk_at dksX5_letter_0 17 rfl rfl)
theorem dX5_letter_18 : decode cX5_letter 18 = .ok (.invokestatic 66, 3) := dk_184 0 66 (dk_at dksX5_letter_0 18 rfl rfl)
theorem dX5_letter_21 : decode cX5_letter 21 = .ok (.ifCond .eq 12, 3) := dk_153 0 12 (dk_at dksX5_letter_0 21 rfl rfl)
theorem dX5_letter_24 : decode cX5_letter 24 = .ok (.aload_n 0, 1) := dk_42 (dk_at dksX5_letter_1 0 rfl rfl)
theorem dX5_letter_25 : decode cX5_letter 25 = .ok (.iload_n 1, 1) := dk_27 (dk_at dksX5_letter_1 1 rfl rfl)
theorem dX5_letter_26 : decode cX5_letter 26 = .ok (.iload_n 2, 1) := dk_28 (dk_at dksX5_letter_1 2 rfl rfl)
theorem dX5_letter_27 : decode cX5_letter 27 = .ok (.invokevirtual 77, 3) := dk_182 0 77 (dk_at dksX5_letter_1 3 rfl rfl)
theorem dX5_letter_30 : decode cX5_letter 30 = .ok (.goto 8, 3) := dk_167 0 8 (dk_at dksX5_letter_1 6 rfl rfl)
theorem dX5_letter_33 : decode cX5_letter 33 = .ok (.aload_n 0, 1) := dk_42 (dk_at dksX5_letter_1 9 rfl rfl)
theorem dX5_letter_34 : decode cX5_letter 34 = .ok (.iconst 1, 1) := dk_4 (dk_at dksX5_letter_1 10 rfl rfl)
theorem dX5_letter_35 : decode cX5_letter 35 = .ok (.invokevirtual 70, 3) := dk_182 0 70 (dk_at dksX5_letter_1 11 rfl rfl)
theorem dX5_letter_38 : decode cX5_letter 38 = .ok (.ireturn, 1) := dk_172 (dk_at dksX5_letter_1 14 rfl rfl)
abbrev cX5_letterTold : ByteArray := prog_9_method_9_code
def yX5_letterTold : MethodName := ⟨RX5, "letterTold", "(II)I"⟩
def dkwX5_letterTold_1 : List UInt8 := [184, 0, 62, 167, 0, 9, 42, 180, 0, 13, 27, 46, 172]
abbrev dktX5_letterTold_1 : List UInt8 := dkwX5_letterTold_1 ++ []
def dkwX5_letterTold_0 : List UInt8 := [28, 154, 0, 12, 42, 180, 0, 9, 27, 46, 167, 0, 26, 28, 4, 160, 0, 15, 42, 180, 0, 9, 27, 46]
abbrev dktX5_letterTold_0 : List UInt8 := dkwX5_letterTold_0 ++ dktX5_letterTold_1
theorem dksX5_letterTold_0 : cX5_letterTold.data.toList.drop 0 = dktX5_letterTold_0 := by decide +kernel
theorem dksX5_letterTold_1 : cX5_letterTold.data.toList.drop 24 = dktX5_letterTold_1 := dk_seg dksX5_letterTold_0 24 rfl rfl
theorem dX5_letterTold_0 : decode cX5_letterTold 0 = .ok (.iload_n 2, 1) := dk_28 (dk_at dksX5_letterTold_0 0 rfl rfl)
theorem dX5_letterTold_1 : decode cX5_letterTold 1 = .ok (.ifCond .ne 12, 3) := dk_154 0 12 (dk_at dksX5_letterTold_0 1 rfl rfl)
theorem dX5_letterTold_4 : decode cX5_letterTold 4 = .ok (.aload_n 0, 1) := dk_42 (dk_at dksX5_letterTold_0 4 rfl rfl)
theorem dX5_letterTold_5 : decode cX5_letterTold 5 = .ok (.getfield 9, 3) := dk_180 0 9 (dk_at dksX5_letterTold_0 5 rfl rfl)
theorem dX5_letterTold_8 : decode cX5_letterTold 8 = .ok (.iload_n 1, 1) := dk_27 (dk_at dksX5_letterTold_0 8 rfl rfl)
theorem dX5_letterTold_9 : decode cX5_letterTold 9 = .ok (.iaload, 1) := dk_46 (dk_at dksX5_letterTold_0 9 rfl rfl)
theorem dX5_letterTold_10 : decode cX5_letterTold 10 = .ok (.goto 26, 3) := dk_167 0 26 (dk_at dksX5_letterTold_0 10 rfl rfl)
theorem dX5_letterTold_13 : decode cX5_letterTold 13 = .ok (.iload_n 2, 1) := dk_28 (dk_at dksX5_letterTold_0 13 rfl rfl)
theorem dX5_letterTold_14 : decode cX5_letterTold 14 = .ok (.iconst 1, 1) := dk_4 (dk_at dksX5_letterTold_0 14 rfl rfl)
theorem dX5_letterTold_15 : decode cX5_letterTold 15 = .ok (.if_icmp .ne 15, 3) := dk_160 0 15 (dk_at dksX5_letterTold_0 15 rfl rfl)
theorem dX5_letterTold_18 : decode cX5_letterTold 18 = .ok (.aload_n 0, 1) := dk_42 (dk_at dksX5_letterTold_0 18 rfl rfl)
theorem dX5_letterTold_19 : decode cX5_letterTold 19 = .ok (.getfield 9, 3) := dk_180 0 9 (dk_at dksX5_letterTold_0 19 rfl rfl)
theorem dX5_letterTold_22 : decode cX5_letterTold 22 = .ok (.iload_n 1, 1) := dk_27 (dk_at dksX5_letterTold_0 22 rfl rfl)
theorem dX5_letterTold_23 : decode cX5_letterTold 23 = .ok (.iaload, 1) := dk_46 (dk_at dksX5_letterTold_0 23 rfl rfl)
theorem dX5_letterTold_24 : decode cX5_letterTold 24 = .ok (.invokestatic 62, 3) := dk_184 0 62 (dk_at dksX5_letterTold_1 0 rfl rfl)
theorem dX5_letterTold_27 : decode cX5_letterTold 27 = .ok (.goto 9, 3) := dk_167 0 9 (dk_at dksX5_letterTold_1 3 rfl rfl)
theorem dX5_letterTold_30 : decode cX5_letterTold 30 = .ok (.aload_n 0, 1) := dk_42 (dk_at dksX5_letterTold_1 6 rfl rfl)
theorem dX5_letterTold_31 : decode cX5_letterTold 31 = .ok (.getfield 13, 3) := dk_180 0 13 (dk_at dksX5_letterTold_1 7 rfl rfl)
theorem dX5_letterTold_34 : decode cX5_letterTold 34 = .ok (.iload_n 1, 1) := dk_27 (dk_at dksX5_letterTold_1 10 rfl rfl)
theorem dX5_letterTold_35 : decode cX5_letterTold 35 = .ok (.iaload, 1) := dk_46 (dk_at dksX5_letterTold_1 11 rfl rfl)
theorem dX5_letterTold_36 : decode cX5_letterTold 36 = .ok (.ireturn, 1) := dk_172 (dk_at dksX5_letterTold_1 12 rfl rfl)
abbrev cX5_lengthOf : ByteArray := prog_9_method_5_code
def yX5_lengthOf : MethodName := ⟨RX5, "lengthOf", "(I)I"⟩
def dkwX5_lengthOf_0 : List UInt8 := [26, 154, 0, 7, 3, 167, 0, 12, 4, 26, 16, 10, 108, 184, 0, 62, 96, 172]
abbrev dktX5_lengthOf_0 : List UInt8 := dkwX5_lengthOf_0 ++ []
theorem dksX5_lengthOf_0 : cX5_lengthOf.data.toList.drop 0 = dktX5_lengthOf_0 := by decide +kernel
theorem dX5_lengthOf_0 : decode cX5_lengthOf 0 = .ok (.iload_n 0, 1) := dk_26 (dk_at dksX5_lengthOf_0 0 rfl rfl)
theorem dX5_lengthOf_1 : decode cX5_lengthOf 1 = .ok (.ifCond .ne 7, 3) := dk_154 0 7 (dk_at dksX5_lengthOf_0 1 rfl rfl)
theorem dX5_lengthOf_4 : decode cX5_lengthOf 4 = .ok (.iconst 0, 1) := dk_3 (dk_at dksX5_lengthOf_0 4 rfl rfl)
theorem dX5_lengthOf_5 : decode cX5_lengthOf 5 = .ok (.goto 12, 3) := dk_167 0 12 (dk_at dksX5_lengthOf_0 5 rfl rfl)
theorem dX5_lengthOf_8 : decode cX5_lengthOf 8 = .ok (.iconst 1, 1) := dk_4 (dk_at dksX5_lengthOf_0 8 rfl rfl)
theorem dX5_lengthOf_9 : decode cX5_lengthOf 9 = .ok (.iload_n 0, 1) := dk_26 (dk_at dksX5_lengthOf_0 9 rfl rfl)
theorem dX5_lengthOf_10 : decode cX5_lengthOf 10 = .ok (.bipush 10, 2) := dk_16 10 (dk_at dksX5_lengthOf_0 10 rfl rfl)
theorem dX5_lengthOf_12 : decode cX5_lengthOf 12 = .ok (.idiv, 1) := dk_108 (dk_at dksX5_lengthOf_0 12 rfl rfl)
theorem dX5_lengthOf_13 : decode cX5_lengthOf 13 = .ok (.invokestatic 62, 3) := dk_184 0 62 (dk_at dksX5_lengthOf_0 13 rfl rfl)
theorem dX5_lengthOf_16 : decode cX5_lengthOf 16 = .ok (.iadd, 1) := dk_96 (dk_at dksX5_lengthOf_0 16 rfl rfl)
theorem dX5_lengthOf_17 : decode cX5_lengthOf 17 = .ok (.ireturn, 1) := dk_172 (dk_at dksX5_lengthOf_0 17 rfl rfl)
abbrev cX5_isFree : ByteArray := prog_9_method_12_code
def yX5_isFree : MethodName := ⟨RX5, "isFree", "()Z"⟩
def dkwX5_isFree_3 : List UInt8 := [167, 0, 4, 3, 60, 132, 3, 1, 167, 255, 196, 132, 2, 1, 167, 255, 182, 27, 172]
abbrev dktX5_isFree_3 : List UInt8 := dkwX5_isFree_3 ++ []
def dkwX5_isFree_2 : List UInt8 := [153, 0, 21, 42, 180, 0, 9, 28, 46, 42, 180, 0, 9, 29, 46, 184, 0, 81, 154, 0, 7, 4]
abbrev dktX5_isFree_2 : List UInt8 := dkwX5_isFree_2 ++ dktX5_isFree_3
def dkwX5_isFree_1 : List UInt8 := [153, 0, 48, 28, 29, 159, 0, 39, 42, 180, 0, 9, 28, 46, 153, 0, 30, 42, 180, 0, 9, 29, 46]
abbrev dktX5_isFree_1 : List UInt8 := dkwX5_isFree_1 ++ dktX5_isFree_2
def dkwX5_isFree_0 : List UInt8 := [42, 3, 181, 0, 59, 4, 60, 3, 61, 28, 16, 12, 162, 0, 74, 3, 62, 29, 16, 12, 162, 0, 60, 27]
abbrev dktX5_isFree_0 : List UInt8 := dkwX5_isFree_0 ++ dktX5_isFree_1
theorem dksX5_isFree_0 : cX5_isFree.data.toList.drop 0 = dktX5_isFree_0 := by decide +kernel
theorem dksX5_isFree_1 : cX5_isFree.data.toList.drop 24 = dktX5_isFree_1 := dk_seg dksX5_isFree_0 24 rfl rfl
theorem dksX5_isFree_2 : cX5_isFree.data.toList.drop 47 = dktX5_isFree_2 := dk_seg dksX5_isFree_1 23 rfl rfl
theorem dksX5_isFree_3 : cX5_isFree.data.toList.drop 69 = dktX5_isFree_3 := dk_seg dksX5_isFree_2 22 rfl rfl
theorem dX5_isFree_0 : decode cX5_isFree 0 = .ok (.aload_n 0, 1) := dk_42 (dk_at dksX5_isFree_0 0 rfl rfl)
theorem dX5_isFree_1 : decode cX5_isFree 1 = .ok (.iconst 0, 1) := dk_3 (dk_at dksX5_isFree_0 1 rfl rfl)
theorem dX5_isFree_2 : decode cX5_isFree 2 = .ok (.putfield 59, 3) := dk_181 0 59 (dk_at dksX5_isFree_0 2 rfl rfl)
theorem dX5_isFree_5 : decode cX5_isFree 5 = .ok (.iconst 1, 1) := dk_4 (dk_at dksX5_isFree_0 5 rfl rfl)
theorem dX5_isFree_6 : decode cX5_isFree 6 = .ok (.istore_n 1, 1) := dk_60 (dk_at dksX5_isFree_0 6 rfl rfl)
theorem dX5_isFree_7 : decode cX5_isFree 7 = .ok (.iconst 0, 1) := dk_3 (dk_at dksX5_isFree_0 7 rfl rfl)
theorem dX5_isFree_8 : decode cX5_isFree 8 = .ok (.istore_n 2, 1) := dk_61 (dk_at dksX5_isFree_0 8 rfl rfl)
theorem dX5_isFree_9 : decode cX5_isFree 9 = .ok (.iload_n 2, 1) := dk_28 (dk_at dksX5_isFree_0 9 rfl rfl)
theorem dX5_isFree_10 : decode cX5_isFree 10 = .ok (.bipush 12, 2) := dk_16 12 (dk_at dksX5_isFree_0 10 rfl rfl)
theorem dX5_isFree_12 : decode cX5_isFree 12 = .ok (.if_icmp .ge 74, 3) := dk_162 0 74 (dk_at dksX5_isFree_0 12 rfl rfl)
theorem dX5_isFree_15 : decode cX5_isFree 15 = .ok (.iconst 0, 1) := dk_3 (dk_at dksX5_isFree_0 15 rfl rfl)
theorem dX5_isFree_16 : decode cX5_isFree 16 = .ok (.istore_n 3, 1) := dk_62 (dk_at dksX5_isFree_0 16 rfl rfl)
theorem dX5_isFree_17 : decode cX5_isFree 17 = .ok (.iload_n 3, 1) := dk_29 (dk_at dksX5_isFree_0 17 rfl rfl)
theorem dX5_isFree_18 : decode cX5_isFree 18 = .ok (.bipush 12, 2) := dk_16 12 (dk_at dksX5_isFree_0 18 rfl rfl)
theorem dX5_isFree_20 : decode cX5_isFree 20 = .ok (.if_icmp .ge 60, 3) := dk_162 0 60 (dk_at dksX5_isFree_0 20 rfl rfl)
theorem dX5_isFree_23 : decode cX5_isFree 23 = .ok (.iload_n 1, 1) := dk_27 (dk_at dksX5_isFree_0 23 rfl rfl)
theorem dX5_isFree_24 : decode cX5_isFree 24 = .ok (.ifCond .eq 48, 3) := dk_153 0 48 (dk_at dksX5_isFree_1 0 rfl rfl)
theorem dX5_isFree_27 : decode cX5_isFree 27 = .ok (.iload_n 2, 1) := dk_28 (dk_at dksX5_isFree_1 3 rfl rfl)
theorem dX5_isFree_28 : decode cX5_isFree 28 = .ok (.iload_n 3, 1) := dk_29 (dk_at dksX5_isFree_1 4 rfl rfl)
theorem dX5_isFree_29 : decode cX5_isFree 29 = .ok (.if_icmp .eq 39, 3) := dk_159 0 39 (dk_at dksX5_isFree_1 5 rfl rfl)
theorem dX5_isFree_32 : decode cX5_isFree 32 = .ok (.aload_n 0, 1) := dk_42 (dk_at dksX5_isFree_1 8 rfl rfl)
theorem dX5_isFree_33 : decode cX5_isFree 33 = .ok (.getfield 9, 3) := dk_180 0 9 (dk_at dksX5_isFree_1 9 rfl rfl)
theorem dX5_isFree_36 : decode cX5_isFree 36 = .ok (.iload_n 2, 1) := dk_28 (dk_at dksX5_isFree_1 12 rfl rfl)
theorem dX5_isFree_37 : decode cX5_isFree 37 = .ok (.iaload, 1) := dk_46 (dk_at dksX5_isFree_1 13 rfl rfl)
theorem dX5_isFree_38 : decode cX5_isFree 38 = .ok (.ifCond .eq 30, 3) := dk_153 0 30 (dk_at dksX5_isFree_1 14 rfl rfl)
theorem dX5_isFree_41 : decode cX5_isFree 41 = .ok (.aload_n 0, 1) := dk_42 (dk_at dksX5_isFree_1 17 rfl rfl)
theorem dX5_isFree_42 : decode cX5_isFree 42 = .ok (.getfield 9, 3) := dk_180 0 9 (dk_at dksX5_isFree_1 18 rfl rfl)
theorem dX5_isFree_45 : decode cX5_isFree 45 = .ok (.iload_n 3, 1) := dk_29 (dk_at dksX5_isFree_1 21 rfl rfl)
theorem dX5_isFree_46 : decode cX5_isFree 46 = .ok (.iaload, 1) := dk_46 (dk_at dksX5_isFree_1 22 rfl rfl)
theorem dX5_isFree_47 : decode cX5_isFree 47 = .ok (.ifCond .eq 21, 3) := dk_153 0 21 (dk_at dksX5_isFree_2 0 rfl rfl)
theorem dX5_isFree_50 : decode cX5_isFree 50 = .ok (.aload_n 0, 1) := dk_42 (dk_at dksX5_isFree_2 3 rfl rfl)
theorem dX5_isFree_51 : decode cX5_isFree 51 = .ok (.getfield 9, 3) := dk_180 0 9 (dk_at dksX5_isFree_2 4 rfl rfl)
theorem dX5_isFree_54 : decode cX5_isFree 54 = .ok (.iload_n 2, 1) := dk_28 (dk_at dksX5_isFree_2 7 rfl rfl)
theorem dX5_isFree_55 : decode cX5_isFree 55 = .ok (.iaload, 1) := dk_46 (dk_at dksX5_isFree_2 8 rfl rfl)
theorem dX5_isFree_56 : decode cX5_isFree 56 = .ok (.aload_n 0, 1) := dk_42 (dk_at dksX5_isFree_2 9 rfl rfl)
theorem dX5_isFree_57 : decode cX5_isFree 57 = .ok (.getfield 9, 3) := dk_180 0 9 (dk_at dksX5_isFree_2 10 rfl rfl)
theorem dX5_isFree_60 : decode cX5_isFree 60 = .ok (.iload_n 3, 1) := dk_29 (dk_at dksX5_isFree_2 13 rfl rfl)
theorem dX5_isFree_61 : decode cX5_isFree 61 = .ok (.iaload, 1) := dk_46 (dk_at dksX5_isFree_2 14 rfl rfl)
theorem dX5_isFree_62 : decode cX5_isFree 62 = .ok (.invokestatic 81, 3) := dk_184 0 81 (dk_at dksX5_isFree_2 15 rfl rfl)
theorem dX5_isFree_65 : decode cX5_isFree 65 = .ok (.ifCond .ne 7, 3) := dk_154 0 7 (dk_at dksX5_isFree_2 18 rfl rfl)
theorem dX5_isFree_68 : decode cX5_isFree 68 = .ok (.iconst 1, 1) := dk_4 (dk_at dksX5_isFree_2 21 rfl rfl)
theorem dX5_isFree_69 : decode cX5_isFree 69 = .ok (.goto 4, 3) := dk_167 0 4 (dk_at dksX5_isFree_3 0 rfl rfl)
theorem dX5_isFree_72 : decode cX5_isFree 72 = .ok (.iconst 0, 1) := dk_3 (dk_at dksX5_isFree_3 3 rfl rfl)
theorem dX5_isFree_73 : decode cX5_isFree 73 = .ok (.istore_n 1, 1) := dk_60 (dk_at dksX5_isFree_3 4 rfl rfl)
theorem dX5_isFree_74 : decode cX5_isFree 74 = .ok (.iinc 3 1, 3) := dk_132 3 1 (dk_at dksX5_isFree_3 5 rfl rfl)
theorem dX5_isFree_77 : decode cX5_isFree 77 = .ok (.goto (-60), 3) := dk_167 255 196 (dk_at dksX5_isFree_3 8 rfl rfl)
theorem dX5_isFree_80 : decode cX5_isFree 80 = .ok (.iinc 2 1, 3) := dk_132 2 1 (dk_at dksX5_isFree_3 11 rfl rfl)
theorem dX5_isFree_83 : decode cX5_isFree 83 = .ok (.goto (-74), 3) := dk_167 255 182 (dk_at dksX5_isFree_3 14 rfl rfl)
theorem dX5_isFree_86 : decode cX5_isFree 86 = .ok (.iload_n 1, 1) := dk_27 (dk_at dksX5_isFree_3 17 rfl rfl)
theorem dX5_isFree_87 : decode cX5_isFree 87 = .ok (.ireturn, 1) := dk_172 (dk_at dksX5_isFree_3 18 rfl rfl)
abbrev cX5_begins : ByteArray := prog_9_method_11_code
def yX5_begins : MethodName := ⟨RX5, "begins", "(II)Z"⟩
def dkwX5_begins_1 : List UInt8 := [160, 0, 7, 4, 167, 0, 4, 3, 172]
abbrev dktX5_begins_1 : List UInt8 := dkwX5_begins_1 ++ []
def dkwX5_begins_0 : List UInt8 := [27, 61, 28, 184, 0, 62, 26, 184, 0, 62, 164, 0, 11, 28, 16, 10, 108, 61, 167, 255, 240, 28, 26]
abbrev dktX5_begins_0 : List UInt8 := dkwX5_begins_0 ++ dktX5_begins_1
theorem dksX5_begins_0 : cX5_begins.data.toList.drop 0 = dktX5_begins_0 := by decide +kernel
theorem dksX5_begins_1 : cX5_begins.data.toList.drop 23 = dktX5_begins_1 := dk_seg dksX5_begins_0 23 rfl rfl
theorem dX5_begins_0 : decode cX5_begins 0 = .ok (.iload_n 1, 1) := dk_27 (dk_at dksX5_begins_0 0 rfl rfl)
theorem dX5_begins_1 : decode cX5_begins 1 = .ok (.istore_n 2, 1) := dk_61 (dk_at dksX5_begins_0 1 rfl rfl)
theorem dX5_begins_2 : decode cX5_begins 2 = .ok (.iload_n 2, 1) := dk_28 (dk_at dksX5_begins_0 2 rfl rfl)
theorem dX5_begins_3 : decode cX5_begins 3 = .ok (.invokestatic 62, 3) := dk_184 0 62 (dk_at dksX5_begins_0 3 rfl rfl)
theorem dX5_begins_6 : decode cX5_begins 6 = .ok (.iload_n 0, 1) := dk_26 (dk_at dksX5_begins_0 6 rfl rfl)
theorem dX5_begins_7 : decode cX5_begins 7 = .ok (.invokestatic 62, 3) := dk_184 0 62 (dk_at dksX5_begins_0 7 rfl rfl)
theorem dX5_begins_10 : decode cX5_begins 10 = .ok (.if_icmp .le 11, 3) := dk_164 0 11 (dk_at dksX5_begins_0 10 rfl rfl)
theorem dX5_begins_13 : decode cX5_begins 13 = .ok (.iload_n 2, 1) := dk_28 (dk_at dksX5_begins_0 13 rfl rfl)
theorem dX5_begins_14 : decode cX5_begins 14 = .ok (.bipush 10, 2) := dk_16 10 (dk_at dksX5_begins_0 14 rfl rfl)
theorem dX5_begins_16 : decode cX5_begins 16 = .ok (.idiv, 1) := dk_108 (dk_at dksX5_begins_0 16 rfl rfl)
theorem dX5_begins_17 : decode cX5_begins 17 = .ok (.istore_n 2, 1) := dk_61 (dk_at dksX5_begins_0 17 rfl rfl)
theorem dX5_begins_18 : decode cX5_begins 18 = .ok (.goto (-16), 3) := dk_167 255 240 (dk_at dksX5_begins_0 18 rfl rfl)
theorem dX5_begins_21 : decode cX5_begins 21 = .ok (.iload_n 2, 1) := dk_28 (dk_at dksX5_begins_0 21 rfl rfl)
theorem dX5_begins_22 : decode cX5_begins 22 = .ok (.iload_n 0, 1) := dk_26 (dk_at dksX5_begins_0 22 rfl rfl)
theorem dX5_begins_23 : decode cX5_begins 23 = .ok (.if_icmp .ne 7, 3) := dk_160 0 7 (dk_at dksX5_begins_1 0 rfl rfl)
theorem dX5_begins_26 : decode cX5_begins 26 = .ok (.iconst 1, 1) := dk_4 (dk_at dksX5_begins_1 3 rfl rfl)
theorem dX5_begins_27 : decode cX5_begins 27 = .ok (.goto 4, 3) := dk_167 0 4 (dk_at dksX5_begins_1 4 rfl rfl)
theorem dX5_begins_30 : decode cX5_begins 30 = .ok (.iconst 0, 1) := dk_3 (dk_at dksX5_begins_1 7 rfl rfl)
theorem dX5_begins_31 : decode cX5_begins 31 = .ok (.ireturn, 1) := dk_172 (dk_at dksX5_begins_1 8 rfl rfl)
abbrev cX5_isClear : ByteArray := prog_9_method_14_code
def yX5_isClear : MethodName := ⟨RX5, "isClear", "()Z"⟩
def dkwX5_isClear_9 : List UInt8 := [21, 6, 79, 132, 3, 1, 132, 5, 1, 167, 255, 175, 132, 4, 1, 167, 255, 160, 4, 172]
abbrev dktX5_isClear_9 : List UInt8 := dkwX5_isClear_9 ++ []
def dkwX5_isClear_8 : List UInt8 := [21, 6, 2, 159, 0, 26, 43, 21, 6, 51, 153, 0, 6, 167, 0, 16, 43, 21, 6, 4, 84, 44, 29]
abbrev dktX5_isClear_8 : List UInt8 := dkwX5_isClear_8 ++ dktX5_isClear_9
def dkwX5_isClear_7 : List UInt8 := [108, 44, 21, 4, 46, 7, 112, 21, 5, 182, 0, 93, 54, 6, 21, 6, 16, 254, 160, 0, 5, 3, 172]
abbrev dktX5_isClear_7 : List UInt8 := dkwX5_isClear_7 ++ dktX5_isClear_8
def dkwX5_isClear_6 : List UInt8 := [16, 12, 162, 0, 80, 42, 180, 0, 9, 21, 5, 46, 154, 0, 6, 167, 0, 61, 42, 44, 21, 4, 46, 7]
abbrev dktX5_isClear_6 : List UInt8 := dkwX5_isClear_6 ++ dktX5_isClear_7
def dkwX5_isClear_5 : List UInt8 := [167, 255, 174, 132, 4, 1, 167, 255, 155, 3, 54, 4, 21, 4, 29, 162, 0, 96, 3, 54, 5, 21, 5]
abbrev dktX5_isClear_5 : List UInt8 := dkwX5_isClear_5 ++ dktX5_isClear_6
def dkwX5_isClear_4 : List UInt8 := [153, 0, 6, 167, 0, 16, 43, 21, 6, 4, 84, 44, 29, 21, 6, 79, 132, 3, 1, 132, 5, 1]
abbrev dktX5_isClear_4 : List UInt8 := dkwX5_isClear_4 ++ dktX5_isClear_5
def dkwX5_isClear_3 : List UInt8 := [182, 0, 93, 54, 6, 21, 6, 16, 254, 160, 0, 5, 3, 172, 21, 6, 2, 159, 0, 26, 43, 21, 6, 51]
abbrev dktX5_isClear_3 : List UInt8 := dkwX5_isClear_3 ++ dktX5_isClear_4
def dkwX5_isClear_2 : List UInt8 := [153, 0, 65, 42, 180, 0, 9, 21, 5, 46, 154, 0, 6, 167, 0, 52, 42, 21, 4, 3, 21, 5]
abbrev dktX5_isClear_2 : List UInt8 := dkwX5_isClear_2 ++ dktX5_isClear_3
def dkwX5_isClear_1 : List UInt8 := [162, 0, 100, 21, 4, 4, 96, 54, 5, 21, 5, 16, 12, 162, 0, 81, 42, 180, 0, 9, 21, 4, 46]
abbrev dktX5_isClear_1 : List UInt8 := dkwX5_isClear_1 ++ dktX5_isClear_2
def dkwX5_isClear_0 : List UInt8 := [42, 3, 181, 0, 59, 16, 48, 188, 4, 76, 16, 48, 188, 10, 77, 3, 62, 3, 54, 4, 21, 4, 16, 12]
abbrev dktX5_isClear_0 : List UInt8 := dkwX5_isClear_0 ++ dktX5_isClear_1
theorem dksX5_isClear_0 : cX5_isClear.data.toList.drop 0 = dktX5_isClear_0 := by decide +kernel
theorem dksX5_isClear_1 : cX5_isClear.data.toList.drop 24 = dktX5_isClear_1 := dk_seg dksX5_isClear_0 24 rfl rfl
theorem dksX5_isClear_2 : cX5_isClear.data.toList.drop 47 = dktX5_isClear_2 := dk_seg dksX5_isClear_1 23 rfl rfl
theorem dksX5_isClear_3 : cX5_isClear.data.toList.drop 69 = dktX5_isClear_3 := dk_seg dksX5_isClear_2 22 rfl rfl
theorem dksX5_isClear_4 : cX5_isClear.data.toList.drop 93 = dktX5_isClear_4 := dk_seg dksX5_isClear_3 24 rfl rfl
theorem dksX5_isClear_5 : cX5_isClear.data.toList.drop 115 = dktX5_isClear_5 := dk_seg dksX5_isClear_4 22 rfl rfl
theorem dksX5_isClear_6 : cX5_isClear.data.toList.drop 138 = dktX5_isClear_6 := dk_seg dksX5_isClear_5 23 rfl rfl
theorem dksX5_isClear_7 : cX5_isClear.data.toList.drop 162 = dktX5_isClear_7 := dk_seg dksX5_isClear_6 24 rfl rfl
theorem dksX5_isClear_8 : cX5_isClear.data.toList.drop 185 = dktX5_isClear_8 := dk_seg dksX5_isClear_7 23 rfl rfl
theorem dksX5_isClear_9 : cX5_isClear.data.toList.drop 208 = dktX5_isClear_9 := dk_seg dksX5_isClear_8 23 rfl rfl
theorem dX5_isClear_0 : decode cX5_isClear 0 = .ok (.aload_n 0, 1) := dk_42 (dk_at dksX5_isClear_0 0 rfl rfl)
theorem dX5_isClear_1 : decode cX5_isClear 1 = .ok (.iconst 0, 1) := dk_3 (dk_at dksX5_isClear_0 1 rfl rfl)
theorem dX5_isClear_2 : decode cX5_isClear 2 = .ok (.putfield 59, 3) := dk_181 0 59 (dk_at dksX5_isClear_0 2 rfl rfl)
theorem dX5_isClear_5 : decode cX5_isClear 5 = .ok (.bipush 48, 2) := dk_16 48 (dk_at dksX5_isClear_0 5 rfl rfl)
theorem dX5_isClear_7 : decode cX5_isClear 7 = .ok (.newarray .boolean, 2) := dk_188_4 (dk_at dksX5_isClear_0 7 rfl rfl)
theorem dX5_isClear_9 : decode cX5_isClear 9 = .ok (.astore_n 1, 1) := dk_76 (dk_at dksX5_isClear_0 9 rfl rfl)
theorem dX5_isClear_10 : decode cX5_isClear 10 = .ok (.bipush 48, 2) := dk_16 48 (dk_at dksX5_isClear_0 10 rfl rfl)
theorem dX5_isClear_12 : decode cX5_isClear 12 = .ok (.newarray .int, 2) := dk_188_10 (dk_at dksX5_isClear_0 12 rfl rfl)
theorem dX5_isClear_14 : decode cX5_isClear 14 = .ok (.astore_n 2, 1) := dk_77 (dk_at dksX5_isClear_0 14 rfl rfl)
theorem dX5_isClear_15 : decode cX5_isClear 15 = .ok (.iconst 0, 1) := dk_3 (dk_at dksX5_isClear_0 15 rfl rfl)
theorem dX5_isClear_16 : decode cX5_isClear 16 = .ok (.istore_n 3, 1) := dk_62 (dk_at dksX5_isClear_0 16 rfl rfl)
theorem dX5_isClear_17 : decode cX5_isClear 17 = .ok (.iconst 0, 1) := dk_3 (dk_at dksX5_isClear_0 17 rfl rfl)
theorem dX5_isClear_18 : decode cX5_isClear 18 = .ok (.istore 4, 2) := dk_54 4 (dk_at dksX5_isClear_0 18 rfl rfl)
theorem dX5_isClear_20 : decode cX5_isClear 20 = .ok (.iload 4, 2) := dk_21 4 (dk_at dksX5_isClear_0 20 rfl rfl)
theorem dX5_isClear_22 : decode cX5_isClear 22 = .ok (.bipush 12, 2) := dk_16 12 (dk_at dksX5_isClear_0 22 rfl rfl)
theorem dX5_isClear_24 : decode cX5_isClear 24 = .ok (.if_icmp .ge 100, 3) := dk_162 0 100 (dk_at dksX5_isClear_1 0 rfl rfl)
theorem dX5_isClear_27 : decode cX5_isClear 27 = .ok (.iload 4, 2) := dk_21 4 (dk_at dksX5_isClear_1 3 rfl rfl)
theorem dX5_isClear_29 : decode cX5_isClear 29 = .ok (.iconst 1, 1) := dk_4 (dk_at dksX5_isClear_1 5 rfl rfl)
theorem dX5_isClear_30 : decode cX5_isClear 30 = .ok (.iadd, 1) := dk_96 (dk_at dksX5_isClear_1 6 rfl rfl)
theorem dX5_isClear_31 : decode cX5_isClear 31 = .ok (.istore 5, 2) := dk_54 5 (dk_at dksX5_isClear_1 7 rfl rfl)
theorem dX5_isClear_33 : decode cX5_isClear 33 = .ok (.iload 5, 2) := dk_21 5 (dk_at dksX5_isClear_1 9 rfl rfl)
theorem dX5_isClear_35 : decode cX5_isClear 35 = .ok (.bipush 12, 2) := dk_16 12 (dk_at dksX5_isClear_1 11 rfl rfl)
theorem dX5_isClear_37 : decode cX5_isClear 37 = .ok (.if_icmp .ge 81, 3) := dk_162 0 81 (dk_at dksX5_isClear_1 13 rfl rfl)
theorem dX5_isClear_40 : decode cX5_isClear 40 = .ok (.aload_n 0, 1) := dk_42 (dk_at dksX5_isClear_1 16 rfl rfl)
theorem dX5_isClear_41 : decode cX5_isClear 41 = .ok (.getfield 9, 3) := dk_180 0 9 (dk_at dksX5_isClear_1 17 rfl rfl)
theorem dX5_isClear_44 : decode cX5_isClear 44 = .ok (.iload 4, 2) := dk_21 4 (dk_at dksX5_isClear_1 20 rfl rfl)
theorem dX5_isClear_46 : decode cX5_isClear 46 = .ok (.iaload, 1) := dk_46 (dk_at dksX5_isClear_1 22 rfl rfl)
theorem dX5_isClear_47 : decode cX5_isClear 47 = .ok (.ifCond .eq 65, 3) := dk_153 0 65 (dk_at dksX5_isClear_2 0 rfl rfl)
theorem dX5_isClear_50 : decode cX5_isClear 50 = .ok (.aload_n 0, 1) := dk_42 (dk_at dksX5_isClear_2 3 rfl rfl)
theorem dX5_isClear_51 : decode cX5_isClear 51 = .ok (.getfield 9, 3) := dk_180 0 9 (dk_at dksX5_isClear_2 4 rfl rfl)
theorem dX5_isClear_54 : decode cX5_isClear 54 = .ok (.iload 5, 2) := dk_21 5 (dk_at dksX5_isClear_2 7 rfl rfl)
theorem dX5_isClear_56 : decode cX5_isClear 56 = .ok (.iaload, 1) := dk_46 (dk_at dksX5_isClear_2 9 rfl rfl)
theorem dX5_isClear_57 : decode cX5_isClear 57 = .ok (.ifCond .ne 6, 3) := dk_154 0 6 (dk_at dksX5_isClear_2 10 rfl rfl)
theorem dX5_isClear_60 : decode cX5_isClear 60 = .ok (.goto 52, 3) := dk_167 0 52 (dk_at dksX5_isClear_2 13 rfl rfl)
theorem dX5_isClear_63 : decode cX5_isClear 63 = .ok (.aload_n 0, 1) := dk_42 (dk_at dksX5_isClear_2 16 rfl rfl)
theorem dX5_isClear_64 : decode cX5_isClear 64 = .ok (.iload 4, 2) := dk_21 4 (dk_at dksX5_isClear_2 17 rfl rfl)
theorem dX5_isClear_66 : decode cX5_isClear 66 = .ok (.iconst 0, 1) := dk_3 (dk_at dksX5_isClear_2 19 rfl rfl)
theorem dX5_isClear_67 : decode cX5_isClear 67 = .ok (.iload 5, 2) := dk_21 5 (dk_at dksX5_isClear_2 20 rfl rfl)
theorem dX5_isClear_69 : decode cX5_isClear 69 = .ok (.invokevirtual 93, 3) := dk_182 0 93 (dk_at dksX5_isClear_3 0 rfl rfl)
theorem dX5_isClear_72 : decode cX5_isClear 72 = .ok (.istore 6, 2) := dk_54 6 (dk_at dksX5_isClear_3 3 rfl rfl)
theorem dX5_isClear_74 : decode cX5_isClear 74 = .ok (.iload 6, 2) := dk_21 6 (dk_at dksX5_isClear_3 5 rfl rfl)
theorem dX5_isClear_76 : decode cX5_isClear 76 = .ok (.bipush (-2), 2) := dk_16 254 (dk_at dksX5_isClear_3 7 rfl rfl)
theorem dX5_isClear_78 : decode cX5_isClear 78 = .ok (.if_icmp .ne 5, 3) := dk_160 0 5 (dk_at dksX5_isClear_3 9 rfl rfl)
theorem dX5_isClear_81 : decode cX5_isClear 81 = .ok (.iconst 0, 1) := dk_3 (dk_at dksX5_isClear_3 12 rfl rfl)
theorem dX5_isClear_82 : decode cX5_isClear 82 = .ok (.ireturn, 1) := dk_172 (dk_at dksX5_isClear_3 13 rfl rfl)
theorem dX5_isClear_83 : decode cX5_isClear 83 = .ok (.iload 6, 2) := dk_21 6 (dk_at dksX5_isClear_3 14 rfl rfl)
theorem dX5_isClear_85 : decode cX5_isClear 85 = .ok (.iconst (-1), 1) := dk_2 (dk_at dksX5_isClear_3 16 rfl rfl)
theorem dX5_isClear_86 : decode cX5_isClear 86 = .ok (.if_icmp .eq 26, 3) := dk_159 0 26 (dk_at dksX5_isClear_3 17 rfl rfl)
theorem dX5_isClear_89 : decode cX5_isClear 89 = .ok (.aload_n 1, 1) := dk_43 (dk_at dksX5_isClear_3 20 rfl rfl)
theorem dX5_isClear_90 : decode cX5_isClear 90 = .ok (.iload 6, 2) := dk_21 6 (dk_at dksX5_isClear_3 21 rfl rfl)
theorem dX5_isClear_92 : decode cX5_isClear 92 = .ok (.baload, 1) := dk_51 (dk_at dksX5_isClear_3 23 rfl rfl)
theorem dX5_isClear_93 : decode cX5_isClear 93 = .ok (.ifCond .eq 6, 3) := dk_153 0 6 (dk_at dksX5_isClear_4 0 rfl rfl)
theorem dX5_isClear_96 : decode cX5_isClear 96 = .ok (.goto 16, 3) := dk_167 0 16 (dk_at dksX5_isClear_4 3 rfl rfl)
theorem dX5_isClear_99 : decode cX5_isClear 99 = .ok (.aload_n 1, 1) := dk_43 (dk_at dksX5_isClear_4 6 rfl rfl)
theorem dX5_isClear_100 : decode cX5_isClear 100 = .ok (.iload 6, 2) := dk_21 6 (dk_at dksX5_isClear_4 7 rfl rfl)
theorem dX5_isClear_102 : decode cX5_isClear 102 = .ok (.iconst 1, 1) := dk_4 (dk_at dksX5_isClear_4 9 rfl rfl)
theorem dX5_isClear_103 : decode cX5_isClear 103 = .ok (.bastore, 1) := dk_84 (dk_at dksX5_isClear_4 10 rfl rfl)
theorem dX5_isClear_104 : decode cX5_isClear 104 = .ok (.aload_n 2, 1) := dk_44 (dk_at dksX5_isClear_4 11 rfl rfl)
theorem dX5_isClear_105 : decode cX5_isClear 105 = .ok (.iload_n 3, 1) := dk_29 (dk_at dksX5_isClear_4 12 rfl rfl)
theorem dX5_isClear_106 : decode cX5_isClear 106 = .ok (.iload 6, 2) := dk_21 6 (dk_at dksX5_isClear_4 13 rfl rfl)
theorem dX5_isClear_108 : decode cX5_isClear 108 = .ok (.iastore, 1) := dk_79 (dk_at dksX5_isClear_4 15 rfl rfl)
theorem dX5_isClear_109 : decode cX5_isClear 109 = .ok (.iinc 3 1, 3) := dk_132 3 1 (dk_at dksX5_isClear_4 16 rfl rfl)
theorem dX5_isClear_112 : decode cX5_isClear 112 = .ok (.iinc 5 1, 3) := dk_132 5 1 (dk_at dksX5_isClear_4 19 rfl rfl)
theorem dX5_isClear_115 : decode cX5_isClear 115 = .ok (.goto (-82), 3) := dk_167 255 174 (dk_at dksX5_isClear_5 0 rfl rfl)
theorem dX5_isClear_118 : decode cX5_isClear 118 = .ok (.iinc 4 1, 3) := dk_132 4 1 (dk_at dksX5_isClear_5 3 rfl rfl)
theorem dX5_isClear_121 : decode cX5_isClear 121 = .ok (.goto (-101), 3) := dk_167 255 155 (dk_at dksX5_isClear_5 6 rfl rfl)
theorem dX5_isClear_124 : decode cX5_isClear 124 = .ok (.iconst 0, 1) := dk_3 (dk_at dksX5_isClear_5 9 rfl rfl)
theorem dX5_isClear_125 : decode cX5_isClear 125 = .ok (.istore 4, 2) := dk_54 4 (dk_at dksX5_isClear_5 10 rfl rfl)
theorem dX5_isClear_127 : decode cX5_isClear 127 = .ok (.iload 4, 2) := dk_21 4 (dk_at dksX5_isClear_5 12 rfl rfl)
theorem dX5_isClear_129 : decode cX5_isClear 129 = .ok (.iload_n 3, 1) := dk_29 (dk_at dksX5_isClear_5 14 rfl rfl)
theorem dX5_isClear_130 : decode cX5_isClear 130 = .ok (.if_icmp .ge 96, 3) := dk_162 0 96 (dk_at dksX5_isClear_5 15 rfl rfl)
theorem dX5_isClear_133 : decode cX5_isClear 133 = .ok (.iconst 0, 1) := dk_3 (dk_at dksX5_isClear_5 18 rfl rfl)
theorem dX5_isClear_134 : decode cX5_isClear 134 = .ok (.istore 5, 2) := dk_54 5 (dk_at dksX5_isClear_5 19 rfl rfl)
theorem dX5_isClear_136 : decode cX5_isClear 136 = .ok (.iload 5, 2) := dk_21 5 (dk_at dksX5_isClear_5 21 rfl rfl)
theorem dX5_isClear_138 : decode cX5_isClear 138 = .ok (.bipush 12, 2) := dk_16 12 (dk_at dksX5_isClear_6 0 rfl rfl)
theorem dX5_isClear_140 : decode cX5_isClear 140 = .ok (.if_icmp .ge 80, 3) := dk_162 0 80 (dk_at dksX5_isClear_6 2 rfl rfl)
theorem dX5_isClear_143 : decode cX5_isClear 143 = .ok (.aload_n 0, 1) := dk_42 (dk_at dksX5_isClear_6 5 rfl rfl)
theorem dX5_isClear_144 : decode cX5_isClear 144 = .ok (.getfield 9, 3) := dk_180 0 9 (dk_at dksX5_isClear_6 6 rfl rfl)
theorem dX5_isClear_147 : decode cX5_isClear 147 = .ok (.iload 5, 2) := dk_21 5 (dk_at dksX5_isClear_6 9 rfl rfl)
theorem dX5_isClear_149 : decode cX5_isClear 149 = .ok (.iaload, 1) := dk_46 (dk_at dksX5_isClear_6 11 rfl rfl)
theorem dX5_isClear_150 : decode cX5_isClear 150 = .ok (.ifCond .ne 6, 3) := dk_154 0 6 (dk_at dksX5_isClear_6 12 rfl rfl)
theorem dX5_isClear_153 : decode cX5_isClear 153 = .ok (.goto 61, 3) := dk_167 0 61 (dk_at dksX5_isClear_6 15 rfl rfl)
theorem dX5_isClear_156 : decode cX5_isClear 156 = .ok (.aload_n 0, 1) := dk_42 (dk_at dksX5_isClear_6 18 rfl rfl)
theorem dX5_isClear_157 : decode cX5_isClear 157 = .ok (.aload_n 2, 1) := dk_44 (dk_at dksX5_isClear_6 19 rfl rfl)
theorem dX5_isClear_158 : decode cX5_isClear 158 = .ok (.iload 4, 2) := dk_21 4 (dk_at dksX5_isClear_6 20 rfl rfl)
theorem dX5_isClear_160 : decode cX5_isClear 160 = .ok (.iaload, 1) := dk_46 (dk_at dksX5_isClear_6 22 rfl rfl)
theorem dX5_isClear_161 : decode cX5_isClear 161 = .ok (.iconst 4, 1) := dk_7 (dk_at dksX5_isClear_6 23 rfl rfl)
theorem dX5_isClear_162 : decode cX5_isClear 162 = .ok (.idiv, 1) := dk_108 (dk_at dksX5_isClear_7 0 rfl rfl)
theorem dX5_isClear_163 : decode cX5_isClear 163 = .ok (.aload_n 2, 1) := dk_44 (dk_at dksX5_isClear_7 1 rfl rfl)
theorem dX5_isClear_164 : decode cX5_isClear 164 = .ok (.iload 4, 2) := dk_21 4 (dk_at dksX5_isClear_7 2 rfl rfl)
theorem dX5_isClear_166 : decode cX5_isClear 166 = .ok (.iaload, 1) := dk_46 (dk_at dksX5_isClear_7 4 rfl rfl)
theorem dX5_isClear_167 : decode cX5_isClear 167 = .ok (.iconst 4, 1) := dk_7 (dk_at dksX5_isClear_7 5 rfl rfl)
theorem dX5_isClear_168 : decode cX5_isClear 168 = .ok (.irem, 1) := dk_112 (dk_at dksX5_isClear_7 6 rfl rfl)
theorem dX5_isClear_169 : decode cX5_isClear 169 = .ok (.iload 5, 2) := dk_21 5 (dk_at dksX5_isClear_7 7 rfl rfl)
theorem dX5_isClear_171 : decode cX5_isClear 171 = .ok (.invokevirtual 93, 3) := dk_182 0 93 (dk_at dksX5_isClear_7 9 rfl rfl)
theorem dX5_isClear_174 : decode cX5_isClear 174 = .ok (.istore 6, 2) := dk_54 6 (dk_at dksX5_isClear_7 12 rfl rfl)
theorem dX5_isClear_176 : decode cX5_isClear 176 = .ok (.iload 6, 2) := dk_21 6 (dk_at dksX5_isClear_7 14 rfl rfl)
theorem dX5_isClear_178 : decode cX5_isClear 178 = .ok (.bipush (-2), 2) := dk_16 254 (dk_at dksX5_isClear_7 16 rfl rfl)
theorem dX5_isClear_180 : decode cX5_isClear 180 = .ok (.if_icmp .ne 5, 3) := dk_160 0 5 (dk_at dksX5_isClear_7 18 rfl rfl)
theorem dX5_isClear_183 : decode cX5_isClear 183 = .ok (.iconst 0, 1) := dk_3 (dk_at dksX5_isClear_7 21 rfl rfl)
theorem dX5_isClear_184 : decode cX5_isClear 184 = .ok (.ireturn, 1) := dk_172 (dk_at dksX5_isClear_7 22 rfl rfl)
theorem dX5_isClear_185 : decode cX5_isClear 185 = .ok (.iload 6, 2) := dk_21 6 (dk_at dksX5_isClear_8 0 rfl rfl)
theorem dX5_isClear_187 : decode cX5_isClear 187 = .ok (.iconst (-1), 1) := dk_2 (dk_at dksX5_isClear_8 2 rfl rfl)
theorem dX5_isClear_188 : decode cX5_isClear 188 = .ok (.if_icmp .eq 26, 3) := dk_159 0 26 (dk_at dksX5_isClear_8 3 rfl rfl)
theorem dX5_isClear_191 : decode cX5_isClear 191 = .ok (.aload_n 1, 1) := dk_43 (dk_at dksX5_isClear_8 6 rfl rfl)
theorem dX5_isClear_192 : decode cX5_isClear 192 = .ok (.iload 6, 2) := dk_21 6 (dk_at dksX5_isClear_8 7 rfl rfl)
theorem dX5_isClear_194 : decode cX5_isClear 194 = .ok (.baload, 1) := dk_51 (dk_at dksX5_isClear_8 9 rfl rfl)
theorem dX5_isClear_195 : decode cX5_isClear 195 = .ok (.ifCond .eq 6, 3) := dk_153 0 6 (dk_at dksX5_isClear_8 10 rfl rfl)
theorem dX5_isClear_198 : decode cX5_isClear 198 = .ok (.goto 16, 3) := dk_167 0 16 (dk_at dksX5_isClear_8 13 rfl rfl)
theorem dX5_isClear_201 : decode cX5_isClear 201 = .ok (.aload_n 1, 1) := dk_43 (dk_at dksX5_isClear_8 16 rfl rfl)
theorem dX5_isClear_202 : decode cX5_isClear 202 = .ok (.iload 6, 2) := dk_21 6 (dk_at dksX5_isClear_8 17 rfl rfl)
theorem dX5_isClear_204 : decode cX5_isClear 204 = .ok (.iconst 1, 1) := dk_4 (dk_at dksX5_isClear_8 19 rfl rfl)
theorem dX5_isClear_205 : decode cX5_isClear 205 = .ok (.bastore, 1) := dk_84 (dk_at dksX5_isClear_8 20 rfl rfl)
theorem dX5_isClear_206 : decode cX5_isClear 206 = .ok (.aload_n 2, 1) := dk_44 (dk_at dksX5_isClear_8 21 rfl rfl)
theorem dX5_isClear_207 : decode cX5_isClear 207 = .ok (.iload_n 3, 1) := dk_29 (dk_at dksX5_isClear_8 22 rfl rfl)
theorem dX5_isClear_208 : decode cX5_isClear 208 = .ok (.iload 6, 2) := dk_21 6 (dk_at dksX5_isClear_9 0 rfl rfl)
theorem dX5_isClear_210 : decode cX5_isClear 210 = .ok (.iastore, 1) := dk_79 (dk_at dksX5_isClear_9 2 rfl rfl)
theorem dX5_isClear_211 : decode cX5_isClear 211 = .ok (.iinc 3 1, 3) := dk_132 3 1 (dk_at dksX5_isClear_9 3 rfl rfl)
theorem dX5_isClear_214 : decode cX5_isClear 214 = .ok (.iinc 5 1, 3) := dk_132 5 1 (dk_at dksX5_isClear_9 6 rfl rfl)
theorem dX5_isClear_217 : decode cX5_isClear 217 = .ok (.goto (-81), 3) := dk_167 255 175 (dk_at dksX5_isClear_9 9 rfl rfl)
theorem dX5_isClear_220 : decode cX5_isClear 220 = .ok (.iinc 4 1, 3) := dk_132 4 1 (dk_at dksX5_isClear_9 12 rfl rfl)
theorem dX5_isClear_223 : decode cX5_isClear 223 = .ok (.goto (-96), 3) := dk_167 255 160 (dk_at dksX5_isClear_9 15 rfl rfl)
theorem dX5_isClear_226 : decode cX5_isClear 226 = .ok (.iconst 1, 1) := dk_4 (dk_at dksX5_isClear_9 18 rfl rfl)
theorem dX5_isClear_227 : decode cX5_isClear 227 = .ok (.ireturn, 1) := dk_172 (dk_at dksX5_isClear_9 19 rfl rfl)
abbrev cX5_over : ByteArray := prog_9_method_13_code
def yX5_over : MethodName := ⟨RX5, "over", "(III)I"⟩
def dkwX5_over_4 : List UInt8 := [104, 28, 96, 21, 5, 96, 167, 0, 9, 7, 29, 104, 21, 4, 96, 172]
abbrev dktX5_over_4 : List UInt8 := dkwX5_over_4 ++ []
def dkwX5_over_3 : List UInt8 := [167, 255, 212, 21, 4, 21, 5, 160, 0, 8, 16, 254, 167, 0, 27, 21, 4, 21, 5, 164, 0, 14, 7, 27]
abbrev dktX5_over_3 : List UInt8 := dkwX5_over_3 ++ dktX5_over_4
def dkwX5_over_2 : List UInt8 := [96, 184, 0, 90, 42, 180, 0, 9, 29, 46, 21, 6, 184, 0, 90, 159, 0, 5, 2, 172, 132, 6, 1]
abbrev dktX5_over_2 : List UInt8 := dkwX5_over_2 ++ dktX5_over_3
def dkwX5_over_1 : List UInt8 := [3, 54, 6, 21, 6, 21, 4, 21, 5, 184, 0, 85, 162, 0, 38, 42, 180, 0, 9, 27, 46, 28, 21, 6]
abbrev dktX5_over_1 : List UInt8 := dkwX5_over_1 ++ dktX5_over_2
def dkwX5_over_0 : List UInt8 := [42, 180, 0, 9, 27, 46, 184, 0, 62, 28, 100, 54, 4, 42, 180, 0, 9, 29, 46, 184, 0, 62, 54, 5]
abbrev dktX5_over_0 : List UInt8 := dkwX5_over_0 ++ dktX5_over_1
theorem dksX5_over_0 : cX5_over.data.toList.drop 0 = dktX5_over_0 := by decide +kernel
theorem dksX5_over_1 : cX5_over.data.toList.drop 24 = dktX5_over_1 := dk_seg dksX5_over_0 24 rfl rfl
theorem dksX5_over_2 : cX5_over.data.toList.drop 48 = dktX5_over_2 := dk_seg dksX5_over_1 24 rfl rfl
theorem dksX5_over_3 : cX5_over.data.toList.drop 71 = dktX5_over_3 := dk_seg dksX5_over_2 23 rfl rfl
theorem dksX5_over_4 : cX5_over.data.toList.drop 95 = dktX5_over_4 := dk_seg dksX5_over_3 24 rfl rfl
theorem dX5_over_0 : decode cX5_over 0 = .ok (.aload_n 0, 1) := dk_42 (dk_at dksX5_over_0 0 rfl rfl)
theorem dX5_over_1 : decode cX5_over 1 = .ok (.getfield 9, 3) := dk_180 0 9 (dk_at dksX5_over_0 1 rfl rfl)
theorem dX5_over_4 : decode cX5_over 4 = .ok (.iload_n 1, 1) := dk_27 (dk_at dksX5_over_0 4 rfl rfl)
theorem dX5_over_5 : decode cX5_over 5 = .ok (.iaload, 1) := dk_46 (dk_at dksX5_over_0 5 rfl rfl)
theorem dX5_over_6 : decode cX5_over 6 = .ok (.invokestatic 62, 3) := dk_184 0 62 (dk_at dksX5_over_0 6 rfl rfl)
theorem dX5_over_9 : decode cX5_over 9 = .ok (.iload_n 2, 1) := dk_28 (dk_at dksX5_over_0 9 rfl rfl)
theorem dX5_over_10 : decode cX5_over 10 = .ok (.isub, 1) := dk_100 (dk_at dksX5_over_0 10 rfl rfl)
theorem dX5_over_11 : decode cX5_over 11 = .ok (.istore 4, 2) := dk_54 4 (dk_at dksX5_over_0 11 rfl rfl)
theorem dX5_over_13 : decode cX5_over 13 = .ok (.aload_n 0, 1) := dk_42 (dk_at dksX5_over_0 13 rfl rfl)
theorem dX5_over_14 : decode cX5_over 14 = .ok (.getfield 9, 3) := dk_180 0 9 (dk_at dksX5_over_0 14 rfl rfl)
theorem dX5_over_17 : decode cX5_over 17 = .ok (.iload_n 3, 1) := dk_29 (dk_at dksX5_over_0 17 rfl rfl)
theorem dX5_over_18 : decode cX5_over 18 = .ok (.iaload, 1) := dk_46 (dk_at dksX5_over_0 18 rfl rfl)
theorem dX5_over_19 : decode cX5_over 19 = .ok (.invokestatic 62, 3) := dk_184 0 62 (dk_at dksX5_over_0 19 rfl rfl)
theorem dX5_over_22 : decode cX5_over 22 = .ok (.istore 5, 2) := dk_54 5 (dk_at dksX5_over_0 22 rfl rfl)
theorem dX5_over_24 : decode cX5_over 24 = .ok (.iconst 0, 1) := dk_3 (dk_at dksX5_over_1 0 rfl rfl)
theorem dX5_over_25 : decode cX5_over 25 = .ok (.istore 6, 2) := dk_54 6 (dk_at dksX5_over_1 1 rfl rfl)
theorem dX5_over_27 : decode cX5_over 27 = .ok (.iload 6, 2) := dk_21 6 (dk_at dksX5_over_1 3 rfl rfl)
theorem dX5_over_29 : decode cX5_over 29 = .ok (.iload 4, 2) := dk_21 4 (dk_at dksX5_over_1 5 rfl rfl)
theorem dX5_over_31 : decode cX5_over 31 = .ok (.iload 5, 2) := dk_21 5 (dk_at dksX5_over_1 7 rfl rfl)
theorem dX5_over_33 : decode cX5_over 33 = .ok (.invokestatic 85, 3) := dk_184 0 85 (dk_at dksX5_over_1 9 rfl rfl)
theorem dX5_over_36 : decode cX5_over 36 = .ok (.if_icmp .ge 38, 3) := dk_162 0 38 (dk_at dksX5_over_1 12 rfl rfl)
theorem dX5_over_39 : decode cX5_over 39 = .ok (.aload_n 0, 1) := dk_42 (dk_at dksX5_over_1 15 rfl rfl)
theorem dX5_over_40 : decode cX5_over 40 = .ok (.getfield 9, 3) := dk_180 0 9 (dk_at dksX5_over_1 16 rfl rfl)
theorem dX5_over_43 : decode cX5_over 43 = .ok (.iload_n 1, 1) := dk_27 (dk_at dksX5_over_1 19 rfl rfl)
theorem dX5_over_44 : decode cX5_over 44 = .ok (.iaload, 1) := dk_46 (dk_at dksX5_over_1 20 rfl rfl)
theorem dX5_over_45 : decode cX5_over 45 = .ok (.iload_n 2, 1) := dk_28 (dk_at dksX5_over_1 21 rfl rfl)
theorem dX5_over_46 : decode cX5_over 46 = .ok (.iload 6, 2) := dk_21 6 (dk_at dksX5_over_1 22 rfl rfl)
theorem dX5_over_48 : decode cX5_over 48 = .ok (.iadd, 1) := dk_96 (dk_at dksX5_over_2 0 rfl rfl)
theorem dX5_over_49 : decode cX5_over 49 = .ok (.invokestatic 90, 3) := dk_184 0 90 (dk_at dksX5_over_2 1 rfl rfl)
theorem dX5_over_52 : decode cX5_over 52 = .ok (.aload_n 0, 1) := dk_42 (dk_at dksX5_over_2 4 rfl rfl)
theorem dX5_over_53 : decode cX5_over 53 = .ok (.getfield 9, 3) := dk_180 0 9 (dk_at dksX5_over_2 5 rfl rfl)
theorem dX5_over_56 : decode cX5_over 56 = .ok (.iload_n 3, 1) := dk_29 (dk_at dksX5_over_2 8 rfl rfl)
theorem dX5_over_57 : decode cX5_over 57 = .ok (.iaload, 1) := dk_46 (dk_at dksX5_over_2 9 rfl rfl)
theorem dX5_over_58 : decode cX5_over 58 = .ok (.iload 6, 2) := dk_21 6 (dk_at dksX5_over_2 10 rfl rfl)
theorem dX5_over_60 : decode cX5_over 60 = .ok (.invokestatic 90, 3) := dk_184 0 90 (dk_at dksX5_over_2 12 rfl rfl)
theorem dX5_over_63 : decode cX5_over 63 = .ok (.if_icmp .eq 5, 3) := dk_159 0 5 (dk_at dksX5_over_2 15 rfl rfl)
theorem dX5_over_66 : decode cX5_over 66 = .ok (.iconst (-1), 1) := dk_2 (dk_at dksX5_over_2 18 rfl rfl)
theorem dX5_over_67 : decode cX5_over 67 = .ok (.ireturn, 1) := dk_172 (dk_at dksX5_over_2 19 rfl rfl)
theorem dX5_over_68 : decode cX5_over 68 = .ok (.iinc 6 1, 3) := dk_132 6 1 (dk_at dksX5_over_2 20 rfl rfl)
theorem dX5_over_71 : decode cX5_over 71 = .ok (.goto (-44), 3) := dk_167 255 212 (dk_at dksX5_over_3 0 rfl rfl)
theorem dX5_over_74 : decode cX5_over 74 = .ok (.iload 4, 2) := dk_21 4 (dk_at dksX5_over_3 3 rfl rfl)
theorem dX5_over_76 : decode cX5_over 76 = .ok (.iload 5, 2) := dk_21 5 (dk_at dksX5_over_3 5 rfl rfl)
theorem dX5_over_78 : decode cX5_over 78 = .ok (.if_icmp .ne 8, 3) := dk_160 0 8 (dk_at dksX5_over_3 7 rfl rfl)
theorem dX5_over_81 : decode cX5_over 81 = .ok (.bipush (-2), 2) := dk_16 254 (dk_at dksX5_over_3 10 rfl rfl)
theorem dX5_over_83 : decode cX5_over 83 = .ok (.goto 27, 3) := dk_167 0 27 (dk_at dksX5_over_3 12 rfl rfl)
theorem dX5_over_86 : decode cX5_over 86 = .ok (.iload 4, 2) := dk_21 4 (dk_at dksX5_over_3 15 rfl rfl)
theorem dX5_over_88 : decode cX5_over 88 = .ok (.iload 5, 2) := dk_21 5 (dk_at dksX5_over_3 17 rfl rfl)
theorem dX5_over_90 : decode cX5_over 90 = .ok (.if_icmp .le 14, 3) := dk_164 0 14 (dk_at dksX5_over_3 19 rfl rfl)
theorem dX5_over_93 : decode cX5_over 93 = .ok (.iconst 4, 1) := dk_7 (dk_at dksX5_over_3 22 rfl rfl)
theorem dX5_over_94 : decode cX5_over 94 = .ok (.iload_n 1, 1) := dk_27 (dk_at dksX5_over_3 23 rfl rfl)
theorem dX5_over_95 : decode cX5_over 95 = .ok (.imul, 1) := dk_104 (dk_at dksX5_over_4 0 rfl rfl)
theorem dX5_over_96 : decode cX5_over 96 = .ok (.iload_n 2, 1) := dk_28 (dk_at dksX5_over_4 1 rfl rfl)
theorem dX5_over_97 : decode cX5_over 97 = .ok (.iadd, 1) := dk_96 (dk_at dksX5_over_4 2 rfl rfl)
theorem dX5_over_98 : decode cX5_over 98 = .ok (.iload 5, 2) := dk_21 5 (dk_at dksX5_over_4 3 rfl rfl)
theorem dX5_over_100 : decode cX5_over 100 = .ok (.iadd, 1) := dk_96 (dk_at dksX5_over_4 5 rfl rfl)
theorem dX5_over_101 : decode cX5_over 101 = .ok (.goto 9, 3) := dk_167 0 9 (dk_at dksX5_over_4 6 rfl rfl)
theorem dX5_over_104 : decode cX5_over 104 = .ok (.iconst 4, 1) := dk_7 (dk_at dksX5_over_4 9 rfl rfl)
theorem dX5_over_105 : decode cX5_over 105 = .ok (.iload_n 3, 1) := dk_29 (dk_at dksX5_over_4 10 rfl rfl)
theorem dX5_over_106 : decode cX5_over 106 = .ok (.imul, 1) := dk_104 (dk_at dksX5_over_4 11 rfl rfl)
theorem dX5_over_107 : decode cX5_over 107 = .ok (.iload 4, 2) := dk_21 4 (dk_at dksX5_over_4 12 rfl rfl)
theorem dX5_over_109 : decode cX5_over 109 = .ok (.iadd, 1) := dk_96 (dk_at dksX5_over_4 14 rfl rfl)
theorem dX5_over_110 : decode cX5_over 110 = .ok (.ireturn, 1) := dk_172 (dk_at dksX5_over_4 15 rfl rfl)
abbrev cX5_knotOf : ByteArray := prog_9_method_6_code
def yX5_knotOf : MethodName := ⟨RX5, "knotOf", "(II)I"⟩
def dkwX5_knotOf_1 : List UInt8 := [167, 255, 243, 28, 16, 10, 112, 172]
abbrev dktX5_knotOf_1 : List UInt8 := dkwX5_knotOf_1 ++ []
def dkwX5_knotOf_0 : List UInt8 := [26, 61, 26, 184, 0, 62, 4, 100, 62, 29, 27, 164, 0, 14, 28, 16, 10, 108, 61, 132, 3, 255]
abbrev dktX5_knotOf_0 : List UInt8 := dkwX5_knotOf_0 ++ dktX5_knotOf_1
theorem dksX5_knotOf_0 : cX5_knotOf.data.toList.drop 0 = dktX5_knotOf_0 := by decide +kernel
theorem dksX5_knotOf_1 : cX5_knotOf.data.toList.drop 22 = dktX5_knotOf_1 := dk_seg dksX5_knotOf_0 22 rfl rfl
theorem dX5_knotOf_0 : decode cX5_knotOf 0 = .ok (.iload_n 0, 1) := dk_26 (dk_at dksX5_knotOf_0 0 rfl rfl)
theorem dX5_knotOf_1 : decode cX5_knotOf 1 = .ok (.istore_n 2, 1) := dk_61 (dk_at dksX5_knotOf_0 1 rfl rfl)
theorem dX5_knotOf_2 : decode cX5_knotOf 2 = .ok (.iload_n 0, 1) := dk_26 (dk_at dksX5_knotOf_0 2 rfl rfl)
theorem dX5_knotOf_3 : decode cX5_knotOf 3 = .ok (.invokestatic 62, 3) := dk_184 0 62 (dk_at dksX5_knotOf_0 3 rfl rfl)
theorem dX5_knotOf_6 : decode cX5_knotOf 6 = .ok (.iconst 1, 1) := dk_4 (dk_at dksX5_knotOf_0 6 rfl rfl)
theorem dX5_knotOf_7 : decode cX5_knotOf 7 = .ok (.isub, 1) := dk_100 (dk_at dksX5_knotOf_0 7 rfl rfl)
theorem dX5_knotOf_8 : decode cX5_knotOf 8 = .ok (.istore_n 3, 1) := dk_62 (dk_at dksX5_knotOf_0 8 rfl rfl)
theorem dX5_knotOf_9 : decode cX5_knotOf 9 = .ok (.iload_n 3, 1) := dk_29 (dk_at dksX5_knotOf_0 9 rfl rfl)
theorem dX5_knotOf_10 : decode cX5_knotOf 10 = .ok (.iload_n 1, 1) := dk_27 (dk_at dksX5_knotOf_0 10 rfl rfl)
theorem dX5_knotOf_11 : decode cX5_knotOf 11 = .ok (.if_icmp .le 14, 3) := dk_164 0 14 (dk_at dksX5_knotOf_0 11 rfl rfl)
theorem dX5_knotOf_14 : decode cX5_knotOf 14 = .ok (.iload_n 2, 1) := dk_28 (dk_at dksX5_knotOf_0 14 rfl rfl)
theorem dX5_knotOf_15 : decode cX5_knotOf 15 = .ok (.bipush 10, 2) := dk_16 10 (dk_at dksX5_knotOf_0 15 rfl rfl)
theorem dX5_knotOf_17 : decode cX5_knotOf 17 = .ok (.idiv, 1) := dk_108 (dk_at dksX5_knotOf_0 17 rfl rfl)
theorem dX5_knotOf_18 : decode cX5_knotOf 18 = .ok (.istore_n 2, 1) := dk_61 (dk_at dksX5_knotOf_0 18 rfl rfl)
theorem dX5_knotOf_19 : decode cX5_knotOf 19 = .ok (.iinc 3 (-1), 3) := dk_132 3 255 (dk_at dksX5_knotOf_0 19 rfl rfl)
theorem dX5_knotOf_22 : decode cX5_knotOf 22 = .ok (.goto (-13), 3) := dk_167 255 243 (dk_at dksX5_knotOf_1 0 rfl rfl)
theorem dX5_knotOf_25 : decode cX5_knotOf 25 = .ok (.iload_n 2, 1) := dk_28 (dk_at dksX5_knotOf_1 3 rfl rfl)
theorem dX5_knotOf_26 : decode cX5_knotOf 26 = .ok (.bipush 10, 2) := dk_16 10 (dk_at dksX5_knotOf_1 4 rfl rfl)
theorem dX5_knotOf_28 : decode cX5_knotOf 28 = .ok (.irem, 1) := dk_112 (dk_at dksX5_knotOf_1 6 rfl rfl)
theorem dX5_knotOf_29 : decode cX5_knotOf 29 = .ok (.ireturn, 1) := dk_172 (dk_at dksX5_knotOf_1 7 rfl rfl)
abbrev cX5_alike : ByteArray := prog_9_method_17_code
def yX5_alike : MethodName := ⟨RX5, "alike", "(II)I"⟩
def dkwX5_alike_2 : List UInt8 := [154, 0, 7, 2, 167, 0, 9, 42, 27, 28, 182, 0, 98, 172]
abbrev dktX5_alike_2 : List UInt8 := dkwX5_alike_2 ++ []
def dkwX5_alike_1 : List UInt8 := [154, 0, 9, 42, 4, 182, 0, 70, 172, 42, 180, 0, 9, 27, 46, 153, 0, 12, 42, 180, 0, 9, 28, 46]
abbrev dktX5_alike_1 : List UInt8 := dkwX5_alike_1 ++ dktX5_alike_2
def dkwX5_alike_0 : List UInt8 := [42, 3, 181, 0, 59, 27, 3, 16, 11, 184, 0, 66, 153, 0, 13, 28, 3, 16, 11, 184, 0, 66]
abbrev dktX5_alike_0 : List UInt8 := dkwX5_alike_0 ++ dktX5_alike_1
theorem dksX5_alike_0 : cX5_alike.data.toList.drop 0 = dktX5_alike_0 := by decide +kernel
theorem dksX5_alike_1 : cX5_alike.data.toList.drop 22 = dktX5_alike_1 := dk_seg dksX5_alike_0 22 rfl rfl
theorem dksX5_alike_2 : cX5_alike.data.toList.drop 46 = dktX5_alike_2 := dk_seg dksX5_alike_1 24 rfl rfl
theorem dX5_alike_0 : decode cX5_alike 0 = .ok (.aload_n 0, 1) := dk_42 (dk_at dksX5_alike_0 0 rfl rfl)
theorem dX5_alike_1 : decode cX5_alike 1 = .ok (.iconst 0, 1) := dk_3 (dk_at dksX5_alike_0 1 rfl rfl)
theorem dX5_alike_2 : decode cX5_alike 2 = .ok (.putfield 59, 3) := dk_181 0 59 (dk_at dksX5_alike_0 2 rfl rfl)
theorem dX5_alike_5 : decode cX5_alike 5 = .ok (.iload_n 1, 1) := dk_27 (dk_at dksX5_alike_0 5 rfl rfl)
theorem dX5_alike_6 : decode cX5_alike 6 = .ok (.iconst 0, 1) := dk_3 (dk_at dksX5_alike_0 6 rfl rfl)
theorem dX5_alike_7 : decode cX5_alike 7 = .ok (.bipush 11, 2) := dk_16 11 (dk_at dksX5_alike_0 7 rfl rfl)
theorem dX5_alike_9 : decode cX5_alike 9 = .ok (.invokestatic 66, 3) := dk_184 0 66 (dk_at dksX5_alike_0 9 rfl rfl)
theorem dX5_alike_12 : decode cX5_alike 12 = .ok (.ifCond .eq 13, 3) := dk_153 0 13 (dk_at dksX5_alike_0 12 rfl rfl)
theorem dX5_alike_15 : decode cX5_alike 15 = .ok (.iload_n 2, 1) := dk_28 (dk_at dksX5_alike_0 15 rfl rfl)
theorem dX5_alike_16 : decode cX5_alike 16 = .ok (.iconst 0, 1) := dk_3 (dk_at dksX5_alike_0 16 rfl rfl)
theorem dX5_alike_17 : decode cX5_alike 17 = .ok (.bipush 11, 2) := dk_16 11 (dk_at dksX5_alike_0 17 rfl rfl)
theorem dX5_alike_19 : decode cX5_alike 19 = .ok (.invokestatic 66, 3) := dk_184 0 66 (dk_at dksX5_alike_0 19 rfl rfl)
theorem dX5_alike_22 : decode cX5_alike 22 = .ok (.ifCond .ne 9, 3) := dk_154 0 9 (dk_at dksX5_alike_1 0 rfl rfl)
theorem dX5_alike_25 : decode cX5_alike 25 = .ok (.aload_n 0, 1) := dk_42 (dk_at dksX5_alike_1 3 rfl rfl)
theorem dX5_alike_26 : decode cX5_alike 26 = .ok (.iconst 1, 1) := dk_4 (dk_at dksX5_alike_1 4 rfl rfl)
theorem dX5_alike_27 : decode cX5_alike 27 = .ok (.invokevirtual 70, 3) := dk_182 0 70 (dk_at dksX5_alike_1 5 rfl rfl)
theorem dX5_alike_30 : decode cX5_alike 30 = .ok (.ireturn, 1) := dk_172 (dk_at dksX5_alike_1 8 rfl rfl)
theorem dX5_alike_31 : decode cX5_alike 31 = .ok (.aload_n 0, 1) := dk_42 (dk_at dksX5_alike_1 9 rfl rfl)
theorem dX5_alike_32 : decode cX5_alike 32 = .ok (.getfield 9, 3) := dk_180 0 9 (dk_at dksX5_alike_1 10 rfl rfl)
theorem dX5_alike_35 : decode cX5_alike 35 = .ok (.iload_n 1, 1) := dk_27 (dk_at dksX5_alike_1 13 rfl rfl)
theorem dX5_alike_36 : decode cX5_alike 36 = .ok (.iaload, 1) := dk_46 (dk_at dksX5_alike_1 14 rfl rfl)
theorem dX5_alike_37 : decode cX5_alike 37 = .ok (.ifCond .eq 12, 3) := dk_153 0 12 (dk_at dksX5_alike_1 15 rfl rfl)
theorem dX5_alike_40 : decode cX5_alike 40 = .ok (.aload_n 0, 1) := dk_42 (dk_at dksX5_alike_1 18 rfl rfl)
theorem dX5_alike_41 : decode cX5_alike 41 = .ok (.getfield 9, 3) := dk_180 0 9 (dk_at dksX5_alike_1 19 rfl rfl)
theorem dX5_alike_44 : decode cX5_alike 44 = .ok (.iload_n 2, 1) := dk_28 (dk_at dksX5_alike_1 22 rfl rfl)
theorem dX5_alike_45 : decode cX5_alike 45 = .ok (.iaload, 1) := dk_46 (dk_at dksX5_alike_1 23 rfl rfl)
theorem dX5_alike_46 : decode cX5_alike 46 = .ok (.ifCond .ne 7, 3) := dk_154 0 7 (dk_at dksX5_alike_2 0 rfl rfl)
theorem dX5_alike_49 : decode cX5_alike 49 = .ok (.iconst (-1), 1) := dk_2 (dk_at dksX5_alike_2 3 rfl rfl)
theorem dX5_alike_50 : decode cX5_alike 50 = .ok (.goto 9, 3) := dk_167 0 9 (dk_at dksX5_alike_2 4 rfl rfl)
theorem dX5_alike_53 : decode cX5_alike 53 = .ok (.aload_n 0, 1) := dk_42 (dk_at dksX5_alike_2 7 rfl rfl)
theorem dX5_alike_54 : decode cX5_alike 54 = .ok (.iload_n 1, 1) := dk_27 (dk_at dksX5_alike_2 8 rfl rfl)
theorem dX5_alike_55 : decode cX5_alike 55 = .ok (.iload_n 2, 1) := dk_28 (dk_at dksX5_alike_2 9 rfl rfl)
theorem dX5_alike_56 : decode cX5_alike 56 = .ok (.invokevirtual 98, 3) := dk_182 0 98 (dk_at dksX5_alike_2 10 rfl rfl)
theorem dX5_alike_59 : decode cX5_alike 59 = .ok (.ireturn, 1) := dk_172 (dk_at dksX5_alike_2 13 rfl rfl)
abbrev cX5_apart : ByteArray := prog_9_method_16_code
def yX5_apart : MethodName := ⟨RX5, "apart", "(II)I"⟩
def dkwX5_apart_9 : List UInt8 := [132, 6, 1, 167, 255, 78, 25, 5, 8, 29, 104, 21, 4, 96, 4, 100, 46, 172]
abbrev dktX5_apart_9 : List UInt8 := dkwX5_apart_9 ++ []
def dkwX5_apart_8 : List UInt8 := [184, 0, 85, 54, 8, 25, 5, 8, 21, 6, 104, 21, 7, 96, 21, 8, 79, 132, 7, 1, 167, 255, 93]
abbrev dktX5_apart_8 : List UInt8 := dkwX5_apart_8 ++ dktX5_apart_9
def dkwX5_apart_7 : List UInt8 := [4, 100, 184, 0, 90, 104, 42, 180, 0, 9, 28, 46, 21, 7, 4, 100, 184, 0, 90, 96, 46, 96]
abbrev dktX5_apart_7 : List UInt8 := dkwX5_apart_7 ++ dktX5_apart_8
def dkwX5_apart_6 : List UInt8 := [8, 21, 6, 104, 16, 6, 100, 21, 7, 96, 46, 42, 180, 0, 16, 8, 42, 180, 0, 9, 27, 46, 21, 6]
abbrev dktX5_apart_6 : List UInt8 := dkwX5_apart_6 ++ dktX5_apart_7
def dkwX5_apart_5 : List UInt8 := [42, 180, 0, 23, 96, 184, 0, 85, 54, 8, 21, 6, 158, 0, 63, 21, 7, 158, 0, 58, 21, 8, 25, 5]
abbrev dktX5_apart_5 : List UInt8 := dkwX5_apart_5 ++ dktX5_apart_6
def dkwX5_apart_4 : List UInt8 := [184, 0, 85, 54, 8, 21, 7, 158, 0, 27, 21, 8, 25, 5, 8, 21, 6, 104, 21, 7, 96, 4, 100, 46]
abbrev dktX5_apart_4 : List UInt8 := dkwX5_apart_4 ++ dktX5_apart_5
def dkwX5_apart_3 : List UInt8 := [158, 0, 27, 21, 8, 25, 5, 8, 21, 6, 104, 8, 100, 21, 7, 96, 46, 42, 180, 0, 19, 96]
abbrev dktX5_apart_3 : List UInt8 := dkwX5_apart_3 ++ dktX5_apart_4
def dkwX5_apart_2 : List UInt8 := [162, 0, 162, 21, 6, 154, 0, 12, 21, 7, 154, 0, 7, 3, 167, 0, 5, 18, 97, 54, 8, 21, 6]
abbrev dktX5_apart_2 : List UInt8 := dkwX5_apart_2 ++ dktX5_apart_3
def dkwX5_apart_1 : List UInt8 := [16, 25, 188, 10, 58, 5, 3, 54, 6, 21, 6, 29, 163, 0, 178, 3, 54, 7, 21, 7, 21, 4]
abbrev dktX5_apart_1 : List UInt8 := dkwX5_apart_1 ++ dktX5_apart_2
def dkwX5_apart_0 : List UInt8 := [42, 180, 0, 9, 27, 46, 184, 0, 62, 62, 42, 180, 0, 9, 28, 46, 184, 0, 62, 4, 96, 54, 4]
abbrev dktX5_apart_0 : List UInt8 := dkwX5_apart_0 ++ dktX5_apart_1
theorem dksX5_apart_0 : cX5_apart.data.toList.drop 0 = dktX5_apart_0 := by decide +kernel
theorem dksX5_apart_1 : cX5_apart.data.toList.drop 23 = dktX5_apart_1 := dk_seg dksX5_apart_0 23 rfl rfl
theorem dksX5_apart_2 : cX5_apart.data.toList.drop 45 = dktX5_apart_2 := dk_seg dksX5_apart_1 22 rfl rfl
theorem dksX5_apart_3 : cX5_apart.data.toList.drop 68 = dktX5_apart_3 := dk_seg dksX5_apart_2 23 rfl rfl
theorem dksX5_apart_4 : cX5_apart.data.toList.drop 90 = dktX5_apart_4 := dk_seg dksX5_apart_3 22 rfl rfl
theorem dksX5_apart_5 : cX5_apart.data.toList.drop 114 = dktX5_apart_5 := dk_seg dksX5_apart_4 24 rfl rfl
theorem dksX5_apart_6 : cX5_apart.data.toList.drop 138 = dktX5_apart_6 := dk_seg dksX5_apart_5 24 rfl rfl
theorem dksX5_apart_7 : cX5_apart.data.toList.drop 162 = dktX5_apart_7 := dk_seg dksX5_apart_6 24 rfl rfl
theorem dksX5_apart_8 : cX5_apart.data.toList.drop 184 = dktX5_apart_8 := dk_seg dksX5_apart_7 22 rfl rfl
theorem dksX5_apart_9 : cX5_apart.data.toList.drop 207 = dktX5_apart_9 := dk_seg dksX5_apart_8 23 rfl rfl
theorem dX5_apart_0 : decode cX5_apart 0 = .ok (.aload_n 0, 1) := dk_42 (dk_at dksX5_apart_0 0 rfl rfl)
theorem dX5_apart_1 : decode cX5_apart 1 = .ok (.getfield 9, 3) := dk_180 0 9 (dk_at dksX5_apart_0 1 rfl rfl)
theorem dX5_apart_4 : decode cX5_apart 4 = .ok (.iload_n 1, 1) := dk_27 (dk_at dksX5_apart_0 4 rfl rfl)
theorem dX5_apart_5 : decode cX5_apart 5 = .ok (.iaload, 1) := dk_46 (dk_at dksX5_apart_0 5 rfl rfl)
theorem dX5_apart_6 : decode cX5_apart 6 = .ok (.invokestatic 62, 3) := dk_184 0 62 (dk_at dksX5_apart_0 6 rfl rfl)
theorem dX5_apart_9 : decode cX5_apart 9 = .ok (.istore_n 3, 1) := dk_62 (dk_at dksX5_apart_0 9 rfl rfl)
theorem dX5_apart_10 : decode cX5_apart 10 = .ok (.aload_n 0, 1) := dk_42 (dk_at dksX5_apart_0 10 rfl rfl)
theorem dX5_apart_11 : decode cX5_apart 11 = .ok (.getfield 9, 3) := dk_180 0 9 (dk_at dksX5_apart_0 11 rfl rfl)
theorem dX5_apart_14 : decode cX5_apart 14 = .ok (.iload_n 2, 1) := dk_28 (dk_at dksX5_apart_0 14 rfl rfl)
theorem dX5_apart_15 : decode cX5_apart 15 = .ok (.iaload, 1) := dk_46 (dk_at dksX5_apart_0 15 rfl rfl)
theorem dX5_apart_16 : decode cX5_apart 16 = .ok (.invokestatic 62, 3) := dk_184 0 62 (dk_at dksX5_apart_0 16 rfl rfl)
theorem dX5_apart_19 : decode cX5_apart 19 = .ok (.iconst 1, 1) := dk_4 (dk_at dksX5_apart_0 19 rfl rfl)
theorem dX5_apart_20 : decode cX5_apart 20 = .ok (.iadd, 1) := dk_96 (dk_at dksX5_apart_0 20 rfl rfl)
theorem dX5_apart_21 : decode cX5_apart 21 = .ok (.istore 4, 2) := dk_54 4 (dk_at dksX5_apart_0 21 rfl rfl)
theorem dX5_apart_23 : decode cX5_apart 23 = .ok (.bipush 25, 2) := dk_16 25 (dk_at dksX5_apart_1 0 rfl rfl)
theorem dX5_apart_25 : decode cX5_apart 25 = .ok (.newarray .int, 2) := dk_188_10 (dk_at dksX5_apart_1 2 rfl rfl)
theorem dX5_apart_27 : decode cX5_apart 27 = .ok (.astore 5, 2) := dk_58 5 (dk_at dksX5_apart_1 4 rfl rfl)
theorem dX5_apart_29 : decode cX5_apart 29 = .ok (.iconst 0, 1) := dk_3 (dk_at dksX5_apart_1 6 rfl rfl)
theorem dX5_apart_30 : decode cX5_apart 30 = .ok (.istore 6, 2) := dk_54 6 (dk_at dksX5_apart_1 7 rfl rfl)
theorem dX5_apart_32 : decode cX5_apart 32 = .ok (.iload 6, 2) := dk_21 6 (dk_at dksX5_apart_1 9 rfl rfl)
theorem dX5_apart_34 : decode cX5_apart 34 = .ok (.iload_n 3, 1) := dk_29 (dk_at dksX5_apart_1 11 rfl rfl)
theorem dX5_apart_35 : decode cX5_apart 35 = .ok (.if_icmp .gt 178, 3) := dk_163 0 178 (dk_at dksX5_apart_1 12 rfl rfl)
theorem dX5_apart_38 : decode cX5_apart 38 = .ok (.iconst 0, 1) := dk_3 (dk_at dksX5_apart_1 15 rfl rfl)
theorem dX5_apart_39 : decode cX5_apart 39 = .ok (.istore 7, 2) := dk_54 7 (dk_at dksX5_apart_1 16 rfl rfl)
theorem dX5_apart_41 : decode cX5_apart 41 = .ok (.iload 7, 2) := dk_21 7 (dk_at dksX5_apart_1 18 rfl rfl)
theorem dX5_apart_43 : decode cX5_apart 43 = .ok (.iload 4, 2) := dk_21 4 (dk_at dksX5_apart_1 20 rfl rfl)
theorem dX5_apart_45 : decode cX5_apart 45 = .ok (.if_icmp .ge 162, 3) := dk_162 0 162 (dk_at dksX5_apart_2 0 rfl rfl)
theorem dX5_apart_48 : decode cX5_apart 48 = .ok (.iload 6, 2) := dk_21 6 (dk_at dksX5_apart_2 3 rfl rfl)
theorem dX5_apart_50 : decode cX5_apart 50 = .ok (.ifCond .ne 12, 3) := dk_154 0 12 (dk_at dksX5_apart_2 5 rfl rfl)
theorem dX5_apart_53 : decode cX5_apart 53 = .ok (.iload 7, 2) := dk_21 7 (dk_at dksX5_apart_2 8 rfl rfl)
theorem dX5_apart_55 : decode cX5_apart 55 = .ok (.ifCond .ne 7, 3) := dk_154 0 7 (dk_at dksX5_apart_2 10 rfl rfl)
theorem dX5_apart_58 : decode cX5_apart 58 = .ok (.iconst 0, 1) := dk_3 (dk_at dksX5_apart_2 13 rfl rfl)
theorem dX5_apart_59 : decode cX5_apart 59 = .ok (.goto 5, 3) := dk_167 0 5 (dk_at dksX5_apart_2 14 rfl rfl)
theorem dX5_apart_62 : decode cX5_apart 62 = .ok (.ldc 97, 2) := dk_18 97 (dk_at dksX5_apart_2 17 rfl rfl)
theorem dX5_apart_64 : decode cX5_apart 64 = .ok (.istore 8, 2) := dk_54 8 (dk_at dksX5_apart_2 19 rfl rfl)
theorem dX5_apart_66 : decode cX5_apart 66 = .ok (.iload 6, 2) := dk_21 6 (dk_at dksX5_apart_2 21 rfl rfl)
theorem dX5_apart_68 : decode cX5_apart 68 = .ok (.ifCond .le 27, 3) := dk_158 0 27 (dk_at dksX5_apart_3 0 rfl rfl)
theorem dX5_apart_71 : decode cX5_apart 71 = .ok (.iload 8, 2) := dk_21 8 (dk_at dksX5_apart_3 3 rfl rfl)
theorem dX5_apart_73 : decode cX5_apart 73 = .ok (.aload 5, 2) := dk_25 5 (dk_at dksX5_apart_3 5 rfl rfl)
theorem dX5_apart_75 : decode cX5_apart 75 = .ok (.iconst 5, 1) := dk_8 (dk_at dksX5_apart_3 7 rfl rfl)
theorem dX5_apart_76 : decode cX5_apart 76 = .ok (.iload 6, 2) := dk_21 6 (dk_at dksX5_apart_3 8 rfl rfl)
theorem dX5_apart_78 : decode cX5_apart 78 = .ok (.imul, 1) := dk_104 (dk_at dksX5_apart_3 10 rfl rfl)
theorem dX5_apart_79 : decode cX5_apart 79 = .ok (.iconst 5, 1) := dk_8 (dk_at dksX5_apart_3 11 rfl rfl)
theorem dX5_apart_80 : decode cX5_apart 80 = .ok (.isub, 1) := dk_100 (dk_at dksX5_apart_3 12 rfl rfl)
theorem dX5_apart_81 : decode cX5_apart 81 = .ok (.iload 7, 2) := dk_21 7 (dk_at dksX5_apart_3 13 rfl rfl)
theorem dX5_apart_83 : decode cX5_apart 83 = .ok (.iadd, 1) := dk_96 (dk_at dksX5_apart_3 15 rfl rfl)
theorem dX5_apart_84 : decode cX5_apart 84 = .ok (.iaload, 1) := dk_46 (dk_at dksX5_apart_3 16 rfl rfl)
theorem dX5_apart_85 : decode cX5_apart 85 = .ok (.aload_n 0, 1) := dk_42 (dk_at dksX5_apart_3 17 rfl rfl)
theorem dX5_apart_86 : decode cX5_apart 86 = .ok (.getfield 19, 3) := dk_180 0 19 (dk_at dksX5_apart_3 18 rfl rfl)
theorem dX5_apart_89 : decode cX5_apart 89 = .ok (.iadd, 1) := dk_96 (dk_at dksX5_apart_3 21 rfl rfl)
theorem dX5_apart_90 : decode cX5_apart 90 = .ok (.invokestatic 85, 3) := dk_184 0 85 (dk_at dksX5_apart_4 0 rfl rfl)
theorem dX5_apart_93 : decode cX5_apart 93 = .ok (.istore 8, 2) := dk_54 8 (dk_at dksX5_apart_4 3 rfl rfl)
theorem dX5_apart_95 : decode cX5_apart 95 = .ok (.iload 7, 2) := dk_21 7 (dk_at dksX5_apart_4 5 rfl rfl)
theorem dX5_apart_97 : decode cX5_apart 97 = .ok (.ifCond .le 27, 3) := dk_158 0 27 (dk_at dksX5_apart_4 7 rfl rfl)
theorem dX5_apart_100 : decode cX5_apart 100 = .ok (.iload 8, 2) := dk_21 8 (dk_at dksX5_apart_4 10 rfl rfl)
theorem dX5_apart_102 : decode cX5_apart 102 = .ok (.aload 5, 2) := dk_25 5 (dk_at dksX5_apart_4 12 rfl rfl)
theorem dX5_apart_104 : decode cX5_apart 104 = .ok (.iconst 5, 1) := dk_8 (dk_at dksX5_apart_4 14 rfl rfl)
theorem dX5_apart_105 : decode cX5_apart 105 = .ok (.iload 6, 2) := dk_21 6 (dk_at dksX5_apart_4 15 rfl rfl)
theorem dX5_apart_107 : decode cX5_apart 107 = .ok (.imul, 1) := dk_104 (dk_at dksX5_apart_4 17 rfl rfl)
theorem dX5_apart_108 : decode cX5_apart 108 = .ok (.iload 7, 2) := dk_21 7 (dk_at dksX5_apart_4 18 rfl rfl)
theorem dX5_apart_110 : decode cX5_apart 110 = .ok (.iadd, 1) := dk_96 (dk_at dksX5_apart_4 20 rfl rfl)
theorem dX5_apart_111 : decode cX5_apart 111 = .ok (.iconst 1, 1) := dk_4 (dk_at dksX5_apart_4 21 rfl rfl)
theorem dX5_apart_112 : decode cX5_apart 112 = .ok (.isub, 1) := dk_100 (dk_at dksX5_apart_4 22 rfl rfl)
theorem dX5_apart_113 : decode cX5_apart 113 = .ok (.iaload, 1) := dk_46 (dk_at dksX5_apart_4 23 rfl rfl)
theorem dX5_apart_114 : decode cX5_apart 114 = .ok (.aload_n 0, 1) := dk_42 (dk_at dksX5_apart_5 0 rfl rfl)
theorem dX5_apart_115 : decode cX5_apart 115 = .ok (.getfield 23, 3) := dk_180 0 23 (dk_at dksX5_apart_5 1 rfl rfl)
theorem dX5_apart_118 : decode cX5_apart 118 = .ok (.iadd, 1) := dk_96 (dk_at dksX5_apart_5 4 rfl rfl)
theorem dX5_apart_119 : decode cX5_apart 119 = .ok (.invokestatic 85, 3) := dk_184 0 85 (dk_at dksX5_apart_5 5 rfl rfl)
theorem dX5_apart_122 : decode cX5_apart 122 = .ok (.istore 8, 2) := dk_54 8 (dk_at dksX5_apart_5 8 rfl rfl)
theorem dX5_apart_124 : decode cX5_apart 124 = .ok (.iload 6, 2) := dk_21 6 (dk_at dksX5_apart_5 10 rfl rfl)
theorem dX5_apart_126 : decode cX5_apart 126 = .ok (.ifCond .le 63, 3) := dk_158 0 63 (dk_at dksX5_apart_5 12 rfl rfl)
theorem dX5_apart_129 : decode cX5_apart 129 = .ok (.iload 7, 2) := dk_21 7 (dk_at dksX5_apart_5 15 rfl rfl)
theorem dX5_apart_131 : decode cX5_apart 131 = .ok (.ifCond .le 58, 3) := dk_158 0 58 (dk_at dksX5_apart_5 17 rfl rfl)
theorem dX5_apart_134 : decode cX5_apart 134 = .ok (.iload 8, 2) := dk_21 8 (dk_at dksX5_apart_5 20 rfl rfl)
theorem dX5_apart_136 : decode cX5_apart 136 = .ok (.aload 5, 2) := dk_25 5 (dk_at dksX5_apart_5 22 rfl rfl)
theorem dX5_apart_138 : decode cX5_apart 138 = .ok (.iconst 5, 1) := dk_8 (dk_at dksX5_apart_6 0 rfl rfl)
theorem dX5_apart_139 : decode cX5_apart 139 = .ok (.iload 6, 2) := dk_21 6 (dk_at dksX5_apart_6 1 rfl rfl)
theorem dX5_apart_141 : decode cX5_apart 141 = .ok (.imul, 1) := dk_104 (dk_at dksX5_apart_6 3 rfl rfl)
theorem dX5_apart_142 : decode cX5_apart 142 = .ok (.bipush 6, 2) := dk_16 6 (dk_at dksX5_apart_6 4 rfl rfl)
theorem dX5_apart_144 : decode cX5_apart 144 = .ok (.isub, 1) := dk_100 (dk_at dksX5_apart_6 6 rfl rfl)
theorem dX5_apart_145 : decode cX5_apart 145 = .ok (.iload 7, 2) := dk_21 7 (dk_at dksX5_apart_6 7 rfl rfl)
theorem dX5_apart_147 : decode cX5_apart 147 = .ok (.iadd, 1) := dk_96 (dk_at dksX5_apart_6 9 rfl rfl)
theorem dX5_apart_148 : decode cX5_apart 148 = .ok (.iaload, 1) := dk_46 (dk_at dksX5_apart_6 10 rfl rfl)
theorem dX5_apart_149 : decode cX5_apart 149 = .ok (.aload_n 0, 1) := dk_42 (dk_at dksX5_apart_6 11 rfl rfl)
theorem dX5_apart_150 : decode cX5_apart 150 = .ok (.getfield 16, 3) := dk_180 0 16 (dk_at dksX5_apart_6 12 rfl rfl)
theorem dX5_apart_153 : decode cX5_apart 153 = .ok (.iconst 5, 1) := dk_8 (dk_at dksX5_apart_6 15 rfl rfl)
theorem dX5_apart_154 : decode cX5_apart 154 = .ok (.aload_n 0, 1) := dk_42 (dk_at dksX5_apart_6 16 rfl rfl)
theorem dX5_apart_155 : decode cX5_apart 155 = .ok (.getfield 9, 3) := dk_180 0 9 (dk_at dksX5_apart_6 17 rfl rfl)
theorem dX5_apart_158 : decode cX5_apart 158 = .ok (.iload_n 1, 1) := dk_27 (dk_at dksX5_apart_6 20 rfl rfl)
theorem dX5_apart_159 : decode cX5_apart 159 = .ok (.iaload, 1) := dk_46 (dk_at dksX5_apart_6 21 rfl rfl)
theorem dX5_apart_160 : decode cX5_apart 160 = .ok (.iload 6, 2) := dk_21 6 (dk_at dksX5_apart_6 22 rfl rfl)
theorem dX5_apart_162 : decode cX5_apart 162 = .ok (.iconst 1, 1) := dk_4 (dk_at dksX5_apart_7 0 rfl rfl)
theorem dX5_apart_163 : decode cX5_apart 163 = .ok (.isub, 1) := dk_100 (dk_at dksX5_apart_7 1 rfl rfl)
theorem dX5_apart_164 : decode cX5_apart 164 = .ok (.invokestatic 90, 3) := dk_184 0 90 (dk_at dksX5_apart_7 2 rfl rfl)
theorem dX5_apart_167 : decode cX5_apart 167 = .ok (.imul, 1) := dk_104 (dk_at dksX5_apart_7 5 rfl rfl)
theorem dX5_apart_168 : decode cX5_apart 168 = .ok (.aload_n 0, 1) := dk_42 (dk_at dksX5_apart_7 6 rfl rfl)
theorem dX5_apart_169 : decode cX5_apart 169 = .ok (.getfield 9, 3) := dk_180 0 9 (dk_at dksX5_apart_7 7 rfl rfl)
theorem dX5_apart_172 : decode cX5_apart 172 = .ok (.iload_n 2, 1) := dk_28 (dk_at dksX5_apart_7 10 rfl rfl)
theorem dX5_apart_173 : decode cX5_apart 173 = .ok (.iaload, 1) := dk_46 (dk_at dksX5_apart_7 11 rfl rfl)
theorem dX5_apart_174 : decode cX5_apart 174 = .ok (.iload 7, 2) := dk_21 7 (dk_at dksX5_apart_7 12 rfl rfl)
theorem dX5_apart_176 : decode cX5_apart 176 = .ok (.iconst 1, 1) := dk_4 (dk_at dksX5_apart_7 14 rfl rfl)
theorem dX5_apart_177 : decode cX5_apart 177 = .ok (.isub, 1) := dk_100 (dk_at dksX5_apart_7 15 rfl rfl)
theorem dX5_apart_178 : decode cX5_apart 178 = .ok (.invokestatic 90, 3) := dk_184 0 90 (dk_at dksX5_apart_7 16 rfl rfl)
theorem dX5_apart_181 : decode cX5_apart 181 = .ok (.iadd, 1) := dk_96 (dk_at dksX5_apart_7 19 rfl rfl)
theorem dX5_apart_182 : decode cX5_apart 182 = .ok (.iaload, 1) := dk_46 (dk_at dksX5_apart_7 20 rfl rfl)
theorem dX5_apart_183 : decode cX5_apart 183 = .ok (.iadd, 1) := dk_96 (dk_at dksX5_apart_7 21 rfl rfl)
theorem dX5_apart_184 : decode cX5_apart 184 = .ok (.invokestatic 85, 3) := dk_184 0 85 (dk_at dksX5_apart_8 0 rfl rfl)
theorem dX5_apart_187 : decode cX5_apart 187 = .ok (.istore 8, 2) := dk_54 8 (dk_at dksX5_apart_8 3 rfl rfl)
theorem dX5_apart_189 : decode cX5_apart 189 = .ok (.aload 5, 2) := dk_25 5 (dk_at dksX5_apart_8 5 rfl rfl)
theorem dX5_apart_191 : decode cX5_apart 191 = .ok (.iconst 5, 1) := dk_8 (dk_at dksX5_apart_8 7 rfl rfl)
theorem dX5_apart_192 : decode cX5_apart 192 = .ok (.iload 6, 2) := dk_21 6 (dk_at dksX5_apart_8 8 rfl rfl)
theorem dX5_apart_194 : decode cX5_apart 194 = .ok (.imul, 1) := dk_104 (dk_at dksX5_apart_8 10 rfl rfl)
theorem dX5_apart_195 : decode cX5_apart 195 = .ok (.iload 7, 2) := dk_21 7 (dk_at dksX5_apart_8 11 rfl rfl)
theorem dX5_apart_197 : decode cX5_apart 197 = .ok (.iadd, 1) := dk_96 (dk_at dksX5_apart_8 13 rfl rfl)
theorem dX5_apart_198 : decode cX5_apart 198 = .ok (.iload 8, 2) := dk_21 8 (dk_at dksX5_apart_8 14 rfl rfl)
theorem dX5_apart_200 : decode cX5_apart 200 = .ok (.iastore, 1) := dk_79 (dk_at dksX5_apart_8 16 rfl rfl)
theorem dX5_apart_201 : decode cX5_apart 201 = .ok (.iinc 7 1, 3) := dk_132 7 1 (dk_at dksX5_apart_8 17 rfl rfl)
theorem dX5_apart_204 : decode cX5_apart 204 = .ok (.goto (-163), 3) := dk_167 255 93 (dk_at dksX5_apart_8 20 rfl rfl)
theorem dX5_apart_207 : decode cX5_apart 207 = .ok (.iinc 6 1, 3) := dk_132 6 1 (dk_at dksX5_apart_9 0 rfl rfl)
theorem dX5_apart_210 : decode cX5_apart 210 = .ok (.goto (-178), 3) := dk_167 255 78 (dk_at dksX5_apart_9 3 rfl rfl)
theorem dX5_apart_213 : decode cX5_apart 213 = .ok (.aload 5, 2) := dk_25 5 (dk_at dksX5_apart_9 6 rfl rfl)
theorem dX5_apart_215 : decode cX5_apart 215 = .ok (.iconst 5, 1) := dk_8 (dk_at dksX5_apart_9 8 rfl rfl)
theorem dX5_apart_216 : decode cX5_apart 216 = .ok (.iload_n 3, 1) := dk_29 (dk_at dksX5_apart_9 9 rfl rfl)
theorem dX5_apart_217 : decode cX5_apart 217 = .ok (.imul, 1) := dk_104 (dk_at dksX5_apart_9 10 rfl rfl)
theorem dX5_apart_218 : decode cX5_apart 218 = .ok (.iload 4, 2) := dk_21 4 (dk_at dksX5_apart_9 11 rfl rfl)
theorem dX5_apart_220 : decode cX5_apart 220 = .ok (.iadd, 1) := dk_96 (dk_at dksX5_apart_9 13 rfl rfl)
theorem dX5_apart_221 : decode cX5_apart 221 = .ok (.iconst 1, 1) := dk_4 (dk_at dksX5_apart_9 14 rfl rfl)
theorem dX5_apart_222 : decode cX5_apart 222 = .ok (.isub, 1) := dk_100 (dk_at dksX5_apart_9 15 rfl rfl)
theorem dX5_apart_223 : decode cX5_apart 223 = .ok (.iaload, 1) := dk_46 (dk_at dksX5_apart_9 16 rfl rfl)
theorem dX5_apart_224 : decode cX5_apart 224 = .ok (.ireturn, 1) := dk_172 (dk_at dksX5_apart_9 17 rfl rfl)
abbrev cX5_closest : ByteArray := prog_9_method_18_code
def yX5_closest : MethodName := ⟨RX5, "closest", "()I"⟩
def dkwX5_closest_4 : List UInt8 := [27, 172]
abbrev dktX5_closest_4 : List UInt8 := dkwX5_closest_4 ++ []
def dkwX5_closest_3 : List UInt8 := [21, 4, 96, 60, 42, 29, 21, 4, 182, 0, 98, 61, 132, 4, 1, 167, 255, 192, 132, 3, 1, 167, 255, 175]
abbrev dktX5_closest_3 : List UInt8 := dkwX5_closest_3 ++ dktX5_closest_4
def dkwX5_closest_2 : List UInt8 := [27, 2, 159, 0, 17, 42, 29, 21, 4, 182, 0, 98, 28, 161, 0, 6, 167, 0, 19, 16, 12, 29, 104]
abbrev dktX5_closest_2 : List UInt8 := dkwX5_closest_2 ++ dktX5_closest_3
def dkwX5_closest_1 : List UInt8 := [16, 12, 162, 0, 63, 42, 180, 0, 9, 29, 46, 153, 0, 48, 42, 180, 0, 9, 21, 4, 46, 153, 0, 38]
abbrev dktX5_closest_1 : List UInt8 := dkwX5_closest_1 ++ dktX5_closest_2
def dkwX5_closest_0 : List UInt8 := [42, 3, 181, 0, 59, 2, 60, 3, 61, 3, 62, 29, 16, 12, 162, 0, 81, 29, 4, 96, 54, 4, 21, 4]
abbrev dktX5_closest_0 : List UInt8 := dkwX5_closest_0 ++ dktX5_closest_1
theorem dksX5_closest_0 : cX5_closest.data.toList.drop 0 = dktX5_closest_0 := by decide +kernel
theorem dksX5_closest_1 : cX5_closest.data.toList.drop 24 = dktX5_closest_1 := dk_seg dksX5_closest_0 24 rfl rfl
theorem dksX5_closest_2 : cX5_closest.data.toList.drop 48 = dktX5_closest_2 := dk_seg dksX5_closest_1 24 rfl rfl
theorem dksX5_closest_3 : cX5_closest.data.toList.drop 71 = dktX5_closest_3 := dk_seg dksX5_closest_2 23 rfl rfl
theorem dksX5_closest_4 : cX5_closest.data.toList.drop 95 = dktX5_closest_4 := dk_seg dksX5_closest_3 24 rfl rfl
theorem dX5_closest_0 : decode cX5_closest 0 = .ok (.aload_n 0, 1) := dk_42 (dk_at dksX5_closest_0 0 rfl rfl)
theorem dX5_closest_1 : decode cX5_closest 1 = .ok (.iconst 0, 1) := dk_3 (dk_at dksX5_closest_0 1 rfl rfl)
theorem dX5_closest_2 : decode cX5_closest 2 = .ok (.putfield 59, 3) := dk_181 0 59 (dk_at dksX5_closest_0 2 rfl rfl)
theorem dX5_closest_5 : decode cX5_closest 5 = .ok (.iconst (-1), 1) := dk_2 (dk_at dksX5_closest_0 5 rfl rfl)
theorem dX5_closest_6 : decode cX5_closest 6 = .ok (.istore_n 1, 1) := dk_60 (dk_at dksX5_closest_0 6 rfl rfl)
theorem dX5_closest_7 : decode cX5_closest 7 = .ok (.iconst 0, 1) := dk_3 (dk_at dksX5_closest_0 7 rfl rfl)
theorem dX5_closest_8 : decode cX5_closest 8 = .ok (.istore_n 2, 1) := dk_61 (dk_at dksX5_closest_0 8 rfl rfl)
theorem dX5_closest_9 : decode cX5_closest 9 = .ok (.iconst 0, 1) := dk_3 (dk_at dksX5_closest_0 9 rfl rfl)
theorem dX5_closest_10 : decode cX5_closest 10 = .ok (.istore_n 3, 1) := dk_62 (dk_at dksX5_closest_0 10 rfl rfl)
theorem dX5_closest_11 : decode cX5_closest 11 = .ok (.iload_n 3, 1) := dk_29 (dk_at dksX5_closest_0 11 rfl rfl)
theorem dX5_closest_12 : decode cX5_closest 12 = .ok (.bipush 12, 2) := dk_16 12 (dk_at dksX5_closest_0 12 rfl rfl)
theorem dX5_closest_14 : decode cX5_closest 14 = .ok (.if_icmp .ge 81, 3) := dk_162 0 81 (dk_at dksX5_closest_0 14 rfl rfl)
theorem dX5_closest_17 : decode cX5_closest 17 = .ok (.iload_n 3, 1) := dk_29 (dk_at dksX5_closest_0 17 rfl rfl)
theorem dX5_closest_18 : decode cX5_closest 18 = .ok (.iconst 1, 1) := dk_4 (dk_at dksX5_closest_0 18 rfl rfl)
theorem dX5_closest_19 : decode cX5_closest 19 = .ok (.iadd, 1) := dk_96 (dk_at dksX5_closest_0 19 rfl rfl)
theorem dX5_closest_20 : decode cX5_closest 20 = .ok (.istore 4, 2) := dk_54 4 (dk_at dksX5_closest_0 20 rfl rfl)
theorem dX5_closest_22 : decode cX5_closest 22 = .ok (.iload 4, 2) := dk_21 4 (dk_at dksX5_closest_0 22 rfl rfl)
theorem dX5_closest_24 : decode cX5_closest 24 = .ok (.bipush 12, 2) := dk_16 12 (dk_at dksX5_closest_1 0 rfl rfl)
theorem dX5_closest_26 : decode cX5_closest 26 = .ok (.if_icmp .ge 63, 3) := dk_162 0 63 (dk_at dksX5_closest_1 2 rfl rfl)
theorem dX5_closest_29 : decode cX5_closest 29 = .ok (.aload_n 0, 1) := dk_42 (dk_at dksX5_closest_1 5 rfl rfl)
theorem dX5_closest_30 : decode cX5_closest 30 = .ok (.getfield 9, 3) := dk_180 0 9 (dk_at dksX5_closest_1 6 rfl rfl)
theorem dX5_closest_33 : decode cX5_closest 33 = .ok (.iload_n 3, 1) := dk_29 (dk_at dksX5_closest_1 9 rfl rfl)
theorem dX5_closest_34 : decode cX5_closest 34 = .ok (.iaload, 1) := dk_46 (dk_at dksX5_closest_1 10 rfl rfl)
theorem dX5_closest_35 : decode cX5_closest 35 = .ok (.ifCond .eq 48, 3) := dk_153 0 48 (dk_at dksX5_closest_1 11 rfl rfl)
theorem dX5_closest_38 : decode cX5_closest 38 = .ok (.aload_n 0, 1) := dk_42 (dk_at dksX5_closest_1 14 rfl rfl)
theorem dX5_closest_39 : decode cX5_closest 39 = .ok (.getfield 9, 3) := dk_180 0 9 (dk_at dksX5_closest_1 15 rfl rfl)
theorem dX5_closest_42 : decode cX5_closest 42 = .ok (.iload 4, 2) := dk_21 4 (dk_at dksX5_closest_1 18 rfl rfl)
theorem dX5_closest_44 : decode cX5_closest 44 = .ok (.iaload, 1) := dk_46 (dk_at dksX5_closest_1 20 rfl rfl)
theorem dX5_closest_45 : decode cX5_closest 45 = .ok (.ifCond .eq 38, 3) := dk_153 0 38 (dk_at dksX5_closest_1 21 rfl rfl)
theorem dX5_closest_48 : decode cX5_closest 48 = .ok (.iload_n 1, 1) := dk_27 (dk_at dksX5_closest_2 0 rfl rfl)
theorem dX5_closest_49 : decode cX5_closest 49 = .ok (.iconst (-1), 1) := dk_2 (dk_at dksX5_closest_2 1 rfl rfl)
theorem dX5_closest_50 : decode cX5_closest 50 = .ok (.if_icmp .eq 17, 3) := dk_159 0 17 (dk_at dksX5_closest_2 2 rfl rfl)
theorem dX5_closest_53 : decode cX5_closest 53 = .ok (.aload_n 0, 1) := dk_42 (dk_at dksX5_closest_2 5 rfl rfl)
theorem dX5_closest_54 : decode cX5_closest 54 = .ok (.iload_n 3, 1) := dk_29 (dk_at dksX5_closest_2 6 rfl rfl)
theorem dX5_closest_55 : decode cX5_closest 55 = .ok (.iload 4, 2) := dk_21 4 (dk_at dksX5_closest_2 7 rfl rfl)
theorem dX5_closest_57 : decode cX5_closest 57 = .ok (.invokevirtual 98, 3) := dk_182 0 98 (dk_at dksX5_closest_2 9 rfl rfl)
theorem dX5_closest_60 : decode cX5_closest 60 = .ok (.iload_n 2, 1) := dk_28 (dk_at dksX5_closest_2 12 rfl rfl)
theorem dX5_closest_61 : decode cX5_closest 61 = .ok (.if_icmp .lt 6, 3) := dk_161 0 6 (dk_at dksX5_closest_2 13 rfl rfl)
theorem dX5_closest_64 : decode cX5_closest 64 = .ok (.goto 19, 3) := dk_167 0 19 (dk_at dksX5_closest_2 16 rfl rfl)
theorem dX5_closest_67 : decode cX5_closest 67 = .ok (.bipush 12, 2) := dk_16 12 (dk_at dksX5_closest_2 19 rfl rfl)
theorem dX5_closest_69 : decode cX5_closest 69 = .ok (.iload_n 3, 1) := dk_29 (dk_at dksX5_closest_2 21 rfl rfl)
theorem dX5_closest_70 : decode cX5_closest 70 = .ok (.imul, 1) := dk_104 (dk_at dksX5_closest_2 22 rfl rfl)
theorem dX5_closest_71 : decode cX5_closest 71 = .ok (.iload 4, 2) := dk_21 4 (dk_at dksX5_closest_3 0 rfl rfl)
theorem dX5_closest_73 : decode cX5_closest 73 = .ok (.iadd, 1) := dk_96 (dk_at dksX5_closest_3 2 rfl rfl)
theorem dX5_closest_74 : decode cX5_closest 74 = .ok (.istore_n 1, 1) := dk_60 (dk_at dksX5_closest_3 3 rfl rfl)
theorem dX5_closest_75 : decode cX5_closest 75 = .ok (.aload_n 0, 1) := dk_42 (dk_at dksX5_closest_3 4 rfl rfl)
theorem dX5_closest_76 : decode cX5_closest 76 = .ok (.iload_n 3, 1) := dk_29 (dk_at dksX5_closest_3 5 rfl rfl)
theorem dX5_closest_77 : decode cX5_closest 77 = .ok (.iload 4, 2) := dk_21 4 (dk_at dksX5_closest_3 6 rfl rfl)
theorem dX5_closest_79 : decode cX5_closest 79 = .ok (.invokevirtual 98, 3) := dk_182 0 98 (dk_at dksX5_closest_3 8 rfl rfl)
theorem dX5_closest_82 : decode cX5_closest 82 = .ok (.istore_n 2, 1) := dk_61 (dk_at dksX5_closest_3 11 rfl rfl)
theorem dX5_closest_83 : decode cX5_closest 83 = .ok (.iinc 4 1, 3) := dk_132 4 1 (dk_at dksX5_closest_3 12 rfl rfl)
theorem dX5_closest_86 : decode cX5_closest 86 = .ok (.goto (-64), 3) := dk_167 255 192 (dk_at dksX5_closest_3 15 rfl rfl)
theorem dX5_closest_89 : decode cX5_closest 89 = .ok (.iinc 3 1, 3) := dk_132 3 1 (dk_at dksX5_closest_3 18 rfl rfl)
theorem dX5_closest_92 : decode cX5_closest 92 = .ok (.goto (-81), 3) := dk_167 255 175 (dk_at dksX5_closest_3 21 rfl rfl)
theorem dX5_closest_95 : decode cX5_closest 95 = .ok (.iload_n 1, 1) := dk_27 (dk_at dksX5_closest_4 0 rfl rfl)
theorem dX5_closest_96 : decode cX5_closest 96 = .ok (.ireturn, 1) := dk_172 (dk_at dksX5_closest_4 1 rfl rfl)
abbrev cX5_advise : ByteArray := prog_9_method_19_code
def yX5_advise : MethodName := ⟨RX5, "advise", "()I"⟩
def dkwX5_advise_3 : List UInt8 := [61, 132, 3, 1, 167, 255, 202, 28, 153, 0, 5, 27, 172, 132, 1, 1, 167, 255, 176, 3, 172]
abbrev dktX5_advise_3 : List UInt8 := dkwX5_advise_3 ++ []
def dkwX5_advise_2 : List UInt8 := [184, 0, 81, 154, 0, 20, 42, 180, 0, 9, 29, 46, 27, 184, 0, 81, 154, 0, 7, 4, 167, 0, 4, 3]
abbrev dktX5_advise_2 : List UInt8 := dkwX5_advise_2 ++ dktX5_advise_3
def dkwX5_advise_1 : List UInt8 := [162, 0, 54, 28, 153, 0, 50, 42, 180, 0, 9, 29, 46, 153, 0, 29, 27, 42, 180, 0, 9, 29, 46]
abbrev dktX5_advise_1 : List UInt8 := dkwX5_advise_1 ++ dktX5_advise_2
def dkwX5_advise_0 : List UInt8 := [42, 3, 181, 0, 59, 4, 60, 27, 17, 19, 136, 162, 0, 79, 27, 184, 0, 73, 61, 3, 62, 29, 16, 12]
abbrev dktX5_advise_0 : List UInt8 := dkwX5_advise_0 ++ dktX5_advise_1
theorem dksX5_advise_0 : cX5_advise.data.toList.drop 0 = dktX5_advise_0 := by decide +kernel
theorem dksX5_advise_1 : cX5_advise.data.toList.drop 24 = dktX5_advise_1 := dk_seg dksX5_advise_0 24 rfl rfl
theorem dksX5_advise_2 : cX5_advise.data.toList.drop 47 = dktX5_advise_2 := dk_seg dksX5_advise_1 23 rfl rfl
theorem dksX5_advise_3 : cX5_advise.data.toList.drop 71 = dktX5_advise_3 := dk_seg dksX5_advise_2 24 rfl rfl
theorem dX5_advise_0 : decode cX5_advise 0 = .ok (.aload_n 0, 1) := dk_42 (dk_at dksX5_advise_0 0 rfl rfl)
theorem dX5_advise_1 : decode cX5_advise 1 = .ok (.iconst 0, 1) := dk_3 (dk_at dksX5_advise_0 1 rfl rfl)
theorem dX5_advise_2 : decode cX5_advise 2 = .ok (.putfield 59, 3) := dk_181 0 59 (dk_at dksX5_advise_0 2 rfl rfl)
theorem dX5_advise_5 : decode cX5_advise 5 = .ok (.iconst 1, 1) := dk_4 (dk_at dksX5_advise_0 5 rfl rfl)
theorem dX5_advise_6 : decode cX5_advise 6 = .ok (.istore_n 1, 1) := dk_60 (dk_at dksX5_advise_0 6 rfl rfl)
theorem dX5_advise_7 : decode cX5_advise 7 = .ok (.iload_n 1, 1) := dk_27 (dk_at dksX5_advise_0 7 rfl rfl)
theorem dX5_advise_8 : decode cX5_advise 8 = .ok (.sipush 5000, 3) := dk_17 19 136 (dk_at dksX5_advise_0 8 rfl rfl)
theorem dX5_advise_11 : decode cX5_advise 11 = .ok (.if_icmp .ge 79, 3) := dk_162 0 79 (dk_at dksX5_advise_0 11 rfl rfl)
theorem dX5_advise_14 : decode cX5_advise 14 = .ok (.iload_n 1, 1) := dk_27 (dk_at dksX5_advise_0 14 rfl rfl)
theorem dX5_advise_15 : decode cX5_advise 15 = .ok (.invokestatic 73, 3) := dk_184 0 73 (dk_at dksX5_advise_0 15 rfl rfl)
theorem dX5_advise_18 : decode cX5_advise 18 = .ok (.istore_n 2, 1) := dk_61 (dk_at dksX5_advise_0 18 rfl rfl)
theorem dX5_advise_19 : decode cX5_advise 19 = .ok (.iconst 0, 1) := dk_3 (dk_at dksX5_advise_0 19 rfl rfl)
theorem dX5_advise_20 : decode cX5_advise 20 = .ok (.istore_n 3, 1) := dk_62 (dk_at dksX5_advise_0 20 rfl rfl)
theorem dX5_advise_21 : decode cX5_advise 21 = .ok (.iload_n 3, 1) := dk_29 (dk_at dksX5_advise_0 21 rfl rfl)
theorem dX5_advise_22 : decode cX5_advise 22 = .ok (.bipush 12, 2) := dk_16 12 (dk_at dksX5_advise_0 22 rfl rfl)
theorem dX5_advise_24 : decode cX5_advise 24 = .ok (.if_icmp .ge 54, 3) := dk_162 0 54 (dk_at dksX5_advise_1 0 rfl rfl)
theorem dX5_advise_27 : decode cX5_advise 27 = .ok (.iload_n 2, 1) := dk_28 (dk_at dksX5_advise_1 3 rfl rfl)
theorem dX5_advise_28 : decode cX5_advise 28 = .ok (.ifCond .eq 50, 3) := dk_153 0 50 (dk_at dksX5_advise_1 4 rfl rfl)
theorem dX5_advise_31 : decode cX5_advise 31 = .ok (.aload_n 0, 1) := dk_42 (dk_at dksX5_advise_1 7 rfl rfl)
theorem dX5_advise_32 : decode cX5_advise 32 = .ok (.getfield 9, 3) := dk_180 0 9 (dk_at dksX5_advise_1 8 rfl rfl)
theorem dX5_advise_35 : decode cX5_advise 35 = .ok (.iload_n 3, 1) := dk_29 (dk_at dksX5_advise_1 11 rfl rfl)
theorem dX5_advise_36 : decode cX5_advise 36 = .ok (.iaload, 1) := dk_46 (dk_at dksX5_advise_1 12 rfl rfl)
theorem dX5_advise_37 : decode cX5_advise 37 = .ok (.ifCond .eq 29, 3) := dk_153 0 29 (dk_at dksX5_advise_1 13 rfl rfl)
theorem dX5_advise_40 : decode cX5_advise 40 = .ok (.iload_n 1, 1) := dk_27 (dk_at dksX5_advise_1 16 rfl rfl)
theorem dX5_advise_41 : decode cX5_advise 41 = .ok (.aload_n 0, 1) := dk_42 (dk_at dksX5_advise_1 17 rfl rfl)
theorem dX5_advise_42 : decode cX5_advise 42 = .ok (.getfield 9, 3) := dk_180 0 9 (dk_at dksX5_advise_1 18 rfl rfl)
theorem dX5_advise_45 : decode cX5_advise 45 = .ok (.iload_n 3, 1) := dk_29 (dk_at dksX5_advise_1 21 rfl rfl)
theorem dX5_advise_46 : decode cX5_advise 46 = .ok (.iaload, 1) := dk_46 (dk_at dksX5_advise_1 22 rfl rfl)
theorem dX5_advise_47 : decode cX5_advise 47 = .ok (.invokestatic 81, 3) := dk_184 0 81 (dk_at dksX5_advise_2 0 rfl rfl)
theorem dX5_advise_50 : decode cX5_advise 50 = .ok (.ifCond .ne 20, 3) := dk_154 0 20 (dk_at dksX5_advise_2 3 rfl rfl)
theorem dX5_advise_53 : decode cX5_advise 53 = .ok (.aload_n 0, 1) := dk_42 (dk_at dksX5_advise_2 6 rfl rfl)
theorem dX5_advise_54 : decode cX5_advise 54 = .ok (.getfield 9, 3) := dk_180 0 9 (dk_at dksX5_advise_2 7 rfl rfl)
theorem dX5_advise_57 : decode cX5_advise 57 = .ok (.iload_n 3, 1) := dk_29 (dk_at dksX5_advise_2 10 rfl rfl)
theorem dX5_advise_58 : decode cX5_advise 58 = .ok (.iaload, 1) := dk_46 (dk_at dksX5_advise_2 11 rfl rfl)
theorem dX5_advise_59 : decode cX5_advise 59 = .ok (.iload_n 1, 1) := dk_27 (dk_at dksX5_advise_2 12 rfl rfl)
theorem dX5_advise_60 : decode cX5_advise 60 = .ok (.invokestatic 81, 3) := dk_184 0 81 (dk_at dksX5_advise_2 13 rfl rfl)
theorem dX5_advise_63 : decode cX5_advise 63 = .ok (.ifCond .ne 7, 3) := dk_154 0 7 (dk_at dksX5_advise_2 16 rfl rfl)
theorem dX5_advise_66 : decode cX5_advise 66 = .ok (.iconst 1, 1) := dk_4 (dk_at dksX5_advise_2 19 rfl rfl)
theorem dX5_advise_67 : decode cX5_advise 67 = .ok (.goto 4, 3) := dk_167 0 4 (dk_at dksX5_advise_2 20 rfl rfl)
theorem dX5_advise_70 : decode cX5_advise 70 = .ok (.iconst 0, 1) := dk_3 (dk_at dksX5_advise_2 23 rfl rfl)
theorem dX5_advise_71 : decode cX5_advise 71 = .ok (.istore_n 2, 1) := dk_61 (dk_at dksX5_advise_3 0 rfl rfl)
theorem dX5_advise_72 : decode cX5_advise 72 = .ok (.iinc 3 1, 3) := dk_132 3 1 (dk_at dksX5_advise_3 1 rfl rfl)
theorem dX5_advise_75 : decode cX5_advise 75 = .ok (.goto (-54), 3) := dk_167 255 202 (dk_at dksX5_advise_3 4 rfl rfl)
theorem dX5_advise_78 : decode cX5_advise 78 = .ok (.iload_n 2, 1) := dk_28 (dk_at dksX5_advise_3 7 rfl rfl)
theorem dX5_advise_79 : decode cX5_advise 79 = .ok (.ifCond .eq 5, 3) := dk_153 0 5 (dk_at dksX5_advise_3 8 rfl rfl)
theorem dX5_advise_82 : decode cX5_advise 82 = .ok (.iload_n 1, 1) := dk_27 (dk_at dksX5_advise_3 11 rfl rfl)
theorem dX5_advise_83 : decode cX5_advise 83 = .ok (.ireturn, 1) := dk_172 (dk_at dksX5_advise_3 12 rfl rfl)
theorem dX5_advise_84 : decode cX5_advise 84 = .ok (.iinc 1 1, 3) := dk_132 1 1 (dk_at dksX5_advise_3 13 rfl rfl)
theorem dX5_advise_87 : decode cX5_advise 87 = .ok (.goto (-80), 3) := dk_167 255 176 (dk_at dksX5_advise_3 16 rfl rfl)
theorem dX5_advise_90 : decode cX5_advise 90 = .ok (.iconst 0, 1) := dk_3 (dk_at dksX5_advise_3 19 rfl rfl)
theorem dX5_advise_91 : decode cX5_advise 91 = .ok (.ireturn, 1) := dk_172 (dk_at dksX5_advise_3 20 rfl rfl)
abbrev cX5_setKnotter : ByteArray := prog_9_method_20_code
def yX5_setKnotter : MethodName := ⟨RX5, "setKnotter", "(II)I"⟩
def dkwX5_setKnotter_2 : List UInt8 := [181, 0, 101, 42, 28, 181, 0, 104, 29, 172]
abbrev dktX5_setKnotter_2 : List UInt8 := dkwX5_setKnotter_2 ++ []
def dkwX5_setKnotter_1 : List UInt8 := [154, 0, 9, 42, 4, 182, 0, 70, 172, 16, 100, 42, 180, 0, 101, 104, 42, 180, 0, 104, 96, 62, 42, 27]
abbrev dktX5_setKnotter_1 : List UInt8 := dkwX5_setKnotter_1 ++ dktX5_setKnotter_2
def dkwX5_setKnotter_0 : List UInt8 := [42, 3, 181, 0, 59, 27, 3, 16, 99, 184, 0, 66, 153, 0, 13, 28, 3, 16, 99, 184, 0, 66]
abbrev dktX5_setKnotter_0 : List UInt8 := dkwX5_setKnotter_0 ++ dktX5_setKnotter_1
theorem dksX5_setKnotter_0 : cX5_setKnotter.data.toList.drop 0 = dktX5_setKnotter_0 := by decide +kernel
theorem dksX5_setKnotter_1 : cX5_setKnotter.data.toList.drop 22 = dktX5_setKnotter_1 := dk_seg dksX5_setKnotter_0 22 rfl rfl
theorem dksX5_setKnotter_2 : cX5_setKnotter.data.toList.drop 46 = dktX5_setKnotter_2 := dk_seg dksX5_setKnotter_1 24 rfl rfl
theorem dX5_setKnotter_0 : decode cX5_setKnotter 0 = .ok (.aload_n 0, 1) := dk_42 (dk_at dksX5_setKnotter_0 0 rfl rfl)
theorem dX5_setKnotter_1 : decode cX5_setKnotter 1 = .ok (.iconst 0, 1) := dk_3 (dk_at dksX5_setKnotter_0 1 rfl rfl)
theorem dX5_setKnotter_2 : decode cX5_setKnotter 2 = .ok (.putfield 59, 3) := dk_181 0 59 (dk_at dksX5_setKnotter_0 2 rfl rfl)
theorem dX5_setKnotter_5 : decode cX5_setKnotter 5 = .ok (.iload_n 1, 1) := dk_27 (dk_at dksX5_setKnotter_0 5 rfl rfl)
theorem dX5_setKnotter_6 : decode cX5_setKnotter 6 = .ok (.iconst 0, 1) := dk_3 (dk_at dksX5_setKnotter_0 6 rfl rfl)
theorem dX5_setKnotter_7 : decode cX5_setKnotter 7 = .ok (.bipush 99, 2) := dk_16 99 (dk_at dksX5_setKnotter_0 7 rfl rfl)
theorem dX5_setKnotter_9 : decode cX5_setKnotter 9 = .ok (.invokestatic 66, 3) := dk_184 0 66 (dk_at dksX5_setKnotter_0 9 rfl rfl)
theorem dX5_setKnotter_12 : decode cX5_setKnotter 12 = .ok (.ifCond .eq 13, 3) := dk_153 0 13 (dk_at dksX5_setKnotter_0 12 rfl rfl)
theorem dX5_setKnotter_15 : decode cX5_setKnotter 15 = .ok (.iload_n 2, 1) := dk_28 (dk_at dksX5_setKnotter_0 15 rfl rfl)
theorem dX5_setKnotter_16 : decode cX5_setKnotter 16 = .ok (.iconst 0, 1) := dk_3 (dk_at dksX5_setKnotter_0 16 rfl rfl)
theorem dX5_setKnotter_17 : decode cX5_setKnotter 17 = .ok (.bipush 99, 2) := dk_16 99 (dk_at dksX5_setKnotter_0 17 rfl rfl)
theorem dX5_setKnotter_19 : decode cX5_setKnotter 19 = .ok (.invokestatic 66, 3) := dk_184 0 66 (dk_at dksX5_setKnotter_0 19 rfl rfl)
theorem dX5_setKnotter_22 : decode cX5_setKnotter 22 = .ok (.ifCond .ne 9, 3) := dk_154 0 9 (dk_at dksX5_setKnotter_1 0 rfl rfl)
theorem dX5_setKnotter_25 : decode cX5_setKnotter 25 = .ok (.aload_n 0, 1) := dk_42 (dk_at dksX5_setKnotter_1 3 rfl rfl)
theorem dX5_setKnotter_26 : decode cX5_setKnotter 26 = .ok (.iconst 1, 1) := dk_4 (dk_at dksX5_setKnotter_1 4 rfl rfl)
theorem dX5_setKnotter_27 : decode cX5_setKnotter 27 = .ok (.invokevirtual 70, 3) := dk_182 0 70 (dk_at dksX5_setKnotter_1 5 rfl rfl)
theorem dX5_setKnotter_30 : decode cX5_setKnotter 30 = .ok (.ireturn, 1) := dk_172 (dk_at dksX5_setKnotter_1 8 rfl rfl)
theorem dX5_setKnotter_31 : decode cX5_setKnotter 31 = .ok (.bipush 100, 2) := dk_16 100 (dk_at dksX5_setKnotter_1 9 rfl rfl)
theorem dX5_setKnotter_33 : decode cX5_setKnotter 33 = .ok (.aload_n 0, 1) := dk_42 (dk_at dksX5_setKnotter_1 11 rfl rfl)
theorem dX5_setKnotter_34 : decode cX5_setKnotter 34 = .ok (.getfield 101, 3) := dk_180 0 101 (dk_at dksX5_setKnotter_1 12 rfl rfl)
theorem dX5_setKnotter_37 : decode cX5_setKnotter 37 = .ok (.imul, 1) := dk_104 (dk_at dksX5_setKnotter_1 15 rfl rfl)
theorem dX5_setKnotter_38 : decode cX5_setKnotter 38 = .ok (.aload_n 0, 1) := dk_42 (dk_at dksX5_setKnotter_1 16 rfl rfl)
theorem dX5_setKnotter_39 : decode cX5_setKnotter 39 = .ok (.getfield 104, 3) := dk_180 0 104 (dk_at dksX5_setKnotter_1 17 rfl rfl)
theorem dX5_setKnotter_42 : decode cX5_setKnotter 42 = .ok (.iadd, 1) := dk_96 (dk_at dksX5_setKnotter_1 20 rfl rfl)
theorem dX5_setKnotter_43 : decode cX5_setKnotter 43 = .ok (.istore_n 3, 1) := dk_62 (dk_at dksX5_setKnotter_1 21 rfl rfl)
theorem dX5_setKnotter_44 : decode cX5_setKnotter 44 = .ok (.aload_n 0, 1) := dk_42 (dk_at dksX5_setKnotter_1 22 rfl rfl)
theorem dX5_setKnotter_45 : decode cX5_setKnotter 45 = .ok (.iload_n 1, 1) := dk_27 (dk_at dksX5_setKnotter_1 23 rfl rfl)
theorem dX5_setKnotter_46 : decode cX5_setKnotter 46 = .ok (.putfield 101, 3) := dk_181 0 101 (dk_at dksX5_setKnotter_2 0 rfl rfl)
theorem dX5_setKnotter_49 : decode cX5_setKnotter 49 = .ok (.aload_n 0, 1) := dk_42 (dk_at dksX5_setKnotter_2 3 rfl rfl)
theorem dX5_setKnotter_50 : decode cX5_setKnotter 50 = .ok (.iload_n 2, 1) := dk_28 (dk_at dksX5_setKnotter_2 4 rfl rfl)
theorem dX5_setKnotter_51 : decode cX5_setKnotter 51 = .ok (.putfield 104, 3) := dk_181 0 104 (dk_at dksX5_setKnotter_2 5 rfl rfl)
theorem dX5_setKnotter_54 : decode cX5_setKnotter 54 = .ok (.iload_n 3, 1) := dk_29 (dk_at dksX5_setKnotter_2 8 rfl rfl)
theorem dX5_setKnotter_55 : decode cX5_setKnotter 55 = .ok (.ireturn, 1) := dk_172 (dk_at dksX5_setKnotter_2 9 rfl rfl)
abbrev cX5_setFeel : ByteArray := prog_9_method_21_code
def yX5_setFeel : MethodName := ⟨RX5, "setFeel", "(III)I"⟩
def dkwX5_setFeel_3 : List UInt8 := [28, 104, 27, 96, 29, 79, 21, 4, 172]
abbrev dktX5_setFeel_3 : List UInt8 := dkwX5_setFeel_3 ++ []
def dkwX5_setFeel_2 : List UInt8 := [8, 27, 104, 28, 96, 46, 54, 4, 42, 180, 0, 16, 8, 27, 104, 28, 96, 29, 79, 42, 180, 0, 16, 8]
abbrev dktX5_setFeel_2 : List UInt8 := dkwX5_setFeel_2 ++ dktX5_setFeel_3
def dkwX5_setFeel_1 : List UInt8 := [28, 159, 0, 13, 29, 3, 16, 9, 184, 0, 66, 154, 0, 9, 42, 4, 182, 0, 70, 172, 42, 180, 0, 16]
abbrev dktX5_setFeel_1 : List UInt8 := dkwX5_setFeel_1 ++ dktX5_setFeel_2
def dkwX5_setFeel_0 : List UInt8 := [42, 3, 181, 0, 59, 27, 4, 7, 184, 0, 66, 153, 0, 27, 28, 4, 7, 184, 0, 66, 153, 0, 18, 27]
abbrev dktX5_setFeel_0 : List UInt8 := dkwX5_setFeel_0 ++ dktX5_setFeel_1
theorem dksX5_setFeel_0 : cX5_setFeel.data.toList.drop 0 = dktX5_setFeel_0 := by decide +kernel
theorem dksX5_setFeel_1 : cX5_setFeel.data.toList.drop 24 = dktX5_setFeel_1 := dk_seg dksX5_setFeel_0 24 rfl rfl
theorem dksX5_setFeel_2 : cX5_setFeel.data.toList.drop 48 = dktX5_setFeel_2 := dk_seg dksX5_setFeel_1 24 rfl rfl
theorem dksX5_setFeel_3 : cX5_setFeel.data.toList.drop 72 = dktX5_setFeel_3 := dk_seg dksX5_setFeel_2 24 rfl rfl
theorem dX5_setFeel_0 : decode cX5_setFeel 0 = .ok (.aload_n 0, 1) := dk_42 (dk_at dksX5_setFeel_0 0 rfl rfl)
theorem dX5_setFeel_1 : decode cX5_setFeel 1 = .ok (.iconst 0, 1) := dk_3 (dk_at dksX5_setFeel_0 1 rfl rfl)
theorem dX5_setFeel_2 : decode cX5_setFeel 2 = .ok (.putfield 59, 3) := dk_181 0 59 (dk_at dksX5_setFeel_0 2 rfl rfl)
theorem dX5_setFeel_5 : decode cX5_setFeel 5 = .ok (.iload_n 1, 1) := dk_27 (dk_at dksX5_setFeel_0 5 rfl rfl)
theorem dX5_setFeel_6 : decode cX5_setFeel 6 = .ok (.iconst 1, 1) := dk_4 (dk_at dksX5_setFeel_0 6 rfl rfl)
theorem dX5_setFeel_7 : decode cX5_setFeel 7 = .ok (.iconst 4, 1) := dk_7 (dk_at dksX5_setFeel_0 7 rfl rfl)
theorem dX5_setFeel_8 : decode cX5_setFeel 8 = .ok (.invokestatic 66, 3) := dk_184 0 66 (dk_at dksX5_setFeel_0 8 rfl rfl)
theorem dX5_setFeel_11 : decode cX5_setFeel 11 = .ok (.ifCond .eq 27, 3) := dk_153 0 27 (dk_at dksX5_setFeel_0 11 rfl rfl)
theorem dX5_setFeel_14 : decode cX5_setFeel 14 = .ok (.iload_n 2, 1) := dk_28 (dk_at dksX5_setFeel_0 14 rfl rfl)
theorem dX5_setFeel_15 : decode cX5_setFeel 15 = .ok (.iconst 1, 1) := dk_4 (dk_at dksX5_setFeel_0 15 rfl rfl)
theorem dX5_setFeel_16 : decode cX5_setFeel 16 = .ok (.iconst 4, 1) := dk_7 (dk_at dksX5_setFeel_0 16 rfl rfl)
theorem dX5_setFeel_17 : decode cX5_setFeel 17 = .ok (.invokestatic 66, 3) := dk_184 0 66 (dk_at dksX5_setFeel_0 17 rfl rfl)
theorem dX5_setFeel_20 : decode cX5_setFeel 20 = .ok (.ifCond .eq 18, 3) := dk_153 0 18 (dk_at dksX5_setFeel_0 20 rfl rfl)
theorem dX5_setFeel_23 : decode cX5_setFeel 23 = .ok (.iload_n 1, 1) := dk_27 (dk_at dksX5_setFeel_0 23 rfl rfl)
theorem dX5_setFeel_24 : decode cX5_setFeel 24 = .ok (.iload_n 2, 1) := dk_28 (dk_at dksX5_setFeel_1 0 rfl rfl)
theorem dX5_setFeel_25 : decode cX5_setFeel 25 = .ok (.if_icmp .eq 13, 3) := dk_159 0 13 (dk_at dksX5_setFeel_1 1 rfl rfl)
theorem dX5_setFeel_28 : decode cX5_setFeel 28 = .ok (.iload_n 3, 1) := dk_29 (dk_at dksX5_setFeel_1 4 rfl rfl)
theorem dX5_setFeel_29 : decode cX5_setFeel 29 = .ok (.iconst 0, 1) := dk_3 (dk_at dksX5_setFeel_1 5 rfl rfl)
theorem dX5_setFeel_30 : decode cX5_setFeel 30 = .ok (.bipush 9, 2) := dk_16 9 (dk_at dksX5_setFeel_1 6 rfl rfl)
theorem dX5_setFeel_32 : decode cX5_setFeel 32 = .ok (.invokestatic 66, 3) := dk_184 0 66 (dk_at dksX5_setFeel_1 8 rfl rfl)
theorem dX5_setFeel_35 : decode cX5_setFeel 35 = .ok (.ifCond .ne 9, 3) := dk_154 0 9 (dk_at dksX5_setFeel_1 11 rfl rfl)
theorem dX5_setFeel_38 : decode cX5_setFeel 38 = .ok (.aload_n 0, 1) := dk_42 (dk_at dksX5_setFeel_1 14 rfl rfl)
theorem dX5_setFeel_39 : decode cX5_setFeel 39 = .ok (.iconst 1, 1) := dk_4 (dk_at dksX5_setFeel_1 15 rfl rfl)
theorem dX5_setFeel_40 : decode cX5_setFeel 40 = .ok (.invokevirtual 70, 3) := dk_182 0 70 (dk_at dksX5_setFeel_1 16 rfl rfl)
theorem dX5_setFeel_43 : decode cX5_setFeel 43 = .ok (.ireturn, 1) := dk_172 (dk_at dksX5_setFeel_1 19 rfl rfl)
theorem dX5_setFeel_44 : decode cX5_setFeel 44 = .ok (.aload_n 0, 1) := dk_42 (dk_at dksX5_setFeel_1 20 rfl rfl)
theorem dX5_setFeel_45 : decode cX5_setFeel 45 = .ok (.getfield 16, 3) := dk_180 0 16 (dk_at dksX5_setFeel_1 21 rfl rfl)
theorem dX5_setFeel_48 : decode cX5_setFeel 48 = .ok (.iconst 5, 1) := dk_8 (dk_at dksX5_setFeel_2 0 rfl rfl)
theorem dX5_setFeel_49 : decode cX5_setFeel 49 = .ok (.iload_n 1, 1) := dk_27 (dk_at dksX5_setFeel_2 1 rfl rfl)
theorem dX5_setFeel_50 : decode cX5_setFeel 50 = .ok (.imul, 1) := dk_104 (dk_at dksX5_setFeel_2 2 rfl rfl)
theorem dX5_setFeel_51 : decode cX5_setFeel 51 = .ok (.iload_n 2, 1) := dk_28 (dk_at dksX5_setFeel_2 3 rfl rfl)
theorem dX5_setFeel_52 : decode cX5_setFeel 52 = .ok (.iadd, 1) := dk_96 (dk_at dksX5_setFeel_2 4 rfl rfl)
theorem dX5_setFeel_53 : decode cX5_setFeel 53 = .ok (.iaload, 1) := dk_46 (dk_at dksX5_setFeel_2 5 rfl rfl)
theorem dX5_setFeel_54 : decode cX5_setFeel 54 = .ok (.istore 4, 2) := dk_54 4 (dk_at dksX5_setFeel_2 6 rfl rfl)
theorem dX5_setFeel_56 : decode cX5_setFeel 56 = .ok (.aload_n 0, 1) := dk_42 (dk_at dksX5_setFeel_2 8 rfl rfl)
theorem dX5_setFeel_57 : decode cX5_setFeel 57 = .ok (.getfield 16, 3) := dk_180 0 16 (dk_at dksX5_setFeel_2 9 rfl rfl)
theorem dX5_setFeel_60 : decode cX5_setFeel 60 = .ok (.iconst 5, 1) := dk_8 (dk_at dksX5_setFeel_2 12 rfl rfl)
theorem dX5_setFeel_61 : decode cX5_setFeel 61 = .ok (.iload_n 1, 1) := dk_27 (dk_at dksX5_setFeel_2 13 rfl rfl)
theorem dX5_setFeel_62 : decode cX5_setFeel 62 = .ok (.imul, 1) := dk_104 (dk_at dksX5_setFeel_2 14 rfl rfl)
theorem dX5_setFeel_63 : decode cX5_setFeel 63 = .ok (.iload_n 2, 1) := dk_28 (dk_at dksX5_setFeel_2 15 rfl rfl)
theorem dX5_setFeel_64 : decode cX5_setFeel 64 = .ok (.iadd, 1) := dk_96 (dk_at dksX5_setFeel_2 16 rfl rfl)
theorem dX5_setFeel_65 : decode cX5_setFeel 65 = .ok (.iload_n 3, 1) := dk_29 (dk_at dksX5_setFeel_2 17 rfl rfl)
theorem dX5_setFeel_66 : decode cX5_setFeel 66 = .ok (.iastore, 1) := dk_79 (dk_at dksX5_setFeel_2 18 rfl rfl)
theorem dX5_setFeel_67 : decode cX5_setFeel 67 = .ok (.aload_n 0, 1) := dk_42 (dk_at dksX5_setFeel_2 19 rfl rfl)
theorem dX5_setFeel_68 : decode cX5_setFeel 68 = .ok (.getfield 16, 3) := dk_180 0 16 (dk_at dksX5_setFeel_2 20 rfl rfl)
theorem dX5_setFeel_71 : decode cX5_setFeel 71 = .ok (.iconst 5, 1) := dk_8 (dk_at dksX5_setFeel_2 23 rfl rfl)
theorem dX5_setFeel_72 : decode cX5_setFeel 72 = .ok (.iload_n 2, 1) := dk_28 (dk_at dksX5_setFeel_3 0 rfl rfl)
theorem dX5_setFeel_73 : decode cX5_setFeel 73 = .ok (.imul, 1) := dk_104 (dk_at dksX5_setFeel_3 1 rfl rfl)
theorem dX5_setFeel_74 : decode cX5_setFeel 74 = .ok (.iload_n 1, 1) := dk_27 (dk_at dksX5_setFeel_3 2 rfl rfl)
theorem dX5_setFeel_75 : decode cX5_setFeel 75 = .ok (.iadd, 1) := dk_96 (dk_at dksX5_setFeel_3 3 rfl rfl)
theorem dX5_setFeel_76 : decode cX5_setFeel 76 = .ok (.iload_n 3, 1) := dk_29 (dk_at dksX5_setFeel_3 4 rfl rfl)
theorem dX5_setFeel_77 : decode cX5_setFeel 77 = .ok (.iastore, 1) := dk_79 (dk_at dksX5_setFeel_3 5 rfl rfl)
theorem dX5_setFeel_78 : decode cX5_setFeel 78 = .ok (.iload 4, 2) := dk_21 4 (dk_at dksX5_setFeel_3 6 rfl rfl)
theorem dX5_setFeel_80 : decode cX5_setFeel 80 = .ok (.ireturn, 1) := dk_172 (dk_at dksX5_setFeel_3 8 rfl rfl)
abbrev cX5_setCosts : ByteArray := prog_9_method_22_code
def yX5_setCosts : MethodName := ⟨RX5, "setCosts", "(II)I"⟩
def dkwX5_setCosts_2 : List UInt8 := [181, 0, 19, 42, 28, 181, 0, 23, 29, 172]
abbrev dktX5_setCosts_2 : List UInt8 := dkwX5_setCosts_2 ++ []
def dkwX5_setCosts_1 : List UInt8 := [154, 0, 9, 42, 4, 182, 0, 70, 172, 16, 10, 42, 180, 0, 19, 104, 42, 180, 0, 23, 96, 62, 42, 27]
abbrev dktX5_setCosts_1 : List UInt8 := dkwX5_setCosts_1 ++ dktX5_setCosts_2
def dkwX5_setCosts_0 : List UInt8 := [42, 3, 181, 0, 59, 27, 4, 16, 9, 184, 0, 66, 153, 0, 13, 28, 4, 16, 9, 184, 0, 66]
abbrev dktX5_setCosts_0 : List UInt8 := dkwX5_setCosts_0 ++ dktX5_setCosts_1
theorem dksX5_setCosts_0 : cX5_setCosts.data.toList.drop 0 = dktX5_setCosts_0 := by decide +kernel
theorem dksX5_setCosts_1 : cX5_setCosts.data.toList.drop 22 = dktX5_setCosts_1 := dk_seg dksX5_setCosts_0 22 rfl rfl
theorem dksX5_setCosts_2 : cX5_setCosts.data.toList.drop 46 = dktX5_setCosts_2 := dk_seg dksX5_setCosts_1 24 rfl rfl
theorem dX5_setCosts_0 : decode cX5_setCosts 0 = .ok (.aload_n 0, 1) := dk_42 (dk_at dksX5_setCosts_0 0 rfl rfl)
theorem dX5_setCosts_1 : decode cX5_setCosts 1 = .ok (.iconst 0, 1) := dk_3 (dk_at dksX5_setCosts_0 1 rfl rfl)
theorem dX5_setCosts_2 : decode cX5_setCosts 2 = .ok (.putfield 59, 3) := dk_181 0 59 (dk_at dksX5_setCosts_0 2 rfl rfl)
theorem dX5_setCosts_5 : decode cX5_setCosts 5 = .ok (.iload_n 1, 1) := dk_27 (dk_at dksX5_setCosts_0 5 rfl rfl)
theorem dX5_setCosts_6 : decode cX5_setCosts 6 = .ok (.iconst 1, 1) := dk_4 (dk_at dksX5_setCosts_0 6 rfl rfl)
theorem dX5_setCosts_7 : decode cX5_setCosts 7 = .ok (.bipush 9, 2) := dk_16 9 (dk_at dksX5_setCosts_0 7 rfl rfl)
theorem dX5_setCosts_9 : decode cX5_setCosts 9 = .ok (.invokestatic 66, 3) := dk_184 0 66 (dk_at dksX5_setCosts_0 9 rfl rfl)
theorem dX5_setCosts_12 : decode cX5_setCosts 12 = .ok (.ifCond .eq 13, 3) := dk_153 0 13 (dk_at dksX5_setCosts_0 12 rfl rfl)
theorem dX5_setCosts_15 : decode cX5_setCosts 15 = .ok (.iload_n 2, 1) := dk_28 (dk_at dksX5_setCosts_0 15 rfl rfl)
theorem dX5_setCosts_16 : decode cX5_setCosts 16 = .ok (.iconst 1, 1) := dk_4 (dk_at dksX5_setCosts_0 16 rfl rfl)
theorem dX5_setCosts_17 : decode cX5_setCosts 17 = .ok (.bipush 9, 2) := dk_16 9 (dk_at dksX5_setCosts_0 17 rfl rfl)
theorem dX5_setCosts_19 : decode cX5_setCosts 19 = .ok (.invokestatic 66, 3) := dk_184 0 66 (dk_at dksX5_setCosts_0 19 rfl rfl)
theorem dX5_setCosts_22 : decode cX5_setCosts 22 = .ok (.ifCond .ne 9, 3) := dk_154 0 9 (dk_at dksX5_setCosts_1 0 rfl rfl)
theorem dX5_setCosts_25 : decode cX5_setCosts 25 = .ok (.aload_n 0, 1) := dk_42 (dk_at dksX5_setCosts_1 3 rfl rfl)
theorem dX5_setCosts_26 : decode cX5_setCosts 26 = .ok (.iconst 1, 1) := dk_4 (dk_at dksX5_setCosts_1 4 rfl rfl)
theorem dX5_setCosts_27 : decode cX5_setCosts 27 = .ok (.invokevirtual 70, 3) := dk_182 0 70 (dk_at dksX5_setCosts_1 5 rfl rfl)
theorem dX5_setCosts_30 : decode cX5_setCosts 30 = .ok (.ireturn, 1) := dk_172 (dk_at dksX5_setCosts_1 8 rfl rfl)
theorem dX5_setCosts_31 : decode cX5_setCosts 31 = .ok (.bipush 10, 2) := dk_16 10 (dk_at dksX5_setCosts_1 9 rfl rfl)
theorem dX5_setCosts_33 : decode cX5_setCosts 33 = .ok (.aload_n 0, 1) := dk_42 (dk_at dksX5_setCosts_1 11 rfl rfl)
theorem dX5_setCosts_34 : decode cX5_setCosts 34 = .ok (.getfield 19, 3) := dk_180 0 19 (dk_at dksX5_setCosts_1 12 rfl rfl)
theorem dX5_setCosts_37 : decode cX5_setCosts 37 = .ok (.imul, 1) := dk_104 (dk_at dksX5_setCosts_1 15 rfl rfl)
theorem dX5_setCosts_38 : decode cX5_setCosts 38 = .ok (.aload_n 0, 1) := dk_42 (dk_at dksX5_setCosts_1 16 rfl rfl)
theorem dX5_setCosts_39 : decode cX5_setCosts 39 = .ok (.getfield 23, 3) := dk_180 0 23 (dk_at dksX5_setCosts_1 17 rfl rfl)
theorem dX5_setCosts_42 : decode cX5_setCosts 42 = .ok (.iadd, 1) := dk_96 (dk_at dksX5_setCosts_1 20 rfl rfl)
theorem dX5_setCosts_43 : decode cX5_setCosts 43 = .ok (.istore_n 3, 1) := dk_62 (dk_at dksX5_setCosts_1 21 rfl rfl)
theorem dX5_setCosts_44 : decode cX5_setCosts 44 = .ok (.aload_n 0, 1) := dk_42 (dk_at dksX5_setCosts_1 22 rfl rfl)
theorem dX5_setCosts_45 : decode cX5_setCosts 45 = .ok (.iload_n 1, 1) := dk_27 (dk_at dksX5_setCosts_1 23 rfl rfl)
theorem dX5_setCosts_46 : decode cX5_setCosts 46 = .ok (.putfield 19, 3) := dk_181 0 19 (dk_at dksX5_setCosts_2 0 rfl rfl)
theorem dX5_setCosts_49 : decode cX5_setCosts 49 = .ok (.aload_n 0, 1) := dk_42 (dk_at dksX5_setCosts_2 3 rfl rfl)
theorem dX5_setCosts_50 : decode cX5_setCosts 50 = .ok (.iload_n 2, 1) := dk_28 (dk_at dksX5_setCosts_2 4 rfl rfl)
theorem dX5_setCosts_51 : decode cX5_setCosts 51 = .ok (.putfield 23, 3) := dk_181 0 23 (dk_at dksX5_setCosts_2 5 rfl rfl)
theorem dX5_setCosts_54 : decode cX5_setCosts 54 = .ok (.iload_n 3, 1) := dk_29 (dk_at dksX5_setCosts_2 8 rfl rfl)
theorem dX5_setCosts_55 : decode cX5_setCosts 55 = .ok (.ireturn, 1) := dk_172 (dk_at dksX5_setCosts_2 9 rfl rfl)
abbrev cX5_feed : ByteArray := prog_9_method_23_code
def yX5_feed : MethodName := ⟨RX5, "feed", "(IIIII)I"⟩
def dkwX5_feed_5 : List UInt8 := [167, 255, 217, 132, 9, 1, 167, 255, 194, 42, 180, 0, 107, 172]
abbrev dktX5_feed_5 : List UInt8 := dkwX5_feed_5 ++ []
def dkwX5_feed_4 : List UInt8 := [16, 8, 21, 11, 104, 122, 17, 0, 255, 126, 79, 42, 89, 180, 0, 107, 4, 96, 181, 0, 107, 132, 11, 255]
abbrev dktX5_feed_4 : List UInt8 := dkwX5_feed_4 ++ dktX5_feed_5
def dkwX5_feed_3 : List UInt8 := [21, 9, 46, 54, 10, 6, 54, 11, 21, 11, 155, 0, 40, 42, 180, 0, 38, 42, 180, 0, 107, 21, 10]
abbrev dktX5_feed_3 : List UInt8 := dkwX5_feed_3 ++ dktX5_feed_4
def dkwX5_feed_2 : List UInt8 := [58, 6, 25, 6, 58, 7, 25, 7, 190, 54, 8, 3, 54, 9, 21, 9, 21, 8, 162, 0, 61, 25, 7]
abbrev dktX5_feed_2 : List UInt8 := dkwX5_feed_2 ++ dktX5_feed_3
def dkwX5_feed_1 : List UInt8 := [188, 10, 89, 3, 27, 79, 89, 4, 28, 79, 89, 5, 29, 79, 89, 6, 21, 4, 79, 89, 7, 21, 5, 79]
abbrev dktX5_feed_1 : List UInt8 := dkwX5_feed_1 ++ dktX5_feed_2
def dkwX5_feed_0 : List UInt8 := [42, 3, 181, 0, 59, 42, 180, 0, 107, 16, 20, 96, 16, 80, 164, 0, 9, 42, 4, 182, 0, 70, 172, 8]
abbrev dktX5_feed_0 : List UInt8 := dkwX5_feed_0 ++ dktX5_feed_1
theorem dksX5_feed_0 : cX5_feed.data.toList.drop 0 = dktX5_feed_0 := by decide +kernel
theorem dksX5_feed_1 : cX5_feed.data.toList.drop 24 = dktX5_feed_1 := dk_seg dksX5_feed_0 24 rfl rfl
theorem dksX5_feed_2 : cX5_feed.data.toList.drop 48 = dktX5_feed_2 := dk_seg dksX5_feed_1 24 rfl rfl
theorem dksX5_feed_3 : cX5_feed.data.toList.drop 71 = dktX5_feed_3 := dk_seg dksX5_feed_2 23 rfl rfl
theorem dksX5_feed_4 : cX5_feed.data.toList.drop 94 = dktX5_feed_4 := dk_seg dksX5_feed_3 23 rfl rfl
theorem dksX5_feed_5 : cX5_feed.data.toList.drop 118 = dktX5_feed_5 := dk_seg dksX5_feed_4 24 rfl rfl
theorem dX5_feed_0 : decode cX5_feed 0 = .ok (.aload_n 0, 1) := dk_42 (dk_at dksX5_feed_0 0 rfl rfl)
theorem dX5_feed_1 : decode cX5_feed 1 = .ok (.iconst 0, 1) := dk_3 (dk_at dksX5_feed_0 1 rfl rfl)
theorem dX5_feed_2 : decode cX5_feed 2 = .ok (.putfield 59, 3) := dk_181 0 59 (dk_at dksX5_feed_0 2 rfl rfl)
theorem dX5_feed_5 : decode cX5_feed 5 = .ok (.aload_n 0, 1) := dk_42 (dk_at dksX5_feed_0 5 rfl rfl)
theorem dX5_feed_6 : decode cX5_feed 6 = .ok (.getfield 107, 3) := dk_180 0 107 (dk_at dksX5_feed_0 6 rfl rfl)
theorem dX5_feed_9 : decode cX5_feed 9 = .ok (.bipush 20, 2) := dk_16 20 (dk_at dksX5_feed_0 9 rfl rfl)
theorem dX5_feed_11 : decode cX5_feed 11 = .ok (.iadd, 1) := dk_96 (dk_at dksX5_feed_0 11 rfl rfl)
theorem dX5_feed_12 : decode cX5_feed 12 = .ok (.bipush 80, 2) := dk_16 80 (dk_at dksX5_feed_0 12 rfl rfl)
theorem dX5_feed_14 : decode cX5_feed 14 = .ok (.if_icmp .le 9, 3) := dk_164 0 9 (dk_at dksX5_feed_0 14 rfl rfl)
theorem dX5_feed_17 : decode cX5_feed 17 = .ok (.aload_n 0, 1) := dk_42 (dk_at dksX5_feed_0 17 rfl rfl)
theorem dX5_feed_18 : decode cX5_feed 18 = .ok (.iconst 1, 1) := dk_4 (dk_at dksX5_feed_0 18 rfl rfl)
theorem dX5_feed_19 : decode cX5_feed 19 = .ok (.invokevirtual 70, 3) := dk_182 0 70 (dk_at dksX5_feed_0 19 rfl rfl)
theorem dX5_feed_22 : decode cX5_feed 22 = .ok (.ireturn, 1) := dk_172 (dk_at dksX5_feed_0 22 rfl rfl)
theorem dX5_feed_23 : decode cX5_feed 23 = .ok (.iconst 5, 1) := dk_8 (dk_at dksX5_feed_0 23 rfl rfl)
theorem dX5_feed_24 : decode cX5_feed 24 = .ok (.newarray .int, 2) := dk_188_10 (dk_at dksX5_feed_1 0 rfl rfl)
theorem dX5_feed_26 : decode cX5_feed 26 = .ok (.dup, 1) := dk_89 (dk_at dksX5_feed_1 2 rfl rfl)
theorem dX5_feed_27 : decode cX5_feed 27 = .ok (.iconst 0, 1) := dk_3 (dk_at dksX5_feed_1 3 rfl rfl)
theorem dX5_feed_28 : decode cX5_feed 28 = .ok (.iload_n 1, 1) := dk_27 (dk_at dksX5_feed_1 4 rfl rfl)
theorem dX5_feed_29 : decode cX5_feed 29 = .ok (.iastore, 1) := dk_79 (dk_at dksX5_feed_1 5 rfl rfl)
theorem dX5_feed_30 : decode cX5_feed 30 = .ok (.dup, 1) := dk_89 (dk_at dksX5_feed_1 6 rfl rfl)
theorem dX5_feed_31 : decode cX5_feed 31 = .ok (.iconst 1, 1) := dk_4 (dk_at dksX5_feed_1 7 rfl rfl)
theorem dX5_feed_32 : decode cX5_feed 32 = .ok (.iload_n 2, 1) := dk_28 (dk_at dksX5_feed_1 8 rfl rfl)
theorem dX5_feed_33 : decode cX5_feed 33 = .ok (.iastore, 1) := dk_79 (dk_at dksX5_feed_1 9 rfl rfl)
theorem dX5_feed_34 : decode cX5_feed 34 = .ok (.dup, 1) := dk_89 (dk_at dksX5_feed_1 10 rfl rfl)
theorem dX5_feed_35 : decode cX5_feed 35 = .ok (.iconst 2, 1) := dk_5 (dk_at dksX5_feed_1 11 rfl rfl)
theorem dX5_feed_36 : decode cX5_feed 36 = .ok (.iload_n 3, 1) := dk_29 (dk_at dksX5_feed_1 12 rfl rfl)
theorem dX5_feed_37 : decode cX5_feed 37 = .ok (.iastore, 1) := dk_79 (dk_at dksX5_feed_1 13 rfl rfl)
theorem dX5_feed_38 : decode cX5_feed 38 = .ok (.dup, 1) := dk_89 (dk_at dksX5_feed_1 14 rfl rfl)
theorem dX5_feed_39 : decode cX5_feed 39 = .ok (.iconst 3, 1) := dk_6 (dk_at dksX5_feed_1 15 rfl rfl)
theorem dX5_feed_40 : decode cX5_feed 40 = .ok (.iload 4, 2) := dk_21 4 (dk_at dksX5_feed_1 16 rfl rfl)
theorem dX5_feed_42 : decode cX5_feed 42 = .ok (.iastore, 1) := dk_79 (dk_at dksX5_feed_1 18 rfl rfl)
theorem dX5_feed_43 : decode cX5_feed 43 = .ok (.dup, 1) := dk_89 (dk_at dksX5_feed_1 19 rfl rfl)
theorem dX5_feed_44 : decode cX5_feed 44 = .ok (.iconst 4, 1) := dk_7 (dk_at dksX5_feed_1 20 rfl rfl)
theorem dX5_feed_45 : decode cX5_feed 45 = .ok (.iload 5, 2) := dk_21 5 (dk_at dksX5_feed_1 21 rfl rfl)
theorem dX5_feed_47 : decode cX5_feed 47 = .ok (.iastore, 1) := dk_79 (dk_at dksX5_feed_1 23 rfl rfl)
theorem dX5_feed_48 : decode cX5_feed 48 = .ok (.astore 6, 2) := dk_58 6 (dk_at dksX5_feed_2 0 rfl rfl)
theorem dX5_feed_50 : decode cX5_feed 50 = .ok (.aload 6, 2) := dk_25 6 (dk_at dksX5_feed_2 2 rfl rfl)
theorem dX5_feed_52 : decode cX5_feed 52 = .ok (.astore 7, 2) := dk_58 7 (dk_at dksX5_feed_2 4 rfl rfl)
theorem dX5_feed_54 : decode cX5_feed 54 = .ok (.aload 7, 2) := dk_25 7 (dk_at dksX5_feed_2 6 rfl rfl)
theorem dX5_feed_56 : decode cX5_feed 56 = .ok (.arraylength, 1) := dk_190 (dk_at dksX5_feed_2 8 rfl rfl)
theorem dX5_feed_57 : decode cX5_feed 57 = .ok (.istore 8, 2) := dk_54 8 (dk_at dksX5_feed_2 9 rfl rfl)
theorem dX5_feed_59 : decode cX5_feed 59 = .ok (.iconst 0, 1) := dk_3 (dk_at dksX5_feed_2 11 rfl rfl)
theorem dX5_feed_60 : decode cX5_feed 60 = .ok (.istore 9, 2) := dk_54 9 (dk_at dksX5_feed_2 12 rfl rfl)
theorem dX5_feed_62 : decode cX5_feed 62 = .ok (.iload 9, 2) := dk_21 9 (dk_at dksX5_feed_2 14 rfl rfl)
theorem dX5_feed_64 : decode cX5_feed 64 = .ok (.iload 8, 2) := dk_21 8 (dk_at dksX5_feed_2 16 rfl rfl)
theorem dX5_feed_66 : decode cX5_feed 66 = .ok (.if_icmp .ge 61, 3) := dk_162 0 61 (dk_at dksX5_feed_2 18 rfl rfl)
theorem dX5_feed_69 : decode cX5_feed 69 = .ok (.aload 7, 2) := dk_25 7 (dk_at dksX5_feed_2 21 rfl rfl)
theorem dX5_feed_71 : decode cX5_feed 71 = .ok (.iload 9, 2) := dk_21 9 (dk_at dksX5_feed_3 0 rfl rfl)
theorem dX5_feed_73 : decode cX5_feed 73 = .ok (.iaload, 1) := dk_46 (dk_at dksX5_feed_3 2 rfl rfl)
theorem dX5_feed_74 : decode cX5_feed 74 = .ok (.istore 10, 2) := dk_54 10 (dk_at dksX5_feed_3 3 rfl rfl)
theorem dX5_feed_76 : decode cX5_feed 76 = .ok (.iconst 3, 1) := dk_6 (dk_at dksX5_feed_3 5 rfl rfl)
theorem dX5_feed_77 : decode cX5_feed 77 = .ok (.istore 11, 2) := dk_54 11 (dk_at dksX5_feed_3 6 rfl rfl)
theorem dX5_feed_79 : decode cX5_feed 79 = .ok (.iload 11, 2) := dk_21 11 (dk_at dksX5_feed_3 8 rfl rfl)
theorem dX5_feed_81 : decode cX5_feed 81 = .ok (.ifCond .lt 40, 3) := dk_155 0 40 (dk_at dksX5_feed_3 10 rfl rfl)
theorem dX5_feed_84 : decode cX5_feed 84 = .ok (.aload_n 0, 1) := dk_42 (dk_at dksX5_feed_3 13 rfl rfl)
theorem dX5_feed_85 : decode cX5_feed 85 = .ok (.getfield 38, 3) := dk_180 0 38 (dk_at dksX5_feed_3 14 rfl rfl)
theorem dX5_feed_88 : decode cX5_feed 88 = .ok (.aload_n 0, 1) := dk_42 (dk_at dksX5_feed_3 17 rfl rfl)
theorem dX5_feed_89 : decode cX5_feed 89 = .ok (.getfield 107, 3) := dk_180 0 107 (dk_at dksX5_feed_3 18 rfl rfl)
theorem dX5_feed_92 : decode cX5_feed 92 = .ok (.iload 10, 2) := dk_21 10 (dk_at dksX5_feed_3 21 rfl rfl)
theorem dX5_feed_94 : decode cX5_feed 94 = .ok (.bipush 8, 2) := dk_16 8 (dk_at dksX5_feed_4 0 rfl rfl)
theorem dX5_feed_96 : decode cX5_feed 96 = .ok (.iload 11, 2) := dk_21 11 (dk_at dksX5_feed_4 2 rfl rfl)
theorem dX5_feed_98 : decode cX5_feed 98 = .ok (.imul, 1) := dk_104 (dk_at dksX5_feed_4 4 rfl rfl)
theorem dX5_feed_99 : decode cX5_feed 99 = .ok (.ishr, 1) := dk_122 (dk_at dksX5_feed_4 5 rfl rfl)
theorem dX5_feed_100 : decode cX5_feed 100 = .ok (.sipush 255, 3) := dk_17 0 255 (dk_at dksX5_feed_4 6 rfl rfl)
theorem dX5_feed_103 : decode cX5_feed 103 = .ok (.iand, 1) := dk_126 (dk_at dksX5_feed_4 9 rfl rfl)
theorem dX5_feed_104 : decode cX5_feed 104 = .ok (.iastore, 1) := dk_79 (dk_at dksX5_feed_4 10 rfl rfl)
theorem dX5_feed_105 : decode cX5_feed 105 = .ok (.aload_n 0, 1) := dk_42 (dk_at dksX5_feed_4 11 rfl rfl)
theorem dX5_feed_106 : decode cX5_feed 106 = .ok (.dup, 1) := dk_89 (dk_at dksX5_feed_4 12 rfl rfl)
theorem dX5_feed_107 : decode cX5_feed 107 = .ok (.getfield 107, 3) := dk_180 0 107 (dk_at dksX5_feed_4 13 rfl rfl)
theorem dX5_feed_110 : decode cX5_feed 110 = .ok (.iconst 1, 1) := dk_4 (dk_at dksX5_feed_4 16 rfl rfl)
theorem dX5_feed_111 : decode cX5_feed 111 = .ok (.iadd, 1) := dk_96 (dk_at dksX5_feed_4 17 rfl rfl)
theorem dX5_feed_112 : decode cX5_feed 112 = .ok (.putfield 107, 3) := dk_181 0 107 (dk_at dksX5_feed_4 18 rfl rfl)
theorem dX5_feed_115 : decode cX5_feed 115 = .ok (.iinc 11 (-1), 3) := dk_132 11 255 (dk_at dksX5_feed_4 21 rfl rfl)
theorem dX5_feed_118 : decode cX5_feed 118 = .ok (.goto (-39), 3) := dk_167 255 217 (dk_at dksX5_feed_5 0 rfl rfl)
theorem dX5_feed_121 : decode cX5_feed 121 = .ok (.iinc 9 1, 3) := dk_132 9 1 (dk_at dksX5_feed_5 3 rfl rfl)
theorem dX5_feed_124 : decode cX5_feed 124 = .ok (.goto (-62), 3) := dk_167 255 194 (dk_at dksX5_feed_5 6 rfl rfl)
theorem dX5_feed_127 : decode cX5_feed 127 = .ok (.aload_n 0, 1) := dk_42 (dk_at dksX5_feed_5 9 rfl rfl)
theorem dX5_feed_128 : decode cX5_feed 128 = .ok (.getfield 107, 3) := dk_180 0 107 (dk_at dksX5_feed_5 10 rfl rfl)
theorem dX5_feed_131 : decode cX5_feed 131 = .ok (.ireturn, 1) := dk_172 (dk_at dksX5_feed_5 13 rfl rfl)
abbrev cX5_trim : ByteArray := prog_9_method_24_code
def yX5_trim : MethodName := ⟨RX5, "trim", "(I)I"⟩
def dkwX5_trim_1 : List UInt8 := [27, 181, 0, 107, 27, 172]
abbrev dktX5_trim_1 : List UInt8 := dkwX5_trim_1 ++ []
def dkwX5_trim_0 : List UInt8 := [42, 3, 181, 0, 59, 27, 3, 42, 180, 0, 107, 184, 0, 66, 154, 0, 9, 42, 4, 182, 0, 70, 172, 42]
abbrev dktX5_trim_0 : List UInt8 := dkwX5_trim_0 ++ dktX5_trim_1
theorem dksX5_trim_0 : cX5_trim.data.toList.drop 0 = dktX5_trim_0 := by decide +kernel
theorem dksX5_trim_1 : cX5_trim.data.toList.drop 24 = dktX5_trim_1 := dk_seg dksX5_trim_0 24 rfl rfl
theorem dX5_trim_0 : decode cX5_trim 0 = .ok (.aload_n 0, 1) := dk_42 (dk_at dksX5_trim_0 0 rfl rfl)
theorem dX5_trim_1 : decode cX5_trim 1 = .ok (.iconst 0, 1) := dk_3 (dk_at dksX5_trim_0 1 rfl rfl)
theorem dX5_trim_2 : decode cX5_trim 2 = .ok (.putfield 59, 3) := dk_181 0 59 (dk_at dksX5_trim_0 2 rfl rfl)
theorem dX5_trim_5 : decode cX5_trim 5 = .ok (.iload_n 1, 1) := dk_27 (dk_at dksX5_trim_0 5 rfl rfl)
theorem dX5_trim_6 : decode cX5_trim 6 = .ok (.iconst 0, 1) := dk_3 (dk_at dksX5_trim_0 6 rfl rfl)
theorem dX5_trim_7 : decode cX5_trim 7 = .ok (.aload_n 0, 1) := dk_42 (dk_at dksX5_trim_0 7 rfl rfl)
theorem dX5_trim_8 : decode cX5_trim 8 = .ok (.getfield 107, 3) := dk_180 0 107 (dk_at dksX5_trim_0 8 rfl rfl)
theorem dX5_trim_11 : decode cX5_trim 11 = .ok (.invokestatic 66, 3) := dk_184 0 66 (dk_at dksX5_trim_0 11 rfl rfl)
theorem dX5_trim_14 : decode cX5_trim 14 = .ok (.ifCond .ne 9, 3) := dk_154 0 9 (dk_at dksX5_trim_0 14 rfl rfl)
theorem dX5_trim_17 : decode cX5_trim 17 = .ok (.aload_n 0, 1) := dk_42 (dk_at dksX5_trim_0 17 rfl rfl)
theorem dX5_trim_18 : decode cX5_trim 18 = .ok (.iconst 1, 1) := dk_4 (dk_at dksX5_trim_0 18 rfl rfl)
theorem dX5_trim_19 : decode cX5_trim 19 = .ok (.invokevirtual 70, 3) := dk_182 0 70 (dk_at dksX5_trim_0 19 rfl rfl)
theorem dX5_trim_22 : decode cX5_trim 22 = .ok (.ireturn, 1) := dk_172 (dk_at dksX5_trim_0 22 rfl rfl)
theorem dX5_trim_23 : decode cX5_trim 23 = .ok (.aload_n 0, 1) := dk_42 (dk_at dksX5_trim_0 23 rfl rfl)
theorem dX5_trim_24 : decode cX5_trim 24 = .ok (.iload_n 1, 1) := dk_27 (dk_at dksX5_trim_1 0 rfl rfl)
theorem dX5_trim_25 : decode cX5_trim 25 = .ok (.putfield 107, 3) := dk_181 0 107 (dk_at dksX5_trim_1 1 rfl rfl)
theorem dX5_trim_28 : decode cX5_trim 28 = .ok (.iload_n 1, 1) := dk_27 (dk_at dksX5_trim_1 4 rfl rfl)
theorem dX5_trim_29 : decode cX5_trim 29 = .ok (.ireturn, 1) := dk_172 (dk_at dksX5_trim_1 5 rfl rfl)
abbrev cX5_tie : ByteArray := prog_9_method_26_code
def yX5_tie : MethodName := ⟨RX5, "tie", "()I"⟩
def dkwX5_tie_9 : List UInt8 := [172]
abbrev dktX5_tie_9 : List UInt8 := dkwX5_tie_9 ++ []
def dkwX5_tie_8 : List UInt8 := [180, 0, 38, 21, 4, 46, 16, 97, 100, 182, 0, 120, 132, 4, 1, 167, 255, 208, 42, 3, 181, 0, 107, 29]
abbrev dktX5_tie_8 : List UInt8 := dkwX5_tie_8 ++ dktX5_tie_9
def dkwX5_tie_7 : List UInt8 := [180, 0, 38, 21, 4, 46, 16, 32, 160, 0, 12, 42, 29, 8, 182, 0, 116, 167, 0, 18, 42, 29, 42]
abbrev dktX5_tie_7 : List UInt8 := dkwX5_tie_7 ++ dktX5_tie_8
def dkwX5_tie_6 : List UInt8 := [89, 180, 0, 113, 4, 96, 181, 0, 113, 3, 54, 4, 21, 4, 42, 180, 0, 107, 162, 0, 45, 42]
abbrev dktX5_tie_6 : List UInt8 := dkwX5_tie_6 ++ dktX5_tie_7
def dkwX5_tie_5 : List UInt8 := [27, 16, 40, 164, 0, 9, 42, 4, 182, 0, 70, 172, 28, 154, 0, 5, 2, 172, 42, 180, 0, 113, 62, 42]
abbrev dktX5_tie_5 : List UInt8 := dkwX5_tie_5 ++ dktX5_tie_6
def dkwX5_tie_4 : List UInt8 := [153, 0, 7, 4, 167, 0, 4, 3, 61, 132, 3, 1, 167, 255, 159, 42, 180, 0, 113, 16, 10, 159, 0, 9]
abbrev dktX5_tie_4 : List UInt8 := dkwX5_tie_4 ++ dktX5_tie_5
def dkwX5_tie_3 : List UInt8 := [153, 0, 31, 42, 180, 0, 38, 29, 46, 16, 32, 159, 0, 16, 42, 42, 180, 0, 38, 29, 46, 182, 0, 110]
abbrev dktX5_tie_3 : List UInt8 := dkwX5_tie_3 ++ dktX5_tie_4
def dkwX5_tie_2 : List UInt8 := [42, 180, 0, 9, 42, 180, 0, 38, 29, 46, 16, 97, 100, 46, 184, 0, 62, 167, 0, 4, 3, 96, 60, 28]
abbrev dktX5_tie_2 : List UInt8 := dkwX5_tie_2 ++ dktX5_tie_3
def dkwX5_tie_1 : List UInt8 := [29, 46, 16, 32, 160, 0, 7, 4, 167, 0, 37, 42, 42, 180, 0, 38, 29, 46, 182, 0, 110, 153, 0, 23]
abbrev dktX5_tie_1 : List UInt8 := dkwX5_tie_1 ++ dktX5_tie_2
def dkwX5_tie_0 : List UInt8 := [42, 3, 181, 0, 59, 3, 60, 4, 61, 3, 62, 29, 42, 180, 0, 107, 162, 0, 95, 27, 42, 180, 0, 38]
abbrev dktX5_tie_0 : List UInt8 := dkwX5_tie_0 ++ dktX5_tie_1
theorem dksX5_tie_0 : cX5_tie.data.toList.drop 0 = dktX5_tie_0 := by decide +kernel
theorem dksX5_tie_1 : cX5_tie.data.toList.drop 24 = dktX5_tie_1 := dk_seg dksX5_tie_0 24 rfl rfl
theorem dksX5_tie_2 : cX5_tie.data.toList.drop 48 = dktX5_tie_2 := dk_seg dksX5_tie_1 24 rfl rfl
theorem dksX5_tie_3 : cX5_tie.data.toList.drop 72 = dktX5_tie_3 := dk_seg dksX5_tie_2 24 rfl rfl
theorem dksX5_tie_4 : cX5_tie.data.toList.drop 96 = dktX5_tie_4 := dk_seg dksX5_tie_3 24 rfl rfl
theorem dksX5_tie_5 : cX5_tie.data.toList.drop 120 = dktX5_tie_5 := dk_seg dksX5_tie_4 24 rfl rfl
theorem dksX5_tie_6 : cX5_tie.data.toList.drop 144 = dktX5_tie_6 := dk_seg dksX5_tie_5 24 rfl rfl
theorem dksX5_tie_7 : cX5_tie.data.toList.drop 166 = dktX5_tie_7 := dk_seg dksX5_tie_6 22 rfl rfl
theorem dksX5_tie_8 : cX5_tie.data.toList.drop 189 = dktX5_tie_8 := dk_seg dksX5_tie_7 23 rfl rfl
theorem dksX5_tie_9 : cX5_tie.data.toList.drop 213 = dktX5_tie_9 := dk_seg dksX5_tie_8 24 rfl rfl
theorem dX5_tie_0 : decode cX5_tie 0 = .ok (.aload_n 0, 1) := dk_42 (dk_at dksX5_tie_0 0 rfl rfl)
theorem dX5_tie_1 : decode cX5_tie 1 = .ok (.iconst 0, 1) := dk_3 (dk_at dksX5_tie_0 1 rfl rfl)
theorem dX5_tie_2 : decode cX5_tie 2 = .ok (.putfield 59, 3) := dk_181 0 59 (dk_at dksX5_tie_0 2 rfl rfl)
theorem dX5_tie_5 : decode cX5_tie 5 = .ok (.iconst 0, 1) := dk_3 (dk_at dksX5_tie_0 5 rfl rfl)
theorem dX5_tie_6 : decode cX5_tie 6 = .ok (.istore_n 1, 1) := dk_60 (dk_at dksX5_tie_0 6 rfl rfl)
theorem dX5_tie_7 : decode cX5_tie 7 = .ok (.iconst 1, 1) := dk_4 (dk_at dksX5_tie_0 7 rfl rfl)
theorem dX5_tie_8 : decode cX5_tie 8 = .ok (.istore_n 2, 1) := dk_61 (dk_at dksX5_tie_0 8 rfl rfl)
theorem dX5_tie_9 : decode cX5_tie 9 = .ok (.iconst 0, 1) := dk_3 (dk_at dksX5_tie_0 9 rfl rfl)
theorem dX5_tie_10 : decode cX5_tie 10 = .ok (.istore_n 3, 1) := dk_62 (dk_at dksX5_tie_0 10 rfl rfl)
theorem dX5_tie_11 : decode cX5_tie 11 = .ok (.iload_n 3, 1) := dk_29 (dk_at dksX5_tie_0 11 rfl rfl)
theorem dX5_tie_12 : decode cX5_tie 12 = .ok (.aload_n 0, 1) := dk_42 (dk_at dksX5_tie_0 12 rfl rfl)
theorem dX5_tie_13 : decode cX5_tie 13 = .ok (.getfield 107, 3) := dk_180 0 107 (dk_at dksX5_tie_0 13 rfl rfl)
theorem dX5_tie_16 : decode cX5_tie 16 = .ok (.if_icmp .ge 95, 3) := dk_162 0 95 (dk_at dksX5_tie_0 16 rfl rfl)
theorem dX5_tie_19 : decode cX5_tie 19 = .ok (.iload_n 1, 1) := dk_27 (dk_at dksX5_tie_0 19 rfl rfl)
theorem dX5_tie_20 : decode cX5_tie 20 = .ok (.aload_n 0, 1) := dk_42 (dk_at dksX5_tie_0 20 rfl rfl)
theorem dX5_tie_21 : decode cX5_tie 21 = .ok (.getfield 38, 3) := dk_180 0 38 (dk_at dksX5_tie_0 21 rfl rfl)
theorem dX5_tie_24 : decode cX5_tie 24 = .ok (.iload_n 3, 1) := dk_29 (dk_at dksX5_tie_1 0 rfl rfl)
theorem dX5_tie_25 : decode cX5_tie 25 = .ok (.iaload, 1) := dk_46 (dk_at dksX5_tie_1 1 rfl rfl)
theorem dX5_tie_26 : decode cX5_tie 26 = .ok (.bipush 32, 2) := dk_16 32 (dk_at dksX5_tie_1 2 rfl rfl)
theorem dX5_tie_28 : decode cX5_tie 28 = .ok (.if_icmp .ne 7, 3) := dk_160 0 7 (dk_at dksX5_tie_1 4 rfl rfl)
theorem dX5_tie_31 : decode cX5_tie 31 = .ok (.iconst 1, 1) := dk_4 (dk_at dksX5_tie_1 7 rfl rfl)
theorem dX5_tie_32 : decode cX5_tie 32 = .ok (.goto 37, 3) := dk_167 0 37 (dk_at dksX5_tie_1 8 rfl rfl)
theorem dX5_tie_35 : decode cX5_tie 35 = .ok (.aload_n 0, 1) := dk_42 (dk_at dksX5_tie_1 11 rfl rfl)
theorem dX5_tie_36 : decode cX5_tie 36 = .ok (.aload_n 0, 1) := dk_42 (dk_at dksX5_tie_1 12 rfl rfl)
theorem dX5_tie_37 : decode cX5_tie 37 = .ok (.getfield 38, 3) := dk_180 0 38 (dk_at dksX5_tie_1 13 rfl rfl)
theorem dX5_tie_40 : decode cX5_tie 40 = .ok (.iload_n 3, 1) := dk_29 (dk_at dksX5_tie_1 16 rfl rfl)
theorem dX5_tie_41 : decode cX5_tie 41 = .ok (.iaload, 1) := dk_46 (dk_at dksX5_tie_1 17 rfl rfl)
theorem dX5_tie_42 : decode cX5_tie 42 = .ok (.invokevirtual 110, 3) := dk_182 0 110 (dk_at dksX5_tie_1 18 rfl rfl)
theorem dX5_tie_45 : decode cX5_tie 45 = .ok (.ifCond .eq 23, 3) := dk_153 0 23 (dk_at dksX5_tie_1 21 rfl rfl)
theorem dX5_tie_48 : decode cX5_tie 48 = .ok (.aload_n 0, 1) := dk_42 (dk_at dksX5_tie_2 0 rfl rfl)
theorem dX5_tie_49 : decode cX5_tie 49 = .ok (.getfield 9, 3) := dk_180 0 9 (dk_at dksX5_tie_2 1 rfl rfl)
theorem dX5_tie_52 : decode cX5_tie 52 = .ok (.aload_n 0, 1) := dk_42 (dk_at dksX5_tie_2 4 rfl rfl)
theorem dX5_tie_53 : decode cX5_tie 53 = .ok (.getfield 38, 3) := dk_180 0 38 (dk_at dksX5_tie_2 5 rfl rfl)
theorem dX5_tie_56 : decode cX5_tie 56 = .ok (.iload_n 3, 1) := dk_29 (dk_at dksX5_tie_2 8 rfl rfl)
theorem dX5_tie_57 : decode cX5_tie 57 = .ok (.iaload, 1) := dk_46 (dk_at dksX5_tie_2 9 rfl rfl)
theorem dX5_tie_58 : decode cX5_tie 58 = .ok (.bipush 97, 2) := dk_16 97 (dk_at dksX5_tie_2 10 rfl rfl)
theorem dX5_tie_60 : decode cX5_tie 60 = .ok (.isub, 1) := dk_100 (dk_at dksX5_tie_2 12 rfl rfl)
theorem dX5_tie_61 : decode cX5_tie 61 = .ok (.iaload, 1) := dk_46 (dk_at dksX5_tie_2 13 rfl rfl)
theorem dX5_tie_62 : decode cX5_tie 62 = .ok (.invokestatic 62, 3) := dk_184 0 62 (dk_at dksX5_tie_2 14 rfl rfl)
theorem dX5_tie_65 : decode cX5_tie 65 = .ok (.goto 4, 3) := dk_167 0 4 (dk_at dksX5_tie_2 17 rfl rfl)
theorem dX5_tie_68 : decode cX5_tie 68 = .ok (.iconst 0, 1) := dk_3 (dk_at dksX5_tie_2 20 rfl rfl)
theorem dX5_tie_69 : decode cX5_tie 69 = .ok (.iadd, 1) := dk_96 (dk_at dksX5_tie_2 21 rfl rfl)
theorem dX5_tie_70 : decode cX5_tie 70 = .ok (.istore_n 1, 1) := dk_60 (dk_at dksX5_tie_2 22 rfl rfl)
theorem dX5_tie_71 : decode cX5_tie 71 = .ok (.iload_n 2, 1) := dk_28 (dk_at dksX5_tie_2 23 rfl rfl)
theorem dX5_tie_72 : decode cX5_tie 72 = .ok (.ifCond .eq 31, 3) := dk_153 0 31 (dk_at dksX5_tie_3 0 rfl rfl)
theorem dX5_tie_75 : decode cX5_tie 75 = .ok (.aload_n 0, 1) := dk_42 (dk_at dksX5_tie_3 3 rfl rfl)
theorem dX5_tie_76 : decode cX5_tie 76 = .ok (.getfield 38, 3) := dk_180 0 38 (dk_at dksX5_tie_3 4 rfl rfl)
theorem dX5_tie_79 : decode cX5_tie 79 = .ok (.iload_n 3, 1) := dk_29 (dk_at dksX5_tie_3 7 rfl rfl)
theorem dX5_tie_80 : decode cX5_tie 80 = .ok (.iaload, 1) := dk_46 (dk_at dksX5_tie_3 8 rfl rfl)
theorem dX5_tie_81 : decode cX5_tie 81 = .ok (.bipush 32, 2) := dk_16 32 (dk_at dksX5_tie_3 9 rfl rfl)
theorem dX5_tie_83 : decode cX5_tie 83 = .ok (.if_icmp .eq 16, 3) := dk_159 0 16 (dk_at dksX5_tie_3 11 rfl rfl)
theorem dX5_tie_86 : decode cX5_tie 86 = .ok (.aload_n 0, 1) := dk_42 (dk_at dksX5_tie_3 14 rfl rfl)
theorem dX5_tie_87 : decode cX5_tie 87 = .ok (.aload_n 0, 1) := dk_42 (dk_at dksX5_tie_3 15 rfl rfl)
theorem dX5_tie_88 : decode cX5_tie 88 = .ok (.getfield 38, 3) := dk_180 0 38 (dk_at dksX5_tie_3 16 rfl rfl)
theorem dX5_tie_91 : decode cX5_tie 91 = .ok (.iload_n 3, 1) := dk_29 (dk_at dksX5_tie_3 19 rfl rfl)
theorem dX5_tie_92 : decode cX5_tie 92 = .ok (.iaload, 1) := dk_46 (dk_at dksX5_tie_3 20 rfl rfl)
theorem dX5_tie_93 : decode cX5_tie 93 = .ok (.invokevirtual 110, 3) := dk_182 0 110 (dk_at dksX5_tie_3 21 rfl rfl)
theorem dX5_tie_96 : decode cX5_tie 96 = .ok (.ifCond .eq 7, 3) := dk_153 0 7 (dk_at dksX5_tie_4 0 rfl rfl)
theorem dX5_tie_99 : decode cX5_tie 99 = .ok (.iconst 1, 1) := dk_4 (dk_at dksX5_tie_4 3 rfl rfl)
theorem dX5_tie_100 : decode cX5_tie 100 = .ok (.goto 4, 3) := dk_167 0 4 (dk_at dksX5_tie_4 4 rfl rfl)
theorem dX5_tie_103 : decode cX5_tie 103 = .ok (.iconst 0, 1) := dk_3 (dk_at dksX5_tie_4 7 rfl rfl)
theorem dX5_tie_104 : decode cX5_tie 104 = .ok (.istore_n 2, 1) := dk_61 (dk_at dksX5_tie_4 8 rfl rfl)
theorem dX5_tie_105 : decode cX5_tie 105 = .ok (.iinc 3 1, 3) := dk_132 3 1 (dk_at dksX5_tie_4 9 rfl rfl)
theorem dX5_tie_108 : decode cX5_tie 108 = .ok (.goto (-97), 3) := dk_167 255 159 (dk_at dksX5_tie_4 12 rfl rfl)
theorem dX5_tie_111 : decode cX5_tie 111 = .ok (.aload_n 0, 1) := dk_42 (dk_at dksX5_tie_4 15 rfl rfl)
theorem dX5_tie_112 : decode cX5_tie 112 = .ok (.getfield 113, 3) := dk_180 0 113 (dk_at dksX5_tie_4 16 rfl rfl)
theorem dX5_tie_115 : decode cX5_tie 115 = .ok (.bipush 10, 2) := dk_16 10 (dk_at dksX5_tie_4 19 rfl rfl)
theorem dX5_tie_117 : decode cX5_tie 117 = .ok (.if_icmp .eq 9, 3) := dk_159 0 9 (dk_at dksX5_tie_4 21 rfl rfl)
theorem dX5_tie_120 : decode cX5_tie 120 = .ok (.iload_n 1, 1) := dk_27 (dk_at dksX5_tie_5 0 rfl rfl)
theorem dX5_tie_121 : decode cX5_tie 121 = .ok (.bipush 40, 2) := dk_16 40 (dk_at dksX5_tie_5 1 rfl rfl)
theorem dX5_tie_123 : decode cX5_tie 123 = .ok (.if_icmp .le 9, 3) := dk_164 0 9 (dk_at dksX5_tie_5 3 rfl rfl)
theorem dX5_tie_126 : decode cX5_tie 126 = .ok (.aload_n 0, 1) := dk_42 (dk_at dksX5_tie_5 6 rfl rfl)
theorem dX5_tie_127 : decode cX5_tie 127 = .ok (.iconst 1, 1) := dk_4 (dk_at dksX5_tie_5 7 rfl rfl)
theorem dX5_tie_128 : decode cX5_tie 128 = .ok (.invokevirtual 70, 3) := dk_182 0 70 (dk_at dksX5_tie_5 8 rfl rfl)
theorem dX5_tie_131 : decode cX5_tie 131 = .ok (.ireturn, 1) := dk_172 (dk_at dksX5_tie_5 11 rfl rfl)
theorem dX5_tie_132 : decode cX5_tie 132 = .ok (.iload_n 2, 1) := dk_28 (dk_at dksX5_tie_5 12 rfl rfl)
theorem dX5_tie_133 : decode cX5_tie 133 = .ok (.ifCond .ne 5, 3) := dk_154 0 5 (dk_at dksX5_tie_5 13 rfl rfl)
theorem dX5_tie_136 : decode cX5_tie 136 = .ok (.iconst (-1), 1) := dk_2 (dk_at dksX5_tie_5 16 rfl rfl)
theorem dX5_tie_137 : decode cX5_tie 137 = .ok (.ireturn, 1) := dk_172 (dk_at dksX5_tie_5 17 rfl rfl)
theorem dX5_tie_138 : decode cX5_tie 138 = .ok (.aload_n 0, 1) := dk_42 (dk_at dksX5_tie_5 18 rfl rfl)
theorem dX5_tie_139 : decode cX5_tie 139 = .ok (.getfield 113, 3) := dk_180 0 113 (dk_at dksX5_tie_5 19 rfl rfl)
theorem dX5_tie_142 : decode cX5_tie 142 = .ok (.istore_n 3, 1) := dk_62 (dk_at dksX5_tie_5 22 rfl rfl)
theorem dX5_tie_143 : decode cX5_tie 143 = .ok (.aload_n 0, 1) := dk_42 (dk_at dksX5_tie_5 23 rfl rfl)
theorem dX5_tie_144 : decode cX5_tie 144 = .ok (.dup, 1) := dk_89 (dk_at dksX5_tie_6 0 rfl rfl)
theorem dX5_tie_145 : decode cX5_tie 145 = .ok (.getfield 113, 3) := dk_180 0 113 (dk_at dksX5_tie_6 1 rfl rfl)
theorem dX5_tie_148 : decode cX5_tie 148 = .ok (.iconst 1, 1) := dk_4 (dk_at dksX5_tie_6 4 rfl rfl)
theorem dX5_tie_149 : decode cX5_tie 149 = .ok (.iadd, 1) := dk_96 (dk_at dksX5_tie_6 5 rfl rfl)
theorem dX5_tie_150 : decode cX5_tie 150 = .ok (.putfield 113, 3) := dk_181 0 113 (dk_at dksX5_tie_6 6 rfl rfl)
theorem dX5_tie_153 : decode cX5_tie 153 = .ok (.iconst 0, 1) := dk_3 (dk_at dksX5_tie_6 9 rfl rfl)
theorem dX5_tie_154 : decode cX5_tie 154 = .ok (.istore 4, 2) := dk_54 4 (dk_at dksX5_tie_6 10 rfl rfl)
theorem dX5_tie_156 : decode cX5_tie 156 = .ok (.iload 4, 2) := dk_21 4 (dk_at dksX5_tie_6 12 rfl rfl)
theorem dX5_tie_158 : decode cX5_tie 158 = .ok (.aload_n 0, 1) := dk_42 (dk_at dksX5_tie_6 14 rfl rfl)
theorem dX5_tie_159 : decode cX5_tie 159 = .ok (.getfield 107, 3) := dk_180 0 107 (dk_at dksX5_tie_6 15 rfl rfl)
theorem dX5_tie_162 : decode cX5_tie 162 = .ok (.if_icmp .ge 45, 3) := dk_162 0 45 (dk_at dksX5_tie_6 18 rfl rfl)
theorem dX5_tie_165 : decode cX5_tie 165 = .ok (.aload_n 0, 1) := dk_42 (dk_at dksX5_tie_6 21 rfl rfl)
theorem dX5_tie_166 : decode cX5_tie 166 = .ok (.getfield 38, 3) := dk_180 0 38 (dk_at dksX5_tie_7 0 rfl rfl)
theorem dX5_tie_169 : decode cX5_tie 169 = .ok (.iload 4, 2) := dk_21 4 (dk_at dksX5_tie_7 3 rfl rfl)
theorem dX5_tie_171 : decode cX5_tie 171 = .ok (.iaload, 1) := dk_46 (dk_at dksX5_tie_7 5 rfl rfl)
theorem dX5_tie_172 : decode cX5_tie 172 = .ok (.bipush 32, 2) := dk_16 32 (dk_at dksX5_tie_7 6 rfl rfl)
theorem dX5_tie_174 : decode cX5_tie 174 = .ok (.if_icmp .ne 12, 3) := dk_160 0 12 (dk_at dksX5_tie_7 8 rfl rfl)
theorem dX5_tie_177 : decode cX5_tie 177 = .ok (.aload_n 0, 1) := dk_42 (dk_at dksX5_tie_7 11 rfl rfl)
theorem dX5_tie_178 : decode cX5_tie 178 = .ok (.iload_n 3, 1) := dk_29 (dk_at dksX5_tie_7 12 rfl rfl)
theorem dX5_tie_179 : decode cX5_tie 179 = .ok (.iconst 5, 1) := dk_8 (dk_at dksX5_tie_7 13 rfl rfl)
theorem dX5_tie_180 : decode cX5_tie 180 = .ok (.invokevirtual 116, 3) := dk_182 0 116 (dk_at dksX5_tie_7 14 rfl rfl)
theorem dX5_tie_183 : decode cX5_tie 183 = .ok (.goto 18, 3) := dk_167 0 18 (dk_at dksX5_tie_7 17 rfl rfl)
theorem dX5_tie_186 : decode cX5_tie 186 = .ok (.aload_n 0, 1) := dk_42 (dk_at dksX5_tie_7 20 rfl rfl)
theorem dX5_tie_187 : decode cX5_tie 187 = .ok (.iload_n 3, 1) := dk_29 (dk_at dksX5_tie_7 21 rfl rfl)
theorem dX5_tie_188 : decode cX5_tie 188 = .ok (.aload_n 0, 1) := dk_42 (dk_at dksX5_tie_7 22 rfl rfl)
theorem dX5_tie_189 : decode cX5_tie 189 = .ok (.getfield 38, 3) := dk_180 0 38 (dk_at dksX5_tie_8 0 rfl rfl)
theorem dX5_tie_192 : decode cX5_tie 192 = .ok (.iload 4, 2) := dk_21 4 (dk_at dksX5_tie_8 3 rfl rfl)
theorem dX5_tie_194 : decode cX5_tie 194 = .ok (.iaload, 1) := dk_46 (dk_at dksX5_tie_8 5 rfl rfl)
theorem dX5_tie_195 : decode cX5_tie 195 = .ok (.bipush 97, 2) := dk_16 97 (dk_at dksX5_tie_8 6 rfl rfl)
theorem dX5_tie_197 : decode cX5_tie 197 = .ok (.isub, 1) := dk_100 (dk_at dksX5_tie_8 8 rfl rfl)
theorem dX5_tie_198 : decode cX5_tie 198 = .ok (.invokevirtual 120, 3) := dk_182 0 120 (dk_at dksX5_tie_8 9 rfl rfl)
theorem dX5_tie_201 : decode cX5_tie 201 = .ok (.iinc 4 1, 3) := dk_132 4 1 (dk_at dksX5_tie_8 12 rfl rfl)
theorem dX5_tie_204 : decode cX5_tie 204 = .ok (.goto (-48), 3) := dk_167 255 208 (dk_at dksX5_tie_8 15 rfl rfl)
theorem dX5_tie_207 : decode cX5_tie 207 = .ok (.aload_n 0, 1) := dk_42 (dk_at dksX5_tie_8 18 rfl rfl)
theorem dX5_tie_208 : decode cX5_tie 208 = .ok (.iconst 0, 1) := dk_3 (dk_at dksX5_tie_8 19 rfl rfl)
theorem dX5_tie_209 : decode cX5_tie 209 = .ok (.putfield 107, 3) := dk_181 0 107 (dk_at dksX5_tie_8 20 rfl rfl)
theorem dX5_tie_212 : decode cX5_tie 212 = .ok (.iload_n 3, 1) := dk_29 (dk_at dksX5_tie_8 23 rfl rfl)
theorem dX5_tie_213 : decode cX5_tie 213 = .ok (.ireturn, 1) := dk_172 (dk_at dksX5_tie_9 0 rfl rfl)
abbrev cX5_isLetter : ByteArray := prog_9_method_25_code
def yX5_isLetter : MethodName := ⟨RX5, "isLetter", "(I)Z"⟩
def dkwX5_isLetter_1 : List UInt8 := [158, 0, 7, 4, 167, 0, 4, 3, 172]
abbrev dktX5_isLetter_1 : List UInt8 := dkwX5_isLetter_1 ++ []
def dkwX5_isLetter_0 : List UInt8 := [27, 16, 97, 100, 3, 16, 11, 184, 0, 66, 153, 0, 19, 42, 180, 0, 9, 27, 16, 97, 100, 46]
abbrev dktX5_isLetter_0 : List UInt8 := dkwX5_isLetter_0 ++ dktX5_isLetter_1
theorem dksX5_isLetter_0 : cX5_isLetter.data.toList.drop 0 = dktX5_isLetter_0 := by decide +kernel
theorem dksX5_isLetter_1 : cX5_isLetter.data.toList.drop 22 = dktX5_isLetter_1 := dk_seg dksX5_isLetter_0 22 rfl rfl
theorem dX5_isLetter_0 : decode cX5_isLetter 0 = .ok (.iload_n 1, 1) := dk_27 (dk_at dksX5_isLetter_0 0 rfl rfl)
theorem dX5_isLetter_1 : decode cX5_isLetter 1 = .ok (.bipush 97, 2) := dk_16 97 (dk_at dksX5_isLetter_0 1 rfl rfl)
theorem dX5_isLetter_3 : decode cX5_isLetter 3 = .ok (.isub, 1) := dk_100 (dk_at dksX5_isLetter_0 3 rfl rfl)
theorem dX5_isLetter_4 : decode cX5_isLetter 4 = .ok (.iconst 0, 1) := dk_3 (dk_at dksX5_isLetter_0 4 rfl rfl)
theorem dX5_isLetter_5 : decode cX5_isLetter 5 = .ok (.bipush 11, 2) := dk_16 11 (dk_at dksX5_isLetter_0 5 rfl rfl)
theorem dX5_isLetter_7 : decode cX5_isLetter 7 = .ok (.invokestatic 66, 3) := dk_184 0 66 (dk_at dksX5_isLetter_0 7 rfl rfl)
theorem dX5_isLetter_10 : decode cX5_isLetter 10 = .ok (.ifCond .eq 19, 3) := dk_153 0 19 (dk_at dksX5_isLetter_0 10 rfl rfl)
theorem dX5_isLetter_13 : decode cX5_isLetter 13 = .ok (.aload_n 0, 1) := dk_42 (dk_at dksX5_isLetter_0 13 rfl rfl)
theorem dX5_isLetter_14 : decode cX5_isLetter 14 = .ok (.getfield 9, 3) := dk_180 0 9 (dk_at dksX5_isLetter_0 14 rfl rfl)
theorem dX5_isLetter_17 : decode cX5_isLetter 17 = .ok (.iload_n 1, 1) := dk_27 (dk_at dksX5_isLetter_0 17 rfl rfl)
theorem dX5_isLetter_18 : decode cX5_isLetter 18 = .ok (.bipush 97, 2) := dk_16 97 (dk_at dksX5_isLetter_0 18 rfl rfl)
theorem dX5_isLetter_20 : decode cX5_isLetter 20 = .ok (.isub, 1) := dk_100 (dk_at dksX5_isLetter_0 20 rfl rfl)
theorem dX5_isLetter_21 : decode cX5_isLetter 21 = .ok (.iaload, 1) := dk_46 (dk_at dksX5_isLetter_0 21 rfl rfl)
theorem dX5_isLetter_22 : decode cX5_isLetter 22 = .ok (.ifCond .le 7, 3) := dk_158 0 7 (dk_at dksX5_isLetter_1 0 rfl rfl)
theorem dX5_isLetter_25 : decode cX5_isLetter 25 = .ok (.iconst 1, 1) := dk_4 (dk_at dksX5_isLetter_1 3 rfl rfl)
theorem dX5_isLetter_26 : decode cX5_isLetter 26 = .ok (.goto 4, 3) := dk_167 0 4 (dk_at dksX5_isLetter_1 4 rfl rfl)
theorem dX5_isLetter_29 : decode cX5_isLetter 29 = .ok (.iconst 0, 1) := dk_3 (dk_at dksX5_isLetter_1 7 rfl rfl)
theorem dX5_isLetter_30 : decode cX5_isLetter 30 = .ok (.ireturn, 1) := dk_172 (dk_at dksX5_isLetter_1 8 rfl rfl)
abbrev cX5_put : ByteArray := prog_9_method_27_code
def yX5_put : MethodName := ⟨RX5, "put", "(II)V"⟩
def dkwX5_put_1 : List UInt8 := [4, 96, 79, 177]
abbrev dktX5_put_1 : List UInt8 := dkwX5_put_1 ++ []
def dkwX5_put_0 : List UInt8 := [42, 180, 0, 29, 16, 40, 27, 104, 42, 180, 0, 26, 27, 46, 96, 28, 79, 42, 180, 0, 26, 27, 92, 46]
abbrev dktX5_put_0 : List UInt8 := dkwX5_put_0 ++ dktX5_put_1
theorem dksX5_put_0 : cX5_put.data.toList.drop 0 = dktX5_put_0 := by decide +kernel
theorem dksX5_put_1 : cX5_put.data.toList.drop 24 = dktX5_put_1 := dk_seg dksX5_put_0 24 rfl rfl
theorem dX5_put_0 : decode cX5_put 0 = .ok (.aload_n 0, 1) := dk_42 (dk_at dksX5_put_0 0 rfl rfl)
theorem dX5_put_1 : decode cX5_put 1 = .ok (.getfield 29, 3) := dk_180 0 29 (dk_at dksX5_put_0 1 rfl rfl)
theorem dX5_put_4 : decode cX5_put 4 = .ok (.bipush 40, 2) := dk_16 40 (dk_at dksX5_put_0 4 rfl rfl)
theorem dX5_put_6 : decode cX5_put 6 = .ok (.iload_n 1, 1) := dk_27 (dk_at dksX5_put_0 6 rfl rfl)
theorem dX5_put_7 : decode cX5_put 7 = .ok (.imul, 1) := dk_104 (dk_at dksX5_put_0 7 rfl rfl)
theorem dX5_put_8 : decode cX5_put 8 = .ok (.aload_n 0, 1) := dk_42 (dk_at dksX5_put_0 8 rfl rfl)
theorem dX5_put_9 : decode cX5_put 9 = .ok (.getfield 26, 3) := dk_180 0 26 (dk_at dksX5_put_0 9 rfl rfl)
theorem dX5_put_12 : decode cX5_put 12 = .ok (.iload_n 1, 1) := dk_27 (dk_at dksX5_put_0 12 rfl rfl)
theorem dX5_put_13 : decode cX5_put 13 = .ok (.iaload, 1) := dk_46 (dk_at dksX5_put_0 13 rfl rfl)
theorem dX5_put_14 : decode cX5_put 14 = .ok (.iadd, 1) := dk_96 (dk_at dksX5_put_0 14 rfl rfl)
theorem dX5_put_15 : decode cX5_put 15 = .ok (.iload_n 2, 1) := dk_28 (dk_at dksX5_put_0 15 rfl rfl)
theorem dX5_put_16 : decode cX5_put 16 = .ok (.iastore, 1) := dk_79 (dk_at dksX5_put_0 16 rfl rfl)
theorem dX5_put_17 : decode cX5_put 17 = .ok (.aload_n 0, 1) := dk_42 (dk_at dksX5_put_0 17 rfl rfl)
theorem dX5_put_18 : decode cX5_put 18 = .ok (.getfield 26, 3) := dk_180 0 26 (dk_at dksX5_put_0 18 rfl rfl)
theorem dX5_put_21 : decode cX5_put 21 = .ok (.iload_n 1, 1) := dk_27 (dk_at dksX5_put_0 21 rfl rfl)
theorem dX5_put_22 : decode cX5_put 22 = .ok (.dup2, 1) := dk_92 (dk_at dksX5_put_0 22 rfl rfl)
theorem dX5_put_23 : decode cX5_put 23 = .ok (.iaload, 1) := dk_46 (dk_at dksX5_put_0 23 rfl rfl)
theorem dX5_put_24 : decode cX5_put 24 = .ok (.iconst 1, 1) := dk_4 (dk_at dksX5_put_1 0 rfl rfl)
theorem dX5_put_25 : decode cX5_put 25 = .ok (.iadd, 1) := dk_96 (dk_at dksX5_put_1 1 rfl rfl)
theorem dX5_put_26 : decode cX5_put 26 = .ok (.iastore, 1) := dk_79 (dk_at dksX5_put_1 2 rfl rfl)
theorem dX5_put_27 : decode cX5_put 27 = .ok (.return_, 1) := dk_177 (dk_at dksX5_put_1 3 rfl rfl)
abbrev cX5_tie_2 : ByteArray := prog_9_method_28_code
def yX5_tie_2 : MethodName := ⟨RX5, "tie", "(II)V"⟩
def dkwX5_tie_2_5 : List UInt8 := [96, 182, 0, 116, 167, 0, 10, 42, 27, 21, 4, 182, 0, 116, 132, 3, 1, 167, 255, 136, 177]
abbrev dktX5_tie_2_5 : List UInt8 := dkwX5_tie_2_5 ++ []
def dkwX5_tie_2_4 : List UInt8 := [180, 0, 101, 112, 154, 0, 27, 42, 180, 0, 32, 27, 92, 46, 4, 96, 79, 42, 27, 21, 4, 7, 112, 4]
abbrev dktX5_tie_2_4 : List UInt8 := dkwX5_tie_2_4 ++ dktX5_tie_2_5
def dkwX5_tie_2_3 : List UInt8 := [180, 0, 35, 27, 92, 46, 4, 96, 79, 167, 0, 53, 42, 180, 0, 101, 158, 0, 39, 42, 180, 0, 123, 42]
abbrev dktX5_tie_2_3 : List UInt8 := dkwX5_tie_2_3 ++ dktX5_tie_2_4
def dkwX5_tie_2_2 : List UInt8 := [181, 0, 123, 42, 180, 0, 104, 158, 0, 28, 42, 180, 0, 123, 42, 180, 0, 104, 112, 154, 0, 16, 42]
abbrev dktX5_tie_2_2 : List UInt8 := dkwX5_tie_2_2 ++ dktX5_tie_2_3
def dkwX5_tie_2_1 : List UInt8 := [162, 0, 113, 42, 180, 0, 9, 28, 46, 29, 184, 0, 90, 54, 4, 42, 89, 180, 0, 123, 4, 96]
abbrev dktX5_tie_2_1 : List UInt8 := dkwX5_tie_2_1 ++ dktX5_tie_2_2
def dkwX5_tie_2_0 : List UInt8 := [42, 180, 0, 13, 28, 92, 46, 4, 96, 79, 3, 62, 29, 42, 180, 0, 9, 28, 46, 184, 0, 62]
abbrev dktX5_tie_2_0 : List UInt8 := dkwX5_tie_2_0 ++ dktX5_tie_2_1
theorem dksX5_tie_2_0 : cX5_tie_2.data.toList.drop 0 = dktX5_tie_2_0 := by decide +kernel
theorem dksX5_tie_2_1 : cX5_tie_2.data.toList.drop 22 = dktX5_tie_2_1 := dk_seg dksX5_tie_2_0 22 rfl rfl
theorem dksX5_tie_2_2 : cX5_tie_2.data.toList.drop 44 = dktX5_tie_2_2 := dk_seg dksX5_tie_2_1 22 rfl rfl
theorem dksX5_tie_2_3 : cX5_tie_2.data.toList.drop 67 = dktX5_tie_2_3 := dk_seg dksX5_tie_2_2 23 rfl rfl
theorem dksX5_tie_2_4 : cX5_tie_2.data.toList.drop 91 = dktX5_tie_2_4 := dk_seg dksX5_tie_2_3 24 rfl rfl
theorem dksX5_tie_2_5 : cX5_tie_2.data.toList.drop 115 = dktX5_tie_2_5 := dk_seg dksX5_tie_2_4 24 rfl rfl
theorem dX5_tie_2_0 : decode cX5_tie_2 0 = .ok (.aload_n 0, 1) := dk_42 (dk_at dksX5_tie_2_0 0 rfl rfl)
theorem dX5_tie_2_1 : decode cX5_tie_2 1 = .ok (.getfield 13, 3) := dk_180 0 13 (dk_at dksX5_tie_2_0 1 rfl rfl)
theorem dX5_tie_2_4 : decode cX5_tie_2 4 = .ok (.iload_n 2, 1) := dk_28 (dk_at dksX5_tie_2_0 4 rfl rfl)
theorem dX5_tie_2_5 : decode cX5_tie_2 5 = .ok (.dup2, 1) := dk_92 (dk_at dksX5_tie_2_0 5 rfl rfl)
theorem dX5_tie_2_6 : decode cX5_tie_2 6 = .ok (.iaload, 1) := dk_46 (dk_at dksX5_tie_2_0 6 rfl rfl)
theorem dX5_tie_2_7 : decode cX5_tie_2 7 = .ok (.iconst 1, 1) := dk_4 (dk_at dksX5_tie_2_0 7 rfl rfl)
theorem dX5_tie_2_8 : decode cX5_tie_2 8 = .ok (.iadd, 1) := dk_96 (dk_at dksX5_tie_2_0 8 rfl rfl)
theorem dX5_tie_2_9 : decode cX5_tie_2 9 = .ok (.iastore, 1) := dk_79 (dk_at dksX5_tie_2_0 9 rfl rfl)
theorem dX5_tie_2_10 : decode cX5_tie_2 10 = .ok (.iconst 0, 1) := dk_3 (dk_at dksX5_tie_2_0 10 rfl rfl)
theorem dX5_tie_2_11 : decode cX5_tie_2 11 = .ok (.istore_n 3, 1) := dk_62 (dk_at dksX5_tie_2_0 11 rfl rfl)
theorem dX5_tie_2_12 : decode cX5_tie_2 12 = .ok (.iload_n 3, 1) := dk_29 (dk_at dksX5_tie_2_0 12 rfl rfl)
theorem dX5_tie_2_13 : decode cX5_tie_2 13 = .ok (.aload_n 0, 1) := dk_42 (dk_at dksX5_tie_2_0 13 rfl rfl)
theorem dX5_tie_2_14 : decode cX5_tie_2 14 = .ok (.getfield 9, 3) := dk_180 0 9 (dk_at dksX5_tie_2_0 14 rfl rfl)
theorem dX5_tie_2_17 : decode cX5_tie_2 17 = .ok (.iload_n 2, 1) := dk_28 (dk_at dksX5_tie_2_0 17 rfl rfl)
theorem dX5_tie_2_18 : decode cX5_tie_2 18 = .ok (.iaload, 1) := dk_46 (dk_at dksX5_tie_2_0 18 rfl rfl)
theorem dX5_tie_2_19 : decode cX5_tie_2 19 = .ok (.invokestatic 62, 3) := dk_184 0 62 (dk_at dksX5_tie_2_0 19 rfl rfl)
theorem dX5_tie_2_22 : decode cX5_tie_2 22 = .ok (.if_icmp .ge 113, 3) := dk_162 0 113 (dk_at dksX5_tie_2_1 0 rfl rfl)
theorem dX5_tie_2_25 : decode cX5_tie_2 25 = .ok (.aload_n 0, 1) := dk_42 (dk_at dksX5_tie_2_1 3 rfl rfl)
theorem dX5_tie_2_26 : decode cX5_tie_2 26 = .ok (.getfield 9, 3) := dk_180 0 9 (dk_at dksX5_tie_2_1 4 rfl rfl)
theorem dX5_tie_2_29 : decode cX5_tie_2 29 = .ok (.iload_n 2, 1) := dk_28 (dk_at dksX5_tie_2_1 7 rfl rfl)
theorem dX5_tie_2_30 : decode cX5_tie_2 30 = .ok (.iaload, 1) := dk_46 (dk_at dksX5_tie_2_1 8 rfl rfl)
theorem dX5_tie_2_31 : decode cX5_tie_2 31 = .ok (.iload_n 3, 1) := dk_29 (dk_at dksX5_tie_2_1 9 rfl rfl)
theorem dX5_tie_2_32 : decode cX5_tie_2 32 = .ok (.invokestatic 90, 3) := dk_184 0 90 (dk_at dksX5_tie_2_1 10 rfl rfl)
theorem dX5_tie_2_35 : decode cX5_tie_2 35 = .ok (.istore 4, 2) := dk_54 4 (dk_at dksX5_tie_2_1 13 rfl rfl)
theorem dX5_tie_2_37 : decode cX5_tie_2 37 = .ok (.aload_n 0, 1) := dk_42 (dk_at dksX5_tie_2_1 15 rfl rfl)
theorem dX5_tie_2_38 : decode cX5_tie_2 38 = .ok (.dup, 1) := dk_89 (dk_at dksX5_tie_2_1 16 rfl rfl)
theorem dX5_tie_2_39 : decode cX5_tie_2 39 = .ok (.getfield 123, 3) := dk_180 0 123 (dk_at dksX5_tie_2_1 17 rfl rfl)
theorem dX5_tie_2_42 : decode cX5_tie_2 42 = .ok (.iconst 1, 1) := dk_4 (dk_at dksX5_tie_2_1 20 rfl rfl)
theorem dX5_tie_2_43 : decode cX5_tie_2 43 = .ok (.iadd, 1) := dk_96 (dk_at dksX5_tie_2_1 21 rfl rfl)
theorem dX5_tie_2_44 : decode cX5_tie_2 44 = .ok (.putfield 123, 3) := dk_181 0 123 (dk_at dksX5_tie_2_2 0 rfl rfl)
theorem dX5_tie_2_47 : decode cX5_tie_2 47 = .ok (.aload_n 0, 1) := dk_42 (dk_at dksX5_tie_2_2 3 rfl rfl)
theorem dX5_tie_2_48 : decode cX5_tie_2 48 = .ok (.getfield 104, 3) := dk_180 0 104 (dk_at dksX5_tie_2_2 4 rfl rfl)
theorem dX5_tie_2_51 : decode cX5_tie_2 51 = .ok (.ifCond .le 28, 3) := dk_158 0 28 (dk_at dksX5_tie_2_2 7 rfl rfl)
theorem dX5_tie_2_54 : decode cX5_tie_2 54 = .ok (.aload_n 0, 1) := dk_42 (dk_at dksX5_tie_2_2 10 rfl rfl)
theorem dX5_tie_2_55 : decode cX5_tie_2 55 = .ok (.getfield 123, 3) := dk_180 0 123 (dk_at dksX5_tie_2_2 11 rfl rfl)
theorem dX5_tie_2_58 : decode cX5_tie_2 58 = .ok (.aload_n 0, 1) := dk_42 (dk_at dksX5_tie_2_2 14 rfl rfl)
theorem dX5_tie_2_59 : decode cX5_tie_2 59 = .ok (.getfield 104, 3) := dk_180 0 104 (dk_at dksX5_tie_2_2 15 rfl rfl)
theorem dX5_tie_2_62 : decode cX5_tie_2 62 = .ok (.irem, 1) := dk_112 (dk_at dksX5_tie_2_2 18 rfl rfl)
theorem dX5_tie_2_63 : decode cX5_tie_2 63 = .ok (.ifCond .ne 16, 3) := dk_154 0 16 (dk_at dksX5_tie_2_2 19 rfl rfl)
theorem dX5_tie_2_66 : decode cX5_tie_2 66 = .ok (.aload_n 0, 1) := dk_42 (dk_at dksX5_tie_2_2 22 rfl rfl)
theorem dX5_tie_2_67 : decode cX5_tie_2 67 = .ok (.getfield 35, 3) := dk_180 0 35 (dk_at dksX5_tie_2_3 0 rfl rfl)
theorem dX5_tie_2_70 : decode cX5_tie_2 70 = .ok (.iload_n 1, 1) := dk_27 (dk_at dksX5_tie_2_3 3 rfl rfl)
theorem dX5_tie_2_71 : decode cX5_tie_2 71 = .ok (.dup2, 1) := dk_92 (dk_at dksX5_tie_2_3 4 rfl rfl)
theorem dX5_tie_2_72 : decode cX5_tie_2 72 = .ok (.iaload, 1) := dk_46 (dk_at dksX5_tie_2_3 5 rfl rfl)
theorem dX5_tie_2_73 : decode cX5_tie_2 73 = .ok (.iconst 1, 1) := dk_4 (dk_at dksX5_tie_2_3 6 rfl rfl)
theorem dX5_tie_2_74 : decode cX5_tie_2 74 = .ok (.iadd, 1) := dk_96 (dk_at dksX5_tie_2_3 7 rfl rfl)
theorem dX5_tie_2_75 : decode cX5_tie_2 75 = .ok (.iastore, 1) := dk_79 (dk_at dksX5_tie_2_3 8 rfl rfl)
theorem dX5_tie_2_76 : decode cX5_tie_2 76 = .ok (.goto 53, 3) := dk_167 0 53 (dk_at dksX5_tie_2_3 9 rfl rfl)
theorem dX5_tie_2_79 : decode cX5_tie_2 79 = .ok (.aload_n 0, 1) := dk_42 (dk_at dksX5_tie_2_3 12 rfl rfl)
theorem dX5_tie_2_80 : decode cX5_tie_2 80 = .ok (.getfield 101, 3) := dk_180 0 101 (dk_at dksX5_tie_2_3 13 rfl rfl)
theorem dX5_tie_2_83 : decode cX5_tie_2 83 = .ok (.ifCond .le 39, 3) := dk_158 0 39 (dk_at dksX5_tie_2_3 16 rfl rfl)
theorem dX5_tie_2_86 : decode cX5_tie_2 86 = .ok (.aload_n 0, 1) := dk_42 (dk_at dksX5_tie_2_3 19 rfl rfl)
theorem dX5_tie_2_87 : decode cX5_tie_2 87 = .ok (.getfield 123, 3) := dk_180 0 123 (dk_at dksX5_tie_2_3 20 rfl rfl)
theorem dX5_tie_2_90 : decode cX5_tie_2 90 = .ok (.aload_n 0, 1) := dk_42 (dk_at dksX5_tie_2_3 23 rfl rfl)
theorem dX5_tie_2_91 : decode cX5_tie_2 91 = .ok (.getfield 101, 3) := dk_180 0 101 (dk_at dksX5_tie_2_4 0 rfl rfl)
theorem dX5_tie_2_94 : decode cX5_tie_2 94 = .ok (.irem, 1) := dk_112 (dk_at dksX5_tie_2_4 3 rfl rfl)
theorem dX5_tie_2_95 : decode cX5_tie_2 95 = .ok (.ifCond .ne 27, 3) := dk_154 0 27 (dk_at dksX5_tie_2_4 4 rfl rfl)
theorem dX5_tie_2_98 : decode cX5_tie_2 98 = .ok (.aload_n 0, 1) := dk_42 (dk_at dksX5_tie_2_4 7 rfl rfl)
theorem dX5_tie_2_99 : decode cX5_tie_2 99 = .ok (.getfield 32, 3) := dk_180 0 32 (dk_at dksX5_tie_2_4 8 rfl rfl)
theorem dX5_tie_2_102 : decode cX5_tie_2 102 = .ok (.iload_n 1, 1) := dk_27 (dk_at dksX5_tie_2_4 11 rfl rfl)
theorem dX5_tie_2_103 : decode cX5_tie_2 103 = .ok (.dup2, 1) := dk_92 (dk_at dksX5_tie_2_4 12 rfl rfl)
theorem dX5_tie_2_104 : decode cX5_tie_2 104 = .ok (.iaload, 1) := dk_46 (dk_at dksX5_tie_2_4 13 rfl rfl)
theorem dX5_tie_2_105 : decode cX5_tie_2 105 = .ok (.iconst 1, 1) := dk_4 (dk_at dksX5_tie_2_4 14 rfl rfl)
theorem dX5_tie_2_106 : decode cX5_tie_2 106 = .ok (.iadd, 1) := dk_96 (dk_at dksX5_tie_2_4 15 rfl rfl)
theorem dX5_tie_2_107 : decode cX5_tie_2 107 = .ok (.iastore, 1) := dk_79 (dk_at dksX5_tie_2_4 16 rfl rfl)
theorem dX5_tie_2_108 : decode cX5_tie_2 108 = .ok (.aload_n 0, 1) := dk_42 (dk_at dksX5_tie_2_4 17 rfl rfl)
theorem dX5_tie_2_109 : decode cX5_tie_2 109 = .ok (.iload_n 1, 1) := dk_27 (dk_at dksX5_tie_2_4 18 rfl rfl)
theorem dX5_tie_2_110 : decode cX5_tie_2 110 = .ok (.iload 4, 2) := dk_21 4 (dk_at dksX5_tie_2_4 19 rfl rfl)
theorem dX5_tie_2_112 : decode cX5_tie_2 112 = .ok (.iconst 4, 1) := dk_7 (dk_at dksX5_tie_2_4 21 rfl rfl)
theorem dX5_tie_2_113 : decode cX5_tie_2 113 = .ok (.irem, 1) := dk_112 (dk_at dksX5_tie_2_4 22 rfl rfl)
theorem dX5_tie_2_114 : decode cX5_tie_2 114 = .ok (.iconst 1, 1) := dk_4 (dk_at dksX5_tie_2_4 23 rfl rfl)
theorem dX5_tie_2_115 : decode cX5_tie_2 115 = .ok (.iadd, 1) := dk_96 (dk_at dksX5_tie_2_5 0 rfl rfl)
theorem dX5_tie_2_116 : decode cX5_tie_2 116 = .ok (.invokevirtual 116, 3) := dk_182 0 116 (dk_at dksX5_tie_2_5 1 rfl rfl)
theorem dX5_tie_2_119 : decode cX5_tie_2 119 = .ok (.goto 10, 3) := dk_167 0 10 (dk_at dksX5_tie_2_5 4 rfl rfl)
theorem dX5_tie_2_122 : decode cX5_tie_2 122 = .ok (.aload_n 0, 1) := dk_42 (dk_at dksX5_tie_2_5 7 rfl rfl)
theorem dX5_tie_2_123 : decode cX5_tie_2 123 = .ok (.iload_n 1, 1) := dk_27 (dk_at dksX5_tie_2_5 8 rfl rfl)
theorem dX5_tie_2_124 : decode cX5_tie_2 124 = .ok (.iload 4, 2) := dk_21 4 (dk_at dksX5_tie_2_5 9 rfl rfl)
theorem dX5_tie_2_126 : decode cX5_tie_2 126 = .ok (.invokevirtual 116, 3) := dk_182 0 116 (dk_at dksX5_tie_2_5 11 rfl rfl)
theorem dX5_tie_2_129 : decode cX5_tie_2 129 = .ok (.iinc 3 1, 3) := dk_132 3 1 (dk_at dksX5_tie_2_5 14 rfl rfl)
theorem dX5_tie_2_132 : decode cX5_tie_2 132 = .ok (.goto (-120), 3) := dk_167 255 136 (dk_at dksX5_tie_2_5 17 rfl rfl)
theorem dX5_tie_2_135 : decode cX5_tie_2 135 = .ok (.return_, 1) := dk_177 (dk_at dksX5_tie_2_5 20 rfl rfl)
abbrev cX5_cord : ByteArray := prog_9_method_37_code
def yX5_cord : MethodName := ⟨RX5, "cord", "(II)I"⟩
def dkwX5_cord_1 : List UInt8 := [27, 28, 182, 0, 163, 167, 0, 8, 42, 4, 182, 0, 70, 172]
abbrev dktX5_cord_1 : List UInt8 := dkwX5_cord_1 ++ []
def dkwX5_cord_0 : List UInt8 := [42, 3, 181, 0, 59, 42, 27, 182, 0, 160, 153, 0, 22, 28, 3, 16, 6, 184, 0, 66, 153, 0, 12, 42]
abbrev dktX5_cord_0 : List UInt8 := dkwX5_cord_0 ++ dktX5_cord_1
theorem dksX5_cord_0 : cX5_cord.data.toList.drop 0 = dktX5_cord_0 := by decide +kernel
theorem dksX5_cord_1 : cX5_cord.data.toList.drop 24 = dktX5_cord_1 := dk_seg dksX5_cord_0 24 rfl rfl
theorem dX5_cord_0 : decode cX5_cord 0 = .ok (.aload_n 0, 1) := dk_42 (dk_at dksX5_cord_0 0 rfl rfl)
theorem dX5_cord_1 : decode cX5_cord 1 = .ok (.iconst 0, 1) := dk_3 (dk_at dksX5_cord_0 1 rfl rfl)
theorem dX5_cord_2 : decode cX5_cord 2 = .ok (.putfield 59, 3) := dk_181 0 59 (dk_at dksX5_cord_0 2 rfl rfl)
theorem dX5_cord_5 : decode cX5_cord 5 = .ok (.aload_n 0, 1) := dk_42 (dk_at dksX5_cord_0 5 rfl rfl)
theorem dX5_cord_6 : decode cX5_cord 6 = .ok (.iload_n 1, 1) := dk_27 (dk_at dksX5_cord_0 6 rfl rfl)
theorem dX5_cord_7 : decode cX5_cord 7 = .ok (.invokevirtual 160, 3) := dk_182 0 160 (dk_at dksX5_cord_0 7 rfl rfl)
theorem dX5_cord_10 : decode cX5_cord 10 = .ok (.ifCond .eq 22, 3) := dk_153 0 22 (dk_at dksX5_cord_0 10 rfl rfl)
theorem dX5_cord_13 : decode cX5_cord 13 = .ok (.iload_n 2, 1) := dk_28 (dk_at dksX5_cord_0 13 rfl rfl)
theorem dX5_cord_14 : decode cX5_cord 14 = .ok (.iconst 0, 1) := dk_3 (dk_at dksX5_cord_0 14 rfl rfl)
theorem dX5_cord_15 : decode cX5_cord 15 = .ok (.bipush 6, 2) := dk_16 6 (dk_at dksX5_cord_0 15 rfl rfl)
theorem dX5_cord_17 : decode cX5_cord 17 = .ok (.invokestatic 66, 3) := dk_184 0 66 (dk_at dksX5_cord_0 17 rfl rfl)
theorem dX5_cord_20 : decode cX5_cord 20 = .ok (.ifCond .eq 12, 3) := dk_153 0 12 (dk_at dksX5_cord_0 20 rfl rfl)
theorem dX5_cord_23 : decode cX5_cord 23 = .ok (.aload_n 0, 1) := dk_42 (dk_at dksX5_cord_0 23 rfl rfl)
theorem dX5_cord_24 : decode cX5_cord 24 = .ok (.iload_n 1, 1) := dk_27 (dk_at dksX5_cord_1 0 rfl rfl)
theorem dX5_cord_25 : decode cX5_cord 25 = .ok (.iload_n 2, 1) := dk_28 (dk_at dksX5_cord_1 1 rfl rfl)
theorem dX5_cord_26 : decode cX5_cord 26 = .ok (.invokevirtual 163, 3) := dk_182 0 163 (dk_at dksX5_cord_1 2 rfl rfl)
theorem dX5_cord_29 : decode cX5_cord 29 = .ok (.goto 8, 3) := dk_167 0 8 (dk_at dksX5_cord_1 5 rfl rfl)
theorem dX5_cord_32 : decode cX5_cord 32 = .ok (.aload_n 0, 1) := dk_42 (dk_at dksX5_cord_1 8 rfl rfl)
theorem dX5_cord_33 : decode cX5_cord 33 = .ok (.iconst 1, 1) := dk_4 (dk_at dksX5_cord_1 9 rfl rfl)
theorem dX5_cord_34 : decode cX5_cord 34 = .ok (.invokevirtual 70, 3) := dk_182 0 70 (dk_at dksX5_cord_1 10 rfl rfl)
theorem dX5_cord_37 : decode cX5_cord 37 = .ok (.ireturn, 1) := dk_172 (dk_at dksX5_cord_1 13 rfl rfl)
abbrev cX5_isCord : ByteArray := prog_9_method_29_code
def yX5_isCord : MethodName := ⟨RX5, "isCord", "(I)Z"⟩
def dkwX5_isCord_0 : List UInt8 := [27, 3, 42, 180, 0, 113, 4, 100, 184, 0, 66, 172]
abbrev dktX5_isCord_0 : List UInt8 := dkwX5_isCord_0 ++ []
theorem dksX5_isCord_0 : cX5_isCord.data.toList.drop 0 = dktX5_isCord_0 := by decide +kernel
theorem dX5_isCord_0 : decode cX5_isCord 0 = .ok (.iload_n 1, 1) := dk_27 (dk_at dksX5_isCord_0 0 rfl rfl)
theorem dX5_isCord_1 : decode cX5_isCord 1 = .ok (.iconst 0, 1) := dk_3 (dk_at dksX5_isCord_0 1 rfl rfl)
theorem dX5_isCord_2 : decode cX5_isCord 2 = .ok (.aload_n 0, 1) := dk_42 (dk_at dksX5_isCord_0 2 rfl rfl)
theorem dX5_isCord_3 : decode cX5_isCord 3 = .ok (.getfield 113, 3) := dk_180 0 113 (dk_at dksX5_isCord_0 3 rfl rfl)
theorem dX5_isCord_6 : decode cX5_isCord 6 = .ok (.iconst 1, 1) := dk_4 (dk_at dksX5_isCord_0 6 rfl rfl)
theorem dX5_isCord_7 : decode cX5_isCord 7 = .ok (.isub, 1) := dk_100 (dk_at dksX5_isCord_0 7 rfl rfl)
theorem dX5_isCord_8 : decode cX5_isCord 8 = .ok (.invokestatic 66, 3) := dk_184 0 66 (dk_at dksX5_isCord_0 8 rfl rfl)
theorem dX5_isCord_11 : decode cX5_isCord 11 = .ok (.ireturn, 1) := dk_172 (dk_at dksX5_isCord_0 11 rfl rfl)
abbrev cX5_cordTold : ByteArray := prog_9_method_36_code
def yX5_cordTold : MethodName := ⟨RX5, "cordTold", "(II)I"⟩
def dkwX5_cordTold_4 : List UInt8 := [167, 0, 9, 42, 180, 0, 35, 27, 46, 172]
abbrev dktX5_cordTold_4 : List UInt8 := dkwX5_cordTold_4 ++ []
def dkwX5_cordTold_3 : List UInt8 := [167, 0, 32, 28, 4, 160, 0, 7, 29, 167, 0, 23, 28, 5, 160, 0, 12, 42, 180, 0, 32, 27, 46]
abbrev dktX5_cordTold_3 : List UInt8 := dkwX5_cordTold_3 ++ dktX5_cordTold_4
def dkwX5_cordTold_2 : List UInt8 := [167, 0, 4, 3, 96, 62, 132, 4, 1, 167, 255, 218, 28, 154, 0, 12, 42, 180, 0, 26, 27, 46]
abbrev dktX5_cordTold_2 : List UInt8 := dkwX5_cordTold_2 ++ dktX5_cordTold_3
def dkwX5_cordTold_1 : List UInt8 := [27, 46, 162, 0, 33, 29, 42, 180, 0, 29, 16, 40, 27, 104, 21, 4, 96, 46, 8, 160, 0, 7, 4]
abbrev dktX5_cordTold_1 : List UInt8 := dkwX5_cordTold_1 ++ dktX5_cordTold_2
def dkwX5_cordTold_0 : List UInt8 := [28, 6, 164, 0, 11, 42, 27, 28, 3, 182, 0, 157, 172, 3, 62, 3, 54, 4, 21, 4, 42, 180, 0, 26]
abbrev dktX5_cordTold_0 : List UInt8 := dkwX5_cordTold_0 ++ dktX5_cordTold_1
theorem dksX5_cordTold_0 : cX5_cordTold.data.toList.drop 0 = dktX5_cordTold_0 := by decide +kernel
theorem dksX5_cordTold_1 : cX5_cordTold.data.toList.drop 24 = dktX5_cordTold_1 := dk_seg dksX5_cordTold_0 24 rfl rfl
theorem dksX5_cordTold_2 : cX5_cordTold.data.toList.drop 47 = dktX5_cordTold_2 := dk_seg dksX5_cordTold_1 23 rfl rfl
theorem dksX5_cordTold_3 : cX5_cordTold.data.toList.drop 69 = dktX5_cordTold_3 := dk_seg dksX5_cordTold_2 22 rfl rfl
theorem dksX5_cordTold_4 : cX5_cordTold.data.toList.drop 92 = dktX5_cordTold_4 := dk_seg dksX5_cordTold_3 23 rfl rfl
theorem dX5_cordTold_0 : decode cX5_cordTold 0 = .ok (.iload_n 2, 1) := dk_28 (dk_at dksX5_cordTold_0 0 rfl rfl)
theorem dX5_cordTold_1 : decode cX5_cordTold 1 = .ok (.iconst 3, 1) := dk_6 (dk_at dksX5_cordTold_0 1 rfl rfl)
theorem dX5_cordTold_2 : decode cX5_cordTold 2 = .ok (.if_icmp .le 11, 3) := dk_164 0 11 (dk_at dksX5_cordTold_0 2 rfl rfl)
theorem dX5_cordTold_5 : decode cX5_cordTold 5 = .ok (.aload_n 0, 1) := dk_42 (dk_at dksX5_cordTold_0 5 rfl rfl)
theorem dX5_cordTold_6 : decode cX5_cordTold 6 = .ok (.iload_n 1, 1) := dk_27 (dk_at dksX5_cordTold_0 6 rfl rfl)
theorem dX5_cordTold_7 : decode cX5_cordTold 7 = .ok (.iload_n 2, 1) := dk_28 (dk_at dksX5_cordTold_0 7 rfl rfl)
theorem dX5_cordTold_8 : decode cX5_cordTold 8 = .ok (.iconst 0, 1) := dk_3 (dk_at dksX5_cordTold_0 8 rfl rfl)
theorem dX5_cordTold_9 : decode cX5_cordTold 9 = .ok (.invokevirtual 157, 3) := dk_182 0 157 (dk_at dksX5_cordTold_0 9 rfl rfl)
theorem dX5_cordTold_12 : decode cX5_cordTold 12 = .ok (.ireturn, 1) := dk_172 (dk_at dksX5_cordTold_0 12 rfl rfl)
theorem dX5_cordTold_13 : decode cX5_cordTold 13 = .ok (.iconst 0, 1) := dk_3 (dk_at dksX5_cordTold_0 13 rfl rfl)
theorem dX5_cordTold_14 : decode cX5_cordTold 14 = .ok (.istore_n 3, 1) := dk_62 (dk_at dksX5_cordTold_0 14 rfl rfl)
theorem dX5_cordTold_15 : decode cX5_cordTold 15 = .ok (.iconst 0, 1) := dk_3 (dk_at dksX5_cordTold_0 15 rfl rfl)
theorem dX5_cordTold_16 : decode cX5_cordTold 16 = .ok (.istore 4, 2) := dk_54 4 (dk_at dksX5_cordTold_0 16 rfl rfl)
theorem dX5_cordTold_18 : decode cX5_cordTold 18 = .ok (.iload 4, 2) := dk_21 4 (dk_at dksX5_cordTold_0 18 rfl rfl)
theorem dX5_cordTold_20 : decode cX5_cordTold 20 = .ok (.aload_n 0, 1) := dk_42 (dk_at dksX5_cordTold_0 20 rfl rfl)
theorem dX5_cordTold_21 : decode cX5_cordTold 21 = .ok (.getfield 26, 3) := dk_180 0 26 (dk_at dksX5_cordTold_0 21 rfl rfl)
theorem dX5_cordTold_24 : decode cX5_cordTold 24 = .ok (.iload_n 1, 1) := dk_27 (dk_at dksX5_cordTold_1 0 rfl rfl)
theorem dX5_cordTold_25 : decode cX5_cordTold 25 = .ok (.iaload, 1) := dk_46 (dk_at dksX5_cordTold_1 1 rfl rfl)
theorem dX5_cordTold_26 : decode cX5_cordTold 26 = .ok (.if_icmp .ge 33, 3) := dk_162 0 33 (dk_at dksX5_cordTold_1 2 rfl rfl)
theorem dX5_cordTold_29 : decode cX5_cordTold 29 = .ok (.iload_n 3, 1) := dk_29 (dk_at dksX5_cordTold_1 5 rfl rfl)
theorem dX5_cordTold_30 : decode cX5_cordTold 30 = .ok (.aload_n 0, 1) := dk_42 (dk_at dksX5_cordTold_1 6 rfl rfl)
theorem dX5_cordTold_31 : decode cX5_cordTold 31 = .ok (.getfield 29, 3) := dk_180 0 29 (dk_at dksX5_cordTold_1 7 rfl rfl)
theorem dX5_cordTold_34 : decode cX5_cordTold 34 = .ok (.bipush 40, 2) := dk_16 40 (dk_at dksX5_cordTold_1 10 rfl rfl)
theorem dX5_cordTold_36 : decode cX5_cordTold 36 = .ok (.iload_n 1, 1) := dk_27 (dk_at dksX5_cordTold_1 12 rfl rfl)
theorem dX5_cordTold_37 : decode cX5_cordTold 37 = .ok (.imul, 1) := dk_104 (dk_at dksX5_cordTold_1 13 rfl rfl)
theorem dX5_cordTold_38 : decode cX5_cordTold 38 = .ok (.iload 4, 2) := dk_21 4 (dk_at dksX5_cordTold_1 14 rfl rfl)
theorem dX5_cordTold_40 : decode cX5_cordTold 40 = .ok (.iadd, 1) := dk_96 (dk_at dksX5_cordTold_1 16 rfl rfl)
theorem dX5_cordTold_41 : decode cX5_cordTold 41 = .ok (.iaload, 1) := dk_46 (dk_at dksX5_cordTold_1 17 rfl rfl)
theorem dX5_cordTold_42 : decode cX5_cordTold 42 = .ok (.iconst 5, 1) := dk_8 (dk_at dksX5_cordTold_1 18 rfl rfl)
theorem dX5_cordTold_43 : decode cX5_cordTold 43 = .ok (.if_icmp .ne 7, 3) := dk_160 0 7 (dk_at dksX5_cordTold_1 19 rfl rfl)
theorem dX5_cordTold_46 : decode cX5_cordTold 46 = .ok (.iconst 1, 1) := dk_4 (dk_at dksX5_cordTold_1 22 rfl rfl)
theorem dX5_cordTold_47 : decode cX5_cordTold 47 = .ok (.goto 4, 3) := dk_167 0 4 (dk_at dksX5_cordTold_2 0 rfl rfl)
theorem dX5_cordTold_50 : decode cX5_cordTold 50 = .ok (.iconst 0, 1) := dk_3 (dk_at dksX5_cordTold_2 3 rfl rfl)
theorem dX5_cordTold_51 : decode cX5_cordTold 51 = .ok (.iadd, 1) := dk_96 (dk_at dksX5_cordTold_2 4 rfl rfl)
theorem dX5_cordTold_52 : decode cX5_cordTold 52 = .ok (.istore_n 3, 1) := dk_62 (dk_at dksX5_cordTold_2 5 rfl rfl)
theorem dX5_cordTold_53 : decode cX5_cordTold 53 = .ok (.iinc 4 1, 3) := dk_132 4 1 (dk_at dksX5_cordTold_2 6 rfl rfl)
theorem dX5_cordTold_56 : decode cX5_cordTold 56 = .ok (.goto (-38), 3) := dk_167 255 218 (dk_at dksX5_cordTold_2 9 rfl rfl)
theorem dX5_cordTold_59 : decode cX5_cordTold 59 = .ok (.iload_n 2, 1) := dk_28 (dk_at dksX5_cordTold_2 12 rfl rfl)
theorem dX5_cordTold_60 : decode cX5_cordTold 60 = .ok (.ifCond .ne 12, 3) := dk_154 0 12 (dk_at dksX5_cordTold_2 13 rfl rfl)
theorem dX5_cordTold_63 : decode cX5_cordTold 63 = .ok (.aload_n 0, 1) := dk_42 (dk_at dksX5_cordTold_2 16 rfl rfl)
theorem dX5_cordTold_64 : decode cX5_cordTold 64 = .ok (.getfield 26, 3) := dk_180 0 26 (dk_at dksX5_cordTold_2 17 rfl rfl)
theorem dX5_cordTold_67 : decode cX5_cordTold 67 = .ok (.iload_n 1, 1) := dk_27 (dk_at dksX5_cordTold_2 20 rfl rfl)
theorem dX5_cordTold_68 : decode cX5_cordTold 68 = .ok (.iaload, 1) := dk_46 (dk_at dksX5_cordTold_2 21 rfl rfl)
theorem dX5_cordTold_69 : decode cX5_cordTold 69 = .ok (.goto 32, 3) := dk_167 0 32 (dk_at dksX5_cordTold_3 0 rfl rfl)
theorem dX5_cordTold_72 : decode cX5_cordTold 72 = .ok (.iload_n 2, 1) := dk_28 (dk_at dksX5_cordTold_3 3 rfl rfl)
theorem dX5_cordTold_73 : decode cX5_cordTold 73 = .ok (.iconst 1, 1) := dk_4 (dk_at dksX5_cordTold_3 4 rfl rfl)
theorem dX5_cordTold_74 : decode cX5_cordTold 74 = .ok (.if_icmp .ne 7, 3) := dk_160 0 7 (dk_at dksX5_cordTold_3 5 rfl rfl)
theorem dX5_cordTold_77 : decode cX5_cordTold 77 = .ok (.iload_n 3, 1) := dk_29 (dk_at dksX5_cordTold_3 8 rfl rfl)
theorem dX5_cordTold_78 : decode cX5_cordTold 78 = .ok (.goto 23, 3) := dk_167 0 23 (dk_at dksX5_cordTold_3 9 rfl rfl)
theorem dX5_cordTold_81 : decode cX5_cordTold 81 = .ok (.iload_n 2, 1) := dk_28 (dk_at dksX5_cordTold_3 12 rfl rfl)
theorem dX5_cordTold_82 : decode cX5_cordTold 82 = .ok (.iconst 2, 1) := dk_5 (dk_at dksX5_cordTold_3 13 rfl rfl)
theorem dX5_cordTold_83 : decode cX5_cordTold 83 = .ok (.if_icmp .ne 12, 3) := dk_160 0 12 (dk_at dksX5_cordTold_3 14 rfl rfl)
theorem dX5_cordTold_86 : decode cX5_cordTold 86 = .ok (.aload_n 0, 1) := dk_42 (dk_at dksX5_cordTold_3 17 rfl rfl)
theorem dX5_cordTold_87 : decode cX5_cordTold 87 = .ok (.getfield 32, 3) := dk_180 0 32 (dk_at dksX5_cordTold_3 18 rfl rfl)
theorem dX5_cordTold_90 : decode cX5_cordTold 90 = .ok (.iload_n 1, 1) := dk_27 (dk_at dksX5_cordTold_3 21 rfl rfl)
theorem dX5_cordTold_91 : decode cX5_cordTold 91 = .ok (.iaload, 1) := dk_46 (dk_at dksX5_cordTold_3 22 rfl rfl)
theorem dX5_cordTold_92 : decode cX5_cordTold 92 = .ok (.goto 9, 3) := dk_167 0 9 (dk_at dksX5_cordTold_4 0 rfl rfl)
theorem dX5_cordTold_95 : decode cX5_cordTold 95 = .ok (.aload_n 0, 1) := dk_42 (dk_at dksX5_cordTold_4 3 rfl rfl)
theorem dX5_cordTold_96 : decode cX5_cordTold 96 = .ok (.getfield 35, 3) := dk_180 0 35 (dk_at dksX5_cordTold_4 4 rfl rfl)
theorem dX5_cordTold_99 : decode cX5_cordTold 99 = .ok (.iload_n 1, 1) := dk_27 (dk_at dksX5_cordTold_4 7 rfl rfl)
theorem dX5_cordTold_100 : decode cX5_cordTold 100 = .ok (.iaload, 1) := dk_46 (dk_at dksX5_cordTold_4 8 rfl rfl)
theorem dX5_cordTold_101 : decode cX5_cordTold 101 = .ok (.ireturn, 1) := dk_172 (dk_at dksX5_cordTold_4 9 rfl rfl)
abbrev cX5_over_2 : ByteArray := prog_9_method_34_code
def yX5_over_2 : MethodName := ⟨RX5, "over", "(IIZ)I"⟩
def dkwX5_over_2_6 : List UInt8 := [162, 0, 7, 4, 167, 0, 4, 3, 182, 0, 150, 21, 8, 4, 96, 54, 6, 167, 255, 131, 22, 4, 136, 172]
abbrev dktX5_over_2_6 : List UInt8 := dkwX5_over_2_6 ++ []
def dkwX5_over_2_5 : List UInt8 := [133, 167, 0, 10, 42, 180, 0, 47, 3, 46, 133, 97, 55, 4, 29, 153, 0, 19, 42, 21, 8, 21, 7]
abbrev dktX5_over_2_5 : List UInt8 := dkwX5_over_2_5 ++ dktX5_over_2_6
def dkwX5_over_2_4 : List UInt8 := [167, 0, 58, 42, 21, 6, 21, 8, 182, 0, 147, 22, 4, 28, 7, 160, 0, 13, 42, 180, 0, 44, 3, 46]
abbrev dktX5_over_2_4 : List UInt8 := dkwX5_over_2_4 ++ dktX5_over_2_5
def dkwX5_over_2_3 : List UInt8 := [160, 0, 26, 20, 0, 139, 22, 4, 42, 21, 6, 21, 8, 182, 0, 141, 133, 105, 184, 0, 144, 55, 4]
abbrev dktX5_over_2_3 : List UInt8 := dkwX5_over_2_3 ++ dktX5_over_2_4
def dkwX5_over_2_2 : List UInt8 := [162, 0, 20, 42, 180, 0, 29, 21, 8, 46, 8, 159, 0, 9, 132, 8, 1, 167, 255, 235, 28, 16, 6]
abbrev dktX5_over_2_2 : List UInt8 := dkwX5_over_2_2 ++ dktX5_over_2_3
def dkwX5_over_2_1 : List UInt8 := [180, 0, 26, 27, 46, 96, 54, 7, 21, 6, 21, 7, 163, 0, 124, 21, 6, 54, 8, 21, 8, 21, 7]
abbrev dktX5_over_2_1 : List UInt8 := dkwX5_over_2_1 ++ dktX5_over_2_2
def dkwX5_over_2_0 : List UInt8 := [28, 16, 6, 160, 0, 7, 10, 167, 0, 4, 9, 55, 4, 16, 40, 27, 104, 54, 6, 21, 6, 42]
abbrev dktX5_over_2_0 : List UInt8 := dkwX5_over_2_0 ++ dktX5_over_2_1
theorem dksX5_over_2_0 : cX5_over_2.data.toList.drop 0 = dktX5_over_2_0 := by decide +kernel
theorem dksX5_over_2_1 : cX5_over_2.data.toList.drop 22 = dktX5_over_2_1 := dk_seg dksX5_over_2_0 22 rfl rfl
theorem dksX5_over_2_2 : cX5_over_2.data.toList.drop 45 = dktX5_over_2_2 := dk_seg dksX5_over_2_1 23 rfl rfl
theorem dksX5_over_2_3 : cX5_over_2.data.toList.drop 68 = dktX5_over_2_3 := dk_seg dksX5_over_2_2 23 rfl rfl
theorem dksX5_over_2_4 : cX5_over_2.data.toList.drop 91 = dktX5_over_2_4 := dk_seg dksX5_over_2_3 23 rfl rfl
theorem dksX5_over_2_5 : cX5_over_2.data.toList.drop 115 = dktX5_over_2_5 := dk_seg dksX5_over_2_4 24 rfl rfl
theorem dksX5_over_2_6 : cX5_over_2.data.toList.drop 138 = dktX5_over_2_6 := dk_seg dksX5_over_2_5 23 rfl rfl
theorem dX5_over_2_0 : decode cX5_over_2 0 = .ok (.iload_n 2, 1) := dk_28 (dk_at dksX5_over_2_0 0 rfl rfl)
theorem dX5_over_2_1 : decode cX5_over_2 1 = .ok (.bipush 6, 2) := dk_16 6 (dk_at dksX5_over_2_0 1 rfl rfl)
theorem dX5_over_2_3 : decode cX5_over_2 3 = .ok (.if_icmp .ne 7, 3) := dk_160 0 7 (dk_at dksX5_over_2_0 3 rfl rfl)
theorem dX5_over_2_6 : decode cX5_over_2 6 = .ok (.lconst 1, 1) := dk_10 (dk_at dksX5_over_2_0 6 rfl rfl)
theorem dX5_over_2_7 : decode cX5_over_2 7 = .ok (.goto 4, 3) := dk_167 0 4 (dk_at dksX5_over_2_0 7 rfl rfl)
theorem dX5_over_2_10 : decode cX5_over_2 10 = .ok (.lconst 0, 1) := dk_9 (dk_at dksX5_over_2_0 10 rfl rfl)
theorem dX5_over_2_11 : decode cX5_over_2 11 = .ok (.lstore 4, 2) := dk_55 4 (dk_at dksX5_over_2_0 11 rfl rfl)
theorem dX5_over_2_13 : decode cX5_over_2 13 = .ok (.bipush 40, 2) := dk_16 40 (dk_at dksX5_over_2_0 13 rfl rfl)
theorem dX5_over_2_15 : decode cX5_over_2 15 = .ok (.iload_n 1, 1) := dk_27 (dk_at dksX5_over_2_0 15 rfl rfl)
theorem dX5_over_2_16 : decode cX5_over_2 16 = .ok (.imul, 1) := dk_104 (dk_at dksX5_over_2_0 16 rfl rfl)
theorem dX5_over_2_17 : decode cX5_over_2 17 = .ok (.istore 6, 2) := dk_54 6 (dk_at dksX5_over_2_0 17 rfl rfl)
theorem dX5_over_2_19 : decode cX5_over_2 19 = .ok (.iload 6, 2) := dk_21 6 (dk_at dksX5_over_2_0 19 rfl rfl)
theorem dX5_over_2_21 : decode cX5_over_2 21 = .ok (.aload_n 0, 1) := dk_42 (dk_at dksX5_over_2_0 21 rfl rfl)
theorem dX5_over_2_22 : decode cX5_over_2 22 = .ok (.getfield 26, 3) := dk_180 0 26 (dk_at dksX5_over_2_1 0 rfl rfl)
theorem dX5_over_2_25 : decode cX5_over_2 25 = .ok (.iload_n 1, 1) := dk_27 (dk_at dksX5_over_2_1 3 rfl rfl)
theorem dX5_over_2_26 : decode cX5_over_2 26 = .ok (.iaload, 1) := dk_46 (dk_at dksX5_over_2_1 4 rfl rfl)
theorem dX5_over_2_27 : decode cX5_over_2 27 = .ok (.iadd, 1) := dk_96 (dk_at dksX5_over_2_1 5 rfl rfl)
theorem dX5_over_2_28 : decode cX5_over_2 28 = .ok (.istore 7, 2) := dk_54 7 (dk_at dksX5_over_2_1 6 rfl rfl)
theorem dX5_over_2_30 : decode cX5_over_2 30 = .ok (.iload 6, 2) := dk_21 6 (dk_at dksX5_over_2_1 8 rfl rfl)
theorem dX5_over_2_32 : decode cX5_over_2 32 = .ok (.iload 7, 2) := dk_21 7 (dk_at dksX5_over_2_1 10 rfl rfl)
theorem dX5_over_2_34 : decode cX5_over_2 34 = .ok (.if_icmp .gt 124, 3) := dk_163 0 124 (dk_at dksX5_over_2_1 12 rfl rfl)
theorem dX5_over_2_37 : decode cX5_over_2 37 = .ok (.iload 6, 2) := dk_21 6 (dk_at dksX5_over_2_1 15 rfl rfl)
theorem dX5_over_2_39 : decode cX5_over_2 39 = .ok (.istore 8, 2) := dk_54 8 (dk_at dksX5_over_2_1 17 rfl rfl)
theorem dX5_over_2_41 : decode cX5_over_2 41 = .ok (.iload 8, 2) := dk_21 8 (dk_at dksX5_over_2_1 19 rfl rfl)
theorem dX5_over_2_43 : decode cX5_over_2 43 = .ok (.iload 7, 2) := dk_21 7 (dk_at dksX5_over_2_1 21 rfl rfl)
theorem dX5_over_2_45 : decode cX5_over_2 45 = .ok (.if_icmp .ge 20, 3) := dk_162 0 20 (dk_at dksX5_over_2_2 0 rfl rfl)
theorem dX5_over_2_48 : decode cX5_over_2 48 = .ok (.aload_n 0, 1) := dk_42 (dk_at dksX5_over_2_2 3 rfl rfl)
theorem dX5_over_2_49 : decode cX5_over_2 49 = .ok (.getfield 29, 3) := dk_180 0 29 (dk_at dksX5_over_2_2 4 rfl rfl)
theorem dX5_over_2_52 : decode cX5_over_2 52 = .ok (.iload 8, 2) := dk_21 8 (dk_at dksX5_over_2_2 7 rfl rfl)
theorem dX5_over_2_54 : decode cX5_over_2 54 = .ok (.iaload, 1) := dk_46 (dk_at dksX5_over_2_2 9 rfl rfl)
theorem dX5_over_2_55 : decode cX5_over_2 55 = .ok (.iconst 5, 1) := dk_8 (dk_at dksX5_over_2_2 10 rfl rfl)
theorem dX5_over_2_56 : decode cX5_over_2 56 = .ok (.if_icmp .eq 9, 3) := dk_159 0 9 (dk_at dksX5_over_2_2 11 rfl rfl)
theorem dX5_over_2_59 : decode cX5_over_2 59 = .ok (.iinc 8 1, 3) := dk_132 8 1 (dk_at dksX5_over_2_2 14 rfl rfl)
theorem dX5_over_2_62 : decode cX5_over_2 62 = .ok (.goto (-21), 3) := dk_167 255 235 (dk_at dksX5_over_2_2 17 rfl rfl)
theorem dX5_over_2_65 : decode cX5_over_2 65 = .ok (.iload_n 2, 1) := dk_28 (dk_at dksX5_over_2_2 20 rfl rfl)
theorem dX5_over_2_66 : decode cX5_over_2 66 = .ok (.bipush 6, 2) := dk_16 6 (dk_at dksX5_over_2_2 21 rfl rfl)
theorem dX5_over_2_68 : decode cX5_over_2 68 = .ok (.if_icmp .ne 26, 3) := dk_160 0 26 (dk_at dksX5_over_2_3 0 rfl rfl)
theorem dX5_over_2_71 : decode cX5_over_2 71 = .ok (.ldc2_w 139, 3) := dk_20 0 139 (dk_at dksX5_over_2_3 3 rfl rfl)
theorem dX5_over_2_74 : decode cX5_over_2 74 = .ok (.lload 4, 2) := dk_22 4 (dk_at dksX5_over_2_3 6 rfl rfl)
theorem dX5_over_2_76 : decode cX5_over_2 76 = .ok (.aload_n 0, 1) := dk_42 (dk_at dksX5_over_2_3 8 rfl rfl)
theorem dX5_over_2_77 : decode cX5_over_2 77 = .ok (.iload 6, 2) := dk_21 6 (dk_at dksX5_over_2_3 9 rfl rfl)
theorem dX5_over_2_79 : decode cX5_over_2 79 = .ok (.iload 8, 2) := dk_21 8 (dk_at dksX5_over_2_3 11 rfl rfl)
theorem dX5_over_2_81 : decode cX5_over_2 81 = .ok (.invokevirtual 141, 3) := dk_182 0 141 (dk_at dksX5_over_2_3 13 rfl rfl)
theorem dX5_over_2_84 : decode cX5_over_2 84 = .ok (.i2l, 1) := dk_133 (dk_at dksX5_over_2_3 16 rfl rfl)
theorem dX5_over_2_85 : decode cX5_over_2 85 = .ok (.lmul, 1) := dk_105 (dk_at dksX5_over_2_3 17 rfl rfl)
theorem dX5_over_2_86 : decode cX5_over_2 86 = .ok (.invokestatic 144, 3) := dk_184 0 144 (dk_at dksX5_over_2_3 18 rfl rfl)
theorem dX5_over_2_89 : decode cX5_over_2 89 = .ok (.lstore 4, 2) := dk_55 4 (dk_at dksX5_over_2_3 21 rfl rfl)
theorem dX5_over_2_91 : decode cX5_over_2 91 = .ok (.goto 58, 3) := dk_167 0 58 (dk_at dksX5_over_2_4 0 rfl rfl)
theorem dX5_over_2_94 : decode cX5_over_2 94 = .ok (.aload_n 0, 1) := dk_42 (dk_at dksX5_over_2_4 3 rfl rfl)
theorem dX5_over_2_95 : decode cX5_over_2 95 = .ok (.iload 6, 2) := dk_21 6 (dk_at dksX5_over_2_4 4 rfl rfl)
theorem dX5_over_2_97 : decode cX5_over_2 97 = .ok (.iload 8, 2) := dk_21 8 (dk_at dksX5_over_2_4 6 rfl rfl)
theorem dX5_over_2_99 : decode cX5_over_2 99 = .ok (.invokevirtual 147, 3) := dk_182 0 147 (dk_at dksX5_over_2_4 8 rfl rfl)
theorem dX5_over_2_102 : decode cX5_over_2 102 = .ok (.lload 4, 2) := dk_22 4 (dk_at dksX5_over_2_4 11 rfl rfl)
theorem dX5_over_2_104 : decode cX5_over_2 104 = .ok (.iload_n 2, 1) := dk_28 (dk_at dksX5_over_2_4 13 rfl rfl)
theorem dX5_over_2_105 : decode cX5_over_2 105 = .ok (.iconst 4, 1) := dk_7 (dk_at dksX5_over_2_4 14 rfl rfl)
theorem dX5_over_2_106 : decode cX5_over_2 106 = .ok (.if_icmp .ne 13, 3) := dk_160 0 13 (dk_at dksX5_over_2_4 15 rfl rfl)
theorem dX5_over_2_109 : decode cX5_over_2 109 = .ok (.aload_n 0, 1) := dk_42 (dk_at dksX5_over_2_4 18 rfl rfl)
theorem dX5_over_2_110 : decode cX5_over_2 110 = .ok (.getfield 44, 3) := dk_180 0 44 (dk_at dksX5_over_2_4 19 rfl rfl)
theorem dX5_over_2_113 : decode cX5_over_2 113 = .ok (.iconst 0, 1) := dk_3 (dk_at dksX5_over_2_4 22 rfl rfl)
theorem dX5_over_2_114 : decode cX5_over_2 114 = .ok (.iaload, 1) := dk_46 (dk_at dksX5_over_2_4 23 rfl rfl)
theorem dX5_over_2_115 : decode cX5_over_2 115 = .ok (.i2l, 1) := dk_133 (dk_at dksX5_over_2_5 0 rfl rfl)
theorem dX5_over_2_116 : decode cX5_over_2 116 = .ok (.goto 10, 3) := dk_167 0 10 (dk_at dksX5_over_2_5 1 rfl rfl)
theorem dX5_over_2_119 : decode cX5_over_2 119 = .ok (.aload_n 0, 1) := dk_42 (dk_at dksX5_over_2_5 4 rfl rfl)
theorem dX5_over_2_120 : decode cX5_over_2 120 = .ok (.getfield 47, 3) := dk_180 0 47 (dk_at dksX5_over_2_5 5 rfl rfl)
theorem dX5_over_2_123 : decode cX5_over_2 123 = .ok (.iconst 0, 1) := dk_3 (dk_at dksX5_over_2_5 8 rfl rfl)
theorem dX5_over_2_124 : decode cX5_over_2 124 = .ok (.iaload, 1) := dk_46 (dk_at dksX5_over_2_5 9 rfl rfl)
theorem dX5_over_2_125 : decode cX5_over_2 125 = .ok (.i2l, 1) := dk_133 (dk_at dksX5_over_2_5 10 rfl rfl)
theorem dX5_over_2_126 : decode cX5_over_2 126 = .ok (.ladd, 1) := dk_97 (dk_at dksX5_over_2_5 11 rfl rfl)
theorem dX5_over_2_127 : decode cX5_over_2 127 = .ok (.lstore 4, 2) := dk_55 4 (dk_at dksX5_over_2_5 12 rfl rfl)
theorem dX5_over_2_129 : decode cX5_over_2 129 = .ok (.iload_n 3, 1) := dk_29 (dk_at dksX5_over_2_5 14 rfl rfl)
theorem dX5_over_2_130 : decode cX5_over_2 130 = .ok (.ifCond .eq 19, 3) := dk_153 0 19 (dk_at dksX5_over_2_5 15 rfl rfl)
theorem dX5_over_2_133 : decode cX5_over_2 133 = .ok (.aload_n 0, 1) := dk_42 (dk_at dksX5_over_2_5 18 rfl rfl)
theorem dX5_over_2_134 : decode cX5_over_2 134 = .ok (.iload 8, 2) := dk_21 8 (dk_at dksX5_over_2_5 19 rfl rfl)
theorem dX5_over_2_136 : decode cX5_over_2 136 = .ok (.iload 7, 2) := dk_21 7 (dk_at dksX5_over_2_5 21 rfl rfl)
theorem dX5_over_2_138 : decode cX5_over_2 138 = .ok (.if_icmp .ge 7, 3) := dk_162 0 7 (dk_at dksX5_over_2_6 0 rfl rfl)
theorem dX5_over_2_141 : decode cX5_over_2 141 = .ok (.iconst 1, 1) := dk_4 (dk_at dksX5_over_2_6 3 rfl rfl)
theorem dX5_over_2_142 : decode cX5_over_2 142 = .ok (.goto 4, 3) := dk_167 0 4 (dk_at dksX5_over_2_6 4 rfl rfl)
theorem dX5_over_2_145 : decode cX5_over_2 145 = .ok (.iconst 0, 1) := dk_3 (dk_at dksX5_over_2_6 7 rfl rfl)
theorem dX5_over_2_146 : decode cX5_over_2 146 = .ok (.invokevirtual 150, 3) := dk_182 0 150 (dk_at dksX5_over_2_6 8 rfl rfl)
theorem dX5_over_2_149 : decode cX5_over_2 149 = .ok (.iload 8, 2) := dk_21 8 (dk_at dksX5_over_2_6 11 rfl rfl)
theorem dX5_over_2_151 : decode cX5_over_2 151 = .ok (.iconst 1, 1) := dk_4 (dk_at dksX5_over_2_6 13 rfl rfl)
theorem dX5_over_2_152 : decode cX5_over_2 152 = .ok (.iadd, 1) := dk_96 (dk_at dksX5_over_2_6 14 rfl rfl)
theorem dX5_over_2_153 : decode cX5_over_2 153 = .ok (.istore 6, 2) := dk_54 6 (dk_at dksX5_over_2_6 15 rfl rfl)
theorem dX5_over_2_155 : decode cX5_over_2 155 = .ok (.goto (-125), 3) := dk_167 255 131 (dk_at dksX5_over_2_6 17 rfl rfl)
theorem dX5_over_2_158 : decode cX5_over_2 158 = .ok (.lload 4, 2) := dk_22 4 (dk_at dksX5_over_2_6 20 rfl rfl)
theorem dX5_over_2_160 : decode cX5_over_2 160 = .ok (.l2i, 1) := dk_136 (dk_at dksX5_over_2_6 22 rfl rfl)
theorem dX5_over_2_161 : decode cX5_over_2 161 = .ok (.ireturn, 1) := dk_172 (dk_at dksX5_over_2_6 23 rfl rfl)
abbrev cX5_ways : ByteArray := prog_9_method_33_code
def yX5_ways : MethodName := ⟨RX5, "ways", "(II)I"⟩
def dkwX5_ways_7 : List UInt8 := [3, 46, 172]
abbrev dktX5_ways_7 : List UInt8 := dkwX5_ways_7 ++ []
def dkwX5_ways_6 : List UInt8 := [21, 4, 21, 6, 96, 46, 96, 184, 0, 85, 79, 132, 5, 1, 167, 255, 130, 132, 4, 255, 167, 255, 116, 45]
abbrev dktX5_ways_6 : List UInt8 := dkwX5_ways_6 ++ dktX5_ways_7
def dkwX5_ways_5 : List UInt8 := [3, 54, 7, 132, 8, 1, 167, 255, 207, 21, 7, 153, 0, 24, 45, 21, 4, 18, 138, 45, 21, 4, 46, 45]
abbrev dktX5_ways_5 : List UInt8 := dkwX5_ways_5 ++ dktX5_ways_6
def dkwX5_ways_4 : List UInt8 := [21, 8, 184, 0, 90, 42, 180, 0, 29, 27, 21, 4, 96, 21, 8, 96, 46, 160, 0, 7, 4, 167, 0, 4]
abbrev dktX5_ways_4 : List UInt8 := dkwX5_ways_4 ++ dktX5_ways_5
def dkwX5_ways_3 : List UInt8 := [54, 7, 3, 54, 8, 21, 8, 21, 6, 162, 0, 48, 21, 7, 153, 0, 43, 42, 180, 0, 9, 21, 5, 46]
abbrev dktX5_ways_3 : List UInt8 := dkwX5_ways_3 ++ dktX5_ways_4
def dkwX5_ways_2 : List UInt8 := [54, 6, 21, 6, 158, 0, 18, 21, 6, 28, 27, 100, 21, 4, 100, 163, 0, 7, 4, 167, 0, 4, 3]
abbrev dktX5_ways_2 : List UInt8 := dkwX5_ways_2 ++ dktX5_ways_3
def dkwX5_ways_1 : List UInt8 := [155, 0, 141, 3, 54, 5, 21, 5, 16, 12, 162, 0, 125, 42, 180, 0, 9, 21, 5, 46, 184, 0, 62]
abbrev dktX5_ways_1 : List UInt8 := dkwX5_ways_1 ++ dktX5_ways_2
def dkwX5_ways_0 : List UInt8 := [28, 27, 100, 4, 96, 188, 10, 78, 45, 28, 27, 100, 4, 79, 28, 27, 100, 4, 100, 54, 4, 21, 4]
abbrev dktX5_ways_0 : List UInt8 := dkwX5_ways_0 ++ dktX5_ways_1
theorem dksX5_ways_0 : cX5_ways.data.toList.drop 0 = dktX5_ways_0 := by decide +kernel
theorem dksX5_ways_1 : cX5_ways.data.toList.drop 23 = dktX5_ways_1 := dk_seg dksX5_ways_0 23 rfl rfl
theorem dksX5_ways_2 : cX5_ways.data.toList.drop 46 = dktX5_ways_2 := dk_seg dksX5_ways_1 23 rfl rfl
theorem dksX5_ways_3 : cX5_ways.data.toList.drop 69 = dktX5_ways_3 := dk_seg dksX5_ways_2 23 rfl rfl
theorem dksX5_ways_4 : cX5_ways.data.toList.drop 93 = dktX5_ways_4 := dk_seg dksX5_ways_3 24 rfl rfl
theorem dksX5_ways_5 : cX5_ways.data.toList.drop 117 = dktX5_ways_5 := dk_seg dksX5_ways_4 24 rfl rfl
theorem dksX5_ways_6 : cX5_ways.data.toList.drop 141 = dktX5_ways_6 := dk_seg dksX5_ways_5 24 rfl rfl
theorem dksX5_ways_7 : cX5_ways.data.toList.drop 165 = dktX5_ways_7 := dk_seg dksX5_ways_6 24 rfl rfl
theorem dX5_ways_0 : decode cX5_ways 0 = .ok (.iload_n 2, 1) := dk_28 (dk_at dksX5_ways_0 0 rfl rfl)
theorem dX5_ways_1 : decode cX5_ways 1 = .ok (.iload_n 1, 1) := dk_27 (dk_at dksX5_ways_0 1 rfl rfl)
theorem dX5_ways_2 : decode cX5_ways 2 = .ok (.isub, 1) := dk_100 (dk_at dksX5_ways_0 2 rfl rfl)
theorem dX5_ways_3 : decode cX5_ways 3 = .ok (.iconst 1, 1) := dk_4 (dk_at dksX5_ways_0 3 rfl rfl)
theorem dX5_ways_4 : decode cX5_ways 4 = .ok (.iadd, 1) := dk_96 (dk_at dksX5_ways_0 4 rfl rfl)
theorem dX5_ways_5 : decode cX5_ways 5 = .ok (.newarray .int, 2) := dk_188_10 (dk_at dksX5_ways_0 5 rfl rfl)
theorem dX5_ways_7 : decode cX5_ways 7 = .ok (.astore_n 3, 1) := dk_78 (dk_at dksX5_ways_0 7 rfl rfl)
theorem dX5_ways_8 : decode cX5_ways 8 = .ok (.aload_n 3, 1) := dk_45 (dk_at dksX5_ways_0 8 rfl rfl)
theorem dX5_ways_9 : decode cX5_ways 9 = .ok (.iload_n 2, 1) := dk_28 (dk_at dksX5_ways_0 9 rfl rfl)
theorem dX5_ways_10 : decode cX5_ways 10 = .ok (.iload_n 1, 1) := dk_27 (dk_at dksX5_ways_0 10 rfl rfl)
theorem dX5_ways_11 : decode cX5_ways 11 = .ok (.isub, 1) := dk_100 (dk_at dksX5_ways_0 11 rfl rfl)
theorem dX5_ways_12 : decode cX5_ways 12 = .ok (.iconst 1, 1) := dk_4 (dk_at dksX5_ways_0 12 rfl rfl)
theorem dX5_ways_13 : decode cX5_ways 13 = .ok (.iastore, 1) := dk_79 (dk_at dksX5_ways_0 13 rfl rfl)
theorem dX5_ways_14 : decode cX5_ways 14 = .ok (.iload_n 2, 1) := dk_28 (dk_at dksX5_ways_0 14 rfl rfl)
theorem dX5_ways_15 : decode cX5_ways 15 = .ok (.iload_n 1, 1) := dk_27 (dk_at dksX5_ways_0 15 rfl rfl)
theorem dX5_ways_16 : decode cX5_ways 16 = .ok (.isub, 1) := dk_100 (dk_at dksX5_ways_0 16 rfl rfl)
theorem dX5_ways_17 : decode cX5_ways 17 = .ok (.iconst 1, 1) := dk_4 (dk_at dksX5_ways_0 17 rfl rfl)
theorem dX5_ways_18 : decode cX5_ways 18 = .ok (.isub, 1) := dk_100 (dk_at dksX5_ways_0 18 rfl rfl)
theorem dX5_ways_19 : decode cX5_ways 19 = .ok (.istore 4, 2) := dk_54 4 (dk_at dksX5_ways_0 19 rfl rfl)
theorem dX5_ways_21 : decode cX5_ways 21 = .ok (.iload 4, 2) := dk_21 4 (dk_at dksX5_ways_0 21 rfl rfl)
theorem dX5_ways_23 : decode cX5_ways 23 = .ok (.ifCond .lt 141, 3) := dk_155 0 141 (dk_at dksX5_ways_1 0 rfl rfl)
theorem dX5_ways_26 : decode cX5_ways 26 = .ok (.iconst 0, 1) := dk_3 (dk_at dksX5_ways_1 3 rfl rfl)
theorem dX5_ways_27 : decode cX5_ways 27 = .ok (.istore 5, 2) := dk_54 5 (dk_at dksX5_ways_1 4 rfl rfl)
theorem dX5_ways_29 : decode cX5_ways 29 = .ok (.iload 5, 2) := dk_21 5 (dk_at dksX5_ways_1 6 rfl rfl)
theorem dX5_ways_31 : decode cX5_ways 31 = .ok (.bipush 12, 2) := dk_16 12 (dk_at dksX5_ways_1 8 rfl rfl)
theorem dX5_ways_33 : decode cX5_ways 33 = .ok (.if_icmp .ge 125, 3) := dk_162 0 125 (dk_at dksX5_ways_1 10 rfl rfl)
theorem dX5_ways_36 : decode cX5_ways 36 = .ok (.aload_n 0, 1) := dk_42 (dk_at dksX5_ways_1 13 rfl rfl)
theorem dX5_ways_37 : decode cX5_ways 37 = .ok (.getfield 9, 3) := dk_180 0 9 (dk_at dksX5_ways_1 14 rfl rfl)
theorem dX5_ways_40 : decode cX5_ways 40 = .ok (.iload 5, 2) := dk_21 5 (dk_at dksX5_ways_1 17 rfl rfl)
theorem dX5_ways_42 : decode cX5_ways 42 = .ok (.iaload, 1) := dk_46 (dk_at dksX5_ways_1 19 rfl rfl)
theorem dX5_ways_43 : decode cX5_ways 43 = .ok (.invokestatic 62, 3) := dk_184 0 62 (dk_at dksX5_ways_1 20 rfl rfl)
theorem dX5_ways_46 : decode cX5_ways 46 = .ok (.istore 6, 2) := dk_54 6 (dk_at dksX5_ways_2 0 rfl rfl)
theorem dX5_ways_48 : decode cX5_ways 48 = .ok (.iload 6, 2) := dk_21 6 (dk_at dksX5_ways_2 2 rfl rfl)
theorem dX5_ways_50 : decode cX5_ways 50 = .ok (.ifCond .le 18, 3) := dk_158 0 18 (dk_at dksX5_ways_2 4 rfl rfl)
theorem dX5_ways_53 : decode cX5_ways 53 = .ok (.iload 6, 2) := dk_21 6 (dk_at dksX5_ways_2 7 rfl rfl)
theorem dX5_ways_55 : decode cX5_ways 55 = .ok (.iload_n 2, 1) := dk_28 (dk_at dksX5_ways_2 9 rfl rfl)
theorem dX5_ways_56 : decode cX5_ways 56 = .ok (.iload_n 1, 1) := dk_27 (dk_at dksX5_ways_2 10 rfl rfl)
theorem dX5_ways_57 : decode cX5_ways 57 = .ok (.isub, 1) := dk_100 (dk_at dksX5_ways_2 11 rfl rfl)
theorem dX5_ways_58 : decode cX5_ways 58 = .ok (.iload 4, 2) := dk_21 4 (dk_at dksX5_ways_2 12 rfl rfl)
theorem dX5_ways_60 : decode cX5_ways 60 = .ok (.isub, 1) := dk_100 (dk_at dksX5_ways_2 14 rfl rfl)
theorem dX5_ways_61 : decode cX5_ways 61 = .ok (.if_icmp .gt 7, 3) := dk_163 0 7 (dk_at dksX5_ways_2 15 rfl rfl)
theorem dX5_ways_64 : decode cX5_ways 64 = .ok (.iconst 1, 1) := dk_4 (dk_at dksX5_ways_2 18 rfl rfl)
theorem dX5_ways_65 : decode cX5_ways 65 = .ok (.goto 4, 3) := dk_167 0 4 (dk_at dksX5_ways_2 19 rfl rfl)
theorem dX5_ways_68 : decode cX5_ways 68 = .ok (.iconst 0, 1) := dk_3 (dk_at dksX5_ways_2 22 rfl rfl)
theorem dX5_ways_69 : decode cX5_ways 69 = .ok (.istore 7, 2) := dk_54 7 (dk_at dksX5_ways_3 0 rfl rfl)
theorem dX5_ways_71 : decode cX5_ways 71 = .ok (.iconst 0, 1) := dk_3 (dk_at dksX5_ways_3 2 rfl rfl)
theorem dX5_ways_72 : decode cX5_ways 72 = .ok (.istore 8, 2) := dk_54 8 (dk_at dksX5_ways_3 3 rfl rfl)
theorem dX5_ways_74 : decode cX5_ways 74 = .ok (.iload 8, 2) := dk_21 8 (dk_at dksX5_ways_3 5 rfl rfl)
theorem dX5_ways_76 : decode cX5_ways 76 = .ok (.iload 6, 2) := dk_21 6 (dk_at dksX5_ways_3 7 rfl rfl)
theorem dX5_ways_78 : decode cX5_ways 78 = .ok (.if_icmp .ge 48, 3) := dk_162 0 48 (dk_at dksX5_ways_3 9 rfl rfl)
theorem dX5_ways_81 : decode cX5_ways 81 = .ok (.iload 7, 2) := dk_21 7 (dk_at dksX5_ways_3 12 rfl rfl)
theorem dX5_ways_83 : decode cX5_ways 83 = .ok (.ifCond .eq 43, 3) := dk_153 0 43 (dk_at dksX5_ways_3 14 rfl rfl)
theorem dX5_ways_86 : decode cX5_ways 86 = .ok (.aload_n 0, 1) := dk_42 (dk_at dksX5_ways_3 17 rfl rfl)
theorem dX5_ways_87 : decode cX5_ways 87 = .ok (.getfield 9, 3) := dk_180 0 9 (dk_at dksX5_ways_3 18 rfl rfl)
theorem dX5_ways_90 : decode cX5_ways 90 = .ok (.iload 5, 2) := dk_21 5 (dk_at dksX5_ways_3 21 rfl rfl)
theorem dX5_ways_92 : decode cX5_ways 92 = .ok (.iaload, 1) := dk_46 (dk_at dksX5_ways_3 23 rfl rfl)
theorem dX5_ways_93 : decode cX5_ways 93 = .ok (.iload 8, 2) := dk_21 8 (dk_at dksX5_ways_4 0 rfl rfl)
theorem dX5_ways_95 : decode cX5_ways 95 = .ok (.invokestatic 90, 3) := dk_184 0 90 (dk_at dksX5_ways_4 2 rfl rfl)
theorem dX5_ways_98 : decode cX5_ways 98 = .ok (.aload_n 0, 1) := dk_42 (dk_at dksX5_ways_4 5 rfl rfl)
theorem dX5_ways_99 : decode cX5_ways 99 = .ok (.getfield 29, 3) := dk_180 0 29 (dk_at dksX5_ways_4 6 rfl rfl)
theorem dX5_ways_102 : decode cX5_ways 102 = .ok (.iload_n 1, 1) := dk_27 (dk_at dksX5_ways_4 9 rfl rfl)
theorem dX5_ways_103 : decode cX5_ways 103 = .ok (.iload 4, 2) := dk_21 4 (dk_at dksX5_ways_4 10 rfl rfl)
theorem dX5_ways_105 : decode cX5_ways 105 = .ok (.iadd, 1) := dk_96 (dk_at dksX5_ways_4 12 rfl rfl)
theorem dX5_ways_106 : decode cX5_ways 106 = .ok (.iload 8, 2) := dk_21 8 (dk_at dksX5_ways_4 13 rfl rfl)
theorem dX5_ways_108 : decode cX5_ways 108 = .ok (.iadd, 1) := dk_96 (dk_at dksX5_ways_4 15 rfl rfl)
theorem dX5_ways_109 : decode cX5_ways 109 = .ok (.iaload, 1) := dk_46 (dk_at dksX5_ways_4 16 rfl rfl)
theorem dX5_ways_110 : decode cX5_ways 110 = .ok (.if_icmp .ne 7, 3) := dk_160 0 7 (dk_at dksX5_ways_4 17 rfl rfl)
theorem dX5_ways_113 : decode cX5_ways 113 = .ok (.iconst 1, 1) := dk_4 (dk_at dksX5_ways_4 20 rfl rfl)
theorem dX5_ways_114 : decode cX5_ways 114 = .ok (.goto 4, 3) := dk_167 0 4 (dk_at dksX5_ways_4 21 rfl rfl)
theorem dX5_ways_117 : decode cX5_ways 117 = .ok (.iconst 0, 1) := dk_3 (dk_at dksX5_ways_5 0 rfl rfl)
theorem dX5_ways_118 : decode cX5_ways 118 = .ok (.istore 7, 2) := dk_54 7 (dk_at dksX5_ways_5 1 rfl rfl)
theorem dX5_ways_120 : decode cX5_ways 120 = .ok (.iinc 8 1, 3) := dk_132 8 1 (dk_at dksX5_ways_5 3 rfl rfl)
theorem dX5_ways_123 : decode cX5_ways 123 = .ok (.goto (-49), 3) := dk_167 255 207 (dk_at dksX5_ways_5 6 rfl rfl)
theorem dX5_ways_126 : decode cX5_ways 126 = .ok (.iload 7, 2) := dk_21 7 (dk_at dksX5_ways_5 9 rfl rfl)
theorem dX5_ways_128 : decode cX5_ways 128 = .ok (.ifCond .eq 24, 3) := dk_153 0 24 (dk_at dksX5_ways_5 11 rfl rfl)
theorem dX5_ways_131 : decode cX5_ways 131 = .ok (.aload_n 3, 1) := dk_45 (dk_at dksX5_ways_5 14 rfl rfl)
theorem dX5_ways_132 : decode cX5_ways 132 = .ok (.iload 4, 2) := dk_21 4 (dk_at dksX5_ways_5 15 rfl rfl)
theorem dX5_ways_134 : decode cX5_ways 134 = .ok (.ldc 138, 2) := dk_18 138 (dk_at dksX5_ways_5 17 rfl rfl)
theorem dX5_ways_136 : decode cX5_ways 136 = .ok (.aload_n 3, 1) := dk_45 (dk_at dksX5_ways_5 19 rfl rfl)
theorem dX5_ways_137 : decode cX5_ways 137 = .ok (.iload 4, 2) := dk_21 4 (dk_at dksX5_ways_5 20 rfl rfl)
theorem dX5_ways_139 : decode cX5_ways 139 = .ok (.iaload, 1) := dk_46 (dk_at dksX5_ways_5 22 rfl rfl)
theorem dX5_ways_140 : decode cX5_ways 140 = .ok (.aload_n 3, 1) := dk_45 (dk_at dksX5_ways_5 23 rfl rfl)
theorem dX5_ways_141 : decode cX5_ways 141 = .ok (.iload 4, 2) := dk_21 4 (dk_at dksX5_ways_6 0 rfl rfl)
theorem dX5_ways_143 : decode cX5_ways 143 = .ok (.iload 6, 2) := dk_21 6 (dk_at dksX5_ways_6 2 rfl rfl)
theorem dX5_ways_145 : decode cX5_ways 145 = .ok (.iadd, 1) := dk_96 (dk_at dksX5_ways_6 4 rfl rfl)
theorem dX5_ways_146 : decode cX5_ways 146 = .ok (.iaload, 1) := dk_46 (dk_at dksX5_ways_6 5 rfl rfl)
theorem dX5_ways_147 : decode cX5_ways 147 = .ok (.iadd, 1) := dk_96 (dk_at dksX5_ways_6 6 rfl rfl)
theorem dX5_ways_148 : decode cX5_ways 148 = .ok (.invokestatic 85, 3) := dk_184 0 85 (dk_at dksX5_ways_6 7 rfl rfl)
theorem dX5_ways_151 : decode cX5_ways 151 = .ok (.iastore, 1) := dk_79 (dk_at dksX5_ways_6 10 rfl rfl)
theorem dX5_ways_152 : decode cX5_ways 152 = .ok (.iinc 5 1, 3) := dk_132 5 1 (dk_at dksX5_ways_6 11 rfl rfl)
theorem dX5_ways_155 : decode cX5_ways 155 = .ok (.goto (-126), 3) := dk_167 255 130 (dk_at dksX5_ways_6 14 rfl rfl)
theorem dX5_ways_158 : decode cX5_ways 158 = .ok (.iinc 4 (-1), 3) := dk_132 4 255 (dk_at dksX5_ways_6 17 rfl rfl)
theorem dX5_ways_161 : decode cX5_ways 161 = .ok (.goto (-140), 3) := dk_167 255 116 (dk_at dksX5_ways_6 20 rfl rfl)
theorem dX5_ways_164 : decode cX5_ways 164 = .ok (.aload_n 3, 1) := dk_45 (dk_at dksX5_ways_6 23 rfl rfl)
theorem dX5_ways_165 : decode cX5_ways 165 = .ok (.iconst 0, 1) := dk_3 (dk_at dksX5_ways_7 0 rfl rfl)
theorem dX5_ways_166 : decode cX5_ways 166 = .ok (.iaload, 1) := dk_46 (dk_at dksX5_ways_7 1 rfl rfl)
theorem dX5_ways_167 : decode cX5_ways 167 = .ok (.ireturn, 1) := dk_172 (dk_at dksX5_ways_7 2 rfl rfl)
abbrev cX5_find : ByteArray := prog_9_method_30_code
def yX5_find : MethodName := ⟨RX5, "find", "(II)V"⟩
def dkwX5_find_7 : List UInt8 := [180, 0, 44, 3, 29, 42, 180, 0, 23, 104, 79, 42, 180, 0, 47, 3, 3, 79, 177]
abbrev dktX5_find_7 : List UInt8 := dkwX5_find_7 ++ []
def dkwX5_find_6 : List UInt8 := [132, 4, 255, 167, 255, 121, 29, 42, 180, 0, 23, 104, 42, 180, 0, 44, 3, 46, 164, 0, 4, 177, 42]
abbrev dktX5_find_6 : List UInt8 := dkwX5_find_6 ++ dktX5_find_7
def dkwX5_find_5 : List UInt8 := [46, 96, 21, 4, 21, 6, 96, 182, 0, 130, 132, 6, 1, 167, 255, 213, 132, 5, 1, 167, 255, 162]
abbrev dktX5_find_5 : List UInt8 := dkwX5_find_5 ++ dktX5_find_6
def dkwX5_find_4 : List UInt8 := [163, 0, 40, 42, 21, 4, 21, 5, 42, 180, 0, 56, 21, 6, 46, 42, 180, 0, 44, 21, 4, 21, 6, 96]
abbrev dktX5_find_4 : List UInt8 := dkwX5_find_4 ++ dktX5_find_5
def dkwX5_find_3 : List UInt8 := [180, 0, 9, 21, 5, 46, 27, 21, 4, 96, 28, 182, 0, 126, 4, 54, 6, 21, 6, 29, 21, 4, 100]
abbrev dktX5_find_3 : List UInt8 := dkwX5_find_3 ++ dktX5_find_4
def dkwX5_find_2 : List UInt8 := [162, 0, 93, 21, 4, 29, 162, 0, 87, 42, 180, 0, 9, 21, 5, 46, 154, 0, 6, 167, 0, 68, 42, 42]
abbrev dktX5_find_2 : List UInt8 := dkwX5_find_2 ++ dktX5_find_3
def dkwX5_find_1 : List UInt8 := [3, 167, 0, 5, 18, 97, 79, 42, 180, 0, 47, 21, 4, 3, 79, 3, 54, 5, 21, 5, 16, 12]
abbrev dktX5_find_1 : List UInt8 := dkwX5_find_1 ++ dktX5_find_2
def dkwX5_find_0 : List UInt8 := [28, 27, 100, 62, 29, 54, 4, 21, 4, 155, 0, 136, 42, 180, 0, 44, 21, 4, 21, 4, 29, 160, 0, 7]
abbrev dktX5_find_0 : List UInt8 := dkwX5_find_0 ++ dktX5_find_1
theorem dksX5_find_0 : cX5_find.data.toList.drop 0 = dktX5_find_0 := by decide +kernel
theorem dksX5_find_1 : cX5_find.data.toList.drop 24 = dktX5_find_1 := dk_seg dksX5_find_0 24 rfl rfl
theorem dksX5_find_2 : cX5_find.data.toList.drop 46 = dktX5_find_2 := dk_seg dksX5_find_1 22 rfl rfl
theorem dksX5_find_3 : cX5_find.data.toList.drop 70 = dktX5_find_3 := dk_seg dksX5_find_2 24 rfl rfl
theorem dksX5_find_4 : cX5_find.data.toList.drop 93 = dktX5_find_4 := dk_seg dksX5_find_3 23 rfl rfl
theorem dksX5_find_5 : cX5_find.data.toList.drop 117 = dktX5_find_5 := dk_seg dksX5_find_4 24 rfl rfl
theorem dksX5_find_6 : cX5_find.data.toList.drop 139 = dktX5_find_6 := dk_seg dksX5_find_5 22 rfl rfl
theorem dksX5_find_7 : cX5_find.data.toList.drop 162 = dktX5_find_7 := dk_seg dksX5_find_6 23 rfl rfl
theorem dX5_find_0 : decode cX5_find 0 = .ok (.iload_n 2, 1) := dk_28 (dk_at dksX5_find_0 0 rfl rfl)
theorem dX5_find_1 : decode cX5_find 1 = .ok (.iload_n 1, 1) := dk_27 (dk_at dksX5_find_0 1 rfl rfl)
theorem dX5_find_2 : decode cX5_find 2 = .ok (.isub, 1) := dk_100 (dk_at dksX5_find_0 2 rfl rfl)
theorem dX5_find_3 : decode cX5_find 3 = .ok (.istore_n 3, 1) := dk_62 (dk_at dksX5_find_0 3 rfl rfl)
theorem dX5_find_4 : decode cX5_find 4 = .ok (.iload_n 3, 1) := dk_29 (dk_at dksX5_find_0 4 rfl rfl)
theorem dX5_find_5 : decode cX5_find 5 = .ok (.istore 4, 2) := dk_54 4 (dk_at dksX5_find_0 5 rfl rfl)
theorem dX5_find_7 : decode cX5_find 7 = .ok (.iload 4, 2) := dk_21 4 (dk_at dksX5_find_0 7 rfl rfl)
theorem dX5_find_9 : decode cX5_find 9 = .ok (.ifCond .lt 136, 3) := dk_155 0 136 (dk_at dksX5_find_0 9 rfl rfl)
theorem dX5_find_12 : decode cX5_find 12 = .ok (.aload_n 0, 1) := dk_42 (dk_at dksX5_find_0 12 rfl rfl)
theorem dX5_find_13 : decode cX5_find 13 = .ok (.getfield 44, 3) := dk_180 0 44 (dk_at dksX5_find_0 13 rfl rfl)
theorem dX5_find_16 : decode cX5_find 16 = .ok (.iload 4, 2) := dk_21 4 (dk_at dksX5_find_0 16 rfl rfl)
theorem dX5_find_18 : decode cX5_find 18 = .ok (.iload 4, 2) := dk_21 4 (dk_at dksX5_find_0 18 rfl rfl)
theorem dX5_find_20 : decode cX5_find 20 = .ok (.iload_n 3, 1) := dk_29 (dk_at dksX5_find_0 20 rfl rfl)
theorem dX5_find_21 : decode cX5_find 21 = .ok (.if_icmp .ne 7, 3) := dk_160 0 7 (dk_at dksX5_find_0 21 rfl rfl)
theorem dX5_find_24 : decode cX5_find 24 = .ok (.iconst 0, 1) := dk_3 (dk_at dksX5_find_1 0 rfl rfl)
theorem dX5_find_25 : decode cX5_find 25 = .ok (.goto 5, 3) := dk_167 0 5 (dk_at dksX5_find_1 1 rfl rfl)
theorem dX5_find_28 : decode cX5_find 28 = .ok (.ldc 97, 2) := dk_18 97 (dk_at dksX5_find_1 4 rfl rfl)
theorem dX5_find_30 : decode cX5_find 30 = .ok (.iastore, 1) := dk_79 (dk_at dksX5_find_1 6 rfl rfl)
theorem dX5_find_31 : decode cX5_find 31 = .ok (.aload_n 0, 1) := dk_42 (dk_at dksX5_find_1 7 rfl rfl)
theorem dX5_find_32 : decode cX5_find 32 = .ok (.getfield 47, 3) := dk_180 0 47 (dk_at dksX5_find_1 8 rfl rfl)
theorem dX5_find_35 : decode cX5_find 35 = .ok (.iload 4, 2) := dk_21 4 (dk_at dksX5_find_1 11 rfl rfl)
theorem dX5_find_37 : decode cX5_find 37 = .ok (.iconst 0, 1) := dk_3 (dk_at dksX5_find_1 13 rfl rfl)
theorem dX5_find_38 : decode cX5_find 38 = .ok (.iastore, 1) := dk_79 (dk_at dksX5_find_1 14 rfl rfl)
theorem dX5_find_39 : decode cX5_find 39 = .ok (.iconst 0, 1) := dk_3 (dk_at dksX5_find_1 15 rfl rfl)
theorem dX5_find_40 : decode cX5_find 40 = .ok (.istore 5, 2) := dk_54 5 (dk_at dksX5_find_1 16 rfl rfl)
theorem dX5_find_42 : decode cX5_find 42 = .ok (.iload 5, 2) := dk_21 5 (dk_at dksX5_find_1 18 rfl rfl)
theorem dX5_find_44 : decode cX5_find 44 = .ok (.bipush 12, 2) := dk_16 12 (dk_at dksX5_find_1 20 rfl rfl)
theorem dX5_find_46 : decode cX5_find 46 = .ok (.if_icmp .ge 93, 3) := dk_162 0 93 (dk_at dksX5_find_2 0 rfl rfl)
theorem dX5_find_49 : decode cX5_find 49 = .ok (.iload 4, 2) := dk_21 4 (dk_at dksX5_find_2 3 rfl rfl)
theorem dX5_find_51 : decode cX5_find 51 = .ok (.iload_n 3, 1) := dk_29 (dk_at dksX5_find_2 5 rfl rfl)
theorem dX5_find_52 : decode cX5_find 52 = .ok (.if_icmp .ge 87, 3) := dk_162 0 87 (dk_at dksX5_find_2 6 rfl rfl)
theorem dX5_find_55 : decode cX5_find 55 = .ok (.aload_n 0, 1) := dk_42 (dk_at dksX5_find_2 9 rfl rfl)
theorem dX5_find_56 : decode cX5_find 56 = .ok (.getfield 9, 3) := dk_180 0 9 (dk_at dksX5_find_2 10 rfl rfl)
theorem dX5_find_59 : decode cX5_find 59 = .ok (.iload 5, 2) := dk_21 5 (dk_at dksX5_find_2 13 rfl rfl)
theorem dX5_find_61 : decode cX5_find 61 = .ok (.iaload, 1) := dk_46 (dk_at dksX5_find_2 15 rfl rfl)
theorem dX5_find_62 : decode cX5_find 62 = .ok (.ifCond .ne 6, 3) := dk_154 0 6 (dk_at dksX5_find_2 16 rfl rfl)
theorem dX5_find_65 : decode cX5_find 65 = .ok (.goto 68, 3) := dk_167 0 68 (dk_at dksX5_find_2 19 rfl rfl)
theorem dX5_find_68 : decode cX5_find 68 = .ok (.aload_n 0, 1) := dk_42 (dk_at dksX5_find_2 22 rfl rfl)
theorem dX5_find_69 : decode cX5_find 69 = .ok (.aload_n 0, 1) := dk_42 (dk_at dksX5_find_2 23 rfl rfl)
theorem dX5_find_70 : decode cX5_find 70 = .ok (.getfield 9, 3) := dk_180 0 9 (dk_at dksX5_find_3 0 rfl rfl)
theorem dX5_find_73 : decode cX5_find 73 = .ok (.iload 5, 2) := dk_21 5 (dk_at dksX5_find_3 3 rfl rfl)
theorem dX5_find_75 : decode cX5_find 75 = .ok (.iaload, 1) := dk_46 (dk_at dksX5_find_3 5 rfl rfl)
theorem dX5_find_76 : decode cX5_find 76 = .ok (.iload_n 1, 1) := dk_27 (dk_at dksX5_find_3 6 rfl rfl)
theorem dX5_find_77 : decode cX5_find 77 = .ok (.iload 4, 2) := dk_21 4 (dk_at dksX5_find_3 7 rfl rfl)
theorem dX5_find_79 : decode cX5_find 79 = .ok (.iadd, 1) := dk_96 (dk_at dksX5_find_3 9 rfl rfl)
theorem dX5_find_80 : decode cX5_find 80 = .ok (.iload_n 2, 1) := dk_28 (dk_at dksX5_find_3 10 rfl rfl)
theorem dX5_find_81 : decode cX5_find 81 = .ok (.invokevirtual 126, 3) := dk_182 0 126 (dk_at dksX5_find_3 11 rfl rfl)
theorem dX5_find_84 : decode cX5_find 84 = .ok (.iconst 1, 1) := dk_4 (dk_at dksX5_find_3 14 rfl rfl)
theorem dX5_find_85 : decode cX5_find 85 = .ok (.istore 6, 2) := dk_54 6 (dk_at dksX5_find_3 15 rfl rfl)
theorem dX5_find_87 : decode cX5_find 87 = .ok (.iload 6, 2) := dk_21 6 (dk_at dksX5_find_3 17 rfl rfl)
theorem dX5_find_89 : decode cX5_find 89 = .ok (.iload_n 3, 1) := dk_29 (dk_at dksX5_find_3 19 rfl rfl)
theorem dX5_find_90 : decode cX5_find 90 = .ok (.iload 4, 2) := dk_21 4 (dk_at dksX5_find_3 20 rfl rfl)
theorem dX5_find_92 : decode cX5_find 92 = .ok (.isub, 1) := dk_100 (dk_at dksX5_find_3 22 rfl rfl)
theorem dX5_find_93 : decode cX5_find 93 = .ok (.if_icmp .gt 40, 3) := dk_163 0 40 (dk_at dksX5_find_4 0 rfl rfl)
theorem dX5_find_96 : decode cX5_find 96 = .ok (.aload_n 0, 1) := dk_42 (dk_at dksX5_find_4 3 rfl rfl)
theorem dX5_find_97 : decode cX5_find 97 = .ok (.iload 4, 2) := dk_21 4 (dk_at dksX5_find_4 4 rfl rfl)
theorem dX5_find_99 : decode cX5_find 99 = .ok (.iload 5, 2) := dk_21 5 (dk_at dksX5_find_4 6 rfl rfl)
theorem dX5_find_101 : decode cX5_find 101 = .ok (.aload_n 0, 1) := dk_42 (dk_at dksX5_find_4 8 rfl rfl)
theorem dX5_find_102 : decode cX5_find 102 = .ok (.getfield 56, 3) := dk_180 0 56 (dk_at dksX5_find_4 9 rfl rfl)
theorem dX5_find_105 : decode cX5_find 105 = .ok (.iload 6, 2) := dk_21 6 (dk_at dksX5_find_4 12 rfl rfl)
theorem dX5_find_107 : decode cX5_find 107 = .ok (.iaload, 1) := dk_46 (dk_at dksX5_find_4 14 rfl rfl)
theorem dX5_find_108 : decode cX5_find 108 = .ok (.aload_n 0, 1) := dk_42 (dk_at dksX5_find_4 15 rfl rfl)
theorem dX5_find_109 : decode cX5_find 109 = .ok (.getfield 44, 3) := dk_180 0 44 (dk_at dksX5_find_4 16 rfl rfl)
theorem dX5_find_112 : decode cX5_find 112 = .ok (.iload 4, 2) := dk_21 4 (dk_at dksX5_find_4 19 rfl rfl)
theorem dX5_find_114 : decode cX5_find 114 = .ok (.iload 6, 2) := dk_21 6 (dk_at dksX5_find_4 21 rfl rfl)
theorem dX5_find_116 : decode cX5_find 116 = .ok (.iadd, 1) := dk_96 (dk_at dksX5_find_4 23 rfl rfl)
theorem dX5_find_117 : decode cX5_find 117 = .ok (.iaload, 1) := dk_46 (dk_at dksX5_find_5 0 rfl rfl)
theorem dX5_find_118 : decode cX5_find 118 = .ok (.iadd, 1) := dk_96 (dk_at dksX5_find_5 1 rfl rfl)
theorem dX5_find_119 : decode cX5_find 119 = .ok (.iload 4, 2) := dk_21 4 (dk_at dksX5_find_5 2 rfl rfl)
theorem dX5_find_121 : decode cX5_find 121 = .ok (.iload 6, 2) := dk_21 6 (dk_at dksX5_find_5 4 rfl rfl)
theorem dX5_find_123 : decode cX5_find 123 = .ok (.iadd, 1) := dk_96 (dk_at dksX5_find_5 6 rfl rfl)
theorem dX5_find_124 : decode cX5_find 124 = .ok (.invokevirtual 130, 3) := dk_182 0 130 (dk_at dksX5_find_5 7 rfl rfl)
theorem dX5_find_127 : decode cX5_find 127 = .ok (.iinc 6 1, 3) := dk_132 6 1 (dk_at dksX5_find_5 10 rfl rfl)
theorem dX5_find_130 : decode cX5_find 130 = .ok (.goto (-43), 3) := dk_167 255 213 (dk_at dksX5_find_5 13 rfl rfl)
theorem dX5_find_133 : decode cX5_find 133 = .ok (.iinc 5 1, 3) := dk_132 5 1 (dk_at dksX5_find_5 16 rfl rfl)
theorem dX5_find_136 : decode cX5_find 136 = .ok (.goto (-94), 3) := dk_167 255 162 (dk_at dksX5_find_5 19 rfl rfl)
theorem dX5_find_139 : decode cX5_find 139 = .ok (.iinc 4 (-1), 3) := dk_132 4 255 (dk_at dksX5_find_6 0 rfl rfl)
theorem dX5_find_142 : decode cX5_find 142 = .ok (.goto (-135), 3) := dk_167 255 121 (dk_at dksX5_find_6 3 rfl rfl)
theorem dX5_find_145 : decode cX5_find 145 = .ok (.iload_n 3, 1) := dk_29 (dk_at dksX5_find_6 6 rfl rfl)
theorem dX5_find_146 : decode cX5_find 146 = .ok (.aload_n 0, 1) := dk_42 (dk_at dksX5_find_6 7 rfl rfl)
theorem dX5_find_147 : decode cX5_find 147 = .ok (.getfield 23, 3) := dk_180 0 23 (dk_at dksX5_find_6 8 rfl rfl)
theorem dX5_find_150 : decode cX5_find 150 = .ok (.imul, 1) := dk_104 (dk_at dksX5_find_6 11 rfl rfl)
theorem dX5_find_151 : decode cX5_find 151 = .ok (.aload_n 0, 1) := dk_42 (dk_at dksX5_find_6 12 rfl rfl)
theorem dX5_find_152 : decode cX5_find 152 = .ok (.getfield 44, 3) := dk_180 0 44 (dk_at dksX5_find_6 13 rfl rfl)
theorem dX5_find_155 : decode cX5_find 155 = .ok (.iconst 0, 1) := dk_3 (dk_at dksX5_find_6 16 rfl rfl)
theorem dX5_find_156 : decode cX5_find 156 = .ok (.iaload, 1) := dk_46 (dk_at dksX5_find_6 17 rfl rfl)
theorem dX5_find_157 : decode cX5_find 157 = .ok (.if_icmp .le 4, 3) := dk_164 0 4 (dk_at dksX5_find_6 18 rfl rfl)
theorem dX5_find_160 : decode cX5_find 160 = .ok (.return_, 1) := dk_177 (dk_at dksX5_find_6 21 rfl rfl)
theorem dX5_find_161 : decode cX5_find 161 = .ok (.aload_n 0, 1) := dk_42 (dk_at dksX5_find_6 22 rfl rfl)
theorem dX5_find_162 : decode cX5_find 162 = .ok (.getfield 44, 3) := dk_180 0 44 (dk_at dksX5_find_7 0 rfl rfl)
theorem dX5_find_165 : decode cX5_find 165 = .ok (.iconst 0, 1) := dk_3 (dk_at dksX5_find_7 3 rfl rfl)
theorem dX5_find_166 : decode cX5_find 166 = .ok (.iload_n 3, 1) := dk_29 (dk_at dksX5_find_7 4 rfl rfl)
theorem dX5_find_167 : decode cX5_find 167 = .ok (.aload_n 0, 1) := dk_42 (dk_at dksX5_find_7 5 rfl rfl)
theorem dX5_find_168 : decode cX5_find 168 = .ok (.getfield 23, 3) := dk_180 0 23 (dk_at dksX5_find_7 6 rfl rfl)
theorem dX5_find_171 : decode cX5_find 171 = .ok (.imul, 1) := dk_104 (dk_at dksX5_find_7 9 rfl rfl)
theorem dX5_find_172 : decode cX5_find 172 = .ok (.iastore, 1) := dk_79 (dk_at dksX5_find_7 10 rfl rfl)
theorem dX5_find_173 : decode cX5_find 173 = .ok (.aload_n 0, 1) := dk_42 (dk_at dksX5_find_7 11 rfl rfl)
theorem dX5_find_174 : decode cX5_find 174 = .ok (.getfield 47, 3) := dk_180 0 47 (dk_at dksX5_find_7 12 rfl rfl)
theorem dX5_find_177 : decode cX5_find 177 = .ok (.iconst 0, 1) := dk_3 (dk_at dksX5_find_7 15 rfl rfl)
theorem dX5_find_178 : decode cX5_find 178 = .ok (.iconst 0, 1) := dk_3 (dk_at dksX5_find_7 16 rfl rfl)
theorem dX5_find_179 : decode cX5_find 179 = .ok (.iastore, 1) := dk_79 (dk_at dksX5_find_7 17 rfl rfl)
theorem dX5_find_180 : decode cX5_find 180 = .ok (.return_, 1) := dk_177 (dk_at dksX5_find_7 18 rfl rfl)
abbrev cX5_lay : ByteArray := prog_9_method_15_code
def yX5_lay : MethodName := ⟨RX5, "lay", "(III)V"⟩
def dkwX5_lay_7 : List UInt8 := [177]
abbrev dktX5_lay_7 : List UInt8 := dkwX5_lay_7 ++ []
def dkwX5_lay_6 : List UInt8 := [46, 54, 5, 42, 180, 0, 56, 21, 6, 21, 7, 79, 132, 6, 1, 167, 255, 165, 132, 4, 1, 167, 255, 126]
abbrev dktX5_lay_6 : List UInt8 := dkwX5_lay_6 ++ dktX5_lay_7
def dkwX5_lay_5 : List UInt8 := [21, 6, 4, 100, 46, 42, 180, 0, 23, 96, 184, 0, 85, 184, 0, 85, 54, 7, 42, 180, 0, 56, 21, 6]
abbrev dktX5_lay_5 : List UInt8 := dkwX5_lay_5 ++ dktX5_lay_6
def dkwX5_lay_4 : List UInt8 := [96, 4, 100, 46, 96, 46, 96, 42, 180, 0, 56, 21, 6, 46, 42, 180, 0, 19, 96, 42, 180, 0, 56]
abbrev dktX5_lay_4 : List UInt8 := dkwX5_lay_4 ++ dktX5_lay_5
def dkwX5_lay_3 : List UInt8 := [163, 0, 89, 21, 5, 42, 180, 0, 16, 8, 27, 21, 4, 184, 0, 90, 104, 42, 180, 0, 29, 28, 21, 6]
abbrev dktX5_lay_3 : List UInt8 := dkwX5_lay_3 ++ dktX5_lay_4
def dkwX5_lay_2 : List UInt8 := [46, 54, 5, 42, 180, 0, 56, 3, 92, 46, 42, 180, 0, 19, 96, 79, 4, 54, 6, 21, 6, 29, 28, 100]
abbrev dktX5_lay_2 : List UInt8 := dkwX5_lay_2 ++ dktX5_lay_3
def dkwX5_lay_1 : List UInt8 := [79, 132, 4, 1, 167, 255, 231, 3, 54, 4, 21, 4, 27, 184, 0, 62, 162, 0, 127, 42, 180, 0, 56, 3]
abbrev dktX5_lay_1 : List UInt8 := dkwX5_lay_1 ++ dktX5_lay_2
def dkwX5_lay_0 : List UInt8 := [3, 54, 4, 21, 4, 29, 28, 100, 163, 0, 23, 42, 180, 0, 56, 21, 4, 21, 4, 42, 180, 0, 23, 104]
abbrev dktX5_lay_0 : List UInt8 := dkwX5_lay_0 ++ dktX5_lay_1
theorem dksX5_lay_0 : cX5_lay.data.toList.drop 0 = dktX5_lay_0 := by decide +kernel
theorem dksX5_lay_1 : cX5_lay.data.toList.drop 24 = dktX5_lay_1 := dk_seg dksX5_lay_0 24 rfl rfl
theorem dksX5_lay_2 : cX5_lay.data.toList.drop 48 = dktX5_lay_2 := dk_seg dksX5_lay_1 24 rfl rfl
theorem dksX5_lay_3 : cX5_lay.data.toList.drop 72 = dktX5_lay_3 := dk_seg dksX5_lay_2 24 rfl rfl
theorem dksX5_lay_4 : cX5_lay.data.toList.drop 96 = dktX5_lay_4 := dk_seg dksX5_lay_3 24 rfl rfl
theorem dksX5_lay_5 : cX5_lay.data.toList.drop 119 = dktX5_lay_5 := dk_seg dksX5_lay_4 23 rfl rfl
theorem dksX5_lay_6 : cX5_lay.data.toList.drop 143 = dktX5_lay_6 := dk_seg dksX5_lay_5 24 rfl rfl
theorem dksX5_lay_7 : cX5_lay.data.toList.drop 167 = dktX5_lay_7 := dk_seg dksX5_lay_6 24 rfl rfl
theorem dX5_lay_0 : decode cX5_lay 0 = .ok (.iconst 0, 1) := dk_3 (dk_at dksX5_lay_0 0 rfl rfl)
theorem dX5_lay_1 : decode cX5_lay 1 = .ok (.istore 4, 2) := dk_54 4 (dk_at dksX5_lay_0 1 rfl rfl)
theorem dX5_lay_3 : decode cX5_lay 3 = .ok (.iload 4, 2) := dk_21 4 (dk_at dksX5_lay_0 3 rfl rfl)
theorem dX5_lay_5 : decode cX5_lay 5 = .ok (.iload_n 3, 1) := dk_29 (dk_at dksX5_lay_0 5 rfl rfl)
theorem dX5_lay_6 : decode cX5_lay 6 = .ok (.iload_n 2, 1) := dk_28 (dk_at dksX5_lay_0 6 rfl rfl)
theorem dX5_lay_7 : decode cX5_lay 7 = .ok (.isub, 1) := dk_100 (dk_at dksX5_lay_0 7 rfl rfl)
theorem dX5_lay_8 : decode cX5_lay 8 = .ok (.if_icmp .gt 23, 3) := dk_163 0 23 (dk_at dksX5_lay_0 8 rfl rfl)
theorem dX5_lay_11 : decode cX5_lay 11 = .ok (.aload_n 0, 1) := dk_42 (dk_at dksX5_lay_0 11 rfl rfl)
theorem dX5_lay_12 : decode cX5_lay 12 = .ok (.getfield 56, 3) := dk_180 0 56 (dk_at dksX5_lay_0 12 rfl rfl)
theorem dX5_lay_15 : decode cX5_lay 15 = .ok (.iload 4, 2) := dk_21 4 (dk_at dksX5_lay_0 15 rfl rfl)
theorem dX5_lay_17 : decode cX5_lay 17 = .ok (.iload 4, 2) := dk_21 4 (dk_at dksX5_lay_0 17 rfl rfl)
theorem dX5_lay_19 : decode cX5_lay 19 = .ok (.aload_n 0, 1) := dk_42 (dk_at dksX5_lay_0 19 rfl rfl)
theorem dX5_lay_20 : decode cX5_lay 20 = .ok (.getfield 23, 3) := dk_180 0 23 (dk_at dksX5_lay_0 20 rfl rfl)
theorem dX5_lay_23 : decode cX5_lay 23 = .ok (.imul, 1) := dk_104 (dk_at dksX5_lay_0 23 rfl rfl)
theorem dX5_lay_24 : decode cX5_lay 24 = .ok (.iastore, 1) := dk_79 (dk_at dksX5_lay_1 0 rfl rfl)
theorem dX5_lay_25 : decode cX5_lay 25 = .ok (.iinc 4 1, 3) := dk_132 4 1 (dk_at dksX5_lay_1 1 rfl rfl)
theorem dX5_lay_28 : decode cX5_lay 28 = .ok (.goto (-25), 3) := dk_167 255 231 (dk_at dksX5_lay_1 4 rfl rfl)
theorem dX5_lay_31 : decode cX5_lay 31 = .ok (.iconst 0, 1) := dk_3 (dk_at dksX5_lay_1 7 rfl rfl)
theorem dX5_lay_32 : decode cX5_lay 32 = .ok (.istore 4, 2) := dk_54 4 (dk_at dksX5_lay_1 8 rfl rfl)
theorem dX5_lay_34 : decode cX5_lay 34 = .ok (.iload 4, 2) := dk_21 4 (dk_at dksX5_lay_1 10 rfl rfl)
theorem dX5_lay_36 : decode cX5_lay 36 = .ok (.iload_n 1, 1) := dk_27 (dk_at dksX5_lay_1 12 rfl rfl)
theorem dX5_lay_37 : decode cX5_lay 37 = .ok (.invokestatic 62, 3) := dk_184 0 62 (dk_at dksX5_lay_1 13 rfl rfl)
theorem dX5_lay_40 : decode cX5_lay 40 = .ok (.if_icmp .ge 127, 3) := dk_162 0 127 (dk_at dksX5_lay_1 16 rfl rfl)
theorem dX5_lay_43 : decode cX5_lay 43 = .ok (.aload_n 0, 1) := dk_42 (dk_at dksX5_lay_1 19 rfl rfl)
theorem dX5_lay_44 : decode cX5_lay 44 = .ok (.getfield 56, 3) := dk_180 0 56 (dk_at dksX5_lay_1 20 rfl rfl)
theorem dX5_lay_47 : decode cX5_lay 47 = .ok (.iconst 0, 1) := dk_3 (dk_at dksX5_lay_1 23 rfl rfl)
theorem dX5_lay_48 : decode cX5_lay 48 = .ok (.iaload, 1) := dk_46 (dk_at dksX5_lay_2 0 rfl rfl)
theorem dX5_lay_49 : decode cX5_lay 49 = .ok (.istore 5, 2) := dk_54 5 (dk_at dksX5_lay_2 1 rfl rfl)
theorem dX5_lay_51 : decode cX5_lay 51 = .ok (.aload_n 0, 1) := dk_42 (dk_at dksX5_lay_2 3 rfl rfl)
theorem dX5_lay_52 : decode cX5_lay 52 = .ok (.getfield 56, 3) := dk_180 0 56 (dk_at dksX5_lay_2 4 rfl rfl)
theorem dX5_lay_55 : decode cX5_lay 55 = .ok (.iconst 0, 1) := dk_3 (dk_at dksX5_lay_2 7 rfl rfl)
theorem dX5_lay_56 : decode cX5_lay 56 = .ok (.dup2, 1) := dk_92 (dk_at dksX5_lay_2 8 rfl rfl)
theorem dX5_lay_57 : decode cX5_lay 57 = .ok (.iaload, 1) := dk_46 (dk_at dksX5_lay_2 9 rfl rfl)
theorem dX5_lay_58 : decode cX5_lay 58 = .ok (.aload_n 0, 1) := dk_42 (dk_at dksX5_lay_2 10 rfl rfl)
theorem dX5_lay_59 : decode cX5_lay 59 = .ok (.getfield 19, 3) := dk_180 0 19 (dk_at dksX5_lay_2 11 rfl rfl)
theorem dX5_lay_62 : decode cX5_lay 62 = .ok (.iadd, 1) := dk_96 (dk_at dksX5_lay_2 14 rfl rfl)
theorem dX5_lay_63 : decode cX5_lay 63 = .ok (.iastore, 1) := dk_79 (dk_at dksX5_lay_2 15 rfl rfl)
theorem dX5_lay_64 : decode cX5_lay 64 = .ok (.iconst 1, 1) := dk_4 (dk_at dksX5_lay_2 16 rfl rfl)
theorem dX5_lay_65 : decode cX5_lay 65 = .ok (.istore 6, 2) := dk_54 6 (dk_at dksX5_lay_2 17 rfl rfl)
theorem dX5_lay_67 : decode cX5_lay 67 = .ok (.iload 6, 2) := dk_21 6 (dk_at dksX5_lay_2 19 rfl rfl)
theorem dX5_lay_69 : decode cX5_lay 69 = .ok (.iload_n 3, 1) := dk_29 (dk_at dksX5_lay_2 21 rfl rfl)
theorem dX5_lay_70 : decode cX5_lay 70 = .ok (.iload_n 2, 1) := dk_28 (dk_at dksX5_lay_2 22 rfl rfl)
theorem dX5_lay_71 : decode cX5_lay 71 = .ok (.isub, 1) := dk_100 (dk_at dksX5_lay_2 23 rfl rfl)
theorem dX5_lay_72 : decode cX5_lay 72 = .ok (.if_icmp .gt 89, 3) := dk_163 0 89 (dk_at dksX5_lay_3 0 rfl rfl)
theorem dX5_lay_75 : decode cX5_lay 75 = .ok (.iload 5, 2) := dk_21 5 (dk_at dksX5_lay_3 3 rfl rfl)
theorem dX5_lay_77 : decode cX5_lay 77 = .ok (.aload_n 0, 1) := dk_42 (dk_at dksX5_lay_3 5 rfl rfl)
theorem dX5_lay_78 : decode cX5_lay 78 = .ok (.getfield 16, 3) := dk_180 0 16 (dk_at dksX5_lay_3 6 rfl rfl)
theorem dX5_lay_81 : decode cX5_lay 81 = .ok (.iconst 5, 1) := dk_8 (dk_at dksX5_lay_3 9 rfl rfl)
theorem dX5_lay_82 : decode cX5_lay 82 = .ok (.iload_n 1, 1) := dk_27 (dk_at dksX5_lay_3 10 rfl rfl)
theorem dX5_lay_83 : decode cX5_lay 83 = .ok (.iload 4, 2) := dk_21 4 (dk_at dksX5_lay_3 11 rfl rfl)
theorem dX5_lay_85 : decode cX5_lay 85 = .ok (.invokestatic 90, 3) := dk_184 0 90 (dk_at dksX5_lay_3 13 rfl rfl)
theorem dX5_lay_88 : decode cX5_lay 88 = .ok (.imul, 1) := dk_104 (dk_at dksX5_lay_3 16 rfl rfl)
theorem dX5_lay_89 : decode cX5_lay 89 = .ok (.aload_n 0, 1) := dk_42 (dk_at dksX5_lay_3 17 rfl rfl)
theorem dX5_lay_90 : decode cX5_lay 90 = .ok (.getfield 29, 3) := dk_180 0 29 (dk_at dksX5_lay_3 18 rfl rfl)
theorem dX5_lay_93 : decode cX5_lay 93 = .ok (.iload_n 2, 1) := dk_28 (dk_at dksX5_lay_3 21 rfl rfl)
theorem dX5_lay_94 : decode cX5_lay 94 = .ok (.iload 6, 2) := dk_21 6 (dk_at dksX5_lay_3 22 rfl rfl)
theorem dX5_lay_96 : decode cX5_lay 96 = .ok (.iadd, 1) := dk_96 (dk_at dksX5_lay_4 0 rfl rfl)
theorem dX5_lay_97 : decode cX5_lay 97 = .ok (.iconst 1, 1) := dk_4 (dk_at dksX5_lay_4 1 rfl rfl)
theorem dX5_lay_98 : decode cX5_lay 98 = .ok (.isub, 1) := dk_100 (dk_at dksX5_lay_4 2 rfl rfl)
theorem dX5_lay_99 : decode cX5_lay 99 = .ok (.iaload, 1) := dk_46 (dk_at dksX5_lay_4 3 rfl rfl)
theorem dX5_lay_100 : decode cX5_lay 100 = .ok (.iadd, 1) := dk_96 (dk_at dksX5_lay_4 4 rfl rfl)
theorem dX5_lay_101 : decode cX5_lay 101 = .ok (.iaload, 1) := dk_46 (dk_at dksX5_lay_4 5 rfl rfl)
theorem dX5_lay_102 : decode cX5_lay 102 = .ok (.iadd, 1) := dk_96 (dk_at dksX5_lay_4 6 rfl rfl)
theorem dX5_lay_103 : decode cX5_lay 103 = .ok (.aload_n 0, 1) := dk_42 (dk_at dksX5_lay_4 7 rfl rfl)
theorem dX5_lay_104 : decode cX5_lay 104 = .ok (.getfield 56, 3) := dk_180 0 56 (dk_at dksX5_lay_4 8 rfl rfl)
theorem dX5_lay_107 : decode cX5_lay 107 = .ok (.iload 6, 2) := dk_21 6 (dk_at dksX5_lay_4 11 rfl rfl)
theorem dX5_lay_109 : decode cX5_lay 109 = .ok (.iaload, 1) := dk_46 (dk_at dksX5_lay_4 13 rfl rfl)
theorem dX5_lay_110 : decode cX5_lay 110 = .ok (.aload_n 0, 1) := dk_42 (dk_at dksX5_lay_4 14 rfl rfl)
theorem dX5_lay_111 : decode cX5_lay 111 = .ok (.getfield 19, 3) := dk_180 0 19 (dk_at dksX5_lay_4 15 rfl rfl)
theorem dX5_lay_114 : decode cX5_lay 114 = .ok (.iadd, 1) := dk_96 (dk_at dksX5_lay_4 18 rfl rfl)
theorem dX5_lay_115 : decode cX5_lay 115 = .ok (.aload_n 0, 1) := dk_42 (dk_at dksX5_lay_4 19 rfl rfl)
theorem dX5_lay_116 : decode cX5_lay 116 = .ok (.getfield 56, 3) := dk_180 0 56 (dk_at dksX5_lay_4 20 rfl rfl)
theorem dX5_lay_119 : decode cX5_lay 119 = .ok (.iload 6, 2) := dk_21 6 (dk_at dksX5_lay_5 0 rfl rfl)
theorem dX5_lay_121 : decode cX5_lay 121 = .ok (.iconst 1, 1) := dk_4 (dk_at dksX5_lay_5 2 rfl rfl)
theorem dX5_lay_122 : decode cX5_lay 122 = .ok (.isub, 1) := dk_100 (dk_at dksX5_lay_5 3 rfl rfl)
theorem dX5_lay_123 : decode cX5_lay 123 = .ok (.iaload, 1) := dk_46 (dk_at dksX5_lay_5 4 rfl rfl)
theorem dX5_lay_124 : decode cX5_lay 124 = .ok (.aload_n 0, 1) := dk_42 (dk_at dksX5_lay_5 5 rfl rfl)
theorem dX5_lay_125 : decode cX5_lay 125 = .ok (.getfield 23, 3) := dk_180 0 23 (dk_at dksX5_lay_5 6 rfl rfl)
theorem dX5_lay_128 : decode cX5_lay 128 = .ok (.iadd, 1) := dk_96 (dk_at dksX5_lay_5 9 rfl rfl)
theorem dX5_lay_129 : decode cX5_lay 129 = .ok (.invokestatic 85, 3) := dk_184 0 85 (dk_at dksX5_lay_5 10 rfl rfl)
theorem dX5_lay_132 : decode cX5_lay 132 = .ok (.invokestatic 85, 3) := dk_184 0 85 (dk_at dksX5_lay_5 13 rfl rfl)
theorem dX5_lay_135 : decode cX5_lay 135 = .ok (.istore 7, 2) := dk_54 7 (dk_at dksX5_lay_5 16 rfl rfl)
theorem dX5_lay_137 : decode cX5_lay 137 = .ok (.aload_n 0, 1) := dk_42 (dk_at dksX5_lay_5 18 rfl rfl)
theorem dX5_lay_138 : decode cX5_lay 138 = .ok (.getfield 56, 3) := dk_180 0 56 (dk_at dksX5_lay_5 19 rfl rfl)
theorem dX5_lay_141 : decode cX5_lay 141 = .ok (.iload 6, 2) := dk_21 6 (dk_at dksX5_lay_5 22 rfl rfl)
theorem dX5_lay_143 : decode cX5_lay 143 = .ok (.iaload, 1) := dk_46 (dk_at dksX5_lay_6 0 rfl rfl)
theorem dX5_lay_144 : decode cX5_lay 144 = .ok (.istore 5, 2) := dk_54 5 (dk_at dksX5_lay_6 1 rfl rfl)
theorem dX5_lay_146 : decode cX5_lay 146 = .ok (.aload_n 0, 1) := dk_42 (dk_at dksX5_lay_6 3 rfl rfl)
theorem dX5_lay_147 : decode cX5_lay 147 = .ok (.getfield 56, 3) := dk_180 0 56 (dk_at dksX5_lay_6 4 rfl rfl)
theorem dX5_lay_150 : decode cX5_lay 150 = .ok (.iload 6, 2) := dk_21 6 (dk_at dksX5_lay_6 7 rfl rfl)
theorem dX5_lay_152 : decode cX5_lay 152 = .ok (.iload 7, 2) := dk_21 7 (dk_at dksX5_lay_6 9 rfl rfl)
theorem dX5_lay_154 : decode cX5_lay 154 = .ok (.iastore, 1) := dk_79 (dk_at dksX5_lay_6 11 rfl rfl)
theorem dX5_lay_155 : decode cX5_lay 155 = .ok (.iinc 6 1, 3) := dk_132 6 1 (dk_at dksX5_lay_6 12 rfl rfl)
theorem dX5_lay_158 : decode cX5_lay 158 = .ok (.goto (-91), 3) := dk_167 255 165 (dk_at dksX5_lay_6 15 rfl rfl)
theorem dX5_lay_161 : decode cX5_lay 161 = .ok (.iinc 4 1, 3) := dk_132 4 1 (dk_at dksX5_lay_6 18 rfl rfl)
theorem dX5_lay_164 : decode cX5_lay 164 = .ok (.goto (-130), 3) := dk_167 255 126 (dk_at dksX5_lay_6 21 rfl rfl)
theorem dX5_lay_167 : decode cX5_lay 167 = .ok (.return_, 1) := dk_177 (dk_at dksX5_lay_7 0 rfl rfl)
abbrev cX5_improve : ByteArray := prog_9_method_31_code
def yX5_improve : MethodName := ⟨RX5, "improve", "(IIII)V"⟩
def dkwX5_improve_5 : List UInt8 := [180, 0, 50, 27, 28, 79, 42, 180, 0, 53, 27, 21, 4, 79, 177]
abbrev dktX5_improve_5 : List UInt8 := dkwX5_improve_5 ++ []
def dkwX5_improve_4 : List UInt8 := [180, 0, 44, 27, 29, 79, 42, 180, 0, 47, 27, 42, 180, 0, 47, 21, 4, 46, 4, 96, 79, 42]
abbrev dktX5_improve_4 : List UInt8 := dkwX5_improve_4 ++ dktX5_improve_5
def dkwX5_improve_3 : List UInt8 := [21, 4, 42, 180, 0, 50, 27, 46, 42, 180, 0, 53, 27, 46, 182, 0, 134, 154, 0, 4, 177, 42]
abbrev dktX5_improve_3 : List UInt8 := dkwX5_improve_3 ++ dktX5_improve_4
def dkwX5_improve_2 : List UInt8 := [160, 0, 44, 42, 180, 0, 47, 21, 4, 46, 4, 96, 42, 180, 0, 47, 27, 46, 160, 0, 26, 42, 28]
abbrev dktX5_improve_2 : List UInt8 := dkwX5_improve_2 ++ dktX5_improve_3
def dkwX5_improve_1 : List UInt8 := [21, 4, 46, 4, 96, 42, 180, 0, 47, 27, 46, 164, 0, 4, 177, 29, 42, 180, 0, 44, 27, 46]
abbrev dktX5_improve_1 : List UInt8 := dkwX5_improve_1 ++ dktX5_improve_2
def dkwX5_improve_0 : List UInt8 := [29, 42, 180, 0, 44, 27, 46, 163, 0, 31, 29, 42, 180, 0, 44, 27, 46, 160, 0, 22, 42, 180, 0, 47]
abbrev dktX5_improve_0 : List UInt8 := dkwX5_improve_0 ++ dktX5_improve_1
theorem dksX5_improve_0 : cX5_improve.data.toList.drop 0 = dktX5_improve_0 := by decide +kernel
theorem dksX5_improve_1 : cX5_improve.data.toList.drop 24 = dktX5_improve_1 := dk_seg dksX5_improve_0 24 rfl rfl
theorem dksX5_improve_2 : cX5_improve.data.toList.drop 46 = dktX5_improve_2 := dk_seg dksX5_improve_1 22 rfl rfl
theorem dksX5_improve_3 : cX5_improve.data.toList.drop 69 = dktX5_improve_3 := dk_seg dksX5_improve_2 23 rfl rfl
theorem dksX5_improve_4 : cX5_improve.data.toList.drop 91 = dktX5_improve_4 := dk_seg dksX5_improve_3 22 rfl rfl
theorem dksX5_improve_5 : cX5_improve.data.toList.drop 113 = dktX5_improve_5 := dk_seg dksX5_improve_4 22 rfl rfl
theorem dX5_improve_0 : decode cX5_improve 0 = .ok (.iload_n 3, 1) := dk_29 (dk_at dksX5_improve_0 0 rfl rfl)
theorem dX5_improve_1 : decode cX5_improve 1 = .ok (.aload_n 0, 1) := dk_42 (dk_at dksX5_improve_0 1 rfl rfl)
theorem dX5_improve_2 : decode cX5_improve 2 = .ok (.getfield 44, 3) := dk_180 0 44 (dk_at dksX5_improve_0 2 rfl rfl)
theorem dX5_improve_5 : decode cX5_improve 5 = .ok (.iload_n 1, 1) := dk_27 (dk_at dksX5_improve_0 5 rfl rfl)
theorem dX5_improve_6 : decode cX5_improve 6 = .ok (.iaload, 1) := dk_46 (dk_at dksX5_improve_0 6 rfl rfl)
theorem dX5_improve_7 : decode cX5_improve 7 = .ok (.if_icmp .gt 31, 3) := dk_163 0 31 (dk_at dksX5_improve_0 7 rfl rfl)
theorem dX5_improve_10 : decode cX5_improve 10 = .ok (.iload_n 3, 1) := dk_29 (dk_at dksX5_improve_0 10 rfl rfl)
theorem dX5_improve_11 : decode cX5_improve 11 = .ok (.aload_n 0, 1) := dk_42 (dk_at dksX5_improve_0 11 rfl rfl)
theorem dX5_improve_12 : decode cX5_improve 12 = .ok (.getfield 44, 3) := dk_180 0 44 (dk_at dksX5_improve_0 12 rfl rfl)
theorem dX5_improve_15 : decode cX5_improve 15 = .ok (.iload_n 1, 1) := dk_27 (dk_at dksX5_improve_0 15 rfl rfl)
theorem dX5_improve_16 : decode cX5_improve 16 = .ok (.iaload, 1) := dk_46 (dk_at dksX5_improve_0 16 rfl rfl)
theorem dX5_improve_17 : decode cX5_improve 17 = .ok (.if_icmp .ne 22, 3) := dk_160 0 22 (dk_at dksX5_improve_0 17 rfl rfl)
theorem dX5_improve_20 : decode cX5_improve 20 = .ok (.aload_n 0, 1) := dk_42 (dk_at dksX5_improve_0 20 rfl rfl)
theorem dX5_improve_21 : decode cX5_improve 21 = .ok (.getfield 47, 3) := dk_180 0 47 (dk_at dksX5_improve_0 21 rfl rfl)
theorem dX5_improve_24 : decode cX5_improve 24 = .ok (.iload 4, 2) := dk_21 4 (dk_at dksX5_improve_1 0 rfl rfl)
theorem dX5_improve_26 : decode cX5_improve 26 = .ok (.iaload, 1) := dk_46 (dk_at dksX5_improve_1 2 rfl rfl)
theorem dX5_improve_27 : decode cX5_improve 27 = .ok (.iconst 1, 1) := dk_4 (dk_at dksX5_improve_1 3 rfl rfl)
theorem dX5_improve_28 : decode cX5_improve 28 = .ok (.iadd, 1) := dk_96 (dk_at dksX5_improve_1 4 rfl rfl)
theorem dX5_improve_29 : decode cX5_improve 29 = .ok (.aload_n 0, 1) := dk_42 (dk_at dksX5_improve_1 5 rfl rfl)
theorem dX5_improve_30 : decode cX5_improve 30 = .ok (.getfield 47, 3) := dk_180 0 47 (dk_at dksX5_improve_1 6 rfl rfl)
theorem dX5_improve_33 : decode cX5_improve 33 = .ok (.iload_n 1, 1) := dk_27 (dk_at dksX5_improve_1 9 rfl rfl)
theorem dX5_improve_34 : decode cX5_improve 34 = .ok (.iaload, 1) := dk_46 (dk_at dksX5_improve_1 10 rfl rfl)
theorem dX5_improve_35 : decode cX5_improve 35 = .ok (.if_icmp .le 4, 3) := dk_164 0 4 (dk_at dksX5_improve_1 11 rfl rfl)
theorem dX5_improve_38 : decode cX5_improve 38 = .ok (.return_, 1) := dk_177 (dk_at dksX5_improve_1 14 rfl rfl)
theorem dX5_improve_39 : decode cX5_improve 39 = .ok (.iload_n 3, 1) := dk_29 (dk_at dksX5_improve_1 15 rfl rfl)
theorem dX5_improve_40 : decode cX5_improve 40 = .ok (.aload_n 0, 1) := dk_42 (dk_at dksX5_improve_1 16 rfl rfl)
theorem dX5_improve_41 : decode cX5_improve 41 = .ok (.getfield 44, 3) := dk_180 0 44 (dk_at dksX5_improve_1 17 rfl rfl)
theorem dX5_improve_44 : decode cX5_improve 44 = .ok (.iload_n 1, 1) := dk_27 (dk_at dksX5_improve_1 20 rfl rfl)
theorem dX5_improve_45 : decode cX5_improve 45 = .ok (.iaload, 1) := dk_46 (dk_at dksX5_improve_1 21 rfl rfl)
theorem dX5_improve_46 : decode cX5_improve 46 = .ok (.if_icmp .ne 44, 3) := dk_160 0 44 (dk_at dksX5_improve_2 0 rfl rfl)
theorem dX5_improve_49 : decode cX5_improve 49 = .ok (.aload_n 0, 1) := dk_42 (dk_at dksX5_improve_2 3 rfl rfl)
theorem dX5_improve_50 : decode cX5_improve 50 = .ok (.getfield 47, 3) := dk_180 0 47 (dk_at dksX5_improve_2 4 rfl rfl)
theorem dX5_improve_53 : decode cX5_improve 53 = .ok (.iload 4, 2) := dk_21 4 (dk_at dksX5_improve_2 7 rfl rfl)
theorem dX5_improve_55 : decode cX5_improve 55 = .ok (.iaload, 1) := dk_46 (dk_at dksX5_improve_2 9 rfl rfl)
theorem dX5_improve_56 : decode cX5_improve 56 = .ok (.iconst 1, 1) := dk_4 (dk_at dksX5_improve_2 10 rfl rfl)
theorem dX5_improve_57 : decode cX5_improve 57 = .ok (.iadd, 1) := dk_96 (dk_at dksX5_improve_2 11 rfl rfl)
theorem dX5_improve_58 : decode cX5_improve 58 = .ok (.aload_n 0, 1) := dk_42 (dk_at dksX5_improve_2 12 rfl rfl)
theorem dX5_improve_59 : decode cX5_improve 59 = .ok (.getfield 47, 3) := dk_180 0 47 (dk_at dksX5_improve_2 13 rfl rfl)
theorem dX5_improve_62 : decode cX5_improve 62 = .ok (.iload_n 1, 1) := dk_27 (dk_at dksX5_improve_2 16 rfl rfl)
theorem dX5_improve_63 : decode cX5_improve 63 = .ok (.iaload, 1) := dk_46 (dk_at dksX5_improve_2 17 rfl rfl)
theorem dX5_improve_64 : decode cX5_improve 64 = .ok (.if_icmp .ne 26, 3) := dk_160 0 26 (dk_at dksX5_improve_2 18 rfl rfl)
theorem dX5_improve_67 : decode cX5_improve 67 = .ok (.aload_n 0, 1) := dk_42 (dk_at dksX5_improve_2 21 rfl rfl)
theorem dX5_improve_68 : decode cX5_improve 68 = .ok (.iload_n 2, 1) := dk_28 (dk_at dksX5_improve_2 22 rfl rfl)
theorem dX5_improve_69 : decode cX5_improve 69 = .ok (.iload 4, 2) := dk_21 4 (dk_at dksX5_improve_3 0 rfl rfl)
theorem dX5_improve_71 : decode cX5_improve 71 = .ok (.aload_n 0, 1) := dk_42 (dk_at dksX5_improve_3 2 rfl rfl)
theorem dX5_improve_72 : decode cX5_improve 72 = .ok (.getfield 50, 3) := dk_180 0 50 (dk_at dksX5_improve_3 3 rfl rfl)
theorem dX5_improve_75 : decode cX5_improve 75 = .ok (.iload_n 1, 1) := dk_27 (dk_at dksX5_improve_3 6 rfl rfl)
theorem dX5_improve_76 : decode cX5_improve 76 = .ok (.iaload, 1) := dk_46 (dk_at dksX5_improve_3 7 rfl rfl)
theorem dX5_improve_77 : decode cX5_improve 77 = .ok (.aload_n 0, 1) := dk_42 (dk_at dksX5_improve_3 8 rfl rfl)
theorem dX5_improve_78 : decode cX5_improve 78 = .ok (.getfield 53, 3) := dk_180 0 53 (dk_at dksX5_improve_3 9 rfl rfl)
theorem dX5_improve_81 : decode cX5_improve 81 = .ok (.iload_n 1, 1) := dk_27 (dk_at dksX5_improve_3 12 rfl rfl)
theorem dX5_improve_82 : decode cX5_improve 82 = .ok (.iaload, 1) := dk_46 (dk_at dksX5_improve_3 13 rfl rfl)
theorem dX5_improve_83 : decode cX5_improve 83 = .ok (.invokevirtual 134, 3) := dk_182 0 134 (dk_at dksX5_improve_3 14 rfl rfl)
theorem dX5_improve_86 : decode cX5_improve 86 = .ok (.ifCond .ne 4, 3) := dk_154 0 4 (dk_at dksX5_improve_3 17 rfl rfl)
theorem dX5_improve_89 : decode cX5_improve 89 = .ok (.return_, 1) := dk_177 (dk_at dksX5_improve_3 20 rfl rfl)
theorem dX5_improve_90 : decode cX5_improve 90 = .ok (.aload_n 0, 1) := dk_42 (dk_at dksX5_improve_3 21 rfl rfl)
theorem dX5_improve_91 : decode cX5_improve 91 = .ok (.getfield 44, 3) := dk_180 0 44 (dk_at dksX5_improve_4 0 rfl rfl)
theorem dX5_improve_94 : decode cX5_improve 94 = .ok (.iload_n 1, 1) := dk_27 (dk_at dksX5_improve_4 3 rfl rfl)
theorem dX5_improve_95 : decode cX5_improve 95 = .ok (.iload_n 3, 1) := dk_29 (dk_at dksX5_improve_4 4 rfl rfl)
theorem dX5_improve_96 : decode cX5_improve 96 = .ok (.iastore, 1) := dk_79 (dk_at dksX5_improve_4 5 rfl rfl)
theorem dX5_improve_97 : decode cX5_improve 97 = .ok (.aload_n 0, 1) := dk_42 (dk_at dksX5_improve_4 6 rfl rfl)
theorem dX5_improve_98 : decode cX5_improve 98 = .ok (.getfield 47, 3) := dk_180 0 47 (dk_at dksX5_improve_4 7 rfl rfl)
theorem dX5_improve_101 : decode cX5_improve 101 = .ok (.iload_n 1, 1) := dk_27 (dk_at dksX5_improve_4 10 rfl rfl)
theorem dX5_improve_102 : decode cX5_improve 102 = .ok (.aload_n 0, 1) := dk_42 (dk_at dksX5_improve_4 11 rfl rfl)
theorem dX5_improve_103 : decode cX5_improve 103 = .ok (.getfield 47, 3) := dk_180 0 47 (dk_at dksX5_improve_4 12 rfl rfl)
theorem dX5_improve_106 : decode cX5_improve 106 = .ok (.iload 4, 2) := dk_21 4 (dk_at dksX5_improve_4 15 rfl rfl)
theorem dX5_improve_108 : decode cX5_improve 108 = .ok (.iaload, 1) := dk_46 (dk_at dksX5_improve_4 17 rfl rfl)
theorem dX5_improve_109 : decode cX5_improve 109 = .ok (.iconst 1, 1) := dk_4 (dk_at dksX5_improve_4 18 rfl rfl)
theorem dX5_improve_110 : decode cX5_improve 110 = .ok (.iadd, 1) := dk_96 (dk_at dksX5_improve_4 19 rfl rfl)
theorem dX5_improve_111 : decode cX5_improve 111 = .ok (.iastore, 1) := dk_79 (dk_at dksX5_improve_4 20 rfl rfl)
theorem dX5_improve_112 : decode cX5_improve 112 = .ok (.aload_n 0, 1) := dk_42 (dk_at dksX5_improve_4 21 rfl rfl)
theorem dX5_improve_113 : decode cX5_improve 113 = .ok (.getfield 50, 3) := dk_180 0 50 (dk_at dksX5_improve_5 0 rfl rfl)
theorem dX5_improve_116 : decode cX5_improve 116 = .ok (.iload_n 1, 1) := dk_27 (dk_at dksX5_improve_5 3 rfl rfl)
theorem dX5_improve_117 : decode cX5_improve 117 = .ok (.iload_n 2, 1) := dk_28 (dk_at dksX5_improve_5 4 rfl rfl)
theorem dX5_improve_118 : decode cX5_improve 118 = .ok (.iastore, 1) := dk_79 (dk_at dksX5_improve_5 5 rfl rfl)
theorem dX5_improve_119 : decode cX5_improve 119 = .ok (.aload_n 0, 1) := dk_42 (dk_at dksX5_improve_5 6 rfl rfl)
theorem dX5_improve_120 : decode cX5_improve 120 = .ok (.getfield 53, 3) := dk_180 0 53 (dk_at dksX5_improve_5 7 rfl rfl)
theorem dX5_improve_123 : decode cX5_improve 123 = .ok (.iload_n 1, 1) := dk_27 (dk_at dksX5_improve_5 10 rfl rfl)
theorem dX5_improve_124 : decode cX5_improve 124 = .ok (.iload 4, 2) := dk_21 4 (dk_at dksX5_improve_5 11 rfl rfl)
theorem dX5_improve_126 : decode cX5_improve 126 = .ok (.iastore, 1) := dk_79 (dk_at dksX5_improve_5 13 rfl rfl)
theorem dX5_improve_127 : decode cX5_improve 127 = .ok (.return_, 1) := dk_177 (dk_at dksX5_improve_5 14 rfl rfl)
abbrev cX5_isAhead : ByteArray := prog_9_method_32_code
def yX5_isAhead : MethodName := ⟨RX5, "isAhead", "(IIII)Z"⟩
def dkwX5_isAhead_4 : List UInt8 := [46, 42, 180, 0, 50, 21, 6, 46, 162, 0, 7, 4, 167, 0, 4, 3, 172]
abbrev dktX5_isAhead_4 : List UInt8 := dkwX5_isAhead_4 ++ []
def dkwX5_isAhead_3 : List UInt8 := [21, 6, 46, 54, 6, 167, 255, 204, 42, 180, 0, 47, 21, 5, 46, 158, 0, 24, 42, 180, 0, 50, 21, 5]
abbrev dktX5_isAhead_3 : List UInt8 := dkwX5_isAhead_3 ++ dktX5_isAhead_4
def dkwX5_isAhead_2 : List UInt8 := [160, 0, 31, 21, 5, 21, 6, 159, 0, 24, 42, 180, 0, 53, 21, 5, 46, 54, 5, 42, 180, 0, 53]
abbrev dktX5_isAhead_2 : List UInt8 := dkwX5_isAhead_2 ++ dktX5_isAhead_3
def dkwX5_isAhead_1 : List UInt8 := [180, 0, 47, 21, 5, 46, 158, 0, 48, 42, 180, 0, 50, 21, 5, 46, 42, 180, 0, 50, 21, 6, 46]
abbrev dktX5_isAhead_1 : List UInt8 := dkwX5_isAhead_1 ++ dktX5_isAhead_2
def dkwX5_isAhead_0 : List UInt8 := [27, 29, 159, 0, 14, 27, 29, 162, 0, 7, 4, 167, 0, 4, 3, 172, 28, 54, 5, 21, 4, 54, 6, 42]
abbrev dktX5_isAhead_0 : List UInt8 := dkwX5_isAhead_0 ++ dktX5_isAhead_1
theorem dksX5_isAhead_0 : cX5_isAhead.data.toList.drop 0 = dktX5_isAhead_0 := by decide +kernel
theorem dksX5_isAhead_1 : cX5_isAhead.data.toList.drop 24 = dktX5_isAhead_1 := dk_seg dksX5_isAhead_0 24 rfl rfl
theorem dksX5_isAhead_2 : cX5_isAhead.data.toList.drop 47 = dktX5_isAhead_2 := dk_seg dksX5_isAhead_1 23 rfl rfl
theorem dksX5_isAhead_3 : cX5_isAhead.data.toList.drop 70 = dktX5_isAhead_3 := dk_seg dksX5_isAhead_2 23 rfl rfl
theorem dksX5_isAhead_4 : cX5_isAhead.data.toList.drop 94 = dktX5_isAhead_4 := dk_seg dksX5_isAhead_3 24 rfl rfl
theorem dX5_isAhead_0 : decode cX5_isAhead 0 = .ok (.iload_n 1, 1) := dk_27 (dk_at dksX5_isAhead_0 0 rfl rfl)
theorem dX5_isAhead_1 : decode cX5_isAhead 1 = .ok (.iload_n 3, 1) := dk_29 (dk_at dksX5_isAhead_0 1 rfl rfl)
theorem dX5_isAhead_2 : decode cX5_isAhead 2 = .ok (.if_icmp .eq 14, 3) := dk_159 0 14 (dk_at dksX5_isAhead_0 2 rfl rfl)
theorem dX5_isAhead_5 : decode cX5_isAhead 5 = .ok (.iload_n 1, 1) := dk_27 (dk_at dksX5_isAhead_0 5 rfl rfl)
theorem dX5_isAhead_6 : decode cX5_isAhead 6 = .ok (.iload_n 3, 1) := dk_29 (dk_at dksX5_isAhead_0 6 rfl rfl)
theorem dX5_isAhead_7 : decode cX5_isAhead 7 = .ok (.if_icmp .ge 7, 3) := dk_162 0 7 (dk_at dksX5_isAhead_0 7 rfl rfl)
theorem dX5_isAhead_10 : decode cX5_isAhead 10 = .ok (.iconst 1, 1) := dk_4 (dk_at dksX5_isAhead_0 10 rfl rfl)
theorem dX5_isAhead_11 : decode cX5_isAhead 11 = .ok (.goto 4, 3) := dk_167 0 4 (dk_at dksX5_isAhead_0 11 rfl rfl)
theorem dX5_isAhead_14 : decode cX5_isAhead 14 = .ok (.iconst 0, 1) := dk_3 (dk_at dksX5_isAhead_0 14 rfl rfl)
theorem dX5_isAhead_15 : decode cX5_isAhead 15 = .ok (.ireturn, 1) := dk_172 (dk_at dksX5_isAhead_0 15 rfl rfl)
theorem dX5_isAhead_16 : decode cX5_isAhead 16 = .ok (.iload_n 2, 1) := dk_28 (dk_at dksX5_isAhead_0 16 rfl rfl)
theorem dX5_isAhead_17 : decode cX5_isAhead 17 = .ok (.istore 5, 2) := dk_54 5 (dk_at dksX5_isAhead_0 17 rfl rfl)
theorem dX5_isAhead_19 : decode cX5_isAhead 19 = .ok (.iload 4, 2) := dk_21 4 (dk_at dksX5_isAhead_0 19 rfl rfl)
theorem dX5_isAhead_21 : decode cX5_isAhead 21 = .ok (.istore 6, 2) := dk_54 6 (dk_at dksX5_isAhead_0 21 rfl rfl)
theorem dX5_isAhead_23 : decode cX5_isAhead 23 = .ok (.aload_n 0, 1) := dk_42 (dk_at dksX5_isAhead_0 23 rfl rfl)
theorem dX5_isAhead_24 : decode cX5_isAhead 24 = .ok (.getfield 47, 3) := dk_180 0 47 (dk_at dksX5_isAhead_1 0 rfl rfl)
theorem dX5_isAhead_27 : decode cX5_isAhead 27 = .ok (.iload 5, 2) := dk_21 5 (dk_at dksX5_isAhead_1 3 rfl rfl)
theorem dX5_isAhead_29 : decode cX5_isAhead 29 = .ok (.iaload, 1) := dk_46 (dk_at dksX5_isAhead_1 5 rfl rfl)
theorem dX5_isAhead_30 : decode cX5_isAhead 30 = .ok (.ifCond .le 48, 3) := dk_158 0 48 (dk_at dksX5_isAhead_1 6 rfl rfl)
theorem dX5_isAhead_33 : decode cX5_isAhead 33 = .ok (.aload_n 0, 1) := dk_42 (dk_at dksX5_isAhead_1 9 rfl rfl)
theorem dX5_isAhead_34 : decode cX5_isAhead 34 = .ok (.getfield 50, 3) := dk_180 0 50 (dk_at dksX5_isAhead_1 10 rfl rfl)
theorem dX5_isAhead_37 : decode cX5_isAhead 37 = .ok (.iload 5, 2) := dk_21 5 (dk_at dksX5_isAhead_1 13 rfl rfl)
theorem dX5_isAhead_39 : decode cX5_isAhead 39 = .ok (.iaload, 1) := dk_46 (dk_at dksX5_isAhead_1 15 rfl rfl)
theorem dX5_isAhead_40 : decode cX5_isAhead 40 = .ok (.aload_n 0, 1) := dk_42 (dk_at dksX5_isAhead_1 16 rfl rfl)
theorem dX5_isAhead_41 : decode cX5_isAhead 41 = .ok (.getfield 50, 3) := dk_180 0 50 (dk_at dksX5_isAhead_1 17 rfl rfl)
theorem dX5_isAhead_44 : decode cX5_isAhead 44 = .ok (.iload 6, 2) := dk_21 6 (dk_at dksX5_isAhead_1 20 rfl rfl)
theorem dX5_isAhead_46 : decode cX5_isAhead 46 = .ok (.iaload, 1) := dk_46 (dk_at dksX5_isAhead_1 22 rfl rfl)
theorem dX5_isAhead_47 : decode cX5_isAhead 47 = .ok (.if_icmp .ne 31, 3) := dk_160 0 31 (dk_at dksX5_isAhead_2 0 rfl rfl)
theorem dX5_isAhead_50 : decode cX5_isAhead 50 = .ok (.iload 5, 2) := dk_21 5 (dk_at dksX5_isAhead_2 3 rfl rfl)
theorem dX5_isAhead_52 : decode cX5_isAhead 52 = .ok (.iload 6, 2) := dk_21 6 (dk_at dksX5_isAhead_2 5 rfl rfl)
theorem dX5_isAhead_54 : decode cX5_isAhead 54 = .ok (.if_icmp .eq 24, 3) := dk_159 0 24 (dk_at dksX5_isAhead_2 7 rfl rfl)
theorem dX5_isAhead_57 : decode cX5_isAhead 57 = .ok (.aload_n 0, 1) := dk_42 (dk_at dksX5_isAhead_2 10 rfl rfl)
theorem dX5_isAhead_58 : decode cX5_isAhead 58 = .ok (.getfield 53, 3) := dk_180 0 53 (dk_at dksX5_isAhead_2 11 rfl rfl)
theorem dX5_isAhead_61 : decode cX5_isAhead 61 = .ok (.iload 5, 2) := dk_21 5 (dk_at dksX5_isAhead_2 14 rfl rfl)
theorem dX5_isAhead_63 : decode cX5_isAhead 63 = .ok (.iaload, 1) := dk_46 (dk_at dksX5_isAhead_2 16 rfl rfl)
theorem dX5_isAhead_64 : decode cX5_isAhead 64 = .ok (.istore 5, 2) := dk_54 5 (dk_at dksX5_isAhead_2 17 rfl rfl)
theorem dX5_isAhead_66 : decode cX5_isAhead 66 = .ok (.aload_n 0, 1) := dk_42 (dk_at dksX5_isAhead_2 19 rfl rfl)
theorem dX5_isAhead_67 : decode cX5_isAhead 67 = .ok (.getfield 53, 3) := dk_180 0 53 (dk_at dksX5_isAhead_2 20 rfl rfl)
theorem dX5_isAhead_70 : decode cX5_isAhead 70 = .ok (.iload 6, 2) := dk_21 6 (dk_at dksX5_isAhead_3 0 rfl rfl)
theorem dX5_isAhead_72 : decode cX5_isAhead 72 = .ok (.iaload, 1) := dk_46 (dk_at dksX5_isAhead_3 2 rfl rfl)
theorem dX5_isAhead_73 : decode cX5_isAhead 73 = .ok (.istore 6, 2) := dk_54 6 (dk_at dksX5_isAhead_3 3 rfl rfl)
theorem dX5_isAhead_75 : decode cX5_isAhead 75 = .ok (.goto (-52), 3) := dk_167 255 204 (dk_at dksX5_isAhead_3 5 rfl rfl)
theorem dX5_isAhead_78 : decode cX5_isAhead 78 = .ok (.aload_n 0, 1) := dk_42 (dk_at dksX5_isAhead_3 8 rfl rfl)
theorem dX5_isAhead_79 : decode cX5_isAhead 79 = .ok (.getfield 47, 3) := dk_180 0 47 (dk_at dksX5_isAhead_3 9 rfl rfl)
theorem dX5_isAhead_82 : decode cX5_isAhead 82 = .ok (.iload 5, 2) := dk_21 5 (dk_at dksX5_isAhead_3 12 rfl rfl)
theorem dX5_isAhead_84 : decode cX5_isAhead 84 = .ok (.iaload, 1) := dk_46 (dk_at dksX5_isAhead_3 14 rfl rfl)
theorem dX5_isAhead_85 : decode cX5_isAhead 85 = .ok (.ifCond .le 24, 3) := dk_158 0 24 (dk_at dksX5_isAhead_3 15 rfl rfl)
theorem dX5_isAhead_88 : decode cX5_isAhead 88 = .ok (.aload_n 0, 1) := dk_42 (dk_at dksX5_isAhead_3 18 rfl rfl)
theorem dX5_isAhead_89 : decode cX5_isAhead 89 = .ok (.getfield 50, 3) := dk_180 0 50 (dk_at dksX5_isAhead_3 19 rfl rfl)
theorem dX5_isAhead_92 : decode cX5_isAhead 92 = .ok (.iload 5, 2) := dk_21 5 (dk_at dksX5_isAhead_3 22 rfl rfl)
theorem dX5_isAhead_94 : decode cX5_isAhead 94 = .ok (.iaload, 1) := dk_46 (dk_at dksX5_isAhead_4 0 rfl rfl)
theorem dX5_isAhead_95 : decode cX5_isAhead 95 = .ok (.aload_n 0, 1) := dk_42 (dk_at dksX5_isAhead_4 1 rfl rfl)
theorem dX5_isAhead_96 : decode cX5_isAhead 96 = .ok (.getfield 50, 3) := dk_180 0 50 (dk_at dksX5_isAhead_4 2 rfl rfl)
theorem dX5_isAhead_99 : decode cX5_isAhead 99 = .ok (.iload 6, 2) := dk_21 6 (dk_at dksX5_isAhead_4 5 rfl rfl)
theorem dX5_isAhead_101 : decode cX5_isAhead 101 = .ok (.iaload, 1) := dk_46 (dk_at dksX5_isAhead_4 7 rfl rfl)
theorem dX5_isAhead_102 : decode cX5_isAhead 102 = .ok (.if_icmp .ge 7, 3) := dk_162 0 7 (dk_at dksX5_isAhead_4 8 rfl rfl)
theorem dX5_isAhead_105 : decode cX5_isAhead 105 = .ok (.iconst 1, 1) := dk_4 (dk_at dksX5_isAhead_4 11 rfl rfl)
theorem dX5_isAhead_106 : decode cX5_isAhead 106 = .ok (.goto 4, 3) := dk_167 0 4 (dk_at dksX5_isAhead_4 12 rfl rfl)
theorem dX5_isAhead_109 : decode cX5_isAhead 109 = .ok (.iconst 0, 1) := dk_3 (dk_at dksX5_isAhead_4 15 rfl rfl)
theorem dX5_isAhead_110 : decode cX5_isAhead 110 = .ok (.ireturn, 1) := dk_172 (dk_at dksX5_isAhead_4 16 rfl rfl)
abbrev cX5_write : ByteArray := prog_9_method_35_code
def yX5_write : MethodName := ⟨RX5, "write", "(Z)V"⟩
def dkwX5_write_3 : List UInt8 := [180, 0, 154, 4, 96, 181, 0, 154, 177]
abbrev dktX5_write_3 : List UInt8 := dkwX5_write_3 ++ []
def dkwX5_write_2 : List UInt8 := [132, 3, 255, 167, 255, 214, 27, 154, 0, 4, 177, 42, 180, 0, 41, 42, 180, 0, 154, 16, 32, 79, 42, 89]
abbrev dktX5_write_2 : List UInt8 := dkwX5_write_2 ++ dktX5_write_3
def dkwX5_write_1 : List UInt8 := [180, 0, 50, 28, 46, 96, 79, 42, 89, 180, 0, 154, 4, 96, 181, 0, 154, 42, 180, 0, 53, 28, 46, 61]
abbrev dktX5_write_1 : List UInt8 := dkwX5_write_1 ++ dktX5_write_2
def dkwX5_write_0 : List UInt8 := [3, 61, 42, 180, 0, 47, 3, 46, 62, 29, 158, 0, 44, 42, 180, 0, 41, 42, 180, 0, 154, 16, 97, 42]
abbrev dktX5_write_0 : List UInt8 := dkwX5_write_0 ++ dktX5_write_1
theorem dksX5_write_0 : cX5_write.data.toList.drop 0 = dktX5_write_0 := by decide +kernel
theorem dksX5_write_1 : cX5_write.data.toList.drop 24 = dktX5_write_1 := dk_seg dksX5_write_0 24 rfl rfl
theorem dksX5_write_2 : cX5_write.data.toList.drop 48 = dktX5_write_2 := dk_seg dksX5_write_1 24 rfl rfl
theorem dksX5_write_3 : cX5_write.data.toList.drop 72 = dktX5_write_3 := dk_seg dksX5_write_2 24 rfl rfl
theorem dX5_write_0 : decode cX5_write 0 = .ok (.iconst 0, 1) := dk_3 (dk_at dksX5_write_0 0 rfl rfl)
theorem dX5_write_1 : decode cX5_write 1 = .ok (.istore_n 2, 1) := dk_61 (dk_at dksX5_write_0 1 rfl rfl)
theorem dX5_write_2 : decode cX5_write 2 = .ok (.aload_n 0, 1) := dk_42 (dk_at dksX5_write_0 2 rfl rfl)
theorem dX5_write_3 : decode cX5_write 3 = .ok (.getfield 47, 3) := dk_180 0 47 (dk_at dksX5_write_0 3 rfl rfl)
theorem dX5_write_6 : decode cX5_write 6 = .ok (.iconst 0, 1) := dk_3 (dk_at dksX5_write_0 6 rfl rfl)
theorem dX5_write_7 : decode cX5_write 7 = .ok (.iaload, 1) := dk_46 (dk_at dksX5_write_0 7 rfl rfl)
theorem dX5_write_8 : decode cX5_write 8 = .ok (.istore_n 3, 1) := dk_62 (dk_at dksX5_write_0 8 rfl rfl)
theorem dX5_write_9 : decode cX5_write 9 = .ok (.iload_n 3, 1) := dk_29 (dk_at dksX5_write_0 9 rfl rfl)
theorem dX5_write_10 : decode cX5_write 10 = .ok (.ifCond .le 44, 3) := dk_158 0 44 (dk_at dksX5_write_0 10 rfl rfl)
theorem dX5_write_13 : decode cX5_write 13 = .ok (.aload_n 0, 1) := dk_42 (dk_at dksX5_write_0 13 rfl rfl)
theorem dX5_write_14 : decode cX5_write 14 = .ok (.getfield 41, 3) := dk_180 0 41 (dk_at dksX5_write_0 14 rfl rfl)
theorem dX5_write_17 : decode cX5_write 17 = .ok (.aload_n 0, 1) := dk_42 (dk_at dksX5_write_0 17 rfl rfl)
theorem dX5_write_18 : decode cX5_write 18 = .ok (.getfield 154, 3) := dk_180 0 154 (dk_at dksX5_write_0 18 rfl rfl)
theorem dX5_write_21 : decode cX5_write 21 = .ok (.bipush 97, 2) := dk_16 97 (dk_at dksX5_write_0 21 rfl rfl)
theorem dX5_write_23 : decode cX5_write 23 = .ok (.aload_n 0, 1) := dk_42 (dk_at dksX5_write_0 23 rfl rfl)
theorem dX5_write_24 : decode cX5_write 24 = .ok (.getfield 50, 3) := dk_180 0 50 (dk_at dksX5_write_1 0 rfl rfl)
theorem dX5_write_27 : decode cX5_write 27 = .ok (.iload_n 2, 1) := dk_28 (dk_at dksX5_write_1 3 rfl rfl)
theorem dX5_write_28 : decode cX5_write 28 = .ok (.iaload, 1) := dk_46 (dk_at dksX5_write_1 4 rfl rfl)
theorem dX5_write_29 : decode cX5_write 29 = .ok (.iadd, 1) := dk_96 (dk_at dksX5_write_1 5 rfl rfl)
theorem dX5_write_30 : decode cX5_write 30 = .ok (.iastore, 1) := dk_79 (dk_at dksX5_write_1 6 rfl rfl)
theorem dX5_write_31 : decode cX5_write 31 = .ok (.aload_n 0, 1) := dk_42 (dk_at dksX5_write_1 7 rfl rfl)
theorem dX5_write_32 : decode cX5_write 32 = .ok (.dup, 1) := dk_89 (dk_at dksX5_write_1 8 rfl rfl)
theorem dX5_write_33 : decode cX5_write 33 = .ok (.getfield 154, 3) := dk_180 0 154 (dk_at dksX5_write_1 9 rfl rfl)
theorem dX5_write_36 : decode cX5_write 36 = .ok (.iconst 1, 1) := dk_4 (dk_at dksX5_write_1 12 rfl rfl)
theorem dX5_write_37 : decode cX5_write 37 = .ok (.iadd, 1) := dk_96 (dk_at dksX5_write_1 13 rfl rfl)
theorem dX5_write_38 : decode cX5_write 38 = .ok (.putfield 154, 3) := dk_181 0 154 (dk_at dksX5_write_1 14 rfl rfl)
theorem dX5_write_41 : decode cX5_write 41 = .ok (.aload_n 0, 1) := dk_42 (dk_at dksX5_write_1 17 rfl rfl)
theorem dX5_write_42 : decode cX5_write 42 = .ok (.getfield 53, 3) := dk_180 0 53 (dk_at dksX5_write_1 18 rfl rfl)
theorem dX5_write_45 : decode cX5_write 45 = .ok (.iload_n 2, 1) := dk_28 (dk_at dksX5_write_1 21 rfl rfl)
theorem dX5_write_46 : decode cX5_write 46 = .ok (.iaload, 1) := dk_46 (dk_at dksX5_write_1 22 rfl rfl)
theorem dX5_write_47 : decode cX5_write 47 = .ok (.istore_n 2, 1) := dk_61 (dk_at dksX5_write_1 23 rfl rfl)
theorem dX5_write_48 : decode cX5_write 48 = .ok (.iinc 3 (-1), 3) := dk_132 3 255 (dk_at dksX5_write_2 0 rfl rfl)
theorem dX5_write_51 : decode cX5_write 51 = .ok (.goto (-42), 3) := dk_167 255 214 (dk_at dksX5_write_2 3 rfl rfl)
theorem dX5_write_54 : decode cX5_write 54 = .ok (.iload_n 1, 1) := dk_27 (dk_at dksX5_write_2 6 rfl rfl)
theorem dX5_write_55 : decode cX5_write 55 = .ok (.ifCond .ne 4, 3) := dk_154 0 4 (dk_at dksX5_write_2 7 rfl rfl)
theorem dX5_write_58 : decode cX5_write 58 = .ok (.return_, 1) := dk_177 (dk_at dksX5_write_2 10 rfl rfl)
theorem dX5_write_59 : decode cX5_write 59 = .ok (.aload_n 0, 1) := dk_42 (dk_at dksX5_write_2 11 rfl rfl)
theorem dX5_write_60 : decode cX5_write 60 = .ok (.getfield 41, 3) := dk_180 0 41 (dk_at dksX5_write_2 12 rfl rfl)
theorem dX5_write_63 : decode cX5_write 63 = .ok (.aload_n 0, 1) := dk_42 (dk_at dksX5_write_2 15 rfl rfl)
theorem dX5_write_64 : decode cX5_write 64 = .ok (.getfield 154, 3) := dk_180 0 154 (dk_at dksX5_write_2 16 rfl rfl)
theorem dX5_write_67 : decode cX5_write 67 = .ok (.bipush 32, 2) := dk_16 32 (dk_at dksX5_write_2 19 rfl rfl)
theorem dX5_write_69 : decode cX5_write 69 = .ok (.iastore, 1) := dk_79 (dk_at dksX5_write_2 21 rfl rfl)
theorem dX5_write_70 : decode cX5_write 70 = .ok (.aload_n 0, 1) := dk_42 (dk_at dksX5_write_2 22 rfl rfl)
theorem dX5_write_71 : decode cX5_write 71 = .ok (.dup, 1) := dk_89 (dk_at dksX5_write_2 23 rfl rfl)
theorem dX5_write_72 : decode cX5_write 72 = .ok (.getfield 154, 3) := dk_180 0 154 (dk_at dksX5_write_3 0 rfl rfl)
theorem dX5_write_75 : decode cX5_write 75 = .ok (.iconst 1, 1) := dk_4 (dk_at dksX5_write_3 3 rfl rfl)
theorem dX5_write_76 : decode cX5_write 76 = .ok (.iadd, 1) := dk_96 (dk_at dksX5_write_3 4 rfl rfl)
theorem dX5_write_77 : decode cX5_write 77 = .ok (.putfield 154, 3) := dk_181 0 154 (dk_at dksX5_write_3 5 rfl rfl)
theorem dX5_write_80 : decode cX5_write 80 = .ok (.return_, 1) := dk_177 (dk_at dksX5_write_3 8 rfl rfl)
abbrev cX5_knot : ByteArray := prog_9_method_38_code
def yX5_knot : MethodName := ⟨RX5, "knot", "(II)I"⟩
def dkwX5_knot_2 : List UInt8 := [182, 0, 70, 172]
abbrev dktX5_knot_2 : List UInt8 := dkwX5_knot_2 ++ []
def dkwX5_knot_1 : List UInt8 := [184, 0, 66, 153, 0, 17, 42, 180, 0, 29, 16, 40, 27, 104, 28, 96, 46, 167, 0, 8, 42, 4]
abbrev dktX5_knot_1 : List UInt8 := dkwX5_knot_1 ++ dktX5_knot_2
def dkwX5_knot_0 : List UInt8 := [42, 3, 181, 0, 59, 42, 27, 182, 0, 160, 153, 0, 33, 28, 3, 42, 180, 0, 26, 27, 46, 4, 100]
abbrev dktX5_knot_0 : List UInt8 := dkwX5_knot_0 ++ dktX5_knot_1
theorem dksX5_knot_0 : cX5_knot.data.toList.drop 0 = dktX5_knot_0 := by decide +kernel
theorem dksX5_knot_1 : cX5_knot.data.toList.drop 23 = dktX5_knot_1 := dk_seg dksX5_knot_0 23 rfl rfl
theorem dksX5_knot_2 : cX5_knot.data.toList.drop 45 = dktX5_knot_2 := dk_seg dksX5_knot_1 22 rfl rfl
theorem dX5_knot_0 : decode cX5_knot 0 = .ok (.aload_n 0, 1) := dk_42 (dk_at dksX5_knot_0 0 rfl rfl)
theorem dX5_knot_1 : decode cX5_knot 1 = .ok (.iconst 0, 1) := dk_3 (dk_at dksX5_knot_0 1 rfl rfl)
theorem dX5_knot_2 : decode cX5_knot 2 = .ok (.putfield 59, 3) := dk_181 0 59 (dk_at dksX5_knot_0 2 rfl rfl)
theorem dX5_knot_5 : decode cX5_knot 5 = .ok (.aload_n 0, 1) := dk_42 (dk_at dksX5_knot_0 5 rfl rfl)
theorem dX5_knot_6 : decode cX5_knot 6 = .ok (.iload_n 1, 1) := dk_27 (dk_at dksX5_knot_0 6 rfl rfl)
theorem dX5_knot_7 : decode cX5_knot 7 = .ok (.invokevirtual 160, 3) := dk_182 0 160 (dk_at dksX5_knot_0 7 rfl rfl)
theorem dX5_knot_10 : decode cX5_knot 10 = .ok (.ifCond .eq 33, 3) := dk_153 0 33 (dk_at dksX5_knot_0 10 rfl rfl)
theorem dX5_knot_13 : decode cX5_knot 13 = .ok (.iload_n 2, 1) := dk_28 (dk_at dksX5_knot_0 13 rfl rfl)
theorem dX5_knot_14 : decode cX5_knot 14 = .ok (.iconst 0, 1) := dk_3 (dk_at dksX5_knot_0 14 rfl rfl)
theorem dX5_knot_15 : decode cX5_knot 15 = .ok (.aload_n 0, 1) := dk_42 (dk_at dksX5_knot_0 15 rfl rfl)
theorem dX5_knot_16 : decode cX5_knot 16 = .ok (.getfield 26, 3) := dk_180 0 26 (dk_at dksX5_knot_0 16 rfl rfl)
theorem dX5_knot_19 : decode cX5_knot 19 = .ok (.iload_n 1, 1) := dk_27 (dk_at dksX5_knot_0 19 rfl rfl)
theorem dX5_knot_20 : decode cX5_knot 20 = .ok (.iaload, 1) := dk_46 (dk_at dksX5_knot_0 20 rfl rfl)
theorem dX5_knot_21 : decode cX5_knot 21 = .ok (.iconst 1, 1) := dk_4 (dk_at dksX5_knot_0 21 rfl rfl)
theorem dX5_knot_22 : decode cX5_knot 22 = .ok (.isub, 1) := dk_100 (dk_at dksX5_knot_0 22 rfl rfl)
theorem dX5_knot_23 : decode cX5_knot 23 = .ok (.invokestatic 66, 3) := dk_184 0 66 (dk_at dksX5_knot_1 0 rfl rfl)
theorem dX5_knot_26 : decode cX5_knot 26 = .ok (.ifCond .eq 17, 3) := dk_153 0 17 (dk_at dksX5_knot_1 3 rfl rfl)
theorem dX5_knot_29 : decode cX5_knot 29 = .ok (.aload_n 0, 1) := dk_42 (dk_at dksX5_knot_1 6 rfl rfl)
theorem dX5_knot_30 : decode cX5_knot 30 = .ok (.getfield 29, 3) := dk_180 0 29 (dk_at dksX5_knot_1 7 rfl rfl)
theorem dX5_knot_33 : decode cX5_knot 33 = .ok (.bipush 40, 2) := dk_16 40 (dk_at dksX5_knot_1 10 rfl rfl)
theorem dX5_knot_35 : decode cX5_knot 35 = .ok (.iload_n 1, 1) := dk_27 (dk_at dksX5_knot_1 12 rfl rfl)
theorem dX5_knot_36 : decode cX5_knot 36 = .ok (.imul, 1) := dk_104 (dk_at dksX5_knot_1 13 rfl rfl)
theorem dX5_knot_37 : decode cX5_knot 37 = .ok (.iload_n 2, 1) := dk_28 (dk_at dksX5_knot_1 14 rfl rfl)
theorem dX5_knot_38 : decode cX5_knot 38 = .ok (.iadd, 1) := dk_96 (dk_at dksX5_knot_1 15 rfl rfl)
theorem dX5_knot_39 : decode cX5_knot 39 = .ok (.iaload, 1) := dk_46 (dk_at dksX5_knot_1 16 rfl rfl)
theorem dX5_knot_40 : decode cX5_knot 40 = .ok (.goto 8, 3) := dk_167 0 8 (dk_at dksX5_knot_1 17 rfl rfl)
theorem dX5_knot_43 : decode cX5_knot 43 = .ok (.aload_n 0, 1) := dk_42 (dk_at dksX5_knot_1 20 rfl rfl)
theorem dX5_knot_44 : decode cX5_knot 44 = .ok (.iconst 1, 1) := dk_4 (dk_at dksX5_knot_1 21 rfl rfl)
theorem dX5_knot_45 : decode cX5_knot 45 = .ok (.invokevirtual 70, 3) := dk_182 0 70 (dk_at dksX5_knot_2 0 rfl rfl)
theorem dX5_knot_48 : decode cX5_knot 48 = .ok (.ireturn, 1) := dk_172 (dk_at dksX5_knot_2 3 rfl rfl)
abbrev cX5_retie : ByteArray := prog_9_method_39_code
def yX5_retie : MethodName := ⟨RX5, "retie", "(III)I"⟩
def dkwX5_retie_3 : List UInt8 := [6, 182, 0, 70, 172, 42, 180, 0, 29, 16, 40, 27, 104, 28, 96, 29, 79, 21, 4, 172]
abbrev dktX5_retie_3 : List UInt8 := dkwX5_retie_3 ++ []
def dkwX5_retie_2 : List UInt8 := [182, 0, 70, 172, 42, 180, 0, 29, 16, 40, 27, 104, 28, 96, 46, 54, 4, 21, 4, 8, 160, 0, 9, 42]
abbrev dktX5_retie_2 : List UInt8 := dkwX5_retie_2 ++ dktX5_retie_3
def dkwX5_retie_1 : List UInt8 := [184, 0, 66, 154, 0, 9, 42, 4, 182, 0, 70, 172, 29, 4, 7, 184, 0, 66, 154, 0, 9, 42, 5]
abbrev dktX5_retie_1 : List UInt8 := dkwX5_retie_1 ++ dktX5_retie_2
def dkwX5_retie_0 : List UInt8 := [42, 3, 181, 0, 59, 42, 27, 182, 0, 160, 153, 0, 19, 28, 3, 42, 180, 0, 26, 27, 46, 4, 100]
abbrev dktX5_retie_0 : List UInt8 := dkwX5_retie_0 ++ dktX5_retie_1
theorem dksX5_retie_0 : cX5_retie.data.toList.drop 0 = dktX5_retie_0 := by decide +kernel
theorem dksX5_retie_1 : cX5_retie.data.toList.drop 23 = dktX5_retie_1 := dk_seg dksX5_retie_0 23 rfl rfl
theorem dksX5_retie_2 : cX5_retie.data.toList.drop 46 = dktX5_retie_2 := dk_seg dksX5_retie_1 23 rfl rfl
theorem dksX5_retie_3 : cX5_retie.data.toList.drop 70 = dktX5_retie_3 := dk_seg dksX5_retie_2 24 rfl rfl
theorem dX5_retie_0 : decode cX5_retie 0 = .ok (.aload_n 0, 1) := dk_42 (dk_at dksX5_retie_0 0 rfl rfl)
theorem dX5_retie_1 : decode cX5_retie 1 = .ok (.iconst 0, 1) := dk_3 (dk_at dksX5_retie_0 1 rfl rfl)
theorem dX5_retie_2 : decode cX5_retie 2 = .ok (.putfield 59, 3) := dk_181 0 59 (dk_at dksX5_retie_0 2 rfl rfl)
theorem dX5_retie_5 : decode cX5_retie 5 = .ok (.aload_n 0, 1) := dk_42 (dk_at dksX5_retie_0 5 rfl rfl)
theorem dX5_retie_6 : decode cX5_retie 6 = .ok (.iload_n 1, 1) := dk_27 (dk_at dksX5_retie_0 6 rfl rfl)
theorem dX5_retie_7 : decode cX5_retie 7 = .ok (.invokevirtual 160, 3) := dk_182 0 160 (dk_at dksX5_retie_0 7 rfl rfl)
theorem dX5_retie_10 : decode cX5_retie 10 = .ok (.ifCond .eq 19, 3) := dk_153 0 19 (dk_at dksX5_retie_0 10 rfl rfl)
theorem dX5_retie_13 : decode cX5_retie 13 = .ok (.iload_n 2, 1) := dk_28 (dk_at dksX5_retie_0 13 rfl rfl)
theorem dX5_retie_14 : decode cX5_retie 14 = .ok (.iconst 0, 1) := dk_3 (dk_at dksX5_retie_0 14 rfl rfl)
theorem dX5_retie_15 : decode cX5_retie 15 = .ok (.aload_n 0, 1) := dk_42 (dk_at dksX5_retie_0 15 rfl rfl)
theorem dX5_retie_16 : decode cX5_retie 16 = .ok (.getfield 26, 3) := dk_180 0 26 (dk_at dksX5_retie_0 16 rfl rfl)
theorem dX5_retie_19 : decode cX5_retie 19 = .ok (.iload_n 1, 1) := dk_27 (dk_at dksX5_retie_0 19 rfl rfl)
theorem dX5_retie_20 : decode cX5_retie 20 = .ok (.iaload, 1) := dk_46 (dk_at dksX5_retie_0 20 rfl rfl)
theorem dX5_retie_21 : decode cX5_retie 21 = .ok (.iconst 1, 1) := dk_4 (dk_at dksX5_retie_0 21 rfl rfl)
theorem dX5_retie_22 : decode cX5_retie 22 = .ok (.isub, 1) := dk_100 (dk_at dksX5_retie_0 22 rfl rfl)
theorem dX5_retie_23 : decode cX5_retie 23 = .ok (.invokestatic 66, 3) := dk_184 0 66 (dk_at dksX5_retie_1 0 rfl rfl)
theorem dX5_retie_26 : decode cX5_retie 26 = .ok (.ifCond .ne 9, 3) := dk_154 0 9 (dk_at dksX5_retie_1 3 rfl rfl)
theorem dX5_retie_29 : decode cX5_retie 29 = .ok (.aload_n 0, 1) := dk_42 (dk_at dksX5_retie_1 6 rfl rfl)
theorem dX5_retie_30 : decode cX5_retie 30 = .ok (.iconst 1, 1) := dk_4 (dk_at dksX5_retie_1 7 rfl rfl)
theorem dX5_retie_31 : decode cX5_retie 31 = .ok (.invokevirtual 70, 3) := dk_182 0 70 (dk_at dksX5_retie_1 8 rfl rfl)
theorem dX5_retie_34 : decode cX5_retie 34 = .ok (.ireturn, 1) := dk_172 (dk_at dksX5_retie_1 11 rfl rfl)
theorem dX5_retie_35 : decode cX5_retie 35 = .ok (.iload_n 3, 1) := dk_29 (dk_at dksX5_retie_1 12 rfl rfl)
theorem dX5_retie_36 : decode cX5_retie 36 = .ok (.iconst 1, 1) := dk_4 (dk_at dksX5_retie_1 13 rfl rfl)
theorem dX5_retie_37 : decode cX5_retie 37 = .ok (.iconst 4, 1) := dk_7 (dk_at dksX5_retie_1 14 rfl rfl)
theorem dX5_retie_38 : decode cX5_retie 38 = .ok (.invokestatic 66, 3) := dk_184 0 66 (dk_at dksX5_retie_1 15 rfl rfl)
theorem dX5_retie_41 : decode cX5_retie 41 = .ok (.ifCond .ne 9, 3) := dk_154 0 9 (dk_at dksX5_retie_1 18 rfl rfl)
theorem dX5_retie_44 : decode cX5_retie 44 = .ok (.aload_n 0, 1) := dk_42 (dk_at dksX5_retie_1 21 rfl rfl)
theorem dX5_retie_45 : decode cX5_retie 45 = .ok (.iconst 2, 1) := dk_5 (dk_at dksX5_retie_1 22 rfl rfl)
theorem dX5_retie_46 : decode cX5_retie 46 = .ok (.invokevirtual 70, 3) := dk_182 0 70 (dk_at dksX5_retie_2 0 rfl rfl)
theorem dX5_retie_49 : decode cX5_retie 49 = .ok (.ireturn, 1) := dk_172 (dk_at dksX5_retie_2 3 rfl rfl)
theorem dX5_retie_50 : decode cX5_retie 50 = .ok (.aload_n 0, 1) := dk_42 (dk_at dksX5_retie_2 4 rfl rfl)
theorem dX5_retie_51 : decode cX5_retie 51 = .ok (.getfield 29, 3) := dk_180 0 29 (dk_at dksX5_retie_2 5 rfl rfl)
theorem dX5_retie_54 : decode cX5_retie 54 = .ok (.bipush 40, 2) := dk_16 40 (dk_at dksX5_retie_2 8 rfl rfl)
theorem dX5_retie_56 : decode cX5_retie 56 = .ok (.iload_n 1, 1) := dk_27 (dk_at dksX5_retie_2 10 rfl rfl)
theorem dX5_retie_57 : decode cX5_retie 57 = .ok (.imul, 1) := dk_104 (dk_at dksX5_retie_2 11 rfl rfl)
theorem dX5_retie_58 : decode cX5_retie 58 = .ok (.iload_n 2, 1) := dk_28 (dk_at dksX5_retie_2 12 rfl rfl)
theorem dX5_retie_59 : decode cX5_retie 59 = .ok (.iadd, 1) := dk_96 (dk_at dksX5_retie_2 13 rfl rfl)
theorem dX5_retie_60 : decode cX5_retie 60 = .ok (.iaload, 1) := dk_46 (dk_at dksX5_retie_2 14 rfl rfl)
theorem dX5_retie_61 : decode cX5_retie 61 = .ok (.istore 4, 2) := dk_54 4 (dk_at dksX5_retie_2 15 rfl rfl)
theorem dX5_retie_63 : decode cX5_retie 63 = .ok (.iload 4, 2) := dk_21 4 (dk_at dksX5_retie_2 17 rfl rfl)
theorem dX5_retie_65 : decode cX5_retie 65 = .ok (.iconst 5, 1) := dk_8 (dk_at dksX5_retie_2 19 rfl rfl)
theorem dX5_retie_66 : decode cX5_retie 66 = .ok (.if_icmp .ne 9, 3) := dk_160 0 9 (dk_at dksX5_retie_2 20 rfl rfl)
theorem dX5_retie_69 : decode cX5_retie 69 = .ok (.aload_n 0, 1) := dk_42 (dk_at dksX5_retie_2 23 rfl rfl)
theorem dX5_retie_70 : decode cX5_retie 70 = .ok (.iconst 3, 1) := dk_6 (dk_at dksX5_retie_3 0 rfl rfl)
theorem dX5_retie_71 : decode cX5_retie 71 = .ok (.invokevirtual 70, 3) := dk_182 0 70 (dk_at dksX5_retie_3 1 rfl rfl)
theorem dX5_retie_74 : decode cX5_retie 74 = .ok (.ireturn, 1) := dk_172 (dk_at dksX5_retie_3 4 rfl rfl)
theorem dX5_retie_75 : decode cX5_retie 75 = .ok (.aload_n 0, 1) := dk_42 (dk_at dksX5_retie_3 5 rfl rfl)
theorem dX5_retie_76 : decode cX5_retie 76 = .ok (.getfield 29, 3) := dk_180 0 29 (dk_at dksX5_retie_3 6 rfl rfl)
theorem dX5_retie_79 : decode cX5_retie 79 = .ok (.bipush 40, 2) := dk_16 40 (dk_at dksX5_retie_3 9 rfl rfl)
theorem dX5_retie_81 : decode cX5_retie 81 = .ok (.iload_n 1, 1) := dk_27 (dk_at dksX5_retie_3 11 rfl rfl)
theorem dX5_retie_82 : decode cX5_retie 82 = .ok (.imul, 1) := dk_104 (dk_at dksX5_retie_3 12 rfl rfl)
theorem dX5_retie_83 : decode cX5_retie 83 = .ok (.iload_n 2, 1) := dk_28 (dk_at dksX5_retie_3 13 rfl rfl)
theorem dX5_retie_84 : decode cX5_retie 84 = .ok (.iadd, 1) := dk_96 (dk_at dksX5_retie_3 14 rfl rfl)
theorem dX5_retie_85 : decode cX5_retie 85 = .ok (.iload_n 3, 1) := dk_29 (dk_at dksX5_retie_3 15 rfl rfl)
theorem dX5_retie_86 : decode cX5_retie 86 = .ok (.iastore, 1) := dk_79 (dk_at dksX5_retie_3 16 rfl rfl)
theorem dX5_retie_87 : decode cX5_retie 87 = .ok (.iload 4, 2) := dk_21 4 (dk_at dksX5_retie_3 17 rfl rfl)
theorem dX5_retie_89 : decode cX5_retie 89 = .ok (.ireturn, 1) := dk_172 (dk_at dksX5_retie_3 19 rfl rfl)
abbrev cX5_distance : ByteArray := prog_9_method_41_code
def yX5_distance : MethodName := ⟨RX5, "distance", "(II)I"⟩
def dkwX5_distance_1 : List UInt8 := [182, 0, 166, 167, 0, 8, 42, 4, 182, 0, 70, 172]
abbrev dktX5_distance_1 : List UInt8 := dkwX5_distance_1 ++ []
def dkwX5_distance_0 : List UInt8 := [42, 3, 181, 0, 59, 42, 27, 182, 0, 160, 153, 0, 20, 42, 28, 182, 0, 160, 153, 0, 12, 42, 27, 28]
abbrev dktX5_distance_0 : List UInt8 := dkwX5_distance_0 ++ dktX5_distance_1
theorem dksX5_distance_0 : cX5_distance.data.toList.drop 0 = dktX5_distance_0 := by decide +kernel
theorem dksX5_distance_1 : cX5_distance.data.toList.drop 24 = dktX5_distance_1 := dk_seg dksX5_distance_0 24 rfl rfl
theorem dX5_distance_0 : decode cX5_distance 0 = .ok (.aload_n 0, 1) := dk_42 (dk_at dksX5_distance_0 0 rfl rfl)
theorem dX5_distance_1 : decode cX5_distance 1 = .ok (.iconst 0, 1) := dk_3 (dk_at dksX5_distance_0 1 rfl rfl)
theorem dX5_distance_2 : decode cX5_distance 2 = .ok (.putfield 59, 3) := dk_181 0 59 (dk_at dksX5_distance_0 2 rfl rfl)
theorem dX5_distance_5 : decode cX5_distance 5 = .ok (.aload_n 0, 1) := dk_42 (dk_at dksX5_distance_0 5 rfl rfl)
theorem dX5_distance_6 : decode cX5_distance 6 = .ok (.iload_n 1, 1) := dk_27 (dk_at dksX5_distance_0 6 rfl rfl)
theorem dX5_distance_7 : decode cX5_distance 7 = .ok (.invokevirtual 160, 3) := dk_182 0 160 (dk_at dksX5_distance_0 7 rfl rfl)
theorem dX5_distance_10 : decode cX5_distance 10 = .ok (.ifCond .eq 20, 3) := dk_153 0 20 (dk_at dksX5_distance_0 10 rfl rfl)
theorem dX5_distance_13 : decode cX5_distance 13 = .ok (.aload_n 0, 1) := dk_42 (dk_at dksX5_distance_0 13 rfl rfl)
theorem dX5_distance_14 : decode cX5_distance 14 = .ok (.iload_n 2, 1) := dk_28 (dk_at dksX5_distance_0 14 rfl rfl)
theorem dX5_distance_15 : decode cX5_distance 15 = .ok (.invokevirtual 160, 3) := dk_182 0 160 (dk_at dksX5_distance_0 15 rfl rfl)
theorem dX5_distance_18 : decode cX5_distance 18 = .ok (.ifCond .eq 12, 3) := dk_153 0 12 (dk_at dksX5_distance_0 18 rfl rfl)
theorem dX5_distance_21 : decode cX5_distance 21 = .ok (.aload_n 0, 1) := dk_42 (dk_at dksX5_distance_0 21 rfl rfl)
theorem dX5_distance_22 : decode cX5_distance 22 = .ok (.iload_n 1, 1) := dk_27 (dk_at dksX5_distance_0 22 rfl rfl)
theorem dX5_distance_23 : decode cX5_distance 23 = .ok (.iload_n 2, 1) := dk_28 (dk_at dksX5_distance_0 23 rfl rfl)
theorem dX5_distance_24 : decode cX5_distance 24 = .ok (.invokevirtual 166, 3) := dk_182 0 166 (dk_at dksX5_distance_1 0 rfl rfl)
theorem dX5_distance_27 : decode cX5_distance 27 = .ok (.goto 8, 3) := dk_167 0 8 (dk_at dksX5_distance_1 3 rfl rfl)
theorem dX5_distance_30 : decode cX5_distance 30 = .ok (.aload_n 0, 1) := dk_42 (dk_at dksX5_distance_1 6 rfl rfl)
theorem dX5_distance_31 : decode cX5_distance 31 = .ok (.iconst 1, 1) := dk_4 (dk_at dksX5_distance_1 7 rfl rfl)
theorem dX5_distance_32 : decode cX5_distance 32 = .ok (.invokevirtual 70, 3) := dk_182 0 70 (dk_at dksX5_distance_1 8 rfl rfl)
theorem dX5_distance_35 : decode cX5_distance 35 = .ok (.ireturn, 1) := dk_172 (dk_at dksX5_distance_1 11 rfl rfl)
abbrev cX5_between : ByteArray := prog_9_method_40_code
def yX5_between : MethodName := ⟨RX5, "between", "(II)I"⟩
def dkwX5_between_13 : List UInt8 := [27, 46, 29, 104, 29, 96, 4, 100, 46, 172]
abbrev dktX5_between_13 : List UInt8 := dkwX5_between_13 ++ []
def dkwX5_between_12 : List UInt8 := [21, 6, 96, 21, 9, 79, 132, 6, 1, 167, 255, 8, 132, 5, 1, 167, 254, 244, 25, 4, 42, 180, 0, 26]
abbrev dktX5_between_12 : List UInt8 := dkwX5_between_12 ++ dktX5_between_13
def dkwX5_between_11 : List UInt8 := [42, 180, 0, 16, 8, 21, 7, 104, 21, 8, 96, 46, 96, 184, 0, 85, 54, 9, 25, 4, 21, 5, 29, 104]
abbrev dktX5_between_11 : List UInt8 := dkwX5_between_11 ++ dktX5_between_12
def dkwX5_between_10 : List UInt8 := [25, 4, 21, 5, 4, 100, 29, 104, 21, 6, 96, 4, 100, 46, 21, 7, 8, 160, 0, 7, 3, 167, 0, 15]
abbrev dktX5_between_10 : List UInt8 := dkwX5_between_10 ++ dktX5_between_11
def dkwX5_between_9 : List UInt8 := [160, 0, 7, 4, 167, 0, 4, 3, 21, 8, 8, 160, 0, 7, 4, 167, 0, 4, 3, 160, 0, 47, 21, 9]
abbrev dktX5_between_9 : List UInt8 := dkwX5_between_9 ++ dktX5_between_10
def dkwX5_between_8 : List UInt8 := [180, 0, 23, 96, 184, 0, 85, 54, 9, 21, 5, 158, 0, 77, 21, 6, 158, 0, 72, 21, 7, 8]
abbrev dktX5_between_8 : List UInt8 := dkwX5_between_8 ++ dktX5_between_9
def dkwX5_between_7 : List UInt8 := [21, 5, 29, 104, 21, 6, 96, 4, 100, 46, 21, 8, 8, 160, 0, 8, 16, 9, 167, 0, 7, 42]
abbrev dktX5_between_7 : List UInt8 := dkwX5_between_7 ++ dktX5_between_8
def dkwX5_between_6 : List UInt8 := [16, 9, 167, 0, 7, 42, 180, 0, 19, 96, 184, 0, 85, 54, 9, 21, 6, 158, 0, 38, 21, 9, 25, 4]
abbrev dktX5_between_6 : List UInt8 := dkwX5_between_6 ++ dktX5_between_7
def dkwX5_between_5 : List UInt8 := [158, 0, 38, 21, 9, 25, 4, 21, 5, 4, 100, 29, 104, 21, 6, 96, 46, 21, 7, 8, 160, 0, 8]
abbrev dktX5_between_5 : List UInt8 := dkwX5_between_5 ++ dktX5_between_6
def dkwX5_between_4 : List UInt8 := [54, 8, 21, 5, 154, 0, 12, 21, 6, 154, 0, 7, 3, 167, 0, 5, 18, 97, 54, 9, 21, 5]
abbrev dktX5_between_4 : List UInt8 := dkwX5_between_4 ++ dktX5_between_5
def dkwX5_between_3 : List UInt8 := [21, 6, 154, 0, 7, 3, 167, 0, 17, 42, 180, 0, 29, 16, 40, 28, 104, 21, 6, 96, 4, 100, 46]
abbrev dktX5_between_3 : List UInt8 := dkwX5_between_3 ++ dktX5_between_4
def dkwX5_between_2 : List UInt8 := [154, 0, 7, 3, 167, 0, 17, 42, 180, 0, 29, 16, 40, 27, 104, 21, 5, 96, 4, 100, 46, 54, 7]
abbrev dktX5_between_2 : List UInt8 := dkwX5_between_2 ++ dktX5_between_3
def dkwX5_between_1 : List UInt8 := [54, 5, 21, 5, 42, 180, 0, 26, 27, 46, 163, 1, 7, 3, 54, 6, 21, 6, 29, 162, 0, 248, 21, 5]
abbrev dktX5_between_1 : List UInt8 := dkwX5_between_1 ++ dktX5_between_2
def dkwX5_between_0 : List UInt8 := [42, 180, 0, 26, 28, 46, 4, 96, 62, 42, 180, 0, 26, 27, 46, 4, 96, 29, 104, 188, 10, 58, 4, 3]
abbrev dktX5_between_0 : List UInt8 := dkwX5_between_0 ++ dktX5_between_1
theorem dksX5_between_0 : cX5_between.data.toList.drop 0 = dktX5_between_0 := by decide +kernel
theorem dksX5_between_1 : cX5_between.data.toList.drop 24 = dktX5_between_1 := dk_seg dksX5_between_0 24 rfl rfl
theorem dksX5_between_2 : cX5_between.data.toList.drop 48 = dktX5_between_2 := dk_seg dksX5_between_1 24 rfl rfl
theorem dksX5_between_3 : cX5_between.data.toList.drop 71 = dktX5_between_3 := dk_seg dksX5_between_2 23 rfl rfl
theorem dksX5_between_4 : cX5_between.data.toList.drop 94 = dktX5_between_4 := dk_seg dksX5_between_3 23 rfl rfl
theorem dksX5_between_5 : cX5_between.data.toList.drop 116 = dktX5_between_5 := dk_seg dksX5_between_4 22 rfl rfl
theorem dksX5_between_6 : cX5_between.data.toList.drop 139 = dktX5_between_6 := dk_seg dksX5_between_5 23 rfl rfl
theorem dksX5_between_7 : cX5_between.data.toList.drop 163 = dktX5_between_7 := dk_seg dksX5_between_6 24 rfl rfl
theorem dksX5_between_8 : cX5_between.data.toList.drop 185 = dktX5_between_8 := dk_seg dksX5_between_7 22 rfl rfl
theorem dksX5_between_9 : cX5_between.data.toList.drop 207 = dktX5_between_9 := dk_seg dksX5_between_8 22 rfl rfl
theorem dksX5_between_10 : cX5_between.data.toList.drop 231 = dktX5_between_10 := dk_seg dksX5_between_9 24 rfl rfl
theorem dksX5_between_11 : cX5_between.data.toList.drop 255 = dktX5_between_11 := dk_seg dksX5_between_10 24 rfl rfl
theorem dksX5_between_12 : cX5_between.data.toList.drop 279 = dktX5_between_12 := dk_seg dksX5_between_11 24 rfl rfl
theorem dksX5_between_13 : cX5_between.data.toList.drop 303 = dktX5_between_13 := dk_seg dksX5_between_12 24 rfl rfl
theorem dX5_between_0 : decode cX5_between 0 = .ok (.aload_n 0, 1) := dk_42 (dk_at dksX5_between_0 0 rfl rfl)
theorem dX5_between_1 : decode cX5_between 1 = .ok (.getfield 26, 3) := dk_180 0 26 (dk_at dksX5_between_0 1 rfl rfl)
theorem dX5_between_4 : decode cX5_between 4 = .ok (.iload_n 2, 1) := dk_28 (dk_at dksX5_between_0 4 rfl rfl)
theorem dX5_between_5 : decode cX5_between 5 = .ok (.iaload, 1) := dk_46 (dk_at dksX5_between_0 5 rfl rfl)
theorem dX5_between_6 : decode cX5_between 6 = .ok (.iconst 1, 1) := dk_4 (dk_at dksX5_between_0 6 rfl rfl)
theorem dX5_between_7 : decode cX5_between 7 = .ok (.iadd, 1) := dk_96 (dk_at dksX5_between_0 7 rfl rfl)
theorem dX5_between_8 : decode cX5_between 8 = .ok (.istore_n 3, 1) := dk_62 (dk_at dksX5_between_0 8 rfl rfl)
theorem dX5_between_9 : decode cX5_between 9 = .ok (.aload_n 0, 1) := dk_42 (dk_at dksX5_between_0 9 rfl rfl)
theorem dX5_between_10 : decode cX5_between 10 = .ok (.getfield 26, 3) := dk_180 0 26 (dk_at dksX5_between_0 10 rfl rfl)
theorem dX5_between_13 : decode cX5_between 13 = .ok (.iload_n 1, 1) := dk_27 (dk_at dksX5_between_0 13 rfl rfl)
theorem dX5_between_14 : decode cX5_between 14 = .ok (.iaload, 1) := dk_46 (dk_at dksX5_between_0 14 rfl rfl)
theorem dX5_between_15 : decode cX5_between 15 = .ok (.iconst 1, 1) := dk_4 (dk_at dksX5_between_0 15 rfl rfl)
theorem dX5_between_16 : decode cX5_between 16 = .ok (.iadd, 1) := dk_96 (dk_at dksX5_between_0 16 rfl rfl)
theorem dX5_between_17 : decode cX5_between 17 = .ok (.iload_n 3, 1) := dk_29 (dk_at dksX5_between_0 17 rfl rfl)
theorem dX5_between_18 : decode cX5_between 18 = .ok (.imul, 1) := dk_104 (dk_at dksX5_between_0 18 rfl rfl)
theorem dX5_between_19 : decode cX5_between 19 = .ok (.newarray .int, 2) := dk_188_10 (dk_at dksX5_between_0 19 rfl rfl)
theorem dX5_between_21 : decode cX5_between 21 = .ok (.astore 4, 2) := dk_58 4 (dk_at dksX5_between_0 21 rfl rfl)
theorem dX5_between_23 : decode cX5_between 23 = .ok (.iconst 0, 1) := dk_3 (dk_at dksX5_between_0 23 rfl rfl)
theorem dX5_between_24 : decode cX5_between 24 = .ok (.istore 5, 2) := dk_54 5 (dk_at dksX5_between_1 0 rfl rfl)
theorem dX5_between_26 : decode cX5_between 26 = .ok (.iload 5, 2) := dk_21 5 (dk_at dksX5_between_1 2 rfl rfl)
theorem dX5_between_28 : decode cX5_between 28 = .ok (.aload_n 0, 1) := dk_42 (dk_at dksX5_between_1 4 rfl rfl)
theorem dX5_between_29 : decode cX5_between 29 = .ok (.getfield 26, 3) := dk_180 0 26 (dk_at dksX5_between_1 5 rfl rfl)
theorem dX5_between_32 : decode cX5_between 32 = .ok (.iload_n 1, 1) := dk_27 (dk_at dksX5_between_1 8 rfl rfl)
theorem dX5_between_33 : decode cX5_between 33 = .ok (.iaload, 1) := dk_46 (dk_at dksX5_between_1 9 rfl rfl)
theorem dX5_between_34 : decode cX5_between 34 = .ok (.if_icmp .gt 263, 3) := dk_163 1 7 (dk_at dksX5_between_1 10 rfl rfl)
theorem dX5_between_37 : decode cX5_between 37 = .ok (.iconst 0, 1) := dk_3 (dk_at dksX5_between_1 13 rfl rfl)
theorem dX5_between_38 : decode cX5_between 38 = .ok (.istore 6, 2) := dk_54 6 (dk_at dksX5_between_1 14 rfl rfl)
theorem dX5_between_40 : decode cX5_between 40 = .ok (.iload 6, 2) := dk_21 6 (dk_at dksX5_between_1 16 rfl rfl)
theorem dX5_between_42 : decode cX5_between 42 = .ok (.iload_n 3, 1) := dk_29 (dk_at dksX5_between_1 18 rfl rfl)
theorem dX5_between_43 : decode cX5_between 43 = .ok (.if_icmp .ge 248, 3) := dk_162 0 248 (dk_at dksX5_between_1 19 rfl rfl)
theorem dX5_between_46 : decode cX5_between 46 = .ok (.iload 5, 2) := dk_21 5 (dk_at dksX5_between_1 22 rfl rfl)
theorem dX5_between_48 : decode cX5_between 48 = .ok (.ifCond .ne 7, 3) := dk_154 0 7 (dk_at dksX5_between_2 0 rfl rfl)
theorem dX5_between_51 : decode cX5_between 51 = .ok (.iconst 0, 1) := dk_3 (dk_at dksX5_between_2 3 rfl rfl)
theorem dX5_between_52 : decode cX5_between 52 = .ok (.goto 17, 3) := dk_167 0 17 (dk_at dksX5_between_2 4 rfl rfl)
theorem dX5_between_55 : decode cX5_between 55 = .ok (.aload_n 0, 1) := dk_42 (dk_at dksX5_between_2 7 rfl rfl)
theorem dX5_between_56 : decode cX5_between 56 = .ok (.getfield 29, 3) := dk_180 0 29 (dk_at dksX5_between_2 8 rfl rfl)
theorem dX5_between_59 : decode cX5_between 59 = .ok (.bipush 40, 2) := dk_16 40 (dk_at dksX5_between_2 11 rfl rfl)
theorem dX5_between_61 : decode cX5_between 61 = .ok (.iload_n 1, 1) := dk_27 (dk_at dksX5_between_2 13 rfl rfl)
theorem dX5_between_62 : decode cX5_between 62 = .ok (.imul, 1) := dk_104 (dk_at dksX5_between_2 14 rfl rfl)
theorem dX5_between_63 : decode cX5_between 63 = .ok (.iload 5, 2) := dk_21 5 (dk_at dksX5_between_2 15 rfl rfl)
theorem dX5_between_65 : decode cX5_between 65 = .ok (.iadd, 1) := dk_96 (dk_at dksX5_between_2 17 rfl rfl)
theorem dX5_between_66 : decode cX5_between 66 = .ok (.iconst 1, 1) := dk_4 (dk_at dksX5_between_2 18 rfl rfl)
theorem dX5_between_67 : decode cX5_between 67 = .ok (.isub, 1) := dk_100 (dk_at dksX5_between_2 19 rfl rfl)
theorem dX5_between_68 : decode cX5_between 68 = .ok (.iaload, 1) := dk_46 (dk_at dksX5_between_2 20 rfl rfl)
theorem dX5_between_69 : decode cX5_between 69 = .ok (.istore 7, 2) := dk_54 7 (dk_at dksX5_between_2 21 rfl rfl)
theorem dX5_between_71 : decode cX5_between 71 = .ok (.iload 6, 2) := dk_21 6 (dk_at dksX5_between_3 0 rfl rfl)
theorem dX5_between_73 : decode cX5_between 73 = .ok (.ifCond .ne 7, 3) := dk_154 0 7 (dk_at dksX5_between_3 2 rfl rfl)
theorem dX5_between_76 : decode cX5_between 76 = .ok (.iconst 0, 1) := dk_3 (dk_at dksX5_between_3 5 rfl rfl)
theorem dX5_between_77 : decode cX5_between 77 = .ok (.goto 17, 3) := dk_167 0 17 (dk_at dksX5_between_3 6 rfl rfl)
theorem dX5_between_80 : decode cX5_between 80 = .ok (.aload_n 0, 1) := dk_42 (dk_at dksX5_between_3 9 rfl rfl)
theorem dX5_between_81 : decode cX5_between 81 = .ok (.getfield 29, 3) := dk_180 0 29 (dk_at dksX5_between_3 10 rfl rfl)
theorem dX5_between_84 : decode cX5_between 84 = .ok (.bipush 40, 2) := dk_16 40 (dk_at dksX5_between_3 13 rfl rfl)
theorem dX5_between_86 : decode cX5_between 86 = .ok (.iload_n 2, 1) := dk_28 (dk_at dksX5_between_3 15 rfl rfl)
theorem dX5_between_87 : decode cX5_between 87 = .ok (.imul, 1) := dk_104 (dk_at dksX5_between_3 16 rfl rfl)
theorem dX5_between_88 : decode cX5_between 88 = .ok (.iload 6, 2) := dk_21 6 (dk_at dksX5_between_3 17 rfl rfl)
theorem dX5_between_90 : decode cX5_between 90 = .ok (.iadd, 1) := dk_96 (dk_at dksX5_between_3 19 rfl rfl)
theorem dX5_between_91 : decode cX5_between 91 = .ok (.iconst 1, 1) := dk_4 (dk_at dksX5_between_3 20 rfl rfl)
theorem dX5_between_92 : decode cX5_between 92 = .ok (.isub, 1) := dk_100 (dk_at dksX5_between_3 21 rfl rfl)
theorem dX5_between_93 : decode cX5_between 93 = .ok (.iaload, 1) := dk_46 (dk_at dksX5_between_3 22 rfl rfl)
theorem dX5_between_94 : decode cX5_between 94 = .ok (.istore 8, 2) := dk_54 8 (dk_at dksX5_between_4 0 rfl rfl)
theorem dX5_between_96 : decode cX5_between 96 = .ok (.iload 5, 2) := dk_21 5 (dk_at dksX5_between_4 2 rfl rfl)
theorem dX5_between_98 : decode cX5_between 98 = .ok (.ifCond .ne 12, 3) := dk_154 0 12 (dk_at dksX5_between_4 4 rfl rfl)
theorem dX5_between_101 : decode cX5_between 101 = .ok (.iload 6, 2) := dk_21 6 (dk_at dksX5_between_4 7 rfl rfl)
theorem dX5_between_103 : decode cX5_between 103 = .ok (.ifCond .ne 7, 3) := dk_154 0 7 (dk_at dksX5_between_4 9 rfl rfl)
theorem dX5_between_106 : decode cX5_between 106 = .ok (.iconst 0, 1) := dk_3 (dk_at dksX5_between_4 12 rfl rfl)
theorem dX5_between_107 : decode cX5_between 107 = .ok (.goto 5, 3) := dk_167 0 5 (dk_at dksX5_between_4 13 rfl rfl)
theorem dX5_between_110 : decode cX5_between 110 = .ok (.ldc 97, 2) := dk_18 97 (dk_at dksX5_between_4 16 rfl rfl)
theorem dX5_between_112 : decode cX5_between 112 = .ok (.istore 9, 2) := dk_54 9 (dk_at dksX5_between_4 18 rfl rfl)
theorem dX5_between_114 : decode cX5_between 114 = .ok (.iload 5, 2) := dk_21 5 (dk_at dksX5_between_4 20 rfl rfl)
theorem dX5_between_116 : decode cX5_between 116 = .ok (.ifCond .le 38, 3) := dk_158 0 38 (dk_at dksX5_between_5 0 rfl rfl)
theorem dX5_between_119 : decode cX5_between 119 = .ok (.iload 9, 2) := dk_21 9 (dk_at dksX5_between_5 3 rfl rfl)
theorem dX5_between_121 : decode cX5_between 121 = .ok (.aload 4, 2) := dk_25 4 (dk_at dksX5_between_5 5 rfl rfl)
theorem dX5_between_123 : decode cX5_between 123 = .ok (.iload 5, 2) := dk_21 5 (dk_at dksX5_between_5 7 rfl rfl)
theorem dX5_between_125 : decode cX5_between 125 = .ok (.iconst 1, 1) := dk_4 (dk_at dksX5_between_5 9 rfl rfl)
theorem dX5_between_126 : decode cX5_between 126 = .ok (.isub, 1) := dk_100 (dk_at dksX5_between_5 10 rfl rfl)
theorem dX5_between_127 : decode cX5_between 127 = .ok (.iload_n 3, 1) := dk_29 (dk_at dksX5_between_5 11 rfl rfl)
theorem dX5_between_128 : decode cX5_between 128 = .ok (.imul, 1) := dk_104 (dk_at dksX5_between_5 12 rfl rfl)
theorem dX5_between_129 : decode cX5_between 129 = .ok (.iload 6, 2) := dk_21 6 (dk_at dksX5_between_5 13 rfl rfl)
theorem dX5_between_131 : decode cX5_between 131 = .ok (.iadd, 1) := dk_96 (dk_at dksX5_between_5 15 rfl rfl)
theorem dX5_between_132 : decode cX5_between 132 = .ok (.iaload, 1) := dk_46 (dk_at dksX5_between_5 16 rfl rfl)
theorem dX5_between_133 : decode cX5_between 133 = .ok (.iload 7, 2) := dk_21 7 (dk_at dksX5_between_5 17 rfl rfl)
theorem dX5_between_135 : decode cX5_between 135 = .ok (.iconst 5, 1) := dk_8 (dk_at dksX5_between_5 19 rfl rfl)
theorem dX5_between_136 : decode cX5_between 136 = .ok (.if_icmp .ne 8, 3) := dk_160 0 8 (dk_at dksX5_between_5 20 rfl rfl)
theorem dX5_between_139 : decode cX5_between 139 = .ok (.bipush 9, 2) := dk_16 9 (dk_at dksX5_between_6 0 rfl rfl)
theorem dX5_between_141 : decode cX5_between 141 = .ok (.goto 7, 3) := dk_167 0 7 (dk_at dksX5_between_6 2 rfl rfl)
theorem dX5_between_144 : decode cX5_between 144 = .ok (.aload_n 0, 1) := dk_42 (dk_at dksX5_between_6 5 rfl rfl)
theorem dX5_between_145 : decode cX5_between 145 = .ok (.getfield 19, 3) := dk_180 0 19 (dk_at dksX5_between_6 6 rfl rfl)
theorem dX5_between_148 : decode cX5_between 148 = .ok (.iadd, 1) := dk_96 (dk_at dksX5_between_6 9 rfl rfl)
theorem dX5_between_149 : decode cX5_between 149 = .ok (.invokestatic 85, 3) := dk_184 0 85 (dk_at dksX5_between_6 10 rfl rfl)
theorem dX5_between_152 : decode cX5_between 152 = .ok (.istore 9, 2) := dk_54 9 (dk_at dksX5_between_6 13 rfl rfl)
theorem dX5_between_154 : decode cX5_between 154 = .ok (.iload 6, 2) := dk_21 6 (dk_at dksX5_between_6 15 rfl rfl)
theorem dX5_between_156 : decode cX5_between 156 = .ok (.ifCond .le 38, 3) := dk_158 0 38 (dk_at dksX5_between_6 17 rfl rfl)
theorem dX5_between_159 : decode cX5_between 159 = .ok (.iload 9, 2) := dk_21 9 (dk_at dksX5_between_6 20 rfl rfl)
theorem dX5_between_161 : decode cX5_between 161 = .ok (.aload 4, 2) := dk_25 4 (dk_at dksX5_between_6 22 rfl rfl)
theorem dX5_between_163 : decode cX5_between 163 = .ok (.iload 5, 2) := dk_21 5 (dk_at dksX5_between_7 0 rfl rfl)
theorem dX5_between_165 : decode cX5_between 165 = .ok (.iload_n 3, 1) := dk_29 (dk_at dksX5_between_7 2 rfl rfl)
theorem dX5_between_166 : decode cX5_between 166 = .ok (.imul, 1) := dk_104 (dk_at dksX5_between_7 3 rfl rfl)
theorem dX5_between_167 : decode cX5_between 167 = .ok (.iload 6, 2) := dk_21 6 (dk_at dksX5_between_7 4 rfl rfl)
theorem dX5_between_169 : decode cX5_between 169 = .ok (.iadd, 1) := dk_96 (dk_at dksX5_between_7 6 rfl rfl)
theorem dX5_between_170 : decode cX5_between 170 = .ok (.iconst 1, 1) := dk_4 (dk_at dksX5_between_7 7 rfl rfl)
theorem dX5_between_171 : decode cX5_between 171 = .ok (.isub, 1) := dk_100 (dk_at dksX5_between_7 8 rfl rfl)
theorem dX5_between_172 : decode cX5_between 172 = .ok (.iaload, 1) := dk_46 (dk_at dksX5_between_7 9 rfl rfl)
theorem dX5_between_173 : decode cX5_between 173 = .ok (.iload 8, 2) := dk_21 8 (dk_at dksX5_between_7 10 rfl rfl)
theorem dX5_between_175 : decode cX5_between 175 = .ok (.iconst 5, 1) := dk_8 (dk_at dksX5_between_7 12 rfl rfl)
theorem dX5_between_176 : decode cX5_between 176 = .ok (.if_icmp .ne 8, 3) := dk_160 0 8 (dk_at dksX5_between_7 13 rfl rfl)
theorem dX5_between_179 : decode cX5_between 179 = .ok (.bipush 9, 2) := dk_16 9 (dk_at dksX5_between_7 16 rfl rfl)
theorem dX5_between_181 : decode cX5_between 181 = .ok (.goto 7, 3) := dk_167 0 7 (dk_at dksX5_between_7 18 rfl rfl)
theorem dX5_between_184 : decode cX5_between 184 = .ok (.aload_n 0, 1) := dk_42 (dk_at dksX5_between_7 21 rfl rfl)
theorem dX5_between_185 : decode cX5_between 185 = .ok (.getfield 23, 3) := dk_180 0 23 (dk_at dksX5_between_8 0 rfl rfl)
theorem dX5_between_188 : decode cX5_between 188 = .ok (.iadd, 1) := dk_96 (dk_at dksX5_between_8 3 rfl rfl)
theorem dX5_between_189 : decode cX5_between 189 = .ok (.invokestatic 85, 3) := dk_184 0 85 (dk_at dksX5_between_8 4 rfl rfl)
theorem dX5_between_192 : decode cX5_between 192 = .ok (.istore 9, 2) := dk_54 9 (dk_at dksX5_between_8 7 rfl rfl)
theorem dX5_between_194 : decode cX5_between 194 = .ok (.iload 5, 2) := dk_21 5 (dk_at dksX5_between_8 9 rfl rfl)
theorem dX5_between_196 : decode cX5_between 196 = .ok (.ifCond .le 77, 3) := dk_158 0 77 (dk_at dksX5_between_8 11 rfl rfl)
theorem dX5_between_199 : decode cX5_between 199 = .ok (.iload 6, 2) := dk_21 6 (dk_at dksX5_between_8 14 rfl rfl)
theorem dX5_between_201 : decode cX5_between 201 = .ok (.ifCond .le 72, 3) := dk_158 0 72 (dk_at dksX5_between_8 16 rfl rfl)
theorem dX5_between_204 : decode cX5_between 204 = .ok (.iload 7, 2) := dk_21 7 (dk_at dksX5_between_8 19 rfl rfl)
theorem dX5_between_206 : decode cX5_between 206 = .ok (.iconst 5, 1) := dk_8 (dk_at dksX5_between_8 21 rfl rfl)
theorem dX5_between_207 : decode cX5_between 207 = .ok (.if_icmp .ne 7, 3) := dk_160 0 7 (dk_at dksX5_between_9 0 rfl rfl)
theorem dX5_between_210 : decode cX5_between 210 = .ok (.iconst 1, 1) := dk_4 (dk_at dksX5_between_9 3 rfl rfl)
theorem dX5_between_211 : decode cX5_between 211 = .ok (.goto 4, 3) := dk_167 0 4 (dk_at dksX5_between_9 4 rfl rfl)
theorem dX5_between_214 : decode cX5_between 214 = .ok (.iconst 0, 1) := dk_3 (dk_at dksX5_between_9 7 rfl rfl)
theorem dX5_between_215 : decode cX5_between 215 = .ok (.iload 8, 2) := dk_21 8 (dk_at dksX5_between_9 8 rfl rfl)
theorem dX5_between_217 : decode cX5_between 217 = .ok (.iconst 5, 1) := dk_8 (dk_at dksX5_between_9 10 rfl rfl)
theorem dX5_between_218 : decode cX5_between 218 = .ok (.if_icmp .ne 7, 3) := dk_160 0 7 (dk_at dksX5_between_9 11 rfl rfl)
theorem dX5_between_221 : decode cX5_between 221 = .ok (.iconst 1, 1) := dk_4 (dk_at dksX5_between_9 14 rfl rfl)
theorem dX5_between_222 : decode cX5_between 222 = .ok (.goto 4, 3) := dk_167 0 4 (dk_at dksX5_between_9 15 rfl rfl)
theorem dX5_between_225 : decode cX5_between 225 = .ok (.iconst 0, 1) := dk_3 (dk_at dksX5_between_9 18 rfl rfl)
theorem dX5_between_226 : decode cX5_between 226 = .ok (.if_icmp .ne 47, 3) := dk_160 0 47 (dk_at dksX5_between_9 19 rfl rfl)
theorem dX5_between_229 : decode cX5_between 229 = .ok (.iload 9, 2) := dk_21 9 (dk_at dksX5_between_9 22 rfl rfl)
theorem dX5_between_231 : decode cX5_between 231 = .ok (.aload 4, 2) := dk_25 4 (dk_at dksX5_between_10 0 rfl rfl)
theorem dX5_between_233 : decode cX5_between 233 = .ok (.iload 5, 2) := dk_21 5 (dk_at dksX5_between_10 2 rfl rfl)
theorem dX5_between_235 : decode cX5_between 235 = .ok (.iconst 1, 1) := dk_4 (dk_at dksX5_between_10 4 rfl rfl)
theorem dX5_between_236 : decode cX5_between 236 = .ok (.isub, 1) := dk_100 (dk_at dksX5_between_10 5 rfl rfl)
theorem dX5_between_237 : decode cX5_between 237 = .ok (.iload_n 3, 1) := dk_29 (dk_at dksX5_between_10 6 rfl rfl)
theorem dX5_between_238 : decode cX5_between 238 = .ok (.imul, 1) := dk_104 (dk_at dksX5_between_10 7 rfl rfl)
theorem dX5_between_239 : decode cX5_between 239 = .ok (.iload 6, 2) := dk_21 6 (dk_at dksX5_between_10 8 rfl rfl)
theorem dX5_between_241 : decode cX5_between 241 = .ok (.iadd, 1) := dk_96 (dk_at dksX5_between_10 10 rfl rfl)
theorem dX5_between_242 : decode cX5_between 242 = .ok (.iconst 1, 1) := dk_4 (dk_at dksX5_between_10 11 rfl rfl)
theorem dX5_between_243 : decode cX5_between 243 = .ok (.isub, 1) := dk_100 (dk_at dksX5_between_10 12 rfl rfl)
theorem dX5_between_244 : decode cX5_between 244 = .ok (.iaload, 1) := dk_46 (dk_at dksX5_between_10 13 rfl rfl)
theorem dX5_between_245 : decode cX5_between 245 = .ok (.iload 7, 2) := dk_21 7 (dk_at dksX5_between_10 14 rfl rfl)
theorem dX5_between_247 : decode cX5_between 247 = .ok (.iconst 5, 1) := dk_8 (dk_at dksX5_between_10 16 rfl rfl)
theorem dX5_between_248 : decode cX5_between 248 = .ok (.if_icmp .ne 7, 3) := dk_160 0 7 (dk_at dksX5_between_10 17 rfl rfl)
theorem dX5_between_251 : decode cX5_between 251 = .ok (.iconst 0, 1) := dk_3 (dk_at dksX5_between_10 20 rfl rfl)
theorem dX5_between_252 : decode cX5_between 252 = .ok (.goto 15, 3) := dk_167 0 15 (dk_at dksX5_between_10 21 rfl rfl)
theorem dX5_between_255 : decode cX5_between 255 = .ok (.aload_n 0, 1) := dk_42 (dk_at dksX5_between_11 0 rfl rfl)
theorem dX5_between_256 : decode cX5_between 256 = .ok (.getfield 16, 3) := dk_180 0 16 (dk_at dksX5_between_11 1 rfl rfl)
theorem dX5_between_259 : decode cX5_between 259 = .ok (.iconst 5, 1) := dk_8 (dk_at dksX5_between_11 4 rfl rfl)
theorem dX5_between_260 : decode cX5_between 260 = .ok (.iload 7, 2) := dk_21 7 (dk_at dksX5_between_11 5 rfl rfl)
theorem dX5_between_262 : decode cX5_between 262 = .ok (.imul, 1) := dk_104 (dk_at dksX5_between_11 7 rfl rfl)
theorem dX5_between_263 : decode cX5_between 263 = .ok (.iload 8, 2) := dk_21 8 (dk_at dksX5_between_11 8 rfl rfl)
theorem dX5_between_265 : decode cX5_between 265 = .ok (.iadd, 1) := dk_96 (dk_at dksX5_between_11 10 rfl rfl)
theorem dX5_between_266 : decode cX5_between 266 = .ok (.iaload, 1) := dk_46 (dk_at dksX5_between_11 11 rfl rfl)
theorem dX5_between_267 : decode cX5_between 267 = .ok (.iadd, 1) := dk_96 (dk_at dksX5_between_11 12 rfl rfl)
theorem dX5_between_268 : decode cX5_between 268 = .ok (.invokestatic 85, 3) := dk_184 0 85 (dk_at dksX5_between_11 13 rfl rfl)
theorem dX5_between_271 : decode cX5_between 271 = .ok (.istore 9, 2) := dk_54 9 (dk_at dksX5_between_11 16 rfl rfl)
theorem dX5_between_273 : decode cX5_between 273 = .ok (.aload 4, 2) := dk_25 4 (dk_at dksX5_between_11 18 rfl rfl)
theorem dX5_between_275 : decode cX5_between 275 = .ok (.iload 5, 2) := dk_21 5 (dk_at dksX5_between_11 20 rfl rfl)
theorem dX5_between_277 : decode cX5_between 277 = .ok (.iload_n 3, 1) := dk_29 (dk_at dksX5_between_11 22 rfl rfl)
theorem dX5_between_278 : decode cX5_between 278 = .ok (.imul, 1) := dk_104 (dk_at dksX5_between_11 23 rfl rfl)
theorem dX5_between_279 : decode cX5_between 279 = .ok (.iload 6, 2) := dk_21 6 (dk_at dksX5_between_12 0 rfl rfl)
theorem dX5_between_281 : decode cX5_between 281 = .ok (.iadd, 1) := dk_96 (dk_at dksX5_between_12 2 rfl rfl)
theorem dX5_between_282 : decode cX5_between 282 = .ok (.iload 9, 2) := dk_21 9 (dk_at dksX5_between_12 3 rfl rfl)
theorem dX5_between_284 : decode cX5_between 284 = .ok (.iastore, 1) := dk_79 (dk_at dksX5_between_12 5 rfl rfl)
theorem dX5_between_285 : decode cX5_between 285 = .ok (.iinc 6 1, 3) := dk_132 6 1 (dk_at dksX5_between_12 6 rfl rfl)
theorem dX5_between_288 : decode cX5_between 288 = .ok (.goto (-248), 3) := dk_167 255 8 (dk_at dksX5_between_12 9 rfl rfl)
theorem dX5_between_291 : decode cX5_between 291 = .ok (.iinc 5 1, 3) := dk_132 5 1 (dk_at dksX5_between_12 12 rfl rfl)
theorem dX5_between_294 : decode cX5_between 294 = .ok (.goto (-268), 3) := dk_167 254 244 (dk_at dksX5_between_12 15 rfl rfl)
theorem dX5_between_297 : decode cX5_between 297 = .ok (.aload 4, 2) := dk_25 4 (dk_at dksX5_between_12 18 rfl rfl)
theorem dX5_between_299 : decode cX5_between 299 = .ok (.aload_n 0, 1) := dk_42 (dk_at dksX5_between_12 20 rfl rfl)
theorem dX5_between_300 : decode cX5_between 300 = .ok (.getfield 26, 3) := dk_180 0 26 (dk_at dksX5_between_12 21 rfl rfl)
theorem dX5_between_303 : decode cX5_between 303 = .ok (.iload_n 1, 1) := dk_27 (dk_at dksX5_between_13 0 rfl rfl)
theorem dX5_between_304 : decode cX5_between 304 = .ok (.iaload, 1) := dk_46 (dk_at dksX5_between_13 1 rfl rfl)
theorem dX5_between_305 : decode cX5_between 305 = .ok (.iload_n 3, 1) := dk_29 (dk_at dksX5_between_13 2 rfl rfl)
theorem dX5_between_306 : decode cX5_between 306 = .ok (.imul, 1) := dk_104 (dk_at dksX5_between_13 3 rfl rfl)
theorem dX5_between_307 : decode cX5_between 307 = .ok (.iload_n 3, 1) := dk_29 (dk_at dksX5_between_13 4 rfl rfl)
theorem dX5_between_308 : decode cX5_between 308 = .ok (.iadd, 1) := dk_96 (dk_at dksX5_between_13 5 rfl rfl)
theorem dX5_between_309 : decode cX5_between 309 = .ok (.iconst 1, 1) := dk_4 (dk_at dksX5_between_13 6 rfl rfl)
theorem dX5_between_310 : decode cX5_between 310 = .ok (.isub, 1) := dk_100 (dk_at dksX5_between_13 7 rfl rfl)
theorem dX5_between_311 : decode cX5_between 311 = .ok (.iaload, 1) := dk_46 (dk_at dksX5_between_13 8 rfl rfl)
theorem dX5_between_312 : decode cX5_between 312 = .ok (.ireturn, 1) := dk_172 (dk_at dksX5_between_13 9 rfl rfl)
abbrev cX5_nearest : ByteArray := prog_9_method_42_code
def yX5_nearest : MethodName := ⟨RX5, "nearest", "(I)I"⟩
def dkwX5_nearest_3 : List UInt8 := [62, 132, 4, 1, 167, 255, 206, 28, 172]
abbrev dktX5_nearest_3 : List UInt8 := dkwX5_nearest_3 ++ []
def dkwX5_nearest_2 : List UInt8 := [182, 0, 166, 54, 5, 28, 2, 159, 0, 12, 21, 5, 29, 161, 0, 6, 167, 0, 9, 21, 4, 61, 21, 5]
abbrev dktX5_nearest_2 : List UInt8 := dkwX5_nearest_2 ++ dktX5_nearest_3
def dkwX5_nearest_1 : List UInt8 := [54, 4, 21, 4, 42, 180, 0, 113, 162, 0, 47, 21, 4, 27, 160, 0, 6, 167, 0, 32, 42, 27, 21, 4]
abbrev dktX5_nearest_1 : List UInt8 := dkwX5_nearest_1 ++ dktX5_nearest_2
def dkwX5_nearest_0 : List UInt8 := [42, 3, 181, 0, 59, 42, 27, 182, 0, 160, 154, 0, 9, 42, 4, 182, 0, 70, 172, 2, 61, 3, 62, 3]
abbrev dktX5_nearest_0 : List UInt8 := dkwX5_nearest_0 ++ dktX5_nearest_1
theorem dksX5_nearest_0 : cX5_nearest.data.toList.drop 0 = dktX5_nearest_0 := by decide +kernel
theorem dksX5_nearest_1 : cX5_nearest.data.toList.drop 24 = dktX5_nearest_1 := dk_seg dksX5_nearest_0 24 rfl rfl
theorem dksX5_nearest_2 : cX5_nearest.data.toList.drop 48 = dktX5_nearest_2 := dk_seg dksX5_nearest_1 24 rfl rfl
theorem dksX5_nearest_3 : cX5_nearest.data.toList.drop 72 = dktX5_nearest_3 := dk_seg dksX5_nearest_2 24 rfl rfl
theorem dX5_nearest_0 : decode cX5_nearest 0 = .ok (.aload_n 0, 1) := dk_42 (dk_at dksX5_nearest_0 0 rfl rfl)
theorem dX5_nearest_1 : decode cX5_nearest 1 = .ok (.iconst 0, 1) := dk_3 (dk_at dksX5_nearest_0 1 rfl rfl)
theorem dX5_nearest_2 : decode cX5_nearest 2 = .ok (.putfield 59, 3) := dk_181 0 59 (dk_at dksX5_nearest_0 2 rfl rfl)
theorem dX5_nearest_5 : decode cX5_nearest 5 = .ok (.aload_n 0, 1) := dk_42 (dk_at dksX5_nearest_0 5 rfl rfl)
theorem dX5_nearest_6 : decode cX5_nearest 6 = .ok (.iload_n 1, 1) := dk_27 (dk_at dksX5_nearest_0 6 rfl rfl)
theorem dX5_nearest_7 : decode cX5_nearest 7 = .ok (.invokevirtual 160, 3) := dk_182 0 160 (dk_at dksX5_nearest_0 7 rfl rfl)
theorem dX5_nearest_10 : decode cX5_nearest 10 = .ok (.ifCond .ne 9, 3) := dk_154 0 9 (dk_at dksX5_nearest_0 10 rfl rfl)
theorem dX5_nearest_13 : decode cX5_nearest 13 = .ok (.aload_n 0, 1) := dk_42 (dk_at dksX5_nearest_0 13 rfl rfl)
theorem dX5_nearest_14 : decode cX5_nearest 14 = .ok (.iconst 1, 1) := dk_4 (dk_at dksX5_nearest_0 14 rfl rfl)
theorem dX5_nearest_15 : decode cX5_nearest 15 = .ok (.invokevirtual 70, 3) := dk_182 0 70 (dk_at dksX5_nearest_0 15 rfl rfl)
theorem dX5_nearest_18 : decode cX5_nearest 18 = .ok (.ireturn, 1) := dk_172 (dk_at dksX5_nearest_0 18 rfl rfl)
theorem dX5_nearest_19 : decode cX5_nearest 19 = .ok (.iconst (-1), 1) := dk_2 (dk_at dksX5_nearest_0 19 rfl rfl)
theorem dX5_nearest_20 : decode cX5_nearest 20 = .ok (.istore_n 2, 1) := dk_61 (dk_at dksX5_nearest_0 20 rfl rfl)
theorem dX5_nearest_21 : decode cX5_nearest 21 = .ok (.iconst 0, 1) := dk_3 (dk_at dksX5_nearest_0 21 rfl rfl)
theorem dX5_nearest_22 : decode cX5_nearest 22 = .ok (.istore_n 3, 1) := dk_62 (dk_at dksX5_nearest_0 22 rfl rfl)
theorem dX5_nearest_23 : decode cX5_nearest 23 = .ok (.iconst 0, 1) := dk_3 (dk_at dksX5_nearest_0 23 rfl rfl)
theorem dX5_nearest_24 : decode cX5_nearest 24 = .ok (.istore 4, 2) := dk_54 4 (dk_at dksX5_nearest_1 0 rfl rfl)
theorem dX5_nearest_26 : decode cX5_nearest 26 = .ok (.iload 4, 2) := dk_21 4 (dk_at dksX5_nearest_1 2 rfl rfl)
theorem dX5_nearest_28 : decode cX5_nearest 28 = .ok (.aload_n 0, 1) := dk_42 (dk_at dksX5_nearest_1 4 rfl rfl)
theorem dX5_nearest_29 : decode cX5_nearest 29 = .ok (.getfield 113, 3) := dk_180 0 113 (dk_at dksX5_nearest_1 5 rfl rfl)
theorem dX5_nearest_32 : decode cX5_nearest 32 = .ok (.if_icmp .ge 47, 3) := dk_162 0 47 (dk_at dksX5_nearest_1 8 rfl rfl)
theorem dX5_nearest_35 : decode cX5_nearest 35 = .ok (.iload 4, 2) := dk_21 4 (dk_at dksX5_nearest_1 11 rfl rfl)
theorem dX5_nearest_37 : decode cX5_nearest 37 = .ok (.iload_n 1, 1) := dk_27 (dk_at dksX5_nearest_1 13 rfl rfl)
theorem dX5_nearest_38 : decode cX5_nearest 38 = .ok (.if_icmp .ne 6, 3) := dk_160 0 6 (dk_at dksX5_nearest_1 14 rfl rfl)
theorem dX5_nearest_41 : decode cX5_nearest 41 = .ok (.goto 32, 3) := dk_167 0 32 (dk_at dksX5_nearest_1 17 rfl rfl)
theorem dX5_nearest_44 : decode cX5_nearest 44 = .ok (.aload_n 0, 1) := dk_42 (dk_at dksX5_nearest_1 20 rfl rfl)
theorem dX5_nearest_45 : decode cX5_nearest 45 = .ok (.iload_n 1, 1) := dk_27 (dk_at dksX5_nearest_1 21 rfl rfl)
theorem dX5_nearest_46 : decode cX5_nearest 46 = .ok (.iload 4, 2) := dk_21 4 (dk_at dksX5_nearest_1 22 rfl rfl)
theorem dX5_nearest_48 : decode cX5_nearest 48 = .ok (.invokevirtual 166, 3) := dk_182 0 166 (dk_at dksX5_nearest_2 0 rfl rfl)
theorem dX5_nearest_51 : decode cX5_nearest 51 = .ok (.istore 5, 2) := dk_54 5 (dk_at dksX5_nearest_2 3 rfl rfl)
theorem dX5_nearest_53 : decode cX5_nearest 53 = .ok (.iload_n 2, 1) := dk_28 (dk_at dksX5_nearest_2 5 rfl rfl)
theorem dX5_nearest_54 : decode cX5_nearest 54 = .ok (.iconst (-1), 1) := dk_2 (dk_at dksX5_nearest_2 6 rfl rfl)
theorem dX5_nearest_55 : decode cX5_nearest 55 = .ok (.if_icmp .eq 12, 3) := dk_159 0 12 (dk_at dksX5_nearest_2 7 rfl rfl)
theorem dX5_nearest_58 : decode cX5_nearest 58 = .ok (.iload 5, 2) := dk_21 5 (dk_at dksX5_nearest_2 10 rfl rfl)
theorem dX5_nearest_60 : decode cX5_nearest 60 = .ok (.iload_n 3, 1) := dk_29 (dk_at dksX5_nearest_2 12 rfl rfl)
theorem dX5_nearest_61 : decode cX5_nearest 61 = .ok (.if_icmp .lt 6, 3) := dk_161 0 6 (dk_at dksX5_nearest_2 13 rfl rfl)
theorem dX5_nearest_64 : decode cX5_nearest 64 = .ok (.goto 9, 3) := dk_167 0 9 (dk_at dksX5_nearest_2 16 rfl rfl)
theorem dX5_nearest_67 : decode cX5_nearest 67 = .ok (.iload 4, 2) := dk_21 4 (dk_at dksX5_nearest_2 19 rfl rfl)
theorem dX5_nearest_69 : decode cX5_nearest 69 = .ok (.istore_n 2, 1) := dk_61 (dk_at dksX5_nearest_2 21 rfl rfl)
theorem dX5_nearest_70 : decode cX5_nearest 70 = .ok (.iload 5, 2) := dk_21 5 (dk_at dksX5_nearest_2 22 rfl rfl)
theorem dX5_nearest_72 : decode cX5_nearest 72 = .ok (.istore_n 3, 1) := dk_62 (dk_at dksX5_nearest_3 0 rfl rfl)
theorem dX5_nearest_73 : decode cX5_nearest 73 = .ok (.iinc 4 1, 3) := dk_132 4 1 (dk_at dksX5_nearest_3 1 rfl rfl)
theorem dX5_nearest_76 : decode cX5_nearest 76 = .ok (.goto (-50), 3) := dk_167 255 206 (dk_at dksX5_nearest_3 4 rfl rfl)
theorem dX5_nearest_79 : decode cX5_nearest 79 = .ok (.iload_n 2, 1) := dk_28 (dk_at dksX5_nearest_3 7 rfl rfl)
theorem dX5_nearest_80 : decode cX5_nearest 80 = .ok (.ireturn, 1) := dk_172 (dk_at dksX5_nearest_3 8 rfl rfl)
abbrev cX5_read : ByteArray := prog_9_method_43_code
def yX5_read : MethodName := ⟨RX5, "read", "(I)I"⟩
def dkwX5_read_1 : List UInt8 := [42, 27, 8, 4, 182, 0, 157, 87, 42, 180, 0, 154, 172]
abbrev dktX5_read_1 : List UInt8 := dkwX5_read_1 ++ []
def dkwX5_read_0 : List UInt8 := [42, 3, 181, 0, 59, 42, 27, 182, 0, 160, 154, 0, 9, 42, 4, 182, 0, 70, 172, 42, 3, 181, 0, 154]
abbrev dktX5_read_0 : List UInt8 := dkwX5_read_0 ++ dktX5_read_1
theorem dksX5_read_0 : cX5_read.data.toList.drop 0 = dktX5_read_0 := by decide +kernel
theorem dksX5_read_1 : cX5_read.data.toList.drop 24 = dktX5_read_1 := dk_seg dksX5_read_0 24 rfl rfl
theorem dX5_read_0 : decode cX5_read 0 = .ok (.aload_n 0, 1) := dk_42 (dk_at dksX5_read_0 0 rfl rfl)
theorem dX5_read_1 : decode cX5_read 1 = .ok (.iconst 0, 1) := dk_3 (dk_at dksX5_read_0 1 rfl rfl)
theorem dX5_read_2 : decode cX5_read 2 = .ok (.putfield 59, 3) := dk_181 0 59 (dk_at dksX5_read_0 2 rfl rfl)
theorem dX5_read_5 : decode cX5_read 5 = .ok (.aload_n 0, 1) := dk_42 (dk_at dksX5_read_0 5 rfl rfl)
theorem dX5_read_6 : decode cX5_read 6 = .ok (.iload_n 1, 1) := dk_27 (dk_at dksX5_read_0 6 rfl rfl)
theorem dX5_read_7 : decode cX5_read 7 = .ok (.invokevirtual 160, 3) := dk_182 0 160 (dk_at dksX5_read_0 7 rfl rfl)
theorem dX5_read_10 : decode cX5_read 10 = .ok (.ifCond .ne 9, 3) := dk_154 0 9 (dk_at dksX5_read_0 10 rfl rfl)
theorem dX5_read_13 : decode cX5_read 13 = .ok (.aload_n 0, 1) := dk_42 (dk_at dksX5_read_0 13 rfl rfl)
theorem dX5_read_14 : decode cX5_read 14 = .ok (.iconst 1, 1) := dk_4 (dk_at dksX5_read_0 14 rfl rfl)
theorem dX5_read_15 : decode cX5_read 15 = .ok (.invokevirtual 70, 3) := dk_182 0 70 (dk_at dksX5_read_0 15 rfl rfl)
theorem dX5_read_18 : decode cX5_read 18 = .ok (.ireturn, 1) := dk_172 (dk_at dksX5_read_0 18 rfl rfl)
theorem dX5_read_19 : decode cX5_read 19 = .ok (.aload_n 0, 1) := dk_42 (dk_at dksX5_read_0 19 rfl rfl)
theorem dX5_read_20 : decode cX5_read 20 = .ok (.iconst 0, 1) := dk_3 (dk_at dksX5_read_0 20 rfl rfl)
theorem dX5_read_21 : decode cX5_read 21 = .ok (.putfield 154, 3) := dk_181 0 154 (dk_at dksX5_read_0 21 rfl rfl)
theorem dX5_read_24 : decode cX5_read 24 = .ok (.aload_n 0, 1) := dk_42 (dk_at dksX5_read_1 0 rfl rfl)
theorem dX5_read_25 : decode cX5_read 25 = .ok (.iload_n 1, 1) := dk_27 (dk_at dksX5_read_1 1 rfl rfl)
theorem dX5_read_26 : decode cX5_read 26 = .ok (.iconst 5, 1) := dk_8 (dk_at dksX5_read_1 2 rfl rfl)
theorem dX5_read_27 : decode cX5_read 27 = .ok (.iconst 1, 1) := dk_4 (dk_at dksX5_read_1 3 rfl rfl)
theorem dX5_read_28 : decode cX5_read 28 = .ok (.invokevirtual 157, 3) := dk_182 0 157 (dk_at dksX5_read_1 4 rfl rfl)
theorem dX5_read_31 : decode cX5_read 31 = .ok (.pop, 1) := dk_87 (dk_at dksX5_read_1 7 rfl rfl)
theorem dX5_read_32 : decode cX5_read 32 = .ok (.aload_n 0, 1) := dk_42 (dk_at dksX5_read_1 8 rfl rfl)
theorem dX5_read_33 : decode cX5_read 33 = .ok (.getfield 154, 3) := dk_180 0 154 (dk_at dksX5_read_1 9 rfl rfl)
theorem dX5_read_36 : decode cX5_read 36 = .ok (.ireturn, 1) := dk_172 (dk_at dksX5_read_1 12 rfl rfl)
abbrev cX5_byteAt : ByteArray := prog_9_method_44_code
def yX5_byteAt : MethodName := ⟨RX5, "byteAt", "(I)I"⟩
def dkwX5_byteAt_1 : List UInt8 := [46, 167, 0, 8, 42, 4, 182, 0, 70, 172]
abbrev dktX5_byteAt_1 : List UInt8 := dkwX5_byteAt_1 ++ []
def dkwX5_byteAt_0 : List UInt8 := [42, 3, 181, 0, 59, 27, 3, 42, 180, 0, 154, 4, 100, 184, 0, 66, 153, 0, 12, 42, 180, 0, 41, 27]
abbrev dktX5_byteAt_0 : List UInt8 := dkwX5_byteAt_0 ++ dktX5_byteAt_1
theorem dksX5_byteAt_0 : cX5_byteAt.data.toList.drop 0 = dktX5_byteAt_0 := by decide +kernel
theorem dksX5_byteAt_1 : cX5_byteAt.data.toList.drop 24 = dktX5_byteAt_1 := dk_seg dksX5_byteAt_0 24 rfl rfl
theorem dX5_byteAt_0 : decode cX5_byteAt 0 = .ok (.aload_n 0, 1) := dk_42 (dk_at dksX5_byteAt_0 0 rfl rfl)
theorem dX5_byteAt_1 : decode cX5_byteAt 1 = .ok (.iconst 0, 1) := dk_3 (dk_at dksX5_byteAt_0 1 rfl rfl)
theorem dX5_byteAt_2 : decode cX5_byteAt 2 = .ok (.putfield 59, 3) := dk_181 0 59 (dk_at dksX5_byteAt_0 2 rfl rfl)
theorem dX5_byteAt_5 : decode cX5_byteAt 5 = .ok (.iload_n 1, 1) := dk_27 (dk_at dksX5_byteAt_0 5 rfl rfl)
theorem dX5_byteAt_6 : decode cX5_byteAt 6 = .ok (.iconst 0, 1) := dk_3 (dk_at dksX5_byteAt_0 6 rfl rfl)
theorem dX5_byteAt_7 : decode cX5_byteAt 7 = .ok (.aload_n 0, 1) := dk_42 (dk_at dksX5_byteAt_0 7 rfl rfl)
theorem dX5_byteAt_8 : decode cX5_byteAt 8 = .ok (.getfield 154, 3) := dk_180 0 154 (dk_at dksX5_byteAt_0 8 rfl rfl)
theorem dX5_byteAt_11 : decode cX5_byteAt 11 = .ok (.iconst 1, 1) := dk_4 (dk_at dksX5_byteAt_0 11 rfl rfl)
theorem dX5_byteAt_12 : decode cX5_byteAt 12 = .ok (.isub, 1) := dk_100 (dk_at dksX5_byteAt_0 12 rfl rfl)
theorem dX5_byteAt_13 : decode cX5_byteAt 13 = .ok (.invokestatic 66, 3) := dk_184 0 66 (dk_at dksX5_byteAt_0 13 rfl rfl)
theorem dX5_byteAt_16 : decode cX5_byteAt 16 = .ok (.ifCond .eq 12, 3) := dk_153 0 12 (dk_at dksX5_byteAt_0 16 rfl rfl)
theorem dX5_byteAt_19 : decode cX5_byteAt 19 = .ok (.aload_n 0, 1) := dk_42 (dk_at dksX5_byteAt_0 19 rfl rfl)
theorem dX5_byteAt_20 : decode cX5_byteAt 20 = .ok (.getfield 41, 3) := dk_180 0 41 (dk_at dksX5_byteAt_0 20 rfl rfl)
theorem dX5_byteAt_23 : decode cX5_byteAt 23 = .ok (.iload_n 1, 1) := dk_27 (dk_at dksX5_byteAt_0 23 rfl rfl)
theorem dX5_byteAt_24 : decode cX5_byteAt 24 = .ok (.iaload, 1) := dk_46 (dk_at dksX5_byteAt_1 0 rfl rfl)
theorem dX5_byteAt_25 : decode cX5_byteAt 25 = .ok (.goto 8, 3) := dk_167 0 8 (dk_at dksX5_byteAt_1 1 rfl rfl)
theorem dX5_byteAt_28 : decode cX5_byteAt 28 = .ok (.aload_n 0, 1) := dk_42 (dk_at dksX5_byteAt_1 4 rfl rfl)
theorem dX5_byteAt_29 : decode cX5_byteAt 29 = .ok (.iconst 1, 1) := dk_4 (dk_at dksX5_byteAt_1 5 rfl rfl)
theorem dX5_byteAt_30 : decode cX5_byteAt 30 = .ok (.invokevirtual 70, 3) := dk_182 0 70 (dk_at dksX5_byteAt_1 6 rfl rfl)
theorem dX5_byteAt_33 : decode cX5_byteAt 33 = .ok (.ireturn, 1) := dk_172 (dk_at dksX5_byteAt_1 9 rfl rfl)
abbrev cX5_count : ByteArray := prog_9_method_46_code
def yX5_count : MethodName := ⟨RX5, "count", "(I)I"⟩
def dkwX5_count_1 : List UInt8 := [4, 182, 0, 70, 172]
abbrev dktX5_count_1 : List UInt8 := dkwX5_count_1 ++ []
def dkwX5_count_0 : List UInt8 := [42, 3, 181, 0, 59, 27, 3, 16, 6, 184, 0, 66, 153, 0, 11, 42, 27, 182, 0, 169, 167, 0, 8, 42]
abbrev dktX5_count_0 : List UInt8 := dkwX5_count_0 ++ dktX5_count_1
theorem dksX5_count_0 : cX5_count.data.toList.drop 0 = dktX5_count_0 := by decide +kernel
theorem dksX5_count_1 : cX5_count.data.toList.drop 24 = dktX5_count_1 := dk_seg dksX5_count_0 24 rfl rfl
theorem dX5_count_0 : decode cX5_count 0 = .ok (.aload_n 0, 1) := dk_42 (dk_at dksX5_count_0 0 rfl rfl)
theorem dX5_count_1 : decode cX5_count 1 = .ok (.iconst 0, 1) := dk_3 (dk_at dksX5_count_0 1 rfl rfl)
theorem dX5_count_2 : decode cX5_count 2 = .ok (.putfield 59, 3) := dk_181 0 59 (dk_at dksX5_count_0 2 rfl rfl)
theorem dX5_count_5 : decode cX5_count 5 = .ok (.iload_n 1, 1) := dk_27 (dk_at dksX5_count_0 5 rfl rfl)
theorem dX5_count_6 : decode cX5_count 6 = .ok (.iconst 0, 1) := dk_3 (dk_at dksX5_count_0 6 rfl rfl)
theorem dX5_count_7 : decode cX5_count 7 = .ok (.bipush 6, 2) := dk_16 6 (dk_at dksX5_count_0 7 rfl rfl)
theorem dX5_count_9 : decode cX5_count 9 = .ok (.invokestatic 66, 3) := dk_184 0 66 (dk_at dksX5_count_0 9 rfl rfl)
theorem dX5_count_12 : decode cX5_count 12 = .ok (.ifCond .eq 11, 3) := dk_153 0 11 (dk_at dksX5_count_0 12 rfl rfl)
theorem dX5_count_15 : decode cX5_count 15 = .ok (.aload_n 0, 1) := dk_42 (dk_at dksX5_count_0 15 rfl rfl)
theorem dX5_count_16 : decode cX5_count 16 = .ok (.iload_n 1, 1) := dk_27 (dk_at dksX5_count_0 16 rfl rfl)
theorem dX5_count_17 : decode cX5_count 17 = .ok (.invokevirtual 169, 3) := dk_182 0 169 (dk_at dksX5_count_0 17 rfl rfl)
theorem dX5_count_20 : decode cX5_count 20 = .ok (.goto 8, 3) := dk_167 0 8 (dk_at dksX5_count_0 20 rfl rfl)
theorem dX5_count_23 : decode cX5_count 23 = .ok (.aload_n 0, 1) := dk_42 (dk_at dksX5_count_0 23 rfl rfl)
theorem dX5_count_24 : decode cX5_count 24 = .ok (.iconst 1, 1) := dk_4 (dk_at dksX5_count_1 0 rfl rfl)
theorem dX5_count_25 : decode cX5_count 25 = .ok (.invokevirtual 70, 3) := dk_182 0 70 (dk_at dksX5_count_1 1 rfl rfl)
theorem dX5_count_28 : decode cX5_count 28 = .ok (.ireturn, 1) := dk_172 (dk_at dksX5_count_1 4 rfl rfl)
abbrev cX5_sum : ByteArray := prog_9_method_45_code
def yX5_sum : MethodName := ⟨RX5, "sum", "(I)I"⟩
def dkwX5_sum_5 : List UInt8 := [89, 16, 6, 42, 180, 0, 154, 79, 58, 5, 25, 5, 27, 46, 172]
abbrev dktX5_sum_5 : List UInt8 := dkwX5_sum_5 ++ []
def dkwX5_sum_4 : List UInt8 := [79, 89, 5, 42, 180, 0, 123, 79, 89, 6, 29, 79, 89, 7, 21, 4, 79, 89, 8, 42, 180, 0, 107, 79]
abbrev dktX5_sum_4 : List UInt8 := dkwX5_sum_4 ++ dktX5_sum_5
def dkwX5_sum_3 : List UInt8 := [46, 96, 54, 4, 132, 5, 1, 167, 255, 222, 16, 7, 188, 10, 89, 3, 28, 79, 89, 4, 42, 180, 0, 113]
abbrev dktX5_sum_3 : List UInt8 := dkwX5_sum_3 ++ dktX5_sum_4
def dkwX5_sum_2 : List UInt8 := [180, 0, 113, 162, 0, 31, 29, 42, 180, 0, 32, 21, 5, 46, 96, 62, 21, 4, 42, 180, 0, 35, 21, 5]
abbrev dktX5_sum_2 : List UInt8 := dkwX5_sum_2 ++ dktX5_sum_3
def dkwX5_sum_1 : List UInt8 := [46, 158, 0, 7, 4, 167, 0, 4, 3, 96, 61, 132, 5, 1, 167, 255, 228, 3, 54, 5, 21, 5, 42]
abbrev dktX5_sum_1 : List UInt8 := dkwX5_sum_1 ++ dktX5_sum_2
def dkwX5_sum_0 : List UInt8 := [3, 61, 3, 62, 3, 54, 4, 3, 54, 5, 21, 5, 16, 12, 162, 0, 27, 28, 42, 180, 0, 9, 21, 5]
abbrev dktX5_sum_0 : List UInt8 := dkwX5_sum_0 ++ dktX5_sum_1
theorem dksX5_sum_0 : cX5_sum.data.toList.drop 0 = dktX5_sum_0 := by decide +kernel
theorem dksX5_sum_1 : cX5_sum.data.toList.drop 24 = dktX5_sum_1 := dk_seg dksX5_sum_0 24 rfl rfl
theorem dksX5_sum_2 : cX5_sum.data.toList.drop 47 = dktX5_sum_2 := dk_seg dksX5_sum_1 23 rfl rfl
theorem dksX5_sum_3 : cX5_sum.data.toList.drop 71 = dktX5_sum_3 := dk_seg dksX5_sum_2 24 rfl rfl
theorem dksX5_sum_4 : cX5_sum.data.toList.drop 95 = dktX5_sum_4 := dk_seg dksX5_sum_3 24 rfl rfl
theorem dksX5_sum_5 : cX5_sum.data.toList.drop 119 = dktX5_sum_5 := dk_seg dksX5_sum_4 24 rfl rfl
theorem dX5_sum_0 : decode cX5_sum 0 = .ok (.iconst 0, 1) := dk_3 (dk_at dksX5_sum_0 0 rfl rfl)
theorem dX5_sum_1 : decode cX5_sum 1 = .ok (.istore_n 2, 1) := dk_61 (dk_at dksX5_sum_0 1 rfl rfl)
theorem dX5_sum_2 : decode cX5_sum 2 = .ok (.iconst 0, 1) := dk_3 (dk_at dksX5_sum_0 2 rfl rfl)
theorem dX5_sum_3 : decode cX5_sum 3 = .ok (.istore_n 3, 1) := dk_62 (dk_at dksX5_sum_0 3 rfl rfl)
theorem dX5_sum_4 : decode cX5_sum 4 = .ok (.iconst 0, 1) := dk_3 (dk_at dksX5_sum_0 4 rfl rfl)
theorem dX5_sum_5 : decode cX5_sum 5 = .ok (.istore 4, 2) := dk_54 4 (dk_at dksX5_sum_0 5 rfl rfl)
theorem dX5_sum_7 : decode cX5_sum 7 = .ok (.iconst 0, 1) := dk_3 (dk_at dksX5_sum_0 7 rfl rfl)
theorem dX5_sum_8 : decode cX5_sum 8 = .ok (.istore 5, 2) := dk_54 5 (dk_at dksX5_sum_0 8 rfl rfl)
theorem dX5_sum_10 : decode cX5_sum 10 = .ok (.iload 5, 2) := dk_21 5 (dk_at dksX5_sum_0 10 rfl rfl)
theorem dX5_sum_12 : decode cX5_sum 12 = .ok (.bipush 12, 2) := dk_16 12 (dk_at dksX5_sum_0 12 rfl rfl)
theorem dX5_sum_14 : decode cX5_sum 14 = .ok (.if_icmp .ge 27, 3) := dk_162 0 27 (dk_at dksX5_sum_0 14 rfl rfl)
theorem dX5_sum_17 : decode cX5_sum 17 = .ok (.iload_n 2, 1) := dk_28 (dk_at dksX5_sum_0 17 rfl rfl)
theorem dX5_sum_18 : decode cX5_sum 18 = .ok (.aload_n 0, 1) := dk_42 (dk_at dksX5_sum_0 18 rfl rfl)
theorem dX5_sum_19 : decode cX5_sum 19 = .ok (.getfield 9, 3) := dk_180 0 9 (dk_at dksX5_sum_0 19 rfl rfl)
theorem dX5_sum_22 : decode cX5_sum 22 = .ok (.iload 5, 2) := dk_21 5 (dk_at dksX5_sum_0 22 rfl rfl)
theorem dX5_sum_24 : decode cX5_sum 24 = .ok (.iaload, 1) := dk_46 (dk_at dksX5_sum_1 0 rfl rfl)
theorem dX5_sum_25 : decode cX5_sum 25 = .ok (.ifCond .le 7, 3) := dk_158 0 7 (dk_at dksX5_sum_1 1 rfl rfl)
theorem dX5_sum_28 : decode cX5_sum 28 = .ok (.iconst 1, 1) := dk_4 (dk_at dksX5_sum_1 4 rfl rfl)
theorem dX5_sum_29 : decode cX5_sum 29 = .ok (.goto 4, 3) := dk_167 0 4 (dk_at dksX5_sum_1 5 rfl rfl)
theorem dX5_sum_32 : decode cX5_sum 32 = .ok (.iconst 0, 1) := dk_3 (dk_at dksX5_sum_1 8 rfl rfl)
theorem dX5_sum_33 : decode cX5_sum 33 = .ok (.iadd, 1) := dk_96 (dk_at dksX5_sum_1 9 rfl rfl)
theorem dX5_sum_34 : decode cX5_sum 34 = .ok (.istore_n 2, 1) := dk_61 (dk_at dksX5_sum_1 10 rfl rfl)
theorem dX5_sum_35 : decode cX5_sum 35 = .ok (.iinc 5 1, 3) := dk_132 5 1 (dk_at dksX5_sum_1 11 rfl rfl)
theorem dX5_sum_38 : decode cX5_sum 38 = .ok (.goto (-28), 3) := dk_167 255 228 (dk_at dksX5_sum_1 14 rfl rfl)
theorem dX5_sum_41 : decode cX5_sum 41 = .ok (.iconst 0, 1) := dk_3 (dk_at dksX5_sum_1 17 rfl rfl)
theorem dX5_sum_42 : decode cX5_sum 42 = .ok (.istore 5, 2) := dk_54 5 (dk_at dksX5_sum_1 18 rfl rfl)
theorem dX5_sum_44 : decode cX5_sum 44 = .ok (.iload 5, 2) := dk_21 5 (dk_at dksX5_sum_1 20 rfl rfl)
theorem dX5_sum_46 : decode cX5_sum 46 = .ok (.aload_n 0, 1) := dk_42 (dk_at dksX5_sum_1 22 rfl rfl)
theorem dX5_sum_47 : decode cX5_sum 47 = .ok (.getfield 113, 3) := dk_180 0 113 (dk_at dksX5_sum_2 0 rfl rfl)
theorem dX5_sum_50 : decode cX5_sum 50 = .ok (.if_icmp .ge 31, 3) := dk_162 0 31 (dk_at dksX5_sum_2 3 rfl rfl)
theorem dX5_sum_53 : decode cX5_sum 53 = .ok (.iload_n 3, 1) := dk_29 (dk_at dksX5_sum_2 6 rfl rfl)
theorem dX5_sum_54 : decode cX5_sum 54 = .ok (.aload_n 0, 1) := dk_42 (dk_at dksX5_sum_2 7 rfl rfl)
theorem dX5_sum_55 : decode cX5_sum 55 = .ok (.getfield 32, 3) := dk_180 0 32 (dk_at dksX5_sum_2 8 rfl rfl)
theorem dX5_sum_58 : decode cX5_sum 58 = .ok (.iload 5, 2) := dk_21 5 (dk_at dksX5_sum_2 11 rfl rfl)
theorem dX5_sum_60 : decode cX5_sum 60 = .ok (.iaload, 1) := dk_46 (dk_at dksX5_sum_2 13 rfl rfl)
theorem dX5_sum_61 : decode cX5_sum 61 = .ok (.iadd, 1) := dk_96 (dk_at dksX5_sum_2 14 rfl rfl)
theorem dX5_sum_62 : decode cX5_sum 62 = .ok (.istore_n 3, 1) := dk_62 (dk_at dksX5_sum_2 15 rfl rfl)
theorem dX5_sum_63 : decode cX5_sum 63 = .ok (.iload 4, 2) := dk_21 4 (dk_at dksX5_sum_2 16 rfl rfl)
theorem dX5_sum_65 : decode cX5_sum 65 = .ok (.aload_n 0, 1) := dk_42 (dk_at dksX5_sum_2 18 rfl rfl)
theorem dX5_sum_66 : decode cX5_sum 66 = .ok (.getfield 35, 3) := dk_180 0 35 (dk_at dksX5_sum_2 19 rfl rfl)
theorem dX5_sum_69 : decode cX5_sum 69 = .ok (.iload 5, 2) := dk_21 5 (dk_at dksX5_sum_2 22 rfl rfl)
theorem dX5_sum_71 : decode cX5_sum 71 = .ok (.iaload, 1) := dk_46 (dk_at dksX5_sum_3 0 rfl rfl)
theorem dX5_sum_72 : decode cX5_sum 72 = .ok (.iadd, 1) := dk_96 (dk_at dksX5_sum_3 1 rfl rfl)
theorem dX5_sum_73 : decode cX5_sum 73 = .ok (.istore 4, 2) := dk_54 4 (dk_at dksX5_sum_3 2 rfl rfl)
theorem dX5_sum_75 : decode cX5_sum 75 = .ok (.iinc 5 1, 3) := dk_132 5 1 (dk_at dksX5_sum_3 4 rfl rfl)
theorem dX5_sum_78 : decode cX5_sum 78 = .ok (.goto (-34), 3) := dk_167 255 222 (dk_at dksX5_sum_3 7 rfl rfl)
theorem dX5_sum_81 : decode cX5_sum 81 = .ok (.bipush 7, 2) := dk_16 7 (dk_at dksX5_sum_3 10 rfl rfl)
theorem dX5_sum_83 : decode cX5_sum 83 = .ok (.newarray .int, 2) := dk_188_10 (dk_at dksX5_sum_3 12 rfl rfl)
theorem dX5_sum_85 : decode cX5_sum 85 = .ok (.dup, 1) := dk_89 (dk_at dksX5_sum_3 14 rfl rfl)
theorem dX5_sum_86 : decode cX5_sum 86 = .ok (.iconst 0, 1) := dk_3 (dk_at dksX5_sum_3 15 rfl rfl)
theorem dX5_sum_87 : decode cX5_sum 87 = .ok (.iload_n 2, 1) := dk_28 (dk_at dksX5_sum_3 16 rfl rfl)
theorem dX5_sum_88 : decode cX5_sum 88 = .ok (.iastore, 1) := dk_79 (dk_at dksX5_sum_3 17 rfl rfl)
theorem dX5_sum_89 : decode cX5_sum 89 = .ok (.dup, 1) := dk_89 (dk_at dksX5_sum_3 18 rfl rfl)
theorem dX5_sum_90 : decode cX5_sum 90 = .ok (.iconst 1, 1) := dk_4 (dk_at dksX5_sum_3 19 rfl rfl)
theorem dX5_sum_91 : decode cX5_sum 91 = .ok (.aload_n 0, 1) := dk_42 (dk_at dksX5_sum_3 20 rfl rfl)
theorem dX5_sum_92 : decode cX5_sum 92 = .ok (.getfield 113, 3) := dk_180 0 113 (dk_at dksX5_sum_3 21 rfl rfl)
theorem dX5_sum_95 : decode cX5_sum 95 = .ok (.iastore, 1) := dk_79 (dk_at dksX5_sum_4 0 rfl rfl)
theorem dX5_sum_96 : decode cX5_sum 96 = .ok (.dup, 1) := dk_89 (dk_at dksX5_sum_4 1 rfl rfl)
theorem dX5_sum_97 : decode cX5_sum 97 = .ok (.iconst 2, 1) := dk_5 (dk_at dksX5_sum_4 2 rfl rfl)
theorem dX5_sum_98 : decode cX5_sum 98 = .ok (.aload_n 0, 1) := dk_42 (dk_at dksX5_sum_4 3 rfl rfl)
theorem dX5_sum_99 : decode cX5_sum 99 = .ok (.getfield 123, 3) := dk_180 0 123 (dk_at dksX5_sum_4 4 rfl rfl)
theorem dX5_sum_102 : decode cX5_sum 102 = .ok (.iastore, 1) := dk_79 (dk_at dksX5_sum_4 7 rfl rfl)
theorem dX5_sum_103 : decode cX5_sum 103 = .ok (.dup, 1) := dk_89 (dk_at dksX5_sum_4 8 rfl rfl)
theorem dX5_sum_104 : decode cX5_sum 104 = .ok (.iconst 3, 1) := dk_6 (dk_at dksX5_sum_4 9 rfl rfl)
theorem dX5_sum_105 : decode cX5_sum 105 = .ok (.iload_n 3, 1) := dk_29 (dk_at dksX5_sum_4 10 rfl rfl)
theorem dX5_sum_106 : decode cX5_sum 106 = .ok (.iastore, 1) := dk_79 (dk_at dksX5_sum_4 11 rfl rfl)
theorem dX5_sum_107 : decode cX5_sum 107 = .ok (.dup, 1) := dk_89 (dk_at dksX5_sum_4 12 rfl rfl)
theorem dX5_sum_108 : decode cX5_sum 108 = .ok (.iconst 4, 1) := dk_7 (dk_at dksX5_sum_4 13 rfl rfl)
theorem dX5_sum_109 : decode cX5_sum 109 = .ok (.iload 4, 2) := dk_21 4 (dk_at dksX5_sum_4 14 rfl rfl)
theorem dX5_sum_111 : decode cX5_sum 111 = .ok (.iastore, 1) := dk_79 (dk_at dksX5_sum_4 16 rfl rfl)
theorem dX5_sum_112 : decode cX5_sum 112 = .ok (.dup, 1) := dk_89 (dk_at dksX5_sum_4 17 rfl rfl)
theorem dX5_sum_113 : decode cX5_sum 113 = .ok (.iconst 5, 1) := dk_8 (dk_at dksX5_sum_4 18 rfl rfl)
theorem dX5_sum_114 : decode cX5_sum 114 = .ok (.aload_n 0, 1) := dk_42 (dk_at dksX5_sum_4 19 rfl rfl)
theorem dX5_sum_115 : decode cX5_sum 115 = .ok (.getfield 107, 3) := dk_180 0 107 (dk_at dksX5_sum_4 20 rfl rfl)
theorem dX5_sum_118 : decode cX5_sum 118 = .ok (.iastore, 1) := dk_79 (dk_at dksX5_sum_4 23 rfl rfl)
theorem dX5_sum_119 : decode cX5_sum 119 = .ok (.dup, 1) := dk_89 (dk_at dksX5_sum_5 0 rfl rfl)
theorem dX5_sum_120 : decode cX5_sum 120 = .ok (.bipush 6, 2) := dk_16 6 (dk_at dksX5_sum_5 1 rfl rfl)
theorem dX5_sum_122 : decode cX5_sum 122 = .ok (.aload_n 0, 1) := dk_42 (dk_at dksX5_sum_5 3 rfl rfl)
theorem dX5_sum_123 : decode cX5_sum 123 = .ok (.getfield 154, 3) := dk_180 0 154 (dk_at dksX5_sum_5 4 rfl rfl)
theorem dX5_sum_126 : decode cX5_sum 126 = .ok (.iastore, 1) := dk_79 (dk_at dksX5_sum_5 7 rfl rfl)
theorem dX5_sum_127 : decode cX5_sum 127 = .ok (.astore 5, 2) := dk_58 5 (dk_at dksX5_sum_5 8 rfl rfl)
theorem dX5_sum_129 : decode cX5_sum 129 = .ok (.aload 5, 2) := dk_25 5 (dk_at dksX5_sum_5 10 rfl rfl)
theorem dX5_sum_131 : decode cX5_sum 131 = .ok (.iload_n 1, 1) := dk_27 (dk_at dksX5_sum_5 12 rfl rfl)
theorem dX5_sum_132 : decode cX5_sum 132 = .ok (.iaload, 1) := dk_46 (dk_at dksX5_sum_5 13 rfl rfl)
theorem dX5_sum_133 : decode cX5_sum 133 = .ok (.ireturn, 1) := dk_172 (dk_at dksX5_sum_5 14 rfl rfl)
abbrev cX5_mean : ByteArray := prog_9_method_47_code
def yX5_mean : MethodName := ⟨RX5, "mean", "()D"⟩
def dkwX5_mean_2 : List UInt8 := [135, 42, 3, 182, 0, 169, 135, 111, 175]
abbrev dktX5_mean_2 : List UInt8 := dkwX5_mean_2 ++ []
def dkwX5_mean_1 : List UInt8 := [184, 0, 62, 96, 60, 132, 2, 1, 167, 255, 235, 42, 3, 182, 0, 169, 154, 0, 7, 14, 167, 0, 12, 27]
abbrev dktX5_mean_1 : List UInt8 := dkwX5_mean_1 ++ dktX5_mean_2
def dkwX5_mean_0 : List UInt8 := [42, 3, 181, 0, 59, 3, 60, 3, 61, 28, 16, 12, 162, 0, 21, 27, 42, 180, 0, 9, 28, 46]
abbrev dktX5_mean_0 : List UInt8 := dkwX5_mean_0 ++ dktX5_mean_1
theorem dksX5_mean_0 : cX5_mean.data.toList.drop 0 = dktX5_mean_0 := by decide +kernel
theorem dksX5_mean_1 : cX5_mean.data.toList.drop 22 = dktX5_mean_1 := dk_seg dksX5_mean_0 22 rfl rfl
theorem dksX5_mean_2 : cX5_mean.data.toList.drop 46 = dktX5_mean_2 := dk_seg dksX5_mean_1 24 rfl rfl
theorem dX5_mean_0 : decode cX5_mean 0 = .ok (.aload_n 0, 1) := dk_42 (dk_at dksX5_mean_0 0 rfl rfl)
theorem dX5_mean_1 : decode cX5_mean 1 = .ok (.iconst 0, 1) := dk_3 (dk_at dksX5_mean_0 1 rfl rfl)
theorem dX5_mean_2 : decode cX5_mean 2 = .ok (.putfield 59, 3) := dk_181 0 59 (dk_at dksX5_mean_0 2 rfl rfl)
theorem dX5_mean_5 : decode cX5_mean 5 = .ok (.iconst 0, 1) := dk_3 (dk_at dksX5_mean_0 5 rfl rfl)
theorem dX5_mean_6 : decode cX5_mean 6 = .ok (.istore_n 1, 1) := dk_60 (dk_at dksX5_mean_0 6 rfl rfl)
theorem dX5_mean_7 : decode cX5_mean 7 = .ok (.iconst 0, 1) := dk_3 (dk_at dksX5_mean_0 7 rfl rfl)
theorem dX5_mean_8 : decode cX5_mean 8 = .ok (.istore_n 2, 1) := dk_61 (dk_at dksX5_mean_0 8 rfl rfl)
theorem dX5_mean_9 : decode cX5_mean 9 = .ok (.iload_n 2, 1) := dk_28 (dk_at dksX5_mean_0 9 rfl rfl)
theorem dX5_mean_10 : decode cX5_mean 10 = .ok (.bipush 12, 2) := dk_16 12 (dk_at dksX5_mean_0 10 rfl rfl)
theorem dX5_mean_12 : decode cX5_mean 12 = .ok (.if_icmp .ge 21, 3) := dk_162 0 21 (dk_at dksX5_mean_0 12 rfl rfl)
theorem dX5_mean_15 : decode cX5_mean 15 = .ok (.iload_n 1, 1) := dk_27 (dk_at dksX5_mean_0 15 rfl rfl)
theorem dX5_mean_16 : decode cX5_mean 16 = .ok (.aload_n 0, 1) := dk_42 (dk_at dksX5_mean_0 16 rfl rfl)
theorem dX5_mean_17 : decode cX5_mean 17 = .ok (.getfield 9, 3) := dk_180 0 9 (dk_at dksX5_mean_0 17 rfl rfl)
theorem dX5_mean_20 : decode cX5_mean 20 = .ok (.iload_n 2, 1) := dk_28 (dk_at dksX5_mean_0 20 rfl rfl)
theorem dX5_mean_21 : decode cX5_mean 21 = .ok (.iaload, 1) := dk_46 (dk_at dksX5_mean_0 21 rfl rfl)
theorem dX5_mean_22 : decode cX5_mean 22 = .ok (.invokestatic 62, 3) := dk_184 0 62 (dk_at dksX5_mean_1 0 rfl rfl)
theorem dX5_mean_25 : decode cX5_mean 25 = .ok (.iadd, 1) := dk_96 (dk_at dksX5_mean_1 3 rfl rfl)
theorem dX5_mean_26 : decode cX5_mean 26 = .ok (.istore_n 1, 1) := dk_60 (dk_at dksX5_mean_1 4 rfl rfl)
theorem dX5_mean_27 : decode cX5_mean 27 = .ok (.iinc 2 1, 3) := dk_132 2 1 (dk_at dksX5_mean_1 5 rfl rfl)
theorem dX5_mean_30 : decode cX5_mean 30 = .ok (.goto (-21), 3) := dk_167 255 235 (dk_at dksX5_mean_1 8 rfl rfl)
theorem dX5_mean_33 : decode cX5_mean 33 = .ok (.aload_n 0, 1) := dk_42 (dk_at dksX5_mean_1 11 rfl rfl)
theorem dX5_mean_34 : decode cX5_mean 34 = .ok (.iconst 0, 1) := dk_3 (dk_at dksX5_mean_1 12 rfl rfl)
theorem dX5_mean_35 : decode cX5_mean 35 = .ok (.invokevirtual 169, 3) := dk_182 0 169 (dk_at dksX5_mean_1 13 rfl rfl)
theorem dX5_mean_38 : decode cX5_mean 38 = .ok (.ifCond .ne 7, 3) := dk_154 0 7 (dk_at dksX5_mean_1 16 rfl rfl)
theorem dX5_mean_41 : decode cX5_mean 41 = .ok (.dconst 0, 1) := dk_14 (dk_at dksX5_mean_1 19 rfl rfl)
theorem dX5_mean_42 : decode cX5_mean 42 = .ok (.goto 12, 3) := dk_167 0 12 (dk_at dksX5_mean_1 20 rfl rfl)
theorem dX5_mean_45 : decode cX5_mean 45 = .ok (.iload_n 1, 1) := dk_27 (dk_at dksX5_mean_1 23 rfl rfl)
theorem dX5_mean_46 : decode cX5_mean 46 = .ok (.i2d, 1) := dk_135 (dk_at dksX5_mean_2 0 rfl rfl)
theorem dX5_mean_47 : decode cX5_mean 47 = .ok (.aload_n 0, 1) := dk_42 (dk_at dksX5_mean_2 1 rfl rfl)
theorem dX5_mean_48 : decode cX5_mean 48 = .ok (.iconst 0, 1) := dk_3 (dk_at dksX5_mean_2 2 rfl rfl)
theorem dX5_mean_49 : decode cX5_mean 49 = .ok (.invokevirtual 169, 3) := dk_182 0 169 (dk_at dksX5_mean_2 3 rfl rfl)
theorem dX5_mean_52 : decode cX5_mean 52 = .ok (.i2d, 1) := dk_135 (dk_at dksX5_mean_2 6 rfl rfl)
theorem dX5_mean_53 : decode cX5_mean 53 = .ok (.ddiv, 1) := dk_111 (dk_at dksX5_mean_2 7 rfl rfl)
theorem dX5_mean_54 : decode cX5_mean 54 = .ok (.dreturn, 1) := dk_175 (dk_at dksX5_mean_2 8 rfl rfl)
abbrev cX5_digest : ByteArray := prog_9_method_48_code
def yX5_digest : MethodName := ⟨RX5, "digest", "()J"⟩
def dkwX5_digest_8 : List UInt8 := [133, 97, 64, 132, 3, 1, 167, 255, 231, 31, 173]
abbrev dktX5_digest_8 : List UInt8 := dkwX5_digest_8 ++ []
def dkwX5_digest_7 : List UInt8 := [167, 255, 174, 3, 62, 29, 42, 180, 0, 154, 162, 0, 23, 31, 20, 0, 174, 105, 42, 180, 0, 41, 29, 46]
abbrev dktX5_digest_7 : List UInt8 := dkwX5_digest_7 ++ dktX5_digest_8
def dkwX5_digest_6 : List UInt8 := [180, 0, 29, 16, 40, 29, 104, 21, 4, 96, 46, 133, 97, 64, 132, 4, 1, 167, 255, 222, 132, 3, 1]
abbrev dktX5_digest_6 : List UInt8 := dkwX5_digest_6 ++ dktX5_digest_7
def dkwX5_digest_5 : List UInt8 := [167, 255, 231, 3, 54, 4, 21, 4, 42, 180, 0, 26, 29, 46, 162, 0, 29, 31, 20, 0, 174, 105, 42]
abbrev dktX5_digest_5 : List UInt8 := dkwX5_digest_5 ++ dktX5_digest_6
def dkwX5_digest_4 : List UInt8 := [16, 7, 162, 0, 24, 31, 20, 0, 174, 105, 42, 29, 21, 4, 182, 0, 163, 133, 97, 64, 132, 4, 1]
abbrev dktX5_digest_4 : List UInt8 := dkwX5_digest_4 ++ dktX5_digest_5
def dkwX5_digest_3 : List UInt8 := [167, 255, 232, 132, 3, 1, 167, 255, 217, 3, 62, 29, 42, 180, 0, 113, 162, 0, 80, 3, 54, 4, 21, 4]
abbrev dktX5_digest_3 : List UInt8 := dkwX5_digest_3 ++ dktX5_digest_4
def dkwX5_digest_2 : List UInt8 := [21, 4, 6, 162, 0, 24, 31, 20, 0, 174, 105, 42, 29, 21, 4, 182, 0, 77, 133, 97, 64, 132, 4, 1]
abbrev dktX5_digest_2 : List UInt8 := dkwX5_digest_2 ++ dktX5_digest_3
def dkwX5_digest_1 : List UInt8 := [182, 0, 169, 133, 97, 64, 132, 3, 1, 167, 255, 234, 3, 62, 29, 16, 12, 162, 0, 39, 3, 54, 4]
abbrev dktX5_digest_1 : List UInt8 := dkwX5_digest_1 ++ dktX5_digest_2
def dkwX5_digest_0 : List UInt8 := [42, 3, 181, 0, 59, 20, 0, 172, 64, 3, 62, 29, 16, 7, 162, 0, 22, 31, 20, 0, 174, 105, 42, 29]
abbrev dktX5_digest_0 : List UInt8 := dkwX5_digest_0 ++ dktX5_digest_1
theorem dksX5_digest_0 : cX5_digest.data.toList.drop 0 = dktX5_digest_0 := by decide +kernel
theorem dksX5_digest_1 : cX5_digest.data.toList.drop 24 = dktX5_digest_1 := dk_seg dksX5_digest_0 24 rfl rfl
theorem dksX5_digest_2 : cX5_digest.data.toList.drop 47 = dktX5_digest_2 := dk_seg dksX5_digest_1 23 rfl rfl
theorem dksX5_digest_3 : cX5_digest.data.toList.drop 71 = dktX5_digest_3 := dk_seg dksX5_digest_2 24 rfl rfl
theorem dksX5_digest_4 : cX5_digest.data.toList.drop 95 = dktX5_digest_4 := dk_seg dksX5_digest_3 24 rfl rfl
theorem dksX5_digest_5 : cX5_digest.data.toList.drop 118 = dktX5_digest_5 := dk_seg dksX5_digest_4 23 rfl rfl
theorem dksX5_digest_6 : cX5_digest.data.toList.drop 141 = dktX5_digest_6 := dk_seg dksX5_digest_5 23 rfl rfl
theorem dksX5_digest_7 : cX5_digest.data.toList.drop 164 = dktX5_digest_7 := dk_seg dksX5_digest_6 23 rfl rfl
theorem dksX5_digest_8 : cX5_digest.data.toList.drop 188 = dktX5_digest_8 := dk_seg dksX5_digest_7 24 rfl rfl
theorem dX5_digest_0 : decode cX5_digest 0 = .ok (.aload_n 0, 1) := dk_42 (dk_at dksX5_digest_0 0 rfl rfl)
theorem dX5_digest_1 : decode cX5_digest 1 = .ok (.iconst 0, 1) := dk_3 (dk_at dksX5_digest_0 1 rfl rfl)
theorem dX5_digest_2 : decode cX5_digest 2 = .ok (.putfield 59, 3) := dk_181 0 59 (dk_at dksX5_digest_0 2 rfl rfl)
theorem dX5_digest_5 : decode cX5_digest 5 = .ok (.ldc2_w 172, 3) := dk_20 0 172 (dk_at dksX5_digest_0 5 rfl rfl)
theorem dX5_digest_8 : decode cX5_digest 8 = .ok (.lstore_n 1, 1) := dk_64 (dk_at dksX5_digest_0 8 rfl rfl)
theorem dX5_digest_9 : decode cX5_digest 9 = .ok (.iconst 0, 1) := dk_3 (dk_at dksX5_digest_0 9 rfl rfl)
theorem dX5_digest_10 : decode cX5_digest 10 = .ok (.istore_n 3, 1) := dk_62 (dk_at dksX5_digest_0 10 rfl rfl)
theorem dX5_digest_11 : decode cX5_digest 11 = .ok (.iload_n 3, 1) := dk_29 (dk_at dksX5_digest_0 11 rfl rfl)
theorem dX5_digest_12 : decode cX5_digest 12 = .ok (.bipush 7, 2) := dk_16 7 (dk_at dksX5_digest_0 12 rfl rfl)
theorem dX5_digest_14 : decode cX5_digest 14 = .ok (.if_icmp .ge 22, 3) := dk_162 0 22 (dk_at dksX5_digest_0 14 rfl rfl)
theorem dX5_digest_17 : decode cX5_digest 17 = .ok (.lload_n 1, 1) := dk_31 (dk_at dksX5_digest_0 17 rfl rfl)
theorem dX5_digest_18 : decode cX5_digest 18 = .ok (.ldc2_w 174, 3) := dk_20 0 174 (dk_at dksX5_digest_0 18 rfl rfl)
theorem dX5_digest_21 : decode cX5_digest 21 = .ok (.lmul, 1) := dk_105 (dk_at dksX5_digest_0 21 rfl rfl)
theorem dX5_digest_22 : decode cX5_digest 22 = .ok (.aload_n 0, 1) := dk_42 (dk_at dksX5_digest_0 22 rfl rfl)
theorem dX5_digest_23 : decode cX5_digest 23 = .ok (.iload_n 3, 1) := dk_29 (dk_at dksX5_digest_0 23 rfl rfl)
theorem dX5_digest_24 : decode cX5_digest 24 = .ok (.invokevirtual 169, 3) := dk_182 0 169 (dk_at dksX5_digest_1 0 rfl rfl)
theorem dX5_digest_27 : decode cX5_digest 27 = .ok (.i2l, 1) := dk_133 (dk_at dksX5_digest_1 3 rfl rfl)
theorem dX5_digest_28 : decode cX5_digest 28 = .ok (.ladd, 1) := dk_97 (dk_at dksX5_digest_1 4 rfl rfl)
theorem dX5_digest_29 : decode cX5_digest 29 = .ok (.lstore_n 1, 1) := dk_64 (dk_at dksX5_digest_1 5 rfl rfl)
theorem dX5_digest_30 : decode cX5_digest 30 = .ok (.iinc 3 1, 3) := dk_132 3 1 (dk_at dksX5_digest_1 6 rfl rfl)
theorem dX5_digest_33 : decode cX5_digest 33 = .ok (.goto (-22), 3) := dk_167 255 234 (dk_at dksX5_digest_1 9 rfl rfl)
theorem dX5_digest_36 : decode cX5_digest 36 = .ok (.iconst 0, 1) := dk_3 (dk_at dksX5_digest_1 12 rfl rfl)
theorem dX5_digest_37 : decode cX5_digest 37 = .ok (.istore_n 3, 1) := dk_62 (dk_at dksX5_digest_1 13 rfl rfl)
theorem dX5_digest_38 : decode cX5_digest 38 = .ok (.iload_n 3, 1) := dk_29 (dk_at dksX5_digest_1 14 rfl rfl)
theorem dX5_digest_39 : decode cX5_digest 39 = .ok (.bipush 12, 2) := dk_16 12 (dk_at dksX5_digest_1 15 rfl rfl)
theorem dX5_digest_41 : decode cX5_digest 41 = .ok (.if_icmp .ge 39, 3) := dk_162 0 39 (dk_at dksX5_digest_1 17 rfl rfl)
theorem dX5_digest_44 : decode cX5_digest 44 = .ok (.iconst 0, 1) := dk_3 (dk_at dksX5_digest_1 20 rfl rfl)
theorem dX5_digest_45 : decode cX5_digest 45 = .ok (.istore 4, 2) := dk_54 4 (dk_at dksX5_digest_1 21 rfl rfl)
theorem dX5_digest_47 : decode cX5_digest 47 = .ok (.iload 4, 2) := dk_21 4 (dk_at dksX5_digest_2 0 rfl rfl)
theorem dX5_digest_49 : decode cX5_digest 49 = .ok (.iconst 3, 1) := dk_6 (dk_at dksX5_digest_2 2 rfl rfl)
theorem dX5_digest_50 : decode cX5_digest 50 = .ok (.if_icmp .ge 24, 3) := dk_162 0 24 (dk_at dksX5_digest_2 3 rfl rfl)
theorem dX5_digest_53 : decode cX5_digest 53 = .ok (.lload_n 1, 1) := dk_31 (dk_at dksX5_digest_2 6 rfl rfl)
theorem dX5_digest_54 : decode cX5_digest 54 = .ok (.ldc2_w 174, 3) := dk_20 0 174 (dk_at dksX5_digest_2 7 rfl rfl)
theorem dX5_digest_57 : decode cX5_digest 57 = .ok (.lmul, 1) := dk_105 (dk_at dksX5_digest_2 10 rfl rfl)
theorem dX5_digest_58 : decode cX5_digest 58 = .ok (.aload_n 0, 1) := dk_42 (dk_at dksX5_digest_2 11 rfl rfl)
theorem dX5_digest_59 : decode cX5_digest 59 = .ok (.iload_n 3, 1) := dk_29 (dk_at dksX5_digest_2 12 rfl rfl)
theorem dX5_digest_60 : decode cX5_digest 60 = .ok (.iload 4, 2) := dk_21 4 (dk_at dksX5_digest_2 13 rfl rfl)
theorem dX5_digest_62 : decode cX5_digest 62 = .ok (.invokevirtual 77, 3) := dk_182 0 77 (dk_at dksX5_digest_2 15 rfl rfl)
theorem dX5_digest_65 : decode cX5_digest 65 = .ok (.i2l, 1) := dk_133 (dk_at dksX5_digest_2 18 rfl rfl)
theorem dX5_digest_66 : decode cX5_digest 66 = .ok (.ladd, 1) := dk_97 (dk_at dksX5_digest_2 19 rfl rfl)
theorem dX5_digest_67 : decode cX5_digest 67 = .ok (.lstore_n 1, 1) := dk_64 (dk_at dksX5_digest_2 20 rfl rfl)
theorem dX5_digest_68 : decode cX5_digest 68 = .ok (.iinc 4 1, 3) := dk_132 4 1 (dk_at dksX5_digest_2 21 rfl rfl)
theorem dX5_digest_71 : decode cX5_digest 71 = .ok (.goto (-24), 3) := dk_167 255 232 (dk_at dksX5_digest_3 0 rfl rfl)
theorem dX5_digest_74 : decode cX5_digest 74 = .ok (.iinc 3 1, 3) := dk_132 3 1 (dk_at dksX5_digest_3 3 rfl rfl)
theorem dX5_digest_77 : decode cX5_digest 77 = .ok (.goto (-39), 3) := dk_167 255 217 (dk_at dksX5_digest_3 6 rfl rfl)
theorem dX5_digest_80 : decode cX5_digest 80 = .ok (.iconst 0, 1) := dk_3 (dk_at dksX5_digest_3 9 rfl rfl)
theorem dX5_digest_81 : decode cX5_digest 81 = .ok (.istore_n 3, 1) := dk_62 (dk_at dksX5_digest_3 10 rfl rfl)
theorem dX5_digest_82 : decode cX5_digest 82 = .ok (.iload_n 3, 1) := dk_29 (dk_at dksX5_digest_3 11 rfl rfl)
theorem dX5_digest_83 : decode cX5_digest 83 = .ok (.aload_n 0, 1) := dk_42 (dk_at dksX5_digest_3 12 rfl rfl)
theorem dX5_digest_84 : decode cX5_digest 84 = .ok (.getfield 113, 3) := dk_180 0 113 (dk_at dksX5_digest_3 13 rfl rfl)
theorem dX5_digest_87 : decode cX5_digest 87 = .ok (.if_icmp .ge 80, 3) := dk_162 0 80 (dk_at dksX5_digest_3 16 rfl rfl)
theorem dX5_digest_90 : decode cX5_digest 90 = .ok (.iconst 0, 1) := dk_3 (dk_at dksX5_digest_3 19 rfl rfl)
theorem dX5_digest_91 : decode cX5_digest 91 = .ok (.istore 4, 2) := dk_54 4 (dk_at dksX5_digest_3 20 rfl rfl)
theorem dX5_digest_93 : decode cX5_digest 93 = .ok (.iload 4, 2) := dk_21 4 (dk_at dksX5_digest_3 22 rfl rfl)
theorem dX5_digest_95 : decode cX5_digest 95 = .ok (.bipush 7, 2) := dk_16 7 (dk_at dksX5_digest_4 0 rfl rfl)
theorem dX5_digest_97 : decode cX5_digest 97 = .ok (.if_icmp .ge 24, 3) := dk_162 0 24 (dk_at dksX5_digest_4 2 rfl rfl)
theorem dX5_digest_100 : decode cX5_digest 100 = .ok (.lload_n 1, 1) := dk_31 (dk_at dksX5_digest_4 5 rfl rfl)
theorem dX5_digest_101 : decode cX5_digest 101 = .ok (.ldc2_w 174, 3) := dk_20 0 174 (dk_at dksX5_digest_4 6 rfl rfl)
theorem dX5_digest_104 : decode cX5_digest 104 = .ok (.lmul, 1) := dk_105 (dk_at dksX5_digest_4 9 rfl rfl)
theorem dX5_digest_105 : decode cX5_digest 105 = .ok (.aload_n 0, 1) := dk_42 (dk_at dksX5_digest_4 10 rfl rfl)
theorem dX5_digest_106 : decode cX5_digest 106 = .ok (.iload_n 3, 1) := dk_29 (dk_at dksX5_digest_4 11 rfl rfl)
theorem dX5_digest_107 : decode cX5_digest 107 = .ok (.iload 4, 2) := dk_21 4 (dk_at dksX5_digest_4 12 rfl rfl)
theorem dX5_digest_109 : decode cX5_digest 109 = .ok (.invokevirtual 163, 3) := dk_182 0 163 (dk_at dksX5_digest_4 14 rfl rfl)
theorem dX5_digest_112 : decode cX5_digest 112 = .ok (.i2l, 1) := dk_133 (dk_at dksX5_digest_4 17 rfl rfl)
theorem dX5_digest_113 : decode cX5_digest 113 = .ok (.ladd, 1) := dk_97 (dk_at dksX5_digest_4 18 rfl rfl)
theorem dX5_digest_114 : decode cX5_digest 114 = .ok (.lstore_n 1, 1) := dk_64 (dk_at dksX5_digest_4 19 rfl rfl)
theorem dX5_digest_115 : decode cX5_digest 115 = .ok (.iinc 4 1, 3) := dk_132 4 1 (dk_at dksX5_digest_4 20 rfl rfl)
theorem dX5_digest_118 : decode cX5_digest 118 = .ok (.goto (-25), 3) := dk_167 255 231 (dk_at dksX5_digest_5 0 rfl rfl)
theorem dX5_digest_121 : decode cX5_digest 121 = .ok (.iconst 0, 1) := dk_3 (dk_at dksX5_digest_5 3 rfl rfl)
theorem dX5_digest_122 : decode cX5_digest 122 = .ok (.istore 4, 2) := dk_54 4 (dk_at dksX5_digest_5 4 rfl rfl)
theorem dX5_digest_124 : decode cX5_digest 124 = .ok (.iload 4, 2) := dk_21 4 (dk_at dksX5_digest_5 6 rfl rfl)
theorem dX5_digest_126 : decode cX5_digest 126 = .ok (.aload_n 0, 1) := dk_42 (dk_at dksX5_digest_5 8 rfl rfl)
theorem dX5_digest_127 : decode cX5_digest 127 = .ok (.getfield 26, 3) := dk_180 0 26 (dk_at dksX5_digest_5 9 rfl rfl)
theorem dX5_digest_130 : decode cX5_digest 130 = .ok (.iload_n 3, 1) := dk_29 (dk_at dksX5_digest_5 12 rfl rfl)
theorem dX5_digest_131 : decode cX5_digest 131 = .ok (.iaload, 1) := dk_46 (dk_at dksX5_digest_5 13 rfl rfl)
theorem dX5_digest_132 : decode cX5_digest 132 = .ok (.if_icmp .ge 29, 3) := dk_162 0 29 (dk_at dksX5_digest_5 14 rfl rfl)
theorem dX5_digest_135 : decode cX5_digest 135 = .ok (.lload_n 1, 1) := dk_31 (dk_at dksX5_digest_5 17 rfl rfl)
theorem dX5_digest_136 : decode cX5_digest 136 = .ok (.ldc2_w 174, 3) := dk_20 0 174 (dk_at dksX5_digest_5 18 rfl rfl)
theorem dX5_digest_139 : decode cX5_digest 139 = .ok (.lmul, 1) := dk_105 (dk_at dksX5_digest_5 21 rfl rfl)
theorem dX5_digest_140 : decode cX5_digest 140 = .ok (.aload_n 0, 1) := dk_42 (dk_at dksX5_digest_5 22 rfl rfl)
theorem dX5_digest_141 : decode cX5_digest 141 = .ok (.getfield 29, 3) := dk_180 0 29 (dk_at dksX5_digest_6 0 rfl rfl)
theorem dX5_digest_144 : decode cX5_digest 144 = .ok (.bipush 40, 2) := dk_16 40 (dk_at dksX5_digest_6 3 rfl rfl)
theorem dX5_digest_146 : decode cX5_digest 146 = .ok (.iload_n 3, 1) := dk_29 (dk_at dksX5_digest_6 5 rfl rfl)
theorem dX5_digest_147 : decode cX5_digest 147 = .ok (.imul, 1) := dk_104 (dk_at dksX5_digest_6 6 rfl rfl)
theorem dX5_digest_148 : decode cX5_digest 148 = .ok (.iload 4, 2) := dk_21 4 (dk_at dksX5_digest_6 7 rfl rfl)
theorem dX5_digest_150 : decode cX5_digest 150 = .ok (.iadd, 1) := dk_96 (dk_at dksX5_digest_6 9 rfl rfl)
theorem dX5_digest_151 : decode cX5_digest 151 = .ok (.iaload, 1) := dk_46 (dk_at dksX5_digest_6 10 rfl rfl)
theorem dX5_digest_152 : decode cX5_digest 152 = .ok (.i2l, 1) := dk_133 (dk_at dksX5_digest_6 11 rfl rfl)
theorem dX5_digest_153 : decode cX5_digest 153 = .ok (.ladd, 1) := dk_97 (dk_at dksX5_digest_6 12 rfl rfl)
theorem dX5_digest_154 : decode cX5_digest 154 = .ok (.lstore_n 1, 1) := dk_64 (dk_at dksX5_digest_6 13 rfl rfl)
theorem dX5_digest_155 : decode cX5_digest 155 = .ok (.iinc 4 1, 3) := dk_132 4 1 (dk_at dksX5_digest_6 14 rfl rfl)
theorem dX5_digest_158 : decode cX5_digest 158 = .ok (.goto (-34), 3) := dk_167 255 222 (dk_at dksX5_digest_6 17 rfl rfl)
theorem dX5_digest_161 : decode cX5_digest 161 = .ok (.iinc 3 1, 3) := dk_132 3 1 (dk_at dksX5_digest_6 20 rfl rfl)
theorem dX5_digest_164 : decode cX5_digest 164 = .ok (.goto (-82), 3) := dk_167 255 174 (dk_at dksX5_digest_7 0 rfl rfl)
theorem dX5_digest_167 : decode cX5_digest 167 = .ok (.iconst 0, 1) := dk_3 (dk_at dksX5_digest_7 3 rfl rfl)
theorem dX5_digest_168 : decode cX5_digest 168 = .ok (.istore_n 3, 1) := dk_62 (dk_at dksX5_digest_7 4 rfl rfl)
theorem dX5_digest_169 : decode cX5_digest 169 = .ok (.iload_n 3, 1) := dk_29 (dk_at dksX5_digest_7 5 rfl rfl)
theorem dX5_digest_170 : decode cX5_digest 170 = .ok (.aload_n 0, 1) := dk_42 (dk_at dksX5_digest_7 6 rfl rfl)
theorem dX5_digest_171 : decode cX5_digest 171 = .ok (.getfield 154, 3) := dk_180 0 154 (dk_at dksX5_digest_7 7 rfl rfl)
theorem dX5_digest_174 : decode cX5_digest 174 = .ok (.if_icmp .ge 23, 3) := dk_162 0 23 (dk_at dksX5_digest_7 10 rfl rfl)
theorem dX5_digest_177 : decode cX5_digest 177 = .ok (.lload_n 1, 1) := dk_31 (dk_at dksX5_digest_7 13 rfl rfl)
theorem dX5_digest_178 : decode cX5_digest 178 = .ok (.ldc2_w 174, 3) := dk_20 0 174 (dk_at dksX5_digest_7 14 rfl rfl)
theorem dX5_digest_181 : decode cX5_digest 181 = .ok (.lmul, 1) := dk_105 (dk_at dksX5_digest_7 17 rfl rfl)
theorem dX5_digest_182 : decode cX5_digest 182 = .ok (.aload_n 0, 1) := dk_42 (dk_at dksX5_digest_7 18 rfl rfl)
theorem dX5_digest_183 : decode cX5_digest 183 = .ok (.getfield 41, 3) := dk_180 0 41 (dk_at dksX5_digest_7 19 rfl rfl)
theorem dX5_digest_186 : decode cX5_digest 186 = .ok (.iload_n 3, 1) := dk_29 (dk_at dksX5_digest_7 22 rfl rfl)
theorem dX5_digest_187 : decode cX5_digest 187 = .ok (.iaload, 1) := dk_46 (dk_at dksX5_digest_7 23 rfl rfl)
theorem dX5_digest_188 : decode cX5_digest 188 = .ok (.i2l, 1) := dk_133 (dk_at dksX5_digest_8 0 rfl rfl)
theorem dX5_digest_189 : decode cX5_digest 189 = .ok (.ladd, 1) := dk_97 (dk_at dksX5_digest_8 1 rfl rfl)
theorem dX5_digest_190 : decode cX5_digest 190 = .ok (.lstore_n 1, 1) := dk_64 (dk_at dksX5_digest_8 2 rfl rfl)
theorem dX5_digest_191 : decode cX5_digest 191 = .ok (.iinc 3 1, 3) := dk_132 3 1 (dk_at dksX5_digest_8 3 rfl rfl)
theorem dX5_digest_194 : decode cX5_digest 194 = .ok (.goto (-25), 3) := dk_167 255 231 (dk_at dksX5_digest_8 6 rfl rfl)
theorem dX5_digest_197 : decode cX5_digest 197 = .ok (.lload_n 1, 1) := dk_31 (dk_at dksX5_digest_8 9 rfl rfl)
theorem dX5_digest_198 : decode cX5_digest 198 = .ok (.lreturn, 1) := dk_173 (dk_at dksX5_digest_8 10 rfl rfl)
theorem q58 : (Jvm.Cond.initialized "KnotLettersModel") ∈ lw_all := lw_g (lw_at lw_m1 12 rfl) rfl
theorem q986 : (Jvm.Cond.selects "KnotLettersModel" ({ cls := "java/lang/Object", name := "getClass", desc := "()Ljava/lang/Class;" } : Jvm.MethodName) ({ cls := "java/lang/Object", name := "getClass", desc := "()Ljava/lang/Class;" } : Jvm.MethodName)) ∈ lw_all := lw_g (lw_at lw_m4 220 rfl) rfl
theorem q1312 : (Jvm.Cond.selects "KnotLettersModel" ({ cls := "java/lang/Object", name := "equals", desc := "(Ljava/lang/Object;)Z" } : Jvm.MethodName) ({ cls := "java/lang/Object", name := "equals", desc := "(Ljava/lang/Object;)Z" } : Jvm.MethodName)) ∈ lw_all := lw_g (lw_at lw_m6 66 rfl) rfl
theorem q2067 : (Jvm.Cond.instantiable "KnotLettersModel" (23 : Nat)) ∈ lw_all := lw_g (lw_at lw_m9 101 rfl) rfl
theorem q2069 : (Jvm.Cond.instanceMethod ({ cls := "KnotLettersModel", name := "<init>", desc := "()V" } : Jvm.MethodName)) ∈ lw_all := lw_g (lw_at lw_m9 103 rfl) rfl
theorem q2070 : (Jvm.Cond.code ({ cls := "KnotLettersModel", name := "<init>", desc := "()V" } : Jvm.MethodName) prog_9_method_1_code (2 : Nat) (Option.none : Option Jvm.ClassFile.FieldType)) ∈ lw_all := lw_g (lw_at lw_m9 104 rfl) rfl
theorem q2071 : (Jvm.Cond.methodLink "KnotLettersModel" (1 : Nat) ({ cls := "java/lang/Object", name := "<init>", desc := "()V" } : Jvm.MethodName)) ∈ lw_all := lw_g (lw_at lw_m9 105 rfl) rfl
theorem q2072 : (Jvm.Cond.fieldLink "KnotLettersModel" (59 : Nat) "KnotLettersModel" "thrown" "I") ∈ lw_all := lw_g (lw_at lw_m9 106 rfl) rfl
theorem q2073 : (Jvm.Cond.fieldLink "KnotLettersModel" (9 : Nat) "KnotLettersModel" "rows" "[I") ∈ lw_all := lw_g (lw_at lw_m9 107 rfl) rfl
theorem q2074 : (Jvm.Cond.fieldLink "KnotLettersModel" (13 : Nat) "KnotLettersModel" "tied" "[I") ∈ lw_all := lw_g (lw_at lw_m9 108 rfl) rfl
theorem q2075 : (Jvm.Cond.fieldLink "KnotLettersModel" (101 : Nat) "KnotLettersModel" "slip" "I") ∈ lw_all := lw_g (lw_at lw_m9 109 rfl) rfl
theorem q2076 : (Jvm.Cond.fieldLink "KnotLettersModel" (104 : Nat) "KnotLettersModel" "skip" "I") ∈ lw_all := lw_g (lw_at lw_m9 110 rfl) rfl
theorem q2077 : (Jvm.Cond.fieldLink "KnotLettersModel" (123 : Nat) "KnotLettersModel" "counted" "I") ∈ lw_all := lw_g (lw_at lw_m9 111 rfl) rfl
theorem q2078 : (Jvm.Cond.fieldLink "KnotLettersModel" (16 : Nat) "KnotLettersModel" "feel" "[I") ∈ lw_all := lw_g (lw_at lw_m9 112 rfl) rfl
theorem q2079 : (Jvm.Cond.fieldLink "KnotLettersModel" (19 : Nat) "KnotLettersModel" "missed" "I") ∈ lw_all := lw_g (lw_at lw_m9 113 rfl) rfl
theorem q2080 : (Jvm.Cond.fieldLink "KnotLettersModel" (23 : Nat) "KnotLettersModel" "ghost" "I") ∈ lw_all := lw_g (lw_at lw_m9 114 rfl) rfl
theorem q2081 : (Jvm.Cond.fieldLink "KnotLettersModel" (113 : Nat) "KnotLettersModel" "cords" "I") ∈ lw_all := lw_g (lw_at lw_m9 115 rfl) rfl
theorem q2082 : (Jvm.Cond.fieldLink "KnotLettersModel" (26 : Nat) "KnotLettersModel" "size" "[I") ∈ lw_all := lw_g (lw_at lw_m9 116 rfl) rfl
theorem q2083 : (Jvm.Cond.fieldLink "KnotLettersModel" (29 : Nat) "KnotLettersModel" "knots" "[I") ∈ lw_all := lw_g (lw_at lw_m9 117 rfl) rfl
theorem q2084 : (Jvm.Cond.fieldLink "KnotLettersModel" (32 : Nat) "KnotLettersModel" "slipped" "[I") ∈ lw_all := lw_g (lw_at lw_m9 118 rfl) rfl
theorem q2085 : (Jvm.Cond.fieldLink "KnotLettersModel" (35 : Nat) "KnotLettersModel" "skipped" "[I") ∈ lw_all := lw_g (lw_at lw_m9 119 rfl) rfl
theorem q2086 : (Jvm.Cond.fieldLink "KnotLettersModel" (38 : Nat) "KnotLettersModel" "tape" "[I") ∈ lw_all := lw_g (lw_at lw_m9 120 rfl) rfl
theorem q2087 : (Jvm.Cond.fieldLink "KnotLettersModel" (107 : Nat) "KnotLettersModel" "taped" "I") ∈ lw_all := lw_g (lw_at lw_m9 121 rfl) rfl
theorem q2088 : (Jvm.Cond.fieldLink "KnotLettersModel" (41 : Nat) "KnotLettersModel" "paper" "[I") ∈ lw_all := lw_g (lw_at lw_m9 122 rfl) rfl
theorem q2089 : (Jvm.Cond.fieldLink "KnotLettersModel" (154 : Nat) "KnotLettersModel" "papered" "I") ∈ lw_all := lw_g (lw_at lw_m9 123 rfl) rfl
theorem q2090 : (Jvm.Cond.fieldLink "KnotLettersModel" (44 : Nat) "KnotLettersModel" "cost" "[I") ∈ lw_all := lw_g (lw_at lw_m9 124 rfl) rfl
theorem q2091 : (Jvm.Cond.fieldLink "KnotLettersModel" (47 : Nat) "KnotLettersModel" "many" "[I") ∈ lw_all := lw_g (lw_at lw_m9 125 rfl) rfl
theorem q2092 : (Jvm.Cond.fieldLink "KnotLettersModel" (50 : Nat) "KnotLettersModel" "letters" "[I") ∈ lw_all := lw_g (lw_at lw_m9 126 rfl) rfl
theorem q2093 : (Jvm.Cond.fieldLink "KnotLettersModel" (53 : Nat) "KnotLettersModel" "nexts" "[I") ∈ lw_all := lw_g (lw_at lw_m9 127 rfl) rfl
theorem q2094 : (Jvm.Cond.fieldLink "KnotLettersModel" (56 : Nat) "KnotLettersModel" "line" "[I") ∈ lw_all := lw_g (lw_at lw_m9 128 rfl) rfl
theorem q2095 : (Jvm.Cond.lays "KnotLettersModel" "KnotLettersModel" "thrown" "I") ∈ lw_all := lw_g (lw_at lw_m9 129 rfl) rfl
theorem q2096 : (Jvm.Cond.soleField "KnotLettersModel" "thrown") ∈ lw_all := lw_g (lw_at lw_m9 130 rfl) rfl
theorem q2097 : (Jvm.Cond.laysFinal "KnotLettersModel" "KnotLettersModel" "rows" "[I") ∈ lw_all := lw_g (lw_at lw_m9 131 rfl) rfl
theorem q2098 : (Jvm.Cond.soleField "KnotLettersModel" "rows") ∈ lw_all := lw_g (lw_at lw_m9 132 rfl) rfl
theorem q2099 : (Jvm.Cond.laysFinal "KnotLettersModel" "KnotLettersModel" "tied" "[I") ∈ lw_all := lw_g (lw_at lw_m9 133 rfl) rfl
theorem q2100 : (Jvm.Cond.soleField "KnotLettersModel" "tied") ∈ lw_all := lw_g (lw_at lw_m9 134 rfl) rfl
theorem q2101 : (Jvm.Cond.lays "KnotLettersModel" "KnotLettersModel" "slip" "I") ∈ lw_all := lw_g (lw_at lw_m9 135 rfl) rfl
theorem q2102 : (Jvm.Cond.soleField "KnotLettersModel" "slip") ∈ lw_all := lw_g (lw_at lw_m9 136 rfl) rfl
theorem q2103 : (Jvm.Cond.lays "KnotLettersModel" "KnotLettersModel" "skip" "I") ∈ lw_all := lw_g (lw_at lw_m9 137 rfl) rfl
theorem q2104 : (Jvm.Cond.soleField "KnotLettersModel" "skip") ∈ lw_all := lw_g (lw_at lw_m9 138 rfl) rfl
theorem q2105 : (Jvm.Cond.lays "KnotLettersModel" "KnotLettersModel" "counted" "I") ∈ lw_all := lw_g (lw_at lw_m9 139 rfl) rfl
theorem q2106 : (Jvm.Cond.soleField "KnotLettersModel" "counted") ∈ lw_all := lw_g (lw_at lw_m9 140 rfl) rfl
theorem q2107 : (Jvm.Cond.laysFinal "KnotLettersModel" "KnotLettersModel" "feel" "[I") ∈ lw_all := lw_g (lw_at lw_m9 141 rfl) rfl
theorem q2108 : (Jvm.Cond.soleField "KnotLettersModel" "feel") ∈ lw_all := lw_g (lw_at lw_m9 142 rfl) rfl
theorem q2109 : (Jvm.Cond.lays "KnotLettersModel" "KnotLettersModel" "missed" "I") ∈ lw_all := lw_g (lw_at lw_m9 143 rfl) rfl
theorem q2110 : (Jvm.Cond.soleField "KnotLettersModel" "missed") ∈ lw_all := lw_g (lw_at lw_m9 144 rfl) rfl
theorem q2111 : (Jvm.Cond.lays "KnotLettersModel" "KnotLettersModel" "ghost" "I") ∈ lw_all := lw_g (lw_at lw_m9 145 rfl) rfl
theorem q2112 : (Jvm.Cond.soleField "KnotLettersModel" "ghost") ∈ lw_all := lw_g (lw_at lw_m9 146 rfl) rfl
theorem q2113 : (Jvm.Cond.lays "KnotLettersModel" "KnotLettersModel" "cords" "I") ∈ lw_all := lw_g (lw_at lw_m9 147 rfl) rfl
theorem q2114 : (Jvm.Cond.soleField "KnotLettersModel" "cords") ∈ lw_all := lw_g (lw_at lw_m9 148 rfl) rfl
theorem q2115 : (Jvm.Cond.laysFinal "KnotLettersModel" "KnotLettersModel" "size" "[I") ∈ lw_all := lw_g (lw_at lw_m9 149 rfl) rfl
theorem q2116 : (Jvm.Cond.soleField "KnotLettersModel" "size") ∈ lw_all := lw_g (lw_at lw_m9 150 rfl) rfl
theorem q2117 : (Jvm.Cond.laysFinal "KnotLettersModel" "KnotLettersModel" "knots" "[I") ∈ lw_all := lw_g (lw_at lw_m9 151 rfl) rfl
theorem q2118 : (Jvm.Cond.soleField "KnotLettersModel" "knots") ∈ lw_all := lw_g (lw_at lw_m9 152 rfl) rfl
theorem q2119 : (Jvm.Cond.laysFinal "KnotLettersModel" "KnotLettersModel" "slipped" "[I") ∈ lw_all := lw_g (lw_at lw_m9 153 rfl) rfl
theorem q2120 : (Jvm.Cond.soleField "KnotLettersModel" "slipped") ∈ lw_all := lw_g (lw_at lw_m9 154 rfl) rfl
theorem q2121 : (Jvm.Cond.laysFinal "KnotLettersModel" "KnotLettersModel" "skipped" "[I") ∈ lw_all := lw_g (lw_at lw_m9 155 rfl) rfl
theorem q2122 : (Jvm.Cond.soleField "KnotLettersModel" "skipped") ∈ lw_all := lw_g (lw_at lw_m9 156 rfl) rfl
theorem q2123 : (Jvm.Cond.laysFinal "KnotLettersModel" "KnotLettersModel" "tape" "[I") ∈ lw_all := lw_g (lw_at lw_m9 157 rfl) rfl
theorem q2124 : (Jvm.Cond.soleField "KnotLettersModel" "tape") ∈ lw_all := lw_g (lw_at lw_m9 158 rfl) rfl
theorem q2125 : (Jvm.Cond.lays "KnotLettersModel" "KnotLettersModel" "taped" "I") ∈ lw_all := lw_g (lw_at lw_m9 159 rfl) rfl
theorem q2126 : (Jvm.Cond.soleField "KnotLettersModel" "taped") ∈ lw_all := lw_g (lw_at lw_m9 160 rfl) rfl
theorem q2127 : (Jvm.Cond.laysFinal "KnotLettersModel" "KnotLettersModel" "paper" "[I") ∈ lw_all := lw_g (lw_at lw_m9 161 rfl) rfl
theorem q2128 : (Jvm.Cond.soleField "KnotLettersModel" "paper") ∈ lw_all := lw_g (lw_at lw_m9 162 rfl) rfl
theorem q2129 : (Jvm.Cond.lays "KnotLettersModel" "KnotLettersModel" "papered" "I") ∈ lw_all := lw_g (lw_at lw_m9 163 rfl) rfl
theorem q2130 : (Jvm.Cond.soleField "KnotLettersModel" "papered") ∈ lw_all := lw_g (lw_at lw_m9 164 rfl) rfl
theorem q2131 : (Jvm.Cond.laysFinal "KnotLettersModel" "KnotLettersModel" "cost" "[I") ∈ lw_all := lw_g (lw_at lw_m9 165 rfl) rfl
theorem q2132 : (Jvm.Cond.soleField "KnotLettersModel" "cost") ∈ lw_all := lw_g (lw_at lw_m9 166 rfl) rfl
theorem q2133 : (Jvm.Cond.laysFinal "KnotLettersModel" "KnotLettersModel" "many" "[I") ∈ lw_all := lw_g (lw_at lw_m9 167 rfl) rfl
theorem q2134 : (Jvm.Cond.soleField "KnotLettersModel" "many") ∈ lw_all := lw_g (lw_at lw_m9 168 rfl) rfl
theorem q2135 : (Jvm.Cond.laysFinal "KnotLettersModel" "KnotLettersModel" "letters" "[I") ∈ lw_all := lw_g (lw_at lw_m9 169 rfl) rfl
theorem q2136 : (Jvm.Cond.soleField "KnotLettersModel" "letters") ∈ lw_all := lw_g (lw_at lw_m9 170 rfl) rfl
theorem q2137 : (Jvm.Cond.laysFinal "KnotLettersModel" "KnotLettersModel" "nexts" "[I") ∈ lw_all := lw_g (lw_at lw_m9 171 rfl) rfl
theorem q2138 : (Jvm.Cond.soleField "KnotLettersModel" "nexts") ∈ lw_all := lw_g (lw_at lw_m9 172 rfl) rfl
theorem q2139 : (Jvm.Cond.laysFinal "KnotLettersModel" "KnotLettersModel" "line" "[I") ∈ lw_all := lw_g (lw_at lw_m9 173 rfl) rfl
theorem q2140 : (Jvm.Cond.soleField "KnotLettersModel" "line") ∈ lw_all := lw_g (lw_at lw_m9 174 rfl) rfl
theorem q2141 : (Jvm.Cond.superclass "KnotLettersModel" "java/lang/Object") ∈ lw_all := lw_g (lw_at lw_m9 175 rfl) rfl
theorem q2143 : (Jvm.Cond.instanceMethod ({ cls := "KnotLettersModel", name := "thrown", desc := "()I" } : Jvm.MethodName)) ∈ lw_all := lw_g (lw_at lw_m9 177 rfl) rfl
theorem q2144 : (Jvm.Cond.selects "KnotLettersModel" ({ cls := "KnotLettersModel", name := "thrown", desc := "()I" } : Jvm.MethodName) ({ cls := "KnotLettersModel", name := "thrown", desc := "()I" } : Jvm.MethodName)) ∈ lw_all := lw_g (lw_at lw_m9 178 rfl) rfl
theorem q2145 : (Jvm.Cond.code ({ cls := "KnotLettersModel", name := "thrown", desc := "()I" } : Jvm.MethodName) prog_9_method_2_code (1 : Nat) (Option.some Jvm.ClassFile.FieldType.int)) ∈ lw_all := lw_g (lw_at lw_m9 179 rfl) rfl
theorem q2147 : (Jvm.Cond.instanceMethod ({ cls := "KnotLettersModel", name := "setLetter", desc := "(II)I" } : Jvm.MethodName)) ∈ lw_all := lw_g (lw_at lw_m9 181 rfl) rfl
theorem q2148 : (Jvm.Cond.selects "KnotLettersModel" ({ cls := "KnotLettersModel", name := "setLetter", desc := "(II)I" } : Jvm.MethodName) ({ cls := "KnotLettersModel", name := "setLetter", desc := "(II)I" } : Jvm.MethodName)) ∈ lw_all := lw_g (lw_at lw_m9 182 rfl) rfl
theorem q2149 : (Jvm.Cond.code ({ cls := "KnotLettersModel", name := "setLetter", desc := "(II)I" } : Jvm.MethodName) prog_9_method_8_code (4 : Nat) (Option.some Jvm.ClassFile.FieldType.int)) ∈ lw_all := lw_g (lw_at lw_m9 183 rfl) rfl
theorem q2150 : (Jvm.Cond.methodLink "KnotLettersModel" (66 : Nat) ({ cls := "KnotLettersModel", name := "isIn", desc := "(III)Z" } : Jvm.MethodName)) ∈ lw_all := lw_g (lw_at lw_m9 184 rfl) rfl
theorem q2151 : (Jvm.Cond.static ({ cls := "KnotLettersModel", name := "isIn", desc := "(III)Z" } : Jvm.MethodName)) ∈ lw_all := lw_g (lw_at lw_m9 185 rfl) rfl
theorem q2152 : (Jvm.Cond.code ({ cls := "KnotLettersModel", name := "isIn", desc := "(III)Z" } : Jvm.MethodName) prog_9_method_4_code (3 : Nat) (Option.some Jvm.ClassFile.FieldType.boolean)) ∈ lw_all := lw_g (lw_at lw_m9 186 rfl) rfl
theorem q2153 : (Jvm.Cond.methodLink "KnotLettersModel" (70 : Nat) ({ cls := "KnotLettersModel", name := "no", desc := "(I)I" } : Jvm.MethodName)) ∈ lw_all := lw_g (lw_at lw_m9 187 rfl) rfl
theorem q2154 : (Jvm.Cond.privateMethod ({ cls := "KnotLettersModel", name := "no", desc := "(I)I" } : Jvm.MethodName)) ∈ lw_tbl := lw_at lw_m9 188 rfl
theorem q2155 : (Jvm.Cond.instanceMethod ({ cls := "KnotLettersModel", name := "no", desc := "(I)I" } : Jvm.MethodName)) ∈ lw_all := lw_g (lw_at lw_m9 189 rfl) rfl
theorem q2156 : (Jvm.Cond.code ({ cls := "KnotLettersModel", name := "no", desc := "(I)I" } : Jvm.MethodName) prog_9_method_3_code (2 : Nat) (Option.some Jvm.ClassFile.FieldType.int)) ∈ lw_all := lw_g (lw_at lw_m9 190 rfl) rfl
theorem q2157 : (Jvm.Cond.methodLink "KnotLettersModel" (73 : Nat) ({ cls := "KnotLettersModel", name := "isRow", desc := "(I)Z" } : Jvm.MethodName)) ∈ lw_all := lw_g (lw_at lw_m9 191 rfl) rfl
theorem q2158 : (Jvm.Cond.static ({ cls := "KnotLettersModel", name := "isRow", desc := "(I)Z" } : Jvm.MethodName)) ∈ lw_all := lw_g (lw_at lw_m9 192 rfl) rfl
theorem q2159 : (Jvm.Cond.code ({ cls := "KnotLettersModel", name := "isRow", desc := "(I)Z" } : Jvm.MethodName) prog_9_method_7_code (3 : Nat) (Option.some Jvm.ClassFile.FieldType.boolean)) ∈ lw_all := lw_g (lw_at lw_m9 193 rfl) rfl
theorem q2161 : (Jvm.Cond.instanceMethod ({ cls := "KnotLettersModel", name := "letter", desc := "(II)I" } : Jvm.MethodName)) ∈ lw_all := lw_g (lw_at lw_m9 195 rfl) rfl
theorem q2162 : (Jvm.Cond.selects "KnotLettersModel" ({ cls := "KnotLettersModel", name := "letter", desc := "(II)I" } : Jvm.MethodName) ({ cls := "KnotLettersModel", name := "letter", desc := "(II)I" } : Jvm.MethodName)) ∈ lw_all := lw_g (lw_at lw_m9 196 rfl) rfl
theorem q2163 : (Jvm.Cond.code ({ cls := "KnotLettersModel", name := "letter", desc := "(II)I" } : Jvm.MethodName) prog_9_method_10_code (3 : Nat) (Option.some Jvm.ClassFile.FieldType.int)) ∈ lw_all := lw_g (lw_at lw_m9 197 rfl) rfl
theorem q2164 : (Jvm.Cond.methodLink "KnotLettersModel" (77 : Nat) ({ cls := "KnotLettersModel", name := "letterTold", desc := "(II)I" } : Jvm.MethodName)) ∈ lw_all := lw_g (lw_at lw_m9 198 rfl) rfl
theorem q2165 : (Jvm.Cond.privateMethod ({ cls := "KnotLettersModel", name := "letterTold", desc := "(II)I" } : Jvm.MethodName)) ∈ lw_tbl := lw_at lw_m9 199 rfl
theorem q2166 : (Jvm.Cond.instanceMethod ({ cls := "KnotLettersModel", name := "letterTold", desc := "(II)I" } : Jvm.MethodName)) ∈ lw_all := lw_g (lw_at lw_m9 200 rfl) rfl
theorem q2167 : (Jvm.Cond.code ({ cls := "KnotLettersModel", name := "letterTold", desc := "(II)I" } : Jvm.MethodName) prog_9_method_9_code (3 : Nat) (Option.some Jvm.ClassFile.FieldType.int)) ∈ lw_all := lw_g (lw_at lw_m9 201 rfl) rfl
theorem q2168 : (Jvm.Cond.methodLink "KnotLettersModel" (62 : Nat) ({ cls := "KnotLettersModel", name := "lengthOf", desc := "(I)I" } : Jvm.MethodName)) ∈ lw_all := lw_g (lw_at lw_m9 202 rfl) rfl
theorem q2169 : (Jvm.Cond.static ({ cls := "KnotLettersModel", name := "lengthOf", desc := "(I)I" } : Jvm.MethodName)) ∈ lw_all := lw_g (lw_at lw_m9 203 rfl) rfl
theorem q2170 : (Jvm.Cond.code ({ cls := "KnotLettersModel", name := "lengthOf", desc := "(I)I" } : Jvm.MethodName) prog_9_method_5_code (1 : Nat) (Option.some Jvm.ClassFile.FieldType.int)) ∈ lw_all := lw_g (lw_at lw_m9 204 rfl) rfl
theorem q2172 : (Jvm.Cond.instanceMethod ({ cls := "KnotLettersModel", name := "isFree", desc := "()Z" } : Jvm.MethodName)) ∈ lw_all := lw_g (lw_at lw_m9 206 rfl) rfl
theorem q2173 : (Jvm.Cond.selects "KnotLettersModel" ({ cls := "KnotLettersModel", name := "isFree", desc := "()Z" } : Jvm.MethodName) ({ cls := "KnotLettersModel", name := "isFree", desc := "()Z" } : Jvm.MethodName)) ∈ lw_all := lw_g (lw_at lw_m9 207 rfl) rfl
theorem q2174 : (Jvm.Cond.code ({ cls := "KnotLettersModel", name := "isFree", desc := "()Z" } : Jvm.MethodName) prog_9_method_12_code (4 : Nat) (Option.some Jvm.ClassFile.FieldType.boolean)) ∈ lw_all := lw_g (lw_at lw_m9 208 rfl) rfl
theorem q2175 : (Jvm.Cond.methodLink "KnotLettersModel" (81 : Nat) ({ cls := "KnotLettersModel", name := "begins", desc := "(II)Z" } : Jvm.MethodName)) ∈ lw_all := lw_g (lw_at lw_m9 209 rfl) rfl
theorem q2176 : (Jvm.Cond.static ({ cls := "KnotLettersModel", name := "begins", desc := "(II)Z" } : Jvm.MethodName)) ∈ lw_all := lw_g (lw_at lw_m9 210 rfl) rfl
theorem q2177 : (Jvm.Cond.code ({ cls := "KnotLettersModel", name := "begins", desc := "(II)Z" } : Jvm.MethodName) prog_9_method_11_code (3 : Nat) (Option.some Jvm.ClassFile.FieldType.boolean)) ∈ lw_all := lw_g (lw_at lw_m9 211 rfl) rfl
theorem q2179 : (Jvm.Cond.instanceMethod ({ cls := "KnotLettersModel", name := "isClear", desc := "()Z" } : Jvm.MethodName)) ∈ lw_all := lw_g (lw_at lw_m9 213 rfl) rfl
theorem q2180 : (Jvm.Cond.selects "KnotLettersModel" ({ cls := "KnotLettersModel", name := "isClear", desc := "()Z" } : Jvm.MethodName) ({ cls := "KnotLettersModel", name := "isClear", desc := "()Z" } : Jvm.MethodName)) ∈ lw_all := lw_g (lw_at lw_m9 214 rfl) rfl
theorem q2181 : (Jvm.Cond.code ({ cls := "KnotLettersModel", name := "isClear", desc := "()Z" } : Jvm.MethodName) prog_9_method_14_code (7 : Nat) (Option.some Jvm.ClassFile.FieldType.boolean)) ∈ lw_all := lw_g (lw_at lw_m9 215 rfl) rfl
theorem q2182 : (Jvm.Cond.methodLink "KnotLettersModel" (93 : Nat) ({ cls := "KnotLettersModel", name := "over", desc := "(III)I" } : Jvm.MethodName)) ∈ lw_all := lw_g (lw_at lw_m9 216 rfl) rfl
theorem q2183 : (Jvm.Cond.privateMethod ({ cls := "KnotLettersModel", name := "over", desc := "(III)I" } : Jvm.MethodName)) ∈ lw_tbl := lw_at lw_m9 217 rfl
theorem q2184 : (Jvm.Cond.instanceMethod ({ cls := "KnotLettersModel", name := "over", desc := "(III)I" } : Jvm.MethodName)) ∈ lw_all := lw_g (lw_at lw_m9 218 rfl) rfl
theorem q2185 : (Jvm.Cond.code ({ cls := "KnotLettersModel", name := "over", desc := "(III)I" } : Jvm.MethodName) prog_9_method_13_code (7 : Nat) (Option.some Jvm.ClassFile.FieldType.int)) ∈ lw_all := lw_g (lw_at lw_m9 219 rfl) rfl
theorem q2186 : (Jvm.Cond.methodLink "KnotLettersModel" (85 : Nat) ({ cls := "java/lang/Math", name := "min", desc := "(II)I" } : Jvm.MethodName)) ∈ lw_all := lw_g (lw_at lw_m9 220 rfl) rfl
theorem q2187 : (Jvm.Cond.methodLink "KnotLettersModel" (90 : Nat) ({ cls := "KnotLettersModel", name := "knotOf", desc := "(II)I" } : Jvm.MethodName)) ∈ lw_all := lw_g (lw_at lw_m9 221 rfl) rfl
theorem q2188 : (Jvm.Cond.static ({ cls := "KnotLettersModel", name := "knotOf", desc := "(II)I" } : Jvm.MethodName)) ∈ lw_all := lw_g (lw_at lw_m9 222 rfl) rfl
theorem q2189 : (Jvm.Cond.code ({ cls := "KnotLettersModel", name := "knotOf", desc := "(II)I" } : Jvm.MethodName) prog_9_method_6_code (4 : Nat) (Option.some Jvm.ClassFile.FieldType.int)) ∈ lw_all := lw_g (lw_at lw_m9 223 rfl) rfl
theorem q2192 : (Jvm.Cond.instanceMethod ({ cls := "KnotLettersModel", name := "alike", desc := "(II)I" } : Jvm.MethodName)) ∈ lw_all := lw_g (lw_at lw_m9 226 rfl) rfl
theorem q2193 : (Jvm.Cond.selects "KnotLettersModel" ({ cls := "KnotLettersModel", name := "alike", desc := "(II)I" } : Jvm.MethodName) ({ cls := "KnotLettersModel", name := "alike", desc := "(II)I" } : Jvm.MethodName)) ∈ lw_all := lw_g (lw_at lw_m9 227 rfl) rfl
theorem q2194 : (Jvm.Cond.code ({ cls := "KnotLettersModel", name := "alike", desc := "(II)I" } : Jvm.MethodName) prog_9_method_17_code (3 : Nat) (Option.some Jvm.ClassFile.FieldType.int)) ∈ lw_all := lw_g (lw_at lw_m9 228 rfl) rfl
theorem q2195 : (Jvm.Cond.methodLink "KnotLettersModel" (98 : Nat) ({ cls := "KnotLettersModel", name := "apart", desc := "(II)I" } : Jvm.MethodName)) ∈ lw_all := lw_g (lw_at lw_m9 229 rfl) rfl
theorem q2196 : (Jvm.Cond.privateMethod ({ cls := "KnotLettersModel", name := "apart", desc := "(II)I" } : Jvm.MethodName)) ∈ lw_tbl := lw_at lw_m9 230 rfl
theorem q2197 : (Jvm.Cond.instanceMethod ({ cls := "KnotLettersModel", name := "apart", desc := "(II)I" } : Jvm.MethodName)) ∈ lw_all := lw_g (lw_at lw_m9 231 rfl) rfl
theorem q2198 : (Jvm.Cond.code ({ cls := "KnotLettersModel", name := "apart", desc := "(II)I" } : Jvm.MethodName) prog_9_method_16_code (9 : Nat) (Option.some Jvm.ClassFile.FieldType.int)) ∈ lw_all := lw_g (lw_at lw_m9 232 rfl) rfl
theorem q2199 : (Jvm.Cond.constant "KnotLettersModel" (97 : Nat) (100000000 : Int32)) ∈ lw_all := lw_g (lw_at lw_m9 233 rfl) rfl
theorem q2201 : (Jvm.Cond.instanceMethod ({ cls := "KnotLettersModel", name := "closest", desc := "()I" } : Jvm.MethodName)) ∈ lw_all := lw_g (lw_at lw_m9 235 rfl) rfl
theorem q2202 : (Jvm.Cond.selects "KnotLettersModel" ({ cls := "KnotLettersModel", name := "closest", desc := "()I" } : Jvm.MethodName) ({ cls := "KnotLettersModel", name := "closest", desc := "()I" } : Jvm.MethodName)) ∈ lw_all := lw_g (lw_at lw_m9 236 rfl) rfl
theorem q2203 : (Jvm.Cond.code ({ cls := "KnotLettersModel", name := "closest", desc := "()I" } : Jvm.MethodName) prog_9_method_18_code (5 : Nat) (Option.some Jvm.ClassFile.FieldType.int)) ∈ lw_all := lw_g (lw_at lw_m9 237 rfl) rfl
theorem q2205 : (Jvm.Cond.instanceMethod ({ cls := "KnotLettersModel", name := "advise", desc := "()I" } : Jvm.MethodName)) ∈ lw_all := lw_g (lw_at lw_m9 239 rfl) rfl
theorem q2206 : (Jvm.Cond.selects "KnotLettersModel" ({ cls := "KnotLettersModel", name := "advise", desc := "()I" } : Jvm.MethodName) ({ cls := "KnotLettersModel", name := "advise", desc := "()I" } : Jvm.MethodName)) ∈ lw_all := lw_g (lw_at lw_m10 0 rfl) rfl
theorem q2207 : (Jvm.Cond.code ({ cls := "KnotLettersModel", name := "advise", desc := "()I" } : Jvm.MethodName) prog_9_method_19_code (4 : Nat) (Option.some Jvm.ClassFile.FieldType.int)) ∈ lw_all := lw_g (lw_at lw_m10 1 rfl) rfl
theorem q2209 : (Jvm.Cond.instanceMethod ({ cls := "KnotLettersModel", name := "setKnotter", desc := "(II)I" } : Jvm.MethodName)) ∈ lw_all := lw_g (lw_at lw_m10 3 rfl) rfl
theorem q2210 : (Jvm.Cond.selects "KnotLettersModel" ({ cls := "KnotLettersModel", name := "setKnotter", desc := "(II)I" } : Jvm.MethodName) ({ cls := "KnotLettersModel", name := "setKnotter", desc := "(II)I" } : Jvm.MethodName)) ∈ lw_all := lw_g (lw_at lw_m10 4 rfl) rfl
theorem q2211 : (Jvm.Cond.code ({ cls := "KnotLettersModel", name := "setKnotter", desc := "(II)I" } : Jvm.MethodName) prog_9_method_20_code (4 : Nat) (Option.some Jvm.ClassFile.FieldType.int)) ∈ lw_all := lw_g (lw_at lw_m10 5 rfl) rfl
theorem q2213 : (Jvm.Cond.instanceMethod ({ cls := "KnotLettersModel", name := "setFeel", desc := "(III)I" } : Jvm.MethodName)) ∈ lw_all := lw_g (lw_at lw_m10 7 rfl) rfl
theorem q2214 : (Jvm.Cond.selects "KnotLettersModel" ({ cls := "KnotLettersModel", name := "setFeel", desc := "(III)I" } : Jvm.MethodName) ({ cls := "KnotLettersModel", name := "setFeel", desc := "(III)I" } : Jvm.MethodName)) ∈ lw_all := lw_g (lw_at lw_m10 8 rfl) rfl
theorem q2215 : (Jvm.Cond.code ({ cls := "KnotLettersModel", name := "setFeel", desc := "(III)I" } : Jvm.MethodName) prog_9_method_21_code (5 : Nat) (Option.some Jvm.ClassFile.FieldType.int)) ∈ lw_all := lw_g (lw_at lw_m10 9 rfl) rfl
theorem q2217 : (Jvm.Cond.instanceMethod ({ cls := "KnotLettersModel", name := "setCosts", desc := "(II)I" } : Jvm.MethodName)) ∈ lw_all := lw_g (lw_at lw_m10 11 rfl) rfl
theorem q2218 : (Jvm.Cond.selects "KnotLettersModel" ({ cls := "KnotLettersModel", name := "setCosts", desc := "(II)I" } : Jvm.MethodName) ({ cls := "KnotLettersModel", name := "setCosts", desc := "(II)I" } : Jvm.MethodName)) ∈ lw_all := lw_g (lw_at lw_m10 12 rfl) rfl
theorem q2219 : (Jvm.Cond.code ({ cls := "KnotLettersModel", name := "setCosts", desc := "(II)I" } : Jvm.MethodName) prog_9_method_22_code (4 : Nat) (Option.some Jvm.ClassFile.FieldType.int)) ∈ lw_all := lw_g (lw_at lw_m10 13 rfl) rfl
theorem q2221 : (Jvm.Cond.instanceMethod ({ cls := "KnotLettersModel", name := "feed", desc := "(IIIII)I" } : Jvm.MethodName)) ∈ lw_all := lw_g (lw_at lw_m10 15 rfl) rfl
theorem q2222 : (Jvm.Cond.selects "KnotLettersModel" ({ cls := "KnotLettersModel", name := "feed", desc := "(IIIII)I" } : Jvm.MethodName) ({ cls := "KnotLettersModel", name := "feed", desc := "(IIIII)I" } : Jvm.MethodName)) ∈ lw_all := lw_g (lw_at lw_m10 16 rfl) rfl
theorem q2223 : (Jvm.Cond.code ({ cls := "KnotLettersModel", name := "feed", desc := "(IIIII)I" } : Jvm.MethodName) prog_9_method_23_code (12 : Nat) (Option.some Jvm.ClassFile.FieldType.int)) ∈ lw_all := lw_g (lw_at lw_m10 17 rfl) rfl
theorem q2225 : (Jvm.Cond.instanceMethod ({ cls := "KnotLettersModel", name := "trim", desc := "(I)I" } : Jvm.MethodName)) ∈ lw_all := lw_g (lw_at lw_m10 19 rfl) rfl
theorem q2226 : (Jvm.Cond.selects "KnotLettersModel" ({ cls := "KnotLettersModel", name := "trim", desc := "(I)I" } : Jvm.MethodName) ({ cls := "KnotLettersModel", name := "trim", desc := "(I)I" } : Jvm.MethodName)) ∈ lw_all := lw_g (lw_at lw_m10 20 rfl) rfl
theorem q2227 : (Jvm.Cond.code ({ cls := "KnotLettersModel", name := "trim", desc := "(I)I" } : Jvm.MethodName) prog_9_method_24_code (2 : Nat) (Option.some Jvm.ClassFile.FieldType.int)) ∈ lw_all := lw_g (lw_at lw_m10 21 rfl) rfl
theorem q2229 : (Jvm.Cond.instanceMethod ({ cls := "KnotLettersModel", name := "tie", desc := "()I" } : Jvm.MethodName)) ∈ lw_all := lw_g (lw_at lw_m10 23 rfl) rfl
theorem q2230 : (Jvm.Cond.selects "KnotLettersModel" ({ cls := "KnotLettersModel", name := "tie", desc := "()I" } : Jvm.MethodName) ({ cls := "KnotLettersModel", name := "tie", desc := "()I" } : Jvm.MethodName)) ∈ lw_all := lw_g (lw_at lw_m10 24 rfl) rfl
theorem q2231 : (Jvm.Cond.code ({ cls := "KnotLettersModel", name := "tie", desc := "()I" } : Jvm.MethodName) prog_9_method_26_code (5 : Nat) (Option.some Jvm.ClassFile.FieldType.int)) ∈ lw_all := lw_g (lw_at lw_m10 25 rfl) rfl
theorem q2232 : (Jvm.Cond.methodLink "KnotLettersModel" (110 : Nat) ({ cls := "KnotLettersModel", name := "isLetter", desc := "(I)Z" } : Jvm.MethodName)) ∈ lw_all := lw_g (lw_at lw_m10 26 rfl) rfl
theorem q2233 : (Jvm.Cond.privateMethod ({ cls := "KnotLettersModel", name := "isLetter", desc := "(I)Z" } : Jvm.MethodName)) ∈ lw_tbl := lw_at lw_m10 27 rfl
theorem q2234 : (Jvm.Cond.instanceMethod ({ cls := "KnotLettersModel", name := "isLetter", desc := "(I)Z" } : Jvm.MethodName)) ∈ lw_all := lw_g (lw_at lw_m10 28 rfl) rfl
theorem q2235 : (Jvm.Cond.code ({ cls := "KnotLettersModel", name := "isLetter", desc := "(I)Z" } : Jvm.MethodName) prog_9_method_25_code (2 : Nat) (Option.some Jvm.ClassFile.FieldType.boolean)) ∈ lw_all := lw_g (lw_at lw_m10 29 rfl) rfl
theorem q2236 : (Jvm.Cond.methodLink "KnotLettersModel" (116 : Nat) ({ cls := "KnotLettersModel", name := "put", desc := "(II)V" } : Jvm.MethodName)) ∈ lw_all := lw_g (lw_at lw_m10 30 rfl) rfl
theorem q2237 : (Jvm.Cond.privateMethod ({ cls := "KnotLettersModel", name := "put", desc := "(II)V" } : Jvm.MethodName)) ∈ lw_tbl := lw_at lw_m10 31 rfl
theorem q2238 : (Jvm.Cond.instanceMethod ({ cls := "KnotLettersModel", name := "put", desc := "(II)V" } : Jvm.MethodName)) ∈ lw_all := lw_g (lw_at lw_m10 32 rfl) rfl
theorem q2239 : (Jvm.Cond.code ({ cls := "KnotLettersModel", name := "put", desc := "(II)V" } : Jvm.MethodName) prog_9_method_27_code (3 : Nat) (Option.none : Option Jvm.ClassFile.FieldType)) ∈ lw_all := lw_g (lw_at lw_m10 33 rfl) rfl
theorem q2240 : (Jvm.Cond.methodLink "KnotLettersModel" (120 : Nat) ({ cls := "KnotLettersModel", name := "tie", desc := "(II)V" } : Jvm.MethodName)) ∈ lw_all := lw_g (lw_at lw_m10 34 rfl) rfl
theorem q2241 : (Jvm.Cond.privateMethod ({ cls := "KnotLettersModel", name := "tie", desc := "(II)V" } : Jvm.MethodName)) ∈ lw_tbl := lw_at lw_m10 35 rfl
theorem q2242 : (Jvm.Cond.instanceMethod ({ cls := "KnotLettersModel", name := "tie", desc := "(II)V" } : Jvm.MethodName)) ∈ lw_all := lw_g (lw_at lw_m10 36 rfl) rfl
theorem q2243 : (Jvm.Cond.code ({ cls := "KnotLettersModel", name := "tie", desc := "(II)V" } : Jvm.MethodName) prog_9_method_28_code (5 : Nat) (Option.none : Option Jvm.ClassFile.FieldType)) ∈ lw_all := lw_g (lw_at lw_m10 37 rfl) rfl
theorem q2245 : (Jvm.Cond.instanceMethod ({ cls := "KnotLettersModel", name := "cord", desc := "(II)I" } : Jvm.MethodName)) ∈ lw_all := lw_g (lw_at lw_m10 39 rfl) rfl
theorem q2246 : (Jvm.Cond.selects "KnotLettersModel" ({ cls := "KnotLettersModel", name := "cord", desc := "(II)I" } : Jvm.MethodName) ({ cls := "KnotLettersModel", name := "cord", desc := "(II)I" } : Jvm.MethodName)) ∈ lw_all := lw_g (lw_at lw_m10 40 rfl) rfl
theorem q2247 : (Jvm.Cond.code ({ cls := "KnotLettersModel", name := "cord", desc := "(II)I" } : Jvm.MethodName) prog_9_method_37_code (3 : Nat) (Option.some Jvm.ClassFile.FieldType.int)) ∈ lw_all := lw_g (lw_at lw_m10 41 rfl) rfl
theorem q2248 : (Jvm.Cond.methodLink "KnotLettersModel" (160 : Nat) ({ cls := "KnotLettersModel", name := "isCord", desc := "(I)Z" } : Jvm.MethodName)) ∈ lw_all := lw_g (lw_at lw_m10 42 rfl) rfl
theorem q2249 : (Jvm.Cond.privateMethod ({ cls := "KnotLettersModel", name := "isCord", desc := "(I)Z" } : Jvm.MethodName)) ∈ lw_tbl := lw_at lw_m10 43 rfl
theorem q2250 : (Jvm.Cond.instanceMethod ({ cls := "KnotLettersModel", name := "isCord", desc := "(I)Z" } : Jvm.MethodName)) ∈ lw_all := lw_g (lw_at lw_m10 44 rfl) rfl
theorem q2251 : (Jvm.Cond.code ({ cls := "KnotLettersModel", name := "isCord", desc := "(I)Z" } : Jvm.MethodName) prog_9_method_29_code (2 : Nat) (Option.some Jvm.ClassFile.FieldType.boolean)) ∈ lw_all := lw_g (lw_at lw_m10 45 rfl) rfl
theorem q2252 : (Jvm.Cond.methodLink "KnotLettersModel" (163 : Nat) ({ cls := "KnotLettersModel", name := "cordTold", desc := "(II)I" } : Jvm.MethodName)) ∈ lw_all := lw_g (lw_at lw_m10 46 rfl) rfl
theorem q2253 : (Jvm.Cond.privateMethod ({ cls := "KnotLettersModel", name := "cordTold", desc := "(II)I" } : Jvm.MethodName)) ∈ lw_tbl := lw_at lw_m10 47 rfl
theorem q2254 : (Jvm.Cond.instanceMethod ({ cls := "KnotLettersModel", name := "cordTold", desc := "(II)I" } : Jvm.MethodName)) ∈ lw_all := lw_g (lw_at lw_m10 48 rfl) rfl
theorem q2255 : (Jvm.Cond.code ({ cls := "KnotLettersModel", name := "cordTold", desc := "(II)I" } : Jvm.MethodName) prog_9_method_36_code (5 : Nat) (Option.some Jvm.ClassFile.FieldType.int)) ∈ lw_all := lw_g (lw_at lw_m10 49 rfl) rfl
theorem q2256 : (Jvm.Cond.methodLink "KnotLettersModel" (157 : Nat) ({ cls := "KnotLettersModel", name := "over", desc := "(IIZ)I" } : Jvm.MethodName)) ∈ lw_all := lw_g (lw_at lw_m10 50 rfl) rfl
theorem q2257 : (Jvm.Cond.privateMethod ({ cls := "KnotLettersModel", name := "over", desc := "(IIZ)I" } : Jvm.MethodName)) ∈ lw_tbl := lw_at lw_m10 51 rfl
theorem q2258 : (Jvm.Cond.instanceMethod ({ cls := "KnotLettersModel", name := "over", desc := "(IIZ)I" } : Jvm.MethodName)) ∈ lw_all := lw_g (lw_at lw_m10 52 rfl) rfl
theorem q2259 : (Jvm.Cond.code ({ cls := "KnotLettersModel", name := "over", desc := "(IIZ)I" } : Jvm.MethodName) prog_9_method_34_code (9 : Nat) (Option.some Jvm.ClassFile.FieldType.int)) ∈ lw_all := lw_g (lw_at lw_m10 53 rfl) rfl
theorem q2260 : (Jvm.Cond.constantLong "KnotLettersModel" (139 : Nat) (1000000 : Int64)) ∈ lw_all := lw_g (lw_at lw_m10 54 rfl) rfl
theorem q2261 : (Jvm.Cond.methodLink "KnotLettersModel" (141 : Nat) ({ cls := "KnotLettersModel", name := "ways", desc := "(II)I" } : Jvm.MethodName)) ∈ lw_all := lw_g (lw_at lw_m10 55 rfl) rfl
theorem q2262 : (Jvm.Cond.privateMethod ({ cls := "KnotLettersModel", name := "ways", desc := "(II)I" } : Jvm.MethodName)) ∈ lw_tbl := lw_at lw_m10 56 rfl
theorem q2263 : (Jvm.Cond.instanceMethod ({ cls := "KnotLettersModel", name := "ways", desc := "(II)I" } : Jvm.MethodName)) ∈ lw_all := lw_g (lw_at lw_m10 57 rfl) rfl
theorem q2264 : (Jvm.Cond.code ({ cls := "KnotLettersModel", name := "ways", desc := "(II)I" } : Jvm.MethodName) prog_9_method_33_code (9 : Nat) (Option.some Jvm.ClassFile.FieldType.int)) ∈ lw_all := lw_g (lw_at lw_m10 58 rfl) rfl
theorem q2265 : (Jvm.Cond.constant "KnotLettersModel" (138 : Nat) (1000000 : Int32)) ∈ lw_all := lw_g (lw_at lw_m10 59 rfl) rfl
theorem q2266 : (Jvm.Cond.methodLink "KnotLettersModel" (144 : Nat) ({ cls := "java/lang/Math", name := "min", desc := "(JJ)J" } : Jvm.MethodName)) ∈ lw_all := lw_g (lw_at lw_m10 60 rfl) rfl
theorem q2267 : (Jvm.Cond.methodLink "KnotLettersModel" (147 : Nat) ({ cls := "KnotLettersModel", name := "find", desc := "(II)V" } : Jvm.MethodName)) ∈ lw_all := lw_g (lw_at lw_m10 61 rfl) rfl
theorem q2268 : (Jvm.Cond.privateMethod ({ cls := "KnotLettersModel", name := "find", desc := "(II)V" } : Jvm.MethodName)) ∈ lw_tbl := lw_at lw_m10 62 rfl
theorem q2269 : (Jvm.Cond.instanceMethod ({ cls := "KnotLettersModel", name := "find", desc := "(II)V" } : Jvm.MethodName)) ∈ lw_all := lw_g (lw_at lw_m10 63 rfl) rfl
theorem q2270 : (Jvm.Cond.code ({ cls := "KnotLettersModel", name := "find", desc := "(II)V" } : Jvm.MethodName) prog_9_method_30_code (7 : Nat) (Option.none : Option Jvm.ClassFile.FieldType)) ∈ lw_all := lw_g (lw_at lw_m10 64 rfl) rfl
theorem q2271 : (Jvm.Cond.methodLink "KnotLettersModel" (126 : Nat) ({ cls := "KnotLettersModel", name := "lay", desc := "(III)V" } : Jvm.MethodName)) ∈ lw_all := lw_g (lw_at lw_m10 65 rfl) rfl
theorem q2272 : (Jvm.Cond.privateMethod ({ cls := "KnotLettersModel", name := "lay", desc := "(III)V" } : Jvm.MethodName)) ∈ lw_tbl := lw_at lw_m10 66 rfl
theorem q2273 : (Jvm.Cond.instanceMethod ({ cls := "KnotLettersModel", name := "lay", desc := "(III)V" } : Jvm.MethodName)) ∈ lw_all := lw_g (lw_at lw_m10 67 rfl) rfl
theorem q2274 : (Jvm.Cond.code ({ cls := "KnotLettersModel", name := "lay", desc := "(III)V" } : Jvm.MethodName) prog_9_method_15_code (8 : Nat) (Option.none : Option Jvm.ClassFile.FieldType)) ∈ lw_all := lw_g (lw_at lw_m10 68 rfl) rfl
theorem q2275 : (Jvm.Cond.methodLink "KnotLettersModel" (130 : Nat) ({ cls := "KnotLettersModel", name := "improve", desc := "(IIII)V" } : Jvm.MethodName)) ∈ lw_all := lw_g (lw_at lw_m10 69 rfl) rfl
theorem q2276 : (Jvm.Cond.privateMethod ({ cls := "KnotLettersModel", name := "improve", desc := "(IIII)V" } : Jvm.MethodName)) ∈ lw_tbl := lw_at lw_m10 70 rfl
theorem q2277 : (Jvm.Cond.instanceMethod ({ cls := "KnotLettersModel", name := "improve", desc := "(IIII)V" } : Jvm.MethodName)) ∈ lw_all := lw_g (lw_at lw_m10 71 rfl) rfl
theorem q2278 : (Jvm.Cond.code ({ cls := "KnotLettersModel", name := "improve", desc := "(IIII)V" } : Jvm.MethodName) prog_9_method_31_code (5 : Nat) (Option.none : Option Jvm.ClassFile.FieldType)) ∈ lw_all := lw_g (lw_at lw_m10 72 rfl) rfl
theorem q2279 : (Jvm.Cond.methodLink "KnotLettersModel" (134 : Nat) ({ cls := "KnotLettersModel", name := "isAhead", desc := "(IIII)Z" } : Jvm.MethodName)) ∈ lw_all := lw_g (lw_at lw_m10 73 rfl) rfl
theorem q2280 : (Jvm.Cond.privateMethod ({ cls := "KnotLettersModel", name := "isAhead", desc := "(IIII)Z" } : Jvm.MethodName)) ∈ lw_tbl := lw_at lw_m10 74 rfl
theorem q2281 : (Jvm.Cond.instanceMethod ({ cls := "KnotLettersModel", name := "isAhead", desc := "(IIII)Z" } : Jvm.MethodName)) ∈ lw_all := lw_g (lw_at lw_m10 75 rfl) rfl
theorem q2282 : (Jvm.Cond.code ({ cls := "KnotLettersModel", name := "isAhead", desc := "(IIII)Z" } : Jvm.MethodName) prog_9_method_32_code (7 : Nat) (Option.some Jvm.ClassFile.FieldType.boolean)) ∈ lw_all := lw_g (lw_at lw_m10 76 rfl) rfl
theorem q2283 : (Jvm.Cond.methodLink "KnotLettersModel" (150 : Nat) ({ cls := "KnotLettersModel", name := "write", desc := "(Z)V" } : Jvm.MethodName)) ∈ lw_all := lw_g (lw_at lw_m10 77 rfl) rfl
theorem q2284 : (Jvm.Cond.privateMethod ({ cls := "KnotLettersModel", name := "write", desc := "(Z)V" } : Jvm.MethodName)) ∈ lw_tbl := lw_at lw_m10 78 rfl
theorem q2285 : (Jvm.Cond.instanceMethod ({ cls := "KnotLettersModel", name := "write", desc := "(Z)V" } : Jvm.MethodName)) ∈ lw_all := lw_g (lw_at lw_m10 79 rfl) rfl
theorem q2286 : (Jvm.Cond.code ({ cls := "KnotLettersModel", name := "write", desc := "(Z)V" } : Jvm.MethodName) prog_9_method_35_code (4 : Nat) (Option.none : Option Jvm.ClassFile.FieldType)) ∈ lw_all := lw_g (lw_at lw_m10 80 rfl) rfl
theorem q2288 : (Jvm.Cond.instanceMethod ({ cls := "KnotLettersModel", name := "knot", desc := "(II)I" } : Jvm.MethodName)) ∈ lw_all := lw_g (lw_at lw_m10 82 rfl) rfl
theorem q2289 : (Jvm.Cond.selects "KnotLettersModel" ({ cls := "KnotLettersModel", name := "knot", desc := "(II)I" } : Jvm.MethodName) ({ cls := "KnotLettersModel", name := "knot", desc := "(II)I" } : Jvm.MethodName)) ∈ lw_all := lw_g (lw_at lw_m10 83 rfl) rfl
theorem q2290 : (Jvm.Cond.code ({ cls := "KnotLettersModel", name := "knot", desc := "(II)I" } : Jvm.MethodName) prog_9_method_38_code (3 : Nat) (Option.some Jvm.ClassFile.FieldType.int)) ∈ lw_all := lw_g (lw_at lw_m10 84 rfl) rfl
theorem q2292 : (Jvm.Cond.instanceMethod ({ cls := "KnotLettersModel", name := "retie", desc := "(III)I" } : Jvm.MethodName)) ∈ lw_all := lw_g (lw_at lw_m10 86 rfl) rfl
theorem q2293 : (Jvm.Cond.selects "KnotLettersModel" ({ cls := "KnotLettersModel", name := "retie", desc := "(III)I" } : Jvm.MethodName) ({ cls := "KnotLettersModel", name := "retie", desc := "(III)I" } : Jvm.MethodName)) ∈ lw_all := lw_g (lw_at lw_m10 87 rfl) rfl
theorem q2294 : (Jvm.Cond.code ({ cls := "KnotLettersModel", name := "retie", desc := "(III)I" } : Jvm.MethodName) prog_9_method_39_code (5 : Nat) (Option.some Jvm.ClassFile.FieldType.int)) ∈ lw_all := lw_g (lw_at lw_m10 88 rfl) rfl
theorem q2296 : (Jvm.Cond.instanceMethod ({ cls := "KnotLettersModel", name := "distance", desc := "(II)I" } : Jvm.MethodName)) ∈ lw_all := lw_g (lw_at lw_m10 90 rfl) rfl
theorem q2297 : (Jvm.Cond.selects "KnotLettersModel" ({ cls := "KnotLettersModel", name := "distance", desc := "(II)I" } : Jvm.MethodName) ({ cls := "KnotLettersModel", name := "distance", desc := "(II)I" } : Jvm.MethodName)) ∈ lw_all := lw_g (lw_at lw_m10 91 rfl) rfl
theorem q2298 : (Jvm.Cond.code ({ cls := "KnotLettersModel", name := "distance", desc := "(II)I" } : Jvm.MethodName) prog_9_method_41_code (3 : Nat) (Option.some Jvm.ClassFile.FieldType.int)) ∈ lw_all := lw_g (lw_at lw_m10 92 rfl) rfl
theorem q2299 : (Jvm.Cond.methodLink "KnotLettersModel" (166 : Nat) ({ cls := "KnotLettersModel", name := "between", desc := "(II)I" } : Jvm.MethodName)) ∈ lw_all := lw_g (lw_at lw_m10 93 rfl) rfl
theorem q2300 : (Jvm.Cond.privateMethod ({ cls := "KnotLettersModel", name := "between", desc := "(II)I" } : Jvm.MethodName)) ∈ lw_tbl := lw_at lw_m10 94 rfl
theorem q2301 : (Jvm.Cond.instanceMethod ({ cls := "KnotLettersModel", name := "between", desc := "(II)I" } : Jvm.MethodName)) ∈ lw_all := lw_g (lw_at lw_m10 95 rfl) rfl
theorem q2302 : (Jvm.Cond.code ({ cls := "KnotLettersModel", name := "between", desc := "(II)I" } : Jvm.MethodName) prog_9_method_40_code (10 : Nat) (Option.some Jvm.ClassFile.FieldType.int)) ∈ lw_all := lw_g (lw_at lw_m10 96 rfl) rfl
theorem q2304 : (Jvm.Cond.instanceMethod ({ cls := "KnotLettersModel", name := "nearest", desc := "(I)I" } : Jvm.MethodName)) ∈ lw_all := lw_g (lw_at lw_m10 98 rfl) rfl
theorem q2305 : (Jvm.Cond.selects "KnotLettersModel" ({ cls := "KnotLettersModel", name := "nearest", desc := "(I)I" } : Jvm.MethodName) ({ cls := "KnotLettersModel", name := "nearest", desc := "(I)I" } : Jvm.MethodName)) ∈ lw_all := lw_g (lw_at lw_m10 99 rfl) rfl
theorem q2306 : (Jvm.Cond.code ({ cls := "KnotLettersModel", name := "nearest", desc := "(I)I" } : Jvm.MethodName) prog_9_method_42_code (6 : Nat) (Option.some Jvm.ClassFile.FieldType.int)) ∈ lw_all := lw_g (lw_at lw_m10 100 rfl) rfl
theorem q2308 : (Jvm.Cond.instanceMethod ({ cls := "KnotLettersModel", name := "read", desc := "(I)I" } : Jvm.MethodName)) ∈ lw_all := lw_g (lw_at lw_m10 102 rfl) rfl
theorem q2309 : (Jvm.Cond.selects "KnotLettersModel" ({ cls := "KnotLettersModel", name := "read", desc := "(I)I" } : Jvm.MethodName) ({ cls := "KnotLettersModel", name := "read", desc := "(I)I" } : Jvm.MethodName)) ∈ lw_all := lw_g (lw_at lw_m10 103 rfl) rfl
theorem q2310 : (Jvm.Cond.code ({ cls := "KnotLettersModel", name := "read", desc := "(I)I" } : Jvm.MethodName) prog_9_method_43_code (2 : Nat) (Option.some Jvm.ClassFile.FieldType.int)) ∈ lw_all := lw_g (lw_at lw_m10 104 rfl) rfl
theorem q2312 : (Jvm.Cond.instanceMethod ({ cls := "KnotLettersModel", name := "byteAt", desc := "(I)I" } : Jvm.MethodName)) ∈ lw_all := lw_g (lw_at lw_m10 106 rfl) rfl
theorem q2313 : (Jvm.Cond.selects "KnotLettersModel" ({ cls := "KnotLettersModel", name := "byteAt", desc := "(I)I" } : Jvm.MethodName) ({ cls := "KnotLettersModel", name := "byteAt", desc := "(I)I" } : Jvm.MethodName)) ∈ lw_all := lw_g (lw_at lw_m10 107 rfl) rfl
theorem q2314 : (Jvm.Cond.code ({ cls := "KnotLettersModel", name := "byteAt", desc := "(I)I" } : Jvm.MethodName) prog_9_method_44_code (2 : Nat) (Option.some Jvm.ClassFile.FieldType.int)) ∈ lw_all := lw_g (lw_at lw_m10 108 rfl) rfl
theorem q2316 : (Jvm.Cond.instanceMethod ({ cls := "KnotLettersModel", name := "count", desc := "(I)I" } : Jvm.MethodName)) ∈ lw_all := lw_g (lw_at lw_m10 110 rfl) rfl
theorem q2317 : (Jvm.Cond.selects "KnotLettersModel" ({ cls := "KnotLettersModel", name := "count", desc := "(I)I" } : Jvm.MethodName) ({ cls := "KnotLettersModel", name := "count", desc := "(I)I" } : Jvm.MethodName)) ∈ lw_all := lw_g (lw_at lw_m10 111 rfl) rfl
theorem q2318 : (Jvm.Cond.code ({ cls := "KnotLettersModel", name := "count", desc := "(I)I" } : Jvm.MethodName) prog_9_method_46_code (2 : Nat) (Option.some Jvm.ClassFile.FieldType.int)) ∈ lw_all := lw_g (lw_at lw_m10 112 rfl) rfl
theorem q2319 : (Jvm.Cond.methodLink "KnotLettersModel" (169 : Nat) ({ cls := "KnotLettersModel", name := "sum", desc := "(I)I" } : Jvm.MethodName)) ∈ lw_all := lw_g (lw_at lw_m10 113 rfl) rfl
theorem q2320 : (Jvm.Cond.privateMethod ({ cls := "KnotLettersModel", name := "sum", desc := "(I)I" } : Jvm.MethodName)) ∈ lw_tbl := lw_at lw_m10 114 rfl
theorem q2321 : (Jvm.Cond.instanceMethod ({ cls := "KnotLettersModel", name := "sum", desc := "(I)I" } : Jvm.MethodName)) ∈ lw_all := lw_g (lw_at lw_m10 115 rfl) rfl
theorem q2322 : (Jvm.Cond.code ({ cls := "KnotLettersModel", name := "sum", desc := "(I)I" } : Jvm.MethodName) prog_9_method_45_code (6 : Nat) (Option.some Jvm.ClassFile.FieldType.int)) ∈ lw_all := lw_g (lw_at lw_m10 116 rfl) rfl
theorem q2324 : (Jvm.Cond.instanceMethod ({ cls := "KnotLettersModel", name := "mean", desc := "()D" } : Jvm.MethodName)) ∈ lw_all := lw_g (lw_at lw_m10 118 rfl) rfl
theorem q2325 : (Jvm.Cond.selects "KnotLettersModel" ({ cls := "KnotLettersModel", name := "mean", desc := "()D" } : Jvm.MethodName) ({ cls := "KnotLettersModel", name := "mean", desc := "()D" } : Jvm.MethodName)) ∈ lw_all := lw_g (lw_at lw_m10 119 rfl) rfl
theorem q2326 : (Jvm.Cond.code ({ cls := "KnotLettersModel", name := "mean", desc := "()D" } : Jvm.MethodName) prog_9_method_47_code (3 : Nat) (Option.some Jvm.ClassFile.FieldType.double)) ∈ lw_all := lw_g (lw_at lw_m10 120 rfl) rfl
theorem q2328 : (Jvm.Cond.instanceMethod ({ cls := "KnotLettersModel", name := "digest", desc := "()J" } : Jvm.MethodName)) ∈ lw_all := lw_g (lw_at lw_m10 122 rfl) rfl
theorem q2329 : (Jvm.Cond.selects "KnotLettersModel" ({ cls := "KnotLettersModel", name := "digest", desc := "()J" } : Jvm.MethodName) ({ cls := "KnotLettersModel", name := "digest", desc := "()J" } : Jvm.MethodName)) ∈ lw_all := lw_g (lw_at lw_m10 123 rfl) rfl
theorem q2330 : (Jvm.Cond.code ({ cls := "KnotLettersModel", name := "digest", desc := "()J" } : Jvm.MethodName) prog_9_method_48_code (5 : Nat) (Option.some Jvm.ClassFile.FieldType.long)) ∈ lw_all := lw_g (lw_at lw_m10 124 rfl) rfl
theorem q2331 : (Jvm.Cond.constantLong "KnotLettersModel" (172 : Nat) (571 : Int64)) ∈ lw_all := lw_g (lw_at lw_m10 125 rfl) rfl
theorem q2332 : (Jvm.Cond.constantLong "KnotLettersModel" (174 : Nat) (31 : Int64)) ∈ lw_all := lw_g (lw_at lw_m10 126 rfl) rfl
theorem q2375 : (Jvm.Cond.castable "KnotLettersModel" "java/lang/Object") ∈ lw_tbl := lw_at lw_m10 169 rfl
theorem in_X5 : ∀ w ∈ wsX50, w ∈ lw_all := lw_in wsX50 [2095, 2097, 2099, 2101, 2103, 2105, 2107, 2109, 2111, 2113, 2115, 2117, 2119, 2121, 2123, 2125, 2127, 2129, 2131, 2133, 2135, 2137, 2139] (by decide +kernel) (by decide +kernel)

/-! KnotLetters$Cord -/
set_option maxRecDepth 100000
def RX6 : String := "KnotLetters$Cord"
def TX6 : u_T := fun k => match k with
  | 0 => ("KnotLetters$Cord", "knots", "LKnotLetters$Knots;", true)
  | 1 => ("KnotLetters$Cord", "slipped", "I", false)
  | _ => ("KnotLetters$Cord", "skipped", "I", false)
def tyX6 : Nat → FieldType := fun k => match k with
  | 0 => .object "KnotLetters$Knots"
  | 1 => .int
  | _ => .int
abbrev wsX60 : List Cond := u_ws RX6 TX6 3
theorem nmX6 : ∀ a, a < 3 → ∀ b, b < 3 → a ≠ b → (TX6 a).2.1 ≠ (TX6 b).2.1 := by decide +kernel
theorem tyX6_ok : ∀ k, k < 3 → parseFieldDescriptor (TX6 k).2.2.1 = some (tyX6 k) := by decide +kernel
abbrev cX6_init : ByteArray := prog_3_method_1_code
def yX6_init : MethodName := ⟨RX6, "<init>", "()V"⟩
def dkwX6_init_0 : List UInt8 := [42, 183, 0, 1, 42, 187, 0, 7, 89, 183, 0, 9, 181, 0, 10, 177]
abbrev dktX6_init_0 : List UInt8 := dkwX6_init_0 ++ []
theorem dksX6_init_0 : cX6_init.data.toList.drop 0 = dktX6_init_0 := by decide +kernel
theorem dX6_init_0 : decode cX6_init 0 = .ok (.aload_n 0, 1) := dk_42 (dk_at dksX6_init_0 0 rfl rfl)
theorem dX6_init_1 : decode cX6_init 1 = .ok (.invokespecial 1, 3) := dk_183 0 1 (dk_at dksX6_init_0 1 rfl rfl)
theorem dX6_init_4 : decode cX6_init 4 = .ok (.aload_n 0, 1) := dk_42 (dk_at dksX6_init_0 4 rfl rfl)
theorem dX6_init_5 : decode cX6_init 5 = .ok (.new 7, 3) := dk_187 0 7 (dk_at dksX6_init_0 5 rfl rfl)
theorem dX6_init_8 : decode cX6_init 8 = .ok (.dup, 1) := dk_89 (dk_at dksX6_init_0 8 rfl rfl)
theorem dX6_init_9 : decode cX6_init 9 = .ok (.invokespecial 9, 3) := dk_183 0 9 (dk_at dksX6_init_0 9 rfl rfl)
theorem dX6_init_12 : decode cX6_init 12 = .ok (.putfield 10, 3) := dk_181 0 10 (dk_at dksX6_init_0 12 rfl rfl)
theorem dX6_init_15 : decode cX6_init 15 = .ok (.return_, 1) := dk_177 (dk_at dksX6_init_0 15 rfl rfl)
theorem q91 : (Jvm.Cond.initialized "KnotLetters$Cord") ∈ lw_all := lw_g (lw_at lw_m1 45 rfl) rfl
theorem q981 : (Jvm.Cond.selects "KnotLetters$Cord" ({ cls := "java/lang/Object", name := "getClass", desc := "()Ljava/lang/Class;" } : Jvm.MethodName) ({ cls := "java/lang/Object", name := "getClass", desc := "()Ljava/lang/Class;" } : Jvm.MethodName)) ∈ lw_all := lw_g (lw_at lw_m4 215 rfl) rfl
theorem q1307 : (Jvm.Cond.selects "KnotLetters$Cord" ({ cls := "java/lang/Object", name := "equals", desc := "(Ljava/lang/Object;)Z" } : Jvm.MethodName) ({ cls := "java/lang/Object", name := "equals", desc := "(Ljava/lang/Object;)Z" } : Jvm.MethodName)) ∈ lw_all := lw_g (lw_at lw_m6 61 rfl) rfl
theorem q1907 : (Jvm.Cond.instantiable "KnotLetters$Cord" (3 : Nat)) ∈ lw_all := lw_g (lw_at lw_m8 181 rfl) rfl
theorem q1909 : (Jvm.Cond.instanceMethod ({ cls := "KnotLetters$Cord", name := "<init>", desc := "()V" } : Jvm.MethodName)) ∈ lw_all := lw_g (lw_at lw_m8 183 rfl) rfl
theorem q1910 : (Jvm.Cond.code ({ cls := "KnotLetters$Cord", name := "<init>", desc := "()V" } : Jvm.MethodName) prog_3_method_1_code (1 : Nat) (Option.none : Option Jvm.ClassFile.FieldType)) ∈ lw_all := lw_g (lw_at lw_m8 184 rfl) rfl
theorem q1911 : (Jvm.Cond.methodLink "KnotLetters$Cord" (1 : Nat) ({ cls := "java/lang/Object", name := "<init>", desc := "()V" } : Jvm.MethodName)) ∈ lw_all := lw_g (lw_at lw_m8 185 rfl) rfl
theorem q1912 : (Jvm.Cond.classLink "KnotLetters$Cord" (7 : Nat) "KnotLetters$Knots") ∈ lw_all := lw_g (lw_at lw_m8 186 rfl) rfl
theorem q1913 : (Jvm.Cond.methodLink "KnotLetters$Cord" (9 : Nat) ({ cls := "KnotLetters$Knots", name := "<init>", desc := "()V" } : Jvm.MethodName)) ∈ lw_all := lw_g (lw_at lw_m8 187 rfl) rfl
theorem q1914 : (Jvm.Cond.fieldLink "KnotLetters$Cord" (10 : Nat) "KnotLetters$Cord" "knots" "LKnotLetters$Knots;") ∈ lw_all := lw_g (lw_at lw_m8 188 rfl) rfl
theorem q1918 : (Jvm.Cond.laysFinal "KnotLetters$Cord" "KnotLetters$Cord" "knots" "LKnotLetters$Knots;") ∈ lw_all := lw_g (lw_at lw_m8 192 rfl) rfl
theorem q1919 : (Jvm.Cond.soleField "KnotLetters$Cord" "knots") ∈ lw_all := lw_g (lw_at lw_m8 193 rfl) rfl
theorem q1920 : (Jvm.Cond.lays "KnotLetters$Cord" "KnotLetters$Cord" "slipped" "I") ∈ lw_all := lw_g (lw_at lw_m8 194 rfl) rfl
theorem q1921 : (Jvm.Cond.soleField "KnotLetters$Cord" "slipped") ∈ lw_all := lw_g (lw_at lw_m8 195 rfl) rfl
theorem q1922 : (Jvm.Cond.lays "KnotLetters$Cord" "KnotLetters$Cord" "skipped" "I") ∈ lw_all := lw_g (lw_at lw_m8 196 rfl) rfl
theorem q1923 : (Jvm.Cond.soleField "KnotLetters$Cord" "skipped") ∈ lw_all := lw_g (lw_at lw_m8 197 rfl) rfl
theorem q1924 : (Jvm.Cond.superclass "KnotLetters$Cord" "java/lang/Object") ∈ lw_all := lw_g (lw_at lw_m8 198 rfl) rfl
theorem q2390 : (Jvm.Cond.castable "KnotLetters$Cord" "java/lang/Object") ∈ lw_tbl := lw_at lw_m10 184 rfl
theorem in_X6 : ∀ w ∈ wsX60, w ∈ lw_all := lw_in wsX60 [1918, 1920, 1922] (by decide +kernel) (by decide +kernel)

/-! KnotLetters$Reading -/
set_option maxRecDepth 100000
def RX7 : String := "KnotLetters$Reading"
def TX7 : u_T := fun k => match k with
  | 0 => ("KnotLetters$Reading", "cost", "I", true)
  | 1 => ("KnotLetters$Reading", "length", "I", true)
  | 2 => ("KnotLetters$Reading", "first", "C", true)
  | _ => ("KnotLetters$Reading", "rest", "LKnotLetters$Reading;", true)
def tyX7 : Nat → FieldType := fun k => match k with
  | 0 => .int
  | 1 => .int
  | 2 => .char
  | _ => .object "KnotLetters$Reading"
abbrev wsX70 : List Cond := u_ws RX7 TX7 4
theorem nmX7 : ∀ a, a < 4 → ∀ b, b < 4 → a ≠ b → (TX7 a).2.1 ≠ (TX7 b).2.1 := by decide +kernel
theorem tyX7_ok : ∀ k, k < 4 → parseFieldDescriptor (TX7 k).2.2.1 = some (tyX7 k) := by decide +kernel
abbrev cX7_init : ByteArray := prog_7_method_1_code
def yX7_init : MethodName := ⟨RX7, "<init>", "(ICLKnotLetters$Reading;)V"⟩
def dkwX7_init_1 : List UInt8 := [3, 167, 0, 9, 45, 180, 0, 21, 4, 96, 181, 0, 21, 177]
abbrev dktX7_init_1 : List UInt8 := dkwX7_init_1 ++ []
def dkwX7_init_0 : List UInt8 := [42, 183, 0, 1, 42, 27, 181, 0, 7, 42, 28, 181, 0, 13, 42, 45, 181, 0, 17, 42, 45, 199, 0, 7]
abbrev dktX7_init_0 : List UInt8 := dkwX7_init_0 ++ dktX7_init_1
theorem dksX7_init_0 : cX7_init.data.toList.drop 0 = dktX7_init_0 := by decide +kernel
theorem dksX7_init_1 : cX7_init.data.toList.drop 24 = dktX7_init_1 := dk_seg dksX7_init_0 24 rfl rfl
theorem dX7_init_0 : decode cX7_init 0 = .ok (.aload_n 0, 1) := dk_42 (dk_at dksX7_init_0 0 rfl rfl)
theorem dX7_init_1 : decode cX7_init 1 = .ok (.invokespecial 1, 3) := dk_183 0 1 (dk_at dksX7_init_0 1 rfl rfl)
theorem dX7_init_4 : decode cX7_init 4 = .ok (.aload_n 0, 1) := dk_42 (dk_at dksX7_init_0 4 rfl rfl)
theorem dX7_init_5 : decode cX7_init 5 = .ok (.iload_n 1, 1) := dk_27 (dk_at dksX7_init_0 5 rfl rfl)
theorem dX7_init_6 : decode cX7_init 6 = .ok (.putfield 7, 3) := dk_181 0 7 (dk_at dksX7_init_0 6 rfl rfl)
theorem dX7_init_9 : decode cX7_init 9 = .ok (.aload_n 0, 1) := dk_42 (dk_at dksX7_init_0 9 rfl rfl)
theorem dX7_init_10 : decode cX7_init 10 = .ok (.iload_n 2, 1) := dk_28 (dk_at dksX7_init_0 10 rfl rfl)
theorem dX7_init_11 : decode cX7_init 11 = .ok (.putfield 13, 3) := dk_181 0 13 (dk_at dksX7_init_0 11 rfl rfl)
theorem dX7_init_14 : decode cX7_init 14 = .ok (.aload_n 0, 1) := dk_42 (dk_at dksX7_init_0 14 rfl rfl)
theorem dX7_init_15 : decode cX7_init 15 = .ok (.aload_n 3, 1) := dk_45 (dk_at dksX7_init_0 15 rfl rfl)
theorem dX7_init_16 : decode cX7_init 16 = .ok (.putfield 17, 3) := dk_181 0 17 (dk_at dksX7_init_0 16 rfl rfl)
theorem dX7_init_19 : decode cX7_init 19 = .ok (.aload_n 0, 1) := dk_42 (dk_at dksX7_init_0 19 rfl rfl)
theorem dX7_init_20 : decode cX7_init 20 = .ok (.aload_n 3, 1) := dk_45 (dk_at dksX7_init_0 20 rfl rfl)
theorem dX7_init_21 : decode cX7_init 21 = .ok (.ifnonnull 7, 3) := dk_199 0 7 (dk_at dksX7_init_0 21 rfl rfl)
theorem dX7_init_24 : decode cX7_init 24 = .ok (.iconst 0, 1) := dk_3 (dk_at dksX7_init_1 0 rfl rfl)
theorem dX7_init_25 : decode cX7_init 25 = .ok (.goto 9, 3) := dk_167 0 9 (dk_at dksX7_init_1 1 rfl rfl)
theorem dX7_init_28 : decode cX7_init 28 = .ok (.aload_n 3, 1) := dk_45 (dk_at dksX7_init_1 4 rfl rfl)
theorem dX7_init_29 : decode cX7_init 29 = .ok (.getfield 21, 3) := dk_180 0 21 (dk_at dksX7_init_1 5 rfl rfl)
theorem dX7_init_32 : decode cX7_init 32 = .ok (.iconst 1, 1) := dk_4 (dk_at dksX7_init_1 8 rfl rfl)
theorem dX7_init_33 : decode cX7_init 33 = .ok (.iadd, 1) := dk_96 (dk_at dksX7_init_1 9 rfl rfl)
theorem dX7_init_34 : decode cX7_init 34 = .ok (.putfield 21, 3) := dk_181 0 21 (dk_at dksX7_init_1 10 rfl rfl)
theorem dX7_init_37 : decode cX7_init 37 = .ok (.return_, 1) := dk_177 (dk_at dksX7_init_1 13 rfl rfl)
abbrev cX7_at : ByteArray := prog_7_method_2_code
def yX7_at : MethodName := ⟨RX7, "at", "(I)LKnotLetters$Reading;"⟩
def dkwX7_at_0 : List UInt8 := [187, 0, 8, 89, 27, 42, 180, 0, 13, 42, 180, 0, 17, 183, 0, 24, 176]
abbrev dktX7_at_0 : List UInt8 := dkwX7_at_0 ++ []
theorem dksX7_at_0 : cX7_at.data.toList.drop 0 = dktX7_at_0 := by decide +kernel
theorem dX7_at_0 : decode cX7_at 0 = .ok (.new 8, 3) := dk_187 0 8 (dk_at dksX7_at_0 0 rfl rfl)
theorem dX7_at_3 : decode cX7_at 3 = .ok (.dup, 1) := dk_89 (dk_at dksX7_at_0 3 rfl rfl)
theorem dX7_at_4 : decode cX7_at 4 = .ok (.iload_n 1, 1) := dk_27 (dk_at dksX7_at_0 4 rfl rfl)
theorem dX7_at_5 : decode cX7_at 5 = .ok (.aload_n 0, 1) := dk_42 (dk_at dksX7_at_0 5 rfl rfl)
theorem dX7_at_6 : decode cX7_at 6 = .ok (.getfield 13, 3) := dk_180 0 13 (dk_at dksX7_at_0 6 rfl rfl)
theorem dX7_at_9 : decode cX7_at 9 = .ok (.aload_n 0, 1) := dk_42 (dk_at dksX7_at_0 9 rfl rfl)
theorem dX7_at_10 : decode cX7_at 10 = .ok (.getfield 17, 3) := dk_180 0 17 (dk_at dksX7_at_0 10 rfl rfl)
theorem dX7_at_13 : decode cX7_at 13 = .ok (.invokespecial 24, 3) := dk_183 0 24 (dk_at dksX7_at_0 13 rfl rfl)
theorem dX7_at_16 : decode cX7_at 16 = .ok (.areturn, 1) := dk_176 (dk_at dksX7_at_0 16 rfl rfl)
abbrev cX7_isAhead : ByteArray := prog_7_method_3_code
def yX7_isAhead : MethodName := ⟨RX7, "isAhead", "(LKnotLetters$Reading;)Z"⟩
def dkwX7_isAhead_2 : List UInt8 := [180, 0, 17, 78, 167, 255, 211, 3, 172]
abbrev dktX7_isAhead_2 : List UInt8 := dkwX7_isAhead_2 ++ []
def dkwX7_isAhead_1 : List UInt8 := [180, 0, 13, 45, 180, 0, 13, 162, 0, 7, 4, 167, 0, 4, 3, 172, 44, 180, 0, 17, 77, 45]
abbrev dktX7_isAhead_1 : List UInt8 := dkwX7_isAhead_1 ++ dktX7_isAhead_2
def dkwX7_isAhead_0 : List UInt8 := [42, 77, 43, 78, 45, 180, 0, 17, 198, 0, 44, 44, 180, 0, 13, 45, 180, 0, 13, 159, 0, 20, 44]
abbrev dktX7_isAhead_0 : List UInt8 := dkwX7_isAhead_0 ++ dktX7_isAhead_1
theorem dksX7_isAhead_0 : cX7_isAhead.data.toList.drop 0 = dktX7_isAhead_0 := by decide +kernel
theorem dksX7_isAhead_1 : cX7_isAhead.data.toList.drop 23 = dktX7_isAhead_1 := dk_seg dksX7_isAhead_0 23 rfl rfl
theorem dksX7_isAhead_2 : cX7_isAhead.data.toList.drop 45 = dktX7_isAhead_2 := dk_seg dksX7_isAhead_1 22 rfl rfl
theorem dX7_isAhead_0 : decode cX7_isAhead 0 = .ok (.aload_n 0, 1) := dk_42 (dk_at dksX7_isAhead_0 0 rfl rfl)
theorem dX7_isAhead_1 : decode cX7_isAhead 1 = .ok (.astore_n 2, 1) := dk_77 (dk_at dksX7_isAhead_0 1 rfl rfl)
theorem dX7_isAhead_2 : decode cX7_isAhead 2 = .ok (.aload_n 1, 1) := dk_43 (dk_at dksX7_isAhead_0 2 rfl rfl)
theorem dX7_isAhead_3 : decode cX7_isAhead 3 = .ok (.astore_n 3, 1) := dk_78 (dk_at dksX7_isAhead_0 3 rfl rfl)
theorem dX7_isAhead_4 : decode cX7_isAhead 4 = .ok (.aload_n 3, 1) := dk_45 (dk_at dksX7_isAhead_0 4 rfl rfl)
theorem dX7_isAhead_5 : decode cX7_isAhead 5 = .ok (.getfield 17, 3) := dk_180 0 17 (dk_at dksX7_isAhead_0 5 rfl rfl)
theorem dX7_isAhead_8 : decode cX7_isAhead 8 = .ok (.ifnull 44, 3) := dk_198 0 44 (dk_at dksX7_isAhead_0 8 rfl rfl)
theorem dX7_isAhead_11 : decode cX7_isAhead 11 = .ok (.aload_n 2, 1) := dk_44 (dk_at dksX7_isAhead_0 11 rfl rfl)
theorem dX7_isAhead_12 : decode cX7_isAhead 12 = .ok (.getfield 13, 3) := dk_180 0 13 (dk_at dksX7_isAhead_0 12 rfl rfl)
theorem dX7_isAhead_15 : decode cX7_isAhead 15 = .ok (.aload_n 3, 1) := dk_45 (dk_at dksX7_isAhead_0 15 rfl rfl)
theorem dX7_isAhead_16 : decode cX7_isAhead 16 = .ok (.getfield 13, 3) := dk_180 0 13 (dk_at dksX7_isAhead_0 16 rfl rfl)
theorem dX7_isAhead_19 : decode cX7_isAhead 19 = .ok (.if_icmp .eq 20, 3) := dk_159 0 20 (dk_at dksX7_isAhead_0 19 rfl rfl)
theorem dX7_isAhead_22 : decode cX7_isAhead 22 = .ok (.aload_n 2, 1) := dk_44 (dk_at dksX7_isAhead_0 22 rfl rfl)
theorem dX7_isAhead_23 : decode cX7_isAhead 23 = .ok (.getfield 13, 3) := dk_180 0 13 (dk_at dksX7_isAhead_1 0 rfl rfl)
theorem dX7_isAhead_26 : decode cX7_isAhead 26 = .ok (.aload_n 3, 1) := dk_45 (dk_at dksX7_isAhead_1 3 rfl rfl)
theorem dX7_isAhead_27 : decode cX7_isAhead 27 = .ok (.getfield 13, 3) := dk_180 0 13 (dk_at dksX7_isAhead_1 4 rfl rfl)
theorem dX7_isAhead_30 : decode cX7_isAhead 30 = .ok (.if_icmp .ge 7, 3) := dk_162 0 7 (dk_at dksX7_isAhead_1 7 rfl rfl)
theorem dX7_isAhead_33 : decode cX7_isAhead 33 = .ok (.iconst 1, 1) := dk_4 (dk_at dksX7_isAhead_1 10 rfl rfl)
theorem dX7_isAhead_34 : decode cX7_isAhead 34 = .ok (.goto 4, 3) := dk_167 0 4 (dk_at dksX7_isAhead_1 11 rfl rfl)
theorem dX7_isAhead_37 : decode cX7_isAhead 37 = .ok (.iconst 0, 1) := dk_3 (dk_at dksX7_isAhead_1 14 rfl rfl)
theorem dX7_isAhead_38 : decode cX7_isAhead 38 = .ok (.ireturn, 1) := dk_172 (dk_at dksX7_isAhead_1 15 rfl rfl)
theorem dX7_isAhead_39 : decode cX7_isAhead 39 = .ok (.aload_n 2, 1) := dk_44 (dk_at dksX7_isAhead_1 16 rfl rfl)
theorem dX7_isAhead_40 : decode cX7_isAhead 40 = .ok (.getfield 17, 3) := dk_180 0 17 (dk_at dksX7_isAhead_1 17 rfl rfl)
theorem dX7_isAhead_43 : decode cX7_isAhead 43 = .ok (.astore_n 2, 1) := dk_77 (dk_at dksX7_isAhead_1 20 rfl rfl)
theorem dX7_isAhead_44 : decode cX7_isAhead 44 = .ok (.aload_n 3, 1) := dk_45 (dk_at dksX7_isAhead_1 21 rfl rfl)
theorem dX7_isAhead_45 : decode cX7_isAhead 45 = .ok (.getfield 17, 3) := dk_180 0 17 (dk_at dksX7_isAhead_2 0 rfl rfl)
theorem dX7_isAhead_48 : decode cX7_isAhead 48 = .ok (.astore_n 3, 1) := dk_78 (dk_at dksX7_isAhead_2 3 rfl rfl)
theorem dX7_isAhead_49 : decode cX7_isAhead 49 = .ok (.goto (-45), 3) := dk_167 255 211 (dk_at dksX7_isAhead_2 4 rfl rfl)
theorem dX7_isAhead_52 : decode cX7_isAhead 52 = .ok (.iconst 0, 1) := dk_3 (dk_at dksX7_isAhead_2 7 rfl rfl)
theorem dX7_isAhead_53 : decode cX7_isAhead 53 = .ok (.ireturn, 1) := dk_172 (dk_at dksX7_isAhead_2 8 rfl rfl)
abbrev cX7_putInto : ByteArray := prog_7_method_4_code
def yX7_putInto : MethodName := ⟨RX7, "putInto", "(Ljava/lang/StringBuilder;)V"⟩
def dkwX7_putInto_1 : List UInt8 := [167, 255, 235, 177]
abbrev dktX7_putInto_1 : List UInt8 := dkwX7_putInto_1 ++ []
def dkwX7_putInto_0 : List UInt8 := [42, 77, 44, 180, 0, 17, 198, 0, 20, 43, 44, 180, 0, 13, 182, 0, 27, 87, 44, 180, 0, 17, 77]
abbrev dktX7_putInto_0 : List UInt8 := dkwX7_putInto_0 ++ dktX7_putInto_1
theorem dksX7_putInto_0 : cX7_putInto.data.toList.drop 0 = dktX7_putInto_0 := by decide +kernel
theorem dksX7_putInto_1 : cX7_putInto.data.toList.drop 23 = dktX7_putInto_1 := dk_seg dksX7_putInto_0 23 rfl rfl
theorem dX7_putInto_0 : decode cX7_putInto 0 = .ok (.aload_n 0, 1) := dk_42 (dk_at dksX7_putInto_0 0 rfl rfl)
theorem dX7_putInto_1 : decode cX7_putInto 1 = .ok (.astore_n 2, 1) := dk_77 (dk_at dksX7_putInto_0 1 rfl rfl)
theorem dX7_putInto_2 : decode cX7_putInto 2 = .ok (.aload_n 2, 1) := dk_44 (dk_at dksX7_putInto_0 2 rfl rfl)
theorem dX7_putInto_3 : decode cX7_putInto 3 = .ok (.getfield 17, 3) := dk_180 0 17 (dk_at dksX7_putInto_0 3 rfl rfl)
theorem dX7_putInto_6 : decode cX7_putInto 6 = .ok (.ifnull 20, 3) := dk_198 0 20 (dk_at dksX7_putInto_0 6 rfl rfl)
theorem dX7_putInto_9 : decode cX7_putInto 9 = .ok (.aload_n 1, 1) := dk_43 (dk_at dksX7_putInto_0 9 rfl rfl)
theorem dX7_putInto_10 : decode cX7_putInto 10 = .ok (.aload_n 2, 1) := dk_44 (dk_at dksX7_putInto_0 10 rfl rfl)
theorem dX7_putInto_11 : decode cX7_putInto 11 = .ok (.getfield 13, 3) := dk_180 0 13 (dk_at dksX7_putInto_0 11 rfl rfl)
theorem dX7_putInto_14 : decode cX7_putInto 14 = .ok (.invokevirtual 27, 3) := dk_182 0 27 (dk_at dksX7_putInto_0 14 rfl rfl)
theorem dX7_putInto_17 : decode cX7_putInto 17 = .ok (.pop, 1) := dk_87 (dk_at dksX7_putInto_0 17 rfl rfl)
theorem dX7_putInto_18 : decode cX7_putInto 18 = .ok (.aload_n 2, 1) := dk_44 (dk_at dksX7_putInto_0 18 rfl rfl)
theorem dX7_putInto_19 : decode cX7_putInto 19 = .ok (.getfield 17, 3) := dk_180 0 17 (dk_at dksX7_putInto_0 19 rfl rfl)
theorem dX7_putInto_22 : decode cX7_putInto 22 = .ok (.astore_n 2, 1) := dk_77 (dk_at dksX7_putInto_0 22 rfl rfl)
theorem dX7_putInto_23 : decode cX7_putInto 23 = .ok (.goto (-21), 3) := dk_167 255 235 (dk_at dksX7_putInto_1 0 rfl rfl)
theorem dX7_putInto_26 : decode cX7_putInto 26 = .ok (.return_, 1) := dk_177 (dk_at dksX7_putInto_1 3 rfl rfl)
theorem q92 : (Jvm.Cond.initialized "KnotLetters$Reading") ∈ lw_all := lw_g (lw_at lw_m1 46 rfl) rfl
theorem q985 : (Jvm.Cond.selects "KnotLetters$Reading" ({ cls := "java/lang/Object", name := "getClass", desc := "()Ljava/lang/Class;" } : Jvm.MethodName) ({ cls := "java/lang/Object", name := "getClass", desc := "()Ljava/lang/Class;" } : Jvm.MethodName)) ∈ lw_all := lw_g (lw_at lw_m4 219 rfl) rfl
theorem q1311 : (Jvm.Cond.selects "KnotLetters$Reading" ({ cls := "java/lang/Object", name := "equals", desc := "(Ljava/lang/Object;)Z" } : Jvm.MethodName) ({ cls := "java/lang/Object", name := "equals", desc := "(Ljava/lang/Object;)Z" } : Jvm.MethodName)) ∈ lw_all := lw_g (lw_at lw_m6 65 rfl) rfl
theorem q1701 : (Jvm.Cond.instantiable "KnotLetters$Reading" (4 : Nat)) ∈ lw_all := lw_g (lw_at lw_m7 215 rfl) rfl
theorem q1703 : (Jvm.Cond.instanceMethod ({ cls := "KnotLetters$Reading", name := "<init>", desc := "(ICLKnotLetters$Reading;)V" } : Jvm.MethodName)) ∈ lw_all := lw_g (lw_at lw_m7 217 rfl) rfl
theorem q1704 : (Jvm.Cond.code ({ cls := "KnotLetters$Reading", name := "<init>", desc := "(ICLKnotLetters$Reading;)V" } : Jvm.MethodName) prog_7_method_1_code (4 : Nat) (Option.none : Option Jvm.ClassFile.FieldType)) ∈ lw_all := lw_g (lw_at lw_m7 218 rfl) rfl
theorem q1705 : (Jvm.Cond.methodLink "KnotLetters$Reading" (1 : Nat) ({ cls := "java/lang/Object", name := "<init>", desc := "()V" } : Jvm.MethodName)) ∈ lw_all := lw_g (lw_at lw_m7 219 rfl) rfl
theorem q1706 : (Jvm.Cond.fieldLink "KnotLetters$Reading" (7 : Nat) "KnotLetters$Reading" "cost" "I") ∈ lw_all := lw_g (lw_at lw_m7 220 rfl) rfl
theorem q1709 : (Jvm.Cond.fieldLink "KnotLetters$Reading" (21 : Nat) "KnotLetters$Reading" "length" "I") ∈ lw_all := lw_g (lw_at lw_m7 223 rfl) rfl
theorem q1711 : (Jvm.Cond.fieldLink "KnotLetters$Reading" (13 : Nat) "KnotLetters$Reading" "first" "C") ∈ lw_all := lw_g (lw_at lw_m7 225 rfl) rfl
theorem q1713 : (Jvm.Cond.fieldLink "KnotLetters$Reading" (17 : Nat) "KnotLetters$Reading" "rest" "LKnotLetters$Reading;") ∈ lw_all := lw_g (lw_at lw_m7 227 rfl) rfl
theorem q1715 : (Jvm.Cond.laysFinal "KnotLetters$Reading" "KnotLetters$Reading" "cost" "I") ∈ lw_all := lw_g (lw_at lw_m7 229 rfl) rfl
theorem q1716 : (Jvm.Cond.soleField "KnotLetters$Reading" "cost") ∈ lw_all := lw_g (lw_at lw_m7 230 rfl) rfl
theorem q1717 : (Jvm.Cond.laysFinal "KnotLetters$Reading" "KnotLetters$Reading" "length" "I") ∈ lw_all := lw_g (lw_at lw_m7 231 rfl) rfl
theorem q1718 : (Jvm.Cond.soleField "KnotLetters$Reading" "length") ∈ lw_all := lw_g (lw_at lw_m7 232 rfl) rfl
theorem q1719 : (Jvm.Cond.laysFinal "KnotLetters$Reading" "KnotLetters$Reading" "first" "C") ∈ lw_all := lw_g (lw_at lw_m7 233 rfl) rfl
theorem q1720 : (Jvm.Cond.soleField "KnotLetters$Reading" "first") ∈ lw_all := lw_g (lw_at lw_m7 234 rfl) rfl
theorem q1721 : (Jvm.Cond.laysFinal "KnotLetters$Reading" "KnotLetters$Reading" "rest" "LKnotLetters$Reading;") ∈ lw_all := lw_g (lw_at lw_m7 235 rfl) rfl
theorem q1722 : (Jvm.Cond.soleField "KnotLetters$Reading" "rest") ∈ lw_all := lw_g (lw_at lw_m7 236 rfl) rfl
theorem q1723 : (Jvm.Cond.superclass "KnotLetters$Reading" "java/lang/Object") ∈ lw_all := lw_g (lw_at lw_m7 237 rfl) rfl
theorem q1727 : (Jvm.Cond.instanceMethod ({ cls := "KnotLetters$Reading", name := "at", desc := "(I)LKnotLetters$Reading;" } : Jvm.MethodName)) ∈ lw_all := lw_g (lw_at lw_m8 1 rfl) rfl
theorem q1728 : (Jvm.Cond.selects "KnotLetters$Reading" ({ cls := "KnotLetters$Reading", name := "at", desc := "(I)LKnotLetters$Reading;" } : Jvm.MethodName) ({ cls := "KnotLetters$Reading", name := "at", desc := "(I)LKnotLetters$Reading;" } : Jvm.MethodName)) ∈ lw_all := lw_g (lw_at lw_m8 2 rfl) rfl
theorem q1729 : (Jvm.Cond.code ({ cls := "KnotLetters$Reading", name := "at", desc := "(I)LKnotLetters$Reading;" } : Jvm.MethodName) prog_7_method_2_code (2 : Nat) (Option.some (Jvm.ClassFile.FieldType.object "KnotLetters$Reading"))) ∈ lw_all := lw_g (lw_at lw_m8 3 rfl) rfl
theorem q1730 : (Jvm.Cond.classLink "KnotLetters$Reading" (8 : Nat) "KnotLetters$Reading") ∈ lw_all := lw_g (lw_at lw_m8 4 rfl) rfl
theorem q1731 : (Jvm.Cond.methodLink "KnotLetters$Reading" (24 : Nat) ({ cls := "KnotLetters$Reading", name := "<init>", desc := "(ICLKnotLetters$Reading;)V" } : Jvm.MethodName)) ∈ lw_all := lw_g (lw_at lw_m8 5 rfl) rfl
theorem q1756 : (Jvm.Cond.instanceMethod ({ cls := "KnotLetters$Reading", name := "isAhead", desc := "(LKnotLetters$Reading;)Z" } : Jvm.MethodName)) ∈ lw_all := lw_g (lw_at lw_m8 30 rfl) rfl
theorem q1757 : (Jvm.Cond.selects "KnotLetters$Reading" ({ cls := "KnotLetters$Reading", name := "isAhead", desc := "(LKnotLetters$Reading;)Z" } : Jvm.MethodName) ({ cls := "KnotLetters$Reading", name := "isAhead", desc := "(LKnotLetters$Reading;)Z" } : Jvm.MethodName)) ∈ lw_all := lw_g (lw_at lw_m8 31 rfl) rfl
theorem q1758 : (Jvm.Cond.code ({ cls := "KnotLetters$Reading", name := "isAhead", desc := "(LKnotLetters$Reading;)Z" } : Jvm.MethodName) prog_7_method_3_code (4 : Nat) (Option.some Jvm.ClassFile.FieldType.boolean)) ∈ lw_all := lw_g (lw_at lw_m8 32 rfl) rfl
theorem q1766 : (Jvm.Cond.instanceMethod ({ cls := "KnotLetters$Reading", name := "putInto", desc := "(Ljava/lang/StringBuilder;)V" } : Jvm.MethodName)) ∈ lw_all := lw_g (lw_at lw_m8 40 rfl) rfl
theorem q1767 : (Jvm.Cond.selects "KnotLetters$Reading" ({ cls := "KnotLetters$Reading", name := "putInto", desc := "(Ljava/lang/StringBuilder;)V" } : Jvm.MethodName) ({ cls := "KnotLetters$Reading", name := "putInto", desc := "(Ljava/lang/StringBuilder;)V" } : Jvm.MethodName)) ∈ lw_all := lw_g (lw_at lw_m8 41 rfl) rfl
theorem q1768 : (Jvm.Cond.code ({ cls := "KnotLetters$Reading", name := "putInto", desc := "(Ljava/lang/StringBuilder;)V" } : Jvm.MethodName) prog_7_method_4_code (3 : Nat) (Option.none : Option Jvm.ClassFile.FieldType)) ∈ lw_all := lw_g (lw_at lw_m8 42 rfl) rfl
theorem q1769 : (Jvm.Cond.methodLink "KnotLetters$Reading" (27 : Nat) ({ cls := "java/lang/StringBuilder", name := "append", desc := "(C)Ljava/lang/StringBuilder;" } : Jvm.MethodName)) ∈ lw_all := lw_g (lw_at lw_m8 43 rfl) rfl
theorem q2369 : (Jvm.Cond.castable "KnotLetters$Reading" "java/lang/Object") ∈ lw_tbl := lw_at lw_m10 163 rfl
theorem in_X7 : ∀ w ∈ wsX70, w ∈ lw_all := lw_in wsX70 [1715, 1717, 1719, 1721] (by decide +kernel) (by decide +kernel)

/-! KnotLetters$Choice -/
set_option maxRecDepth 100000
def RX8 : String := "KnotLetters$Choice"
def TX8 : u_T := fun k => match k with
  | 0 => ("KnotLetters$Choice", "cost", "I", false)
  | 1 => ("KnotLetters$Choice", "first", "C", false)
  | _ => ("KnotLetters$Choice", "rest", "LKnotLetters$Reading;", false)
def tyX8 : Nat → FieldType := fun k => match k with
  | 0 => .int
  | 1 => .char
  | _ => .object "KnotLetters$Reading"
abbrev wsX80 : List Cond := u_ws RX8 TX8 3
theorem nmX8 : ∀ a, a < 3 → ∀ b, b < 3 → a ≠ b → (TX8 a).2.1 ≠ (TX8 b).2.1 := by decide +kernel
theorem tyX8_ok : ∀ k, k < 3 → parseFieldDescriptor (TX8 k).2.2.1 = some (tyX8 k) := by decide +kernel
abbrev cX8_init : ByteArray := prog_2_method_1_code
def yX8_init : MethodName := ⟨RX8, "<init>", "(LKnotLetters$Reading;)V"⟩
def dkwX8_init_1 : List UInt8 := [180, 0, 21, 181, 0, 25, 177]
abbrev dktX8_init_1 : List UInt8 := dkwX8_init_1 ++ []
def dkwX8_init_0 : List UInt8 := [42, 183, 0, 1, 42, 43, 180, 0, 7, 181, 0, 13, 42, 43, 180, 0, 16, 181, 0, 20, 42, 43]
abbrev dktX8_init_0 : List UInt8 := dkwX8_init_0 ++ dktX8_init_1
theorem dksX8_init_0 : cX8_init.data.toList.drop 0 = dktX8_init_0 := by decide +kernel
theorem dksX8_init_1 : cX8_init.data.toList.drop 22 = dktX8_init_1 := dk_seg dksX8_init_0 22 rfl rfl
theorem dX8_init_0 : decode cX8_init 0 = .ok (.aload_n 0, 1) := dk_42 (dk_at dksX8_init_0 0 rfl rfl)
theorem dX8_init_1 : decode cX8_init 1 = .ok (.invokespecial 1, 3) := dk_183 0 1 (dk_at dksX8_init_0 1 rfl rfl)
theorem dX8_init_4 : decode cX8_init 4 = .ok (.aload_n 0, 1) := dk_42 (dk_at dksX8_init_0 4 rfl rfl)
theorem dX8_init_5 : decode cX8_init 5 = .ok (.aload_n 1, 1) := dk_43 (dk_at dksX8_init_0 5 rfl rfl)
theorem dX8_init_6 : decode cX8_init 6 = .ok (.getfield 7, 3) := dk_180 0 7 (dk_at dksX8_init_0 6 rfl rfl)
theorem dX8_init_9 : decode cX8_init 9 = .ok (.putfield 13, 3) := dk_181 0 13 (dk_at dksX8_init_0 9 rfl rfl)
theorem dX8_init_12 : decode cX8_init 12 = .ok (.aload_n 0, 1) := dk_42 (dk_at dksX8_init_0 12 rfl rfl)
theorem dX8_init_13 : decode cX8_init 13 = .ok (.aload_n 1, 1) := dk_43 (dk_at dksX8_init_0 13 rfl rfl)
theorem dX8_init_14 : decode cX8_init 14 = .ok (.getfield 16, 3) := dk_180 0 16 (dk_at dksX8_init_0 14 rfl rfl)
theorem dX8_init_17 : decode cX8_init 17 = .ok (.putfield 20, 3) := dk_181 0 20 (dk_at dksX8_init_0 17 rfl rfl)
theorem dX8_init_20 : decode cX8_init 20 = .ok (.aload_n 0, 1) := dk_42 (dk_at dksX8_init_0 20 rfl rfl)
theorem dX8_init_21 : decode cX8_init 21 = .ok (.aload_n 1, 1) := dk_43 (dk_at dksX8_init_0 21 rfl rfl)
theorem dX8_init_22 : decode cX8_init 22 = .ok (.getfield 21, 3) := dk_180 0 21 (dk_at dksX8_init_1 0 rfl rfl)
theorem dX8_init_25 : decode cX8_init 25 = .ok (.putfield 25, 3) := dk_181 0 25 (dk_at dksX8_init_1 3 rfl rfl)
theorem dX8_init_28 : decode cX8_init 28 = .ok (.return_, 1) := dk_177 (dk_at dksX8_init_1 6 rfl rfl)
abbrev cX8_offer : ByteArray := prog_2_method_3_code
def yX8_offer : MethodName := ⟨RX8, "offer", "(ICLKnotLetters$Reading;)V"⟩
def dkwX8_offer_3 : List UInt8 := [154, 0, 4, 177, 42, 27, 181, 0, 13, 42, 28, 181, 0, 20, 42, 45, 181, 0, 25, 177]
abbrev dktX8_offer_3 : List UInt8 := dkwX8_offer_3 ++ []
def dkwX8_offer_2 : List UInt8 := [180, 0, 20, 163, 0, 22, 28, 42, 180, 0, 20, 160, 0, 15, 45, 42, 180, 0, 25, 182, 0, 32]
abbrev dktX8_offer_2 : List UInt8 := dkwX8_offer_2 ++ dktX8_offer_3
def dkwX8_offer_1 : List UInt8 := [182, 0, 29, 164, 0, 4, 177, 45, 180, 0, 26, 4, 96, 42, 182, 0, 29, 160, 0, 31, 28, 42]
abbrev dktX8_offer_1 : List UInt8 := dkwX8_offer_1 ++ dktX8_offer_2
def dkwX8_offer_0 : List UInt8 := [27, 42, 180, 0, 13, 164, 0, 4, 177, 27, 42, 180, 0, 13, 160, 0, 58, 45, 180, 0, 26, 4, 96, 42]
abbrev dktX8_offer_0 : List UInt8 := dkwX8_offer_0 ++ dktX8_offer_1
theorem dksX8_offer_0 : cX8_offer.data.toList.drop 0 = dktX8_offer_0 := by decide +kernel
theorem dksX8_offer_1 : cX8_offer.data.toList.drop 24 = dktX8_offer_1 := dk_seg dksX8_offer_0 24 rfl rfl
theorem dksX8_offer_2 : cX8_offer.data.toList.drop 46 = dktX8_offer_2 := dk_seg dksX8_offer_1 22 rfl rfl
theorem dksX8_offer_3 : cX8_offer.data.toList.drop 68 = dktX8_offer_3 := dk_seg dksX8_offer_2 22 rfl rfl
theorem dX8_offer_0 : decode cX8_offer 0 = .ok (.iload_n 1, 1) := dk_27 (dk_at dksX8_offer_0 0 rfl rfl)
theorem dX8_offer_1 : decode cX8_offer 1 = .ok (.aload_n 0, 1) := dk_42 (dk_at dksX8_offer_0 1 rfl rfl)
theorem dX8_offer_2 : decode cX8_offer 2 = .ok (.getfield 13, 3) := dk_180 0 13 (dk_at dksX8_offer_0 2 rfl rfl)
theorem dX8_offer_5 : decode cX8_offer 5 = .ok (.if_icmp .le 4, 3) := dk_164 0 4 (dk_at dksX8_offer_0 5 rfl rfl)
theorem dX8_offer_8 : decode cX8_offer 8 = .ok (.return_, 1) := dk_177 (dk_at dksX8_offer_0 8 rfl rfl)
theorem dX8_offer_9 : decode cX8_offer 9 = .ok (.iload_n 1, 1) := dk_27 (dk_at dksX8_offer_0 9 rfl rfl)
theorem dX8_offer_10 : decode cX8_offer 10 = .ok (.aload_n 0, 1) := dk_42 (dk_at dksX8_offer_0 10 rfl rfl)
theorem dX8_offer_11 : decode cX8_offer 11 = .ok (.getfield 13, 3) := dk_180 0 13 (dk_at dksX8_offer_0 11 rfl rfl)
theorem dX8_offer_14 : decode cX8_offer 14 = .ok (.if_icmp .ne 58, 3) := dk_160 0 58 (dk_at dksX8_offer_0 14 rfl rfl)
theorem dX8_offer_17 : decode cX8_offer 17 = .ok (.aload_n 3, 1) := dk_45 (dk_at dksX8_offer_0 17 rfl rfl)
theorem dX8_offer_18 : decode cX8_offer 18 = .ok (.getfield 26, 3) := dk_180 0 26 (dk_at dksX8_offer_0 18 rfl rfl)
theorem dX8_offer_21 : decode cX8_offer 21 = .ok (.iconst 1, 1) := dk_4 (dk_at dksX8_offer_0 21 rfl rfl)
theorem dX8_offer_22 : decode cX8_offer 22 = .ok (.iadd, 1) := dk_96 (dk_at dksX8_offer_0 22 rfl rfl)
theorem dX8_offer_23 : decode cX8_offer 23 = .ok (.aload_n 0, 1) := dk_42 (dk_at dksX8_offer_0 23 rfl rfl)
theorem dX8_offer_24 : decode cX8_offer 24 = .ok (.invokevirtual 29, 3) := dk_182 0 29 (dk_at dksX8_offer_1 0 rfl rfl)
theorem dX8_offer_27 : decode cX8_offer 27 = .ok (.if_icmp .le 4, 3) := dk_164 0 4 (dk_at dksX8_offer_1 3 rfl rfl)
theorem dX8_offer_30 : decode cX8_offer 30 = .ok (.return_, 1) := dk_177 (dk_at dksX8_offer_1 6 rfl rfl)
theorem dX8_offer_31 : decode cX8_offer 31 = .ok (.aload_n 3, 1) := dk_45 (dk_at dksX8_offer_1 7 rfl rfl)
theorem dX8_offer_32 : decode cX8_offer 32 = .ok (.getfield 26, 3) := dk_180 0 26 (dk_at dksX8_offer_1 8 rfl rfl)
theorem dX8_offer_35 : decode cX8_offer 35 = .ok (.iconst 1, 1) := dk_4 (dk_at dksX8_offer_1 11 rfl rfl)
theorem dX8_offer_36 : decode cX8_offer 36 = .ok (.iadd, 1) := dk_96 (dk_at dksX8_offer_1 12 rfl rfl)
theorem dX8_offer_37 : decode cX8_offer 37 = .ok (.aload_n 0, 1) := dk_42 (dk_at dksX8_offer_1 13 rfl rfl)
theorem dX8_offer_38 : decode cX8_offer 38 = .ok (.invokevirtual 29, 3) := dk_182 0 29 (dk_at dksX8_offer_1 14 rfl rfl)
theorem dX8_offer_41 : decode cX8_offer 41 = .ok (.if_icmp .ne 31, 3) := dk_160 0 31 (dk_at dksX8_offer_1 17 rfl rfl)
theorem dX8_offer_44 : decode cX8_offer 44 = .ok (.iload_n 2, 1) := dk_28 (dk_at dksX8_offer_1 20 rfl rfl)
theorem dX8_offer_45 : decode cX8_offer 45 = .ok (.aload_n 0, 1) := dk_42 (dk_at dksX8_offer_1 21 rfl rfl)
theorem dX8_offer_46 : decode cX8_offer 46 = .ok (.getfield 20, 3) := dk_180 0 20 (dk_at dksX8_offer_2 0 rfl rfl)
theorem dX8_offer_49 : decode cX8_offer 49 = .ok (.if_icmp .gt 22, 3) := dk_163 0 22 (dk_at dksX8_offer_2 3 rfl rfl)
theorem dX8_offer_52 : decode cX8_offer 52 = .ok (.iload_n 2, 1) := dk_28 (dk_at dksX8_offer_2 6 rfl rfl)
theorem dX8_offer_53 : decode cX8_offer 53 = .ok (.aload_n 0, 1) := dk_42 (dk_at dksX8_offer_2 7 rfl rfl)
theorem dX8_offer_54 : decode cX8_offer 54 = .ok (.getfield 20, 3) := dk_180 0 20 (dk_at dksX8_offer_2 8 rfl rfl)
theorem dX8_offer_57 : decode cX8_offer 57 = .ok (.if_icmp .ne 15, 3) := dk_160 0 15 (dk_at dksX8_offer_2 11 rfl rfl)
theorem dX8_offer_60 : decode cX8_offer 60 = .ok (.aload_n 3, 1) := dk_45 (dk_at dksX8_offer_2 14 rfl rfl)
theorem dX8_offer_61 : decode cX8_offer 61 = .ok (.aload_n 0, 1) := dk_42 (dk_at dksX8_offer_2 15 rfl rfl)
theorem dX8_offer_62 : decode cX8_offer 62 = .ok (.getfield 25, 3) := dk_180 0 25 (dk_at dksX8_offer_2 16 rfl rfl)
theorem dX8_offer_65 : decode cX8_offer 65 = .ok (.invokevirtual 32, 3) := dk_182 0 32 (dk_at dksX8_offer_2 19 rfl rfl)
theorem dX8_offer_68 : decode cX8_offer 68 = .ok (.ifCond .ne 4, 3) := dk_154 0 4 (dk_at dksX8_offer_3 0 rfl rfl)
theorem dX8_offer_71 : decode cX8_offer 71 = .ok (.return_, 1) := dk_177 (dk_at dksX8_offer_3 3 rfl rfl)
theorem dX8_offer_72 : decode cX8_offer 72 = .ok (.aload_n 0, 1) := dk_42 (dk_at dksX8_offer_3 4 rfl rfl)
theorem dX8_offer_73 : decode cX8_offer 73 = .ok (.iload_n 1, 1) := dk_27 (dk_at dksX8_offer_3 5 rfl rfl)
theorem dX8_offer_74 : decode cX8_offer 74 = .ok (.putfield 13, 3) := dk_181 0 13 (dk_at dksX8_offer_3 6 rfl rfl)
theorem dX8_offer_77 : decode cX8_offer 77 = .ok (.aload_n 0, 1) := dk_42 (dk_at dksX8_offer_3 9 rfl rfl)
theorem dX8_offer_78 : decode cX8_offer 78 = .ok (.iload_n 2, 1) := dk_28 (dk_at dksX8_offer_3 10 rfl rfl)
theorem dX8_offer_79 : decode cX8_offer 79 = .ok (.putfield 20, 3) := dk_181 0 20 (dk_at dksX8_offer_3 11 rfl rfl)
theorem dX8_offer_82 : decode cX8_offer 82 = .ok (.aload_n 0, 1) := dk_42 (dk_at dksX8_offer_3 14 rfl rfl)
theorem dX8_offer_83 : decode cX8_offer 83 = .ok (.aload_n 3, 1) := dk_45 (dk_at dksX8_offer_3 15 rfl rfl)
theorem dX8_offer_84 : decode cX8_offer 84 = .ok (.putfield 25, 3) := dk_181 0 25 (dk_at dksX8_offer_3 16 rfl rfl)
theorem dX8_offer_87 : decode cX8_offer 87 = .ok (.return_, 1) := dk_177 (dk_at dksX8_offer_3 19 rfl rfl)
abbrev cX8_length : ByteArray := prog_2_method_2_code
def yX8_length : MethodName := ⟨RX8, "length", "()I"⟩
def dkwX8_length_0 : List UInt8 := [42, 180, 0, 25, 199, 0, 7, 3, 167, 0, 12, 42, 180, 0, 25, 180, 0, 26, 4, 96, 172]
abbrev dktX8_length_0 : List UInt8 := dkwX8_length_0 ++ []
theorem dksX8_length_0 : cX8_length.data.toList.drop 0 = dktX8_length_0 := by decide +kernel
theorem dX8_length_0 : decode cX8_length 0 = .ok (.aload_n 0, 1) := dk_42 (dk_at dksX8_length_0 0 rfl rfl)
theorem dX8_length_1 : decode cX8_length 1 = .ok (.getfield 25, 3) := dk_180 0 25 (dk_at dksX8_length_0 1 rfl rfl)
theorem dX8_length_4 : decode cX8_length 4 = .ok (.ifnonnull 7, 3) := dk_199 0 7 (dk_at dksX8_length_0 4 rfl rfl)
theorem dX8_length_7 : decode cX8_length 7 = .ok (.iconst 0, 1) := dk_3 (dk_at dksX8_length_0 7 rfl rfl)
theorem dX8_length_8 : decode cX8_length 8 = .ok (.goto 12, 3) := dk_167 0 12 (dk_at dksX8_length_0 8 rfl rfl)
theorem dX8_length_11 : decode cX8_length 11 = .ok (.aload_n 0, 1) := dk_42 (dk_at dksX8_length_0 11 rfl rfl)
theorem dX8_length_12 : decode cX8_length 12 = .ok (.getfield 25, 3) := dk_180 0 25 (dk_at dksX8_length_0 12 rfl rfl)
theorem dX8_length_15 : decode cX8_length 15 = .ok (.getfield 26, 3) := dk_180 0 26 (dk_at dksX8_length_0 15 rfl rfl)
theorem dX8_length_18 : decode cX8_length 18 = .ok (.iconst 1, 1) := dk_4 (dk_at dksX8_length_0 18 rfl rfl)
theorem dX8_length_19 : decode cX8_length 19 = .ok (.iadd, 1) := dk_96 (dk_at dksX8_length_0 19 rfl rfl)
theorem dX8_length_20 : decode cX8_length 20 = .ok (.ireturn, 1) := dk_172 (dk_at dksX8_length_0 20 rfl rfl)
abbrev cX8_made : ByteArray := prog_2_method_4_code
def yX8_made : MethodName := ⟨RX8, "made", "()LKnotLetters$Reading;"⟩
def dkwX8_made_0 : List UInt8 := [187, 0, 8, 89, 42, 180, 0, 13, 42, 180, 0, 20, 42, 180, 0, 25, 183, 0, 36, 176]
abbrev dktX8_made_0 : List UInt8 := dkwX8_made_0 ++ []
theorem dksX8_made_0 : cX8_made.data.toList.drop 0 = dktX8_made_0 := by decide +kernel
theorem dX8_made_0 : decode cX8_made 0 = .ok (.new 8, 3) := dk_187 0 8 (dk_at dksX8_made_0 0 rfl rfl)
theorem dX8_made_3 : decode cX8_made 3 = .ok (.dup, 1) := dk_89 (dk_at dksX8_made_0 3 rfl rfl)
theorem dX8_made_4 : decode cX8_made 4 = .ok (.aload_n 0, 1) := dk_42 (dk_at dksX8_made_0 4 rfl rfl)
theorem dX8_made_5 : decode cX8_made 5 = .ok (.getfield 13, 3) := dk_180 0 13 (dk_at dksX8_made_0 5 rfl rfl)
theorem dX8_made_8 : decode cX8_made 8 = .ok (.aload_n 0, 1) := dk_42 (dk_at dksX8_made_0 8 rfl rfl)
theorem dX8_made_9 : decode cX8_made 9 = .ok (.getfield 20, 3) := dk_180 0 20 (dk_at dksX8_made_0 9 rfl rfl)
theorem dX8_made_12 : decode cX8_made 12 = .ok (.aload_n 0, 1) := dk_42 (dk_at dksX8_made_0 12 rfl rfl)
theorem dX8_made_13 : decode cX8_made 13 = .ok (.getfield 25, 3) := dk_180 0 25 (dk_at dksX8_made_0 13 rfl rfl)
theorem dX8_made_16 : decode cX8_made 16 = .ok (.invokespecial 36, 3) := dk_183 0 36 (dk_at dksX8_made_0 16 rfl rfl)
theorem dX8_made_19 : decode cX8_made 19 = .ok (.areturn, 1) := dk_176 (dk_at dksX8_made_0 19 rfl rfl)
theorem q93 : (Jvm.Cond.initialized "KnotLetters$Choice") ∈ lw_all := lw_g (lw_at lw_m1 47 rfl) rfl
theorem q980 : (Jvm.Cond.selects "KnotLetters$Choice" ({ cls := "java/lang/Object", name := "getClass", desc := "()Ljava/lang/Class;" } : Jvm.MethodName) ({ cls := "java/lang/Object", name := "getClass", desc := "()Ljava/lang/Class;" } : Jvm.MethodName)) ∈ lw_all := lw_g (lw_at lw_m4 214 rfl) rfl
theorem q1306 : (Jvm.Cond.selects "KnotLetters$Choice" ({ cls := "java/lang/Object", name := "equals", desc := "(Ljava/lang/Object;)Z" } : Jvm.MethodName) ({ cls := "java/lang/Object", name := "equals", desc := "(Ljava/lang/Object;)Z" } : Jvm.MethodName)) ∈ lw_all := lw_g (lw_at lw_m6 60 rfl) rfl
theorem q1707 : (Jvm.Cond.fieldLink "KnotLetters$Choice" (7 : Nat) "KnotLetters$Reading" "cost" "I") ∈ lw_all := lw_g (lw_at lw_m7 221 rfl) rfl
theorem q1710 : (Jvm.Cond.fieldLink "KnotLetters$Choice" (26 : Nat) "KnotLetters$Reading" "length" "I") ∈ lw_all := lw_g (lw_at lw_m7 224 rfl) rfl
theorem q1712 : (Jvm.Cond.fieldLinkNest "KnotLetters$Choice" (16 : Nat) "KnotLetters$Reading" "first" "C" "KnotLetters") ∈ lw_tbl := lw_at lw_m7 226 rfl
theorem q1714 : (Jvm.Cond.fieldLinkNest "KnotLetters$Choice" (21 : Nat) "KnotLetters$Reading" "rest" "LKnotLetters$Reading;" "KnotLetters") ∈ lw_tbl := lw_at lw_m7 228 rfl
theorem q1725 : (Jvm.Cond.instantiable "KnotLetters$Choice" (3 : Nat)) ∈ lw_all := lw_g (lw_at lw_m7 239 rfl) rfl
theorem q1733 : (Jvm.Cond.instanceMethod ({ cls := "KnotLetters$Choice", name := "<init>", desc := "(LKnotLetters$Reading;)V" } : Jvm.MethodName)) ∈ lw_all := lw_g (lw_at lw_m8 7 rfl) rfl
theorem q1734 : (Jvm.Cond.code ({ cls := "KnotLetters$Choice", name := "<init>", desc := "(LKnotLetters$Reading;)V" } : Jvm.MethodName) prog_2_method_1_code (2 : Nat) (Option.none : Option Jvm.ClassFile.FieldType)) ∈ lw_all := lw_g (lw_at lw_m8 8 rfl) rfl
theorem q1735 : (Jvm.Cond.methodLink "KnotLetters$Choice" (1 : Nat) ({ cls := "java/lang/Object", name := "<init>", desc := "()V" } : Jvm.MethodName)) ∈ lw_all := lw_g (lw_at lw_m8 9 rfl) rfl
theorem q1736 : (Jvm.Cond.fieldLink "KnotLetters$Choice" (13 : Nat) "KnotLetters$Choice" "cost" "I") ∈ lw_all := lw_g (lw_at lw_m8 10 rfl) rfl
theorem q1737 : (Jvm.Cond.fieldLink "KnotLetters$Choice" (20 : Nat) "KnotLetters$Choice" "first" "C") ∈ lw_all := lw_g (lw_at lw_m8 11 rfl) rfl
theorem q1738 : (Jvm.Cond.fieldLink "KnotLetters$Choice" (25 : Nat) "KnotLetters$Choice" "rest" "LKnotLetters$Reading;") ∈ lw_all := lw_g (lw_at lw_m8 12 rfl) rfl
theorem q1739 : (Jvm.Cond.lays "KnotLetters$Choice" "KnotLetters$Choice" "cost" "I") ∈ lw_all := lw_g (lw_at lw_m8 13 rfl) rfl
theorem q1740 : (Jvm.Cond.soleField "KnotLetters$Choice" "cost") ∈ lw_all := lw_g (lw_at lw_m8 14 rfl) rfl
theorem q1741 : (Jvm.Cond.lays "KnotLetters$Choice" "KnotLetters$Choice" "first" "C") ∈ lw_all := lw_g (lw_at lw_m8 15 rfl) rfl
theorem q1742 : (Jvm.Cond.soleField "KnotLetters$Choice" "first") ∈ lw_all := lw_g (lw_at lw_m8 16 rfl) rfl
theorem q1743 : (Jvm.Cond.lays "KnotLetters$Choice" "KnotLetters$Choice" "rest" "LKnotLetters$Reading;") ∈ lw_all := lw_g (lw_at lw_m8 17 rfl) rfl
theorem q1744 : (Jvm.Cond.soleField "KnotLetters$Choice" "rest") ∈ lw_all := lw_g (lw_at lw_m8 18 rfl) rfl
theorem q1745 : (Jvm.Cond.superclass "KnotLetters$Choice" "java/lang/Object") ∈ lw_all := lw_g (lw_at lw_m8 19 rfl) rfl
theorem q1748 : (Jvm.Cond.instanceMethod ({ cls := "KnotLetters$Choice", name := "offer", desc := "(ICLKnotLetters$Reading;)V" } : Jvm.MethodName)) ∈ lw_all := lw_g (lw_at lw_m8 22 rfl) rfl
theorem q1749 : (Jvm.Cond.selects "KnotLetters$Choice" ({ cls := "KnotLetters$Choice", name := "offer", desc := "(ICLKnotLetters$Reading;)V" } : Jvm.MethodName) ({ cls := "KnotLetters$Choice", name := "offer", desc := "(ICLKnotLetters$Reading;)V" } : Jvm.MethodName)) ∈ lw_all := lw_g (lw_at lw_m8 23 rfl) rfl
theorem q1750 : (Jvm.Cond.code ({ cls := "KnotLetters$Choice", name := "offer", desc := "(ICLKnotLetters$Reading;)V" } : Jvm.MethodName) prog_2_method_3_code (4 : Nat) (Option.none : Option Jvm.ClassFile.FieldType)) ∈ lw_all := lw_g (lw_at lw_m8 24 rfl) rfl
theorem q1751 : (Jvm.Cond.methodLink "KnotLetters$Choice" (29 : Nat) ({ cls := "KnotLetters$Choice", name := "length", desc := "()I" } : Jvm.MethodName)) ∈ lw_all := lw_g (lw_at lw_m8 25 rfl) rfl
theorem q1752 : (Jvm.Cond.privateMethod ({ cls := "KnotLetters$Choice", name := "length", desc := "()I" } : Jvm.MethodName)) ∈ lw_tbl := lw_at lw_m8 26 rfl
theorem q1753 : (Jvm.Cond.instanceMethod ({ cls := "KnotLetters$Choice", name := "length", desc := "()I" } : Jvm.MethodName)) ∈ lw_all := lw_g (lw_at lw_m8 27 rfl) rfl
theorem q1754 : (Jvm.Cond.code ({ cls := "KnotLetters$Choice", name := "length", desc := "()I" } : Jvm.MethodName) prog_2_method_2_code (1 : Nat) (Option.some Jvm.ClassFile.FieldType.int)) ∈ lw_all := lw_g (lw_at lw_m8 28 rfl) rfl
theorem q1755 : (Jvm.Cond.methodLink "KnotLetters$Choice" (32 : Nat) ({ cls := "KnotLetters$Reading", name := "isAhead", desc := "(LKnotLetters$Reading;)Z" } : Jvm.MethodName)) ∈ lw_all := lw_g (lw_at lw_m8 29 rfl) rfl
theorem q1760 : (Jvm.Cond.instanceMethod ({ cls := "KnotLetters$Choice", name := "made", desc := "()LKnotLetters$Reading;" } : Jvm.MethodName)) ∈ lw_all := lw_g (lw_at lw_m8 34 rfl) rfl
theorem q1761 : (Jvm.Cond.selects "KnotLetters$Choice" ({ cls := "KnotLetters$Choice", name := "made", desc := "()LKnotLetters$Reading;" } : Jvm.MethodName) ({ cls := "KnotLetters$Choice", name := "made", desc := "()LKnotLetters$Reading;" } : Jvm.MethodName)) ∈ lw_all := lw_g (lw_at lw_m8 35 rfl) rfl
theorem q1762 : (Jvm.Cond.code ({ cls := "KnotLetters$Choice", name := "made", desc := "()LKnotLetters$Reading;" } : Jvm.MethodName) prog_2_method_4_code (1 : Nat) (Option.some (Jvm.ClassFile.FieldType.object "KnotLetters$Reading"))) ∈ lw_all := lw_g (lw_at lw_m8 36 rfl) rfl
theorem q1763 : (Jvm.Cond.classLink "KnotLetters$Choice" (8 : Nat) "KnotLetters$Reading") ∈ lw_all := lw_g (lw_at lw_m8 37 rfl) rfl
theorem q1764 : (Jvm.Cond.methodLink "KnotLetters$Choice" (36 : Nat) ({ cls := "KnotLetters$Reading", name := "<init>", desc := "(ICLKnotLetters$Reading;)V" } : Jvm.MethodName)) ∈ lw_all := lw_g (lw_at lw_m8 38 rfl) rfl
theorem q2391 : (Jvm.Cond.castable "KnotLetters$Choice" "java/lang/Object") ∈ lw_tbl := lw_at lw_m10 185 rfl
theorem in_X8 : ∀ w ∈ wsX80, w ∈ lw_all := lw_in wsX80 [1739, 1741, 1743] (by decide +kernel) (by decide +kernel)

/-! the law's own entry -/
set_option maxRecDepth 100000
abbrev cL_law : ByteArray := code
def dkwL_law_56 : List UInt8 := [172]
abbrev dktL_law_56 : List UInt8 := dkwL_law_56 ++ []
def dkwL_law_55 : List UInt8 := [167, 0, 17, 43, 182, 0, 158, 44, 182, 0, 162, 148, 153, 0, 5, 3, 172, 132, 4, 6, 167, 250, 169, 4]
abbrev dktL_law_55 : List UInt8 := dkwL_law_55 ++ dktL_law_56
def dkwL_law_54 : List UInt8 := [151, 153, 0, 21, 24, 5, 24, 5, 151, 153, 0, 11, 24, 7, 24, 7, 151, 154, 0, 5, 3, 172]
abbrev dktL_law_54 : List UInt8 := dkwL_law_54 ++ dktL_law_55
def dkwL_law_53 : List UInt8 := [153, 0, 5, 3, 172, 167, 0, 58, 43, 182, 0, 153, 57, 5, 44, 182, 0, 157, 57, 7, 24, 5, 24, 7]
abbrev dktL_law_53 : List UInt8 := dkwL_law_53 ++ dktL_law_54
def dkwL_law_52 : List UInt8 := [182, 0, 81, 21, 5, 159, 0, 5, 3, 172, 21, 5, 154, 0, 15, 45, 3, 47, 21, 6, 133, 148]
abbrev dktL_law_52 : List UInt8 := dkwL_law_52 ++ dktL_law_53
def dkwL_law_51 : List UInt8 := [21, 4, 4, 96, 46, 45, 184, 0, 150, 54, 5, 44, 42, 21, 4, 4, 96, 46, 182, 0, 152, 54, 6, 44]
abbrev dktL_law_51 : List UInt8 := dkwL_law_51 ++ dktL_law_52
def dkwL_law_50 : List UInt8 := [172, 21, 5, 154, 0, 15, 45, 3, 47, 21, 6, 133, 148, 153, 0, 5, 3, 172, 167, 0, 114, 43, 42]
abbrev dktL_law_50 : List UInt8 := dkwL_law_50 ++ dktL_law_51
def dkwL_law_49 : List UInt8 := [54, 5, 44, 42, 21, 4, 4, 96, 46, 182, 0, 149, 54, 6, 44, 182, 0, 81, 21, 5, 159, 0, 5, 3]
abbrev dktL_law_49 : List UInt8 := dkwL_law_49 ++ dktL_law_50
def dkwL_law_48 : List UInt8 := [21, 6, 133, 148, 153, 0, 5, 3, 172, 167, 0, 170, 43, 42, 21, 4, 4, 96, 46, 45, 184, 0, 147]
abbrev dktL_law_48 : List UInt8 := dkwL_law_48 ++ dktL_law_49
def dkwL_law_47 : List UInt8 := [182, 0, 146, 54, 6, 44, 182, 0, 81, 21, 5, 159, 0, 5, 3, 172, 21, 5, 154, 0, 15, 45, 3, 47]
abbrev dktL_law_47 : List UInt8 := dkwL_law_47 ++ dktL_law_48
def dkwL_law_46 : List UInt8 := [167, 0, 226, 43, 42, 21, 4, 4, 96, 46, 45, 184, 0, 144, 54, 5, 44, 42, 21, 4, 4, 96, 46]
abbrev dktL_law_46 : List UInt8 := dkwL_law_46 ++ dktL_law_47
def dkwL_law_45 : List UInt8 := [21, 5, 159, 0, 5, 3, 172, 21, 5, 154, 0, 15, 45, 3, 47, 21, 6, 133, 148, 153, 0, 5, 3, 172]
abbrev dktL_law_45 : List UInt8 := dkwL_law_45 ++ dktL_law_46
def dkwL_law_44 : List UInt8 := [46, 45, 184, 0, 141, 54, 5, 44, 42, 21, 4, 4, 96, 46, 182, 0, 143, 54, 6, 44, 182, 0, 81]
abbrev dktL_law_44 : List UInt8 := dkwL_law_44 ++ dktL_law_45
def dkwL_law_43 : List UInt8 := [154, 0, 15, 45, 3, 47, 21, 6, 133, 148, 153, 0, 5, 3, 172, 167, 1, 26, 43, 42, 21, 4, 4, 96]
abbrev dktL_law_43 : List UInt8 := dkwL_law_43 ++ dktL_law_44
def dkwL_law_42 : List UInt8 := [21, 4, 5, 96, 46, 182, 0, 140, 54, 6, 44, 182, 0, 81, 21, 5, 159, 0, 5, 3, 172, 21, 5]
abbrev dktL_law_42 : List UInt8 := dkwL_law_42 ++ dktL_law_43
def dkwL_law_41 : List UInt8 := [4, 96, 46, 42, 21, 4, 5, 96, 46, 45, 184, 0, 138, 54, 5, 44, 42, 21, 4, 4, 96, 46, 42]
abbrev dktL_law_41 : List UInt8 := dkwL_law_41 ++ dktL_law_42
def dkwL_law_40 : List UInt8 := [21, 5, 154, 0, 15, 45, 3, 47, 21, 6, 133, 148, 153, 0, 5, 3, 172, 167, 1, 94, 43, 42, 21, 4]
abbrev dktL_law_40 : List UInt8 := dkwL_law_40 ++ dktL_law_41
def dkwL_law_39 : List UInt8 := [96, 46, 42, 21, 4, 6, 96, 46, 182, 0, 137, 54, 6, 44, 182, 0, 81, 21, 5, 159, 0, 5, 3, 172]
abbrev dktL_law_39 : List UInt8 := dkwL_law_39 ++ dktL_law_40
def dkwL_law_38 : List UInt8 := [46, 42, 21, 4, 6, 96, 46, 45, 184, 0, 135, 54, 5, 44, 42, 21, 4, 4, 96, 46, 42, 21, 4, 5]
abbrev dktL_law_38 : List UInt8 := dkwL_law_38 ++ dktL_law_39
def dkwL_law_37 : List UInt8 := [21, 6, 133, 148, 153, 0, 5, 3, 172, 167, 1, 174, 43, 42, 21, 4, 4, 96, 46, 42, 21, 4, 5, 96]
abbrev dktL_law_37 : List UInt8 := dkwL_law_37 ++ dktL_law_38
def dkwL_law_36 : List UInt8 := [182, 0, 134, 54, 6, 44, 182, 0, 81, 21, 5, 159, 0, 5, 3, 172, 21, 5, 154, 0, 15, 45, 3, 47]
abbrev dktL_law_36 : List UInt8 := dkwL_law_36 ++ dktL_law_37
def dkwL_law_35 : List UInt8 := [5, 96, 46, 45, 184, 0, 132, 54, 5, 44, 42, 21, 4, 4, 96, 46, 42, 21, 4, 5, 96, 46]
abbrev dktL_law_35 : List UInt8 := dkwL_law_35 ++ dktL_law_36
def dkwL_law_34 : List UInt8 := [3, 47, 21, 6, 133, 148, 153, 0, 5, 3, 172, 167, 1, 242, 43, 42, 21, 4, 4, 96, 46, 42, 21, 4]
abbrev dktL_law_34 : List UInt8 := dkwL_law_34 ++ dktL_law_35
def dkwL_law_33 : List UInt8 := [96, 46, 182, 0, 131, 54, 6, 44, 182, 0, 81, 21, 5, 159, 0, 5, 3, 172, 21, 5, 154, 0, 15, 45]
abbrev dktL_law_33 : List UInt8 := dkwL_law_33 ++ dktL_law_34
def dkwL_law_32 : List UInt8 := [46, 42, 21, 4, 5, 96, 46, 45, 184, 0, 129, 54, 5, 44, 42, 21, 4, 4, 96, 46, 42, 21, 4, 5]
abbrev dktL_law_32 : List UInt8 := dkwL_law_32 ++ dktL_law_33
def dkwL_law_31 : List UInt8 := [154, 0, 15, 45, 3, 47, 21, 6, 133, 148, 153, 0, 5, 3, 172, 167, 2, 54, 43, 42, 21, 4, 4, 96]
abbrev dktL_law_31 : List UInt8 := dkwL_law_31 ++ dktL_law_32
def dkwL_law_30 : List UInt8 := [184, 0, 125, 54, 5, 44, 182, 0, 128, 54, 6, 44, 182, 0, 81, 21, 5, 159, 0, 5, 3, 172, 21, 5]
abbrev dktL_law_30 : List UInt8 := dkwL_law_30 ++ dktL_law_31
def dkwL_law_29 : List UInt8 := [172, 21, 5, 154, 0, 15, 45, 3, 47, 21, 6, 133, 148, 153, 0, 5, 3, 172, 167, 2, 98, 43, 45]
abbrev dktL_law_29 : List UInt8 := dkwL_law_29 ++ dktL_law_30
def dkwL_law_28 : List UInt8 := [54, 5, 44, 42, 21, 4, 4, 96, 46, 182, 0, 124, 54, 6, 44, 182, 0, 81, 21, 5, 159, 0, 5, 3]
abbrev dktL_law_28 : List UInt8 := dkwL_law_28 ++ dktL_law_29
def dkwL_law_27 : List UInt8 := [21, 6, 133, 148, 153, 0, 5, 3, 172, 167, 2, 154, 43, 42, 21, 4, 4, 96, 46, 45, 184, 0, 121]
abbrev dktL_law_27 : List UInt8 := dkwL_law_27 ++ dktL_law_28
def dkwL_law_26 : List UInt8 := [182, 0, 120, 54, 6, 44, 182, 0, 81, 21, 5, 159, 0, 5, 3, 172, 21, 5, 154, 0, 15, 45, 3, 47]
abbrev dktL_law_26 : List UInt8 := dkwL_law_26 ++ dktL_law_27
def dkwL_law_25 : List UInt8 := [42, 21, 4, 5, 96, 46, 42, 21, 4, 6, 96, 46, 42, 21, 4, 7, 96, 46, 42, 21, 4, 8, 96, 46]
abbrev dktL_law_25 : List UInt8 := dkwL_law_25 ++ dktL_law_26
def dkwL_law_24 : List UInt8 := [21, 4, 7, 96, 46, 42, 21, 4, 8, 96, 46, 45, 184, 0, 117, 54, 5, 44, 42, 21, 4, 4, 96, 46]
abbrev dktL_law_24 : List UInt8 := dkwL_law_24 ++ dktL_law_25
def dkwL_law_23 : List UInt8 := [167, 3, 2, 43, 42, 21, 4, 4, 96, 46, 42, 21, 4, 5, 96, 46, 42, 21, 4, 6, 96, 46, 42]
abbrev dktL_law_23 : List UInt8 := dkwL_law_23 ++ dktL_law_24
def dkwL_law_22 : List UInt8 := [159, 0, 5, 3, 172, 21, 5, 154, 0, 15, 45, 3, 47, 21, 6, 133, 148, 153, 0, 5, 3, 172]
abbrev dktL_law_22 : List UInt8 := dkwL_law_22 ++ dktL_law_23
def dkwL_law_21 : List UInt8 := [21, 4, 4, 96, 46, 42, 21, 4, 5, 96, 46, 182, 0, 116, 54, 6, 44, 182, 0, 81, 21, 5]
abbrev dktL_law_21 : List UInt8 := dkwL_law_21 ++ dktL_law_22
def dkwL_law_20 : List UInt8 := [167, 3, 70, 43, 42, 21, 4, 4, 96, 46, 42, 21, 4, 5, 96, 46, 45, 184, 0, 114, 54, 5, 44, 42]
abbrev dktL_law_20 : List UInt8 := dkwL_law_20 ++ dktL_law_21
def dkwL_law_19 : List UInt8 := [21, 5, 159, 0, 5, 3, 172, 21, 5, 154, 0, 15, 45, 3, 47, 21, 6, 133, 148, 153, 0, 5, 3, 172]
abbrev dktL_law_19 : List UInt8 := dkwL_law_19 ++ dktL_law_20
def dkwL_law_18 : List UInt8 := [96, 46, 42, 21, 4, 5, 96, 46, 42, 21, 4, 6, 96, 46, 182, 0, 113, 54, 6, 44, 182, 0, 81]
abbrev dktL_law_18 : List UInt8 := dkwL_law_18 ++ dktL_law_19
def dkwL_law_17 : List UInt8 := [46, 42, 21, 4, 5, 96, 46, 42, 21, 4, 6, 96, 46, 45, 184, 0, 110, 54, 5, 44, 42, 21, 4, 4]
abbrev dktL_law_17 : List UInt8 := dkwL_law_17 ++ dktL_law_18
def dkwL_law_16 : List UInt8 := [154, 0, 15, 45, 3, 47, 21, 6, 133, 148, 153, 0, 5, 3, 172, 167, 3, 150, 43, 42, 21, 4, 4, 96]
abbrev dktL_law_16 : List UInt8 := dkwL_law_16 ++ dktL_law_17
def dkwL_law_15 : List UInt8 := [42, 21, 4, 5, 96, 46, 182, 0, 109, 54, 6, 44, 182, 0, 81, 21, 5, 159, 0, 5, 3, 172, 21, 5]
abbrev dktL_law_15 : List UInt8 := dkwL_law_15 ++ dktL_law_16
def dkwL_law_14 : List UInt8 := [21, 4, 4, 96, 46, 42, 21, 4, 5, 96, 46, 45, 184, 0, 107, 54, 5, 44, 42, 21, 4, 4, 96, 46]
abbrev dktL_law_14 : List UInt8 := dkwL_law_14 ++ dktL_law_15
def dkwL_law_13 : List UInt8 := [182, 0, 102, 159, 3, 233, 3, 172, 43, 182, 0, 103, 44, 182, 0, 106, 159, 3, 220, 3, 172, 43, 42]
abbrev dktL_law_13 : List UInt8 := dkwL_law_13 ++ dktL_law_14
def dkwL_law_12 : List UInt8 := [154, 0, 15, 45, 3, 47, 21, 6, 133, 148, 153, 0, 5, 3, 172, 167, 3, 244, 43, 182, 0, 99, 44]
abbrev dktL_law_12 : List UInt8 := dkwL_law_12 ++ dktL_law_13
def dkwL_law_11 : List UInt8 := [42, 21, 4, 5, 96, 46, 182, 0, 98, 54, 6, 44, 182, 0, 81, 21, 5, 159, 0, 5, 3, 172, 21, 5]
abbrev dktL_law_11 : List UInt8 := dkwL_law_11 ++ dktL_law_12
def dkwL_law_10 : List UInt8 := [21, 4, 4, 96, 46, 42, 21, 4, 5, 96, 46, 45, 184, 0, 96, 54, 5, 44, 42, 21, 4, 4, 96, 46]
abbrev dktL_law_10 : List UInt8 := dkwL_law_10 ++ dktL_law_11
def dkwL_law_9 : List UInt8 := [182, 0, 91, 159, 4, 71, 3, 172, 43, 182, 0, 92, 44, 182, 0, 95, 159, 4, 58, 3, 172, 43, 42]
abbrev dktL_law_9 : List UInt8 := dkwL_law_9 ++ dktL_law_10
def dkwL_law_8 : List UInt8 := [154, 0, 15, 45, 3, 47, 21, 6, 133, 148, 153, 0, 5, 3, 172, 167, 4, 82, 43, 182, 0, 87, 44]
abbrev dktL_law_8 : List UInt8 := dkwL_law_8 ++ dktL_law_9
def dkwL_law_7 : List UInt8 := [21, 4, 5, 96, 46, 182, 0, 86, 54, 6, 44, 182, 0, 81, 21, 5, 159, 0, 5, 3, 172, 21, 5]
abbrev dktL_law_7 : List UInt8 := dkwL_law_7 ++ dktL_law_8
def dkwL_law_6 : List UInt8 := [4, 96, 46, 42, 21, 4, 5, 96, 46, 45, 184, 0, 84, 54, 5, 44, 42, 21, 4, 4, 96, 46, 42]
abbrev dktL_law_6 : List UInt8 := dkwL_law_6 ++ dktL_law_7
def dkwL_law_5 : List UInt8 := [21, 5, 154, 0, 15, 45, 3, 47, 21, 6, 133, 148, 153, 0, 5, 3, 172, 167, 4, 150, 43, 42, 21, 4]
abbrev dktL_law_5 : List UInt8 := dkwL_law_5 ++ dktL_law_6
def dkwL_law_4 : List UInt8 := [96, 46, 42, 21, 4, 5, 96, 46, 182, 0, 80, 54, 6, 44, 182, 0, 81, 21, 5, 159, 0, 5, 3, 172]
abbrev dktL_law_4 : List UInt8 := dkwL_law_4 ++ dktL_law_5
def dkwL_law_3 : List UInt8 := [43, 42, 21, 4, 4, 96, 46, 42, 21, 4, 5, 96, 46, 45, 184, 0, 75, 54, 5, 44, 42, 21, 4, 4]
abbrev dktL_law_3 : List UInt8 := dkwL_law_3 ++ dktL_law_4
def dkwL_law_2 : List UInt8 := [170, 0, 0, 0, 0, 0, 5, 67, 0, 0, 0, 0, 0, 0, 0, 22, 0, 0, 0, 108, 0, 0, 0, 176, 0, 0, 0, 244, 0, 0, 1, 1, 0, 0, 1, 14, 0, 0, 1, 82, 0, 0, 1, 95, 0, 0, 1, 108, 0, 0, 1, 176, 0, 0, 2, 0, 0, 0, 2, 68, 0, 0, 2, 172, 0, 0, 2, 228, 0, 0, 3, 16, 0, 0, 3, 84, 0, 0, 3, 152, 0, 0, 3, 232, 0, 0, 4, 44, 0, 0, 4, 100, 0, 0, 4, 156, 0, 0, 4, 212, 0, 0, 5, 12, 0, 0, 5, 53]
abbrev dktL_law_2 : List UInt8 := dkwL_law_2 ++ dktL_law_3
def dkwL_law_1 : List UInt8 := [21, 4, 42, 190, 16, 6, 100, 163, 5, 83, 42, 21, 4, 46, 16, 31, 126]
abbrev dktL_law_1 : List UInt8 := dkwL_law_1 ++ dktL_law_2
def dkwL_law_0 : List UInt8 := [187, 0, 8, 89, 183, 0, 71, 76, 187, 0, 72, 89, 183, 0, 74, 77, 4, 188, 11, 78, 3, 54, 4]
abbrev dktL_law_0 : List UInt8 := dkwL_law_0 ++ dktL_law_1
theorem dksL_law_0 : cL_law.data.toList.drop 0 = dktL_law_0 := by decide +kernel
theorem dksL_law_1 : cL_law.data.toList.drop 23 = dktL_law_1 := dk_seg dksL_law_0 23 rfl rfl
theorem dksL_law_2 : cL_law.data.toList.drop 40 = dktL_law_2 := dk_seg dksL_law_1 17 rfl rfl
theorem dksL_law_3 : cL_law.data.toList.drop 148 = dktL_law_3 := dk_seg dksL_law_2 108 rfl rfl
theorem dksL_law_4 : cL_law.data.toList.drop 172 = dktL_law_4 := dk_seg dksL_law_3 24 rfl rfl
theorem dksL_law_5 : cL_law.data.toList.drop 196 = dktL_law_5 := dk_seg dksL_law_4 24 rfl rfl
theorem dksL_law_6 : cL_law.data.toList.drop 220 = dktL_law_6 := dk_seg dksL_law_5 24 rfl rfl
theorem dksL_law_7 : cL_law.data.toList.drop 243 = dktL_law_7 := dk_seg dksL_law_6 23 rfl rfl
theorem dksL_law_8 : cL_law.data.toList.drop 266 = dktL_law_8 := dk_seg dksL_law_7 23 rfl rfl
theorem dksL_law_9 : cL_law.data.toList.drop 289 = dktL_law_9 := dk_seg dksL_law_8 23 rfl rfl
theorem dksL_law_10 : cL_law.data.toList.drop 312 = dktL_law_10 := dk_seg dksL_law_9 23 rfl rfl
theorem dksL_law_11 : cL_law.data.toList.drop 336 = dktL_law_11 := dk_seg dksL_law_10 24 rfl rfl
theorem dksL_law_12 : cL_law.data.toList.drop 360 = dktL_law_12 := dk_seg dksL_law_11 24 rfl rfl
theorem dksL_law_13 : cL_law.data.toList.drop 383 = dktL_law_13 := dk_seg dksL_law_12 23 rfl rfl
theorem dksL_law_14 : cL_law.data.toList.drop 406 = dktL_law_14 := dk_seg dksL_law_13 23 rfl rfl
theorem dksL_law_15 : cL_law.data.toList.drop 430 = dktL_law_15 := dk_seg dksL_law_14 24 rfl rfl
theorem dksL_law_16 : cL_law.data.toList.drop 454 = dktL_law_16 := dk_seg dksL_law_15 24 rfl rfl
theorem dksL_law_17 : cL_law.data.toList.drop 478 = dktL_law_17 := dk_seg dksL_law_16 24 rfl rfl
theorem dksL_law_18 : cL_law.data.toList.drop 502 = dktL_law_18 := dk_seg dksL_law_17 24 rfl rfl
theorem dksL_law_19 : cL_law.data.toList.drop 525 = dktL_law_19 := dk_seg dksL_law_18 23 rfl rfl
theorem dksL_law_20 : cL_law.data.toList.drop 549 = dktL_law_20 := dk_seg dksL_law_19 24 rfl rfl
theorem dksL_law_21 : cL_law.data.toList.drop 573 = dktL_law_21 := dk_seg dksL_law_20 24 rfl rfl
theorem dksL_law_22 : cL_law.data.toList.drop 595 = dktL_law_22 := dk_seg dksL_law_21 22 rfl rfl
theorem dksL_law_23 : cL_law.data.toList.drop 617 = dktL_law_23 := dk_seg dksL_law_22 22 rfl rfl
theorem dksL_law_24 : cL_law.data.toList.drop 640 = dktL_law_24 := dk_seg dksL_law_23 23 rfl rfl
theorem dksL_law_25 : cL_law.data.toList.drop 664 = dktL_law_25 := dk_seg dksL_law_24 24 rfl rfl
theorem dksL_law_26 : cL_law.data.toList.drop 688 = dktL_law_26 := dk_seg dksL_law_25 24 rfl rfl
theorem dksL_law_27 : cL_law.data.toList.drop 712 = dktL_law_27 := dk_seg dksL_law_26 24 rfl rfl
theorem dksL_law_28 : cL_law.data.toList.drop 735 = dktL_law_28 := dk_seg dksL_law_27 23 rfl rfl
theorem dksL_law_29 : cL_law.data.toList.drop 759 = dktL_law_29 := dk_seg dksL_law_28 24 rfl rfl
theorem dksL_law_30 : cL_law.data.toList.drop 782 = dktL_law_30 := dk_seg dksL_law_29 23 rfl rfl
theorem dksL_law_31 : cL_law.data.toList.drop 806 = dktL_law_31 := dk_seg dksL_law_30 24 rfl rfl
theorem dksL_law_32 : cL_law.data.toList.drop 830 = dktL_law_32 := dk_seg dksL_law_31 24 rfl rfl
theorem dksL_law_33 : cL_law.data.toList.drop 854 = dktL_law_33 := dk_seg dksL_law_32 24 rfl rfl
theorem dksL_law_34 : cL_law.data.toList.drop 878 = dktL_law_34 := dk_seg dksL_law_33 24 rfl rfl
theorem dksL_law_35 : cL_law.data.toList.drop 902 = dktL_law_35 := dk_seg dksL_law_34 24 rfl rfl
theorem dksL_law_36 : cL_law.data.toList.drop 924 = dktL_law_36 := dk_seg dksL_law_35 22 rfl rfl
theorem dksL_law_37 : cL_law.data.toList.drop 948 = dktL_law_37 := dk_seg dksL_law_36 24 rfl rfl
theorem dksL_law_38 : cL_law.data.toList.drop 972 = dktL_law_38 := dk_seg dksL_law_37 24 rfl rfl
theorem dksL_law_39 : cL_law.data.toList.drop 996 = dktL_law_39 := dk_seg dksL_law_38 24 rfl rfl
theorem dksL_law_40 : cL_law.data.toList.drop 1020 = dktL_law_40 := dk_seg dksL_law_39 24 rfl rfl
theorem dksL_law_41 : cL_law.data.toList.drop 1044 = dktL_law_41 := dk_seg dksL_law_40 24 rfl rfl
theorem dksL_law_42 : cL_law.data.toList.drop 1067 = dktL_law_42 := dk_seg dksL_law_41 23 rfl rfl
theorem dksL_law_43 : cL_law.data.toList.drop 1090 = dktL_law_43 := dk_seg dksL_law_42 23 rfl rfl
theorem dksL_law_44 : cL_law.data.toList.drop 1114 = dktL_law_44 := dk_seg dksL_law_43 24 rfl rfl
theorem dksL_law_45 : cL_law.data.toList.drop 1137 = dktL_law_45 := dk_seg dksL_law_44 23 rfl rfl
theorem dksL_law_46 : cL_law.data.toList.drop 1161 = dktL_law_46 := dk_seg dksL_law_45 24 rfl rfl
theorem dksL_law_47 : cL_law.data.toList.drop 1184 = dktL_law_47 := dk_seg dksL_law_46 23 rfl rfl
theorem dksL_law_48 : cL_law.data.toList.drop 1208 = dktL_law_48 := dk_seg dksL_law_47 24 rfl rfl
theorem dksL_law_49 : cL_law.data.toList.drop 1231 = dktL_law_49 := dk_seg dksL_law_48 23 rfl rfl
theorem dksL_law_50 : cL_law.data.toList.drop 1255 = dktL_law_50 := dk_seg dksL_law_49 24 rfl rfl
theorem dksL_law_51 : cL_law.data.toList.drop 1278 = dktL_law_51 := dk_seg dksL_law_50 23 rfl rfl
theorem dksL_law_52 : cL_law.data.toList.drop 1302 = dktL_law_52 := dk_seg dksL_law_51 24 rfl rfl
theorem dksL_law_53 : cL_law.data.toList.drop 1324 = dktL_law_53 := dk_seg dksL_law_52 22 rfl rfl
theorem dksL_law_54 : cL_law.data.toList.drop 1348 = dktL_law_54 := dk_seg dksL_law_53 24 rfl rfl
theorem dksL_law_55 : cL_law.data.toList.drop 1370 = dktL_law_55 := dk_seg dksL_law_54 22 rfl rfl
theorem dksL_law_56 : cL_law.data.toList.drop 1394 = dktL_law_56 := dk_seg dksL_law_55 24 rfl rfl
theorem dL_law_0 : decode cL_law 0 = .ok (.new 8, 3) := dk_187 0 8 (dk_at dksL_law_0 0 rfl rfl)
theorem dL_law_3 : decode cL_law 3 = .ok (.dup, 1) := dk_89 (dk_at dksL_law_0 3 rfl rfl)
theorem dL_law_4 : decode cL_law 4 = .ok (.invokespecial 71, 3) := dk_183 0 71 (dk_at dksL_law_0 4 rfl rfl)
theorem dL_law_7 : decode cL_law 7 = .ok (.astore_n 1, 1) := dk_76 (dk_at dksL_law_0 7 rfl rfl)
theorem dL_law_8 : decode cL_law 8 = .ok (.new 72, 3) := dk_187 0 72 (dk_at dksL_law_0 8 rfl rfl)
theorem dL_law_11 : decode cL_law 11 = .ok (.dup, 1) := dk_89 (dk_at dksL_law_0 11 rfl rfl)
theorem dL_law_12 : decode cL_law 12 = .ok (.invokespecial 74, 3) := dk_183 0 74 (dk_at dksL_law_0 12 rfl rfl)
theorem dL_law_15 : decode cL_law 15 = .ok (.astore_n 2, 1) := dk_77 (dk_at dksL_law_0 15 rfl rfl)
theorem dL_law_16 : decode cL_law 16 = .ok (.iconst 1, 1) := dk_4 (dk_at dksL_law_0 16 rfl rfl)
theorem dL_law_17 : decode cL_law 17 = .ok (.newarray .long, 2) := dk_188_11 (dk_at dksL_law_0 17 rfl rfl)
theorem dL_law_19 : decode cL_law 19 = .ok (.astore_n 3, 1) := dk_78 (dk_at dksL_law_0 19 rfl rfl)
theorem dL_law_20 : decode cL_law 20 = .ok (.iconst 0, 1) := dk_3 (dk_at dksL_law_0 20 rfl rfl)
theorem dL_law_21 : decode cL_law 21 = .ok (.istore 4, 2) := dk_54 4 (dk_at dksL_law_0 21 rfl rfl)
theorem dL_law_23 : decode cL_law 23 = .ok (.iload 4, 2) := dk_21 4 (dk_at dksL_law_1 0 rfl rfl)
theorem dL_law_25 : decode cL_law 25 = .ok (.aload_n 0, 1) := dk_42 (dk_at dksL_law_1 2 rfl rfl)
theorem dL_law_26 : decode cL_law 26 = .ok (.arraylength, 1) := dk_190 (dk_at dksL_law_1 3 rfl rfl)
theorem dL_law_27 : decode cL_law 27 = .ok (.bipush 6, 2) := dk_16 6 (dk_at dksL_law_1 4 rfl rfl)
theorem dL_law_29 : decode cL_law 29 = .ok (.isub, 1) := dk_100 (dk_at dksL_law_1 6 rfl rfl)
theorem dL_law_30 : decode cL_law 30 = .ok (.if_icmp .gt 1363, 3) := dk_163 5 83 (dk_at dksL_law_1 7 rfl rfl)
theorem dL_law_33 : decode cL_law 33 = .ok (.aload_n 0, 1) := dk_42 (dk_at dksL_law_1 10 rfl rfl)
theorem dL_law_34 : decode cL_law 34 = .ok (.iload 4, 2) := dk_21 4 (dk_at dksL_law_1 11 rfl rfl)
theorem dL_law_36 : decode cL_law 36 = .ok (.iaload, 1) := dk_46 (dk_at dksL_law_1 13 rfl rfl)
theorem dL_law_37 : decode cL_law 37 = .ok (.bipush 31, 2) := dk_16 31 (dk_at dksL_law_1 14 rfl rfl)
theorem dL_law_39 : decode cL_law 39 = .ok (.iand, 1) := dk_126 (dk_at dksL_law_1 16 rfl rfl)
theorem dL_law_40 : decode cL_law 40 = .ok (.tableswitch 1347 0 22 #[108, 176, 244, 257, 270, 338, 351, 364, 432, 512, 580, 684, 740, 784, 852, 920, 1000, 1068, 1124, 1180, 1236, 1292, 1333], 108) := by decide +kernel
theorem dL_law_148 : decode cL_law 148 = .ok (.aload_n 1, 1) := dk_43 (dk_at dksL_law_3 0 rfl rfl)
theorem dL_law_149 : decode cL_law 149 = .ok (.aload_n 0, 1) := dk_42 (dk_at dksL_law_3 1 rfl rfl)
theorem dL_law_150 : decode cL_law 150 = .ok (.iload 4, 2) := dk_21 4 (dk_at dksL_law_3 2 rfl rfl)
theorem dL_law_152 : decode cL_law 152 = .ok (.iconst 1, 1) := dk_4 (dk_at dksL_law_3 4 rfl rfl)
theorem dL_law_153 : decode cL_law 153 = .ok (.iadd, 1) := dk_96 (dk_at dksL_law_3 5 rfl rfl)
theorem dL_law_154 : decode cL_law 154 = .ok (.iaload, 1) := dk_46 (dk_at dksL_law_3 6 rfl rfl)
theorem dL_law_155 : decode cL_law 155 = .ok (.aload_n 0, 1) := dk_42 (dk_at dksL_law_3 7 rfl rfl)
theorem dL_law_156 : decode cL_law 156 = .ok (.iload 4, 2) := dk_21 4 (dk_at dksL_law_3 8 rfl rfl)
theorem dL_law_158 : decode cL_law 158 = .ok (.iconst 2, 1) := dk_5 (dk_at dksL_law_3 10 rfl rfl)
theorem dL_law_159 : decode cL_law 159 = .ok (.iadd, 1) := dk_96 (dk_at dksL_law_3 11 rfl rfl)
theorem dL_law_160 : decode cL_law 160 = .ok (.iaload, 1) := dk_46 (dk_at dksL_law_3 12 rfl rfl)
theorem dL_law_161 : decode cL_law 161 = .ok (.aload_n 3, 1) := dk_45 (dk_at dksL_law_3 13 rfl rfl)
theorem dL_law_162 : decode cL_law 162 = .ok (.invokestatic 75, 3) := dk_184 0 75 (dk_at dksL_law_3 14 rfl rfl)
theorem dL_law_165 : decode cL_law 165 = .ok (.istore 5, 2) := dk_54 5 (dk_at dksL_law_3 17 rfl rfl)
theorem dL_law_167 : decode cL_law 167 = .ok (.aload_n 2, 1) := dk_44 (dk_at dksL_law_3 19 rfl rfl)
theorem dL_law_168 : decode cL_law 168 = .ok (.aload_n 0, 1) := dk_42 (dk_at dksL_law_3 20 rfl rfl)
theorem dL_law_169 : decode cL_law 169 = .ok (.iload 4, 2) := dk_21 4 (dk_at dksL_law_3 21 rfl rfl)
theorem dL_law_171 : decode cL_law 171 = .ok (.iconst 1, 1) := dk_4 (dk_at dksL_law_3 23 rfl rfl)
theorem dL_law_172 : decode cL_law 172 = .ok (.iadd, 1) := dk_96 (dk_at dksL_law_4 0 rfl rfl)
theorem dL_law_173 : decode cL_law 173 = .ok (.iaload, 1) := dk_46 (dk_at dksL_law_4 1 rfl rfl)
theorem dL_law_174 : decode cL_law 174 = .ok (.aload_n 0, 1) := dk_42 (dk_at dksL_law_4 2 rfl rfl)
theorem dL_law_175 : decode cL_law 175 = .ok (.iload 4, 2) := dk_21 4 (dk_at dksL_law_4 3 rfl rfl)
theorem dL_law_177 : decode cL_law 177 = .ok (.iconst 2, 1) := dk_5 (dk_at dksL_law_4 5 rfl rfl)
theorem dL_law_178 : decode cL_law 178 = .ok (.iadd, 1) := dk_96 (dk_at dksL_law_4 6 rfl rfl)
theorem dL_law_179 : decode cL_law 179 = .ok (.iaload, 1) := dk_46 (dk_at dksL_law_4 7 rfl rfl)
theorem dL_law_180 : decode cL_law 180 = .ok (.invokevirtual 80, 3) := dk_182 0 80 (dk_at dksL_law_4 8 rfl rfl)
theorem dL_law_183 : decode cL_law 183 = .ok (.istore 6, 2) := dk_54 6 (dk_at dksL_law_4 11 rfl rfl)
theorem dL_law_185 : decode cL_law 185 = .ok (.aload_n 2, 1) := dk_44 (dk_at dksL_law_4 13 rfl rfl)
theorem dL_law_186 : decode cL_law 186 = .ok (.invokevirtual 81, 3) := dk_182 0 81 (dk_at dksL_law_4 14 rfl rfl)
theorem dL_law_189 : decode cL_law 189 = .ok (.iload 5, 2) := dk_21 5 (dk_at dksL_law_4 17 rfl rfl)
theorem dL_law_191 : decode cL_law 191 = .ok (.if_icmp .eq 5, 3) := dk_159 0 5 (dk_at dksL_law_4 19 rfl rfl)
theorem dL_law_194 : decode cL_law 194 = .ok (.iconst 0, 1) := dk_3 (dk_at dksL_law_4 22 rfl rfl)
theorem dL_law_195 : decode cL_law 195 = .ok (.ireturn, 1) := dk_172 (dk_at dksL_law_4 23 rfl rfl)
theorem dL_law_196 : decode cL_law 196 = .ok (.iload 5, 2) := dk_21 5 (dk_at dksL_law_5 0 rfl rfl)
theorem dL_law_198 : decode cL_law 198 = .ok (.ifCond .ne 15, 3) := dk_154 0 15 (dk_at dksL_law_5 2 rfl rfl)
theorem dL_law_201 : decode cL_law 201 = .ok (.aload_n 3, 1) := dk_45 (dk_at dksL_law_5 5 rfl rfl)
theorem dL_law_202 : decode cL_law 202 = .ok (.iconst 0, 1) := dk_3 (dk_at dksL_law_5 6 rfl rfl)
theorem dL_law_203 : decode cL_law 203 = .ok (.laload, 1) := dk_47 (dk_at dksL_law_5 7 rfl rfl)
theorem dL_law_204 : decode cL_law 204 = .ok (.iload 6, 2) := dk_21 6 (dk_at dksL_law_5 8 rfl rfl)
theorem dL_law_206 : decode cL_law 206 = .ok (.i2l, 1) := dk_133 (dk_at dksL_law_5 10 rfl rfl)
theorem dL_law_207 : decode cL_law 207 = .ok (.lcmp, 1) := dk_148 (dk_at dksL_law_5 11 rfl rfl)
theorem dL_law_208 : decode cL_law 208 = .ok (.ifCond .eq 5, 3) := dk_153 0 5 (dk_at dksL_law_5 12 rfl rfl)
theorem dL_law_211 : decode cL_law 211 = .ok (.iconst 0, 1) := dk_3 (dk_at dksL_law_5 15 rfl rfl)
theorem dL_law_212 : decode cL_law 212 = .ok (.ireturn, 1) := dk_172 (dk_at dksL_law_5 16 rfl rfl)
theorem dL_law_213 : decode cL_law 213 = .ok (.goto 1174, 3) := dk_167 4 150 (dk_at dksL_law_5 17 rfl rfl)
theorem dL_law_216 : decode cL_law 216 = .ok (.aload_n 1, 1) := dk_43 (dk_at dksL_law_5 20 rfl rfl)
theorem dL_law_217 : decode cL_law 217 = .ok (.aload_n 0, 1) := dk_42 (dk_at dksL_law_5 21 rfl rfl)
theorem dL_law_218 : decode cL_law 218 = .ok (.iload 4, 2) := dk_21 4 (dk_at dksL_law_5 22 rfl rfl)
theorem dL_law_220 : decode cL_law 220 = .ok (.iconst 1, 1) := dk_4 (dk_at dksL_law_6 0 rfl rfl)
theorem dL_law_221 : decode cL_law 221 = .ok (.iadd, 1) := dk_96 (dk_at dksL_law_6 1 rfl rfl)
theorem dL_law_222 : decode cL_law 222 = .ok (.iaload, 1) := dk_46 (dk_at dksL_law_6 2 rfl rfl)
theorem dL_law_223 : decode cL_law 223 = .ok (.aload_n 0, 1) := dk_42 (dk_at dksL_law_6 3 rfl rfl)
theorem dL_law_224 : decode cL_law 224 = .ok (.iload 4, 2) := dk_21 4 (dk_at dksL_law_6 4 rfl rfl)
theorem dL_law_226 : decode cL_law 226 = .ok (.iconst 2, 1) := dk_5 (dk_at dksL_law_6 6 rfl rfl)
theorem dL_law_227 : decode cL_law 227 = .ok (.iadd, 1) := dk_96 (dk_at dksL_law_6 7 rfl rfl)
theorem dL_law_228 : decode cL_law 228 = .ok (.iaload, 1) := dk_46 (dk_at dksL_law_6 8 rfl rfl)
theorem dL_law_229 : decode cL_law 229 = .ok (.aload_n 3, 1) := dk_45 (dk_at dksL_law_6 9 rfl rfl)
theorem dL_law_230 : decode cL_law 230 = .ok (.invokestatic 84, 3) := dk_184 0 84 (dk_at dksL_law_6 10 rfl rfl)
theorem dL_law_233 : decode cL_law 233 = .ok (.istore 5, 2) := dk_54 5 (dk_at dksL_law_6 13 rfl rfl)
theorem dL_law_235 : decode cL_law 235 = .ok (.aload_n 2, 1) := dk_44 (dk_at dksL_law_6 15 rfl rfl)
theorem dL_law_236 : decode cL_law 236 = .ok (.aload_n 0, 1) := dk_42 (dk_at dksL_law_6 16 rfl rfl)
theorem dL_law_237 : decode cL_law 237 = .ok (.iload 4, 2) := dk_21 4 (dk_at dksL_law_6 17 rfl rfl)
theorem dL_law_239 : decode cL_law 239 = .ok (.iconst 1, 1) := dk_4 (dk_at dksL_law_6 19 rfl rfl)
theorem dL_law_240 : decode cL_law 240 = .ok (.iadd, 1) := dk_96 (dk_at dksL_law_6 20 rfl rfl)
theorem dL_law_241 : decode cL_law 241 = .ok (.iaload, 1) := dk_46 (dk_at dksL_law_6 21 rfl rfl)
theorem dL_law_242 : decode cL_law 242 = .ok (.aload_n 0, 1) := dk_42 (dk_at dksL_law_6 22 rfl rfl)
theorem dL_law_243 : decode cL_law 243 = .ok (.iload 4, 2) := dk_21 4 (dk_at dksL_law_7 0 rfl rfl)
theorem dL_law_245 : decode cL_law 245 = .ok (.iconst 2, 1) := dk_5 (dk_at dksL_law_7 2 rfl rfl)
theorem dL_law_246 : decode cL_law 246 = .ok (.iadd, 1) := dk_96 (dk_at dksL_law_7 3 rfl rfl)
theorem dL_law_247 : decode cL_law 247 = .ok (.iaload, 1) := dk_46 (dk_at dksL_law_7 4 rfl rfl)
theorem dL_law_248 : decode cL_law 248 = .ok (.invokevirtual 86, 3) := dk_182 0 86 (dk_at dksL_law_7 5 rfl rfl)
theorem dL_law_251 : decode cL_law 251 = .ok (.istore 6, 2) := dk_54 6 (dk_at dksL_law_7 8 rfl rfl)
theorem dL_law_253 : decode cL_law 253 = .ok (.aload_n 2, 1) := dk_44 (dk_at dksL_law_7 10 rfl rfl)
theorem dL_law_254 : decode cL_law 254 = .ok (.invokevirtual 81, 3) := dk_182 0 81 (dk_at dksL_law_7 11 rfl rfl)
theorem dL_law_257 : decode cL_law 257 = .ok (.iload 5, 2) := dk_21 5 (dk_at dksL_law_7 14 rfl rfl)
theorem dL_law_259 : decode cL_law 259 = .ok (.if_icmp .eq 5, 3) := dk_159 0 5 (dk_at dksL_law_7 16 rfl rfl)
theorem dL_law_262 : decode cL_law 262 = .ok (.iconst 0, 1) := dk_3 (dk_at dksL_law_7 19 rfl rfl)
theorem dL_law_263 : decode cL_law 263 = .ok (.ireturn, 1) := dk_172 (dk_at dksL_law_7 20 rfl rfl)
theorem dL_law_264 : decode cL_law 264 = .ok (.iload 5, 2) := dk_21 5 (dk_at dksL_law_7 21 rfl rfl)
theorem dL_law_266 : decode cL_law 266 = .ok (.ifCond .ne 15, 3) := dk_154 0 15 (dk_at dksL_law_8 0 rfl rfl)
theorem dL_law_269 : decode cL_law 269 = .ok (.aload_n 3, 1) := dk_45 (dk_at dksL_law_8 3 rfl rfl)
theorem dL_law_270 : decode cL_law 270 = .ok (.iconst 0, 1) := dk_3 (dk_at dksL_law_8 4 rfl rfl)
theorem dL_law_271 : decode cL_law 271 = .ok (.laload, 1) := dk_47 (dk_at dksL_law_8 5 rfl rfl)
theorem dL_law_272 : decode cL_law 272 = .ok (.iload 6, 2) := dk_21 6 (dk_at dksL_law_8 6 rfl rfl)
theorem dL_law_274 : decode cL_law 274 = .ok (.i2l, 1) := dk_133 (dk_at dksL_law_8 8 rfl rfl)
theorem dL_law_275 : decode cL_law 275 = .ok (.lcmp, 1) := dk_148 (dk_at dksL_law_8 9 rfl rfl)
theorem dL_law_276 : decode cL_law 276 = .ok (.ifCond .eq 5, 3) := dk_153 0 5 (dk_at dksL_law_8 10 rfl rfl)
theorem dL_law_279 : decode cL_law 279 = .ok (.iconst 0, 1) := dk_3 (dk_at dksL_law_8 13 rfl rfl)
theorem dL_law_280 : decode cL_law 280 = .ok (.ireturn, 1) := dk_172 (dk_at dksL_law_8 14 rfl rfl)
theorem dL_law_281 : decode cL_law 281 = .ok (.goto 1106, 3) := dk_167 4 82 (dk_at dksL_law_8 15 rfl rfl)
theorem dL_law_284 : decode cL_law 284 = .ok (.aload_n 1, 1) := dk_43 (dk_at dksL_law_8 18 rfl rfl)
theorem dL_law_285 : decode cL_law 285 = .ok (.invokevirtual 87, 3) := dk_182 0 87 (dk_at dksL_law_8 19 rfl rfl)
theorem dL_law_288 : decode cL_law 288 = .ok (.aload_n 2, 1) := dk_44 (dk_at dksL_law_8 22 rfl rfl)
theorem dL_law_289 : decode cL_law 289 = .ok (.invokevirtual 91, 3) := dk_182 0 91 (dk_at dksL_law_9 0 rfl rfl)
theorem dL_law_292 : decode cL_law 292 = .ok (.if_icmp .eq 1095, 3) := dk_159 4 71 (dk_at dksL_law_9 3 rfl rfl)
theorem dL_law_295 : decode cL_law 295 = .ok (.iconst 0, 1) := dk_3 (dk_at dksL_law_9 6 rfl rfl)
theorem dL_law_296 : decode cL_law 296 = .ok (.ireturn, 1) := dk_172 (dk_at dksL_law_9 7 rfl rfl)
theorem dL_law_297 : decode cL_law 297 = .ok (.aload_n 1, 1) := dk_43 (dk_at dksL_law_9 8 rfl rfl)
theorem dL_law_298 : decode cL_law 298 = .ok (.invokevirtual 92, 3) := dk_182 0 92 (dk_at dksL_law_9 9 rfl rfl)
theorem dL_law_301 : decode cL_law 301 = .ok (.aload_n 2, 1) := dk_44 (dk_at dksL_law_9 12 rfl rfl)
theorem dL_law_302 : decode cL_law 302 = .ok (.invokevirtual 95, 3) := dk_182 0 95 (dk_at dksL_law_9 13 rfl rfl)
theorem dL_law_305 : decode cL_law 305 = .ok (.if_icmp .eq 1082, 3) := dk_159 4 58 (dk_at dksL_law_9 16 rfl rfl)
theorem dL_law_308 : decode cL_law 308 = .ok (.iconst 0, 1) := dk_3 (dk_at dksL_law_9 19 rfl rfl)
theorem dL_law_309 : decode cL_law 309 = .ok (.ireturn, 1) := dk_172 (dk_at dksL_law_9 20 rfl rfl)
theorem dL_law_310 : decode cL_law 310 = .ok (.aload_n 1, 1) := dk_43 (dk_at dksL_law_9 21 rfl rfl)
theorem dL_law_311 : decode cL_law 311 = .ok (.aload_n 0, 1) := dk_42 (dk_at dksL_law_9 22 rfl rfl)
theorem dL_law_312 : decode cL_law 312 = .ok (.iload 4, 2) := dk_21 4 (dk_at dksL_law_10 0 rfl rfl)
theorem dL_law_314 : decode cL_law 314 = .ok (.iconst 1, 1) := dk_4 (dk_at dksL_law_10 2 rfl rfl)
theorem dL_law_315 : decode cL_law 315 = .ok (.iadd, 1) := dk_96 (dk_at dksL_law_10 3 rfl rfl)
theorem dL_law_316 : decode cL_law 316 = .ok (.iaload, 1) := dk_46 (dk_at dksL_law_10 4 rfl rfl)
theorem dL_law_317 : decode cL_law 317 = .ok (.aload_n 0, 1) := dk_42 (dk_at dksL_law_10 5 rfl rfl)
theorem dL_law_318 : decode cL_law 318 = .ok (.iload 4, 2) := dk_21 4 (dk_at dksL_law_10 6 rfl rfl)
theorem dL_law_320 : decode cL_law 320 = .ok (.iconst 2, 1) := dk_5 (dk_at dksL_law_10 8 rfl rfl)
theorem dL_law_321 : decode cL_law 321 = .ok (.iadd, 1) := dk_96 (dk_at dksL_law_10 9 rfl rfl)
theorem dL_law_322 : decode cL_law 322 = .ok (.iaload, 1) := dk_46 (dk_at dksL_law_10 10 rfl rfl)
theorem dL_law_323 : decode cL_law 323 = .ok (.aload_n 3, 1) := dk_45 (dk_at dksL_law_10 11 rfl rfl)
theorem dL_law_324 : decode cL_law 324 = .ok (.invokestatic 96, 3) := dk_184 0 96 (dk_at dksL_law_10 12 rfl rfl)
theorem dL_law_327 : decode cL_law 327 = .ok (.istore 5, 2) := dk_54 5 (dk_at dksL_law_10 15 rfl rfl)
theorem dL_law_329 : decode cL_law 329 = .ok (.aload_n 2, 1) := dk_44 (dk_at dksL_law_10 17 rfl rfl)
theorem dL_law_330 : decode cL_law 330 = .ok (.aload_n 0, 1) := dk_42 (dk_at dksL_law_10 18 rfl rfl)
theorem dL_law_331 : decode cL_law 331 = .ok (.iload 4, 2) := dk_21 4 (dk_at dksL_law_10 19 rfl rfl)
theorem dL_law_333 : decode cL_law 333 = .ok (.iconst 1, 1) := dk_4 (dk_at dksL_law_10 21 rfl rfl)
theorem dL_law_334 : decode cL_law 334 = .ok (.iadd, 1) := dk_96 (dk_at dksL_law_10 22 rfl rfl)
theorem dL_law_335 : decode cL_law 335 = .ok (.iaload, 1) := dk_46 (dk_at dksL_law_10 23 rfl rfl)
theorem dL_law_336 : decode cL_law 336 = .ok (.aload_n 0, 1) := dk_42 (dk_at dksL_law_11 0 rfl rfl)
theorem dL_law_337 : decode cL_law 337 = .ok (.iload 4, 2) := dk_21 4 (dk_at dksL_law_11 1 rfl rfl)
theorem dL_law_339 : decode cL_law 339 = .ok (.iconst 2, 1) := dk_5 (dk_at dksL_law_11 3 rfl rfl)
theorem dL_law_340 : decode cL_law 340 = .ok (.iadd, 1) := dk_96 (dk_at dksL_law_11 4 rfl rfl)
theorem dL_law_341 : decode cL_law 341 = .ok (.iaload, 1) := dk_46 (dk_at dksL_law_11 5 rfl rfl)
theorem dL_law_342 : decode cL_law 342 = .ok (.invokevirtual 98, 3) := dk_182 0 98 (dk_at dksL_law_11 6 rfl rfl)
theorem dL_law_345 : decode cL_law 345 = .ok (.istore 6, 2) := dk_54 6 (dk_at dksL_law_11 9 rfl rfl)
theorem dL_law_347 : decode cL_law 347 = .ok (.aload_n 2, 1) := dk_44 (dk_at dksL_law_11 11 rfl rfl)
theorem dL_law_348 : decode cL_law 348 = .ok (.invokevirtual 81, 3) := dk_182 0 81 (dk_at dksL_law_11 12 rfl rfl)
theorem dL_law_351 : decode cL_law 351 = .ok (.iload 5, 2) := dk_21 5 (dk_at dksL_law_11 15 rfl rfl)
theorem dL_law_353 : decode cL_law 353 = .ok (.if_icmp .eq 5, 3) := dk_159 0 5 (dk_at dksL_law_11 17 rfl rfl)
theorem dL_law_356 : decode cL_law 356 = .ok (.iconst 0, 1) := dk_3 (dk_at dksL_law_11 20 rfl rfl)
theorem dL_law_357 : decode cL_law 357 = .ok (.ireturn, 1) := dk_172 (dk_at dksL_law_11 21 rfl rfl)
theorem dL_law_358 : decode cL_law 358 = .ok (.iload 5, 2) := dk_21 5 (dk_at dksL_law_11 22 rfl rfl)
theorem dL_law_360 : decode cL_law 360 = .ok (.ifCond .ne 15, 3) := dk_154 0 15 (dk_at dksL_law_12 0 rfl rfl)
theorem dL_law_363 : decode cL_law 363 = .ok (.aload_n 3, 1) := dk_45 (dk_at dksL_law_12 3 rfl rfl)
theorem dL_law_364 : decode cL_law 364 = .ok (.iconst 0, 1) := dk_3 (dk_at dksL_law_12 4 rfl rfl)
theorem dL_law_365 : decode cL_law 365 = .ok (.laload, 1) := dk_47 (dk_at dksL_law_12 5 rfl rfl)
theorem dL_law_366 : decode cL_law 366 = .ok (.iload 6, 2) := dk_21 6 (dk_at dksL_law_12 6 rfl rfl)
theorem dL_law_368 : decode cL_law 368 = .ok (.i2l, 1) := dk_133 (dk_at dksL_law_12 8 rfl rfl)
theorem dL_law_369 : decode cL_law 369 = .ok (.lcmp, 1) := dk_148 (dk_at dksL_law_12 9 rfl rfl)
theorem dL_law_370 : decode cL_law 370 = .ok (.ifCond .eq 5, 3) := dk_153 0 5 (dk_at dksL_law_12 10 rfl rfl)
theorem dL_law_373 : decode cL_law 373 = .ok (.iconst 0, 1) := dk_3 (dk_at dksL_law_12 13 rfl rfl)
theorem dL_law_374 : decode cL_law 374 = .ok (.ireturn, 1) := dk_172 (dk_at dksL_law_12 14 rfl rfl)
theorem dL_law_375 : decode cL_law 375 = .ok (.goto 1012, 3) := dk_167 3 244 (dk_at dksL_law_12 15 rfl rfl)
theorem dL_law_378 : decode cL_law 378 = .ok (.aload_n 1, 1) := dk_43 (dk_at dksL_law_12 18 rfl rfl)
theorem dL_law_379 : decode cL_law 379 = .ok (.invokevirtual 99, 3) := dk_182 0 99 (dk_at dksL_law_12 19 rfl rfl)
theorem dL_law_382 : decode cL_law 382 = .ok (.aload_n 2, 1) := dk_44 (dk_at dksL_law_12 22 rfl rfl)
theorem dL_law_383 : decode cL_law 383 = .ok (.invokevirtual 102, 3) := dk_182 0 102 (dk_at dksL_law_13 0 rfl rfl)
theorem dL_law_386 : decode cL_law 386 = .ok (.if_icmp .eq 1001, 3) := dk_159 3 233 (dk_at dksL_law_13 3 rfl rfl)
theorem dL_law_389 : decode cL_law 389 = .ok (.iconst 0, 1) := dk_3 (dk_at dksL_law_13 6 rfl rfl)
theorem dL_law_390 : decode cL_law 390 = .ok (.ireturn, 1) := dk_172 (dk_at dksL_law_13 7 rfl rfl)
theorem dL_law_391 : decode cL_law 391 = .ok (.aload_n 1, 1) := dk_43 (dk_at dksL_law_13 8 rfl rfl)
theorem dL_law_392 : decode cL_law 392 = .ok (.invokevirtual 103, 3) := dk_182 0 103 (dk_at dksL_law_13 9 rfl rfl)
theorem dL_law_395 : decode cL_law 395 = .ok (.aload_n 2, 1) := dk_44 (dk_at dksL_law_13 12 rfl rfl)
theorem dL_law_396 : decode cL_law 396 = .ok (.invokevirtual 106, 3) := dk_182 0 106 (dk_at dksL_law_13 13 rfl rfl)
theorem dL_law_399 : decode cL_law 399 = .ok (.if_icmp .eq 988, 3) := dk_159 3 220 (dk_at dksL_law_13 16 rfl rfl)
theorem dL_law_402 : decode cL_law 402 = .ok (.iconst 0, 1) := dk_3 (dk_at dksL_law_13 19 rfl rfl)
theorem dL_law_403 : decode cL_law 403 = .ok (.ireturn, 1) := dk_172 (dk_at dksL_law_13 20 rfl rfl)
theorem dL_law_404 : decode cL_law 404 = .ok (.aload_n 1, 1) := dk_43 (dk_at dksL_law_13 21 rfl rfl)
theorem dL_law_405 : decode cL_law 405 = .ok (.aload_n 0, 1) := dk_42 (dk_at dksL_law_13 22 rfl rfl)
theorem dL_law_406 : decode cL_law 406 = .ok (.iload 4, 2) := dk_21 4 (dk_at dksL_law_14 0 rfl rfl)
theorem dL_law_408 : decode cL_law 408 = .ok (.iconst 1, 1) := dk_4 (dk_at dksL_law_14 2 rfl rfl)
theorem dL_law_409 : decode cL_law 409 = .ok (.iadd, 1) := dk_96 (dk_at dksL_law_14 3 rfl rfl)
theorem dL_law_410 : decode cL_law 410 = .ok (.iaload, 1) := dk_46 (dk_at dksL_law_14 4 rfl rfl)
theorem dL_law_411 : decode cL_law 411 = .ok (.aload_n 0, 1) := dk_42 (dk_at dksL_law_14 5 rfl rfl)
theorem dL_law_412 : decode cL_law 412 = .ok (.iload 4, 2) := dk_21 4 (dk_at dksL_law_14 6 rfl rfl)
theorem dL_law_414 : decode cL_law 414 = .ok (.iconst 2, 1) := dk_5 (dk_at dksL_law_14 8 rfl rfl)
theorem dL_law_415 : decode cL_law 415 = .ok (.iadd, 1) := dk_96 (dk_at dksL_law_14 9 rfl rfl)
theorem dL_law_416 : decode cL_law 416 = .ok (.iaload, 1) := dk_46 (dk_at dksL_law_14 10 rfl rfl)
theorem dL_law_417 : decode cL_law 417 = .ok (.aload_n 3, 1) := dk_45 (dk_at dksL_law_14 11 rfl rfl)
theorem dL_law_418 : decode cL_law 418 = .ok (.invokestatic 107, 3) := dk_184 0 107 (dk_at dksL_law_14 12 rfl rfl)
theorem dL_law_421 : decode cL_law 421 = .ok (.istore 5, 2) := dk_54 5 (dk_at dksL_law_14 15 rfl rfl)
theorem dL_law_423 : decode cL_law 423 = .ok (.aload_n 2, 1) := dk_44 (dk_at dksL_law_14 17 rfl rfl)
theorem dL_law_424 : decode cL_law 424 = .ok (.aload_n 0, 1) := dk_42 (dk_at dksL_law_14 18 rfl rfl)
theorem dL_law_425 : decode cL_law 425 = .ok (.iload 4, 2) := dk_21 4 (dk_at dksL_law_14 19 rfl rfl)
theorem dL_law_427 : decode cL_law 427 = .ok (.iconst 1, 1) := dk_4 (dk_at dksL_law_14 21 rfl rfl)
theorem dL_law_428 : decode cL_law 428 = .ok (.iadd, 1) := dk_96 (dk_at dksL_law_14 22 rfl rfl)
theorem dL_law_429 : decode cL_law 429 = .ok (.iaload, 1) := dk_46 (dk_at dksL_law_14 23 rfl rfl)
theorem dL_law_430 : decode cL_law 430 = .ok (.aload_n 0, 1) := dk_42 (dk_at dksL_law_15 0 rfl rfl)
theorem dL_law_431 : decode cL_law 431 = .ok (.iload 4, 2) := dk_21 4 (dk_at dksL_law_15 1 rfl rfl)
theorem dL_law_433 : decode cL_law 433 = .ok (.iconst 2, 1) := dk_5 (dk_at dksL_law_15 3 rfl rfl)
theorem dL_law_434 : decode cL_law 434 = .ok (.iadd, 1) := dk_96 (dk_at dksL_law_15 4 rfl rfl)
theorem dL_law_435 : decode cL_law 435 = .ok (.iaload, 1) := dk_46 (dk_at dksL_law_15 5 rfl rfl)
theorem dL_law_436 : decode cL_law 436 = .ok (.invokevirtual 109, 3) := dk_182 0 109 (dk_at dksL_law_15 6 rfl rfl)
theorem dL_law_439 : decode cL_law 439 = .ok (.istore 6, 2) := dk_54 6 (dk_at dksL_law_15 9 rfl rfl)
theorem dL_law_441 : decode cL_law 441 = .ok (.aload_n 2, 1) := dk_44 (dk_at dksL_law_15 11 rfl rfl)
theorem dL_law_442 : decode cL_law 442 = .ok (.invokevirtual 81, 3) := dk_182 0 81 (dk_at dksL_law_15 12 rfl rfl)
theorem dL_law_445 : decode cL_law 445 = .ok (.iload 5, 2) := dk_21 5 (dk_at dksL_law_15 15 rfl rfl)
theorem dL_law_447 : decode cL_law 447 = .ok (.if_icmp .eq 5, 3) := dk_159 0 5 (dk_at dksL_law_15 17 rfl rfl)
theorem dL_law_450 : decode cL_law 450 = .ok (.iconst 0, 1) := dk_3 (dk_at dksL_law_15 20 rfl rfl)
theorem dL_law_451 : decode cL_law 451 = .ok (.ireturn, 1) := dk_172 (dk_at dksL_law_15 21 rfl rfl)
theorem dL_law_452 : decode cL_law 452 = .ok (.iload 5, 2) := dk_21 5 (dk_at dksL_law_15 22 rfl rfl)
theorem dL_law_454 : decode cL_law 454 = .ok (.ifCond .ne 15, 3) := dk_154 0 15 (dk_at dksL_law_16 0 rfl rfl)
theorem dL_law_457 : decode cL_law 457 = .ok (.aload_n 3, 1) := dk_45 (dk_at dksL_law_16 3 rfl rfl)
theorem dL_law_458 : decode cL_law 458 = .ok (.iconst 0, 1) := dk_3 (dk_at dksL_law_16 4 rfl rfl)
theorem dL_law_459 : decode cL_law 459 = .ok (.laload, 1) := dk_47 (dk_at dksL_law_16 5 rfl rfl)
theorem dL_law_460 : decode cL_law 460 = .ok (.iload 6, 2) := dk_21 6 (dk_at dksL_law_16 6 rfl rfl)
theorem dL_law_462 : decode cL_law 462 = .ok (.i2l, 1) := dk_133 (dk_at dksL_law_16 8 rfl rfl)
theorem dL_law_463 : decode cL_law 463 = .ok (.lcmp, 1) := dk_148 (dk_at dksL_law_16 9 rfl rfl)
theorem dL_law_464 : decode cL_law 464 = .ok (.ifCond .eq 5, 3) := dk_153 0 5 (dk_at dksL_law_16 10 rfl rfl)
theorem dL_law_467 : decode cL_law 467 = .ok (.iconst 0, 1) := dk_3 (dk_at dksL_law_16 13 rfl rfl)
theorem dL_law_468 : decode cL_law 468 = .ok (.ireturn, 1) := dk_172 (dk_at dksL_law_16 14 rfl rfl)
theorem dL_law_469 : decode cL_law 469 = .ok (.goto 918, 3) := dk_167 3 150 (dk_at dksL_law_16 15 rfl rfl)
theorem dL_law_472 : decode cL_law 472 = .ok (.aload_n 1, 1) := dk_43 (dk_at dksL_law_16 18 rfl rfl)
theorem dL_law_473 : decode cL_law 473 = .ok (.aload_n 0, 1) := dk_42 (dk_at dksL_law_16 19 rfl rfl)
theorem dL_law_474 : decode cL_law 474 = .ok (.iload 4, 2) := dk_21 4 (dk_at dksL_law_16 20 rfl rfl)
theorem dL_law_476 : decode cL_law 476 = .ok (.iconst 1, 1) := dk_4 (dk_at dksL_law_16 22 rfl rfl)
theorem dL_law_477 : decode cL_law 477 = .ok (.iadd, 1) := dk_96 (dk_at dksL_law_16 23 rfl rfl)
theorem dL_law_478 : decode cL_law 478 = .ok (.iaload, 1) := dk_46 (dk_at dksL_law_17 0 rfl rfl)
theorem dL_law_479 : decode cL_law 479 = .ok (.aload_n 0, 1) := dk_42 (dk_at dksL_law_17 1 rfl rfl)
theorem dL_law_480 : decode cL_law 480 = .ok (.iload 4, 2) := dk_21 4 (dk_at dksL_law_17 2 rfl rfl)
theorem dL_law_482 : decode cL_law 482 = .ok (.iconst 2, 1) := dk_5 (dk_at dksL_law_17 4 rfl rfl)
theorem dL_law_483 : decode cL_law 483 = .ok (.iadd, 1) := dk_96 (dk_at dksL_law_17 5 rfl rfl)
theorem dL_law_484 : decode cL_law 484 = .ok (.iaload, 1) := dk_46 (dk_at dksL_law_17 6 rfl rfl)
theorem dL_law_485 : decode cL_law 485 = .ok (.aload_n 0, 1) := dk_42 (dk_at dksL_law_17 7 rfl rfl)
theorem dL_law_486 : decode cL_law 486 = .ok (.iload 4, 2) := dk_21 4 (dk_at dksL_law_17 8 rfl rfl)
theorem dL_law_488 : decode cL_law 488 = .ok (.iconst 3, 1) := dk_6 (dk_at dksL_law_17 10 rfl rfl)
theorem dL_law_489 : decode cL_law 489 = .ok (.iadd, 1) := dk_96 (dk_at dksL_law_17 11 rfl rfl)
theorem dL_law_490 : decode cL_law 490 = .ok (.iaload, 1) := dk_46 (dk_at dksL_law_17 12 rfl rfl)
theorem dL_law_491 : decode cL_law 491 = .ok (.aload_n 3, 1) := dk_45 (dk_at dksL_law_17 13 rfl rfl)
theorem dL_law_492 : decode cL_law 492 = .ok (.invokestatic 110, 3) := dk_184 0 110 (dk_at dksL_law_17 14 rfl rfl)
theorem dL_law_495 : decode cL_law 495 = .ok (.istore 5, 2) := dk_54 5 (dk_at dksL_law_17 17 rfl rfl)
theorem dL_law_497 : decode cL_law 497 = .ok (.aload_n 2, 1) := dk_44 (dk_at dksL_law_17 19 rfl rfl)
theorem dL_law_498 : decode cL_law 498 = .ok (.aload_n 0, 1) := dk_42 (dk_at dksL_law_17 20 rfl rfl)
theorem dL_law_499 : decode cL_law 499 = .ok (.iload 4, 2) := dk_21 4 (dk_at dksL_law_17 21 rfl rfl)
theorem dL_law_501 : decode cL_law 501 = .ok (.iconst 1, 1) := dk_4 (dk_at dksL_law_17 23 rfl rfl)
theorem dL_law_502 : decode cL_law 502 = .ok (.iadd, 1) := dk_96 (dk_at dksL_law_18 0 rfl rfl)
theorem dL_law_503 : decode cL_law 503 = .ok (.iaload, 1) := dk_46 (dk_at dksL_law_18 1 rfl rfl)
theorem dL_law_504 : decode cL_law 504 = .ok (.aload_n 0, 1) := dk_42 (dk_at dksL_law_18 2 rfl rfl)
theorem dL_law_505 : decode cL_law 505 = .ok (.iload 4, 2) := dk_21 4 (dk_at dksL_law_18 3 rfl rfl)
theorem dL_law_507 : decode cL_law 507 = .ok (.iconst 2, 1) := dk_5 (dk_at dksL_law_18 5 rfl rfl)
theorem dL_law_508 : decode cL_law 508 = .ok (.iadd, 1) := dk_96 (dk_at dksL_law_18 6 rfl rfl)
theorem dL_law_509 : decode cL_law 509 = .ok (.iaload, 1) := dk_46 (dk_at dksL_law_18 7 rfl rfl)
theorem dL_law_510 : decode cL_law 510 = .ok (.aload_n 0, 1) := dk_42 (dk_at dksL_law_18 8 rfl rfl)
theorem dL_law_511 : decode cL_law 511 = .ok (.iload 4, 2) := dk_21 4 (dk_at dksL_law_18 9 rfl rfl)
theorem dL_law_513 : decode cL_law 513 = .ok (.iconst 3, 1) := dk_6 (dk_at dksL_law_18 11 rfl rfl)
theorem dL_law_514 : decode cL_law 514 = .ok (.iadd, 1) := dk_96 (dk_at dksL_law_18 12 rfl rfl)
theorem dL_law_515 : decode cL_law 515 = .ok (.iaload, 1) := dk_46 (dk_at dksL_law_18 13 rfl rfl)
theorem dL_law_516 : decode cL_law 516 = .ok (.invokevirtual 113, 3) := dk_182 0 113 (dk_at dksL_law_18 14 rfl rfl)
theorem dL_law_519 : decode cL_law 519 = .ok (.istore 6, 2) := dk_54 6 (dk_at dksL_law_18 17 rfl rfl)
theorem dL_law_521 : decode cL_law 521 = .ok (.aload_n 2, 1) := dk_44 (dk_at dksL_law_18 19 rfl rfl)
theorem dL_law_522 : decode cL_law 522 = .ok (.invokevirtual 81, 3) := dk_182 0 81 (dk_at dksL_law_18 20 rfl rfl)
theorem dL_law_525 : decode cL_law 525 = .ok (.iload 5, 2) := dk_21 5 (dk_at dksL_law_19 0 rfl rfl)
theorem dL_law_527 : decode cL_law 527 = .ok (.if_icmp .eq 5, 3) := dk_159 0 5 (dk_at dksL_law_19 2 rfl rfl)
theorem dL_law_530 : decode cL_law 530 = .ok (.iconst 0, 1) := dk_3 (dk_at dksL_law_19 5 rfl rfl)
theorem dL_law_531 : decode cL_law 531 = .ok (.ireturn, 1) := dk_172 (dk_at dksL_law_19 6 rfl rfl)
theorem dL_law_532 : decode cL_law 532 = .ok (.iload 5, 2) := dk_21 5 (dk_at dksL_law_19 7 rfl rfl)
theorem dL_law_534 : decode cL_law 534 = .ok (.ifCond .ne 15, 3) := dk_154 0 15 (dk_at dksL_law_19 9 rfl rfl)
theorem dL_law_537 : decode cL_law 537 = .ok (.aload_n 3, 1) := dk_45 (dk_at dksL_law_19 12 rfl rfl)
theorem dL_law_538 : decode cL_law 538 = .ok (.iconst 0, 1) := dk_3 (dk_at dksL_law_19 13 rfl rfl)
theorem dL_law_539 : decode cL_law 539 = .ok (.laload, 1) := dk_47 (dk_at dksL_law_19 14 rfl rfl)
theorem dL_law_540 : decode cL_law 540 = .ok (.iload 6, 2) := dk_21 6 (dk_at dksL_law_19 15 rfl rfl)
theorem dL_law_542 : decode cL_law 542 = .ok (.i2l, 1) := dk_133 (dk_at dksL_law_19 17 rfl rfl)
theorem dL_law_543 : decode cL_law 543 = .ok (.lcmp, 1) := dk_148 (dk_at dksL_law_19 18 rfl rfl)
theorem dL_law_544 : decode cL_law 544 = .ok (.ifCond .eq 5, 3) := dk_153 0 5 (dk_at dksL_law_19 19 rfl rfl)
theorem dL_law_547 : decode cL_law 547 = .ok (.iconst 0, 1) := dk_3 (dk_at dksL_law_19 22 rfl rfl)
theorem dL_law_548 : decode cL_law 548 = .ok (.ireturn, 1) := dk_172 (dk_at dksL_law_19 23 rfl rfl)
theorem dL_law_549 : decode cL_law 549 = .ok (.goto 838, 3) := dk_167 3 70 (dk_at dksL_law_20 0 rfl rfl)
theorem dL_law_552 : decode cL_law 552 = .ok (.aload_n 1, 1) := dk_43 (dk_at dksL_law_20 3 rfl rfl)
theorem dL_law_553 : decode cL_law 553 = .ok (.aload_n 0, 1) := dk_42 (dk_at dksL_law_20 4 rfl rfl)
theorem dL_law_554 : decode cL_law 554 = .ok (.iload 4, 2) := dk_21 4 (dk_at dksL_law_20 5 rfl rfl)
theorem dL_law_556 : decode cL_law 556 = .ok (.iconst 1, 1) := dk_4 (dk_at dksL_law_20 7 rfl rfl)
theorem dL_law_557 : decode cL_law 557 = .ok (.iadd, 1) := dk_96 (dk_at dksL_law_20 8 rfl rfl)
theorem dL_law_558 : decode cL_law 558 = .ok (.iaload, 1) := dk_46 (dk_at dksL_law_20 9 rfl rfl)
theorem dL_law_559 : decode cL_law 559 = .ok (.aload_n 0, 1) := dk_42 (dk_at dksL_law_20 10 rfl rfl)
theorem dL_law_560 : decode cL_law 560 = .ok (.iload 4, 2) := dk_21 4 (dk_at dksL_law_20 11 rfl rfl)
theorem dL_law_562 : decode cL_law 562 = .ok (.iconst 2, 1) := dk_5 (dk_at dksL_law_20 13 rfl rfl)
theorem dL_law_563 : decode cL_law 563 = .ok (.iadd, 1) := dk_96 (dk_at dksL_law_20 14 rfl rfl)
theorem dL_law_564 : decode cL_law 564 = .ok (.iaload, 1) := dk_46 (dk_at dksL_law_20 15 rfl rfl)
theorem dL_law_565 : decode cL_law 565 = .ok (.aload_n 3, 1) := dk_45 (dk_at dksL_law_20 16 rfl rfl)
theorem dL_law_566 : decode cL_law 566 = .ok (.invokestatic 114, 3) := dk_184 0 114 (dk_at dksL_law_20 17 rfl rfl)
theorem dL_law_569 : decode cL_law 569 = .ok (.istore 5, 2) := dk_54 5 (dk_at dksL_law_20 20 rfl rfl)
theorem dL_law_571 : decode cL_law 571 = .ok (.aload_n 2, 1) := dk_44 (dk_at dksL_law_20 22 rfl rfl)
theorem dL_law_572 : decode cL_law 572 = .ok (.aload_n 0, 1) := dk_42 (dk_at dksL_law_20 23 rfl rfl)
theorem dL_law_573 : decode cL_law 573 = .ok (.iload 4, 2) := dk_21 4 (dk_at dksL_law_21 0 rfl rfl)
theorem dL_law_575 : decode cL_law 575 = .ok (.iconst 1, 1) := dk_4 (dk_at dksL_law_21 2 rfl rfl)
theorem dL_law_576 : decode cL_law 576 = .ok (.iadd, 1) := dk_96 (dk_at dksL_law_21 3 rfl rfl)
theorem dL_law_577 : decode cL_law 577 = .ok (.iaload, 1) := dk_46 (dk_at dksL_law_21 4 rfl rfl)
theorem dL_law_578 : decode cL_law 578 = .ok (.aload_n 0, 1) := dk_42 (dk_at dksL_law_21 5 rfl rfl)
theorem dL_law_579 : decode cL_law 579 = .ok (.iload 4, 2) := dk_21 4 (dk_at dksL_law_21 6 rfl rfl)
theorem dL_law_581 : decode cL_law 581 = .ok (.iconst 2, 1) := dk_5 (dk_at dksL_law_21 8 rfl rfl)
theorem dL_law_582 : decode cL_law 582 = .ok (.iadd, 1) := dk_96 (dk_at dksL_law_21 9 rfl rfl)
theorem dL_law_583 : decode cL_law 583 = .ok (.iaload, 1) := dk_46 (dk_at dksL_law_21 10 rfl rfl)
theorem dL_law_584 : decode cL_law 584 = .ok (.invokevirtual 116, 3) := dk_182 0 116 (dk_at dksL_law_21 11 rfl rfl)
theorem dL_law_587 : decode cL_law 587 = .ok (.istore 6, 2) := dk_54 6 (dk_at dksL_law_21 14 rfl rfl)
theorem dL_law_589 : decode cL_law 589 = .ok (.aload_n 2, 1) := dk_44 (dk_at dksL_law_21 16 rfl rfl)
theorem dL_law_590 : decode cL_law 590 = .ok (.invokevirtual 81, 3) := dk_182 0 81 (dk_at dksL_law_21 17 rfl rfl)
theorem dL_law_593 : decode cL_law 593 = .ok (.iload 5, 2) := dk_21 5 (dk_at dksL_law_21 20 rfl rfl)
theorem dL_law_595 : decode cL_law 595 = .ok (.if_icmp .eq 5, 3) := dk_159 0 5 (dk_at dksL_law_22 0 rfl rfl)
theorem dL_law_598 : decode cL_law 598 = .ok (.iconst 0, 1) := dk_3 (dk_at dksL_law_22 3 rfl rfl)
theorem dL_law_599 : decode cL_law 599 = .ok (.ireturn, 1) := dk_172 (dk_at dksL_law_22 4 rfl rfl)
theorem dL_law_600 : decode cL_law 600 = .ok (.iload 5, 2) := dk_21 5 (dk_at dksL_law_22 5 rfl rfl)
theorem dL_law_602 : decode cL_law 602 = .ok (.ifCond .ne 15, 3) := dk_154 0 15 (dk_at dksL_law_22 7 rfl rfl)
theorem dL_law_605 : decode cL_law 605 = .ok (.aload_n 3, 1) := dk_45 (dk_at dksL_law_22 10 rfl rfl)
theorem dL_law_606 : decode cL_law 606 = .ok (.iconst 0, 1) := dk_3 (dk_at dksL_law_22 11 rfl rfl)
theorem dL_law_607 : decode cL_law 607 = .ok (.laload, 1) := dk_47 (dk_at dksL_law_22 12 rfl rfl)
theorem dL_law_608 : decode cL_law 608 = .ok (.iload 6, 2) := dk_21 6 (dk_at dksL_law_22 13 rfl rfl)
theorem dL_law_610 : decode cL_law 610 = .ok (.i2l, 1) := dk_133 (dk_at dksL_law_22 15 rfl rfl)
theorem dL_law_611 : decode cL_law 611 = .ok (.lcmp, 1) := dk_148 (dk_at dksL_law_22 16 rfl rfl)
theorem dL_law_612 : decode cL_law 612 = .ok (.ifCond .eq 5, 3) := dk_153 0 5 (dk_at dksL_law_22 17 rfl rfl)
theorem dL_law_615 : decode cL_law 615 = .ok (.iconst 0, 1) := dk_3 (dk_at dksL_law_22 20 rfl rfl)
theorem dL_law_616 : decode cL_law 616 = .ok (.ireturn, 1) := dk_172 (dk_at dksL_law_22 21 rfl rfl)
theorem dL_law_617 : decode cL_law 617 = .ok (.goto 770, 3) := dk_167 3 2 (dk_at dksL_law_23 0 rfl rfl)
theorem dL_law_620 : decode cL_law 620 = .ok (.aload_n 1, 1) := dk_43 (dk_at dksL_law_23 3 rfl rfl)
theorem dL_law_621 : decode cL_law 621 = .ok (.aload_n 0, 1) := dk_42 (dk_at dksL_law_23 4 rfl rfl)
theorem dL_law_622 : decode cL_law 622 = .ok (.iload 4, 2) := dk_21 4 (dk_at dksL_law_23 5 rfl rfl)
theorem dL_law_624 : decode cL_law 624 = .ok (.iconst 1, 1) := dk_4 (dk_at dksL_law_23 7 rfl rfl)
theorem dL_law_625 : decode cL_law 625 = .ok (.iadd, 1) := dk_96 (dk_at dksL_law_23 8 rfl rfl)
theorem dL_law_626 : decode cL_law 626 = .ok (.iaload, 1) := dk_46 (dk_at dksL_law_23 9 rfl rfl)
theorem dL_law_627 : decode cL_law 627 = .ok (.aload_n 0, 1) := dk_42 (dk_at dksL_law_23 10 rfl rfl)
theorem dL_law_628 : decode cL_law 628 = .ok (.iload 4, 2) := dk_21 4 (dk_at dksL_law_23 11 rfl rfl)
theorem dL_law_630 : decode cL_law 630 = .ok (.iconst 2, 1) := dk_5 (dk_at dksL_law_23 13 rfl rfl)
theorem dL_law_631 : decode cL_law 631 = .ok (.iadd, 1) := dk_96 (dk_at dksL_law_23 14 rfl rfl)
theorem dL_law_632 : decode cL_law 632 = .ok (.iaload, 1) := dk_46 (dk_at dksL_law_23 15 rfl rfl)
theorem dL_law_633 : decode cL_law 633 = .ok (.aload_n 0, 1) := dk_42 (dk_at dksL_law_23 16 rfl rfl)
theorem dL_law_634 : decode cL_law 634 = .ok (.iload 4, 2) := dk_21 4 (dk_at dksL_law_23 17 rfl rfl)
theorem dL_law_636 : decode cL_law 636 = .ok (.iconst 3, 1) := dk_6 (dk_at dksL_law_23 19 rfl rfl)
theorem dL_law_637 : decode cL_law 637 = .ok (.iadd, 1) := dk_96 (dk_at dksL_law_23 20 rfl rfl)
theorem dL_law_638 : decode cL_law 638 = .ok (.iaload, 1) := dk_46 (dk_at dksL_law_23 21 rfl rfl)
theorem dL_law_639 : decode cL_law 639 = .ok (.aload_n 0, 1) := dk_42 (dk_at dksL_law_23 22 rfl rfl)
theorem dL_law_640 : decode cL_law 640 = .ok (.iload 4, 2) := dk_21 4 (dk_at dksL_law_24 0 rfl rfl)
theorem dL_law_642 : decode cL_law 642 = .ok (.iconst 4, 1) := dk_7 (dk_at dksL_law_24 2 rfl rfl)
theorem dL_law_643 : decode cL_law 643 = .ok (.iadd, 1) := dk_96 (dk_at dksL_law_24 3 rfl rfl)
theorem dL_law_644 : decode cL_law 644 = .ok (.iaload, 1) := dk_46 (dk_at dksL_law_24 4 rfl rfl)
theorem dL_law_645 : decode cL_law 645 = .ok (.aload_n 0, 1) := dk_42 (dk_at dksL_law_24 5 rfl rfl)
theorem dL_law_646 : decode cL_law 646 = .ok (.iload 4, 2) := dk_21 4 (dk_at dksL_law_24 6 rfl rfl)
theorem dL_law_648 : decode cL_law 648 = .ok (.iconst 5, 1) := dk_8 (dk_at dksL_law_24 8 rfl rfl)
theorem dL_law_649 : decode cL_law 649 = .ok (.iadd, 1) := dk_96 (dk_at dksL_law_24 9 rfl rfl)
theorem dL_law_650 : decode cL_law 650 = .ok (.iaload, 1) := dk_46 (dk_at dksL_law_24 10 rfl rfl)
theorem dL_law_651 : decode cL_law 651 = .ok (.aload_n 3, 1) := dk_45 (dk_at dksL_law_24 11 rfl rfl)
theorem dL_law_652 : decode cL_law 652 = .ok (.invokestatic 117, 3) := dk_184 0 117 (dk_at dksL_law_24 12 rfl rfl)
theorem dL_law_655 : decode cL_law 655 = .ok (.istore 5, 2) := dk_54 5 (dk_at dksL_law_24 15 rfl rfl)
theorem dL_law_657 : decode cL_law 657 = .ok (.aload_n 2, 1) := dk_44 (dk_at dksL_law_24 17 rfl rfl)
theorem dL_law_658 : decode cL_law 658 = .ok (.aload_n 0, 1) := dk_42 (dk_at dksL_law_24 18 rfl rfl)
theorem dL_law_659 : decode cL_law 659 = .ok (.iload 4, 2) := dk_21 4 (dk_at dksL_law_24 19 rfl rfl)
theorem dL_law_661 : decode cL_law 661 = .ok (.iconst 1, 1) := dk_4 (dk_at dksL_law_24 21 rfl rfl)
theorem dL_law_662 : decode cL_law 662 = .ok (.iadd, 1) := dk_96 (dk_at dksL_law_24 22 rfl rfl)
theorem dL_law_663 : decode cL_law 663 = .ok (.iaload, 1) := dk_46 (dk_at dksL_law_24 23 rfl rfl)
theorem dL_law_664 : decode cL_law 664 = .ok (.aload_n 0, 1) := dk_42 (dk_at dksL_law_25 0 rfl rfl)
theorem dL_law_665 : decode cL_law 665 = .ok (.iload 4, 2) := dk_21 4 (dk_at dksL_law_25 1 rfl rfl)
theorem dL_law_667 : decode cL_law 667 = .ok (.iconst 2, 1) := dk_5 (dk_at dksL_law_25 3 rfl rfl)
theorem dL_law_668 : decode cL_law 668 = .ok (.iadd, 1) := dk_96 (dk_at dksL_law_25 4 rfl rfl)
theorem dL_law_669 : decode cL_law 669 = .ok (.iaload, 1) := dk_46 (dk_at dksL_law_25 5 rfl rfl)
theorem dL_law_670 : decode cL_law 670 = .ok (.aload_n 0, 1) := dk_42 (dk_at dksL_law_25 6 rfl rfl)
theorem dL_law_671 : decode cL_law 671 = .ok (.iload 4, 2) := dk_21 4 (dk_at dksL_law_25 7 rfl rfl)
theorem dL_law_673 : decode cL_law 673 = .ok (.iconst 3, 1) := dk_6 (dk_at dksL_law_25 9 rfl rfl)
theorem dL_law_674 : decode cL_law 674 = .ok (.iadd, 1) := dk_96 (dk_at dksL_law_25 10 rfl rfl)
theorem dL_law_675 : decode cL_law 675 = .ok (.iaload, 1) := dk_46 (dk_at dksL_law_25 11 rfl rfl)
theorem dL_law_676 : decode cL_law 676 = .ok (.aload_n 0, 1) := dk_42 (dk_at dksL_law_25 12 rfl rfl)
theorem dL_law_677 : decode cL_law 677 = .ok (.iload 4, 2) := dk_21 4 (dk_at dksL_law_25 13 rfl rfl)
theorem dL_law_679 : decode cL_law 679 = .ok (.iconst 4, 1) := dk_7 (dk_at dksL_law_25 15 rfl rfl)
theorem dL_law_680 : decode cL_law 680 = .ok (.iadd, 1) := dk_96 (dk_at dksL_law_25 16 rfl rfl)
theorem dL_law_681 : decode cL_law 681 = .ok (.iaload, 1) := dk_46 (dk_at dksL_law_25 17 rfl rfl)
theorem dL_law_682 : decode cL_law 682 = .ok (.aload_n 0, 1) := dk_42 (dk_at dksL_law_25 18 rfl rfl)
theorem dL_law_683 : decode cL_law 683 = .ok (.iload 4, 2) := dk_21 4 (dk_at dksL_law_25 19 rfl rfl)
theorem dL_law_685 : decode cL_law 685 = .ok (.iconst 5, 1) := dk_8 (dk_at dksL_law_25 21 rfl rfl)
theorem dL_law_686 : decode cL_law 686 = .ok (.iadd, 1) := dk_96 (dk_at dksL_law_25 22 rfl rfl)
theorem dL_law_687 : decode cL_law 687 = .ok (.iaload, 1) := dk_46 (dk_at dksL_law_25 23 rfl rfl)
theorem dL_law_688 : decode cL_law 688 = .ok (.invokevirtual 120, 3) := dk_182 0 120 (dk_at dksL_law_26 0 rfl rfl)
theorem dL_law_691 : decode cL_law 691 = .ok (.istore 6, 2) := dk_54 6 (dk_at dksL_law_26 3 rfl rfl)
theorem dL_law_693 : decode cL_law 693 = .ok (.aload_n 2, 1) := dk_44 (dk_at dksL_law_26 5 rfl rfl)
theorem dL_law_694 : decode cL_law 694 = .ok (.invokevirtual 81, 3) := dk_182 0 81 (dk_at dksL_law_26 6 rfl rfl)
theorem dL_law_697 : decode cL_law 697 = .ok (.iload 5, 2) := dk_21 5 (dk_at dksL_law_26 9 rfl rfl)
theorem dL_law_699 : decode cL_law 699 = .ok (.if_icmp .eq 5, 3) := dk_159 0 5 (dk_at dksL_law_26 11 rfl rfl)
theorem dL_law_702 : decode cL_law 702 = .ok (.iconst 0, 1) := dk_3 (dk_at dksL_law_26 14 rfl rfl)
theorem dL_law_703 : decode cL_law 703 = .ok (.ireturn, 1) := dk_172 (dk_at dksL_law_26 15 rfl rfl)
theorem dL_law_704 : decode cL_law 704 = .ok (.iload 5, 2) := dk_21 5 (dk_at dksL_law_26 16 rfl rfl)
theorem dL_law_706 : decode cL_law 706 = .ok (.ifCond .ne 15, 3) := dk_154 0 15 (dk_at dksL_law_26 18 rfl rfl)
theorem dL_law_709 : decode cL_law 709 = .ok (.aload_n 3, 1) := dk_45 (dk_at dksL_law_26 21 rfl rfl)
theorem dL_law_710 : decode cL_law 710 = .ok (.iconst 0, 1) := dk_3 (dk_at dksL_law_26 22 rfl rfl)
theorem dL_law_711 : decode cL_law 711 = .ok (.laload, 1) := dk_47 (dk_at dksL_law_26 23 rfl rfl)
theorem dL_law_712 : decode cL_law 712 = .ok (.iload 6, 2) := dk_21 6 (dk_at dksL_law_27 0 rfl rfl)
theorem dL_law_714 : decode cL_law 714 = .ok (.i2l, 1) := dk_133 (dk_at dksL_law_27 2 rfl rfl)
theorem dL_law_715 : decode cL_law 715 = .ok (.lcmp, 1) := dk_148 (dk_at dksL_law_27 3 rfl rfl)
theorem dL_law_716 : decode cL_law 716 = .ok (.ifCond .eq 5, 3) := dk_153 0 5 (dk_at dksL_law_27 4 rfl rfl)
theorem dL_law_719 : decode cL_law 719 = .ok (.iconst 0, 1) := dk_3 (dk_at dksL_law_27 7 rfl rfl)
theorem dL_law_720 : decode cL_law 720 = .ok (.ireturn, 1) := dk_172 (dk_at dksL_law_27 8 rfl rfl)
theorem dL_law_721 : decode cL_law 721 = .ok (.goto 666, 3) := dk_167 2 154 (dk_at dksL_law_27 9 rfl rfl)
theorem dL_law_724 : decode cL_law 724 = .ok (.aload_n 1, 1) := dk_43 (dk_at dksL_law_27 12 rfl rfl)
theorem dL_law_725 : decode cL_law 725 = .ok (.aload_n 0, 1) := dk_42 (dk_at dksL_law_27 13 rfl rfl)
theorem dL_law_726 : decode cL_law 726 = .ok (.iload 4, 2) := dk_21 4 (dk_at dksL_law_27 14 rfl rfl)
theorem dL_law_728 : decode cL_law 728 = .ok (.iconst 1, 1) := dk_4 (dk_at dksL_law_27 16 rfl rfl)
theorem dL_law_729 : decode cL_law 729 = .ok (.iadd, 1) := dk_96 (dk_at dksL_law_27 17 rfl rfl)
theorem dL_law_730 : decode cL_law 730 = .ok (.iaload, 1) := dk_46 (dk_at dksL_law_27 18 rfl rfl)
theorem dL_law_731 : decode cL_law 731 = .ok (.aload_n 3, 1) := dk_45 (dk_at dksL_law_27 19 rfl rfl)
theorem dL_law_732 : decode cL_law 732 = .ok (.invokestatic 121, 3) := dk_184 0 121 (dk_at dksL_law_27 20 rfl rfl)
theorem dL_law_735 : decode cL_law 735 = .ok (.istore 5, 2) := dk_54 5 (dk_at dksL_law_28 0 rfl rfl)
theorem dL_law_737 : decode cL_law 737 = .ok (.aload_n 2, 1) := dk_44 (dk_at dksL_law_28 2 rfl rfl)
theorem dL_law_738 : decode cL_law 738 = .ok (.aload_n 0, 1) := dk_42 (dk_at dksL_law_28 3 rfl rfl)
theorem dL_law_739 : decode cL_law 739 = .ok (.iload 4, 2) := dk_21 4 (dk_at dksL_law_28 4 rfl rfl)
theorem dL_law_741 : decode cL_law 741 = .ok (.iconst 1, 1) := dk_4 (dk_at dksL_law_28 6 rfl rfl)
theorem dL_law_742 : decode cL_law 742 = .ok (.iadd, 1) := dk_96 (dk_at dksL_law_28 7 rfl rfl)
theorem dL_law_743 : decode cL_law 743 = .ok (.iaload, 1) := dk_46 (dk_at dksL_law_28 8 rfl rfl)
theorem dL_law_744 : decode cL_law 744 = .ok (.invokevirtual 124, 3) := dk_182 0 124 (dk_at dksL_law_28 9 rfl rfl)
theorem dL_law_747 : decode cL_law 747 = .ok (.istore 6, 2) := dk_54 6 (dk_at dksL_law_28 12 rfl rfl)
theorem dL_law_749 : decode cL_law 749 = .ok (.aload_n 2, 1) := dk_44 (dk_at dksL_law_28 14 rfl rfl)
theorem dL_law_750 : decode cL_law 750 = .ok (.invokevirtual 81, 3) := dk_182 0 81 (dk_at dksL_law_28 15 rfl rfl)
theorem dL_law_753 : decode cL_law 753 = .ok (.iload 5, 2) := dk_21 5 (dk_at dksL_law_28 18 rfl rfl)
theorem dL_law_755 : decode cL_law 755 = .ok (.if_icmp .eq 5, 3) := dk_159 0 5 (dk_at dksL_law_28 20 rfl rfl)
theorem dL_law_758 : decode cL_law 758 = .ok (.iconst 0, 1) := dk_3 (dk_at dksL_law_28 23 rfl rfl)
theorem dL_law_759 : decode cL_law 759 = .ok (.ireturn, 1) := dk_172 (dk_at dksL_law_29 0 rfl rfl)
theorem dL_law_760 : decode cL_law 760 = .ok (.iload 5, 2) := dk_21 5 (dk_at dksL_law_29 1 rfl rfl)
theorem dL_law_762 : decode cL_law 762 = .ok (.ifCond .ne 15, 3) := dk_154 0 15 (dk_at dksL_law_29 3 rfl rfl)
theorem dL_law_765 : decode cL_law 765 = .ok (.aload_n 3, 1) := dk_45 (dk_at dksL_law_29 6 rfl rfl)
theorem dL_law_766 : decode cL_law 766 = .ok (.iconst 0, 1) := dk_3 (dk_at dksL_law_29 7 rfl rfl)
theorem dL_law_767 : decode cL_law 767 = .ok (.laload, 1) := dk_47 (dk_at dksL_law_29 8 rfl rfl)
theorem dL_law_768 : decode cL_law 768 = .ok (.iload 6, 2) := dk_21 6 (dk_at dksL_law_29 9 rfl rfl)
theorem dL_law_770 : decode cL_law 770 = .ok (.i2l, 1) := dk_133 (dk_at dksL_law_29 11 rfl rfl)
theorem dL_law_771 : decode cL_law 771 = .ok (.lcmp, 1) := dk_148 (dk_at dksL_law_29 12 rfl rfl)
theorem dL_law_772 : decode cL_law 772 = .ok (.ifCond .eq 5, 3) := dk_153 0 5 (dk_at dksL_law_29 13 rfl rfl)
theorem dL_law_775 : decode cL_law 775 = .ok (.iconst 0, 1) := dk_3 (dk_at dksL_law_29 16 rfl rfl)
theorem dL_law_776 : decode cL_law 776 = .ok (.ireturn, 1) := dk_172 (dk_at dksL_law_29 17 rfl rfl)
theorem dL_law_777 : decode cL_law 777 = .ok (.goto 610, 3) := dk_167 2 98 (dk_at dksL_law_29 18 rfl rfl)
theorem dL_law_780 : decode cL_law 780 = .ok (.aload_n 1, 1) := dk_43 (dk_at dksL_law_29 21 rfl rfl)
theorem dL_law_781 : decode cL_law 781 = .ok (.aload_n 3, 1) := dk_45 (dk_at dksL_law_29 22 rfl rfl)
theorem dL_law_782 : decode cL_law 782 = .ok (.invokestatic 125, 3) := dk_184 0 125 (dk_at dksL_law_30 0 rfl rfl)
theorem dL_law_785 : decode cL_law 785 = .ok (.istore 5, 2) := dk_54 5 (dk_at dksL_law_30 3 rfl rfl)
theorem dL_law_787 : decode cL_law 787 = .ok (.aload_n 2, 1) := dk_44 (dk_at dksL_law_30 5 rfl rfl)
theorem dL_law_788 : decode cL_law 788 = .ok (.invokevirtual 128, 3) := dk_182 0 128 (dk_at dksL_law_30 6 rfl rfl)
theorem dL_law_791 : decode cL_law 791 = .ok (.istore 6, 2) := dk_54 6 (dk_at dksL_law_30 9 rfl rfl)
theorem dL_law_793 : decode cL_law 793 = .ok (.aload_n 2, 1) := dk_44 (dk_at dksL_law_30 11 rfl rfl)
theorem dL_law_794 : decode cL_law 794 = .ok (.invokevirtual 81, 3) := dk_182 0 81 (dk_at dksL_law_30 12 rfl rfl)
theorem dL_law_797 : decode cL_law 797 = .ok (.iload 5, 2) := dk_21 5 (dk_at dksL_law_30 15 rfl rfl)
theorem dL_law_799 : decode cL_law 799 = .ok (.if_icmp .eq 5, 3) := dk_159 0 5 (dk_at dksL_law_30 17 rfl rfl)
theorem dL_law_802 : decode cL_law 802 = .ok (.iconst 0, 1) := dk_3 (dk_at dksL_law_30 20 rfl rfl)
theorem dL_law_803 : decode cL_law 803 = .ok (.ireturn, 1) := dk_172 (dk_at dksL_law_30 21 rfl rfl)
theorem dL_law_804 : decode cL_law 804 = .ok (.iload 5, 2) := dk_21 5 (dk_at dksL_law_30 22 rfl rfl)
theorem dL_law_806 : decode cL_law 806 = .ok (.ifCond .ne 15, 3) := dk_154 0 15 (dk_at dksL_law_31 0 rfl rfl)
theorem dL_law_809 : decode cL_law 809 = .ok (.aload_n 3, 1) := dk_45 (dk_at dksL_law_31 3 rfl rfl)
theorem dL_law_810 : decode cL_law 810 = .ok (.iconst 0, 1) := dk_3 (dk_at dksL_law_31 4 rfl rfl)
theorem dL_law_811 : decode cL_law 811 = .ok (.laload, 1) := dk_47 (dk_at dksL_law_31 5 rfl rfl)
theorem dL_law_812 : decode cL_law 812 = .ok (.iload 6, 2) := dk_21 6 (dk_at dksL_law_31 6 rfl rfl)
theorem dL_law_814 : decode cL_law 814 = .ok (.i2l, 1) := dk_133 (dk_at dksL_law_31 8 rfl rfl)
theorem dL_law_815 : decode cL_law 815 = .ok (.lcmp, 1) := dk_148 (dk_at dksL_law_31 9 rfl rfl)
theorem dL_law_816 : decode cL_law 816 = .ok (.ifCond .eq 5, 3) := dk_153 0 5 (dk_at dksL_law_31 10 rfl rfl)
theorem dL_law_819 : decode cL_law 819 = .ok (.iconst 0, 1) := dk_3 (dk_at dksL_law_31 13 rfl rfl)
theorem dL_law_820 : decode cL_law 820 = .ok (.ireturn, 1) := dk_172 (dk_at dksL_law_31 14 rfl rfl)
theorem dL_law_821 : decode cL_law 821 = .ok (.goto 566, 3) := dk_167 2 54 (dk_at dksL_law_31 15 rfl rfl)
theorem dL_law_824 : decode cL_law 824 = .ok (.aload_n 1, 1) := dk_43 (dk_at dksL_law_31 18 rfl rfl)
theorem dL_law_825 : decode cL_law 825 = .ok (.aload_n 0, 1) := dk_42 (dk_at dksL_law_31 19 rfl rfl)
theorem dL_law_826 : decode cL_law 826 = .ok (.iload 4, 2) := dk_21 4 (dk_at dksL_law_31 20 rfl rfl)
theorem dL_law_828 : decode cL_law 828 = .ok (.iconst 1, 1) := dk_4 (dk_at dksL_law_31 22 rfl rfl)
theorem dL_law_829 : decode cL_law 829 = .ok (.iadd, 1) := dk_96 (dk_at dksL_law_31 23 rfl rfl)
theorem dL_law_830 : decode cL_law 830 = .ok (.iaload, 1) := dk_46 (dk_at dksL_law_32 0 rfl rfl)
theorem dL_law_831 : decode cL_law 831 = .ok (.aload_n 0, 1) := dk_42 (dk_at dksL_law_32 1 rfl rfl)
theorem dL_law_832 : decode cL_law 832 = .ok (.iload 4, 2) := dk_21 4 (dk_at dksL_law_32 2 rfl rfl)
theorem dL_law_834 : decode cL_law 834 = .ok (.iconst 2, 1) := dk_5 (dk_at dksL_law_32 4 rfl rfl)
theorem dL_law_835 : decode cL_law 835 = .ok (.iadd, 1) := dk_96 (dk_at dksL_law_32 5 rfl rfl)
theorem dL_law_836 : decode cL_law 836 = .ok (.iaload, 1) := dk_46 (dk_at dksL_law_32 6 rfl rfl)
theorem dL_law_837 : decode cL_law 837 = .ok (.aload_n 3, 1) := dk_45 (dk_at dksL_law_32 7 rfl rfl)
theorem dL_law_838 : decode cL_law 838 = .ok (.invokestatic 129, 3) := dk_184 0 129 (dk_at dksL_law_32 8 rfl rfl)
theorem dL_law_841 : decode cL_law 841 = .ok (.istore 5, 2) := dk_54 5 (dk_at dksL_law_32 11 rfl rfl)
theorem dL_law_843 : decode cL_law 843 = .ok (.aload_n 2, 1) := dk_44 (dk_at dksL_law_32 13 rfl rfl)
theorem dL_law_844 : decode cL_law 844 = .ok (.aload_n 0, 1) := dk_42 (dk_at dksL_law_32 14 rfl rfl)
theorem dL_law_845 : decode cL_law 845 = .ok (.iload 4, 2) := dk_21 4 (dk_at dksL_law_32 15 rfl rfl)
theorem dL_law_847 : decode cL_law 847 = .ok (.iconst 1, 1) := dk_4 (dk_at dksL_law_32 17 rfl rfl)
theorem dL_law_848 : decode cL_law 848 = .ok (.iadd, 1) := dk_96 (dk_at dksL_law_32 18 rfl rfl)
theorem dL_law_849 : decode cL_law 849 = .ok (.iaload, 1) := dk_46 (dk_at dksL_law_32 19 rfl rfl)
theorem dL_law_850 : decode cL_law 850 = .ok (.aload_n 0, 1) := dk_42 (dk_at dksL_law_32 20 rfl rfl)
theorem dL_law_851 : decode cL_law 851 = .ok (.iload 4, 2) := dk_21 4 (dk_at dksL_law_32 21 rfl rfl)
theorem dL_law_853 : decode cL_law 853 = .ok (.iconst 2, 1) := dk_5 (dk_at dksL_law_32 23 rfl rfl)
theorem dL_law_854 : decode cL_law 854 = .ok (.iadd, 1) := dk_96 (dk_at dksL_law_33 0 rfl rfl)
theorem dL_law_855 : decode cL_law 855 = .ok (.iaload, 1) := dk_46 (dk_at dksL_law_33 1 rfl rfl)
theorem dL_law_856 : decode cL_law 856 = .ok (.invokevirtual 131, 3) := dk_182 0 131 (dk_at dksL_law_33 2 rfl rfl)
theorem dL_law_859 : decode cL_law 859 = .ok (.istore 6, 2) := dk_54 6 (dk_at dksL_law_33 5 rfl rfl)
theorem dL_law_861 : decode cL_law 861 = .ok (.aload_n 2, 1) := dk_44 (dk_at dksL_law_33 7 rfl rfl)
theorem dL_law_862 : decode cL_law 862 = .ok (.invokevirtual 81, 3) := dk_182 0 81 (dk_at dksL_law_33 8 rfl rfl)
theorem dL_law_865 : decode cL_law 865 = .ok (.iload 5, 2) := dk_21 5 (dk_at dksL_law_33 11 rfl rfl)
theorem dL_law_867 : decode cL_law 867 = .ok (.if_icmp .eq 5, 3) := dk_159 0 5 (dk_at dksL_law_33 13 rfl rfl)
theorem dL_law_870 : decode cL_law 870 = .ok (.iconst 0, 1) := dk_3 (dk_at dksL_law_33 16 rfl rfl)
theorem dL_law_871 : decode cL_law 871 = .ok (.ireturn, 1) := dk_172 (dk_at dksL_law_33 17 rfl rfl)
theorem dL_law_872 : decode cL_law 872 = .ok (.iload 5, 2) := dk_21 5 (dk_at dksL_law_33 18 rfl rfl)
theorem dL_law_874 : decode cL_law 874 = .ok (.ifCond .ne 15, 3) := dk_154 0 15 (dk_at dksL_law_33 20 rfl rfl)
theorem dL_law_877 : decode cL_law 877 = .ok (.aload_n 3, 1) := dk_45 (dk_at dksL_law_33 23 rfl rfl)
theorem dL_law_878 : decode cL_law 878 = .ok (.iconst 0, 1) := dk_3 (dk_at dksL_law_34 0 rfl rfl)
theorem dL_law_879 : decode cL_law 879 = .ok (.laload, 1) := dk_47 (dk_at dksL_law_34 1 rfl rfl)
theorem dL_law_880 : decode cL_law 880 = .ok (.iload 6, 2) := dk_21 6 (dk_at dksL_law_34 2 rfl rfl)
theorem dL_law_882 : decode cL_law 882 = .ok (.i2l, 1) := dk_133 (dk_at dksL_law_34 4 rfl rfl)
theorem dL_law_883 : decode cL_law 883 = .ok (.lcmp, 1) := dk_148 (dk_at dksL_law_34 5 rfl rfl)
theorem dL_law_884 : decode cL_law 884 = .ok (.ifCond .eq 5, 3) := dk_153 0 5 (dk_at dksL_law_34 6 rfl rfl)
theorem dL_law_887 : decode cL_law 887 = .ok (.iconst 0, 1) := dk_3 (dk_at dksL_law_34 9 rfl rfl)
theorem dL_law_888 : decode cL_law 888 = .ok (.ireturn, 1) := dk_172 (dk_at dksL_law_34 10 rfl rfl)
theorem dL_law_889 : decode cL_law 889 = .ok (.goto 498, 3) := dk_167 1 242 (dk_at dksL_law_34 11 rfl rfl)
theorem dL_law_892 : decode cL_law 892 = .ok (.aload_n 1, 1) := dk_43 (dk_at dksL_law_34 14 rfl rfl)
theorem dL_law_893 : decode cL_law 893 = .ok (.aload_n 0, 1) := dk_42 (dk_at dksL_law_34 15 rfl rfl)
theorem dL_law_894 : decode cL_law 894 = .ok (.iload 4, 2) := dk_21 4 (dk_at dksL_law_34 16 rfl rfl)
theorem dL_law_896 : decode cL_law 896 = .ok (.iconst 1, 1) := dk_4 (dk_at dksL_law_34 18 rfl rfl)
theorem dL_law_897 : decode cL_law 897 = .ok (.iadd, 1) := dk_96 (dk_at dksL_law_34 19 rfl rfl)
theorem dL_law_898 : decode cL_law 898 = .ok (.iaload, 1) := dk_46 (dk_at dksL_law_34 20 rfl rfl)
theorem dL_law_899 : decode cL_law 899 = .ok (.aload_n 0, 1) := dk_42 (dk_at dksL_law_34 21 rfl rfl)
theorem dL_law_900 : decode cL_law 900 = .ok (.iload 4, 2) := dk_21 4 (dk_at dksL_law_34 22 rfl rfl)
theorem dL_law_902 : decode cL_law 902 = .ok (.iconst 2, 1) := dk_5 (dk_at dksL_law_35 0 rfl rfl)
theorem dL_law_903 : decode cL_law 903 = .ok (.iadd, 1) := dk_96 (dk_at dksL_law_35 1 rfl rfl)
theorem dL_law_904 : decode cL_law 904 = .ok (.iaload, 1) := dk_46 (dk_at dksL_law_35 2 rfl rfl)
theorem dL_law_905 : decode cL_law 905 = .ok (.aload_n 3, 1) := dk_45 (dk_at dksL_law_35 3 rfl rfl)
theorem dL_law_906 : decode cL_law 906 = .ok (.invokestatic 132, 3) := dk_184 0 132 (dk_at dksL_law_35 4 rfl rfl)
theorem dL_law_909 : decode cL_law 909 = .ok (.istore 5, 2) := dk_54 5 (dk_at dksL_law_35 7 rfl rfl)
theorem dL_law_911 : decode cL_law 911 = .ok (.aload_n 2, 1) := dk_44 (dk_at dksL_law_35 9 rfl rfl)
theorem dL_law_912 : decode cL_law 912 = .ok (.aload_n 0, 1) := dk_42 (dk_at dksL_law_35 10 rfl rfl)
theorem dL_law_913 : decode cL_law 913 = .ok (.iload 4, 2) := dk_21 4 (dk_at dksL_law_35 11 rfl rfl)
theorem dL_law_915 : decode cL_law 915 = .ok (.iconst 1, 1) := dk_4 (dk_at dksL_law_35 13 rfl rfl)
theorem dL_law_916 : decode cL_law 916 = .ok (.iadd, 1) := dk_96 (dk_at dksL_law_35 14 rfl rfl)
theorem dL_law_917 : decode cL_law 917 = .ok (.iaload, 1) := dk_46 (dk_at dksL_law_35 15 rfl rfl)
theorem dL_law_918 : decode cL_law 918 = .ok (.aload_n 0, 1) := dk_42 (dk_at dksL_law_35 16 rfl rfl)
theorem dL_law_919 : decode cL_law 919 = .ok (.iload 4, 2) := dk_21 4 (dk_at dksL_law_35 17 rfl rfl)
theorem dL_law_921 : decode cL_law 921 = .ok (.iconst 2, 1) := dk_5 (dk_at dksL_law_35 19 rfl rfl)
theorem dL_law_922 : decode cL_law 922 = .ok (.iadd, 1) := dk_96 (dk_at dksL_law_35 20 rfl rfl)
theorem dL_law_923 : decode cL_law 923 = .ok (.iaload, 1) := dk_46 (dk_at dksL_law_35 21 rfl rfl)
theorem dL_law_924 : decode cL_law 924 = .ok (.invokevirtual 134, 3) := dk_182 0 134 (dk_at dksL_law_36 0 rfl rfl)
theorem dL_law_927 : decode cL_law 927 = .ok (.istore 6, 2) := dk_54 6 (dk_at dksL_law_36 3 rfl rfl)
theorem dL_law_929 : decode cL_law 929 = .ok (.aload_n 2, 1) := dk_44 (dk_at dksL_law_36 5 rfl rfl)
theorem dL_law_930 : decode cL_law 930 = .ok (.invokevirtual 81, 3) := dk_182 0 81 (dk_at dksL_law_36 6 rfl rfl)
theorem dL_law_933 : decode cL_law 933 = .ok (.iload 5, 2) := dk_21 5 (dk_at dksL_law_36 9 rfl rfl)
theorem dL_law_935 : decode cL_law 935 = .ok (.if_icmp .eq 5, 3) := dk_159 0 5 (dk_at dksL_law_36 11 rfl rfl)
theorem dL_law_938 : decode cL_law 938 = .ok (.iconst 0, 1) := dk_3 (dk_at dksL_law_36 14 rfl rfl)
theorem dL_law_939 : decode cL_law 939 = .ok (.ireturn, 1) := dk_172 (dk_at dksL_law_36 15 rfl rfl)
theorem dL_law_940 : decode cL_law 940 = .ok (.iload 5, 2) := dk_21 5 (dk_at dksL_law_36 16 rfl rfl)
theorem dL_law_942 : decode cL_law 942 = .ok (.ifCond .ne 15, 3) := dk_154 0 15 (dk_at dksL_law_36 18 rfl rfl)
theorem dL_law_945 : decode cL_law 945 = .ok (.aload_n 3, 1) := dk_45 (dk_at dksL_law_36 21 rfl rfl)
theorem dL_law_946 : decode cL_law 946 = .ok (.iconst 0, 1) := dk_3 (dk_at dksL_law_36 22 rfl rfl)
theorem dL_law_947 : decode cL_law 947 = .ok (.laload, 1) := dk_47 (dk_at dksL_law_36 23 rfl rfl)
theorem dL_law_948 : decode cL_law 948 = .ok (.iload 6, 2) := dk_21 6 (dk_at dksL_law_37 0 rfl rfl)
theorem dL_law_950 : decode cL_law 950 = .ok (.i2l, 1) := dk_133 (dk_at dksL_law_37 2 rfl rfl)
theorem dL_law_951 : decode cL_law 951 = .ok (.lcmp, 1) := dk_148 (dk_at dksL_law_37 3 rfl rfl)
theorem dL_law_952 : decode cL_law 952 = .ok (.ifCond .eq 5, 3) := dk_153 0 5 (dk_at dksL_law_37 4 rfl rfl)
theorem dL_law_955 : decode cL_law 955 = .ok (.iconst 0, 1) := dk_3 (dk_at dksL_law_37 7 rfl rfl)
theorem dL_law_956 : decode cL_law 956 = .ok (.ireturn, 1) := dk_172 (dk_at dksL_law_37 8 rfl rfl)
theorem dL_law_957 : decode cL_law 957 = .ok (.goto 430, 3) := dk_167 1 174 (dk_at dksL_law_37 9 rfl rfl)
theorem dL_law_960 : decode cL_law 960 = .ok (.aload_n 1, 1) := dk_43 (dk_at dksL_law_37 12 rfl rfl)
theorem dL_law_961 : decode cL_law 961 = .ok (.aload_n 0, 1) := dk_42 (dk_at dksL_law_37 13 rfl rfl)
theorem dL_law_962 : decode cL_law 962 = .ok (.iload 4, 2) := dk_21 4 (dk_at dksL_law_37 14 rfl rfl)
theorem dL_law_964 : decode cL_law 964 = .ok (.iconst 1, 1) := dk_4 (dk_at dksL_law_37 16 rfl rfl)
theorem dL_law_965 : decode cL_law 965 = .ok (.iadd, 1) := dk_96 (dk_at dksL_law_37 17 rfl rfl)
theorem dL_law_966 : decode cL_law 966 = .ok (.iaload, 1) := dk_46 (dk_at dksL_law_37 18 rfl rfl)
theorem dL_law_967 : decode cL_law 967 = .ok (.aload_n 0, 1) := dk_42 (dk_at dksL_law_37 19 rfl rfl)
theorem dL_law_968 : decode cL_law 968 = .ok (.iload 4, 2) := dk_21 4 (dk_at dksL_law_37 20 rfl rfl)
theorem dL_law_970 : decode cL_law 970 = .ok (.iconst 2, 1) := dk_5 (dk_at dksL_law_37 22 rfl rfl)
theorem dL_law_971 : decode cL_law 971 = .ok (.iadd, 1) := dk_96 (dk_at dksL_law_37 23 rfl rfl)
theorem dL_law_972 : decode cL_law 972 = .ok (.iaload, 1) := dk_46 (dk_at dksL_law_38 0 rfl rfl)
theorem dL_law_973 : decode cL_law 973 = .ok (.aload_n 0, 1) := dk_42 (dk_at dksL_law_38 1 rfl rfl)
theorem dL_law_974 : decode cL_law 974 = .ok (.iload 4, 2) := dk_21 4 (dk_at dksL_law_38 2 rfl rfl)
theorem dL_law_976 : decode cL_law 976 = .ok (.iconst 3, 1) := dk_6 (dk_at dksL_law_38 4 rfl rfl)
theorem dL_law_977 : decode cL_law 977 = .ok (.iadd, 1) := dk_96 (dk_at dksL_law_38 5 rfl rfl)
theorem dL_law_978 : decode cL_law 978 = .ok (.iaload, 1) := dk_46 (dk_at dksL_law_38 6 rfl rfl)
theorem dL_law_979 : decode cL_law 979 = .ok (.aload_n 3, 1) := dk_45 (dk_at dksL_law_38 7 rfl rfl)
theorem dL_law_980 : decode cL_law 980 = .ok (.invokestatic 135, 3) := dk_184 0 135 (dk_at dksL_law_38 8 rfl rfl)
theorem dL_law_983 : decode cL_law 983 = .ok (.istore 5, 2) := dk_54 5 (dk_at dksL_law_38 11 rfl rfl)
theorem dL_law_985 : decode cL_law 985 = .ok (.aload_n 2, 1) := dk_44 (dk_at dksL_law_38 13 rfl rfl)
theorem dL_law_986 : decode cL_law 986 = .ok (.aload_n 0, 1) := dk_42 (dk_at dksL_law_38 14 rfl rfl)
theorem dL_law_987 : decode cL_law 987 = .ok (.iload 4, 2) := dk_21 4 (dk_at dksL_law_38 15 rfl rfl)
theorem dL_law_989 : decode cL_law 989 = .ok (.iconst 1, 1) := dk_4 (dk_at dksL_law_38 17 rfl rfl)
theorem dL_law_990 : decode cL_law 990 = .ok (.iadd, 1) := dk_96 (dk_at dksL_law_38 18 rfl rfl)
theorem dL_law_991 : decode cL_law 991 = .ok (.iaload, 1) := dk_46 (dk_at dksL_law_38 19 rfl rfl)
theorem dL_law_992 : decode cL_law 992 = .ok (.aload_n 0, 1) := dk_42 (dk_at dksL_law_38 20 rfl rfl)
theorem dL_law_993 : decode cL_law 993 = .ok (.iload 4, 2) := dk_21 4 (dk_at dksL_law_38 21 rfl rfl)
theorem dL_law_995 : decode cL_law 995 = .ok (.iconst 2, 1) := dk_5 (dk_at dksL_law_38 23 rfl rfl)
theorem dL_law_996 : decode cL_law 996 = .ok (.iadd, 1) := dk_96 (dk_at dksL_law_39 0 rfl rfl)
theorem dL_law_997 : decode cL_law 997 = .ok (.iaload, 1) := dk_46 (dk_at dksL_law_39 1 rfl rfl)
theorem dL_law_998 : decode cL_law 998 = .ok (.aload_n 0, 1) := dk_42 (dk_at dksL_law_39 2 rfl rfl)
theorem dL_law_999 : decode cL_law 999 = .ok (.iload 4, 2) := dk_21 4 (dk_at dksL_law_39 3 rfl rfl)
theorem dL_law_1001 : decode cL_law 1001 = .ok (.iconst 3, 1) := dk_6 (dk_at dksL_law_39 5 rfl rfl)
theorem dL_law_1002 : decode cL_law 1002 = .ok (.iadd, 1) := dk_96 (dk_at dksL_law_39 6 rfl rfl)
theorem dL_law_1003 : decode cL_law 1003 = .ok (.iaload, 1) := dk_46 (dk_at dksL_law_39 7 rfl rfl)
theorem dL_law_1004 : decode cL_law 1004 = .ok (.invokevirtual 137, 3) := dk_182 0 137 (dk_at dksL_law_39 8 rfl rfl)
theorem dL_law_1007 : decode cL_law 1007 = .ok (.istore 6, 2) := dk_54 6 (dk_at dksL_law_39 11 rfl rfl)
theorem dL_law_1009 : decode cL_law 1009 = .ok (.aload_n 2, 1) := dk_44 (dk_at dksL_law_39 13 rfl rfl)
theorem dL_law_1010 : decode cL_law 1010 = .ok (.invokevirtual 81, 3) := dk_182 0 81 (dk_at dksL_law_39 14 rfl rfl)
theorem dL_law_1013 : decode cL_law 1013 = .ok (.iload 5, 2) := dk_21 5 (dk_at dksL_law_39 17 rfl rfl)
theorem dL_law_1015 : decode cL_law 1015 = .ok (.if_icmp .eq 5, 3) := dk_159 0 5 (dk_at dksL_law_39 19 rfl rfl)
theorem dL_law_1018 : decode cL_law 1018 = .ok (.iconst 0, 1) := dk_3 (dk_at dksL_law_39 22 rfl rfl)
theorem dL_law_1019 : decode cL_law 1019 = .ok (.ireturn, 1) := dk_172 (dk_at dksL_law_39 23 rfl rfl)
theorem dL_law_1020 : decode cL_law 1020 = .ok (.iload 5, 2) := dk_21 5 (dk_at dksL_law_40 0 rfl rfl)
theorem dL_law_1022 : decode cL_law 1022 = .ok (.ifCond .ne 15, 3) := dk_154 0 15 (dk_at dksL_law_40 2 rfl rfl)
theorem dL_law_1025 : decode cL_law 1025 = .ok (.aload_n 3, 1) := dk_45 (dk_at dksL_law_40 5 rfl rfl)
theorem dL_law_1026 : decode cL_law 1026 = .ok (.iconst 0, 1) := dk_3 (dk_at dksL_law_40 6 rfl rfl)
theorem dL_law_1027 : decode cL_law 1027 = .ok (.laload, 1) := dk_47 (dk_at dksL_law_40 7 rfl rfl)
theorem dL_law_1028 : decode cL_law 1028 = .ok (.iload 6, 2) := dk_21 6 (dk_at dksL_law_40 8 rfl rfl)
theorem dL_law_1030 : decode cL_law 1030 = .ok (.i2l, 1) := dk_133 (dk_at dksL_law_40 10 rfl rfl)
theorem dL_law_1031 : decode cL_law 1031 = .ok (.lcmp, 1) := dk_148 (dk_at dksL_law_40 11 rfl rfl)
theorem dL_law_1032 : decode cL_law 1032 = .ok (.ifCond .eq 5, 3) := dk_153 0 5 (dk_at dksL_law_40 12 rfl rfl)
theorem dL_law_1035 : decode cL_law 1035 = .ok (.iconst 0, 1) := dk_3 (dk_at dksL_law_40 15 rfl rfl)
theorem dL_law_1036 : decode cL_law 1036 = .ok (.ireturn, 1) := dk_172 (dk_at dksL_law_40 16 rfl rfl)
theorem dL_law_1037 : decode cL_law 1037 = .ok (.goto 350, 3) := dk_167 1 94 (dk_at dksL_law_40 17 rfl rfl)
theorem dL_law_1040 : decode cL_law 1040 = .ok (.aload_n 1, 1) := dk_43 (dk_at dksL_law_40 20 rfl rfl)
theorem dL_law_1041 : decode cL_law 1041 = .ok (.aload_n 0, 1) := dk_42 (dk_at dksL_law_40 21 rfl rfl)
theorem dL_law_1042 : decode cL_law 1042 = .ok (.iload 4, 2) := dk_21 4 (dk_at dksL_law_40 22 rfl rfl)
theorem dL_law_1044 : decode cL_law 1044 = .ok (.iconst 1, 1) := dk_4 (dk_at dksL_law_41 0 rfl rfl)
theorem dL_law_1045 : decode cL_law 1045 = .ok (.iadd, 1) := dk_96 (dk_at dksL_law_41 1 rfl rfl)
theorem dL_law_1046 : decode cL_law 1046 = .ok (.iaload, 1) := dk_46 (dk_at dksL_law_41 2 rfl rfl)
theorem dL_law_1047 : decode cL_law 1047 = .ok (.aload_n 0, 1) := dk_42 (dk_at dksL_law_41 3 rfl rfl)
theorem dL_law_1048 : decode cL_law 1048 = .ok (.iload 4, 2) := dk_21 4 (dk_at dksL_law_41 4 rfl rfl)
theorem dL_law_1050 : decode cL_law 1050 = .ok (.iconst 2, 1) := dk_5 (dk_at dksL_law_41 6 rfl rfl)
theorem dL_law_1051 : decode cL_law 1051 = .ok (.iadd, 1) := dk_96 (dk_at dksL_law_41 7 rfl rfl)
theorem dL_law_1052 : decode cL_law 1052 = .ok (.iaload, 1) := dk_46 (dk_at dksL_law_41 8 rfl rfl)
theorem dL_law_1053 : decode cL_law 1053 = .ok (.aload_n 3, 1) := dk_45 (dk_at dksL_law_41 9 rfl rfl)
theorem dL_law_1054 : decode cL_law 1054 = .ok (.invokestatic 138, 3) := dk_184 0 138 (dk_at dksL_law_41 10 rfl rfl)
theorem dL_law_1057 : decode cL_law 1057 = .ok (.istore 5, 2) := dk_54 5 (dk_at dksL_law_41 13 rfl rfl)
theorem dL_law_1059 : decode cL_law 1059 = .ok (.aload_n 2, 1) := dk_44 (dk_at dksL_law_41 15 rfl rfl)
theorem dL_law_1060 : decode cL_law 1060 = .ok (.aload_n 0, 1) := dk_42 (dk_at dksL_law_41 16 rfl rfl)
theorem dL_law_1061 : decode cL_law 1061 = .ok (.iload 4, 2) := dk_21 4 (dk_at dksL_law_41 17 rfl rfl)
theorem dL_law_1063 : decode cL_law 1063 = .ok (.iconst 1, 1) := dk_4 (dk_at dksL_law_41 19 rfl rfl)
theorem dL_law_1064 : decode cL_law 1064 = .ok (.iadd, 1) := dk_96 (dk_at dksL_law_41 20 rfl rfl)
theorem dL_law_1065 : decode cL_law 1065 = .ok (.iaload, 1) := dk_46 (dk_at dksL_law_41 21 rfl rfl)
theorem dL_law_1066 : decode cL_law 1066 = .ok (.aload_n 0, 1) := dk_42 (dk_at dksL_law_41 22 rfl rfl)
theorem dL_law_1067 : decode cL_law 1067 = .ok (.iload 4, 2) := dk_21 4 (dk_at dksL_law_42 0 rfl rfl)
theorem dL_law_1069 : decode cL_law 1069 = .ok (.iconst 2, 1) := dk_5 (dk_at dksL_law_42 2 rfl rfl)
theorem dL_law_1070 : decode cL_law 1070 = .ok (.iadd, 1) := dk_96 (dk_at dksL_law_42 3 rfl rfl)
theorem dL_law_1071 : decode cL_law 1071 = .ok (.iaload, 1) := dk_46 (dk_at dksL_law_42 4 rfl rfl)
theorem dL_law_1072 : decode cL_law 1072 = .ok (.invokevirtual 140, 3) := dk_182 0 140 (dk_at dksL_law_42 5 rfl rfl)
theorem dL_law_1075 : decode cL_law 1075 = .ok (.istore 6, 2) := dk_54 6 (dk_at dksL_law_42 8 rfl rfl)
theorem dL_law_1077 : decode cL_law 1077 = .ok (.aload_n 2, 1) := dk_44 (dk_at dksL_law_42 10 rfl rfl)
theorem dL_law_1078 : decode cL_law 1078 = .ok (.invokevirtual 81, 3) := dk_182 0 81 (dk_at dksL_law_42 11 rfl rfl)
theorem dL_law_1081 : decode cL_law 1081 = .ok (.iload 5, 2) := dk_21 5 (dk_at dksL_law_42 14 rfl rfl)
theorem dL_law_1083 : decode cL_law 1083 = .ok (.if_icmp .eq 5, 3) := dk_159 0 5 (dk_at dksL_law_42 16 rfl rfl)
theorem dL_law_1086 : decode cL_law 1086 = .ok (.iconst 0, 1) := dk_3 (dk_at dksL_law_42 19 rfl rfl)
theorem dL_law_1087 : decode cL_law 1087 = .ok (.ireturn, 1) := dk_172 (dk_at dksL_law_42 20 rfl rfl)
theorem dL_law_1088 : decode cL_law 1088 = .ok (.iload 5, 2) := dk_21 5 (dk_at dksL_law_42 21 rfl rfl)
theorem dL_law_1090 : decode cL_law 1090 = .ok (.ifCond .ne 15, 3) := dk_154 0 15 (dk_at dksL_law_43 0 rfl rfl)
theorem dL_law_1093 : decode cL_law 1093 = .ok (.aload_n 3, 1) := dk_45 (dk_at dksL_law_43 3 rfl rfl)
theorem dL_law_1094 : decode cL_law 1094 = .ok (.iconst 0, 1) := dk_3 (dk_at dksL_law_43 4 rfl rfl)
theorem dL_law_1095 : decode cL_law 1095 = .ok (.laload, 1) := dk_47 (dk_at dksL_law_43 5 rfl rfl)
theorem dL_law_1096 : decode cL_law 1096 = .ok (.iload 6, 2) := dk_21 6 (dk_at dksL_law_43 6 rfl rfl)
theorem dL_law_1098 : decode cL_law 1098 = .ok (.i2l, 1) := dk_133 (dk_at dksL_law_43 8 rfl rfl)
theorem dL_law_1099 : decode cL_law 1099 = .ok (.lcmp, 1) := dk_148 (dk_at dksL_law_43 9 rfl rfl)
theorem dL_law_1100 : decode cL_law 1100 = .ok (.ifCond .eq 5, 3) := dk_153 0 5 (dk_at dksL_law_43 10 rfl rfl)
theorem dL_law_1103 : decode cL_law 1103 = .ok (.iconst 0, 1) := dk_3 (dk_at dksL_law_43 13 rfl rfl)
theorem dL_law_1104 : decode cL_law 1104 = .ok (.ireturn, 1) := dk_172 (dk_at dksL_law_43 14 rfl rfl)
theorem dL_law_1105 : decode cL_law 1105 = .ok (.goto 282, 3) := dk_167 1 26 (dk_at dksL_law_43 15 rfl rfl)
theorem dL_law_1108 : decode cL_law 1108 = .ok (.aload_n 1, 1) := dk_43 (dk_at dksL_law_43 18 rfl rfl)
theorem dL_law_1109 : decode cL_law 1109 = .ok (.aload_n 0, 1) := dk_42 (dk_at dksL_law_43 19 rfl rfl)
theorem dL_law_1110 : decode cL_law 1110 = .ok (.iload 4, 2) := dk_21 4 (dk_at dksL_law_43 20 rfl rfl)
theorem dL_law_1112 : decode cL_law 1112 = .ok (.iconst 1, 1) := dk_4 (dk_at dksL_law_43 22 rfl rfl)
theorem dL_law_1113 : decode cL_law 1113 = .ok (.iadd, 1) := dk_96 (dk_at dksL_law_43 23 rfl rfl)
theorem dL_law_1114 : decode cL_law 1114 = .ok (.iaload, 1) := dk_46 (dk_at dksL_law_44 0 rfl rfl)
theorem dL_law_1115 : decode cL_law 1115 = .ok (.aload_n 3, 1) := dk_45 (dk_at dksL_law_44 1 rfl rfl)
theorem dL_law_1116 : decode cL_law 1116 = .ok (.invokestatic 141, 3) := dk_184 0 141 (dk_at dksL_law_44 2 rfl rfl)
theorem dL_law_1119 : decode cL_law 1119 = .ok (.istore 5, 2) := dk_54 5 (dk_at dksL_law_44 5 rfl rfl)
theorem dL_law_1121 : decode cL_law 1121 = .ok (.aload_n 2, 1) := dk_44 (dk_at dksL_law_44 7 rfl rfl)
theorem dL_law_1122 : decode cL_law 1122 = .ok (.aload_n 0, 1) := dk_42 (dk_at dksL_law_44 8 rfl rfl)
theorem dL_law_1123 : decode cL_law 1123 = .ok (.iload 4, 2) := dk_21 4 (dk_at dksL_law_44 9 rfl rfl)
theorem dL_law_1125 : decode cL_law 1125 = .ok (.iconst 1, 1) := dk_4 (dk_at dksL_law_44 11 rfl rfl)
theorem dL_law_1126 : decode cL_law 1126 = .ok (.iadd, 1) := dk_96 (dk_at dksL_law_44 12 rfl rfl)
theorem dL_law_1127 : decode cL_law 1127 = .ok (.iaload, 1) := dk_46 (dk_at dksL_law_44 13 rfl rfl)
theorem dL_law_1128 : decode cL_law 1128 = .ok (.invokevirtual 143, 3) := dk_182 0 143 (dk_at dksL_law_44 14 rfl rfl)
theorem dL_law_1131 : decode cL_law 1131 = .ok (.istore 6, 2) := dk_54 6 (dk_at dksL_law_44 17 rfl rfl)
theorem dL_law_1133 : decode cL_law 1133 = .ok (.aload_n 2, 1) := dk_44 (dk_at dksL_law_44 19 rfl rfl)
theorem dL_law_1134 : decode cL_law 1134 = .ok (.invokevirtual 81, 3) := dk_182 0 81 (dk_at dksL_law_44 20 rfl rfl)
theorem dL_law_1137 : decode cL_law 1137 = .ok (.iload 5, 2) := dk_21 5 (dk_at dksL_law_45 0 rfl rfl)
theorem dL_law_1139 : decode cL_law 1139 = .ok (.if_icmp .eq 5, 3) := dk_159 0 5 (dk_at dksL_law_45 2 rfl rfl)
theorem dL_law_1142 : decode cL_law 1142 = .ok (.iconst 0, 1) := dk_3 (dk_at dksL_law_45 5 rfl rfl)
theorem dL_law_1143 : decode cL_law 1143 = .ok (.ireturn, 1) := dk_172 (dk_at dksL_law_45 6 rfl rfl)
theorem dL_law_1144 : decode cL_law 1144 = .ok (.iload 5, 2) := dk_21 5 (dk_at dksL_law_45 7 rfl rfl)
theorem dL_law_1146 : decode cL_law 1146 = .ok (.ifCond .ne 15, 3) := dk_154 0 15 (dk_at dksL_law_45 9 rfl rfl)
theorem dL_law_1149 : decode cL_law 1149 = .ok (.aload_n 3, 1) := dk_45 (dk_at dksL_law_45 12 rfl rfl)
theorem dL_law_1150 : decode cL_law 1150 = .ok (.iconst 0, 1) := dk_3 (dk_at dksL_law_45 13 rfl rfl)
theorem dL_law_1151 : decode cL_law 1151 = .ok (.laload, 1) := dk_47 (dk_at dksL_law_45 14 rfl rfl)
theorem dL_law_1152 : decode cL_law 1152 = .ok (.iload 6, 2) := dk_21 6 (dk_at dksL_law_45 15 rfl rfl)
theorem dL_law_1154 : decode cL_law 1154 = .ok (.i2l, 1) := dk_133 (dk_at dksL_law_45 17 rfl rfl)
theorem dL_law_1155 : decode cL_law 1155 = .ok (.lcmp, 1) := dk_148 (dk_at dksL_law_45 18 rfl rfl)
theorem dL_law_1156 : decode cL_law 1156 = .ok (.ifCond .eq 5, 3) := dk_153 0 5 (dk_at dksL_law_45 19 rfl rfl)
theorem dL_law_1159 : decode cL_law 1159 = .ok (.iconst 0, 1) := dk_3 (dk_at dksL_law_45 22 rfl rfl)
theorem dL_law_1160 : decode cL_law 1160 = .ok (.ireturn, 1) := dk_172 (dk_at dksL_law_45 23 rfl rfl)
theorem dL_law_1161 : decode cL_law 1161 = .ok (.goto 226, 3) := dk_167 0 226 (dk_at dksL_law_46 0 rfl rfl)
theorem dL_law_1164 : decode cL_law 1164 = .ok (.aload_n 1, 1) := dk_43 (dk_at dksL_law_46 3 rfl rfl)
theorem dL_law_1165 : decode cL_law 1165 = .ok (.aload_n 0, 1) := dk_42 (dk_at dksL_law_46 4 rfl rfl)
theorem dL_law_1166 : decode cL_law 1166 = .ok (.iload 4, 2) := dk_21 4 (dk_at dksL_law_46 5 rfl rfl)
theorem dL_law_1168 : decode cL_law 1168 = .ok (.iconst 1, 1) := dk_4 (dk_at dksL_law_46 7 rfl rfl)
theorem dL_law_1169 : decode cL_law 1169 = .ok (.iadd, 1) := dk_96 (dk_at dksL_law_46 8 rfl rfl)
theorem dL_law_1170 : decode cL_law 1170 = .ok (.iaload, 1) := dk_46 (dk_at dksL_law_46 9 rfl rfl)
theorem dL_law_1171 : decode cL_law 1171 = .ok (.aload_n 3, 1) := dk_45 (dk_at dksL_law_46 10 rfl rfl)
theorem dL_law_1172 : decode cL_law 1172 = .ok (.invokestatic 144, 3) := dk_184 0 144 (dk_at dksL_law_46 11 rfl rfl)
theorem dL_law_1175 : decode cL_law 1175 = .ok (.istore 5, 2) := dk_54 5 (dk_at dksL_law_46 14 rfl rfl)
theorem dL_law_1177 : decode cL_law 1177 = .ok (.aload_n 2, 1) := dk_44 (dk_at dksL_law_46 16 rfl rfl)
theorem dL_law_1178 : decode cL_law 1178 = .ok (.aload_n 0, 1) := dk_42 (dk_at dksL_law_46 17 rfl rfl)
theorem dL_law_1179 : decode cL_law 1179 = .ok (.iload 4, 2) := dk_21 4 (dk_at dksL_law_46 18 rfl rfl)
theorem dL_law_1181 : decode cL_law 1181 = .ok (.iconst 1, 1) := dk_4 (dk_at dksL_law_46 20 rfl rfl)
theorem dL_law_1182 : decode cL_law 1182 = .ok (.iadd, 1) := dk_96 (dk_at dksL_law_46 21 rfl rfl)
theorem dL_law_1183 : decode cL_law 1183 = .ok (.iaload, 1) := dk_46 (dk_at dksL_law_46 22 rfl rfl)
theorem dL_law_1184 : decode cL_law 1184 = .ok (.invokevirtual 146, 3) := dk_182 0 146 (dk_at dksL_law_47 0 rfl rfl)
theorem dL_law_1187 : decode cL_law 1187 = .ok (.istore 6, 2) := dk_54 6 (dk_at dksL_law_47 3 rfl rfl)
theorem dL_law_1189 : decode cL_law 1189 = .ok (.aload_n 2, 1) := dk_44 (dk_at dksL_law_47 5 rfl rfl)
theorem dL_law_1190 : decode cL_law 1190 = .ok (.invokevirtual 81, 3) := dk_182 0 81 (dk_at dksL_law_47 6 rfl rfl)
theorem dL_law_1193 : decode cL_law 1193 = .ok (.iload 5, 2) := dk_21 5 (dk_at dksL_law_47 9 rfl rfl)
theorem dL_law_1195 : decode cL_law 1195 = .ok (.if_icmp .eq 5, 3) := dk_159 0 5 (dk_at dksL_law_47 11 rfl rfl)
theorem dL_law_1198 : decode cL_law 1198 = .ok (.iconst 0, 1) := dk_3 (dk_at dksL_law_47 14 rfl rfl)
theorem dL_law_1199 : decode cL_law 1199 = .ok (.ireturn, 1) := dk_172 (dk_at dksL_law_47 15 rfl rfl)
theorem dL_law_1200 : decode cL_law 1200 = .ok (.iload 5, 2) := dk_21 5 (dk_at dksL_law_47 16 rfl rfl)
theorem dL_law_1202 : decode cL_law 1202 = .ok (.ifCond .ne 15, 3) := dk_154 0 15 (dk_at dksL_law_47 18 rfl rfl)
theorem dL_law_1205 : decode cL_law 1205 = .ok (.aload_n 3, 1) := dk_45 (dk_at dksL_law_47 21 rfl rfl)
theorem dL_law_1206 : decode cL_law 1206 = .ok (.iconst 0, 1) := dk_3 (dk_at dksL_law_47 22 rfl rfl)
theorem dL_law_1207 : decode cL_law 1207 = .ok (.laload, 1) := dk_47 (dk_at dksL_law_47 23 rfl rfl)
theorem dL_law_1208 : decode cL_law 1208 = .ok (.iload 6, 2) := dk_21 6 (dk_at dksL_law_48 0 rfl rfl)
theorem dL_law_1210 : decode cL_law 1210 = .ok (.i2l, 1) := dk_133 (dk_at dksL_law_48 2 rfl rfl)
theorem dL_law_1211 : decode cL_law 1211 = .ok (.lcmp, 1) := dk_148 (dk_at dksL_law_48 3 rfl rfl)
theorem dL_law_1212 : decode cL_law 1212 = .ok (.ifCond .eq 5, 3) := dk_153 0 5 (dk_at dksL_law_48 4 rfl rfl)
theorem dL_law_1215 : decode cL_law 1215 = .ok (.iconst 0, 1) := dk_3 (dk_at dksL_law_48 7 rfl rfl)
theorem dL_law_1216 : decode cL_law 1216 = .ok (.ireturn, 1) := dk_172 (dk_at dksL_law_48 8 rfl rfl)
theorem dL_law_1217 : decode cL_law 1217 = .ok (.goto 170, 3) := dk_167 0 170 (dk_at dksL_law_48 9 rfl rfl)
theorem dL_law_1220 : decode cL_law 1220 = .ok (.aload_n 1, 1) := dk_43 (dk_at dksL_law_48 12 rfl rfl)
theorem dL_law_1221 : decode cL_law 1221 = .ok (.aload_n 0, 1) := dk_42 (dk_at dksL_law_48 13 rfl rfl)
theorem dL_law_1222 : decode cL_law 1222 = .ok (.iload 4, 2) := dk_21 4 (dk_at dksL_law_48 14 rfl rfl)
theorem dL_law_1224 : decode cL_law 1224 = .ok (.iconst 1, 1) := dk_4 (dk_at dksL_law_48 16 rfl rfl)
theorem dL_law_1225 : decode cL_law 1225 = .ok (.iadd, 1) := dk_96 (dk_at dksL_law_48 17 rfl rfl)
theorem dL_law_1226 : decode cL_law 1226 = .ok (.iaload, 1) := dk_46 (dk_at dksL_law_48 18 rfl rfl)
theorem dL_law_1227 : decode cL_law 1227 = .ok (.aload_n 3, 1) := dk_45 (dk_at dksL_law_48 19 rfl rfl)
theorem dL_law_1228 : decode cL_law 1228 = .ok (.invokestatic 147, 3) := dk_184 0 147 (dk_at dksL_law_48 20 rfl rfl)
theorem dL_law_1231 : decode cL_law 1231 = .ok (.istore 5, 2) := dk_54 5 (dk_at dksL_law_49 0 rfl rfl)
theorem dL_law_1233 : decode cL_law 1233 = .ok (.aload_n 2, 1) := dk_44 (dk_at dksL_law_49 2 rfl rfl)
theorem dL_law_1234 : decode cL_law 1234 = .ok (.aload_n 0, 1) := dk_42 (dk_at dksL_law_49 3 rfl rfl)
theorem dL_law_1235 : decode cL_law 1235 = .ok (.iload 4, 2) := dk_21 4 (dk_at dksL_law_49 4 rfl rfl)
theorem dL_law_1237 : decode cL_law 1237 = .ok (.iconst 1, 1) := dk_4 (dk_at dksL_law_49 6 rfl rfl)
theorem dL_law_1238 : decode cL_law 1238 = .ok (.iadd, 1) := dk_96 (dk_at dksL_law_49 7 rfl rfl)
theorem dL_law_1239 : decode cL_law 1239 = .ok (.iaload, 1) := dk_46 (dk_at dksL_law_49 8 rfl rfl)
theorem dL_law_1240 : decode cL_law 1240 = .ok (.invokevirtual 149, 3) := dk_182 0 149 (dk_at dksL_law_49 9 rfl rfl)
theorem dL_law_1243 : decode cL_law 1243 = .ok (.istore 6, 2) := dk_54 6 (dk_at dksL_law_49 12 rfl rfl)
theorem dL_law_1245 : decode cL_law 1245 = .ok (.aload_n 2, 1) := dk_44 (dk_at dksL_law_49 14 rfl rfl)
theorem dL_law_1246 : decode cL_law 1246 = .ok (.invokevirtual 81, 3) := dk_182 0 81 (dk_at dksL_law_49 15 rfl rfl)
theorem dL_law_1249 : decode cL_law 1249 = .ok (.iload 5, 2) := dk_21 5 (dk_at dksL_law_49 18 rfl rfl)
theorem dL_law_1251 : decode cL_law 1251 = .ok (.if_icmp .eq 5, 3) := dk_159 0 5 (dk_at dksL_law_49 20 rfl rfl)
theorem dL_law_1254 : decode cL_law 1254 = .ok (.iconst 0, 1) := dk_3 (dk_at dksL_law_49 23 rfl rfl)
theorem dL_law_1255 : decode cL_law 1255 = .ok (.ireturn, 1) := dk_172 (dk_at dksL_law_50 0 rfl rfl)
theorem dL_law_1256 : decode cL_law 1256 = .ok (.iload 5, 2) := dk_21 5 (dk_at dksL_law_50 1 rfl rfl)
theorem dL_law_1258 : decode cL_law 1258 = .ok (.ifCond .ne 15, 3) := dk_154 0 15 (dk_at dksL_law_50 3 rfl rfl)
theorem dL_law_1261 : decode cL_law 1261 = .ok (.aload_n 3, 1) := dk_45 (dk_at dksL_law_50 6 rfl rfl)
theorem dL_law_1262 : decode cL_law 1262 = .ok (.iconst 0, 1) := dk_3 (dk_at dksL_law_50 7 rfl rfl)
theorem dL_law_1263 : decode cL_law 1263 = .ok (.laload, 1) := dk_47 (dk_at dksL_law_50 8 rfl rfl)
theorem dL_law_1264 : decode cL_law 1264 = .ok (.iload 6, 2) := dk_21 6 (dk_at dksL_law_50 9 rfl rfl)
theorem dL_law_1266 : decode cL_law 1266 = .ok (.i2l, 1) := dk_133 (dk_at dksL_law_50 11 rfl rfl)
theorem dL_law_1267 : decode cL_law 1267 = .ok (.lcmp, 1) := dk_148 (dk_at dksL_law_50 12 rfl rfl)
theorem dL_law_1268 : decode cL_law 1268 = .ok (.ifCond .eq 5, 3) := dk_153 0 5 (dk_at dksL_law_50 13 rfl rfl)
theorem dL_law_1271 : decode cL_law 1271 = .ok (.iconst 0, 1) := dk_3 (dk_at dksL_law_50 16 rfl rfl)
theorem dL_law_1272 : decode cL_law 1272 = .ok (.ireturn, 1) := dk_172 (dk_at dksL_law_50 17 rfl rfl)
theorem dL_law_1273 : decode cL_law 1273 = .ok (.goto 114, 3) := dk_167 0 114 (dk_at dksL_law_50 18 rfl rfl)
theorem dL_law_1276 : decode cL_law 1276 = .ok (.aload_n 1, 1) := dk_43 (dk_at dksL_law_50 21 rfl rfl)
theorem dL_law_1277 : decode cL_law 1277 = .ok (.aload_n 0, 1) := dk_42 (dk_at dksL_law_50 22 rfl rfl)
theorem dL_law_1278 : decode cL_law 1278 = .ok (.iload 4, 2) := dk_21 4 (dk_at dksL_law_51 0 rfl rfl)
theorem dL_law_1280 : decode cL_law 1280 = .ok (.iconst 1, 1) := dk_4 (dk_at dksL_law_51 2 rfl rfl)
theorem dL_law_1281 : decode cL_law 1281 = .ok (.iadd, 1) := dk_96 (dk_at dksL_law_51 3 rfl rfl)
theorem dL_law_1282 : decode cL_law 1282 = .ok (.iaload, 1) := dk_46 (dk_at dksL_law_51 4 rfl rfl)
theorem dL_law_1283 : decode cL_law 1283 = .ok (.aload_n 3, 1) := dk_45 (dk_at dksL_law_51 5 rfl rfl)
theorem dL_law_1284 : decode cL_law 1284 = .ok (.invokestatic 150, 3) := dk_184 0 150 (dk_at dksL_law_51 6 rfl rfl)
theorem dL_law_1287 : decode cL_law 1287 = .ok (.istore 5, 2) := dk_54 5 (dk_at dksL_law_51 9 rfl rfl)
theorem dL_law_1289 : decode cL_law 1289 = .ok (.aload_n 2, 1) := dk_44 (dk_at dksL_law_51 11 rfl rfl)
theorem dL_law_1290 : decode cL_law 1290 = .ok (.aload_n 0, 1) := dk_42 (dk_at dksL_law_51 12 rfl rfl)
theorem dL_law_1291 : decode cL_law 1291 = .ok (.iload 4, 2) := dk_21 4 (dk_at dksL_law_51 13 rfl rfl)
theorem dL_law_1293 : decode cL_law 1293 = .ok (.iconst 1, 1) := dk_4 (dk_at dksL_law_51 15 rfl rfl)
theorem dL_law_1294 : decode cL_law 1294 = .ok (.iadd, 1) := dk_96 (dk_at dksL_law_51 16 rfl rfl)
theorem dL_law_1295 : decode cL_law 1295 = .ok (.iaload, 1) := dk_46 (dk_at dksL_law_51 17 rfl rfl)
theorem dL_law_1296 : decode cL_law 1296 = .ok (.invokevirtual 152, 3) := dk_182 0 152 (dk_at dksL_law_51 18 rfl rfl)
theorem dL_law_1299 : decode cL_law 1299 = .ok (.istore 6, 2) := dk_54 6 (dk_at dksL_law_51 21 rfl rfl)
theorem dL_law_1301 : decode cL_law 1301 = .ok (.aload_n 2, 1) := dk_44 (dk_at dksL_law_51 23 rfl rfl)
theorem dL_law_1302 : decode cL_law 1302 = .ok (.invokevirtual 81, 3) := dk_182 0 81 (dk_at dksL_law_52 0 rfl rfl)
theorem dL_law_1305 : decode cL_law 1305 = .ok (.iload 5, 2) := dk_21 5 (dk_at dksL_law_52 3 rfl rfl)
theorem dL_law_1307 : decode cL_law 1307 = .ok (.if_icmp .eq 5, 3) := dk_159 0 5 (dk_at dksL_law_52 5 rfl rfl)
theorem dL_law_1310 : decode cL_law 1310 = .ok (.iconst 0, 1) := dk_3 (dk_at dksL_law_52 8 rfl rfl)
theorem dL_law_1311 : decode cL_law 1311 = .ok (.ireturn, 1) := dk_172 (dk_at dksL_law_52 9 rfl rfl)
theorem dL_law_1312 : decode cL_law 1312 = .ok (.iload 5, 2) := dk_21 5 (dk_at dksL_law_52 10 rfl rfl)
theorem dL_law_1314 : decode cL_law 1314 = .ok (.ifCond .ne 15, 3) := dk_154 0 15 (dk_at dksL_law_52 12 rfl rfl)
theorem dL_law_1317 : decode cL_law 1317 = .ok (.aload_n 3, 1) := dk_45 (dk_at dksL_law_52 15 rfl rfl)
theorem dL_law_1318 : decode cL_law 1318 = .ok (.iconst 0, 1) := dk_3 (dk_at dksL_law_52 16 rfl rfl)
theorem dL_law_1319 : decode cL_law 1319 = .ok (.laload, 1) := dk_47 (dk_at dksL_law_52 17 rfl rfl)
theorem dL_law_1320 : decode cL_law 1320 = .ok (.iload 6, 2) := dk_21 6 (dk_at dksL_law_52 18 rfl rfl)
theorem dL_law_1322 : decode cL_law 1322 = .ok (.i2l, 1) := dk_133 (dk_at dksL_law_52 20 rfl rfl)
theorem dL_law_1323 : decode cL_law 1323 = .ok (.lcmp, 1) := dk_148 (dk_at dksL_law_52 21 rfl rfl)
theorem dL_law_1324 : decode cL_law 1324 = .ok (.ifCond .eq 5, 3) := dk_153 0 5 (dk_at dksL_law_53 0 rfl rfl)
theorem dL_law_1327 : decode cL_law 1327 = .ok (.iconst 0, 1) := dk_3 (dk_at dksL_law_53 3 rfl rfl)
theorem dL_law_1328 : decode cL_law 1328 = .ok (.ireturn, 1) := dk_172 (dk_at dksL_law_53 4 rfl rfl)
theorem dL_law_1329 : decode cL_law 1329 = .ok (.goto 58, 3) := dk_167 0 58 (dk_at dksL_law_53 5 rfl rfl)
theorem dL_law_1332 : decode cL_law 1332 = .ok (.aload_n 1, 1) := dk_43 (dk_at dksL_law_53 8 rfl rfl)
theorem dL_law_1333 : decode cL_law 1333 = .ok (.invokevirtual 153, 3) := dk_182 0 153 (dk_at dksL_law_53 9 rfl rfl)
theorem dL_law_1336 : decode cL_law 1336 = .ok (.dstore 5, 2) := dk_57 5 (dk_at dksL_law_53 12 rfl rfl)
theorem dL_law_1338 : decode cL_law 1338 = .ok (.aload_n 2, 1) := dk_44 (dk_at dksL_law_53 14 rfl rfl)
theorem dL_law_1339 : decode cL_law 1339 = .ok (.invokevirtual 157, 3) := dk_182 0 157 (dk_at dksL_law_53 15 rfl rfl)
theorem dL_law_1342 : decode cL_law 1342 = .ok (.dstore 7, 2) := dk_57 7 (dk_at dksL_law_53 18 rfl rfl)
theorem dL_law_1344 : decode cL_law 1344 = .ok (.dload 5, 2) := dk_24 5 (dk_at dksL_law_53 20 rfl rfl)
theorem dL_law_1346 : decode cL_law 1346 = .ok (.dload 7, 2) := dk_24 7 (dk_at dksL_law_53 22 rfl rfl)
theorem dL_law_1348 : decode cL_law 1348 = .ok (.dcmp .l, 1) := dk_151 (dk_at dksL_law_54 0 rfl rfl)
theorem dL_law_1349 : decode cL_law 1349 = .ok (.ifCond .eq 21, 3) := dk_153 0 21 (dk_at dksL_law_54 1 rfl rfl)
theorem dL_law_1352 : decode cL_law 1352 = .ok (.dload 5, 2) := dk_24 5 (dk_at dksL_law_54 4 rfl rfl)
theorem dL_law_1354 : decode cL_law 1354 = .ok (.dload 5, 2) := dk_24 5 (dk_at dksL_law_54 6 rfl rfl)
theorem dL_law_1356 : decode cL_law 1356 = .ok (.dcmp .l, 1) := dk_151 (dk_at dksL_law_54 8 rfl rfl)
theorem dL_law_1357 : decode cL_law 1357 = .ok (.ifCond .eq 11, 3) := dk_153 0 11 (dk_at dksL_law_54 9 rfl rfl)
theorem dL_law_1360 : decode cL_law 1360 = .ok (.dload 7, 2) := dk_24 7 (dk_at dksL_law_54 12 rfl rfl)
theorem dL_law_1362 : decode cL_law 1362 = .ok (.dload 7, 2) := dk_24 7 (dk_at dksL_law_54 14 rfl rfl)
theorem dL_law_1364 : decode cL_law 1364 = .ok (.dcmp .l, 1) := dk_151 (dk_at dksL_law_54 16 rfl rfl)
theorem dL_law_1365 : decode cL_law 1365 = .ok (.ifCond .ne 5, 3) := dk_154 0 5 (dk_at dksL_law_54 17 rfl rfl)
theorem dL_law_1368 : decode cL_law 1368 = .ok (.iconst 0, 1) := dk_3 (dk_at dksL_law_54 20 rfl rfl)
theorem dL_law_1369 : decode cL_law 1369 = .ok (.ireturn, 1) := dk_172 (dk_at dksL_law_54 21 rfl rfl)
theorem dL_law_1370 : decode cL_law 1370 = .ok (.goto 17, 3) := dk_167 0 17 (dk_at dksL_law_55 0 rfl rfl)
theorem dL_law_1373 : decode cL_law 1373 = .ok (.aload_n 1, 1) := dk_43 (dk_at dksL_law_55 3 rfl rfl)
theorem dL_law_1374 : decode cL_law 1374 = .ok (.invokevirtual 158, 3) := dk_182 0 158 (dk_at dksL_law_55 4 rfl rfl)
theorem dL_law_1377 : decode cL_law 1377 = .ok (.aload_n 2, 1) := dk_44 (dk_at dksL_law_55 7 rfl rfl)
theorem dL_law_1378 : decode cL_law 1378 = .ok (.invokevirtual 162, 3) := dk_182 0 162 (dk_at dksL_law_55 8 rfl rfl)
theorem dL_law_1381 : decode cL_law 1381 = .ok (.lcmp, 1) := dk_148 (dk_at dksL_law_55 11 rfl rfl)
theorem dL_law_1382 : decode cL_law 1382 = .ok (.ifCond .eq 5, 3) := dk_153 0 5 (dk_at dksL_law_55 12 rfl rfl)
theorem dL_law_1385 : decode cL_law 1385 = .ok (.iconst 0, 1) := dk_3 (dk_at dksL_law_55 15 rfl rfl)
theorem dL_law_1386 : decode cL_law 1386 = .ok (.ireturn, 1) := dk_172 (dk_at dksL_law_55 16 rfl rfl)
theorem dL_law_1387 : decode cL_law 1387 = .ok (.iinc 4 6, 3) := dk_132 4 6 (dk_at dksL_law_55 17 rfl rfl)
theorem dL_law_1390 : decode cL_law 1390 = .ok (.goto (-1367), 3) := dk_167 250 169 (dk_at dksL_law_55 20 rfl rfl)
theorem dL_law_1393 : decode cL_law 1393 = .ok (.iconst 1, 1) := dk_4 (dk_at dksL_law_55 23 rfl rfl)
theorem dL_law_1394 : decode cL_law 1394 = .ok (.ireturn, 1) := dk_172 (dk_at dksL_law_56 0 rfl rfl)

