/-! PhrasehallLaw -/
set_option maxRecDepth 100000
def RX0 : String := "PhrasehallLaw"
abbrev cX0_fencer : ByteArray := method_3_code
def yX0_fencer : MethodName := ⟨RX0, "fencer", "(LPhrasehall;[J)I"⟩
def dkwX0_fencer_0 : List UInt8 := [43, 3, 42, 182, 0, 7, 133, 80, 167, 0, 6, 77, 4, 172, 3, 172]
abbrev dktX0_fencer_0 : List UInt8 := dkwX0_fencer_0 ++ []
theorem dksX0_fencer_0 : cX0_fencer.data.toList.drop 0 = dktX0_fencer_0 := by decide +kernel
theorem dX0_fencer_0 : decode cX0_fencer 0 = .ok (.aload_n 1, 1) := dk_43 (dk_at dksX0_fencer_0 0 rfl rfl)
theorem dX0_fencer_1 : decode cX0_fencer 1 = .ok (.iconst 0, 1) := dk_3 (dk_at dksX0_fencer_0 1 rfl rfl)
theorem dX0_fencer_2 : decode cX0_fencer 2 = .ok (.aload_n 0, 1) := dk_42 (dk_at dksX0_fencer_0 2 rfl rfl)
theorem dX0_fencer_3 : decode cX0_fencer 3 = .ok (.invokevirtual 7, 3) := dk_182 0 7 (dk_at dksX0_fencer_0 3 rfl rfl)
theorem dX0_fencer_6 : decode cX0_fencer 6 = .ok (.i2l, 1) := dk_133 (dk_at dksX0_fencer_0 6 rfl rfl)
theorem dX0_fencer_7 : decode cX0_fencer 7 = .ok (.lastore, 1) := dk_80 (dk_at dksX0_fencer_0 7 rfl rfl)
theorem dX0_fencer_8 : decode cX0_fencer 8 = .ok (.goto 6, 3) := dk_167 0 6 (dk_at dksX0_fencer_0 8 rfl rfl)
theorem dX0_fencer_11 : decode cX0_fencer 11 = .ok (.astore_n 2, 1) := dk_77 (dk_at dksX0_fencer_0 11 rfl rfl)
theorem dX0_fencer_12 : decode cX0_fencer 12 = .ok (.iconst 1, 1) := dk_4 (dk_at dksX0_fencer_0 12 rfl rfl)
theorem dX0_fencer_13 : decode cX0_fencer 13 = .ok (.ireturn, 1) := dk_172 (dk_at dksX0_fencer_0 13 rfl rfl)
theorem dX0_fencer_14 : decode cX0_fencer 14 = .ok (.iconst 0, 1) := dk_3 (dk_at dksX0_fencer_0 14 rfl rfl)
theorem dX0_fencer_15 : decode cX0_fencer 15 = .ok (.ireturn, 1) := dk_172 (dk_at dksX0_fencer_0 15 rfl rfl)
abbrev cX0_begin : ByteArray := method_4_code
def yX0_begin : MethodName := ⟨RX0, "begin", "(LPhrasehall;IIIII[J)I"⟩
def dkwX0_begin_1 : List UInt8 := [58, 7, 5, 172, 58, 7, 6, 172, 3, 172]
abbrev dktX0_begin_1 : List UInt8 := dkwX0_begin_1 ++ []
def dkwX0_begin_0 : List UInt8 := [25, 6, 3, 42, 27, 28, 29, 21, 4, 21, 5, 182, 0, 15, 133, 80, 167, 0, 15, 58, 7, 4, 172]
abbrev dktX0_begin_0 : List UInt8 := dkwX0_begin_0 ++ dktX0_begin_1
theorem dksX0_begin_0 : cX0_begin.data.toList.drop 0 = dktX0_begin_0 := by decide +kernel
theorem dksX0_begin_1 : cX0_begin.data.toList.drop 23 = dktX0_begin_1 := dk_seg dksX0_begin_0 23 rfl rfl
theorem dX0_begin_0 : decode cX0_begin 0 = .ok (.aload 6, 2) := dk_25 6 (dk_at dksX0_begin_0 0 rfl rfl)
theorem dX0_begin_2 : decode cX0_begin 2 = .ok (.iconst 0, 1) := dk_3 (dk_at dksX0_begin_0 2 rfl rfl)
theorem dX0_begin_3 : decode cX0_begin 3 = .ok (.aload_n 0, 1) := dk_42 (dk_at dksX0_begin_0 3 rfl rfl)
theorem dX0_begin_4 : decode cX0_begin 4 = .ok (.iload_n 1, 1) := dk_27 (dk_at dksX0_begin_0 4 rfl rfl)
theorem dX0_begin_5 : decode cX0_begin 5 = .ok (.iload_n 2, 1) := dk_28 (dk_at dksX0_begin_0 5 rfl rfl)
theorem dX0_begin_6 : decode cX0_begin 6 = .ok (.iload_n 3, 1) := dk_29 (dk_at dksX0_begin_0 6 rfl rfl)
theorem dX0_begin_7 : decode cX0_begin 7 = .ok (.iload 4, 2) := dk_21 4 (dk_at dksX0_begin_0 7 rfl rfl)
theorem dX0_begin_9 : decode cX0_begin 9 = .ok (.iload 5, 2) := dk_21 5 (dk_at dksX0_begin_0 9 rfl rfl)
theorem dX0_begin_11 : decode cX0_begin 11 = .ok (.invokevirtual 15, 3) := dk_182 0 15 (dk_at dksX0_begin_0 11 rfl rfl)
theorem dX0_begin_14 : decode cX0_begin 14 = .ok (.i2l, 1) := dk_133 (dk_at dksX0_begin_0 14 rfl rfl)
theorem dX0_begin_15 : decode cX0_begin 15 = .ok (.lastore, 1) := dk_80 (dk_at dksX0_begin_0 15 rfl rfl)
theorem dX0_begin_16 : decode cX0_begin 16 = .ok (.goto 15, 3) := dk_167 0 15 (dk_at dksX0_begin_0 16 rfl rfl)
theorem dX0_begin_19 : decode cX0_begin 19 = .ok (.astore 7, 2) := dk_58 7 (dk_at dksX0_begin_0 19 rfl rfl)
theorem dX0_begin_21 : decode cX0_begin 21 = .ok (.iconst 1, 1) := dk_4 (dk_at dksX0_begin_0 21 rfl rfl)
theorem dX0_begin_22 : decode cX0_begin 22 = .ok (.ireturn, 1) := dk_172 (dk_at dksX0_begin_0 22 rfl rfl)
theorem dX0_begin_23 : decode cX0_begin 23 = .ok (.astore 7, 2) := dk_58 7 (dk_at dksX0_begin_1 0 rfl rfl)
theorem dX0_begin_25 : decode cX0_begin 25 = .ok (.iconst 2, 1) := dk_5 (dk_at dksX0_begin_1 2 rfl rfl)
theorem dX0_begin_26 : decode cX0_begin 26 = .ok (.ireturn, 1) := dk_172 (dk_at dksX0_begin_1 3 rfl rfl)
theorem dX0_begin_27 : decode cX0_begin 27 = .ok (.astore 7, 2) := dk_58 7 (dk_at dksX0_begin_1 4 rfl rfl)
theorem dX0_begin_29 : decode cX0_begin 29 = .ok (.iconst 3, 1) := dk_6 (dk_at dksX0_begin_1 6 rfl rfl)
theorem dX0_begin_30 : decode cX0_begin 30 = .ok (.ireturn, 1) := dk_172 (dk_at dksX0_begin_1 7 rfl rfl)
theorem dX0_begin_31 : decode cX0_begin 31 = .ok (.iconst 0, 1) := dk_3 (dk_at dksX0_begin_1 8 rfl rfl)
theorem dX0_begin_32 : decode cX0_begin 32 = .ok (.ireturn, 1) := dk_172 (dk_at dksX0_begin_1 9 rfl rfl)
abbrev cX0_act : ByteArray := method_5_code
def yX0_act : MethodName := ⟨RX0, "act", "(LPhrasehall;III[J)I"⟩
def dkwX0_act_1 : List UInt8 := [172]
abbrev dktX0_act_1 : List UInt8 := dkwX0_act_1 ++ []
def dkwX0_act_0 : List UInt8 := [25, 4, 3, 42, 27, 28, 29, 182, 0, 23, 133, 80, 167, 0, 11, 58, 5, 4, 172, 58, 5, 5, 172, 3]
abbrev dktX0_act_0 : List UInt8 := dkwX0_act_0 ++ dktX0_act_1
theorem dksX0_act_0 : cX0_act.data.toList.drop 0 = dktX0_act_0 := by decide +kernel
theorem dksX0_act_1 : cX0_act.data.toList.drop 24 = dktX0_act_1 := dk_seg dksX0_act_0 24 rfl rfl
theorem dX0_act_0 : decode cX0_act 0 = .ok (.aload 4, 2) := dk_25 4 (dk_at dksX0_act_0 0 rfl rfl)
theorem dX0_act_2 : decode cX0_act 2 = .ok (.iconst 0, 1) := dk_3 (dk_at dksX0_act_0 2 rfl rfl)
theorem dX0_act_3 : decode cX0_act 3 = .ok (.aload_n 0, 1) := dk_42 (dk_at dksX0_act_0 3 rfl rfl)
theorem dX0_act_4 : decode cX0_act 4 = .ok (.iload_n 1, 1) := dk_27 (dk_at dksX0_act_0 4 rfl rfl)
theorem dX0_act_5 : decode cX0_act 5 = .ok (.iload_n 2, 1) := dk_28 (dk_at dksX0_act_0 5 rfl rfl)
theorem dX0_act_6 : decode cX0_act 6 = .ok (.iload_n 3, 1) := dk_29 (dk_at dksX0_act_0 6 rfl rfl)
theorem dX0_act_7 : decode cX0_act 7 = .ok (.invokevirtual 23, 3) := dk_182 0 23 (dk_at dksX0_act_0 7 rfl rfl)
theorem dX0_act_10 : decode cX0_act 10 = .ok (.i2l, 1) := dk_133 (dk_at dksX0_act_0 10 rfl rfl)
theorem dX0_act_11 : decode cX0_act 11 = .ok (.lastore, 1) := dk_80 (dk_at dksX0_act_0 11 rfl rfl)
theorem dX0_act_12 : decode cX0_act 12 = .ok (.goto 11, 3) := dk_167 0 11 (dk_at dksX0_act_0 12 rfl rfl)
theorem dX0_act_15 : decode cX0_act 15 = .ok (.astore 5, 2) := dk_58 5 (dk_at dksX0_act_0 15 rfl rfl)
theorem dX0_act_17 : decode cX0_act 17 = .ok (.iconst 1, 1) := dk_4 (dk_at dksX0_act_0 17 rfl rfl)
theorem dX0_act_18 : decode cX0_act 18 = .ok (.ireturn, 1) := dk_172 (dk_at dksX0_act_0 18 rfl rfl)
theorem dX0_act_19 : decode cX0_act 19 = .ok (.astore 5, 2) := dk_58 5 (dk_at dksX0_act_0 19 rfl rfl)
theorem dX0_act_21 : decode cX0_act 21 = .ok (.iconst 2, 1) := dk_5 (dk_at dksX0_act_0 21 rfl rfl)
theorem dX0_act_22 : decode cX0_act 22 = .ok (.ireturn, 1) := dk_172 (dk_at dksX0_act_0 22 rfl rfl)
theorem dX0_act_23 : decode cX0_act 23 = .ok (.iconst 0, 1) := dk_3 (dk_at dksX0_act_0 23 rfl rfl)
theorem dX0_act_24 : decode cX0_act 24 = .ok (.ireturn, 1) := dk_172 (dk_at dksX0_act_1 0 rfl rfl)
abbrev cX0_hit : ByteArray := method_6_code
def yX0_hit : MethodName := ⟨RX0, "hit", "(LPhrasehall;IIII[J)I"⟩
def dkwX0_hit_1 : List UInt8 := [172, 3, 172]
abbrev dktX0_hit_1 : List UInt8 := dkwX0_hit_1 ++ []
def dkwX0_hit_0 : List UInt8 := [25, 5, 3, 42, 27, 28, 29, 21, 4, 182, 0, 27, 133, 80, 167, 0, 11, 58, 6, 4, 172, 58, 6, 5]
abbrev dktX0_hit_0 : List UInt8 := dkwX0_hit_0 ++ dktX0_hit_1
theorem dksX0_hit_0 : cX0_hit.data.toList.drop 0 = dktX0_hit_0 := by decide +kernel
theorem dksX0_hit_1 : cX0_hit.data.toList.drop 24 = dktX0_hit_1 := dk_seg dksX0_hit_0 24 rfl rfl
theorem dX0_hit_0 : decode cX0_hit 0 = .ok (.aload 5, 2) := dk_25 5 (dk_at dksX0_hit_0 0 rfl rfl)
theorem dX0_hit_2 : decode cX0_hit 2 = .ok (.iconst 0, 1) := dk_3 (dk_at dksX0_hit_0 2 rfl rfl)
theorem dX0_hit_3 : decode cX0_hit 3 = .ok (.aload_n 0, 1) := dk_42 (dk_at dksX0_hit_0 3 rfl rfl)
theorem dX0_hit_4 : decode cX0_hit 4 = .ok (.iload_n 1, 1) := dk_27 (dk_at dksX0_hit_0 4 rfl rfl)
theorem dX0_hit_5 : decode cX0_hit 5 = .ok (.iload_n 2, 1) := dk_28 (dk_at dksX0_hit_0 5 rfl rfl)
theorem dX0_hit_6 : decode cX0_hit 6 = .ok (.iload_n 3, 1) := dk_29 (dk_at dksX0_hit_0 6 rfl rfl)
theorem dX0_hit_7 : decode cX0_hit 7 = .ok (.iload 4, 2) := dk_21 4 (dk_at dksX0_hit_0 7 rfl rfl)
theorem dX0_hit_9 : decode cX0_hit 9 = .ok (.invokevirtual 27, 3) := dk_182 0 27 (dk_at dksX0_hit_0 9 rfl rfl)
theorem dX0_hit_12 : decode cX0_hit 12 = .ok (.i2l, 1) := dk_133 (dk_at dksX0_hit_0 12 rfl rfl)
theorem dX0_hit_13 : decode cX0_hit 13 = .ok (.lastore, 1) := dk_80 (dk_at dksX0_hit_0 13 rfl rfl)
theorem dX0_hit_14 : decode cX0_hit 14 = .ok (.goto 11, 3) := dk_167 0 11 (dk_at dksX0_hit_0 14 rfl rfl)
theorem dX0_hit_17 : decode cX0_hit 17 = .ok (.astore 6, 2) := dk_58 6 (dk_at dksX0_hit_0 17 rfl rfl)
theorem dX0_hit_19 : decode cX0_hit 19 = .ok (.iconst 1, 1) := dk_4 (dk_at dksX0_hit_0 19 rfl rfl)
theorem dX0_hit_20 : decode cX0_hit 20 = .ok (.ireturn, 1) := dk_172 (dk_at dksX0_hit_0 20 rfl rfl)
theorem dX0_hit_21 : decode cX0_hit 21 = .ok (.astore 6, 2) := dk_58 6 (dk_at dksX0_hit_0 21 rfl rfl)
theorem dX0_hit_23 : decode cX0_hit 23 = .ok (.iconst 2, 1) := dk_5 (dk_at dksX0_hit_0 23 rfl rfl)
theorem dX0_hit_24 : decode cX0_hit 24 = .ok (.ireturn, 1) := dk_172 (dk_at dksX0_hit_1 0 rfl rfl)
theorem dX0_hit_25 : decode cX0_hit 25 = .ok (.iconst 0, 1) := dk_3 (dk_at dksX0_hit_1 1 rfl rfl)
theorem dX0_hit_26 : decode cX0_hit 26 = .ok (.ireturn, 1) := dk_172 (dk_at dksX0_hit_1 2 rfl rfl)
abbrev cX0_judge : ByteArray := method_7_code
def yX0_judge : MethodName := ⟨RX0, "judge", "(LPhrasehall;[J)I"⟩
def dkwX0_judge_0 : List UInt8 := [43, 3, 42, 182, 0, 31, 133, 80, 167, 0, 6, 77, 4, 172, 3, 172]
abbrev dktX0_judge_0 : List UInt8 := dkwX0_judge_0 ++ []
theorem dksX0_judge_0 : cX0_judge.data.toList.drop 0 = dktX0_judge_0 := by decide +kernel
theorem dX0_judge_0 : decode cX0_judge 0 = .ok (.aload_n 1, 1) := dk_43 (dk_at dksX0_judge_0 0 rfl rfl)
theorem dX0_judge_1 : decode cX0_judge 1 = .ok (.iconst 0, 1) := dk_3 (dk_at dksX0_judge_0 1 rfl rfl)
theorem dX0_judge_2 : decode cX0_judge 2 = .ok (.aload_n 0, 1) := dk_42 (dk_at dksX0_judge_0 2 rfl rfl)
theorem dX0_judge_3 : decode cX0_judge 3 = .ok (.invokevirtual 31, 3) := dk_182 0 31 (dk_at dksX0_judge_0 3 rfl rfl)
theorem dX0_judge_6 : decode cX0_judge 6 = .ok (.i2l, 1) := dk_133 (dk_at dksX0_judge_0 6 rfl rfl)
theorem dX0_judge_7 : decode cX0_judge 7 = .ok (.lastore, 1) := dk_80 (dk_at dksX0_judge_0 7 rfl rfl)
theorem dX0_judge_8 : decode cX0_judge 8 = .ok (.goto 6, 3) := dk_167 0 6 (dk_at dksX0_judge_0 8 rfl rfl)
theorem dX0_judge_11 : decode cX0_judge 11 = .ok (.astore_n 2, 1) := dk_77 (dk_at dksX0_judge_0 11 rfl rfl)
theorem dX0_judge_12 : decode cX0_judge 12 = .ok (.iconst 1, 1) := dk_4 (dk_at dksX0_judge_0 12 rfl rfl)
theorem dX0_judge_13 : decode cX0_judge 13 = .ok (.ireturn, 1) := dk_172 (dk_at dksX0_judge_0 13 rfl rfl)
theorem dX0_judge_14 : decode cX0_judge 14 = .ok (.iconst 0, 1) := dk_3 (dk_at dksX0_judge_0 14 rfl rfl)
theorem dX0_judge_15 : decode cX0_judge 15 = .ok (.ireturn, 1) := dk_172 (dk_at dksX0_judge_0 15 rfl rfl)
abbrev cX0_card : ByteArray := method_8_code
def yX0_card : MethodName := ⟨RX0, "card", "(LPhrasehall;II[J)I"⟩
def dkwX0_card_0 : List UInt8 := [45, 3, 42, 27, 28, 182, 0, 34, 133, 80, 167, 0, 11, 58, 4, 4, 172, 58, 4, 5, 172, 3, 172]
abbrev dktX0_card_0 : List UInt8 := dkwX0_card_0 ++ []
theorem dksX0_card_0 : cX0_card.data.toList.drop 0 = dktX0_card_0 := by decide +kernel
theorem dX0_card_0 : decode cX0_card 0 = .ok (.aload_n 3, 1) := dk_45 (dk_at dksX0_card_0 0 rfl rfl)
theorem dX0_card_1 : decode cX0_card 1 = .ok (.iconst 0, 1) := dk_3 (dk_at dksX0_card_0 1 rfl rfl)
theorem dX0_card_2 : decode cX0_card 2 = .ok (.aload_n 0, 1) := dk_42 (dk_at dksX0_card_0 2 rfl rfl)
theorem dX0_card_3 : decode cX0_card 3 = .ok (.iload_n 1, 1) := dk_27 (dk_at dksX0_card_0 3 rfl rfl)
theorem dX0_card_4 : decode cX0_card 4 = .ok (.iload_n 2, 1) := dk_28 (dk_at dksX0_card_0 4 rfl rfl)
theorem dX0_card_5 : decode cX0_card 5 = .ok (.invokevirtual 34, 3) := dk_182 0 34 (dk_at dksX0_card_0 5 rfl rfl)
theorem dX0_card_8 : decode cX0_card 8 = .ok (.i2l, 1) := dk_133 (dk_at dksX0_card_0 8 rfl rfl)
theorem dX0_card_9 : decode cX0_card 9 = .ok (.lastore, 1) := dk_80 (dk_at dksX0_card_0 9 rfl rfl)
theorem dX0_card_10 : decode cX0_card 10 = .ok (.goto 11, 3) := dk_167 0 11 (dk_at dksX0_card_0 10 rfl rfl)
theorem dX0_card_13 : decode cX0_card 13 = .ok (.astore 4, 2) := dk_58 4 (dk_at dksX0_card_0 13 rfl rfl)
theorem dX0_card_15 : decode cX0_card 15 = .ok (.iconst 1, 1) := dk_4 (dk_at dksX0_card_0 15 rfl rfl)
theorem dX0_card_16 : decode cX0_card 16 = .ok (.ireturn, 1) := dk_172 (dk_at dksX0_card_0 16 rfl rfl)
theorem dX0_card_17 : decode cX0_card 17 = .ok (.astore 4, 2) := dk_58 4 (dk_at dksX0_card_0 17 rfl rfl)
theorem dX0_card_19 : decode cX0_card 19 = .ok (.iconst 2, 1) := dk_5 (dk_at dksX0_card_0 19 rfl rfl)
theorem dX0_card_20 : decode cX0_card 20 = .ok (.ireturn, 1) := dk_172 (dk_at dksX0_card_0 20 rfl rfl)
theorem dX0_card_21 : decode cX0_card 21 = .ok (.iconst 0, 1) := dk_3 (dk_at dksX0_card_0 21 rfl rfl)
theorem dX0_card_22 : decode cX0_card 22 = .ok (.ireturn, 1) := dk_172 (dk_at dksX0_card_0 22 rfl rfl)
abbrev cX0_clock : ByteArray := method_9_code
def yX0_clock : MethodName := ⟨RX0, "clock", "(LPhrasehall;I[J)I"⟩
def dkwX0_clock_0 : List UInt8 := [44, 3, 42, 27, 182, 0, 38, 133, 80, 167, 0, 9, 78, 4, 172, 78, 5, 172, 3, 172]
abbrev dktX0_clock_0 : List UInt8 := dkwX0_clock_0 ++ []
theorem dksX0_clock_0 : cX0_clock.data.toList.drop 0 = dktX0_clock_0 := by decide +kernel
theorem dX0_clock_0 : decode cX0_clock 0 = .ok (.aload_n 2, 1) := dk_44 (dk_at dksX0_clock_0 0 rfl rfl)
theorem dX0_clock_1 : decode cX0_clock 1 = .ok (.iconst 0, 1) := dk_3 (dk_at dksX0_clock_0 1 rfl rfl)
theorem dX0_clock_2 : decode cX0_clock 2 = .ok (.aload_n 0, 1) := dk_42 (dk_at dksX0_clock_0 2 rfl rfl)
theorem dX0_clock_3 : decode cX0_clock 3 = .ok (.iload_n 1, 1) := dk_27 (dk_at dksX0_clock_0 3 rfl rfl)
theorem dX0_clock_4 : decode cX0_clock 4 = .ok (.invokevirtual 38, 3) := dk_182 0 38 (dk_at dksX0_clock_0 4 rfl rfl)
theorem dX0_clock_7 : decode cX0_clock 7 = .ok (.i2l, 1) := dk_133 (dk_at dksX0_clock_0 7 rfl rfl)
theorem dX0_clock_8 : decode cX0_clock 8 = .ok (.lastore, 1) := dk_80 (dk_at dksX0_clock_0 8 rfl rfl)
theorem dX0_clock_9 : decode cX0_clock 9 = .ok (.goto 9, 3) := dk_167 0 9 (dk_at dksX0_clock_0 9 rfl rfl)
theorem dX0_clock_12 : decode cX0_clock 12 = .ok (.astore_n 3, 1) := dk_78 (dk_at dksX0_clock_0 12 rfl rfl)
theorem dX0_clock_13 : decode cX0_clock 13 = .ok (.iconst 1, 1) := dk_4 (dk_at dksX0_clock_0 13 rfl rfl)
theorem dX0_clock_14 : decode cX0_clock 14 = .ok (.ireturn, 1) := dk_172 (dk_at dksX0_clock_0 14 rfl rfl)
theorem dX0_clock_15 : decode cX0_clock 15 = .ok (.astore_n 3, 1) := dk_78 (dk_at dksX0_clock_0 15 rfl rfl)
theorem dX0_clock_16 : decode cX0_clock 16 = .ok (.iconst 2, 1) := dk_5 (dk_at dksX0_clock_0 16 rfl rfl)
theorem dX0_clock_17 : decode cX0_clock 17 = .ok (.ireturn, 1) := dk_172 (dk_at dksX0_clock_0 17 rfl rfl)
theorem dX0_clock_18 : decode cX0_clock 18 = .ok (.iconst 0, 1) := dk_3 (dk_at dksX0_clock_0 18 rfl rfl)
theorem dX0_clock_19 : decode cX0_clock 19 = .ok (.ireturn, 1) := dk_172 (dk_at dksX0_clock_0 19 rfl rfl)
abbrev cX0_end : ByteArray := method_10_code
def yX0_end : MethodName := ⟨RX0, "end", "(LPhrasehall;[J)I"⟩
def dkwX0_end_0 : List UInt8 := [43, 3, 42, 182, 0, 42, 133, 80, 167, 0, 6, 77, 4, 172, 3, 172]
abbrev dktX0_end_0 : List UInt8 := dkwX0_end_0 ++ []
theorem dksX0_end_0 : cX0_end.data.toList.drop 0 = dktX0_end_0 := by decide +kernel
theorem dX0_end_0 : decode cX0_end 0 = .ok (.aload_n 1, 1) := dk_43 (dk_at dksX0_end_0 0 rfl rfl)
theorem dX0_end_1 : decode cX0_end 1 = .ok (.iconst 0, 1) := dk_3 (dk_at dksX0_end_0 1 rfl rfl)
theorem dX0_end_2 : decode cX0_end 2 = .ok (.aload_n 0, 1) := dk_42 (dk_at dksX0_end_0 2 rfl rfl)
theorem dX0_end_3 : decode cX0_end 3 = .ok (.invokevirtual 42, 3) := dk_182 0 42 (dk_at dksX0_end_0 3 rfl rfl)
theorem dX0_end_6 : decode cX0_end 6 = .ok (.i2l, 1) := dk_133 (dk_at dksX0_end_0 6 rfl rfl)
theorem dX0_end_7 : decode cX0_end 7 = .ok (.lastore, 1) := dk_80 (dk_at dksX0_end_0 7 rfl rfl)
theorem dX0_end_8 : decode cX0_end 8 = .ok (.goto 6, 3) := dk_167 0 6 (dk_at dksX0_end_0 8 rfl rfl)
theorem dX0_end_11 : decode cX0_end 11 = .ok (.astore_n 2, 1) := dk_77 (dk_at dksX0_end_0 11 rfl rfl)
theorem dX0_end_12 : decode cX0_end 12 = .ok (.iconst 1, 1) := dk_4 (dk_at dksX0_end_0 12 rfl rfl)
theorem dX0_end_13 : decode cX0_end 13 = .ok (.ireturn, 1) := dk_172 (dk_at dksX0_end_0 13 rfl rfl)
theorem dX0_end_14 : decode cX0_end 14 = .ok (.iconst 0, 1) := dk_3 (dk_at dksX0_end_0 14 rfl rfl)
theorem dX0_end_15 : decode cX0_end 15 = .ok (.ireturn, 1) := dk_172 (dk_at dksX0_end_0 15 rfl rfl)
abbrev cX0_seed : ByteArray := method_11_code
def yX0_seed : MethodName := ⟨RX0, "seed", "(LPhrasehall;I)I"⟩
def dkwX0_seed_0 : List UInt8 := [42, 27, 182, 0, 45, 167, 0, 6, 77, 4, 172, 3, 172]
abbrev dktX0_seed_0 : List UInt8 := dkwX0_seed_0 ++ []
theorem dksX0_seed_0 : cX0_seed.data.toList.drop 0 = dktX0_seed_0 := by decide +kernel
theorem dX0_seed_0 : decode cX0_seed 0 = .ok (.aload_n 0, 1) := dk_42 (dk_at dksX0_seed_0 0 rfl rfl)
theorem dX0_seed_1 : decode cX0_seed 1 = .ok (.iload_n 1, 1) := dk_27 (dk_at dksX0_seed_0 1 rfl rfl)
theorem dX0_seed_2 : decode cX0_seed 2 = .ok (.invokevirtual 45, 3) := dk_182 0 45 (dk_at dksX0_seed_0 2 rfl rfl)
theorem dX0_seed_5 : decode cX0_seed 5 = .ok (.goto 6, 3) := dk_167 0 6 (dk_at dksX0_seed_0 5 rfl rfl)
theorem dX0_seed_8 : decode cX0_seed 8 = .ok (.astore_n 2, 1) := dk_77 (dk_at dksX0_seed_0 8 rfl rfl)
theorem dX0_seed_9 : decode cX0_seed 9 = .ok (.iconst 1, 1) := dk_4 (dk_at dksX0_seed_0 9 rfl rfl)
theorem dX0_seed_10 : decode cX0_seed 10 = .ok (.ireturn, 1) := dk_172 (dk_at dksX0_seed_0 10 rfl rfl)
theorem dX0_seed_11 : decode cX0_seed 11 = .ok (.iconst 0, 1) := dk_3 (dk_at dksX0_seed_0 11 rfl rfl)
theorem dX0_seed_12 : decode cX0_seed 12 = .ok (.ireturn, 1) := dk_172 (dk_at dksX0_seed_0 12 rfl rfl)
abbrev cX0_pool : ByteArray := method_12_code
def yX0_pool : MethodName := ⟨RX0, "pool", "(LPhrasehall;I[J)I"⟩
def dkwX0_pool_0 : List UInt8 := [44, 3, 42, 27, 182, 0, 49, 133, 80, 167, 0, 9, 78, 4, 172, 78, 5, 172, 3, 172]
abbrev dktX0_pool_0 : List UInt8 := dkwX0_pool_0 ++ []
theorem dksX0_pool_0 : cX0_pool.data.toList.drop 0 = dktX0_pool_0 := by decide +kernel
theorem dX0_pool_0 : decode cX0_pool 0 = .ok (.aload_n 2, 1) := dk_44 (dk_at dksX0_pool_0 0 rfl rfl)
theorem dX0_pool_1 : decode cX0_pool 1 = .ok (.iconst 0, 1) := dk_3 (dk_at dksX0_pool_0 1 rfl rfl)
theorem dX0_pool_2 : decode cX0_pool 2 = .ok (.aload_n 0, 1) := dk_42 (dk_at dksX0_pool_0 2 rfl rfl)
theorem dX0_pool_3 : decode cX0_pool 3 = .ok (.iload_n 1, 1) := dk_27 (dk_at dksX0_pool_0 3 rfl rfl)
theorem dX0_pool_4 : decode cX0_pool 4 = .ok (.invokevirtual 49, 3) := dk_182 0 49 (dk_at dksX0_pool_0 4 rfl rfl)
theorem dX0_pool_7 : decode cX0_pool 7 = .ok (.i2l, 1) := dk_133 (dk_at dksX0_pool_0 7 rfl rfl)
theorem dX0_pool_8 : decode cX0_pool 8 = .ok (.lastore, 1) := dk_80 (dk_at dksX0_pool_0 8 rfl rfl)
theorem dX0_pool_9 : decode cX0_pool 9 = .ok (.goto 9, 3) := dk_167 0 9 (dk_at dksX0_pool_0 9 rfl rfl)
theorem dX0_pool_12 : decode cX0_pool 12 = .ok (.astore_n 3, 1) := dk_78 (dk_at dksX0_pool_0 12 rfl rfl)
theorem dX0_pool_13 : decode cX0_pool 13 = .ok (.iconst 1, 1) := dk_4 (dk_at dksX0_pool_0 13 rfl rfl)
theorem dX0_pool_14 : decode cX0_pool 14 = .ok (.ireturn, 1) := dk_172 (dk_at dksX0_pool_0 14 rfl rfl)
theorem dX0_pool_15 : decode cX0_pool 15 = .ok (.astore_n 3, 1) := dk_78 (dk_at dksX0_pool_0 15 rfl rfl)
theorem dX0_pool_16 : decode cX0_pool 16 = .ok (.iconst 2, 1) := dk_5 (dk_at dksX0_pool_0 16 rfl rfl)
theorem dX0_pool_17 : decode cX0_pool 17 = .ok (.ireturn, 1) := dk_172 (dk_at dksX0_pool_0 17 rfl rfl)
theorem dX0_pool_18 : decode cX0_pool 18 = .ok (.iconst 0, 1) := dk_3 (dk_at dksX0_pool_0 18 rfl rfl)
theorem dX0_pool_19 : decode cX0_pool 19 = .ok (.ireturn, 1) := dk_172 (dk_at dksX0_pool_0 19 rfl rfl)
abbrev cX0_withdraw : ByteArray := method_13_code
def yX0_withdraw : MethodName := ⟨RX0, "withdraw", "(LPhrasehall;II[J)I"⟩
def dkwX0_withdraw_0 : List UInt8 := [45, 3, 42, 27, 28, 182, 0, 52, 133, 80, 167, 0, 11, 58, 4, 4, 172, 58, 4, 5, 172, 3, 172]
abbrev dktX0_withdraw_0 : List UInt8 := dkwX0_withdraw_0 ++ []
theorem dksX0_withdraw_0 : cX0_withdraw.data.toList.drop 0 = dktX0_withdraw_0 := by decide +kernel
theorem dX0_withdraw_0 : decode cX0_withdraw 0 = .ok (.aload_n 3, 1) := dk_45 (dk_at dksX0_withdraw_0 0 rfl rfl)
theorem dX0_withdraw_1 : decode cX0_withdraw 1 = .ok (.iconst 0, 1) := dk_3 (dk_at dksX0_withdraw_0 1 rfl rfl)
theorem dX0_withdraw_2 : decode cX0_withdraw 2 = .ok (.aload_n 0, 1) := dk_42 (dk_at dksX0_withdraw_0 2 rfl rfl)
theorem dX0_withdraw_3 : decode cX0_withdraw 3 = .ok (.iload_n 1, 1) := dk_27 (dk_at dksX0_withdraw_0 3 rfl rfl)
theorem dX0_withdraw_4 : decode cX0_withdraw 4 = .ok (.iload_n 2, 1) := dk_28 (dk_at dksX0_withdraw_0 4 rfl rfl)
theorem dX0_withdraw_5 : decode cX0_withdraw 5 = .ok (.invokevirtual 52, 3) := dk_182 0 52 (dk_at dksX0_withdraw_0 5 rfl rfl)
theorem dX0_withdraw_8 : decode cX0_withdraw 8 = .ok (.i2l, 1) := dk_133 (dk_at dksX0_withdraw_0 8 rfl rfl)
theorem dX0_withdraw_9 : decode cX0_withdraw 9 = .ok (.lastore, 1) := dk_80 (dk_at dksX0_withdraw_0 9 rfl rfl)
theorem dX0_withdraw_10 : decode cX0_withdraw 10 = .ok (.goto 11, 3) := dk_167 0 11 (dk_at dksX0_withdraw_0 10 rfl rfl)
theorem dX0_withdraw_13 : decode cX0_withdraw 13 = .ok (.astore 4, 2) := dk_58 4 (dk_at dksX0_withdraw_0 13 rfl rfl)
theorem dX0_withdraw_15 : decode cX0_withdraw 15 = .ok (.iconst 1, 1) := dk_4 (dk_at dksX0_withdraw_0 15 rfl rfl)
theorem dX0_withdraw_16 : decode cX0_withdraw 16 = .ok (.ireturn, 1) := dk_172 (dk_at dksX0_withdraw_0 16 rfl rfl)
theorem dX0_withdraw_17 : decode cX0_withdraw 17 = .ok (.astore 4, 2) := dk_58 4 (dk_at dksX0_withdraw_0 17 rfl rfl)
theorem dX0_withdraw_19 : decode cX0_withdraw 19 = .ok (.iconst 2, 1) := dk_5 (dk_at dksX0_withdraw_0 19 rfl rfl)
theorem dX0_withdraw_20 : decode cX0_withdraw 20 = .ok (.ireturn, 1) := dk_172 (dk_at dksX0_withdraw_0 20 rfl rfl)
theorem dX0_withdraw_21 : decode cX0_withdraw 21 = .ok (.iconst 0, 1) := dk_3 (dk_at dksX0_withdraw_0 21 rfl rfl)
theorem dX0_withdraw_22 : decode cX0_withdraw 22 = .ok (.ireturn, 1) := dk_172 (dk_at dksX0_withdraw_0 22 rfl rfl)
abbrev cX0_tableau : ByteArray := method_14_code
def yX0_tableau : MethodName := ⟨RX0, "tableau", "(LPhrasehall;I[J)I"⟩
def dkwX0_tableau_0 : List UInt8 := [44, 3, 42, 27, 182, 0, 55, 133, 80, 167, 0, 9, 78, 4, 172, 78, 5, 172, 3, 172]
abbrev dktX0_tableau_0 : List UInt8 := dkwX0_tableau_0 ++ []
theorem dksX0_tableau_0 : cX0_tableau.data.toList.drop 0 = dktX0_tableau_0 := by decide +kernel
theorem dX0_tableau_0 : decode cX0_tableau 0 = .ok (.aload_n 2, 1) := dk_44 (dk_at dksX0_tableau_0 0 rfl rfl)
theorem dX0_tableau_1 : decode cX0_tableau 1 = .ok (.iconst 0, 1) := dk_3 (dk_at dksX0_tableau_0 1 rfl rfl)
theorem dX0_tableau_2 : decode cX0_tableau 2 = .ok (.aload_n 0, 1) := dk_42 (dk_at dksX0_tableau_0 2 rfl rfl)
theorem dX0_tableau_3 : decode cX0_tableau 3 = .ok (.iload_n 1, 1) := dk_27 (dk_at dksX0_tableau_0 3 rfl rfl)
theorem dX0_tableau_4 : decode cX0_tableau 4 = .ok (.invokevirtual 55, 3) := dk_182 0 55 (dk_at dksX0_tableau_0 4 rfl rfl)
theorem dX0_tableau_7 : decode cX0_tableau 7 = .ok (.i2l, 1) := dk_133 (dk_at dksX0_tableau_0 7 rfl rfl)
theorem dX0_tableau_8 : decode cX0_tableau 8 = .ok (.lastore, 1) := dk_80 (dk_at dksX0_tableau_0 8 rfl rfl)
theorem dX0_tableau_9 : decode cX0_tableau 9 = .ok (.goto 9, 3) := dk_167 0 9 (dk_at dksX0_tableau_0 9 rfl rfl)
theorem dX0_tableau_12 : decode cX0_tableau 12 = .ok (.astore_n 3, 1) := dk_78 (dk_at dksX0_tableau_0 12 rfl rfl)
theorem dX0_tableau_13 : decode cX0_tableau 13 = .ok (.iconst 1, 1) := dk_4 (dk_at dksX0_tableau_0 13 rfl rfl)
theorem dX0_tableau_14 : decode cX0_tableau 14 = .ok (.ireturn, 1) := dk_172 (dk_at dksX0_tableau_0 14 rfl rfl)
theorem dX0_tableau_15 : decode cX0_tableau 15 = .ok (.astore_n 3, 1) := dk_78 (dk_at dksX0_tableau_0 15 rfl rfl)
theorem dX0_tableau_16 : decode cX0_tableau 16 = .ok (.iconst 2, 1) := dk_5 (dk_at dksX0_tableau_0 16 rfl rfl)
theorem dX0_tableau_17 : decode cX0_tableau 17 = .ok (.ireturn, 1) := dk_172 (dk_at dksX0_tableau_0 17 rfl rfl)
theorem dX0_tableau_18 : decode cX0_tableau 18 = .ok (.iconst 0, 1) := dk_3 (dk_at dksX0_tableau_0 18 rfl rfl)
theorem dX0_tableau_19 : decode cX0_tableau 19 = .ok (.ireturn, 1) := dk_172 (dk_at dksX0_tableau_0 19 rfl rfl)
abbrev cX0_wins : ByteArray := method_15_code
def yX0_wins : MethodName := ⟨RX0, "wins", "(LPhrasehall;III[J)I"⟩
def dkwX0_wins_1 : List UInt8 := [58, 5, 6, 172, 3, 172]
abbrev dktX0_wins_1 : List UInt8 := dkwX0_wins_1 ++ []
def dkwX0_wins_0 : List UInt8 := [25, 4, 3, 42, 27, 28, 29, 182, 0, 58, 133, 80, 167, 0, 15, 58, 5, 4, 172, 58, 5, 5, 172]
abbrev dktX0_wins_0 : List UInt8 := dkwX0_wins_0 ++ dktX0_wins_1
theorem dksX0_wins_0 : cX0_wins.data.toList.drop 0 = dktX0_wins_0 := by decide +kernel
theorem dksX0_wins_1 : cX0_wins.data.toList.drop 23 = dktX0_wins_1 := dk_seg dksX0_wins_0 23 rfl rfl
theorem dX0_wins_0 : decode cX0_wins 0 = .ok (.aload 4, 2) := dk_25 4 (dk_at dksX0_wins_0 0 rfl rfl)
theorem dX0_wins_2 : decode cX0_wins 2 = .ok (.iconst 0, 1) := dk_3 (dk_at dksX0_wins_0 2 rfl rfl)
theorem dX0_wins_3 : decode cX0_wins 3 = .ok (.aload_n 0, 1) := dk_42 (dk_at dksX0_wins_0 3 rfl rfl)
theorem dX0_wins_4 : decode cX0_wins 4 = .ok (.iload_n 1, 1) := dk_27 (dk_at dksX0_wins_0 4 rfl rfl)
theorem dX0_wins_5 : decode cX0_wins 5 = .ok (.iload_n 2, 1) := dk_28 (dk_at dksX0_wins_0 5 rfl rfl)
theorem dX0_wins_6 : decode cX0_wins 6 = .ok (.iload_n 3, 1) := dk_29 (dk_at dksX0_wins_0 6 rfl rfl)
theorem dX0_wins_7 : decode cX0_wins 7 = .ok (.invokevirtual 58, 3) := dk_182 0 58 (dk_at dksX0_wins_0 7 rfl rfl)
theorem dX0_wins_10 : decode cX0_wins 10 = .ok (.i2l, 1) := dk_133 (dk_at dksX0_wins_0 10 rfl rfl)
theorem dX0_wins_11 : decode cX0_wins 11 = .ok (.lastore, 1) := dk_80 (dk_at dksX0_wins_0 11 rfl rfl)
theorem dX0_wins_12 : decode cX0_wins 12 = .ok (.goto 15, 3) := dk_167 0 15 (dk_at dksX0_wins_0 12 rfl rfl)
theorem dX0_wins_15 : decode cX0_wins 15 = .ok (.astore 5, 2) := dk_58 5 (dk_at dksX0_wins_0 15 rfl rfl)
theorem dX0_wins_17 : decode cX0_wins 17 = .ok (.iconst 1, 1) := dk_4 (dk_at dksX0_wins_0 17 rfl rfl)
theorem dX0_wins_18 : decode cX0_wins 18 = .ok (.ireturn, 1) := dk_172 (dk_at dksX0_wins_0 18 rfl rfl)
theorem dX0_wins_19 : decode cX0_wins 19 = .ok (.astore 5, 2) := dk_58 5 (dk_at dksX0_wins_0 19 rfl rfl)
theorem dX0_wins_21 : decode cX0_wins 21 = .ok (.iconst 2, 1) := dk_5 (dk_at dksX0_wins_0 21 rfl rfl)
theorem dX0_wins_22 : decode cX0_wins 22 = .ok (.ireturn, 1) := dk_172 (dk_at dksX0_wins_0 22 rfl rfl)
theorem dX0_wins_23 : decode cX0_wins 23 = .ok (.astore 5, 2) := dk_58 5 (dk_at dksX0_wins_1 0 rfl rfl)
theorem dX0_wins_25 : decode cX0_wins 25 = .ok (.iconst 3, 1) := dk_6 (dk_at dksX0_wins_1 2 rfl rfl)
theorem dX0_wins_26 : decode cX0_wins 26 = .ok (.ireturn, 1) := dk_172 (dk_at dksX0_wins_1 3 rfl rfl)
theorem dX0_wins_27 : decode cX0_wins 27 = .ok (.iconst 0, 1) := dk_3 (dk_at dksX0_wins_1 4 rfl rfl)
theorem dX0_wins_28 : decode cX0_wins 28 = .ok (.ireturn, 1) := dk_172 (dk_at dksX0_wins_1 5 rfl rfl)
abbrev cX0_lamp : ByteArray := method_16_code
def yX0_lamp : MethodName := ⟨RX0, "lamp", "(LPhrasehall;I[J)I"⟩
def dkwX0_lamp_0 : List UInt8 := [44, 3, 42, 27, 182, 0, 61, 133, 80, 167, 0, 6, 78, 4, 172, 3, 172]
abbrev dktX0_lamp_0 : List UInt8 := dkwX0_lamp_0 ++ []
theorem dksX0_lamp_0 : cX0_lamp.data.toList.drop 0 = dktX0_lamp_0 := by decide +kernel
theorem dX0_lamp_0 : decode cX0_lamp 0 = .ok (.aload_n 2, 1) := dk_44 (dk_at dksX0_lamp_0 0 rfl rfl)
theorem dX0_lamp_1 : decode cX0_lamp 1 = .ok (.iconst 0, 1) := dk_3 (dk_at dksX0_lamp_0 1 rfl rfl)
theorem dX0_lamp_2 : decode cX0_lamp 2 = .ok (.aload_n 0, 1) := dk_42 (dk_at dksX0_lamp_0 2 rfl rfl)
theorem dX0_lamp_3 : decode cX0_lamp 3 = .ok (.iload_n 1, 1) := dk_27 (dk_at dksX0_lamp_0 3 rfl rfl)
theorem dX0_lamp_4 : decode cX0_lamp 4 = .ok (.invokevirtual 61, 3) := dk_182 0 61 (dk_at dksX0_lamp_0 4 rfl rfl)
theorem dX0_lamp_7 : decode cX0_lamp 7 = .ok (.i2l, 1) := dk_133 (dk_at dksX0_lamp_0 7 rfl rfl)
theorem dX0_lamp_8 : decode cX0_lamp 8 = .ok (.lastore, 1) := dk_80 (dk_at dksX0_lamp_0 8 rfl rfl)
theorem dX0_lamp_9 : decode cX0_lamp 9 = .ok (.goto 6, 3) := dk_167 0 6 (dk_at dksX0_lamp_0 9 rfl rfl)
theorem dX0_lamp_12 : decode cX0_lamp 12 = .ok (.astore_n 3, 1) := dk_78 (dk_at dksX0_lamp_0 12 rfl rfl)
theorem dX0_lamp_13 : decode cX0_lamp 13 = .ok (.iconst 1, 1) := dk_4 (dk_at dksX0_lamp_0 13 rfl rfl)
theorem dX0_lamp_14 : decode cX0_lamp 14 = .ok (.ireturn, 1) := dk_172 (dk_at dksX0_lamp_0 14 rfl rfl)
theorem dX0_lamp_15 : decode cX0_lamp 15 = .ok (.iconst 0, 1) := dk_3 (dk_at dksX0_lamp_0 15 rfl rfl)
theorem dX0_lamp_16 : decode cX0_lamp 16 = .ok (.ireturn, 1) := dk_172 (dk_at dksX0_lamp_0 16 rfl rfl)
abbrev cX0_ofBout : ByteArray := method_17_code
def yX0_ofBout : MethodName := ⟨RX0, "ofBout", "(LPhrasehall;II[J)I"⟩
def dkwX0_ofBout_0 : List UInt8 := [45, 3, 42, 27, 28, 182, 0, 64, 133, 80, 167, 0, 11, 58, 4, 4, 172, 58, 4, 5, 172, 3, 172]
abbrev dktX0_ofBout_0 : List UInt8 := dkwX0_ofBout_0 ++ []
theorem dksX0_ofBout_0 : cX0_ofBout.data.toList.drop 0 = dktX0_ofBout_0 := by decide +kernel
theorem dX0_ofBout_0 : decode cX0_ofBout 0 = .ok (.aload_n 3, 1) := dk_45 (dk_at dksX0_ofBout_0 0 rfl rfl)
theorem dX0_ofBout_1 : decode cX0_ofBout 1 = .ok (.iconst 0, 1) := dk_3 (dk_at dksX0_ofBout_0 1 rfl rfl)
theorem dX0_ofBout_2 : decode cX0_ofBout 2 = .ok (.aload_n 0, 1) := dk_42 (dk_at dksX0_ofBout_0 2 rfl rfl)
theorem dX0_ofBout_3 : decode cX0_ofBout 3 = .ok (.iload_n 1, 1) := dk_27 (dk_at dksX0_ofBout_0 3 rfl rfl)
theorem dX0_ofBout_4 : decode cX0_ofBout 4 = .ok (.iload_n 2, 1) := dk_28 (dk_at dksX0_ofBout_0 4 rfl rfl)
theorem dX0_ofBout_5 : decode cX0_ofBout 5 = .ok (.invokevirtual 64, 3) := dk_182 0 64 (dk_at dksX0_ofBout_0 5 rfl rfl)
theorem dX0_ofBout_8 : decode cX0_ofBout 8 = .ok (.i2l, 1) := dk_133 (dk_at dksX0_ofBout_0 8 rfl rfl)
theorem dX0_ofBout_9 : decode cX0_ofBout 9 = .ok (.lastore, 1) := dk_80 (dk_at dksX0_ofBout_0 9 rfl rfl)
theorem dX0_ofBout_10 : decode cX0_ofBout 10 = .ok (.goto 11, 3) := dk_167 0 11 (dk_at dksX0_ofBout_0 10 rfl rfl)
theorem dX0_ofBout_13 : decode cX0_ofBout 13 = .ok (.astore 4, 2) := dk_58 4 (dk_at dksX0_ofBout_0 13 rfl rfl)
theorem dX0_ofBout_15 : decode cX0_ofBout 15 = .ok (.iconst 1, 1) := dk_4 (dk_at dksX0_ofBout_0 15 rfl rfl)
theorem dX0_ofBout_16 : decode cX0_ofBout 16 = .ok (.ireturn, 1) := dk_172 (dk_at dksX0_ofBout_0 16 rfl rfl)
theorem dX0_ofBout_17 : decode cX0_ofBout 17 = .ok (.astore 4, 2) := dk_58 4 (dk_at dksX0_ofBout_0 17 rfl rfl)
theorem dX0_ofBout_19 : decode cX0_ofBout 19 = .ok (.iconst 2, 1) := dk_5 (dk_at dksX0_ofBout_0 19 rfl rfl)
theorem dX0_ofBout_20 : decode cX0_ofBout 20 = .ok (.ireturn, 1) := dk_172 (dk_at dksX0_ofBout_0 20 rfl rfl)
theorem dX0_ofBout_21 : decode cX0_ofBout 21 = .ok (.iconst 0, 1) := dk_3 (dk_at dksX0_ofBout_0 21 rfl rfl)
theorem dX0_ofBout_22 : decode cX0_ofBout 22 = .ok (.ireturn, 1) := dk_172 (dk_at dksX0_ofBout_0 22 rfl rfl)
abbrev cX0_ofPool : ByteArray := method_18_code
def yX0_ofPool : MethodName := ⟨RX0, "ofPool", "(LPhrasehall;III[J)I"⟩
def dkwX0_ofPool_1 : List UInt8 := [172]
abbrev dktX0_ofPool_1 : List UInt8 := dkwX0_ofPool_1 ++ []
def dkwX0_ofPool_0 : List UInt8 := [25, 4, 3, 42, 27, 28, 29, 182, 0, 67, 133, 80, 167, 0, 11, 58, 5, 4, 172, 58, 5, 5, 172, 3]
abbrev dktX0_ofPool_0 : List UInt8 := dkwX0_ofPool_0 ++ dktX0_ofPool_1
theorem dksX0_ofPool_0 : cX0_ofPool.data.toList.drop 0 = dktX0_ofPool_0 := by decide +kernel
theorem dksX0_ofPool_1 : cX0_ofPool.data.toList.drop 24 = dktX0_ofPool_1 := dk_seg dksX0_ofPool_0 24 rfl rfl
theorem dX0_ofPool_0 : decode cX0_ofPool 0 = .ok (.aload 4, 2) := dk_25 4 (dk_at dksX0_ofPool_0 0 rfl rfl)
theorem dX0_ofPool_2 : decode cX0_ofPool 2 = .ok (.iconst 0, 1) := dk_3 (dk_at dksX0_ofPool_0 2 rfl rfl)
theorem dX0_ofPool_3 : decode cX0_ofPool 3 = .ok (.aload_n 0, 1) := dk_42 (dk_at dksX0_ofPool_0 3 rfl rfl)
theorem dX0_ofPool_4 : decode cX0_ofPool 4 = .ok (.iload_n 1, 1) := dk_27 (dk_at dksX0_ofPool_0 4 rfl rfl)
theorem dX0_ofPool_5 : decode cX0_ofPool 5 = .ok (.iload_n 2, 1) := dk_28 (dk_at dksX0_ofPool_0 5 rfl rfl)
theorem dX0_ofPool_6 : decode cX0_ofPool 6 = .ok (.iload_n 3, 1) := dk_29 (dk_at dksX0_ofPool_0 6 rfl rfl)
theorem dX0_ofPool_7 : decode cX0_ofPool 7 = .ok (.invokevirtual 67, 3) := dk_182 0 67 (dk_at dksX0_ofPool_0 7 rfl rfl)
theorem dX0_ofPool_10 : decode cX0_ofPool 10 = .ok (.i2l, 1) := dk_133 (dk_at dksX0_ofPool_0 10 rfl rfl)
theorem dX0_ofPool_11 : decode cX0_ofPool 11 = .ok (.lastore, 1) := dk_80 (dk_at dksX0_ofPool_0 11 rfl rfl)
theorem dX0_ofPool_12 : decode cX0_ofPool 12 = .ok (.goto 11, 3) := dk_167 0 11 (dk_at dksX0_ofPool_0 12 rfl rfl)
theorem dX0_ofPool_15 : decode cX0_ofPool 15 = .ok (.astore 5, 2) := dk_58 5 (dk_at dksX0_ofPool_0 15 rfl rfl)
theorem dX0_ofPool_17 : decode cX0_ofPool 17 = .ok (.iconst 1, 1) := dk_4 (dk_at dksX0_ofPool_0 17 rfl rfl)
theorem dX0_ofPool_18 : decode cX0_ofPool 18 = .ok (.ireturn, 1) := dk_172 (dk_at dksX0_ofPool_0 18 rfl rfl)
theorem dX0_ofPool_19 : decode cX0_ofPool 19 = .ok (.astore 5, 2) := dk_58 5 (dk_at dksX0_ofPool_0 19 rfl rfl)
theorem dX0_ofPool_21 : decode cX0_ofPool 21 = .ok (.iconst 2, 1) := dk_5 (dk_at dksX0_ofPool_0 21 rfl rfl)
theorem dX0_ofPool_22 : decode cX0_ofPool 22 = .ok (.ireturn, 1) := dk_172 (dk_at dksX0_ofPool_0 22 rfl rfl)
theorem dX0_ofPool_23 : decode cX0_ofPool 23 = .ok (.iconst 0, 1) := dk_3 (dk_at dksX0_ofPool_0 23 rfl rfl)
theorem dX0_ofPool_24 : decode cX0_ofPool 24 = .ok (.ireturn, 1) := dk_172 (dk_at dksX0_ofPool_1 0 rfl rfl)
abbrev cX0_ofPoolAnew : ByteArray := method_19_code
def yX0_ofPoolAnew : MethodName := ⟨RX0, "ofPoolAnew", "(LPhrasehall;III[J)I"⟩
def dkwX0_ofPoolAnew_1 : List UInt8 := [172]
abbrev dktX0_ofPoolAnew_1 : List UInt8 := dkwX0_ofPoolAnew_1 ++ []
def dkwX0_ofPoolAnew_0 : List UInt8 := [25, 4, 3, 42, 27, 28, 29, 182, 0, 70, 133, 80, 167, 0, 11, 58, 5, 4, 172, 58, 5, 5, 172, 3]
abbrev dktX0_ofPoolAnew_0 : List UInt8 := dkwX0_ofPoolAnew_0 ++ dktX0_ofPoolAnew_1
theorem dksX0_ofPoolAnew_0 : cX0_ofPoolAnew.data.toList.drop 0 = dktX0_ofPoolAnew_0 := by decide +kernel
theorem dksX0_ofPoolAnew_1 : cX0_ofPoolAnew.data.toList.drop 24 = dktX0_ofPoolAnew_1 := dk_seg dksX0_ofPoolAnew_0 24 rfl rfl
theorem dX0_ofPoolAnew_0 : decode cX0_ofPoolAnew 0 = .ok (.aload 4, 2) := dk_25 4 (dk_at dksX0_ofPoolAnew_0 0 rfl rfl)
theorem dX0_ofPoolAnew_2 : decode cX0_ofPoolAnew 2 = .ok (.iconst 0, 1) := dk_3 (dk_at dksX0_ofPoolAnew_0 2 rfl rfl)
theorem dX0_ofPoolAnew_3 : decode cX0_ofPoolAnew 3 = .ok (.aload_n 0, 1) := dk_42 (dk_at dksX0_ofPoolAnew_0 3 rfl rfl)
theorem dX0_ofPoolAnew_4 : decode cX0_ofPoolAnew 4 = .ok (.iload_n 1, 1) := dk_27 (dk_at dksX0_ofPoolAnew_0 4 rfl rfl)
theorem dX0_ofPoolAnew_5 : decode cX0_ofPoolAnew 5 = .ok (.iload_n 2, 1) := dk_28 (dk_at dksX0_ofPoolAnew_0 5 rfl rfl)
theorem dX0_ofPoolAnew_6 : decode cX0_ofPoolAnew 6 = .ok (.iload_n 3, 1) := dk_29 (dk_at dksX0_ofPoolAnew_0 6 rfl rfl)
theorem dX0_ofPoolAnew_7 : decode cX0_ofPoolAnew 7 = .ok (.invokevirtual 70, 3) := dk_182 0 70 (dk_at dksX0_ofPoolAnew_0 7 rfl rfl)
theorem dX0_ofPoolAnew_10 : decode cX0_ofPoolAnew 10 = .ok (.i2l, 1) := dk_133 (dk_at dksX0_ofPoolAnew_0 10 rfl rfl)
theorem dX0_ofPoolAnew_11 : decode cX0_ofPoolAnew 11 = .ok (.lastore, 1) := dk_80 (dk_at dksX0_ofPoolAnew_0 11 rfl rfl)
theorem dX0_ofPoolAnew_12 : decode cX0_ofPoolAnew 12 = .ok (.goto 11, 3) := dk_167 0 11 (dk_at dksX0_ofPoolAnew_0 12 rfl rfl)
theorem dX0_ofPoolAnew_15 : decode cX0_ofPoolAnew 15 = .ok (.astore 5, 2) := dk_58 5 (dk_at dksX0_ofPoolAnew_0 15 rfl rfl)
theorem dX0_ofPoolAnew_17 : decode cX0_ofPoolAnew 17 = .ok (.iconst 1, 1) := dk_4 (dk_at dksX0_ofPoolAnew_0 17 rfl rfl)
theorem dX0_ofPoolAnew_18 : decode cX0_ofPoolAnew 18 = .ok (.ireturn, 1) := dk_172 (dk_at dksX0_ofPoolAnew_0 18 rfl rfl)
theorem dX0_ofPoolAnew_19 : decode cX0_ofPoolAnew 19 = .ok (.astore 5, 2) := dk_58 5 (dk_at dksX0_ofPoolAnew_0 19 rfl rfl)
theorem dX0_ofPoolAnew_21 : decode cX0_ofPoolAnew 21 = .ok (.iconst 2, 1) := dk_5 (dk_at dksX0_ofPoolAnew_0 21 rfl rfl)
theorem dX0_ofPoolAnew_22 : decode cX0_ofPoolAnew 22 = .ok (.ireturn, 1) := dk_172 (dk_at dksX0_ofPoolAnew_0 22 rfl rfl)
theorem dX0_ofPoolAnew_23 : decode cX0_ofPoolAnew 23 = .ok (.iconst 0, 1) := dk_3 (dk_at dksX0_ofPoolAnew_0 23 rfl rfl)
theorem dX0_ofPoolAnew_24 : decode cX0_ofPoolAnew 24 = .ok (.ireturn, 1) := dk_172 (dk_at dksX0_ofPoolAnew_1 0 rfl rfl)
abbrev cX0_rank : ByteArray := method_20_code
def yX0_rank : MethodName := ⟨RX0, "rank", "(LPhrasehall;II[J)I"⟩
def dkwX0_rank_0 : List UInt8 := [45, 3, 42, 27, 28, 182, 0, 73, 133, 80, 167, 0, 7, 58, 4, 4, 172, 3, 172]
abbrev dktX0_rank_0 : List UInt8 := dkwX0_rank_0 ++ []
theorem dksX0_rank_0 : cX0_rank.data.toList.drop 0 = dktX0_rank_0 := by decide +kernel
theorem dX0_rank_0 : decode cX0_rank 0 = .ok (.aload_n 3, 1) := dk_45 (dk_at dksX0_rank_0 0 rfl rfl)
theorem dX0_rank_1 : decode cX0_rank 1 = .ok (.iconst 0, 1) := dk_3 (dk_at dksX0_rank_0 1 rfl rfl)
theorem dX0_rank_2 : decode cX0_rank 2 = .ok (.aload_n 0, 1) := dk_42 (dk_at dksX0_rank_0 2 rfl rfl)
theorem dX0_rank_3 : decode cX0_rank 3 = .ok (.iload_n 1, 1) := dk_27 (dk_at dksX0_rank_0 3 rfl rfl)
theorem dX0_rank_4 : decode cX0_rank 4 = .ok (.iload_n 2, 1) := dk_28 (dk_at dksX0_rank_0 4 rfl rfl)
theorem dX0_rank_5 : decode cX0_rank 5 = .ok (.invokevirtual 73, 3) := dk_182 0 73 (dk_at dksX0_rank_0 5 rfl rfl)
theorem dX0_rank_8 : decode cX0_rank 8 = .ok (.i2l, 1) := dk_133 (dk_at dksX0_rank_0 8 rfl rfl)
theorem dX0_rank_9 : decode cX0_rank 9 = .ok (.lastore, 1) := dk_80 (dk_at dksX0_rank_0 9 rfl rfl)
theorem dX0_rank_10 : decode cX0_rank 10 = .ok (.goto 7, 3) := dk_167 0 7 (dk_at dksX0_rank_0 10 rfl rfl)
theorem dX0_rank_13 : decode cX0_rank 13 = .ok (.astore 4, 2) := dk_58 4 (dk_at dksX0_rank_0 13 rfl rfl)
theorem dX0_rank_15 : decode cX0_rank 15 = .ok (.iconst 1, 1) := dk_4 (dk_at dksX0_rank_0 15 rfl rfl)
theorem dX0_rank_16 : decode cX0_rank 16 = .ok (.ireturn, 1) := dk_172 (dk_at dksX0_rank_0 16 rfl rfl)
theorem dX0_rank_17 : decode cX0_rank 17 = .ok (.iconst 0, 1) := dk_3 (dk_at dksX0_rank_0 17 rfl rfl)
theorem dX0_rank_18 : decode cX0_rank 18 = .ok (.ireturn, 1) := dk_172 (dk_at dksX0_rank_0 18 rfl rfl)
abbrev cX0_meets : ByteArray := method_21_code
def yX0_meets : MethodName := ⟨RX0, "meets", "(LPhrasehall;III[J)I"⟩
def dkwX0_meets_1 : List UInt8 := [172]
abbrev dktX0_meets_1 : List UInt8 := dkwX0_meets_1 ++ []
def dkwX0_meets_0 : List UInt8 := [25, 4, 3, 42, 27, 28, 29, 182, 0, 76, 133, 80, 167, 0, 11, 58, 5, 4, 172, 58, 5, 5, 172, 3]
abbrev dktX0_meets_0 : List UInt8 := dkwX0_meets_0 ++ dktX0_meets_1
theorem dksX0_meets_0 : cX0_meets.data.toList.drop 0 = dktX0_meets_0 := by decide +kernel
theorem dksX0_meets_1 : cX0_meets.data.toList.drop 24 = dktX0_meets_1 := dk_seg dksX0_meets_0 24 rfl rfl
theorem dX0_meets_0 : decode cX0_meets 0 = .ok (.aload 4, 2) := dk_25 4 (dk_at dksX0_meets_0 0 rfl rfl)
theorem dX0_meets_2 : decode cX0_meets 2 = .ok (.iconst 0, 1) := dk_3 (dk_at dksX0_meets_0 2 rfl rfl)
theorem dX0_meets_3 : decode cX0_meets 3 = .ok (.aload_n 0, 1) := dk_42 (dk_at dksX0_meets_0 3 rfl rfl)
theorem dX0_meets_4 : decode cX0_meets 4 = .ok (.iload_n 1, 1) := dk_27 (dk_at dksX0_meets_0 4 rfl rfl)
theorem dX0_meets_5 : decode cX0_meets 5 = .ok (.iload_n 2, 1) := dk_28 (dk_at dksX0_meets_0 5 rfl rfl)
theorem dX0_meets_6 : decode cX0_meets 6 = .ok (.iload_n 3, 1) := dk_29 (dk_at dksX0_meets_0 6 rfl rfl)
theorem dX0_meets_7 : decode cX0_meets 7 = .ok (.invokevirtual 76, 3) := dk_182 0 76 (dk_at dksX0_meets_0 7 rfl rfl)
theorem dX0_meets_10 : decode cX0_meets 10 = .ok (.i2l, 1) := dk_133 (dk_at dksX0_meets_0 10 rfl rfl)
theorem dX0_meets_11 : decode cX0_meets 11 = .ok (.lastore, 1) := dk_80 (dk_at dksX0_meets_0 11 rfl rfl)
theorem dX0_meets_12 : decode cX0_meets 12 = .ok (.goto 11, 3) := dk_167 0 11 (dk_at dksX0_meets_0 12 rfl rfl)
theorem dX0_meets_15 : decode cX0_meets 15 = .ok (.astore 5, 2) := dk_58 5 (dk_at dksX0_meets_0 15 rfl rfl)
theorem dX0_meets_17 : decode cX0_meets 17 = .ok (.iconst 1, 1) := dk_4 (dk_at dksX0_meets_0 17 rfl rfl)
theorem dX0_meets_18 : decode cX0_meets 18 = .ok (.ireturn, 1) := dk_172 (dk_at dksX0_meets_0 18 rfl rfl)
theorem dX0_meets_19 : decode cX0_meets 19 = .ok (.astore 5, 2) := dk_58 5 (dk_at dksX0_meets_0 19 rfl rfl)
theorem dX0_meets_21 : decode cX0_meets 21 = .ok (.iconst 2, 1) := dk_5 (dk_at dksX0_meets_0 21 rfl rfl)
theorem dX0_meets_22 : decode cX0_meets 22 = .ok (.ireturn, 1) := dk_172 (dk_at dksX0_meets_0 22 rfl rfl)
theorem dX0_meets_23 : decode cX0_meets 23 = .ok (.iconst 0, 1) := dk_3 (dk_at dksX0_meets_0 23 rfl rfl)
theorem dX0_meets_24 : decode cX0_meets 24 = .ok (.ireturn, 1) := dk_172 (dk_at dksX0_meets_1 0 rfl rfl)
theorem q41 : (Jvm.Cond.initialized "PhrasehallLaw") ∈ lw_all := lw_g (lw_at lw_m1 0 rfl) rfl
theorem q79 : (Jvm.Cond.classLink "PhrasehallLaw" (8 : Nat) "Phrasehall") ∈ lw_all := lw_g (lw_at lw_m1 38 rfl) rfl
theorem q81 : (Jvm.Cond.methodLink "PhrasehallLaw" (79 : Nat) ({ cls := "Phrasehall", name := "<init>", desc := "()V" } : Jvm.MethodName)) ∈ lw_all := lw_g (lw_at lw_m1 40 rfl) rfl
theorem q143 : (Jvm.Cond.methodLink "PhrasehallLaw" (137 : Nat) ({ cls := "Phrasehall", name := "holder", desc := "()I" } : Jvm.MethodName)) ∈ lw_all := lw_g (lw_at lw_m1 102 rfl) rfl
theorem q221 : (Jvm.Cond.methodLink "PhrasehallLaw" (141 : Nat) ({ cls := "Phrasehall", name := "reason", desc := "()I" } : Jvm.MethodName)) ∈ lw_all := lw_g (lw_at lw_m1 180 rfl) rfl
theorem q225 : (Jvm.Cond.methodLink "PhrasehallLaw" (83 : Nat) ({ cls := "PhrasehallLaw", name := "fencer", desc := "(LPhrasehall;[J)I" } : Jvm.MethodName)) ∈ lw_all := lw_g (lw_at lw_m1 184 rfl) rfl
theorem q226 : (Jvm.Cond.static ({ cls := "PhrasehallLaw", name := "fencer", desc := "(LPhrasehall;[J)I" } : Jvm.MethodName)) ∈ lw_all := lw_g (lw_at lw_m1 185 rfl) rfl
theorem q227 : (Jvm.Cond.codeWith ({ cls := "PhrasehallLaw", name := "fencer", desc := "(LPhrasehall;[J)I" } : Jvm.MethodName) method_3_code (3 : Nat) (Option.some Jvm.ClassFile.FieldType.int) [((0 : Nat), (8 : Nat), (11 : Nat), (13 : Nat))]) ∈ lw_all := lw_g (lw_at lw_m1 186 rfl) rfl
theorem q228 : (Jvm.Cond.classLink "PhrasehallLaw" (13 : Nat) "java/lang/IllegalStateException") ∈ lw_all := lw_g (lw_at lw_m1 187 rfl) rfl
theorem q229 : (Jvm.Cond.methodLink "PhrasehallLaw" (7 : Nat) ({ cls := "Phrasehall", name := "fencer", desc := "()I" } : Jvm.MethodName)) ∈ lw_all := lw_g (lw_at lw_m1 188 rfl) rfl
theorem q381 : (Jvm.Cond.methodLink "PhrasehallLaw" (92 : Nat) ({ cls := "PhrasehallLaw", name := "begin", desc := "(LPhrasehall;IIIII[J)I" } : Jvm.MethodName)) ∈ lw_all := lw_g (lw_at lw_m2 100 rfl) rfl
theorem q382 : (Jvm.Cond.static ({ cls := "PhrasehallLaw", name := "begin", desc := "(LPhrasehall;IIIII[J)I" } : Jvm.MethodName)) ∈ lw_all := lw_g (lw_at lw_m2 101 rfl) rfl
theorem q383 : (Jvm.Cond.codeWith ({ cls := "PhrasehallLaw", name := "begin", desc := "(LPhrasehall;IIIII[J)I" } : Jvm.MethodName) method_4_code (8 : Nat) (Option.some Jvm.ClassFile.FieldType.int) [((0 : Nat), (16 : Nat), (19 : Nat), (19 : Nat)), ((0 : Nat), (16 : Nat), (23 : Nat), (21 : Nat)), ((0 : Nat), (16 : Nat), (27 : Nat), (13 : Nat))]) ∈ lw_all := lw_g (lw_at lw_m2 102 rfl) rfl
theorem q384 : (Jvm.Cond.classLink "PhrasehallLaw" (19 : Nat) "java/lang/IndexOutOfBoundsException") ∈ lw_all := lw_g (lw_at lw_m2 103 rfl) rfl
theorem q417 : (Jvm.Cond.classLink "PhrasehallLaw" (21 : Nat) "java/lang/IllegalArgumentException") ∈ lw_all := lw_g (lw_at lw_m2 136 rfl) rfl
theorem q418 : (Jvm.Cond.methodLink "PhrasehallLaw" (15 : Nat) ({ cls := "Phrasehall", name := "begin", desc := "(IIIII)I" } : Jvm.MethodName)) ∈ lw_all := lw_g (lw_at lw_m2 137 rfl) rfl
theorem q545 : (Jvm.Cond.methodLink "PhrasehallLaw" (96 : Nat) ({ cls := "PhrasehallLaw", name := "act", desc := "(LPhrasehall;III[J)I" } : Jvm.MethodName)) ∈ lw_all := lw_g (lw_at lw_m3 24 rfl) rfl
theorem q546 : (Jvm.Cond.static ({ cls := "PhrasehallLaw", name := "act", desc := "(LPhrasehall;III[J)I" } : Jvm.MethodName)) ∈ lw_all := lw_g (lw_at lw_m3 25 rfl) rfl
theorem q547 : (Jvm.Cond.codeWith ({ cls := "PhrasehallLaw", name := "act", desc := "(LPhrasehall;III[J)I" } : Jvm.MethodName) method_5_code (6 : Nat) (Option.some Jvm.ClassFile.FieldType.int) [((0 : Nat), (12 : Nat), (15 : Nat), (21 : Nat)), ((0 : Nat), (12 : Nat), (19 : Nat), (13 : Nat))]) ∈ lw_all := lw_g (lw_at lw_m3 26 rfl) rfl
theorem q548 : (Jvm.Cond.methodLink "PhrasehallLaw" (23 : Nat) ({ cls := "Phrasehall", name := "act", desc := "(III)I" } : Jvm.MethodName)) ∈ lw_all := lw_g (lw_at lw_m3 27 rfl) rfl
theorem q597 : (Jvm.Cond.methodLink "PhrasehallLaw" (100 : Nat) ({ cls := "PhrasehallLaw", name := "hit", desc := "(LPhrasehall;IIII[J)I" } : Jvm.MethodName)) ∈ lw_all := lw_g (lw_at lw_m3 76 rfl) rfl
theorem q598 : (Jvm.Cond.static ({ cls := "PhrasehallLaw", name := "hit", desc := "(LPhrasehall;IIII[J)I" } : Jvm.MethodName)) ∈ lw_all := lw_g (lw_at lw_m3 77 rfl) rfl
theorem q599 : (Jvm.Cond.codeWith ({ cls := "PhrasehallLaw", name := "hit", desc := "(LPhrasehall;IIII[J)I" } : Jvm.MethodName) method_6_code (7 : Nat) (Option.some Jvm.ClassFile.FieldType.int) [((0 : Nat), (14 : Nat), (17 : Nat), (21 : Nat)), ((0 : Nat), (14 : Nat), (21 : Nat), (13 : Nat))]) ∈ lw_all := lw_g (lw_at lw_m3 78 rfl) rfl
theorem q600 : (Jvm.Cond.methodLink "PhrasehallLaw" (27 : Nat) ({ cls := "Phrasehall", name := "hit", desc := "(IIII)I" } : Jvm.MethodName)) ∈ lw_all := lw_g (lw_at lw_m3 79 rfl) rfl
theorem q623 : (Jvm.Cond.methodLink "PhrasehallLaw" (104 : Nat) ({ cls := "PhrasehallLaw", name := "judge", desc := "(LPhrasehall;[J)I" } : Jvm.MethodName)) ∈ lw_all := lw_g (lw_at lw_m3 102 rfl) rfl
theorem q624 : (Jvm.Cond.static ({ cls := "PhrasehallLaw", name := "judge", desc := "(LPhrasehall;[J)I" } : Jvm.MethodName)) ∈ lw_all := lw_g (lw_at lw_m3 103 rfl) rfl
theorem q625 : (Jvm.Cond.codeWith ({ cls := "PhrasehallLaw", name := "judge", desc := "(LPhrasehall;[J)I" } : Jvm.MethodName) method_7_code (3 : Nat) (Option.some Jvm.ClassFile.FieldType.int) [((0 : Nat), (8 : Nat), (11 : Nat), (13 : Nat))]) ∈ lw_all := lw_g (lw_at lw_m3 104 rfl) rfl
theorem q626 : (Jvm.Cond.methodLink "PhrasehallLaw" (31 : Nat) ({ cls := "Phrasehall", name := "judge", desc := "()I" } : Jvm.MethodName)) ∈ lw_all := lw_g (lw_at lw_m3 105 rfl) rfl
theorem q699 : (Jvm.Cond.methodLink "PhrasehallLaw" (107 : Nat) ({ cls := "PhrasehallLaw", name := "card", desc := "(LPhrasehall;II[J)I" } : Jvm.MethodName)) ∈ lw_all := lw_g (lw_at lw_m3 178 rfl) rfl
theorem q700 : (Jvm.Cond.static ({ cls := "PhrasehallLaw", name := "card", desc := "(LPhrasehall;II[J)I" } : Jvm.MethodName)) ∈ lw_all := lw_g (lw_at lw_m3 179 rfl) rfl
theorem q701 : (Jvm.Cond.codeWith ({ cls := "PhrasehallLaw", name := "card", desc := "(LPhrasehall;II[J)I" } : Jvm.MethodName) method_8_code (5 : Nat) (Option.some Jvm.ClassFile.FieldType.int) [((0 : Nat), (10 : Nat), (13 : Nat), (21 : Nat)), ((0 : Nat), (10 : Nat), (17 : Nat), (13 : Nat))]) ∈ lw_all := lw_g (lw_at lw_m3 180 rfl) rfl
theorem q702 : (Jvm.Cond.methodLink "PhrasehallLaw" (34 : Nat) ({ cls := "Phrasehall", name := "card", desc := "(II)I" } : Jvm.MethodName)) ∈ lw_all := lw_g (lw_at lw_m3 181 rfl) rfl
theorem q711 : (Jvm.Cond.methodLink "PhrasehallLaw" (111 : Nat) ({ cls := "PhrasehallLaw", name := "clock", desc := "(LPhrasehall;I[J)I" } : Jvm.MethodName)) ∈ lw_all := lw_g (lw_at lw_m3 190 rfl) rfl
theorem q712 : (Jvm.Cond.static ({ cls := "PhrasehallLaw", name := "clock", desc := "(LPhrasehall;I[J)I" } : Jvm.MethodName)) ∈ lw_all := lw_g (lw_at lw_m3 191 rfl) rfl
theorem q713 : (Jvm.Cond.codeWith ({ cls := "PhrasehallLaw", name := "clock", desc := "(LPhrasehall;I[J)I" } : Jvm.MethodName) method_9_code (4 : Nat) (Option.some Jvm.ClassFile.FieldType.int) [((0 : Nat), (9 : Nat), (12 : Nat), (21 : Nat)), ((0 : Nat), (9 : Nat), (15 : Nat), (13 : Nat))]) ∈ lw_all := lw_g (lw_at lw_m3 192 rfl) rfl
theorem q714 : (Jvm.Cond.methodLink "PhrasehallLaw" (38 : Nat) ({ cls := "Phrasehall", name := "clock", desc := "(I)I" } : Jvm.MethodName)) ∈ lw_all := lw_g (lw_at lw_m3 193 rfl) rfl
theorem q739 : (Jvm.Cond.methodLink "PhrasehallLaw" (115 : Nat) ({ cls := "PhrasehallLaw", name := "end", desc := "(LPhrasehall;[J)I" } : Jvm.MethodName)) ∈ lw_all := lw_g (lw_at lw_m3 218 rfl) rfl
theorem q740 : (Jvm.Cond.static ({ cls := "PhrasehallLaw", name := "end", desc := "(LPhrasehall;[J)I" } : Jvm.MethodName)) ∈ lw_all := lw_g (lw_at lw_m3 219 rfl) rfl
theorem q741 : (Jvm.Cond.codeWith ({ cls := "PhrasehallLaw", name := "end", desc := "(LPhrasehall;[J)I" } : Jvm.MethodName) method_10_code (3 : Nat) (Option.some Jvm.ClassFile.FieldType.int) [((0 : Nat), (8 : Nat), (11 : Nat), (13 : Nat))]) ∈ lw_all := lw_g (lw_at lw_m3 220 rfl) rfl
theorem q742 : (Jvm.Cond.methodLink "PhrasehallLaw" (42 : Nat) ({ cls := "Phrasehall", name := "end", desc := "()I" } : Jvm.MethodName)) ∈ lw_all := lw_g (lw_at lw_m3 221 rfl) rfl
theorem q748 : (Jvm.Cond.methodLink "PhrasehallLaw" (118 : Nat) ({ cls := "PhrasehallLaw", name := "seed", desc := "(LPhrasehall;I)I" } : Jvm.MethodName)) ∈ lw_all := lw_g (lw_at lw_m3 227 rfl) rfl
theorem q749 : (Jvm.Cond.static ({ cls := "PhrasehallLaw", name := "seed", desc := "(LPhrasehall;I)I" } : Jvm.MethodName)) ∈ lw_all := lw_g (lw_at lw_m3 228 rfl) rfl
theorem q750 : (Jvm.Cond.codeWith ({ cls := "PhrasehallLaw", name := "seed", desc := "(LPhrasehall;I)I" } : Jvm.MethodName) method_11_code (3 : Nat) (Option.some Jvm.ClassFile.FieldType.int) [((0 : Nat), (5 : Nat), (8 : Nat), (21 : Nat))]) ∈ lw_all := lw_g (lw_at lw_m3 229 rfl) rfl
theorem q751 : (Jvm.Cond.methodLink "PhrasehallLaw" (45 : Nat) ({ cls := "Phrasehall", name := "seed", desc := "(I)V" } : Jvm.MethodName)) ∈ lw_all := lw_g (lw_at lw_m3 230 rfl) rfl
theorem q755 : (Jvm.Cond.methodLink "PhrasehallLaw" (122 : Nat) ({ cls := "PhrasehallLaw", name := "pool", desc := "(LPhrasehall;I[J)I" } : Jvm.MethodName)) ∈ lw_all := lw_g (lw_at lw_m3 234 rfl) rfl
theorem q756 : (Jvm.Cond.static ({ cls := "PhrasehallLaw", name := "pool", desc := "(LPhrasehall;I[J)I" } : Jvm.MethodName)) ∈ lw_all := lw_g (lw_at lw_m3 235 rfl) rfl
theorem q757 : (Jvm.Cond.codeWith ({ cls := "PhrasehallLaw", name := "pool", desc := "(LPhrasehall;I[J)I" } : Jvm.MethodName) method_12_code (4 : Nat) (Option.some Jvm.ClassFile.FieldType.int) [((0 : Nat), (9 : Nat), (12 : Nat), (21 : Nat)), ((0 : Nat), (9 : Nat), (15 : Nat), (13 : Nat))]) ∈ lw_all := lw_g (lw_at lw_m3 236 rfl) rfl
theorem q758 : (Jvm.Cond.methodLink "PhrasehallLaw" (49 : Nat) ({ cls := "Phrasehall", name := "pool", desc := "(I)I" } : Jvm.MethodName)) ∈ lw_all := lw_g (lw_at lw_m3 237 rfl) rfl
theorem q809 : (Jvm.Cond.methodLink "PhrasehallLaw" (125 : Nat) ({ cls := "PhrasehallLaw", name := "withdraw", desc := "(LPhrasehall;II[J)I" } : Jvm.MethodName)) ∈ lw_all := lw_g (lw_at lw_m4 48 rfl) rfl
theorem q810 : (Jvm.Cond.static ({ cls := "PhrasehallLaw", name := "withdraw", desc := "(LPhrasehall;II[J)I" } : Jvm.MethodName)) ∈ lw_all := lw_g (lw_at lw_m4 49 rfl) rfl
theorem q811 : (Jvm.Cond.codeWith ({ cls := "PhrasehallLaw", name := "withdraw", desc := "(LPhrasehall;II[J)I" } : Jvm.MethodName) method_13_code (5 : Nat) (Option.some Jvm.ClassFile.FieldType.int) [((0 : Nat), (10 : Nat), (13 : Nat), (19 : Nat)), ((0 : Nat), (10 : Nat), (17 : Nat), (13 : Nat))]) ∈ lw_all := lw_g (lw_at lw_m4 50 rfl) rfl
theorem q812 : (Jvm.Cond.methodLink "PhrasehallLaw" (52 : Nat) ({ cls := "Phrasehall", name := "withdraw", desc := "(II)I" } : Jvm.MethodName)) ∈ lw_all := lw_g (lw_at lw_m4 51 rfl) rfl
theorem q871 : (Jvm.Cond.methodLink "PhrasehallLaw" (128 : Nat) ({ cls := "PhrasehallLaw", name := "tableau", desc := "(LPhrasehall;I[J)I" } : Jvm.MethodName)) ∈ lw_all := lw_g (lw_at lw_m4 110 rfl) rfl
theorem q872 : (Jvm.Cond.static ({ cls := "PhrasehallLaw", name := "tableau", desc := "(LPhrasehall;I[J)I" } : Jvm.MethodName)) ∈ lw_all := lw_g (lw_at lw_m4 111 rfl) rfl
theorem q873 : (Jvm.Cond.codeWith ({ cls := "PhrasehallLaw", name := "tableau", desc := "(LPhrasehall;I[J)I" } : Jvm.MethodName) method_14_code (4 : Nat) (Option.some Jvm.ClassFile.FieldType.int) [((0 : Nat), (9 : Nat), (12 : Nat), (19 : Nat)), ((0 : Nat), (9 : Nat), (15 : Nat), (13 : Nat))]) ∈ lw_all := lw_g (lw_at lw_m4 112 rfl) rfl
theorem q874 : (Jvm.Cond.methodLink "PhrasehallLaw" (55 : Nat) ({ cls := "Phrasehall", name := "tableau", desc := "(I)I" } : Jvm.MethodName)) ∈ lw_all := lw_g (lw_at lw_m4 113 rfl) rfl
theorem q1167 : (Jvm.Cond.methodLink "PhrasehallLaw" (131 : Nat) ({ cls := "PhrasehallLaw", name := "wins", desc := "(LPhrasehall;III[J)I" } : Jvm.MethodName)) ∈ lw_all := lw_g (lw_at lw_m5 166 rfl) rfl
theorem q1168 : (Jvm.Cond.static ({ cls := "PhrasehallLaw", name := "wins", desc := "(LPhrasehall;III[J)I" } : Jvm.MethodName)) ∈ lw_all := lw_g (lw_at lw_m5 167 rfl) rfl
theorem q1169 : (Jvm.Cond.codeWith ({ cls := "PhrasehallLaw", name := "wins", desc := "(LPhrasehall;III[J)I" } : Jvm.MethodName) method_15_code (6 : Nat) (Option.some Jvm.ClassFile.FieldType.int) [((0 : Nat), (12 : Nat), (15 : Nat), (19 : Nat)), ((0 : Nat), (12 : Nat), (19 : Nat), (21 : Nat)), ((0 : Nat), (12 : Nat), (23 : Nat), (13 : Nat))]) ∈ lw_all := lw_g (lw_at lw_m5 168 rfl) rfl
theorem q1170 : (Jvm.Cond.methodLink "PhrasehallLaw" (58 : Nat) ({ cls := "Phrasehall", name := "wins", desc := "(III)I" } : Jvm.MethodName)) ∈ lw_all := lw_g (lw_at lw_m5 169 rfl) rfl
theorem q1178 : (Jvm.Cond.methodLink "PhrasehallLaw" (134 : Nat) ({ cls := "PhrasehallLaw", name := "lamp", desc := "(LPhrasehall;I[J)I" } : Jvm.MethodName)) ∈ lw_all := lw_g (lw_at lw_m5 177 rfl) rfl
theorem q1179 : (Jvm.Cond.static ({ cls := "PhrasehallLaw", name := "lamp", desc := "(LPhrasehall;I[J)I" } : Jvm.MethodName)) ∈ lw_all := lw_g (lw_at lw_m5 178 rfl) rfl
theorem q1180 : (Jvm.Cond.codeWith ({ cls := "PhrasehallLaw", name := "lamp", desc := "(LPhrasehall;I[J)I" } : Jvm.MethodName) method_16_code (4 : Nat) (Option.some Jvm.ClassFile.FieldType.int) [((0 : Nat), (9 : Nat), (12 : Nat), (21 : Nat))]) ∈ lw_all := lw_g (lw_at lw_m5 179 rfl) rfl
theorem q1181 : (Jvm.Cond.methodLink "PhrasehallLaw" (61 : Nat) ({ cls := "Phrasehall", name := "lamp", desc := "(I)I" } : Jvm.MethodName)) ∈ lw_all := lw_g (lw_at lw_m5 180 rfl) rfl
theorem q1185 : (Jvm.Cond.methodLink "PhrasehallLaw" (145 : Nat) ({ cls := "PhrasehallLaw", name := "ofBout", desc := "(LPhrasehall;II[J)I" } : Jvm.MethodName)) ∈ lw_all := lw_g (lw_at lw_m5 184 rfl) rfl
theorem q1186 : (Jvm.Cond.static ({ cls := "PhrasehallLaw", name := "ofBout", desc := "(LPhrasehall;II[J)I" } : Jvm.MethodName)) ∈ lw_all := lw_g (lw_at lw_m5 185 rfl) rfl
theorem q1187 : (Jvm.Cond.codeWith ({ cls := "PhrasehallLaw", name := "ofBout", desc := "(LPhrasehall;II[J)I" } : Jvm.MethodName) method_17_code (5 : Nat) (Option.some Jvm.ClassFile.FieldType.int) [((0 : Nat), (10 : Nat), (13 : Nat), (19 : Nat)), ((0 : Nat), (10 : Nat), (17 : Nat), (21 : Nat))]) ∈ lw_all := lw_g (lw_at lw_m5 186 rfl) rfl
theorem q1188 : (Jvm.Cond.methodLink "PhrasehallLaw" (64 : Nat) ({ cls := "Phrasehall", name := "ofBout", desc := "(II)I" } : Jvm.MethodName)) ∈ lw_all := lw_g (lw_at lw_m5 187 rfl) rfl
theorem q1192 : (Jvm.Cond.methodLink "PhrasehallLaw" (148 : Nat) ({ cls := "PhrasehallLaw", name := "ofPool", desc := "(LPhrasehall;III[J)I" } : Jvm.MethodName)) ∈ lw_all := lw_g (lw_at lw_m5 191 rfl) rfl
theorem q1193 : (Jvm.Cond.static ({ cls := "PhrasehallLaw", name := "ofPool", desc := "(LPhrasehall;III[J)I" } : Jvm.MethodName)) ∈ lw_all := lw_g (lw_at lw_m5 192 rfl) rfl
theorem q1194 : (Jvm.Cond.codeWith ({ cls := "PhrasehallLaw", name := "ofPool", desc := "(LPhrasehall;III[J)I" } : Jvm.MethodName) method_18_code (6 : Nat) (Option.some Jvm.ClassFile.FieldType.int) [((0 : Nat), (12 : Nat), (15 : Nat), (19 : Nat)), ((0 : Nat), (12 : Nat), (19 : Nat), (21 : Nat))]) ∈ lw_all := lw_g (lw_at lw_m5 193 rfl) rfl
theorem q1195 : (Jvm.Cond.methodLink "PhrasehallLaw" (67 : Nat) ({ cls := "Phrasehall", name := "ofPool", desc := "(III)I" } : Jvm.MethodName)) ∈ lw_all := lw_g (lw_at lw_m5 194 rfl) rfl
theorem q1203 : (Jvm.Cond.methodLink "PhrasehallLaw" (151 : Nat) ({ cls := "PhrasehallLaw", name := "ofPoolAnew", desc := "(LPhrasehall;III[J)I" } : Jvm.MethodName)) ∈ lw_all := lw_g (lw_at lw_m5 202 rfl) rfl
theorem q1204 : (Jvm.Cond.static ({ cls := "PhrasehallLaw", name := "ofPoolAnew", desc := "(LPhrasehall;III[J)I" } : Jvm.MethodName)) ∈ lw_all := lw_g (lw_at lw_m5 203 rfl) rfl
theorem q1205 : (Jvm.Cond.codeWith ({ cls := "PhrasehallLaw", name := "ofPoolAnew", desc := "(LPhrasehall;III[J)I" } : Jvm.MethodName) method_19_code (6 : Nat) (Option.some Jvm.ClassFile.FieldType.int) [((0 : Nat), (12 : Nat), (15 : Nat), (19 : Nat)), ((0 : Nat), (12 : Nat), (19 : Nat), (21 : Nat))]) ∈ lw_all := lw_g (lw_at lw_m5 204 rfl) rfl
theorem q1206 : (Jvm.Cond.methodLink "PhrasehallLaw" (70 : Nat) ({ cls := "Phrasehall", name := "ofPoolAnew", desc := "(III)I" } : Jvm.MethodName)) ∈ lw_all := lw_g (lw_at lw_m5 205 rfl) rfl
theorem q1213 : (Jvm.Cond.methodLink "PhrasehallLaw" (154 : Nat) ({ cls := "PhrasehallLaw", name := "rank", desc := "(LPhrasehall;II[J)I" } : Jvm.MethodName)) ∈ lw_all := lw_g (lw_at lw_m5 212 rfl) rfl
theorem q1214 : (Jvm.Cond.static ({ cls := "PhrasehallLaw", name := "rank", desc := "(LPhrasehall;II[J)I" } : Jvm.MethodName)) ∈ lw_all := lw_g (lw_at lw_m5 213 rfl) rfl
theorem q1215 : (Jvm.Cond.codeWith ({ cls := "PhrasehallLaw", name := "rank", desc := "(LPhrasehall;II[J)I" } : Jvm.MethodName) method_20_code (5 : Nat) (Option.some Jvm.ClassFile.FieldType.int) [((0 : Nat), (10 : Nat), (13 : Nat), (19 : Nat))]) ∈ lw_all := lw_g (lw_at lw_m5 214 rfl) rfl
theorem q1216 : (Jvm.Cond.methodLink "PhrasehallLaw" (73 : Nat) ({ cls := "Phrasehall", name := "rank", desc := "(II)I" } : Jvm.MethodName)) ∈ lw_all := lw_g (lw_at lw_m5 215 rfl) rfl
theorem q1220 : (Jvm.Cond.methodLink "PhrasehallLaw" (157 : Nat) ({ cls := "PhrasehallLaw", name := "meets", desc := "(LPhrasehall;III[J)I" } : Jvm.MethodName)) ∈ lw_all := lw_g (lw_at lw_m5 219 rfl) rfl
theorem q1221 : (Jvm.Cond.static ({ cls := "PhrasehallLaw", name := "meets", desc := "(LPhrasehall;III[J)I" } : Jvm.MethodName)) ∈ lw_all := lw_g (lw_at lw_m5 220 rfl) rfl
theorem q1222 : (Jvm.Cond.codeWith ({ cls := "PhrasehallLaw", name := "meets", desc := "(LPhrasehall;III[J)I" } : Jvm.MethodName) method_21_code (6 : Nat) (Option.some Jvm.ClassFile.FieldType.int) [((0 : Nat), (12 : Nat), (15 : Nat), (19 : Nat)), ((0 : Nat), (12 : Nat), (19 : Nat), (21 : Nat))]) ∈ lw_all := lw_g (lw_at lw_m5 221 rfl) rfl
theorem q1223 : (Jvm.Cond.methodLink "PhrasehallLaw" (76 : Nat) ({ cls := "Phrasehall", name := "meets", desc := "(III)I" } : Jvm.MethodName)) ∈ lw_all := lw_g (lw_at lw_m5 222 rfl) rfl
theorem q1227 : (Jvm.Cond.classLink "PhrasehallLaw" (80 : Nat) "PhrasehallModel") ∈ lw_all := lw_g (lw_at lw_m5 226 rfl) rfl
theorem q1229 : (Jvm.Cond.methodLink "PhrasehallLaw" (82 : Nat) ({ cls := "PhrasehallModel", name := "<init>", desc := "()V" } : Jvm.MethodName)) ∈ lw_all := lw_g (lw_at lw_m5 228 rfl) rfl
theorem q1330 : (Jvm.Cond.methodLink "PhrasehallLaw" (89 : Nat) ({ cls := "PhrasehallModel", name := "thrown", desc := "()I" } : Jvm.MethodName)) ∈ lw_all := lw_g (lw_at lw_m6 89 rfl) rfl
theorem q1334 : (Jvm.Cond.methodLink "PhrasehallLaw" (88 : Nat) ({ cls := "PhrasehallModel", name := "fencer", desc := "()I" } : Jvm.MethodName)) ∈ lw_all := lw_g (lw_at lw_m6 93 rfl) rfl
theorem q1338 : (Jvm.Cond.methodLink "PhrasehallLaw" (95 : Nat) ({ cls := "PhrasehallModel", name := "begin", desc := "(IIIII)I" } : Jvm.MethodName)) ∈ lw_all := lw_g (lw_at lw_m6 97 rfl) rfl
theorem q1356 : (Jvm.Cond.methodLink "PhrasehallLaw" (99 : Nat) ({ cls := "PhrasehallModel", name := "act", desc := "(III)I" } : Jvm.MethodName)) ∈ lw_all := lw_g (lw_at lw_m6 115 rfl) rfl
theorem q1372 : (Jvm.Cond.methodLink "PhrasehallLaw" (103 : Nat) ({ cls := "PhrasehallModel", name := "hit", desc := "(IIII)I" } : Jvm.MethodName)) ∈ lw_all := lw_g (lw_at lw_m6 131 rfl) rfl
theorem q1376 : (Jvm.Cond.methodLink "PhrasehallLaw" (106 : Nat) ({ cls := "PhrasehallModel", name := "judge", desc := "()I" } : Jvm.MethodName)) ∈ lw_all := lw_g (lw_at lw_m6 135 rfl) rfl
theorem q1410 : (Jvm.Cond.methodLink "PhrasehallLaw" (110 : Nat) ({ cls := "PhrasehallModel", name := "card", desc := "(II)I" } : Jvm.MethodName)) ∈ lw_all := lw_g (lw_at lw_m6 169 rfl) rfl
theorem q1414 : (Jvm.Cond.methodLink "PhrasehallLaw" (114 : Nat) ({ cls := "PhrasehallModel", name := "clock", desc := "(I)I" } : Jvm.MethodName)) ∈ lw_all := lw_g (lw_at lw_m6 173 rfl) rfl
theorem q1430 : (Jvm.Cond.methodLink "PhrasehallLaw" (117 : Nat) ({ cls := "PhrasehallModel", name := "end", desc := "()I" } : Jvm.MethodName)) ∈ lw_all := lw_g (lw_at lw_m6 189 rfl) rfl
theorem q1434 : (Jvm.Cond.methodLink "PhrasehallLaw" (121 : Nat) ({ cls := "PhrasehallModel", name := "seed", desc := "(I)V" } : Jvm.MethodName)) ∈ lw_all := lw_g (lw_at lw_m6 193 rfl) rfl
theorem q1438 : (Jvm.Cond.methodLink "PhrasehallLaw" (124 : Nat) ({ cls := "PhrasehallModel", name := "pool", desc := "(I)I" } : Jvm.MethodName)) ∈ lw_all := lw_g (lw_at lw_m6 197 rfl) rfl
theorem q1445 : (Jvm.Cond.methodLink "PhrasehallLaw" (127 : Nat) ({ cls := "PhrasehallModel", name := "withdraw", desc := "(II)I" } : Jvm.MethodName)) ∈ lw_all := lw_g (lw_at lw_m6 204 rfl) rfl
theorem q1461 : (Jvm.Cond.methodLink "PhrasehallLaw" (130 : Nat) ({ cls := "PhrasehallModel", name := "tableau", desc := "(I)I" } : Jvm.MethodName)) ∈ lw_all := lw_g (lw_at lw_m6 220 rfl) rfl
theorem q1483 : (Jvm.Cond.methodLink "PhrasehallLaw" (133 : Nat) ({ cls := "PhrasehallModel", name := "wins", desc := "(III)I" } : Jvm.MethodName)) ∈ lw_all := lw_g (lw_at lw_m7 2 rfl) rfl
theorem q1491 : (Jvm.Cond.methodLink "PhrasehallLaw" (136 : Nat) ({ cls := "PhrasehallModel", name := "lamp", desc := "(I)I" } : Jvm.MethodName)) ∈ lw_all := lw_g (lw_at lw_m7 10 rfl) rfl
theorem q1495 : (Jvm.Cond.methodLink "PhrasehallLaw" (140 : Nat) ({ cls := "PhrasehallModel", name := "holder", desc := "()I" } : Jvm.MethodName)) ∈ lw_all := lw_g (lw_at lw_m7 14 rfl) rfl
theorem q1499 : (Jvm.Cond.methodLink "PhrasehallLaw" (144 : Nat) ({ cls := "PhrasehallModel", name := "reason", desc := "()I" } : Jvm.MethodName)) ∈ lw_all := lw_g (lw_at lw_m7 18 rfl) rfl
theorem q1503 : (Jvm.Cond.methodLink "PhrasehallLaw" (147 : Nat) ({ cls := "PhrasehallModel", name := "ofBout", desc := "(II)I" } : Jvm.MethodName)) ∈ lw_all := lw_g (lw_at lw_m7 22 rfl) rfl
theorem q1507 : (Jvm.Cond.methodLink "PhrasehallLaw" (150 : Nat) ({ cls := "PhrasehallModel", name := "ofPool", desc := "(III)I" } : Jvm.MethodName)) ∈ lw_all := lw_g (lw_at lw_m7 26 rfl) rfl
theorem q1515 : (Jvm.Cond.methodLink "PhrasehallLaw" (153 : Nat) ({ cls := "PhrasehallModel", name := "ofPoolAnew", desc := "(III)I" } : Jvm.MethodName)) ∈ lw_all := lw_g (lw_at lw_m7 34 rfl) rfl
theorem q1519 : (Jvm.Cond.methodLink "PhrasehallLaw" (156 : Nat) ({ cls := "PhrasehallModel", name := "rank", desc := "(II)I" } : Jvm.MethodName)) ∈ lw_all := lw_g (lw_at lw_m7 38 rfl) rfl
theorem q1523 : (Jvm.Cond.methodLink "PhrasehallLaw" (159 : Nat) ({ cls := "PhrasehallModel", name := "meets", desc := "(III)I" } : Jvm.MethodName)) ∈ lw_all := lw_g (lw_at lw_m7 42 rfl) rfl
/-! the law's own entry -/
set_option maxRecDepth 100000
abbrev cL_law : ByteArray := code
def dkwL_law_58 : List UInt8 := [4, 172]
abbrev dktL_law_58 : List UInt8 := dkwL_law_58 ++ []
def dkwL_law_57 : List UInt8 := [154, 0, 15, 45, 3, 47, 21, 6, 133, 148, 153, 0, 5, 3, 172, 167, 0, 3, 132, 4, 6, 167, 250, 130]
abbrev dktL_law_57 : List UInt8 := dkwL_law_57 ++ dktL_law_58
def dkwL_law_56 : List UInt8 := [21, 4, 6, 96, 46, 182, 0, 159, 54, 6, 44, 182, 0, 89, 21, 5, 159, 0, 5, 3, 172, 21, 5]
abbrev dktL_law_56 : List UInt8 := dkwL_law_56 ++ dktL_law_57
def dkwL_law_55 : List UInt8 := [6, 96, 46, 45, 184, 0, 157, 54, 5, 44, 42, 21, 4, 4, 96, 46, 42, 21, 4, 5, 96, 46, 42]
abbrev dktL_law_55 : List UInt8 := dkwL_law_55 ++ dktL_law_56
def dkwL_law_54 : List UInt8 := [153, 0, 5, 3, 172, 167, 0, 83, 43, 42, 21, 4, 4, 96, 46, 42, 21, 4, 5, 96, 46, 42, 21, 4]
abbrev dktL_law_54 : List UInt8 := dkwL_law_54 ++ dktL_law_55
def dkwL_law_53 : List UInt8 := [182, 0, 89, 21, 5, 159, 0, 5, 3, 172, 21, 5, 154, 0, 15, 45, 3, 47, 21, 6, 133, 148]
abbrev dktL_law_53 : List UInt8 := dkwL_law_53 ++ dktL_law_54
def dkwL_law_52 : List UInt8 := [184, 0, 154, 54, 5, 44, 42, 21, 4, 4, 96, 46, 42, 21, 4, 5, 96, 46, 182, 0, 156, 54, 6, 44]
abbrev dktL_law_52 : List UInt8 := dkwL_law_52 ++ dktL_law_53
def dkwL_law_51 : List UInt8 := [153, 0, 5, 3, 172, 167, 0, 151, 43, 42, 21, 4, 4, 96, 46, 42, 21, 4, 5, 96, 46, 45]
abbrev dktL_law_51 : List UInt8 := dkwL_law_51 ++ dktL_law_52
def dkwL_law_50 : List UInt8 := [182, 0, 89, 21, 5, 159, 0, 5, 3, 172, 21, 5, 154, 0, 15, 45, 3, 47, 21, 6, 133, 148]
abbrev dktL_law_50 : List UInt8 := dkwL_law_50 ++ dktL_law_51
def dkwL_law_49 : List UInt8 := [21, 4, 4, 96, 46, 42, 21, 4, 5, 96, 46, 42, 21, 4, 6, 96, 46, 182, 0, 153, 54, 6, 44]
abbrev dktL_law_49 : List UInt8 := dkwL_law_49 ++ dktL_law_50
def dkwL_law_48 : List UInt8 := [4, 96, 46, 42, 21, 4, 5, 96, 46, 42, 21, 4, 6, 96, 46, 45, 184, 0, 151, 54, 5, 44, 42]
abbrev dktL_law_48 : List UInt8 := dkwL_law_48 ++ dktL_law_49
def dkwL_law_47 : List UInt8 := [21, 5, 154, 0, 15, 45, 3, 47, 21, 6, 133, 148, 153, 0, 5, 3, 172, 167, 0, 231, 43, 42, 21, 4]
abbrev dktL_law_47 : List UInt8 := dkwL_law_47 ++ dktL_law_48
def dkwL_law_46 : List UInt8 := [96, 46, 42, 21, 4, 6, 96, 46, 182, 0, 150, 54, 6, 44, 182, 0, 89, 21, 5, 159, 0, 5, 3, 172]
abbrev dktL_law_46 : List UInt8 := dkwL_law_46 ++ dktL_law_47
def dkwL_law_45 : List UInt8 := [46, 42, 21, 4, 6, 96, 46, 45, 184, 0, 148, 54, 5, 44, 42, 21, 4, 4, 96, 46, 42, 21, 4, 5]
abbrev dktL_law_45 : List UInt8 := dkwL_law_45 ++ dktL_law_46
def dkwL_law_44 : List UInt8 := [21, 6, 133, 148, 153, 0, 5, 3, 172, 167, 1, 55, 43, 42, 21, 4, 4, 96, 46, 42, 21, 4, 5, 96]
abbrev dktL_law_44 : List UInt8 := dkwL_law_44 ++ dktL_law_45
def dkwL_law_43 : List UInt8 := [182, 0, 147, 54, 6, 44, 182, 0, 89, 21, 5, 159, 0, 5, 3, 172, 21, 5, 154, 0, 15, 45, 3, 47]
abbrev dktL_law_43 : List UInt8 := dkwL_law_43 ++ dktL_law_44
def dkwL_law_42 : List UInt8 := [5, 96, 46, 45, 184, 0, 145, 54, 5, 44, 42, 21, 4, 4, 96, 46, 42, 21, 4, 5, 96, 46]
abbrev dktL_law_42 : List UInt8 := dkwL_law_42 ++ dktL_law_43
def dkwL_law_41 : List UInt8 := [172, 43, 182, 0, 141, 44, 182, 0, 144, 159, 1, 125, 3, 172, 43, 42, 21, 4, 4, 96, 46, 42, 21, 4]
abbrev dktL_law_41 : List UInt8 := dkwL_law_41 ++ dktL_law_42
def dkwL_law_40 : List UInt8 := [21, 6, 133, 148, 153, 0, 5, 3, 172, 167, 1, 149, 43, 182, 0, 137, 44, 182, 0, 140, 159, 1, 138, 3]
abbrev dktL_law_40 : List UInt8 := dkwL_law_40 ++ dktL_law_41
def dkwL_law_39 : List UInt8 := [182, 0, 136, 54, 6, 44, 182, 0, 89, 21, 5, 159, 0, 5, 3, 172, 21, 5, 154, 0, 15, 45, 3, 47]
abbrev dktL_law_39 : List UInt8 := dkwL_law_39 ++ dktL_law_40
def dkwL_law_38 : List UInt8 := [167, 1, 205, 43, 42, 21, 4, 4, 96, 46, 45, 184, 0, 134, 54, 5, 44, 42, 21, 4, 4, 96, 46]
abbrev dktL_law_38 : List UInt8 := dkwL_law_38 ++ dktL_law_39
def dkwL_law_37 : List UInt8 := [21, 5, 159, 0, 5, 3, 172, 21, 5, 154, 0, 15, 45, 3, 47, 21, 6, 133, 148, 153, 0, 5, 3, 172]
abbrev dktL_law_37 : List UInt8 := dkwL_law_37 ++ dktL_law_38
def dkwL_law_36 : List UInt8 := [96, 46, 42, 21, 4, 5, 96, 46, 42, 21, 4, 6, 96, 46, 182, 0, 133, 54, 6, 44, 182, 0, 89]
abbrev dktL_law_36 : List UInt8 := dkwL_law_36 ++ dktL_law_37
def dkwL_law_35 : List UInt8 := [46, 42, 21, 4, 5, 96, 46, 42, 21, 4, 6, 96, 46, 45, 184, 0, 131, 54, 5, 44, 42, 21, 4, 4]
abbrev dktL_law_35 : List UInt8 := dkwL_law_35 ++ dktL_law_36
def dkwL_law_34 : List UInt8 := [154, 0, 15, 45, 3, 47, 21, 6, 133, 148, 153, 0, 5, 3, 172, 167, 2, 29, 43, 42, 21, 4, 4, 96]
abbrev dktL_law_34 : List UInt8 := dkwL_law_34 ++ dktL_law_35
def dkwL_law_33 : List UInt8 := [21, 4, 4, 96, 46, 182, 0, 130, 54, 6, 44, 182, 0, 89, 21, 5, 159, 0, 5, 3, 172, 21, 5]
abbrev dktL_law_33 : List UInt8 := dkwL_law_33 ++ dktL_law_34
def dkwL_law_32 : List UInt8 := [148, 153, 0, 5, 3, 172, 167, 2, 85, 43, 42, 21, 4, 4, 96, 46, 45, 184, 0, 128, 54, 5, 44, 42]
abbrev dktL_law_32 : List UInt8 := dkwL_law_32 ++ dktL_law_33
def dkwL_law_31 : List UInt8 := [54, 6, 44, 182, 0, 89, 21, 5, 159, 0, 5, 3, 172, 21, 5, 154, 0, 15, 45, 3, 47, 21, 6, 133]
abbrev dktL_law_31 : List UInt8 := dkwL_law_31 ++ dktL_law_32
def dkwL_law_30 : List UInt8 := [96, 46, 45, 184, 0, 125, 54, 5, 44, 42, 21, 4, 4, 96, 46, 42, 21, 4, 5, 96, 46, 182, 0, 127]
abbrev dktL_law_30 : List UInt8 := dkwL_law_30 ++ dktL_law_31
def dkwL_law_29 : List UInt8 := [47, 21, 6, 133, 148, 153, 0, 5, 3, 172, 167, 2, 153, 43, 42, 21, 4, 4, 96, 46, 42, 21, 4, 5]
abbrev dktL_law_29 : List UInt8 := dkwL_law_29 ++ dktL_law_30
def dkwL_law_28 : List UInt8 := [46, 182, 0, 124, 54, 6, 44, 182, 0, 89, 21, 5, 159, 0, 5, 3, 172, 21, 5, 154, 0, 15, 45, 3]
abbrev dktL_law_28 : List UInt8 := dkwL_law_28 ++ dktL_law_29
def dkwL_law_27 : List UInt8 := [3, 172, 167, 2, 209, 43, 42, 21, 4, 4, 96, 46, 45, 184, 0, 122, 54, 5, 44, 42, 21, 4, 4, 96]
abbrev dktL_law_27 : List UInt8 := dkwL_law_27 ++ dktL_law_28
def dkwL_law_26 : List UInt8 := [184, 0, 118, 54, 5, 44, 42, 21, 4, 4, 96, 46, 182, 0, 121, 44, 182, 0, 89, 21, 5, 159, 0, 5]
abbrev dktL_law_26 : List UInt8 := dkwL_law_26 ++ dktL_law_27
def dkwL_law_25 : List UInt8 := [45, 3, 47, 21, 6, 133, 148, 153, 0, 5, 3, 172, 167, 2, 245, 43, 42, 21, 4, 4, 96, 46]
abbrev dktL_law_25 : List UInt8 := dkwL_law_25 ++ dktL_law_26
def dkwL_law_24 : List UInt8 := [54, 5, 44, 182, 0, 117, 54, 6, 44, 182, 0, 89, 21, 5, 159, 0, 5, 3, 172, 21, 5, 154, 0, 15]
abbrev dktL_law_24 : List UInt8 := dkwL_law_24 ++ dktL_law_25
def dkwL_law_23 : List UInt8 := [154, 0, 15, 45, 3, 47, 21, 6, 133, 148, 153, 0, 5, 3, 172, 167, 3, 33, 43, 45, 184, 0, 115]
abbrev dktL_law_23 : List UInt8 := dkwL_law_23 ++ dktL_law_24
def dkwL_law_22 : List UInt8 := [21, 4, 4, 96, 46, 182, 0, 114, 54, 6, 44, 182, 0, 89, 21, 5, 159, 0, 5, 3, 172, 21, 5]
abbrev dktL_law_22 : List UInt8 := dkwL_law_22 ++ dktL_law_23
def dkwL_law_21 : List UInt8 := [148, 153, 0, 5, 3, 172, 167, 3, 89, 43, 42, 21, 4, 4, 96, 46, 45, 184, 0, 111, 54, 5, 44, 42]
abbrev dktL_law_21 : List UInt8 := dkwL_law_21 ++ dktL_law_22
def dkwL_law_20 : List UInt8 := [54, 6, 44, 182, 0, 89, 21, 5, 159, 0, 5, 3, 172, 21, 5, 154, 0, 15, 45, 3, 47, 21, 6, 133]
abbrev dktL_law_20 : List UInt8 := dkwL_law_20 ++ dktL_law_21
def dkwL_law_19 : List UInt8 := [46, 45, 184, 0, 107, 54, 5, 44, 42, 21, 4, 4, 96, 46, 42, 21, 4, 5, 96, 46, 182, 0, 110]
abbrev dktL_law_19 : List UInt8 := dkwL_law_19 ++ dktL_law_20
def dkwL_law_18 : List UInt8 := [21, 6, 133, 148, 153, 0, 5, 3, 172, 167, 3, 157, 43, 42, 21, 4, 4, 96, 46, 42, 21, 4, 5, 96]
abbrev dktL_law_18 : List UInt8 := dkwL_law_18 ++ dktL_law_19
def dkwL_law_17 : List UInt8 := [182, 0, 106, 54, 6, 44, 182, 0, 89, 21, 5, 159, 0, 5, 3, 172, 21, 5, 154, 0, 15, 45, 3, 47]
abbrev dktL_law_17 : List UInt8 := dkwL_law_17 ++ dktL_law_18
def dkwL_law_16 : List UInt8 := [45, 3, 47, 21, 6, 133, 148, 153, 0, 5, 3, 172, 167, 3, 201, 43, 45, 184, 0, 104, 54, 5, 44]
abbrev dktL_law_16 : List UInt8 := dkwL_law_16 ++ dktL_law_17
def dkwL_law_15 : List UInt8 := [7, 96, 46, 182, 0, 103, 54, 6, 44, 182, 0, 89, 21, 5, 159, 0, 5, 3, 172, 21, 5, 154, 0, 15]
abbrev dktL_law_15 : List UInt8 := dkwL_law_15 ++ dktL_law_16
def dkwL_law_14 : List UInt8 := [54, 5, 44, 42, 21, 4, 4, 96, 46, 42, 21, 4, 5, 96, 46, 42, 21, 4, 6, 96, 46, 42, 21, 4]
abbrev dktL_law_14 : List UInt8 := dkwL_law_14 ++ dktL_law_15
def dkwL_law_13 : List UInt8 := [46, 42, 21, 4, 5, 96, 46, 42, 21, 4, 6, 96, 46, 42, 21, 4, 7, 96, 46, 45, 184, 0, 100]
abbrev dktL_law_13 : List UInt8 := dkwL_law_13 ++ dktL_law_14
def dkwL_law_12 : List UInt8 := [154, 0, 15, 45, 3, 47, 21, 6, 133, 148, 153, 0, 5, 3, 172, 167, 4, 37, 43, 42, 21, 4, 4, 96]
abbrev dktL_law_12 : List UInt8 := dkwL_law_12 ++ dktL_law_13
def dkwL_law_11 : List UInt8 := [21, 4, 6, 96, 46, 182, 0, 99, 54, 6, 44, 182, 0, 89, 21, 5, 159, 0, 5, 3, 172, 21, 5]
abbrev dktL_law_11 : List UInt8 := dkwL_law_11 ++ dktL_law_12
def dkwL_law_10 : List UInt8 := [6, 96, 46, 45, 184, 0, 96, 54, 5, 44, 42, 21, 4, 4, 96, 46, 42, 21, 4, 5, 96, 46, 42]
abbrev dktL_law_10 : List UInt8 := dkwL_law_10 ++ dktL_law_11
def dkwL_law_9 : List UInt8 := [153, 0, 5, 3, 172, 167, 4, 117, 43, 42, 21, 4, 4, 96, 46, 42, 21, 4, 5, 96, 46, 42, 21, 4]
abbrev dktL_law_9 : List UInt8 := dkwL_law_9 ++ dktL_law_10
def dkwL_law_8 : List UInt8 := [182, 0, 89, 21, 5, 159, 0, 5, 3, 172, 21, 5, 154, 0, 15, 45, 3, 47, 21, 6, 133, 148]
abbrev dktL_law_8 : List UInt8 := dkwL_law_8 ++ dktL_law_9
def dkwL_law_7 : List UInt8 := [21, 4, 6, 96, 46, 42, 21, 4, 7, 96, 46, 42, 21, 4, 8, 96, 46, 182, 0, 95, 54, 6, 44]
abbrev dktL_law_7 : List UInt8 := dkwL_law_7 ++ dktL_law_8
def dkwL_law_6 : List UInt8 := [8, 96, 46, 45, 184, 0, 92, 54, 5, 44, 42, 21, 4, 4, 96, 46, 42, 21, 4, 5, 96, 46, 42]
abbrev dktL_law_6 : List UInt8 := dkwL_law_6 ++ dktL_law_7
def dkwL_law_5 : List UInt8 := [4, 96, 46, 42, 21, 4, 5, 96, 46, 42, 21, 4, 6, 96, 46, 42, 21, 4, 7, 96, 46, 42, 21, 4]
abbrev dktL_law_5 : List UInt8 := dkwL_law_5 ++ dktL_law_6
def dkwL_law_4 : List UInt8 := [21, 5, 154, 0, 15, 45, 3, 47, 21, 6, 133, 148, 153, 0, 5, 3, 172, 167, 4, 221, 43, 42, 21, 4]
abbrev dktL_law_4 : List UInt8 := dkwL_law_4 ++ dktL_law_5
def dkwL_law_3 : List UInt8 := [43, 45, 184, 0, 83, 54, 5, 44, 182, 0, 88, 54, 6, 44, 182, 0, 89, 21, 5, 159, 0, 5, 3, 172]
abbrev dktL_law_3 : List UInt8 := dkwL_law_3 ++ dktL_law_4
def dkwL_law_2 : List UInt8 := [170, 0, 0, 0, 0, 0, 5, 106, 0, 0, 0, 0, 0, 0, 0, 20, 0, 0, 0, 100, 0, 0, 0, 144, 0, 0, 0, 248, 0, 0, 1, 72, 0, 0, 1, 164, 0, 0, 1, 208, 0, 0, 2, 20, 0, 0, 2, 76, 0, 0, 2, 120, 0, 0, 2, 156, 0, 0, 2, 212, 0, 0, 3, 24, 0, 0, 3, 80, 0, 0, 3, 160, 0, 0, 3, 216, 0, 0, 3, 229, 0, 0, 3, 242, 0, 0, 4, 54, 0, 0, 4, 134, 0, 0, 4, 214, 0, 0, 5, 26]
abbrev dktL_law_2 : List UInt8 := dkwL_law_2 ++ dktL_law_3
def dkwL_law_1 : List UInt8 := [21, 4, 42, 190, 16, 6, 100, 163, 5, 122, 42, 21, 4, 46, 16, 31, 126]
abbrev dktL_law_1 : List UInt8 := dkwL_law_1 ++ dktL_law_2
def dkwL_law_0 : List UInt8 := [187, 0, 8, 89, 183, 0, 79, 76, 187, 0, 80, 89, 183, 0, 82, 77, 4, 188, 11, 78, 3, 54, 4]
abbrev dktL_law_0 : List UInt8 := dkwL_law_0 ++ dktL_law_1
theorem dksL_law_0 : cL_law.data.toList.drop 0 = dktL_law_0 := by decide +kernel
theorem dksL_law_1 : cL_law.data.toList.drop 23 = dktL_law_1 := dk_seg dksL_law_0 23 rfl rfl
theorem dksL_law_2 : cL_law.data.toList.drop 40 = dktL_law_2 := dk_seg dksL_law_1 17 rfl rfl
theorem dksL_law_3 : cL_law.data.toList.drop 140 = dktL_law_3 := dk_seg dksL_law_2 100 rfl rfl
theorem dksL_law_4 : cL_law.data.toList.drop 164 = dktL_law_4 := dk_seg dksL_law_3 24 rfl rfl
theorem dksL_law_5 : cL_law.data.toList.drop 188 = dktL_law_5 := dk_seg dksL_law_4 24 rfl rfl
theorem dksL_law_6 : cL_law.data.toList.drop 212 = dktL_law_6 := dk_seg dksL_law_5 24 rfl rfl
theorem dksL_law_7 : cL_law.data.toList.drop 235 = dktL_law_7 := dk_seg dksL_law_6 23 rfl rfl
theorem dksL_law_8 : cL_law.data.toList.drop 258 = dktL_law_8 := dk_seg dksL_law_7 23 rfl rfl
theorem dksL_law_9 : cL_law.data.toList.drop 280 = dktL_law_9 := dk_seg dksL_law_8 22 rfl rfl
theorem dksL_law_10 : cL_law.data.toList.drop 304 = dktL_law_10 := dk_seg dksL_law_9 24 rfl rfl
theorem dksL_law_11 : cL_law.data.toList.drop 327 = dktL_law_11 := dk_seg dksL_law_10 23 rfl rfl
theorem dksL_law_12 : cL_law.data.toList.drop 350 = dktL_law_12 := dk_seg dksL_law_11 23 rfl rfl
theorem dksL_law_13 : cL_law.data.toList.drop 374 = dktL_law_13 := dk_seg dksL_law_12 24 rfl rfl
theorem dksL_law_14 : cL_law.data.toList.drop 397 = dktL_law_14 := dk_seg dksL_law_13 23 rfl rfl
theorem dksL_law_15 : cL_law.data.toList.drop 421 = dktL_law_15 := dk_seg dksL_law_14 24 rfl rfl
theorem dksL_law_16 : cL_law.data.toList.drop 445 = dktL_law_16 := dk_seg dksL_law_15 24 rfl rfl
theorem dksL_law_17 : cL_law.data.toList.drop 468 = dktL_law_17 := dk_seg dksL_law_16 23 rfl rfl
theorem dksL_law_18 : cL_law.data.toList.drop 492 = dktL_law_18 := dk_seg dksL_law_17 24 rfl rfl
theorem dksL_law_19 : cL_law.data.toList.drop 516 = dktL_law_19 := dk_seg dksL_law_18 24 rfl rfl
theorem dksL_law_20 : cL_law.data.toList.drop 539 = dktL_law_20 := dk_seg dksL_law_19 23 rfl rfl
theorem dksL_law_21 : cL_law.data.toList.drop 563 = dktL_law_21 := dk_seg dksL_law_20 24 rfl rfl
theorem dksL_law_22 : cL_law.data.toList.drop 587 = dktL_law_22 := dk_seg dksL_law_21 24 rfl rfl
theorem dksL_law_23 : cL_law.data.toList.drop 610 = dktL_law_23 := dk_seg dksL_law_22 23 rfl rfl
theorem dksL_law_24 : cL_law.data.toList.drop 633 = dktL_law_24 := dk_seg dksL_law_23 23 rfl rfl
theorem dksL_law_25 : cL_law.data.toList.drop 657 = dktL_law_25 := dk_seg dksL_law_24 24 rfl rfl
theorem dksL_law_26 : cL_law.data.toList.drop 679 = dktL_law_26 := dk_seg dksL_law_25 22 rfl rfl
theorem dksL_law_27 : cL_law.data.toList.drop 703 = dktL_law_27 := dk_seg dksL_law_26 24 rfl rfl
theorem dksL_law_28 : cL_law.data.toList.drop 727 = dktL_law_28 := dk_seg dksL_law_27 24 rfl rfl
theorem dksL_law_29 : cL_law.data.toList.drop 751 = dktL_law_29 := dk_seg dksL_law_28 24 rfl rfl
theorem dksL_law_30 : cL_law.data.toList.drop 775 = dktL_law_30 := dk_seg dksL_law_29 24 rfl rfl
theorem dksL_law_31 : cL_law.data.toList.drop 799 = dktL_law_31 := dk_seg dksL_law_30 24 rfl rfl
theorem dksL_law_32 : cL_law.data.toList.drop 823 = dktL_law_32 := dk_seg dksL_law_31 24 rfl rfl
theorem dksL_law_33 : cL_law.data.toList.drop 847 = dktL_law_33 := dk_seg dksL_law_32 24 rfl rfl
theorem dksL_law_34 : cL_law.data.toList.drop 870 = dktL_law_34 := dk_seg dksL_law_33 23 rfl rfl
theorem dksL_law_35 : cL_law.data.toList.drop 894 = dktL_law_35 := dk_seg dksL_law_34 24 rfl rfl
theorem dksL_law_36 : cL_law.data.toList.drop 918 = dktL_law_36 := dk_seg dksL_law_35 24 rfl rfl
theorem dksL_law_37 : cL_law.data.toList.drop 941 = dktL_law_37 := dk_seg dksL_law_36 23 rfl rfl
theorem dksL_law_38 : cL_law.data.toList.drop 965 = dktL_law_38 := dk_seg dksL_law_37 24 rfl rfl
theorem dksL_law_39 : cL_law.data.toList.drop 988 = dktL_law_39 := dk_seg dksL_law_38 23 rfl rfl
theorem dksL_law_40 : cL_law.data.toList.drop 1012 = dktL_law_40 := dk_seg dksL_law_39 24 rfl rfl
theorem dksL_law_41 : cL_law.data.toList.drop 1036 = dktL_law_41 := dk_seg dksL_law_40 24 rfl rfl
theorem dksL_law_42 : cL_law.data.toList.drop 1060 = dktL_law_42 := dk_seg dksL_law_41 24 rfl rfl
theorem dksL_law_43 : cL_law.data.toList.drop 1082 = dktL_law_43 := dk_seg dksL_law_42 22 rfl rfl
theorem dksL_law_44 : cL_law.data.toList.drop 1106 = dktL_law_44 := dk_seg dksL_law_43 24 rfl rfl
theorem dksL_law_45 : cL_law.data.toList.drop 1130 = dktL_law_45 := dk_seg dksL_law_44 24 rfl rfl
theorem dksL_law_46 : cL_law.data.toList.drop 1154 = dktL_law_46 := dk_seg dksL_law_45 24 rfl rfl
theorem dksL_law_47 : cL_law.data.toList.drop 1178 = dktL_law_47 := dk_seg dksL_law_46 24 rfl rfl
theorem dksL_law_48 : cL_law.data.toList.drop 1202 = dktL_law_48 := dk_seg dksL_law_47 24 rfl rfl
theorem dksL_law_49 : cL_law.data.toList.drop 1225 = dktL_law_49 := dk_seg dksL_law_48 23 rfl rfl
theorem dksL_law_50 : cL_law.data.toList.drop 1248 = dktL_law_50 := dk_seg dksL_law_49 23 rfl rfl
theorem dksL_law_51 : cL_law.data.toList.drop 1270 = dktL_law_51 := dk_seg dksL_law_50 22 rfl rfl
theorem dksL_law_52 : cL_law.data.toList.drop 1292 = dktL_law_52 := dk_seg dksL_law_51 22 rfl rfl
theorem dksL_law_53 : cL_law.data.toList.drop 1316 = dktL_law_53 := dk_seg dksL_law_52 24 rfl rfl
theorem dksL_law_54 : cL_law.data.toList.drop 1338 = dktL_law_54 := dk_seg dksL_law_53 22 rfl rfl
theorem dksL_law_55 : cL_law.data.toList.drop 1362 = dktL_law_55 := dk_seg dksL_law_54 24 rfl rfl
theorem dksL_law_56 : cL_law.data.toList.drop 1385 = dktL_law_56 := dk_seg dksL_law_55 23 rfl rfl
theorem dksL_law_57 : cL_law.data.toList.drop 1408 = dktL_law_57 := dk_seg dksL_law_56 23 rfl rfl
theorem dksL_law_58 : cL_law.data.toList.drop 1432 = dktL_law_58 := dk_seg dksL_law_57 24 rfl rfl
theorem dL_law_0 : decode cL_law 0 = .ok (.new 8, 3) := dk_187 0 8 (dk_at dksL_law_0 0 rfl rfl)
theorem dL_law_3 : decode cL_law 3 = .ok (.dup, 1) := dk_89 (dk_at dksL_law_0 3 rfl rfl)
theorem dL_law_4 : decode cL_law 4 = .ok (.invokespecial 79, 3) := dk_183 0 79 (dk_at dksL_law_0 4 rfl rfl)
theorem dL_law_7 : decode cL_law 7 = .ok (.astore_n 1, 1) := dk_76 (dk_at dksL_law_0 7 rfl rfl)
theorem dL_law_8 : decode cL_law 8 = .ok (.new 80, 3) := dk_187 0 80 (dk_at dksL_law_0 8 rfl rfl)
theorem dL_law_11 : decode cL_law 11 = .ok (.dup, 1) := dk_89 (dk_at dksL_law_0 11 rfl rfl)
theorem dL_law_12 : decode cL_law 12 = .ok (.invokespecial 82, 3) := dk_183 0 82 (dk_at dksL_law_0 12 rfl rfl)
theorem dL_law_15 : decode cL_law 15 = .ok (.astore_n 2, 1) := dk_77 (dk_at dksL_law_0 15 rfl rfl)
theorem dL_law_16 : decode cL_law 16 = .ok (.iconst 1, 1) := dk_4 (dk_at dksL_law_0 16 rfl rfl)
theorem dL_law_17 : decode cL_law 17 = .ok (.newarray .long, 2) := dk_188_11 (dk_at dksL_law_0 17 rfl rfl)
theorem dL_law_19 : decode cL_law 19 = .ok (.astore_n 3, 1) := dk_78 (dk_at dksL_law_0 19 rfl rfl)
theorem dL_law_20 : decode cL_law 20 = .ok (.iconst 0, 1) := dk_3 (dk_at dksL_law_0 20 rfl rfl)
theorem dL_law_21 : decode cL_law 21 = .ok (.istore 4, 2) := dk_54 4 (dk_at dksL_law_0 21 rfl rfl)
theorem dL_law_23 : decode cL_law 23 = .ok (.iload 4, 2) := dk_21 4 (dk_at dksL_law_1 0 rfl rfl)
theorem dL_law_25 : decode cL_law 25 = .ok (.aload_n 0, 1) := dk_42 (dk_at dksL_law_1 2 rfl rfl)
theorem dL_law_26 : decode cL_law 26 = .ok (.arraylength, 1) := dk_190 (dk_at dksL_law_1 3 rfl rfl)
theorem dL_law_27 : decode cL_law 27 = .ok (.bipush 6, 2) := dk_16 6 (dk_at dksL_law_1 4 rfl rfl)
theorem dL_law_29 : decode cL_law 29 = .ok (.isub, 1) := dk_100 (dk_at dksL_law_1 6 rfl rfl)
theorem dL_law_30 : decode cL_law 30 = .ok (.if_icmp .gt 1402, 3) := dk_163 5 122 (dk_at dksL_law_1 7 rfl rfl)
theorem dL_law_33 : decode cL_law 33 = .ok (.aload_n 0, 1) := dk_42 (dk_at dksL_law_1 10 rfl rfl)
theorem dL_law_34 : decode cL_law 34 = .ok (.iload 4, 2) := dk_21 4 (dk_at dksL_law_1 11 rfl rfl)
theorem dL_law_36 : decode cL_law 36 = .ok (.iaload, 1) := dk_46 (dk_at dksL_law_1 13 rfl rfl)
theorem dL_law_37 : decode cL_law 37 = .ok (.bipush 31, 2) := dk_16 31 (dk_at dksL_law_1 14 rfl rfl)
theorem dL_law_39 : decode cL_law 39 = .ok (.iand, 1) := dk_126 (dk_at dksL_law_1 16 rfl rfl)
theorem dL_law_40 : decode cL_law 40 = .ok (.tableswitch 1386 0 20 #[100, 144, 248, 328, 420, 464, 532, 588, 632, 668, 724, 792, 848, 928, 984, 997, 1010, 1078, 1158, 1238, 1306], 100) := by decide +kernel
theorem dL_law_140 : decode cL_law 140 = .ok (.aload_n 1, 1) := dk_43 (dk_at dksL_law_3 0 rfl rfl)
theorem dL_law_141 : decode cL_law 141 = .ok (.aload_n 3, 1) := dk_45 (dk_at dksL_law_3 1 rfl rfl)
theorem dL_law_142 : decode cL_law 142 = .ok (.invokestatic 83, 3) := dk_184 0 83 (dk_at dksL_law_3 2 rfl rfl)
theorem dL_law_145 : decode cL_law 145 = .ok (.istore 5, 2) := dk_54 5 (dk_at dksL_law_3 5 rfl rfl)
theorem dL_law_147 : decode cL_law 147 = .ok (.aload_n 2, 1) := dk_44 (dk_at dksL_law_3 7 rfl rfl)
theorem dL_law_148 : decode cL_law 148 = .ok (.invokevirtual 88, 3) := dk_182 0 88 (dk_at dksL_law_3 8 rfl rfl)
theorem dL_law_151 : decode cL_law 151 = .ok (.istore 6, 2) := dk_54 6 (dk_at dksL_law_3 11 rfl rfl)
theorem dL_law_153 : decode cL_law 153 = .ok (.aload_n 2, 1) := dk_44 (dk_at dksL_law_3 13 rfl rfl)
theorem dL_law_154 : decode cL_law 154 = .ok (.invokevirtual 89, 3) := dk_182 0 89 (dk_at dksL_law_3 14 rfl rfl)
theorem dL_law_157 : decode cL_law 157 = .ok (.iload 5, 2) := dk_21 5 (dk_at dksL_law_3 17 rfl rfl)
theorem dL_law_159 : decode cL_law 159 = .ok (.if_icmp .eq 5, 3) := dk_159 0 5 (dk_at dksL_law_3 19 rfl rfl)
theorem dL_law_162 : decode cL_law 162 = .ok (.iconst 0, 1) := dk_3 (dk_at dksL_law_3 22 rfl rfl)
theorem dL_law_163 : decode cL_law 163 = .ok (.ireturn, 1) := dk_172 (dk_at dksL_law_3 23 rfl rfl)
theorem dL_law_164 : decode cL_law 164 = .ok (.iload 5, 2) := dk_21 5 (dk_at dksL_law_4 0 rfl rfl)
theorem dL_law_166 : decode cL_law 166 = .ok (.ifCond .ne 15, 3) := dk_154 0 15 (dk_at dksL_law_4 2 rfl rfl)
theorem dL_law_169 : decode cL_law 169 = .ok (.aload_n 3, 1) := dk_45 (dk_at dksL_law_4 5 rfl rfl)
theorem dL_law_170 : decode cL_law 170 = .ok (.iconst 0, 1) := dk_3 (dk_at dksL_law_4 6 rfl rfl)
theorem dL_law_171 : decode cL_law 171 = .ok (.laload, 1) := dk_47 (dk_at dksL_law_4 7 rfl rfl)
theorem dL_law_172 : decode cL_law 172 = .ok (.iload 6, 2) := dk_21 6 (dk_at dksL_law_4 8 rfl rfl)
theorem dL_law_174 : decode cL_law 174 = .ok (.i2l, 1) := dk_133 (dk_at dksL_law_4 10 rfl rfl)
theorem dL_law_175 : decode cL_law 175 = .ok (.lcmp, 1) := dk_148 (dk_at dksL_law_4 11 rfl rfl)
theorem dL_law_176 : decode cL_law 176 = .ok (.ifCond .eq 5, 3) := dk_153 0 5 (dk_at dksL_law_4 12 rfl rfl)
theorem dL_law_179 : decode cL_law 179 = .ok (.iconst 0, 1) := dk_3 (dk_at dksL_law_4 15 rfl rfl)
theorem dL_law_180 : decode cL_law 180 = .ok (.ireturn, 1) := dk_172 (dk_at dksL_law_4 16 rfl rfl)
theorem dL_law_181 : decode cL_law 181 = .ok (.goto 1245, 3) := dk_167 4 221 (dk_at dksL_law_4 17 rfl rfl)
theorem dL_law_184 : decode cL_law 184 = .ok (.aload_n 1, 1) := dk_43 (dk_at dksL_law_4 20 rfl rfl)
theorem dL_law_185 : decode cL_law 185 = .ok (.aload_n 0, 1) := dk_42 (dk_at dksL_law_4 21 rfl rfl)
theorem dL_law_186 : decode cL_law 186 = .ok (.iload 4, 2) := dk_21 4 (dk_at dksL_law_4 22 rfl rfl)
theorem dL_law_188 : decode cL_law 188 = .ok (.iconst 1, 1) := dk_4 (dk_at dksL_law_5 0 rfl rfl)
theorem dL_law_189 : decode cL_law 189 = .ok (.iadd, 1) := dk_96 (dk_at dksL_law_5 1 rfl rfl)
theorem dL_law_190 : decode cL_law 190 = .ok (.iaload, 1) := dk_46 (dk_at dksL_law_5 2 rfl rfl)
theorem dL_law_191 : decode cL_law 191 = .ok (.aload_n 0, 1) := dk_42 (dk_at dksL_law_5 3 rfl rfl)
theorem dL_law_192 : decode cL_law 192 = .ok (.iload 4, 2) := dk_21 4 (dk_at dksL_law_5 4 rfl rfl)
theorem dL_law_194 : decode cL_law 194 = .ok (.iconst 2, 1) := dk_5 (dk_at dksL_law_5 6 rfl rfl)
theorem dL_law_195 : decode cL_law 195 = .ok (.iadd, 1) := dk_96 (dk_at dksL_law_5 7 rfl rfl)
theorem dL_law_196 : decode cL_law 196 = .ok (.iaload, 1) := dk_46 (dk_at dksL_law_5 8 rfl rfl)
theorem dL_law_197 : decode cL_law 197 = .ok (.aload_n 0, 1) := dk_42 (dk_at dksL_law_5 9 rfl rfl)
theorem dL_law_198 : decode cL_law 198 = .ok (.iload 4, 2) := dk_21 4 (dk_at dksL_law_5 10 rfl rfl)
theorem dL_law_200 : decode cL_law 200 = .ok (.iconst 3, 1) := dk_6 (dk_at dksL_law_5 12 rfl rfl)
theorem dL_law_201 : decode cL_law 201 = .ok (.iadd, 1) := dk_96 (dk_at dksL_law_5 13 rfl rfl)
theorem dL_law_202 : decode cL_law 202 = .ok (.iaload, 1) := dk_46 (dk_at dksL_law_5 14 rfl rfl)
theorem dL_law_203 : decode cL_law 203 = .ok (.aload_n 0, 1) := dk_42 (dk_at dksL_law_5 15 rfl rfl)
theorem dL_law_204 : decode cL_law 204 = .ok (.iload 4, 2) := dk_21 4 (dk_at dksL_law_5 16 rfl rfl)
theorem dL_law_206 : decode cL_law 206 = .ok (.iconst 4, 1) := dk_7 (dk_at dksL_law_5 18 rfl rfl)
theorem dL_law_207 : decode cL_law 207 = .ok (.iadd, 1) := dk_96 (dk_at dksL_law_5 19 rfl rfl)
theorem dL_law_208 : decode cL_law 208 = .ok (.iaload, 1) := dk_46 (dk_at dksL_law_5 20 rfl rfl)
theorem dL_law_209 : decode cL_law 209 = .ok (.aload_n 0, 1) := dk_42 (dk_at dksL_law_5 21 rfl rfl)
theorem dL_law_210 : decode cL_law 210 = .ok (.iload 4, 2) := dk_21 4 (dk_at dksL_law_5 22 rfl rfl)
theorem dL_law_212 : decode cL_law 212 = .ok (.iconst 5, 1) := dk_8 (dk_at dksL_law_6 0 rfl rfl)
theorem dL_law_213 : decode cL_law 213 = .ok (.iadd, 1) := dk_96 (dk_at dksL_law_6 1 rfl rfl)
theorem dL_law_214 : decode cL_law 214 = .ok (.iaload, 1) := dk_46 (dk_at dksL_law_6 2 rfl rfl)
theorem dL_law_215 : decode cL_law 215 = .ok (.aload_n 3, 1) := dk_45 (dk_at dksL_law_6 3 rfl rfl)
theorem dL_law_216 : decode cL_law 216 = .ok (.invokestatic 92, 3) := dk_184 0 92 (dk_at dksL_law_6 4 rfl rfl)
theorem dL_law_219 : decode cL_law 219 = .ok (.istore 5, 2) := dk_54 5 (dk_at dksL_law_6 7 rfl rfl)
theorem dL_law_221 : decode cL_law 221 = .ok (.aload_n 2, 1) := dk_44 (dk_at dksL_law_6 9 rfl rfl)
theorem dL_law_222 : decode cL_law 222 = .ok (.aload_n 0, 1) := dk_42 (dk_at dksL_law_6 10 rfl rfl)
theorem dL_law_223 : decode cL_law 223 = .ok (.iload 4, 2) := dk_21 4 (dk_at dksL_law_6 11 rfl rfl)
theorem dL_law_225 : decode cL_law 225 = .ok (.iconst 1, 1) := dk_4 (dk_at dksL_law_6 13 rfl rfl)
theorem dL_law_226 : decode cL_law 226 = .ok (.iadd, 1) := dk_96 (dk_at dksL_law_6 14 rfl rfl)
theorem dL_law_227 : decode cL_law 227 = .ok (.iaload, 1) := dk_46 (dk_at dksL_law_6 15 rfl rfl)
theorem dL_law_228 : decode cL_law 228 = .ok (.aload_n 0, 1) := dk_42 (dk_at dksL_law_6 16 rfl rfl)
theorem dL_law_229 : decode cL_law 229 = .ok (.iload 4, 2) := dk_21 4 (dk_at dksL_law_6 17 rfl rfl)
theorem dL_law_231 : decode cL_law 231 = .ok (.iconst 2, 1) := dk_5 (dk_at dksL_law_6 19 rfl rfl)
theorem dL_law_232 : decode cL_law 232 = .ok (.iadd, 1) := dk_96 (dk_at dksL_law_6 20 rfl rfl)
theorem dL_law_233 : decode cL_law 233 = .ok (.iaload, 1) := dk_46 (dk_at dksL_law_6 21 rfl rfl)
theorem dL_law_234 : decode cL_law 234 = .ok (.aload_n 0, 1) := dk_42 (dk_at dksL_law_6 22 rfl rfl)
theorem dL_law_235 : decode cL_law 235 = .ok (.iload 4, 2) := dk_21 4 (dk_at dksL_law_7 0 rfl rfl)
theorem dL_law_237 : decode cL_law 237 = .ok (.iconst 3, 1) := dk_6 (dk_at dksL_law_7 2 rfl rfl)
theorem dL_law_238 : decode cL_law 238 = .ok (.iadd, 1) := dk_96 (dk_at dksL_law_7 3 rfl rfl)
theorem dL_law_239 : decode cL_law 239 = .ok (.iaload, 1) := dk_46 (dk_at dksL_law_7 4 rfl rfl)
theorem dL_law_240 : decode cL_law 240 = .ok (.aload_n 0, 1) := dk_42 (dk_at dksL_law_7 5 rfl rfl)
theorem dL_law_241 : decode cL_law 241 = .ok (.iload 4, 2) := dk_21 4 (dk_at dksL_law_7 6 rfl rfl)
theorem dL_law_243 : decode cL_law 243 = .ok (.iconst 4, 1) := dk_7 (dk_at dksL_law_7 8 rfl rfl)
theorem dL_law_244 : decode cL_law 244 = .ok (.iadd, 1) := dk_96 (dk_at dksL_law_7 9 rfl rfl)
theorem dL_law_245 : decode cL_law 245 = .ok (.iaload, 1) := dk_46 (dk_at dksL_law_7 10 rfl rfl)
theorem dL_law_246 : decode cL_law 246 = .ok (.aload_n 0, 1) := dk_42 (dk_at dksL_law_7 11 rfl rfl)
theorem dL_law_247 : decode cL_law 247 = .ok (.iload 4, 2) := dk_21 4 (dk_at dksL_law_7 12 rfl rfl)
theorem dL_law_249 : decode cL_law 249 = .ok (.iconst 5, 1) := dk_8 (dk_at dksL_law_7 14 rfl rfl)
theorem dL_law_250 : decode cL_law 250 = .ok (.iadd, 1) := dk_96 (dk_at dksL_law_7 15 rfl rfl)
theorem dL_law_251 : decode cL_law 251 = .ok (.iaload, 1) := dk_46 (dk_at dksL_law_7 16 rfl rfl)
theorem dL_law_252 : decode cL_law 252 = .ok (.invokevirtual 95, 3) := dk_182 0 95 (dk_at dksL_law_7 17 rfl rfl)
theorem dL_law_255 : decode cL_law 255 = .ok (.istore 6, 2) := dk_54 6 (dk_at dksL_law_7 20 rfl rfl)
theorem dL_law_257 : decode cL_law 257 = .ok (.aload_n 2, 1) := dk_44 (dk_at dksL_law_7 22 rfl rfl)
theorem dL_law_258 : decode cL_law 258 = .ok (.invokevirtual 89, 3) := dk_182 0 89 (dk_at dksL_law_8 0 rfl rfl)
theorem dL_law_261 : decode cL_law 261 = .ok (.iload 5, 2) := dk_21 5 (dk_at dksL_law_8 3 rfl rfl)
theorem dL_law_263 : decode cL_law 263 = .ok (.if_icmp .eq 5, 3) := dk_159 0 5 (dk_at dksL_law_8 5 rfl rfl)
theorem dL_law_266 : decode cL_law 266 = .ok (.iconst 0, 1) := dk_3 (dk_at dksL_law_8 8 rfl rfl)
theorem dL_law_267 : decode cL_law 267 = .ok (.ireturn, 1) := dk_172 (dk_at dksL_law_8 9 rfl rfl)
theorem dL_law_268 : decode cL_law 268 = .ok (.iload 5, 2) := dk_21 5 (dk_at dksL_law_8 10 rfl rfl)
theorem dL_law_270 : decode cL_law 270 = .ok (.ifCond .ne 15, 3) := dk_154 0 15 (dk_at dksL_law_8 12 rfl rfl)
theorem dL_law_273 : decode cL_law 273 = .ok (.aload_n 3, 1) := dk_45 (dk_at dksL_law_8 15 rfl rfl)
theorem dL_law_274 : decode cL_law 274 = .ok (.iconst 0, 1) := dk_3 (dk_at dksL_law_8 16 rfl rfl)
theorem dL_law_275 : decode cL_law 275 = .ok (.laload, 1) := dk_47 (dk_at dksL_law_8 17 rfl rfl)
theorem dL_law_276 : decode cL_law 276 = .ok (.iload 6, 2) := dk_21 6 (dk_at dksL_law_8 18 rfl rfl)
theorem dL_law_278 : decode cL_law 278 = .ok (.i2l, 1) := dk_133 (dk_at dksL_law_8 20 rfl rfl)
theorem dL_law_279 : decode cL_law 279 = .ok (.lcmp, 1) := dk_148 (dk_at dksL_law_8 21 rfl rfl)
theorem dL_law_280 : decode cL_law 280 = .ok (.ifCond .eq 5, 3) := dk_153 0 5 (dk_at dksL_law_9 0 rfl rfl)
theorem dL_law_283 : decode cL_law 283 = .ok (.iconst 0, 1) := dk_3 (dk_at dksL_law_9 3 rfl rfl)
theorem dL_law_284 : decode cL_law 284 = .ok (.ireturn, 1) := dk_172 (dk_at dksL_law_9 4 rfl rfl)
theorem dL_law_285 : decode cL_law 285 = .ok (.goto 1141, 3) := dk_167 4 117 (dk_at dksL_law_9 5 rfl rfl)
theorem dL_law_288 : decode cL_law 288 = .ok (.aload_n 1, 1) := dk_43 (dk_at dksL_law_9 8 rfl rfl)
theorem dL_law_289 : decode cL_law 289 = .ok (.aload_n 0, 1) := dk_42 (dk_at dksL_law_9 9 rfl rfl)
theorem dL_law_290 : decode cL_law 290 = .ok (.iload 4, 2) := dk_21 4 (dk_at dksL_law_9 10 rfl rfl)
theorem dL_law_292 : decode cL_law 292 = .ok (.iconst 1, 1) := dk_4 (dk_at dksL_law_9 12 rfl rfl)
theorem dL_law_293 : decode cL_law 293 = .ok (.iadd, 1) := dk_96 (dk_at dksL_law_9 13 rfl rfl)
theorem dL_law_294 : decode cL_law 294 = .ok (.iaload, 1) := dk_46 (dk_at dksL_law_9 14 rfl rfl)
theorem dL_law_295 : decode cL_law 295 = .ok (.aload_n 0, 1) := dk_42 (dk_at dksL_law_9 15 rfl rfl)
theorem dL_law_296 : decode cL_law 296 = .ok (.iload 4, 2) := dk_21 4 (dk_at dksL_law_9 16 rfl rfl)
theorem dL_law_298 : decode cL_law 298 = .ok (.iconst 2, 1) := dk_5 (dk_at dksL_law_9 18 rfl rfl)
theorem dL_law_299 : decode cL_law 299 = .ok (.iadd, 1) := dk_96 (dk_at dksL_law_9 19 rfl rfl)
theorem dL_law_300 : decode cL_law 300 = .ok (.iaload, 1) := dk_46 (dk_at dksL_law_9 20 rfl rfl)
theorem dL_law_301 : decode cL_law 301 = .ok (.aload_n 0, 1) := dk_42 (dk_at dksL_law_9 21 rfl rfl)
theorem dL_law_302 : decode cL_law 302 = .ok (.iload 4, 2) := dk_21 4 (dk_at dksL_law_9 22 rfl rfl)
theorem dL_law_304 : decode cL_law 304 = .ok (.iconst 3, 1) := dk_6 (dk_at dksL_law_10 0 rfl rfl)
theorem dL_law_305 : decode cL_law 305 = .ok (.iadd, 1) := dk_96 (dk_at dksL_law_10 1 rfl rfl)
theorem dL_law_306 : decode cL_law 306 = .ok (.iaload, 1) := dk_46 (dk_at dksL_law_10 2 rfl rfl)
theorem dL_law_307 : decode cL_law 307 = .ok (.aload_n 3, 1) := dk_45 (dk_at dksL_law_10 3 rfl rfl)
theorem dL_law_308 : decode cL_law 308 = .ok (.invokestatic 96, 3) := dk_184 0 96 (dk_at dksL_law_10 4 rfl rfl)
theorem dL_law_311 : decode cL_law 311 = .ok (.istore 5, 2) := dk_54 5 (dk_at dksL_law_10 7 rfl rfl)
theorem dL_law_313 : decode cL_law 313 = .ok (.aload_n 2, 1) := dk_44 (dk_at dksL_law_10 9 rfl rfl)
theorem dL_law_314 : decode cL_law 314 = .ok (.aload_n 0, 1) := dk_42 (dk_at dksL_law_10 10 rfl rfl)
theorem dL_law_315 : decode cL_law 315 = .ok (.iload 4, 2) := dk_21 4 (dk_at dksL_law_10 11 rfl rfl)
theorem dL_law_317 : decode cL_law 317 = .ok (.iconst 1, 1) := dk_4 (dk_at dksL_law_10 13 rfl rfl)
theorem dL_law_318 : decode cL_law 318 = .ok (.iadd, 1) := dk_96 (dk_at dksL_law_10 14 rfl rfl)
theorem dL_law_319 : decode cL_law 319 = .ok (.iaload, 1) := dk_46 (dk_at dksL_law_10 15 rfl rfl)
theorem dL_law_320 : decode cL_law 320 = .ok (.aload_n 0, 1) := dk_42 (dk_at dksL_law_10 16 rfl rfl)
theorem dL_law_321 : decode cL_law 321 = .ok (.iload 4, 2) := dk_21 4 (dk_at dksL_law_10 17 rfl rfl)
theorem dL_law_323 : decode cL_law 323 = .ok (.iconst 2, 1) := dk_5 (dk_at dksL_law_10 19 rfl rfl)
theorem dL_law_324 : decode cL_law 324 = .ok (.iadd, 1) := dk_96 (dk_at dksL_law_10 20 rfl rfl)
theorem dL_law_325 : decode cL_law 325 = .ok (.iaload, 1) := dk_46 (dk_at dksL_law_10 21 rfl rfl)
theorem dL_law_326 : decode cL_law 326 = .ok (.aload_n 0, 1) := dk_42 (dk_at dksL_law_10 22 rfl rfl)
theorem dL_law_327 : decode cL_law 327 = .ok (.iload 4, 2) := dk_21 4 (dk_at dksL_law_11 0 rfl rfl)
theorem dL_law_329 : decode cL_law 329 = .ok (.iconst 3, 1) := dk_6 (dk_at dksL_law_11 2 rfl rfl)
theorem dL_law_330 : decode cL_law 330 = .ok (.iadd, 1) := dk_96 (dk_at dksL_law_11 3 rfl rfl)
theorem dL_law_331 : decode cL_law 331 = .ok (.iaload, 1) := dk_46 (dk_at dksL_law_11 4 rfl rfl)
theorem dL_law_332 : decode cL_law 332 = .ok (.invokevirtual 99, 3) := dk_182 0 99 (dk_at dksL_law_11 5 rfl rfl)
theorem dL_law_335 : decode cL_law 335 = .ok (.istore 6, 2) := dk_54 6 (dk_at dksL_law_11 8 rfl rfl)
theorem dL_law_337 : decode cL_law 337 = .ok (.aload_n 2, 1) := dk_44 (dk_at dksL_law_11 10 rfl rfl)
theorem dL_law_338 : decode cL_law 338 = .ok (.invokevirtual 89, 3) := dk_182 0 89 (dk_at dksL_law_11 11 rfl rfl)
theorem dL_law_341 : decode cL_law 341 = .ok (.iload 5, 2) := dk_21 5 (dk_at dksL_law_11 14 rfl rfl)
theorem dL_law_343 : decode cL_law 343 = .ok (.if_icmp .eq 5, 3) := dk_159 0 5 (dk_at dksL_law_11 16 rfl rfl)
theorem dL_law_346 : decode cL_law 346 = .ok (.iconst 0, 1) := dk_3 (dk_at dksL_law_11 19 rfl rfl)
theorem dL_law_347 : decode cL_law 347 = .ok (.ireturn, 1) := dk_172 (dk_at dksL_law_11 20 rfl rfl)
theorem dL_law_348 : decode cL_law 348 = .ok (.iload 5, 2) := dk_21 5 (dk_at dksL_law_11 21 rfl rfl)
theorem dL_law_350 : decode cL_law 350 = .ok (.ifCond .ne 15, 3) := dk_154 0 15 (dk_at dksL_law_12 0 rfl rfl)
theorem dL_law_353 : decode cL_law 353 = .ok (.aload_n 3, 1) := dk_45 (dk_at dksL_law_12 3 rfl rfl)
theorem dL_law_354 : decode cL_law 354 = .ok (.iconst 0, 1) := dk_3 (dk_at dksL_law_12 4 rfl rfl)
theorem dL_law_355 : decode cL_law 355 = .ok (.laload, 1) := dk_47 (dk_at dksL_law_12 5 rfl rfl)
theorem dL_law_356 : decode cL_law 356 = .ok (.iload 6, 2) := dk_21 6 (dk_at dksL_law_12 6 rfl rfl)
theorem dL_law_358 : decode cL_law 358 = .ok (.i2l, 1) := dk_133 (dk_at dksL_law_12 8 rfl rfl)
theorem dL_law_359 : decode cL_law 359 = .ok (.lcmp, 1) := dk_148 (dk_at dksL_law_12 9 rfl rfl)
theorem dL_law_360 : decode cL_law 360 = .ok (.ifCond .eq 5, 3) := dk_153 0 5 (dk_at dksL_law_12 10 rfl rfl)
theorem dL_law_363 : decode cL_law 363 = .ok (.iconst 0, 1) := dk_3 (dk_at dksL_law_12 13 rfl rfl)
theorem dL_law_364 : decode cL_law 364 = .ok (.ireturn, 1) := dk_172 (dk_at dksL_law_12 14 rfl rfl)
theorem dL_law_365 : decode cL_law 365 = .ok (.goto 1061, 3) := dk_167 4 37 (dk_at dksL_law_12 15 rfl rfl)
theorem dL_law_368 : decode cL_law 368 = .ok (.aload_n 1, 1) := dk_43 (dk_at dksL_law_12 18 rfl rfl)
theorem dL_law_369 : decode cL_law 369 = .ok (.aload_n 0, 1) := dk_42 (dk_at dksL_law_12 19 rfl rfl)
theorem dL_law_370 : decode cL_law 370 = .ok (.iload 4, 2) := dk_21 4 (dk_at dksL_law_12 20 rfl rfl)
theorem dL_law_372 : decode cL_law 372 = .ok (.iconst 1, 1) := dk_4 (dk_at dksL_law_12 22 rfl rfl)
theorem dL_law_373 : decode cL_law 373 = .ok (.iadd, 1) := dk_96 (dk_at dksL_law_12 23 rfl rfl)
theorem dL_law_374 : decode cL_law 374 = .ok (.iaload, 1) := dk_46 (dk_at dksL_law_13 0 rfl rfl)
theorem dL_law_375 : decode cL_law 375 = .ok (.aload_n 0, 1) := dk_42 (dk_at dksL_law_13 1 rfl rfl)
theorem dL_law_376 : decode cL_law 376 = .ok (.iload 4, 2) := dk_21 4 (dk_at dksL_law_13 2 rfl rfl)
theorem dL_law_378 : decode cL_law 378 = .ok (.iconst 2, 1) := dk_5 (dk_at dksL_law_13 4 rfl rfl)
theorem dL_law_379 : decode cL_law 379 = .ok (.iadd, 1) := dk_96 (dk_at dksL_law_13 5 rfl rfl)
theorem dL_law_380 : decode cL_law 380 = .ok (.iaload, 1) := dk_46 (dk_at dksL_law_13 6 rfl rfl)
theorem dL_law_381 : decode cL_law 381 = .ok (.aload_n 0, 1) := dk_42 (dk_at dksL_law_13 7 rfl rfl)
theorem dL_law_382 : decode cL_law 382 = .ok (.iload 4, 2) := dk_21 4 (dk_at dksL_law_13 8 rfl rfl)
theorem dL_law_384 : decode cL_law 384 = .ok (.iconst 3, 1) := dk_6 (dk_at dksL_law_13 10 rfl rfl)
theorem dL_law_385 : decode cL_law 385 = .ok (.iadd, 1) := dk_96 (dk_at dksL_law_13 11 rfl rfl)
theorem dL_law_386 : decode cL_law 386 = .ok (.iaload, 1) := dk_46 (dk_at dksL_law_13 12 rfl rfl)
theorem dL_law_387 : decode cL_law 387 = .ok (.aload_n 0, 1) := dk_42 (dk_at dksL_law_13 13 rfl rfl)
theorem dL_law_388 : decode cL_law 388 = .ok (.iload 4, 2) := dk_21 4 (dk_at dksL_law_13 14 rfl rfl)
theorem dL_law_390 : decode cL_law 390 = .ok (.iconst 4, 1) := dk_7 (dk_at dksL_law_13 16 rfl rfl)
theorem dL_law_391 : decode cL_law 391 = .ok (.iadd, 1) := dk_96 (dk_at dksL_law_13 17 rfl rfl)
theorem dL_law_392 : decode cL_law 392 = .ok (.iaload, 1) := dk_46 (dk_at dksL_law_13 18 rfl rfl)
theorem dL_law_393 : decode cL_law 393 = .ok (.aload_n 3, 1) := dk_45 (dk_at dksL_law_13 19 rfl rfl)
theorem dL_law_394 : decode cL_law 394 = .ok (.invokestatic 100, 3) := dk_184 0 100 (dk_at dksL_law_13 20 rfl rfl)
theorem dL_law_397 : decode cL_law 397 = .ok (.istore 5, 2) := dk_54 5 (dk_at dksL_law_14 0 rfl rfl)
theorem dL_law_399 : decode cL_law 399 = .ok (.aload_n 2, 1) := dk_44 (dk_at dksL_law_14 2 rfl rfl)
theorem dL_law_400 : decode cL_law 400 = .ok (.aload_n 0, 1) := dk_42 (dk_at dksL_law_14 3 rfl rfl)
theorem dL_law_401 : decode cL_law 401 = .ok (.iload 4, 2) := dk_21 4 (dk_at dksL_law_14 4 rfl rfl)
theorem dL_law_403 : decode cL_law 403 = .ok (.iconst 1, 1) := dk_4 (dk_at dksL_law_14 6 rfl rfl)
theorem dL_law_404 : decode cL_law 404 = .ok (.iadd, 1) := dk_96 (dk_at dksL_law_14 7 rfl rfl)
theorem dL_law_405 : decode cL_law 405 = .ok (.iaload, 1) := dk_46 (dk_at dksL_law_14 8 rfl rfl)
theorem dL_law_406 : decode cL_law 406 = .ok (.aload_n 0, 1) := dk_42 (dk_at dksL_law_14 9 rfl rfl)
theorem dL_law_407 : decode cL_law 407 = .ok (.iload 4, 2) := dk_21 4 (dk_at dksL_law_14 10 rfl rfl)
theorem dL_law_409 : decode cL_law 409 = .ok (.iconst 2, 1) := dk_5 (dk_at dksL_law_14 12 rfl rfl)
theorem dL_law_410 : decode cL_law 410 = .ok (.iadd, 1) := dk_96 (dk_at dksL_law_14 13 rfl rfl)
theorem dL_law_411 : decode cL_law 411 = .ok (.iaload, 1) := dk_46 (dk_at dksL_law_14 14 rfl rfl)
theorem dL_law_412 : decode cL_law 412 = .ok (.aload_n 0, 1) := dk_42 (dk_at dksL_law_14 15 rfl rfl)
theorem dL_law_413 : decode cL_law 413 = .ok (.iload 4, 2) := dk_21 4 (dk_at dksL_law_14 16 rfl rfl)
theorem dL_law_415 : decode cL_law 415 = .ok (.iconst 3, 1) := dk_6 (dk_at dksL_law_14 18 rfl rfl)
theorem dL_law_416 : decode cL_law 416 = .ok (.iadd, 1) := dk_96 (dk_at dksL_law_14 19 rfl rfl)
theorem dL_law_417 : decode cL_law 417 = .ok (.iaload, 1) := dk_46 (dk_at dksL_law_14 20 rfl rfl)
theorem dL_law_418 : decode cL_law 418 = .ok (.aload_n 0, 1) := dk_42 (dk_at dksL_law_14 21 rfl rfl)
theorem dL_law_419 : decode cL_law 419 = .ok (.iload 4, 2) := dk_21 4 (dk_at dksL_law_14 22 rfl rfl)
theorem dL_law_421 : decode cL_law 421 = .ok (.iconst 4, 1) := dk_7 (dk_at dksL_law_15 0 rfl rfl)
theorem dL_law_422 : decode cL_law 422 = .ok (.iadd, 1) := dk_96 (dk_at dksL_law_15 1 rfl rfl)
theorem dL_law_423 : decode cL_law 423 = .ok (.iaload, 1) := dk_46 (dk_at dksL_law_15 2 rfl rfl)
theorem dL_law_424 : decode cL_law 424 = .ok (.invokevirtual 103, 3) := dk_182 0 103 (dk_at dksL_law_15 3 rfl rfl)
theorem dL_law_427 : decode cL_law 427 = .ok (.istore 6, 2) := dk_54 6 (dk_at dksL_law_15 6 rfl rfl)
theorem dL_law_429 : decode cL_law 429 = .ok (.aload_n 2, 1) := dk_44 (dk_at dksL_law_15 8 rfl rfl)
theorem dL_law_430 : decode cL_law 430 = .ok (.invokevirtual 89, 3) := dk_182 0 89 (dk_at dksL_law_15 9 rfl rfl)
theorem dL_law_433 : decode cL_law 433 = .ok (.iload 5, 2) := dk_21 5 (dk_at dksL_law_15 12 rfl rfl)
theorem dL_law_435 : decode cL_law 435 = .ok (.if_icmp .eq 5, 3) := dk_159 0 5 (dk_at dksL_law_15 14 rfl rfl)
theorem dL_law_438 : decode cL_law 438 = .ok (.iconst 0, 1) := dk_3 (dk_at dksL_law_15 17 rfl rfl)
theorem dL_law_439 : decode cL_law 439 = .ok (.ireturn, 1) := dk_172 (dk_at dksL_law_15 18 rfl rfl)
theorem dL_law_440 : decode cL_law 440 = .ok (.iload 5, 2) := dk_21 5 (dk_at dksL_law_15 19 rfl rfl)
theorem dL_law_442 : decode cL_law 442 = .ok (.ifCond .ne 15, 3) := dk_154 0 15 (dk_at dksL_law_15 21 rfl rfl)
theorem dL_law_445 : decode cL_law 445 = .ok (.aload_n 3, 1) := dk_45 (dk_at dksL_law_16 0 rfl rfl)
theorem dL_law_446 : decode cL_law 446 = .ok (.iconst 0, 1) := dk_3 (dk_at dksL_law_16 1 rfl rfl)
theorem dL_law_447 : decode cL_law 447 = .ok (.laload, 1) := dk_47 (dk_at dksL_law_16 2 rfl rfl)
theorem dL_law_448 : decode cL_law 448 = .ok (.iload 6, 2) := dk_21 6 (dk_at dksL_law_16 3 rfl rfl)
theorem dL_law_450 : decode cL_law 450 = .ok (.i2l, 1) := dk_133 (dk_at dksL_law_16 5 rfl rfl)
theorem dL_law_451 : decode cL_law 451 = .ok (.lcmp, 1) := dk_148 (dk_at dksL_law_16 6 rfl rfl)
theorem dL_law_452 : decode cL_law 452 = .ok (.ifCond .eq 5, 3) := dk_153 0 5 (dk_at dksL_law_16 7 rfl rfl)
theorem dL_law_455 : decode cL_law 455 = .ok (.iconst 0, 1) := dk_3 (dk_at dksL_law_16 10 rfl rfl)
theorem dL_law_456 : decode cL_law 456 = .ok (.ireturn, 1) := dk_172 (dk_at dksL_law_16 11 rfl rfl)
theorem dL_law_457 : decode cL_law 457 = .ok (.goto 969, 3) := dk_167 3 201 (dk_at dksL_law_16 12 rfl rfl)
theorem dL_law_460 : decode cL_law 460 = .ok (.aload_n 1, 1) := dk_43 (dk_at dksL_law_16 15 rfl rfl)
theorem dL_law_461 : decode cL_law 461 = .ok (.aload_n 3, 1) := dk_45 (dk_at dksL_law_16 16 rfl rfl)
theorem dL_law_462 : decode cL_law 462 = .ok (.invokestatic 104, 3) := dk_184 0 104 (dk_at dksL_law_16 17 rfl rfl)
theorem dL_law_465 : decode cL_law 465 = .ok (.istore 5, 2) := dk_54 5 (dk_at dksL_law_16 20 rfl rfl)
theorem dL_law_467 : decode cL_law 467 = .ok (.aload_n 2, 1) := dk_44 (dk_at dksL_law_16 22 rfl rfl)
theorem dL_law_468 : decode cL_law 468 = .ok (.invokevirtual 106, 3) := dk_182 0 106 (dk_at dksL_law_17 0 rfl rfl)
theorem dL_law_471 : decode cL_law 471 = .ok (.istore 6, 2) := dk_54 6 (dk_at dksL_law_17 3 rfl rfl)
theorem dL_law_473 : decode cL_law 473 = .ok (.aload_n 2, 1) := dk_44 (dk_at dksL_law_17 5 rfl rfl)
theorem dL_law_474 : decode cL_law 474 = .ok (.invokevirtual 89, 3) := dk_182 0 89 (dk_at dksL_law_17 6 rfl rfl)
theorem dL_law_477 : decode cL_law 477 = .ok (.iload 5, 2) := dk_21 5 (dk_at dksL_law_17 9 rfl rfl)
theorem dL_law_479 : decode cL_law 479 = .ok (.if_icmp .eq 5, 3) := dk_159 0 5 (dk_at dksL_law_17 11 rfl rfl)
theorem dL_law_482 : decode cL_law 482 = .ok (.iconst 0, 1) := dk_3 (dk_at dksL_law_17 14 rfl rfl)
theorem dL_law_483 : decode cL_law 483 = .ok (.ireturn, 1) := dk_172 (dk_at dksL_law_17 15 rfl rfl)
theorem dL_law_484 : decode cL_law 484 = .ok (.iload 5, 2) := dk_21 5 (dk_at dksL_law_17 16 rfl rfl)
theorem dL_law_486 : decode cL_law 486 = .ok (.ifCond .ne 15, 3) := dk_154 0 15 (dk_at dksL_law_17 18 rfl rfl)
theorem dL_law_489 : decode cL_law 489 = .ok (.aload_n 3, 1) := dk_45 (dk_at dksL_law_17 21 rfl rfl)
theorem dL_law_490 : decode cL_law 490 = .ok (.iconst 0, 1) := dk_3 (dk_at dksL_law_17 22 rfl rfl)
theorem dL_law_491 : decode cL_law 491 = .ok (.laload, 1) := dk_47 (dk_at dksL_law_17 23 rfl rfl)
theorem dL_law_492 : decode cL_law 492 = .ok (.iload 6, 2) := dk_21 6 (dk_at dksL_law_18 0 rfl rfl)
theorem dL_law_494 : decode cL_law 494 = .ok (.i2l, 1) := dk_133 (dk_at dksL_law_18 2 rfl rfl)
theorem dL_law_495 : decode cL_law 495 = .ok (.lcmp, 1) := dk_148 (dk_at dksL_law_18 3 rfl rfl)
theorem dL_law_496 : decode cL_law 496 = .ok (.ifCond .eq 5, 3) := dk_153 0 5 (dk_at dksL_law_18 4 rfl rfl)
theorem dL_law_499 : decode cL_law 499 = .ok (.iconst 0, 1) := dk_3 (dk_at dksL_law_18 7 rfl rfl)
theorem dL_law_500 : decode cL_law 500 = .ok (.ireturn, 1) := dk_172 (dk_at dksL_law_18 8 rfl rfl)
theorem dL_law_501 : decode cL_law 501 = .ok (.goto 925, 3) := dk_167 3 157 (dk_at dksL_law_18 9 rfl rfl)
theorem dL_law_504 : decode cL_law 504 = .ok (.aload_n 1, 1) := dk_43 (dk_at dksL_law_18 12 rfl rfl)
theorem dL_law_505 : decode cL_law 505 = .ok (.aload_n 0, 1) := dk_42 (dk_at dksL_law_18 13 rfl rfl)
theorem dL_law_506 : decode cL_law 506 = .ok (.iload 4, 2) := dk_21 4 (dk_at dksL_law_18 14 rfl rfl)
theorem dL_law_508 : decode cL_law 508 = .ok (.iconst 1, 1) := dk_4 (dk_at dksL_law_18 16 rfl rfl)
theorem dL_law_509 : decode cL_law 509 = .ok (.iadd, 1) := dk_96 (dk_at dksL_law_18 17 rfl rfl)
theorem dL_law_510 : decode cL_law 510 = .ok (.iaload, 1) := dk_46 (dk_at dksL_law_18 18 rfl rfl)
theorem dL_law_511 : decode cL_law 511 = .ok (.aload_n 0, 1) := dk_42 (dk_at dksL_law_18 19 rfl rfl)
theorem dL_law_512 : decode cL_law 512 = .ok (.iload 4, 2) := dk_21 4 (dk_at dksL_law_18 20 rfl rfl)
theorem dL_law_514 : decode cL_law 514 = .ok (.iconst 2, 1) := dk_5 (dk_at dksL_law_18 22 rfl rfl)
theorem dL_law_515 : decode cL_law 515 = .ok (.iadd, 1) := dk_96 (dk_at dksL_law_18 23 rfl rfl)
theorem dL_law_516 : decode cL_law 516 = .ok (.iaload, 1) := dk_46 (dk_at dksL_law_19 0 rfl rfl)
theorem dL_law_517 : decode cL_law 517 = .ok (.aload_n 3, 1) := dk_45 (dk_at dksL_law_19 1 rfl rfl)
theorem dL_law_518 : decode cL_law 518 = .ok (.invokestatic 107, 3) := dk_184 0 107 (dk_at dksL_law_19 2 rfl rfl)
theorem dL_law_521 : decode cL_law 521 = .ok (.istore 5, 2) := dk_54 5 (dk_at dksL_law_19 5 rfl rfl)
theorem dL_law_523 : decode cL_law 523 = .ok (.aload_n 2, 1) := dk_44 (dk_at dksL_law_19 7 rfl rfl)
theorem dL_law_524 : decode cL_law 524 = .ok (.aload_n 0, 1) := dk_42 (dk_at dksL_law_19 8 rfl rfl)
theorem dL_law_525 : decode cL_law 525 = .ok (.iload 4, 2) := dk_21 4 (dk_at dksL_law_19 9 rfl rfl)
theorem dL_law_527 : decode cL_law 527 = .ok (.iconst 1, 1) := dk_4 (dk_at dksL_law_19 11 rfl rfl)
theorem dL_law_528 : decode cL_law 528 = .ok (.iadd, 1) := dk_96 (dk_at dksL_law_19 12 rfl rfl)
theorem dL_law_529 : decode cL_law 529 = .ok (.iaload, 1) := dk_46 (dk_at dksL_law_19 13 rfl rfl)
theorem dL_law_530 : decode cL_law 530 = .ok (.aload_n 0, 1) := dk_42 (dk_at dksL_law_19 14 rfl rfl)
theorem dL_law_531 : decode cL_law 531 = .ok (.iload 4, 2) := dk_21 4 (dk_at dksL_law_19 15 rfl rfl)
theorem dL_law_533 : decode cL_law 533 = .ok (.iconst 2, 1) := dk_5 (dk_at dksL_law_19 17 rfl rfl)
theorem dL_law_534 : decode cL_law 534 = .ok (.iadd, 1) := dk_96 (dk_at dksL_law_19 18 rfl rfl)
theorem dL_law_535 : decode cL_law 535 = .ok (.iaload, 1) := dk_46 (dk_at dksL_law_19 19 rfl rfl)
theorem dL_law_536 : decode cL_law 536 = .ok (.invokevirtual 110, 3) := dk_182 0 110 (dk_at dksL_law_19 20 rfl rfl)
theorem dL_law_539 : decode cL_law 539 = .ok (.istore 6, 2) := dk_54 6 (dk_at dksL_law_20 0 rfl rfl)
theorem dL_law_541 : decode cL_law 541 = .ok (.aload_n 2, 1) := dk_44 (dk_at dksL_law_20 2 rfl rfl)
theorem dL_law_542 : decode cL_law 542 = .ok (.invokevirtual 89, 3) := dk_182 0 89 (dk_at dksL_law_20 3 rfl rfl)
theorem dL_law_545 : decode cL_law 545 = .ok (.iload 5, 2) := dk_21 5 (dk_at dksL_law_20 6 rfl rfl)
theorem dL_law_547 : decode cL_law 547 = .ok (.if_icmp .eq 5, 3) := dk_159 0 5 (dk_at dksL_law_20 8 rfl rfl)
theorem dL_law_550 : decode cL_law 550 = .ok (.iconst 0, 1) := dk_3 (dk_at dksL_law_20 11 rfl rfl)
theorem dL_law_551 : decode cL_law 551 = .ok (.ireturn, 1) := dk_172 (dk_at dksL_law_20 12 rfl rfl)
theorem dL_law_552 : decode cL_law 552 = .ok (.iload 5, 2) := dk_21 5 (dk_at dksL_law_20 13 rfl rfl)
theorem dL_law_554 : decode cL_law 554 = .ok (.ifCond .ne 15, 3) := dk_154 0 15 (dk_at dksL_law_20 15 rfl rfl)
theorem dL_law_557 : decode cL_law 557 = .ok (.aload_n 3, 1) := dk_45 (dk_at dksL_law_20 18 rfl rfl)
theorem dL_law_558 : decode cL_law 558 = .ok (.iconst 0, 1) := dk_3 (dk_at dksL_law_20 19 rfl rfl)
theorem dL_law_559 : decode cL_law 559 = .ok (.laload, 1) := dk_47 (dk_at dksL_law_20 20 rfl rfl)
theorem dL_law_560 : decode cL_law 560 = .ok (.iload 6, 2) := dk_21 6 (dk_at dksL_law_20 21 rfl rfl)
theorem dL_law_562 : decode cL_law 562 = .ok (.i2l, 1) := dk_133 (dk_at dksL_law_20 23 rfl rfl)
theorem dL_law_563 : decode cL_law 563 = .ok (.lcmp, 1) := dk_148 (dk_at dksL_law_21 0 rfl rfl)
theorem dL_law_564 : decode cL_law 564 = .ok (.ifCond .eq 5, 3) := dk_153 0 5 (dk_at dksL_law_21 1 rfl rfl)
theorem dL_law_567 : decode cL_law 567 = .ok (.iconst 0, 1) := dk_3 (dk_at dksL_law_21 4 rfl rfl)
theorem dL_law_568 : decode cL_law 568 = .ok (.ireturn, 1) := dk_172 (dk_at dksL_law_21 5 rfl rfl)
theorem dL_law_569 : decode cL_law 569 = .ok (.goto 857, 3) := dk_167 3 89 (dk_at dksL_law_21 6 rfl rfl)
theorem dL_law_572 : decode cL_law 572 = .ok (.aload_n 1, 1) := dk_43 (dk_at dksL_law_21 9 rfl rfl)
theorem dL_law_573 : decode cL_law 573 = .ok (.aload_n 0, 1) := dk_42 (dk_at dksL_law_21 10 rfl rfl)
theorem dL_law_574 : decode cL_law 574 = .ok (.iload 4, 2) := dk_21 4 (dk_at dksL_law_21 11 rfl rfl)
theorem dL_law_576 : decode cL_law 576 = .ok (.iconst 1, 1) := dk_4 (dk_at dksL_law_21 13 rfl rfl)
theorem dL_law_577 : decode cL_law 577 = .ok (.iadd, 1) := dk_96 (dk_at dksL_law_21 14 rfl rfl)
theorem dL_law_578 : decode cL_law 578 = .ok (.iaload, 1) := dk_46 (dk_at dksL_law_21 15 rfl rfl)
theorem dL_law_579 : decode cL_law 579 = .ok (.aload_n 3, 1) := dk_45 (dk_at dksL_law_21 16 rfl rfl)
theorem dL_law_580 : decode cL_law 580 = .ok (.invokestatic 111, 3) := dk_184 0 111 (dk_at dksL_law_21 17 rfl rfl)
theorem dL_law_583 : decode cL_law 583 = .ok (.istore 5, 2) := dk_54 5 (dk_at dksL_law_21 20 rfl rfl)
theorem dL_law_585 : decode cL_law 585 = .ok (.aload_n 2, 1) := dk_44 (dk_at dksL_law_21 22 rfl rfl)
theorem dL_law_586 : decode cL_law 586 = .ok (.aload_n 0, 1) := dk_42 (dk_at dksL_law_21 23 rfl rfl)
theorem dL_law_587 : decode cL_law 587 = .ok (.iload 4, 2) := dk_21 4 (dk_at dksL_law_22 0 rfl rfl)
theorem dL_law_589 : decode cL_law 589 = .ok (.iconst 1, 1) := dk_4 (dk_at dksL_law_22 2 rfl rfl)
theorem dL_law_590 : decode cL_law 590 = .ok (.iadd, 1) := dk_96 (dk_at dksL_law_22 3 rfl rfl)
theorem dL_law_591 : decode cL_law 591 = .ok (.iaload, 1) := dk_46 (dk_at dksL_law_22 4 rfl rfl)
theorem dL_law_592 : decode cL_law 592 = .ok (.invokevirtual 114, 3) := dk_182 0 114 (dk_at dksL_law_22 5 rfl rfl)
theorem dL_law_595 : decode cL_law 595 = .ok (.istore 6, 2) := dk_54 6 (dk_at dksL_law_22 8 rfl rfl)
theorem dL_law_597 : decode cL_law 597 = .ok (.aload_n 2, 1) := dk_44 (dk_at dksL_law_22 10 rfl rfl)
theorem dL_law_598 : decode cL_law 598 = .ok (.invokevirtual 89, 3) := dk_182 0 89 (dk_at dksL_law_22 11 rfl rfl)
theorem dL_law_601 : decode cL_law 601 = .ok (.iload 5, 2) := dk_21 5 (dk_at dksL_law_22 14 rfl rfl)
theorem dL_law_603 : decode cL_law 603 = .ok (.if_icmp .eq 5, 3) := dk_159 0 5 (dk_at dksL_law_22 16 rfl rfl)
theorem dL_law_606 : decode cL_law 606 = .ok (.iconst 0, 1) := dk_3 (dk_at dksL_law_22 19 rfl rfl)
theorem dL_law_607 : decode cL_law 607 = .ok (.ireturn, 1) := dk_172 (dk_at dksL_law_22 20 rfl rfl)
theorem dL_law_608 : decode cL_law 608 = .ok (.iload 5, 2) := dk_21 5 (dk_at dksL_law_22 21 rfl rfl)
theorem dL_law_610 : decode cL_law 610 = .ok (.ifCond .ne 15, 3) := dk_154 0 15 (dk_at dksL_law_23 0 rfl rfl)
theorem dL_law_613 : decode cL_law 613 = .ok (.aload_n 3, 1) := dk_45 (dk_at dksL_law_23 3 rfl rfl)
theorem dL_law_614 : decode cL_law 614 = .ok (.iconst 0, 1) := dk_3 (dk_at dksL_law_23 4 rfl rfl)
theorem dL_law_615 : decode cL_law 615 = .ok (.laload, 1) := dk_47 (dk_at dksL_law_23 5 rfl rfl)
theorem dL_law_616 : decode cL_law 616 = .ok (.iload 6, 2) := dk_21 6 (dk_at dksL_law_23 6 rfl rfl)
theorem dL_law_618 : decode cL_law 618 = .ok (.i2l, 1) := dk_133 (dk_at dksL_law_23 8 rfl rfl)
theorem dL_law_619 : decode cL_law 619 = .ok (.lcmp, 1) := dk_148 (dk_at dksL_law_23 9 rfl rfl)
theorem dL_law_620 : decode cL_law 620 = .ok (.ifCond .eq 5, 3) := dk_153 0 5 (dk_at dksL_law_23 10 rfl rfl)
theorem dL_law_623 : decode cL_law 623 = .ok (.iconst 0, 1) := dk_3 (dk_at dksL_law_23 13 rfl rfl)
theorem dL_law_624 : decode cL_law 624 = .ok (.ireturn, 1) := dk_172 (dk_at dksL_law_23 14 rfl rfl)
theorem dL_law_625 : decode cL_law 625 = .ok (.goto 801, 3) := dk_167 3 33 (dk_at dksL_law_23 15 rfl rfl)
theorem dL_law_628 : decode cL_law 628 = .ok (.aload_n 1, 1) := dk_43 (dk_at dksL_law_23 18 rfl rfl)
theorem dL_law_629 : decode cL_law 629 = .ok (.aload_n 3, 1) := dk_45 (dk_at dksL_law_23 19 rfl rfl)
theorem dL_law_630 : decode cL_law 630 = .ok (.invokestatic 115, 3) := dk_184 0 115 (dk_at dksL_law_23 20 rfl rfl)
theorem dL_law_633 : decode cL_law 633 = .ok (.istore 5, 2) := dk_54 5 (dk_at dksL_law_24 0 rfl rfl)
theorem dL_law_635 : decode cL_law 635 = .ok (.aload_n 2, 1) := dk_44 (dk_at dksL_law_24 2 rfl rfl)
theorem dL_law_636 : decode cL_law 636 = .ok (.invokevirtual 117, 3) := dk_182 0 117 (dk_at dksL_law_24 3 rfl rfl)
theorem dL_law_639 : decode cL_law 639 = .ok (.istore 6, 2) := dk_54 6 (dk_at dksL_law_24 6 rfl rfl)
theorem dL_law_641 : decode cL_law 641 = .ok (.aload_n 2, 1) := dk_44 (dk_at dksL_law_24 8 rfl rfl)
theorem dL_law_642 : decode cL_law 642 = .ok (.invokevirtual 89, 3) := dk_182 0 89 (dk_at dksL_law_24 9 rfl rfl)
theorem dL_law_645 : decode cL_law 645 = .ok (.iload 5, 2) := dk_21 5 (dk_at dksL_law_24 12 rfl rfl)
theorem dL_law_647 : decode cL_law 647 = .ok (.if_icmp .eq 5, 3) := dk_159 0 5 (dk_at dksL_law_24 14 rfl rfl)
theorem dL_law_650 : decode cL_law 650 = .ok (.iconst 0, 1) := dk_3 (dk_at dksL_law_24 17 rfl rfl)
theorem dL_law_651 : decode cL_law 651 = .ok (.ireturn, 1) := dk_172 (dk_at dksL_law_24 18 rfl rfl)
theorem dL_law_652 : decode cL_law 652 = .ok (.iload 5, 2) := dk_21 5 (dk_at dksL_law_24 19 rfl rfl)
theorem dL_law_654 : decode cL_law 654 = .ok (.ifCond .ne 15, 3) := dk_154 0 15 (dk_at dksL_law_24 21 rfl rfl)
theorem dL_law_657 : decode cL_law 657 = .ok (.aload_n 3, 1) := dk_45 (dk_at dksL_law_25 0 rfl rfl)
theorem dL_law_658 : decode cL_law 658 = .ok (.iconst 0, 1) := dk_3 (dk_at dksL_law_25 1 rfl rfl)
theorem dL_law_659 : decode cL_law 659 = .ok (.laload, 1) := dk_47 (dk_at dksL_law_25 2 rfl rfl)
theorem dL_law_660 : decode cL_law 660 = .ok (.iload 6, 2) := dk_21 6 (dk_at dksL_law_25 3 rfl rfl)
theorem dL_law_662 : decode cL_law 662 = .ok (.i2l, 1) := dk_133 (dk_at dksL_law_25 5 rfl rfl)
theorem dL_law_663 : decode cL_law 663 = .ok (.lcmp, 1) := dk_148 (dk_at dksL_law_25 6 rfl rfl)
theorem dL_law_664 : decode cL_law 664 = .ok (.ifCond .eq 5, 3) := dk_153 0 5 (dk_at dksL_law_25 7 rfl rfl)
theorem dL_law_667 : decode cL_law 667 = .ok (.iconst 0, 1) := dk_3 (dk_at dksL_law_25 10 rfl rfl)
theorem dL_law_668 : decode cL_law 668 = .ok (.ireturn, 1) := dk_172 (dk_at dksL_law_25 11 rfl rfl)
theorem dL_law_669 : decode cL_law 669 = .ok (.goto 757, 3) := dk_167 2 245 (dk_at dksL_law_25 12 rfl rfl)
theorem dL_law_672 : decode cL_law 672 = .ok (.aload_n 1, 1) := dk_43 (dk_at dksL_law_25 15 rfl rfl)
theorem dL_law_673 : decode cL_law 673 = .ok (.aload_n 0, 1) := dk_42 (dk_at dksL_law_25 16 rfl rfl)
theorem dL_law_674 : decode cL_law 674 = .ok (.iload 4, 2) := dk_21 4 (dk_at dksL_law_25 17 rfl rfl)
theorem dL_law_676 : decode cL_law 676 = .ok (.iconst 1, 1) := dk_4 (dk_at dksL_law_25 19 rfl rfl)
theorem dL_law_677 : decode cL_law 677 = .ok (.iadd, 1) := dk_96 (dk_at dksL_law_25 20 rfl rfl)
theorem dL_law_678 : decode cL_law 678 = .ok (.iaload, 1) := dk_46 (dk_at dksL_law_25 21 rfl rfl)
theorem dL_law_679 : decode cL_law 679 = .ok (.invokestatic 118, 3) := dk_184 0 118 (dk_at dksL_law_26 0 rfl rfl)
theorem dL_law_682 : decode cL_law 682 = .ok (.istore 5, 2) := dk_54 5 (dk_at dksL_law_26 3 rfl rfl)
theorem dL_law_684 : decode cL_law 684 = .ok (.aload_n 2, 1) := dk_44 (dk_at dksL_law_26 5 rfl rfl)
theorem dL_law_685 : decode cL_law 685 = .ok (.aload_n 0, 1) := dk_42 (dk_at dksL_law_26 6 rfl rfl)
theorem dL_law_686 : decode cL_law 686 = .ok (.iload 4, 2) := dk_21 4 (dk_at dksL_law_26 7 rfl rfl)
theorem dL_law_688 : decode cL_law 688 = .ok (.iconst 1, 1) := dk_4 (dk_at dksL_law_26 9 rfl rfl)
theorem dL_law_689 : decode cL_law 689 = .ok (.iadd, 1) := dk_96 (dk_at dksL_law_26 10 rfl rfl)
theorem dL_law_690 : decode cL_law 690 = .ok (.iaload, 1) := dk_46 (dk_at dksL_law_26 11 rfl rfl)
theorem dL_law_691 : decode cL_law 691 = .ok (.invokevirtual 121, 3) := dk_182 0 121 (dk_at dksL_law_26 12 rfl rfl)
theorem dL_law_694 : decode cL_law 694 = .ok (.aload_n 2, 1) := dk_44 (dk_at dksL_law_26 15 rfl rfl)
theorem dL_law_695 : decode cL_law 695 = .ok (.invokevirtual 89, 3) := dk_182 0 89 (dk_at dksL_law_26 16 rfl rfl)
theorem dL_law_698 : decode cL_law 698 = .ok (.iload 5, 2) := dk_21 5 (dk_at dksL_law_26 19 rfl rfl)
theorem dL_law_700 : decode cL_law 700 = .ok (.if_icmp .eq 5, 3) := dk_159 0 5 (dk_at dksL_law_26 21 rfl rfl)
theorem dL_law_703 : decode cL_law 703 = .ok (.iconst 0, 1) := dk_3 (dk_at dksL_law_27 0 rfl rfl)
theorem dL_law_704 : decode cL_law 704 = .ok (.ireturn, 1) := dk_172 (dk_at dksL_law_27 1 rfl rfl)
theorem dL_law_705 : decode cL_law 705 = .ok (.goto 721, 3) := dk_167 2 209 (dk_at dksL_law_27 2 rfl rfl)
theorem dL_law_708 : decode cL_law 708 = .ok (.aload_n 1, 1) := dk_43 (dk_at dksL_law_27 5 rfl rfl)
theorem dL_law_709 : decode cL_law 709 = .ok (.aload_n 0, 1) := dk_42 (dk_at dksL_law_27 6 rfl rfl)
theorem dL_law_710 : decode cL_law 710 = .ok (.iload 4, 2) := dk_21 4 (dk_at dksL_law_27 7 rfl rfl)
theorem dL_law_712 : decode cL_law 712 = .ok (.iconst 1, 1) := dk_4 (dk_at dksL_law_27 9 rfl rfl)
theorem dL_law_713 : decode cL_law 713 = .ok (.iadd, 1) := dk_96 (dk_at dksL_law_27 10 rfl rfl)
theorem dL_law_714 : decode cL_law 714 = .ok (.iaload, 1) := dk_46 (dk_at dksL_law_27 11 rfl rfl)
theorem dL_law_715 : decode cL_law 715 = .ok (.aload_n 3, 1) := dk_45 (dk_at dksL_law_27 12 rfl rfl)
theorem dL_law_716 : decode cL_law 716 = .ok (.invokestatic 122, 3) := dk_184 0 122 (dk_at dksL_law_27 13 rfl rfl)
theorem dL_law_719 : decode cL_law 719 = .ok (.istore 5, 2) := dk_54 5 (dk_at dksL_law_27 16 rfl rfl)
theorem dL_law_721 : decode cL_law 721 = .ok (.aload_n 2, 1) := dk_44 (dk_at dksL_law_27 18 rfl rfl)
theorem dL_law_722 : decode cL_law 722 = .ok (.aload_n 0, 1) := dk_42 (dk_at dksL_law_27 19 rfl rfl)
theorem dL_law_723 : decode cL_law 723 = .ok (.iload 4, 2) := dk_21 4 (dk_at dksL_law_27 20 rfl rfl)
theorem dL_law_725 : decode cL_law 725 = .ok (.iconst 1, 1) := dk_4 (dk_at dksL_law_27 22 rfl rfl)
theorem dL_law_726 : decode cL_law 726 = .ok (.iadd, 1) := dk_96 (dk_at dksL_law_27 23 rfl rfl)
theorem dL_law_727 : decode cL_law 727 = .ok (.iaload, 1) := dk_46 (dk_at dksL_law_28 0 rfl rfl)
theorem dL_law_728 : decode cL_law 728 = .ok (.invokevirtual 124, 3) := dk_182 0 124 (dk_at dksL_law_28 1 rfl rfl)
theorem dL_law_731 : decode cL_law 731 = .ok (.istore 6, 2) := dk_54 6 (dk_at dksL_law_28 4 rfl rfl)
theorem dL_law_733 : decode cL_law 733 = .ok (.aload_n 2, 1) := dk_44 (dk_at dksL_law_28 6 rfl rfl)
theorem dL_law_734 : decode cL_law 734 = .ok (.invokevirtual 89, 3) := dk_182 0 89 (dk_at dksL_law_28 7 rfl rfl)
theorem dL_law_737 : decode cL_law 737 = .ok (.iload 5, 2) := dk_21 5 (dk_at dksL_law_28 10 rfl rfl)
theorem dL_law_739 : decode cL_law 739 = .ok (.if_icmp .eq 5, 3) := dk_159 0 5 (dk_at dksL_law_28 12 rfl rfl)
theorem dL_law_742 : decode cL_law 742 = .ok (.iconst 0, 1) := dk_3 (dk_at dksL_law_28 15 rfl rfl)
theorem dL_law_743 : decode cL_law 743 = .ok (.ireturn, 1) := dk_172 (dk_at dksL_law_28 16 rfl rfl)
theorem dL_law_744 : decode cL_law 744 = .ok (.iload 5, 2) := dk_21 5 (dk_at dksL_law_28 17 rfl rfl)
theorem dL_law_746 : decode cL_law 746 = .ok (.ifCond .ne 15, 3) := dk_154 0 15 (dk_at dksL_law_28 19 rfl rfl)
theorem dL_law_749 : decode cL_law 749 = .ok (.aload_n 3, 1) := dk_45 (dk_at dksL_law_28 22 rfl rfl)
theorem dL_law_750 : decode cL_law 750 = .ok (.iconst 0, 1) := dk_3 (dk_at dksL_law_28 23 rfl rfl)
theorem dL_law_751 : decode cL_law 751 = .ok (.laload, 1) := dk_47 (dk_at dksL_law_29 0 rfl rfl)
theorem dL_law_752 : decode cL_law 752 = .ok (.iload 6, 2) := dk_21 6 (dk_at dksL_law_29 1 rfl rfl)
theorem dL_law_754 : decode cL_law 754 = .ok (.i2l, 1) := dk_133 (dk_at dksL_law_29 3 rfl rfl)
theorem dL_law_755 : decode cL_law 755 = .ok (.lcmp, 1) := dk_148 (dk_at dksL_law_29 4 rfl rfl)
theorem dL_law_756 : decode cL_law 756 = .ok (.ifCond .eq 5, 3) := dk_153 0 5 (dk_at dksL_law_29 5 rfl rfl)
theorem dL_law_759 : decode cL_law 759 = .ok (.iconst 0, 1) := dk_3 (dk_at dksL_law_29 8 rfl rfl)
theorem dL_law_760 : decode cL_law 760 = .ok (.ireturn, 1) := dk_172 (dk_at dksL_law_29 9 rfl rfl)
theorem dL_law_761 : decode cL_law 761 = .ok (.goto 665, 3) := dk_167 2 153 (dk_at dksL_law_29 10 rfl rfl)
theorem dL_law_764 : decode cL_law 764 = .ok (.aload_n 1, 1) := dk_43 (dk_at dksL_law_29 13 rfl rfl)
theorem dL_law_765 : decode cL_law 765 = .ok (.aload_n 0, 1) := dk_42 (dk_at dksL_law_29 14 rfl rfl)
theorem dL_law_766 : decode cL_law 766 = .ok (.iload 4, 2) := dk_21 4 (dk_at dksL_law_29 15 rfl rfl)
theorem dL_law_768 : decode cL_law 768 = .ok (.iconst 1, 1) := dk_4 (dk_at dksL_law_29 17 rfl rfl)
theorem dL_law_769 : decode cL_law 769 = .ok (.iadd, 1) := dk_96 (dk_at dksL_law_29 18 rfl rfl)
theorem dL_law_770 : decode cL_law 770 = .ok (.iaload, 1) := dk_46 (dk_at dksL_law_29 19 rfl rfl)
theorem dL_law_771 : decode cL_law 771 = .ok (.aload_n 0, 1) := dk_42 (dk_at dksL_law_29 20 rfl rfl)
theorem dL_law_772 : decode cL_law 772 = .ok (.iload 4, 2) := dk_21 4 (dk_at dksL_law_29 21 rfl rfl)
theorem dL_law_774 : decode cL_law 774 = .ok (.iconst 2, 1) := dk_5 (dk_at dksL_law_29 23 rfl rfl)
theorem dL_law_775 : decode cL_law 775 = .ok (.iadd, 1) := dk_96 (dk_at dksL_law_30 0 rfl rfl)
theorem dL_law_776 : decode cL_law 776 = .ok (.iaload, 1) := dk_46 (dk_at dksL_law_30 1 rfl rfl)
theorem dL_law_777 : decode cL_law 777 = .ok (.aload_n 3, 1) := dk_45 (dk_at dksL_law_30 2 rfl rfl)
theorem dL_law_778 : decode cL_law 778 = .ok (.invokestatic 125, 3) := dk_184 0 125 (dk_at dksL_law_30 3 rfl rfl)
theorem dL_law_781 : decode cL_law 781 = .ok (.istore 5, 2) := dk_54 5 (dk_at dksL_law_30 6 rfl rfl)
theorem dL_law_783 : decode cL_law 783 = .ok (.aload_n 2, 1) := dk_44 (dk_at dksL_law_30 8 rfl rfl)
theorem dL_law_784 : decode cL_law 784 = .ok (.aload_n 0, 1) := dk_42 (dk_at dksL_law_30 9 rfl rfl)
theorem dL_law_785 : decode cL_law 785 = .ok (.iload 4, 2) := dk_21 4 (dk_at dksL_law_30 10 rfl rfl)
theorem dL_law_787 : decode cL_law 787 = .ok (.iconst 1, 1) := dk_4 (dk_at dksL_law_30 12 rfl rfl)
theorem dL_law_788 : decode cL_law 788 = .ok (.iadd, 1) := dk_96 (dk_at dksL_law_30 13 rfl rfl)
theorem dL_law_789 : decode cL_law 789 = .ok (.iaload, 1) := dk_46 (dk_at dksL_law_30 14 rfl rfl)
theorem dL_law_790 : decode cL_law 790 = .ok (.aload_n 0, 1) := dk_42 (dk_at dksL_law_30 15 rfl rfl)
theorem dL_law_791 : decode cL_law 791 = .ok (.iload 4, 2) := dk_21 4 (dk_at dksL_law_30 16 rfl rfl)
theorem dL_law_793 : decode cL_law 793 = .ok (.iconst 2, 1) := dk_5 (dk_at dksL_law_30 18 rfl rfl)
theorem dL_law_794 : decode cL_law 794 = .ok (.iadd, 1) := dk_96 (dk_at dksL_law_30 19 rfl rfl)
theorem dL_law_795 : decode cL_law 795 = .ok (.iaload, 1) := dk_46 (dk_at dksL_law_30 20 rfl rfl)
theorem dL_law_796 : decode cL_law 796 = .ok (.invokevirtual 127, 3) := dk_182 0 127 (dk_at dksL_law_30 21 rfl rfl)
theorem dL_law_799 : decode cL_law 799 = .ok (.istore 6, 2) := dk_54 6 (dk_at dksL_law_31 0 rfl rfl)
theorem dL_law_801 : decode cL_law 801 = .ok (.aload_n 2, 1) := dk_44 (dk_at dksL_law_31 2 rfl rfl)
theorem dL_law_802 : decode cL_law 802 = .ok (.invokevirtual 89, 3) := dk_182 0 89 (dk_at dksL_law_31 3 rfl rfl)
theorem dL_law_805 : decode cL_law 805 = .ok (.iload 5, 2) := dk_21 5 (dk_at dksL_law_31 6 rfl rfl)
theorem dL_law_807 : decode cL_law 807 = .ok (.if_icmp .eq 5, 3) := dk_159 0 5 (dk_at dksL_law_31 8 rfl rfl)
theorem dL_law_810 : decode cL_law 810 = .ok (.iconst 0, 1) := dk_3 (dk_at dksL_law_31 11 rfl rfl)
theorem dL_law_811 : decode cL_law 811 = .ok (.ireturn, 1) := dk_172 (dk_at dksL_law_31 12 rfl rfl)
theorem dL_law_812 : decode cL_law 812 = .ok (.iload 5, 2) := dk_21 5 (dk_at dksL_law_31 13 rfl rfl)
theorem dL_law_814 : decode cL_law 814 = .ok (.ifCond .ne 15, 3) := dk_154 0 15 (dk_at dksL_law_31 15 rfl rfl)
theorem dL_law_817 : decode cL_law 817 = .ok (.aload_n 3, 1) := dk_45 (dk_at dksL_law_31 18 rfl rfl)
theorem dL_law_818 : decode cL_law 818 = .ok (.iconst 0, 1) := dk_3 (dk_at dksL_law_31 19 rfl rfl)
theorem dL_law_819 : decode cL_law 819 = .ok (.laload, 1) := dk_47 (dk_at dksL_law_31 20 rfl rfl)
theorem dL_law_820 : decode cL_law 820 = .ok (.iload 6, 2) := dk_21 6 (dk_at dksL_law_31 21 rfl rfl)
theorem dL_law_822 : decode cL_law 822 = .ok (.i2l, 1) := dk_133 (dk_at dksL_law_31 23 rfl rfl)
theorem dL_law_823 : decode cL_law 823 = .ok (.lcmp, 1) := dk_148 (dk_at dksL_law_32 0 rfl rfl)
theorem dL_law_824 : decode cL_law 824 = .ok (.ifCond .eq 5, 3) := dk_153 0 5 (dk_at dksL_law_32 1 rfl rfl)
theorem dL_law_827 : decode cL_law 827 = .ok (.iconst 0, 1) := dk_3 (dk_at dksL_law_32 4 rfl rfl)
theorem dL_law_828 : decode cL_law 828 = .ok (.ireturn, 1) := dk_172 (dk_at dksL_law_32 5 rfl rfl)
theorem dL_law_829 : decode cL_law 829 = .ok (.goto 597, 3) := dk_167 2 85 (dk_at dksL_law_32 6 rfl rfl)
theorem dL_law_832 : decode cL_law 832 = .ok (.aload_n 1, 1) := dk_43 (dk_at dksL_law_32 9 rfl rfl)
theorem dL_law_833 : decode cL_law 833 = .ok (.aload_n 0, 1) := dk_42 (dk_at dksL_law_32 10 rfl rfl)
theorem dL_law_834 : decode cL_law 834 = .ok (.iload 4, 2) := dk_21 4 (dk_at dksL_law_32 11 rfl rfl)
theorem dL_law_836 : decode cL_law 836 = .ok (.iconst 1, 1) := dk_4 (dk_at dksL_law_32 13 rfl rfl)
theorem dL_law_837 : decode cL_law 837 = .ok (.iadd, 1) := dk_96 (dk_at dksL_law_32 14 rfl rfl)
theorem dL_law_838 : decode cL_law 838 = .ok (.iaload, 1) := dk_46 (dk_at dksL_law_32 15 rfl rfl)
theorem dL_law_839 : decode cL_law 839 = .ok (.aload_n 3, 1) := dk_45 (dk_at dksL_law_32 16 rfl rfl)
theorem dL_law_840 : decode cL_law 840 = .ok (.invokestatic 128, 3) := dk_184 0 128 (dk_at dksL_law_32 17 rfl rfl)
theorem dL_law_843 : decode cL_law 843 = .ok (.istore 5, 2) := dk_54 5 (dk_at dksL_law_32 20 rfl rfl)
theorem dL_law_845 : decode cL_law 845 = .ok (.aload_n 2, 1) := dk_44 (dk_at dksL_law_32 22 rfl rfl)
theorem dL_law_846 : decode cL_law 846 = .ok (.aload_n 0, 1) := dk_42 (dk_at dksL_law_32 23 rfl rfl)
theorem dL_law_847 : decode cL_law 847 = .ok (.iload 4, 2) := dk_21 4 (dk_at dksL_law_33 0 rfl rfl)
theorem dL_law_849 : decode cL_law 849 = .ok (.iconst 1, 1) := dk_4 (dk_at dksL_law_33 2 rfl rfl)
theorem dL_law_850 : decode cL_law 850 = .ok (.iadd, 1) := dk_96 (dk_at dksL_law_33 3 rfl rfl)
theorem dL_law_851 : decode cL_law 851 = .ok (.iaload, 1) := dk_46 (dk_at dksL_law_33 4 rfl rfl)
theorem dL_law_852 : decode cL_law 852 = .ok (.invokevirtual 130, 3) := dk_182 0 130 (dk_at dksL_law_33 5 rfl rfl)
theorem dL_law_855 : decode cL_law 855 = .ok (.istore 6, 2) := dk_54 6 (dk_at dksL_law_33 8 rfl rfl)
theorem dL_law_857 : decode cL_law 857 = .ok (.aload_n 2, 1) := dk_44 (dk_at dksL_law_33 10 rfl rfl)
theorem dL_law_858 : decode cL_law 858 = .ok (.invokevirtual 89, 3) := dk_182 0 89 (dk_at dksL_law_33 11 rfl rfl)
theorem dL_law_861 : decode cL_law 861 = .ok (.iload 5, 2) := dk_21 5 (dk_at dksL_law_33 14 rfl rfl)
theorem dL_law_863 : decode cL_law 863 = .ok (.if_icmp .eq 5, 3) := dk_159 0 5 (dk_at dksL_law_33 16 rfl rfl)
theorem dL_law_866 : decode cL_law 866 = .ok (.iconst 0, 1) := dk_3 (dk_at dksL_law_33 19 rfl rfl)
theorem dL_law_867 : decode cL_law 867 = .ok (.ireturn, 1) := dk_172 (dk_at dksL_law_33 20 rfl rfl)
theorem dL_law_868 : decode cL_law 868 = .ok (.iload 5, 2) := dk_21 5 (dk_at dksL_law_33 21 rfl rfl)
theorem dL_law_870 : decode cL_law 870 = .ok (.ifCond .ne 15, 3) := dk_154 0 15 (dk_at dksL_law_34 0 rfl rfl)
theorem dL_law_873 : decode cL_law 873 = .ok (.aload_n 3, 1) := dk_45 (dk_at dksL_law_34 3 rfl rfl)
theorem dL_law_874 : decode cL_law 874 = .ok (.iconst 0, 1) := dk_3 (dk_at dksL_law_34 4 rfl rfl)
theorem dL_law_875 : decode cL_law 875 = .ok (.laload, 1) := dk_47 (dk_at dksL_law_34 5 rfl rfl)
theorem dL_law_876 : decode cL_law 876 = .ok (.iload 6, 2) := dk_21 6 (dk_at dksL_law_34 6 rfl rfl)
theorem dL_law_878 : decode cL_law 878 = .ok (.i2l, 1) := dk_133 (dk_at dksL_law_34 8 rfl rfl)
theorem dL_law_879 : decode cL_law 879 = .ok (.lcmp, 1) := dk_148 (dk_at dksL_law_34 9 rfl rfl)
theorem dL_law_880 : decode cL_law 880 = .ok (.ifCond .eq 5, 3) := dk_153 0 5 (dk_at dksL_law_34 10 rfl rfl)
theorem dL_law_883 : decode cL_law 883 = .ok (.iconst 0, 1) := dk_3 (dk_at dksL_law_34 13 rfl rfl)
theorem dL_law_884 : decode cL_law 884 = .ok (.ireturn, 1) := dk_172 (dk_at dksL_law_34 14 rfl rfl)
theorem dL_law_885 : decode cL_law 885 = .ok (.goto 541, 3) := dk_167 2 29 (dk_at dksL_law_34 15 rfl rfl)
theorem dL_law_888 : decode cL_law 888 = .ok (.aload_n 1, 1) := dk_43 (dk_at dksL_law_34 18 rfl rfl)
theorem dL_law_889 : decode cL_law 889 = .ok (.aload_n 0, 1) := dk_42 (dk_at dksL_law_34 19 rfl rfl)
theorem dL_law_890 : decode cL_law 890 = .ok (.iload 4, 2) := dk_21 4 (dk_at dksL_law_34 20 rfl rfl)
theorem dL_law_892 : decode cL_law 892 = .ok (.iconst 1, 1) := dk_4 (dk_at dksL_law_34 22 rfl rfl)
theorem dL_law_893 : decode cL_law 893 = .ok (.iadd, 1) := dk_96 (dk_at dksL_law_34 23 rfl rfl)
theorem dL_law_894 : decode cL_law 894 = .ok (.iaload, 1) := dk_46 (dk_at dksL_law_35 0 rfl rfl)
theorem dL_law_895 : decode cL_law 895 = .ok (.aload_n 0, 1) := dk_42 (dk_at dksL_law_35 1 rfl rfl)
theorem dL_law_896 : decode cL_law 896 = .ok (.iload 4, 2) := dk_21 4 (dk_at dksL_law_35 2 rfl rfl)
theorem dL_law_898 : decode cL_law 898 = .ok (.iconst 2, 1) := dk_5 (dk_at dksL_law_35 4 rfl rfl)
theorem dL_law_899 : decode cL_law 899 = .ok (.iadd, 1) := dk_96 (dk_at dksL_law_35 5 rfl rfl)
theorem dL_law_900 : decode cL_law 900 = .ok (.iaload, 1) := dk_46 (dk_at dksL_law_35 6 rfl rfl)
theorem dL_law_901 : decode cL_law 901 = .ok (.aload_n 0, 1) := dk_42 (dk_at dksL_law_35 7 rfl rfl)
theorem dL_law_902 : decode cL_law 902 = .ok (.iload 4, 2) := dk_21 4 (dk_at dksL_law_35 8 rfl rfl)
theorem dL_law_904 : decode cL_law 904 = .ok (.iconst 3, 1) := dk_6 (dk_at dksL_law_35 10 rfl rfl)
theorem dL_law_905 : decode cL_law 905 = .ok (.iadd, 1) := dk_96 (dk_at dksL_law_35 11 rfl rfl)
theorem dL_law_906 : decode cL_law 906 = .ok (.iaload, 1) := dk_46 (dk_at dksL_law_35 12 rfl rfl)
theorem dL_law_907 : decode cL_law 907 = .ok (.aload_n 3, 1) := dk_45 (dk_at dksL_law_35 13 rfl rfl)
theorem dL_law_908 : decode cL_law 908 = .ok (.invokestatic 131, 3) := dk_184 0 131 (dk_at dksL_law_35 14 rfl rfl)
theorem dL_law_911 : decode cL_law 911 = .ok (.istore 5, 2) := dk_54 5 (dk_at dksL_law_35 17 rfl rfl)
theorem dL_law_913 : decode cL_law 913 = .ok (.aload_n 2, 1) := dk_44 (dk_at dksL_law_35 19 rfl rfl)
theorem dL_law_914 : decode cL_law 914 = .ok (.aload_n 0, 1) := dk_42 (dk_at dksL_law_35 20 rfl rfl)
theorem dL_law_915 : decode cL_law 915 = .ok (.iload 4, 2) := dk_21 4 (dk_at dksL_law_35 21 rfl rfl)
theorem dL_law_917 : decode cL_law 917 = .ok (.iconst 1, 1) := dk_4 (dk_at dksL_law_35 23 rfl rfl)
theorem dL_law_918 : decode cL_law 918 = .ok (.iadd, 1) := dk_96 (dk_at dksL_law_36 0 rfl rfl)
theorem dL_law_919 : decode cL_law 919 = .ok (.iaload, 1) := dk_46 (dk_at dksL_law_36 1 rfl rfl)
theorem dL_law_920 : decode cL_law 920 = .ok (.aload_n 0, 1) := dk_42 (dk_at dksL_law_36 2 rfl rfl)
theorem dL_law_921 : decode cL_law 921 = .ok (.iload 4, 2) := dk_21 4 (dk_at dksL_law_36 3 rfl rfl)
theorem dL_law_923 : decode cL_law 923 = .ok (.iconst 2, 1) := dk_5 (dk_at dksL_law_36 5 rfl rfl)
theorem dL_law_924 : decode cL_law 924 = .ok (.iadd, 1) := dk_96 (dk_at dksL_law_36 6 rfl rfl)
theorem dL_law_925 : decode cL_law 925 = .ok (.iaload, 1) := dk_46 (dk_at dksL_law_36 7 rfl rfl)
theorem dL_law_926 : decode cL_law 926 = .ok (.aload_n 0, 1) := dk_42 (dk_at dksL_law_36 8 rfl rfl)
theorem dL_law_927 : decode cL_law 927 = .ok (.iload 4, 2) := dk_21 4 (dk_at dksL_law_36 9 rfl rfl)
theorem dL_law_929 : decode cL_law 929 = .ok (.iconst 3, 1) := dk_6 (dk_at dksL_law_36 11 rfl rfl)
theorem dL_law_930 : decode cL_law 930 = .ok (.iadd, 1) := dk_96 (dk_at dksL_law_36 12 rfl rfl)
theorem dL_law_931 : decode cL_law 931 = .ok (.iaload, 1) := dk_46 (dk_at dksL_law_36 13 rfl rfl)
theorem dL_law_932 : decode cL_law 932 = .ok (.invokevirtual 133, 3) := dk_182 0 133 (dk_at dksL_law_36 14 rfl rfl)
theorem dL_law_935 : decode cL_law 935 = .ok (.istore 6, 2) := dk_54 6 (dk_at dksL_law_36 17 rfl rfl)
theorem dL_law_937 : decode cL_law 937 = .ok (.aload_n 2, 1) := dk_44 (dk_at dksL_law_36 19 rfl rfl)
theorem dL_law_938 : decode cL_law 938 = .ok (.invokevirtual 89, 3) := dk_182 0 89 (dk_at dksL_law_36 20 rfl rfl)
theorem dL_law_941 : decode cL_law 941 = .ok (.iload 5, 2) := dk_21 5 (dk_at dksL_law_37 0 rfl rfl)
theorem dL_law_943 : decode cL_law 943 = .ok (.if_icmp .eq 5, 3) := dk_159 0 5 (dk_at dksL_law_37 2 rfl rfl)
theorem dL_law_946 : decode cL_law 946 = .ok (.iconst 0, 1) := dk_3 (dk_at dksL_law_37 5 rfl rfl)
theorem dL_law_947 : decode cL_law 947 = .ok (.ireturn, 1) := dk_172 (dk_at dksL_law_37 6 rfl rfl)
theorem dL_law_948 : decode cL_law 948 = .ok (.iload 5, 2) := dk_21 5 (dk_at dksL_law_37 7 rfl rfl)
theorem dL_law_950 : decode cL_law 950 = .ok (.ifCond .ne 15, 3) := dk_154 0 15 (dk_at dksL_law_37 9 rfl rfl)
theorem dL_law_953 : decode cL_law 953 = .ok (.aload_n 3, 1) := dk_45 (dk_at dksL_law_37 12 rfl rfl)
theorem dL_law_954 : decode cL_law 954 = .ok (.iconst 0, 1) := dk_3 (dk_at dksL_law_37 13 rfl rfl)
theorem dL_law_955 : decode cL_law 955 = .ok (.laload, 1) := dk_47 (dk_at dksL_law_37 14 rfl rfl)
theorem dL_law_956 : decode cL_law 956 = .ok (.iload 6, 2) := dk_21 6 (dk_at dksL_law_37 15 rfl rfl)
theorem dL_law_958 : decode cL_law 958 = .ok (.i2l, 1) := dk_133 (dk_at dksL_law_37 17 rfl rfl)
theorem dL_law_959 : decode cL_law 959 = .ok (.lcmp, 1) := dk_148 (dk_at dksL_law_37 18 rfl rfl)
theorem dL_law_960 : decode cL_law 960 = .ok (.ifCond .eq 5, 3) := dk_153 0 5 (dk_at dksL_law_37 19 rfl rfl)
theorem dL_law_963 : decode cL_law 963 = .ok (.iconst 0, 1) := dk_3 (dk_at dksL_law_37 22 rfl rfl)
theorem dL_law_964 : decode cL_law 964 = .ok (.ireturn, 1) := dk_172 (dk_at dksL_law_37 23 rfl rfl)
theorem dL_law_965 : decode cL_law 965 = .ok (.goto 461, 3) := dk_167 1 205 (dk_at dksL_law_38 0 rfl rfl)
theorem dL_law_968 : decode cL_law 968 = .ok (.aload_n 1, 1) := dk_43 (dk_at dksL_law_38 3 rfl rfl)
theorem dL_law_969 : decode cL_law 969 = .ok (.aload_n 0, 1) := dk_42 (dk_at dksL_law_38 4 rfl rfl)
theorem dL_law_970 : decode cL_law 970 = .ok (.iload 4, 2) := dk_21 4 (dk_at dksL_law_38 5 rfl rfl)
theorem dL_law_972 : decode cL_law 972 = .ok (.iconst 1, 1) := dk_4 (dk_at dksL_law_38 7 rfl rfl)
theorem dL_law_973 : decode cL_law 973 = .ok (.iadd, 1) := dk_96 (dk_at dksL_law_38 8 rfl rfl)
theorem dL_law_974 : decode cL_law 974 = .ok (.iaload, 1) := dk_46 (dk_at dksL_law_38 9 rfl rfl)
theorem dL_law_975 : decode cL_law 975 = .ok (.aload_n 3, 1) := dk_45 (dk_at dksL_law_38 10 rfl rfl)
theorem dL_law_976 : decode cL_law 976 = .ok (.invokestatic 134, 3) := dk_184 0 134 (dk_at dksL_law_38 11 rfl rfl)
theorem dL_law_979 : decode cL_law 979 = .ok (.istore 5, 2) := dk_54 5 (dk_at dksL_law_38 14 rfl rfl)
theorem dL_law_981 : decode cL_law 981 = .ok (.aload_n 2, 1) := dk_44 (dk_at dksL_law_38 16 rfl rfl)
theorem dL_law_982 : decode cL_law 982 = .ok (.aload_n 0, 1) := dk_42 (dk_at dksL_law_38 17 rfl rfl)
theorem dL_law_983 : decode cL_law 983 = .ok (.iload 4, 2) := dk_21 4 (dk_at dksL_law_38 18 rfl rfl)
theorem dL_law_985 : decode cL_law 985 = .ok (.iconst 1, 1) := dk_4 (dk_at dksL_law_38 20 rfl rfl)
theorem dL_law_986 : decode cL_law 986 = .ok (.iadd, 1) := dk_96 (dk_at dksL_law_38 21 rfl rfl)
theorem dL_law_987 : decode cL_law 987 = .ok (.iaload, 1) := dk_46 (dk_at dksL_law_38 22 rfl rfl)
theorem dL_law_988 : decode cL_law 988 = .ok (.invokevirtual 136, 3) := dk_182 0 136 (dk_at dksL_law_39 0 rfl rfl)
theorem dL_law_991 : decode cL_law 991 = .ok (.istore 6, 2) := dk_54 6 (dk_at dksL_law_39 3 rfl rfl)
theorem dL_law_993 : decode cL_law 993 = .ok (.aload_n 2, 1) := dk_44 (dk_at dksL_law_39 5 rfl rfl)
theorem dL_law_994 : decode cL_law 994 = .ok (.invokevirtual 89, 3) := dk_182 0 89 (dk_at dksL_law_39 6 rfl rfl)
theorem dL_law_997 : decode cL_law 997 = .ok (.iload 5, 2) := dk_21 5 (dk_at dksL_law_39 9 rfl rfl)
theorem dL_law_999 : decode cL_law 999 = .ok (.if_icmp .eq 5, 3) := dk_159 0 5 (dk_at dksL_law_39 11 rfl rfl)
theorem dL_law_1002 : decode cL_law 1002 = .ok (.iconst 0, 1) := dk_3 (dk_at dksL_law_39 14 rfl rfl)
theorem dL_law_1003 : decode cL_law 1003 = .ok (.ireturn, 1) := dk_172 (dk_at dksL_law_39 15 rfl rfl)
theorem dL_law_1004 : decode cL_law 1004 = .ok (.iload 5, 2) := dk_21 5 (dk_at dksL_law_39 16 rfl rfl)
theorem dL_law_1006 : decode cL_law 1006 = .ok (.ifCond .ne 15, 3) := dk_154 0 15 (dk_at dksL_law_39 18 rfl rfl)
theorem dL_law_1009 : decode cL_law 1009 = .ok (.aload_n 3, 1) := dk_45 (dk_at dksL_law_39 21 rfl rfl)
theorem dL_law_1010 : decode cL_law 1010 = .ok (.iconst 0, 1) := dk_3 (dk_at dksL_law_39 22 rfl rfl)
theorem dL_law_1011 : decode cL_law 1011 = .ok (.laload, 1) := dk_47 (dk_at dksL_law_39 23 rfl rfl)
theorem dL_law_1012 : decode cL_law 1012 = .ok (.iload 6, 2) := dk_21 6 (dk_at dksL_law_40 0 rfl rfl)
theorem dL_law_1014 : decode cL_law 1014 = .ok (.i2l, 1) := dk_133 (dk_at dksL_law_40 2 rfl rfl)
theorem dL_law_1015 : decode cL_law 1015 = .ok (.lcmp, 1) := dk_148 (dk_at dksL_law_40 3 rfl rfl)
theorem dL_law_1016 : decode cL_law 1016 = .ok (.ifCond .eq 5, 3) := dk_153 0 5 (dk_at dksL_law_40 4 rfl rfl)
theorem dL_law_1019 : decode cL_law 1019 = .ok (.iconst 0, 1) := dk_3 (dk_at dksL_law_40 7 rfl rfl)
theorem dL_law_1020 : decode cL_law 1020 = .ok (.ireturn, 1) := dk_172 (dk_at dksL_law_40 8 rfl rfl)
theorem dL_law_1021 : decode cL_law 1021 = .ok (.goto 405, 3) := dk_167 1 149 (dk_at dksL_law_40 9 rfl rfl)
theorem dL_law_1024 : decode cL_law 1024 = .ok (.aload_n 1, 1) := dk_43 (dk_at dksL_law_40 12 rfl rfl)
theorem dL_law_1025 : decode cL_law 1025 = .ok (.invokevirtual 137, 3) := dk_182 0 137 (dk_at dksL_law_40 13 rfl rfl)
theorem dL_law_1028 : decode cL_law 1028 = .ok (.aload_n 2, 1) := dk_44 (dk_at dksL_law_40 16 rfl rfl)
theorem dL_law_1029 : decode cL_law 1029 = .ok (.invokevirtual 140, 3) := dk_182 0 140 (dk_at dksL_law_40 17 rfl rfl)
theorem dL_law_1032 : decode cL_law 1032 = .ok (.if_icmp .eq 394, 3) := dk_159 1 138 (dk_at dksL_law_40 20 rfl rfl)
theorem dL_law_1035 : decode cL_law 1035 = .ok (.iconst 0, 1) := dk_3 (dk_at dksL_law_40 23 rfl rfl)
theorem dL_law_1036 : decode cL_law 1036 = .ok (.ireturn, 1) := dk_172 (dk_at dksL_law_41 0 rfl rfl)
theorem dL_law_1037 : decode cL_law 1037 = .ok (.aload_n 1, 1) := dk_43 (dk_at dksL_law_41 1 rfl rfl)
theorem dL_law_1038 : decode cL_law 1038 = .ok (.invokevirtual 141, 3) := dk_182 0 141 (dk_at dksL_law_41 2 rfl rfl)
theorem dL_law_1041 : decode cL_law 1041 = .ok (.aload_n 2, 1) := dk_44 (dk_at dksL_law_41 5 rfl rfl)
theorem dL_law_1042 : decode cL_law 1042 = .ok (.invokevirtual 144, 3) := dk_182 0 144 (dk_at dksL_law_41 6 rfl rfl)
theorem dL_law_1045 : decode cL_law 1045 = .ok (.if_icmp .eq 381, 3) := dk_159 1 125 (dk_at dksL_law_41 9 rfl rfl)
theorem dL_law_1048 : decode cL_law 1048 = .ok (.iconst 0, 1) := dk_3 (dk_at dksL_law_41 12 rfl rfl)
theorem dL_law_1049 : decode cL_law 1049 = .ok (.ireturn, 1) := dk_172 (dk_at dksL_law_41 13 rfl rfl)
theorem dL_law_1050 : decode cL_law 1050 = .ok (.aload_n 1, 1) := dk_43 (dk_at dksL_law_41 14 rfl rfl)
theorem dL_law_1051 : decode cL_law 1051 = .ok (.aload_n 0, 1) := dk_42 (dk_at dksL_law_41 15 rfl rfl)
theorem dL_law_1052 : decode cL_law 1052 = .ok (.iload 4, 2) := dk_21 4 (dk_at dksL_law_41 16 rfl rfl)
theorem dL_law_1054 : decode cL_law 1054 = .ok (.iconst 1, 1) := dk_4 (dk_at dksL_law_41 18 rfl rfl)
theorem dL_law_1055 : decode cL_law 1055 = .ok (.iadd, 1) := dk_96 (dk_at dksL_law_41 19 rfl rfl)
theorem dL_law_1056 : decode cL_law 1056 = .ok (.iaload, 1) := dk_46 (dk_at dksL_law_41 20 rfl rfl)
theorem dL_law_1057 : decode cL_law 1057 = .ok (.aload_n 0, 1) := dk_42 (dk_at dksL_law_41 21 rfl rfl)
theorem dL_law_1058 : decode cL_law 1058 = .ok (.iload 4, 2) := dk_21 4 (dk_at dksL_law_41 22 rfl rfl)
theorem dL_law_1060 : decode cL_law 1060 = .ok (.iconst 2, 1) := dk_5 (dk_at dksL_law_42 0 rfl rfl)
theorem dL_law_1061 : decode cL_law 1061 = .ok (.iadd, 1) := dk_96 (dk_at dksL_law_42 1 rfl rfl)
theorem dL_law_1062 : decode cL_law 1062 = .ok (.iaload, 1) := dk_46 (dk_at dksL_law_42 2 rfl rfl)
theorem dL_law_1063 : decode cL_law 1063 = .ok (.aload_n 3, 1) := dk_45 (dk_at dksL_law_42 3 rfl rfl)
theorem dL_law_1064 : decode cL_law 1064 = .ok (.invokestatic 145, 3) := dk_184 0 145 (dk_at dksL_law_42 4 rfl rfl)
theorem dL_law_1067 : decode cL_law 1067 = .ok (.istore 5, 2) := dk_54 5 (dk_at dksL_law_42 7 rfl rfl)
theorem dL_law_1069 : decode cL_law 1069 = .ok (.aload_n 2, 1) := dk_44 (dk_at dksL_law_42 9 rfl rfl)
theorem dL_law_1070 : decode cL_law 1070 = .ok (.aload_n 0, 1) := dk_42 (dk_at dksL_law_42 10 rfl rfl)
theorem dL_law_1071 : decode cL_law 1071 = .ok (.iload 4, 2) := dk_21 4 (dk_at dksL_law_42 11 rfl rfl)
theorem dL_law_1073 : decode cL_law 1073 = .ok (.iconst 1, 1) := dk_4 (dk_at dksL_law_42 13 rfl rfl)
theorem dL_law_1074 : decode cL_law 1074 = .ok (.iadd, 1) := dk_96 (dk_at dksL_law_42 14 rfl rfl)
theorem dL_law_1075 : decode cL_law 1075 = .ok (.iaload, 1) := dk_46 (dk_at dksL_law_42 15 rfl rfl)
theorem dL_law_1076 : decode cL_law 1076 = .ok (.aload_n 0, 1) := dk_42 (dk_at dksL_law_42 16 rfl rfl)
theorem dL_law_1077 : decode cL_law 1077 = .ok (.iload 4, 2) := dk_21 4 (dk_at dksL_law_42 17 rfl rfl)
theorem dL_law_1079 : decode cL_law 1079 = .ok (.iconst 2, 1) := dk_5 (dk_at dksL_law_42 19 rfl rfl)
theorem dL_law_1080 : decode cL_law 1080 = .ok (.iadd, 1) := dk_96 (dk_at dksL_law_42 20 rfl rfl)
theorem dL_law_1081 : decode cL_law 1081 = .ok (.iaload, 1) := dk_46 (dk_at dksL_law_42 21 rfl rfl)
theorem dL_law_1082 : decode cL_law 1082 = .ok (.invokevirtual 147, 3) := dk_182 0 147 (dk_at dksL_law_43 0 rfl rfl)
theorem dL_law_1085 : decode cL_law 1085 = .ok (.istore 6, 2) := dk_54 6 (dk_at dksL_law_43 3 rfl rfl)
theorem dL_law_1087 : decode cL_law 1087 = .ok (.aload_n 2, 1) := dk_44 (dk_at dksL_law_43 5 rfl rfl)
theorem dL_law_1088 : decode cL_law 1088 = .ok (.invokevirtual 89, 3) := dk_182 0 89 (dk_at dksL_law_43 6 rfl rfl)
theorem dL_law_1091 : decode cL_law 1091 = .ok (.iload 5, 2) := dk_21 5 (dk_at dksL_law_43 9 rfl rfl)
theorem dL_law_1093 : decode cL_law 1093 = .ok (.if_icmp .eq 5, 3) := dk_159 0 5 (dk_at dksL_law_43 11 rfl rfl)
theorem dL_law_1096 : decode cL_law 1096 = .ok (.iconst 0, 1) := dk_3 (dk_at dksL_law_43 14 rfl rfl)
theorem dL_law_1097 : decode cL_law 1097 = .ok (.ireturn, 1) := dk_172 (dk_at dksL_law_43 15 rfl rfl)
theorem dL_law_1098 : decode cL_law 1098 = .ok (.iload 5, 2) := dk_21 5 (dk_at dksL_law_43 16 rfl rfl)
theorem dL_law_1100 : decode cL_law 1100 = .ok (.ifCond .ne 15, 3) := dk_154 0 15 (dk_at dksL_law_43 18 rfl rfl)
theorem dL_law_1103 : decode cL_law 1103 = .ok (.aload_n 3, 1) := dk_45 (dk_at dksL_law_43 21 rfl rfl)
theorem dL_law_1104 : decode cL_law 1104 = .ok (.iconst 0, 1) := dk_3 (dk_at dksL_law_43 22 rfl rfl)
theorem dL_law_1105 : decode cL_law 1105 = .ok (.laload, 1) := dk_47 (dk_at dksL_law_43 23 rfl rfl)
theorem dL_law_1106 : decode cL_law 1106 = .ok (.iload 6, 2) := dk_21 6 (dk_at dksL_law_44 0 rfl rfl)
theorem dL_law_1108 : decode cL_law 1108 = .ok (.i2l, 1) := dk_133 (dk_at dksL_law_44 2 rfl rfl)
theorem dL_law_1109 : decode cL_law 1109 = .ok (.lcmp, 1) := dk_148 (dk_at dksL_law_44 3 rfl rfl)
theorem dL_law_1110 : decode cL_law 1110 = .ok (.ifCond .eq 5, 3) := dk_153 0 5 (dk_at dksL_law_44 4 rfl rfl)
theorem dL_law_1113 : decode cL_law 1113 = .ok (.iconst 0, 1) := dk_3 (dk_at dksL_law_44 7 rfl rfl)
theorem dL_law_1114 : decode cL_law 1114 = .ok (.ireturn, 1) := dk_172 (dk_at dksL_law_44 8 rfl rfl)
theorem dL_law_1115 : decode cL_law 1115 = .ok (.goto 311, 3) := dk_167 1 55 (dk_at dksL_law_44 9 rfl rfl)
theorem dL_law_1118 : decode cL_law 1118 = .ok (.aload_n 1, 1) := dk_43 (dk_at dksL_law_44 12 rfl rfl)
theorem dL_law_1119 : decode cL_law 1119 = .ok (.aload_n 0, 1) := dk_42 (dk_at dksL_law_44 13 rfl rfl)
theorem dL_law_1120 : decode cL_law 1120 = .ok (.iload 4, 2) := dk_21 4 (dk_at dksL_law_44 14 rfl rfl)
theorem dL_law_1122 : decode cL_law 1122 = .ok (.iconst 1, 1) := dk_4 (dk_at dksL_law_44 16 rfl rfl)
theorem dL_law_1123 : decode cL_law 1123 = .ok (.iadd, 1) := dk_96 (dk_at dksL_law_44 17 rfl rfl)
theorem dL_law_1124 : decode cL_law 1124 = .ok (.iaload, 1) := dk_46 (dk_at dksL_law_44 18 rfl rfl)
theorem dL_law_1125 : decode cL_law 1125 = .ok (.aload_n 0, 1) := dk_42 (dk_at dksL_law_44 19 rfl rfl)
theorem dL_law_1126 : decode cL_law 1126 = .ok (.iload 4, 2) := dk_21 4 (dk_at dksL_law_44 20 rfl rfl)
theorem dL_law_1128 : decode cL_law 1128 = .ok (.iconst 2, 1) := dk_5 (dk_at dksL_law_44 22 rfl rfl)
theorem dL_law_1129 : decode cL_law 1129 = .ok (.iadd, 1) := dk_96 (dk_at dksL_law_44 23 rfl rfl)
theorem dL_law_1130 : decode cL_law 1130 = .ok (.iaload, 1) := dk_46 (dk_at dksL_law_45 0 rfl rfl)
theorem dL_law_1131 : decode cL_law 1131 = .ok (.aload_n 0, 1) := dk_42 (dk_at dksL_law_45 1 rfl rfl)
theorem dL_law_1132 : decode cL_law 1132 = .ok (.iload 4, 2) := dk_21 4 (dk_at dksL_law_45 2 rfl rfl)
theorem dL_law_1134 : decode cL_law 1134 = .ok (.iconst 3, 1) := dk_6 (dk_at dksL_law_45 4 rfl rfl)
theorem dL_law_1135 : decode cL_law 1135 = .ok (.iadd, 1) := dk_96 (dk_at dksL_law_45 5 rfl rfl)
theorem dL_law_1136 : decode cL_law 1136 = .ok (.iaload, 1) := dk_46 (dk_at dksL_law_45 6 rfl rfl)
theorem dL_law_1137 : decode cL_law 1137 = .ok (.aload_n 3, 1) := dk_45 (dk_at dksL_law_45 7 rfl rfl)
theorem dL_law_1138 : decode cL_law 1138 = .ok (.invokestatic 148, 3) := dk_184 0 148 (dk_at dksL_law_45 8 rfl rfl)
theorem dL_law_1141 : decode cL_law 1141 = .ok (.istore 5, 2) := dk_54 5 (dk_at dksL_law_45 11 rfl rfl)
theorem dL_law_1143 : decode cL_law 1143 = .ok (.aload_n 2, 1) := dk_44 (dk_at dksL_law_45 13 rfl rfl)
theorem dL_law_1144 : decode cL_law 1144 = .ok (.aload_n 0, 1) := dk_42 (dk_at dksL_law_45 14 rfl rfl)
theorem dL_law_1145 : decode cL_law 1145 = .ok (.iload 4, 2) := dk_21 4 (dk_at dksL_law_45 15 rfl rfl)
theorem dL_law_1147 : decode cL_law 1147 = .ok (.iconst 1, 1) := dk_4 (dk_at dksL_law_45 17 rfl rfl)
theorem dL_law_1148 : decode cL_law 1148 = .ok (.iadd, 1) := dk_96 (dk_at dksL_law_45 18 rfl rfl)
theorem dL_law_1149 : decode cL_law 1149 = .ok (.iaload, 1) := dk_46 (dk_at dksL_law_45 19 rfl rfl)
theorem dL_law_1150 : decode cL_law 1150 = .ok (.aload_n 0, 1) := dk_42 (dk_at dksL_law_45 20 rfl rfl)
theorem dL_law_1151 : decode cL_law 1151 = .ok (.iload 4, 2) := dk_21 4 (dk_at dksL_law_45 21 rfl rfl)
theorem dL_law_1153 : decode cL_law 1153 = .ok (.iconst 2, 1) := dk_5 (dk_at dksL_law_45 23 rfl rfl)
theorem dL_law_1154 : decode cL_law 1154 = .ok (.iadd, 1) := dk_96 (dk_at dksL_law_46 0 rfl rfl)
theorem dL_law_1155 : decode cL_law 1155 = .ok (.iaload, 1) := dk_46 (dk_at dksL_law_46 1 rfl rfl)
theorem dL_law_1156 : decode cL_law 1156 = .ok (.aload_n 0, 1) := dk_42 (dk_at dksL_law_46 2 rfl rfl)
theorem dL_law_1157 : decode cL_law 1157 = .ok (.iload 4, 2) := dk_21 4 (dk_at dksL_law_46 3 rfl rfl)
theorem dL_law_1159 : decode cL_law 1159 = .ok (.iconst 3, 1) := dk_6 (dk_at dksL_law_46 5 rfl rfl)
theorem dL_law_1160 : decode cL_law 1160 = .ok (.iadd, 1) := dk_96 (dk_at dksL_law_46 6 rfl rfl)
theorem dL_law_1161 : decode cL_law 1161 = .ok (.iaload, 1) := dk_46 (dk_at dksL_law_46 7 rfl rfl)
theorem dL_law_1162 : decode cL_law 1162 = .ok (.invokevirtual 150, 3) := dk_182 0 150 (dk_at dksL_law_46 8 rfl rfl)
theorem dL_law_1165 : decode cL_law 1165 = .ok (.istore 6, 2) := dk_54 6 (dk_at dksL_law_46 11 rfl rfl)
theorem dL_law_1167 : decode cL_law 1167 = .ok (.aload_n 2, 1) := dk_44 (dk_at dksL_law_46 13 rfl rfl)
theorem dL_law_1168 : decode cL_law 1168 = .ok (.invokevirtual 89, 3) := dk_182 0 89 (dk_at dksL_law_46 14 rfl rfl)
theorem dL_law_1171 : decode cL_law 1171 = .ok (.iload 5, 2) := dk_21 5 (dk_at dksL_law_46 17 rfl rfl)
theorem dL_law_1173 : decode cL_law 1173 = .ok (.if_icmp .eq 5, 3) := dk_159 0 5 (dk_at dksL_law_46 19 rfl rfl)
theorem dL_law_1176 : decode cL_law 1176 = .ok (.iconst 0, 1) := dk_3 (dk_at dksL_law_46 22 rfl rfl)
theorem dL_law_1177 : decode cL_law 1177 = .ok (.ireturn, 1) := dk_172 (dk_at dksL_law_46 23 rfl rfl)
theorem dL_law_1178 : decode cL_law 1178 = .ok (.iload 5, 2) := dk_21 5 (dk_at dksL_law_47 0 rfl rfl)
theorem dL_law_1180 : decode cL_law 1180 = .ok (.ifCond .ne 15, 3) := dk_154 0 15 (dk_at dksL_law_47 2 rfl rfl)
theorem dL_law_1183 : decode cL_law 1183 = .ok (.aload_n 3, 1) := dk_45 (dk_at dksL_law_47 5 rfl rfl)
theorem dL_law_1184 : decode cL_law 1184 = .ok (.iconst 0, 1) := dk_3 (dk_at dksL_law_47 6 rfl rfl)
theorem dL_law_1185 : decode cL_law 1185 = .ok (.laload, 1) := dk_47 (dk_at dksL_law_47 7 rfl rfl)
theorem dL_law_1186 : decode cL_law 1186 = .ok (.iload 6, 2) := dk_21 6 (dk_at dksL_law_47 8 rfl rfl)
theorem dL_law_1188 : decode cL_law 1188 = .ok (.i2l, 1) := dk_133 (dk_at dksL_law_47 10 rfl rfl)
theorem dL_law_1189 : decode cL_law 1189 = .ok (.lcmp, 1) := dk_148 (dk_at dksL_law_47 11 rfl rfl)
theorem dL_law_1190 : decode cL_law 1190 = .ok (.ifCond .eq 5, 3) := dk_153 0 5 (dk_at dksL_law_47 12 rfl rfl)
theorem dL_law_1193 : decode cL_law 1193 = .ok (.iconst 0, 1) := dk_3 (dk_at dksL_law_47 15 rfl rfl)
theorem dL_law_1194 : decode cL_law 1194 = .ok (.ireturn, 1) := dk_172 (dk_at dksL_law_47 16 rfl rfl)
theorem dL_law_1195 : decode cL_law 1195 = .ok (.goto 231, 3) := dk_167 0 231 (dk_at dksL_law_47 17 rfl rfl)
theorem dL_law_1198 : decode cL_law 1198 = .ok (.aload_n 1, 1) := dk_43 (dk_at dksL_law_47 20 rfl rfl)
theorem dL_law_1199 : decode cL_law 1199 = .ok (.aload_n 0, 1) := dk_42 (dk_at dksL_law_47 21 rfl rfl)
theorem dL_law_1200 : decode cL_law 1200 = .ok (.iload 4, 2) := dk_21 4 (dk_at dksL_law_47 22 rfl rfl)
theorem dL_law_1202 : decode cL_law 1202 = .ok (.iconst 1, 1) := dk_4 (dk_at dksL_law_48 0 rfl rfl)
theorem dL_law_1203 : decode cL_law 1203 = .ok (.iadd, 1) := dk_96 (dk_at dksL_law_48 1 rfl rfl)
theorem dL_law_1204 : decode cL_law 1204 = .ok (.iaload, 1) := dk_46 (dk_at dksL_law_48 2 rfl rfl)
theorem dL_law_1205 : decode cL_law 1205 = .ok (.aload_n 0, 1) := dk_42 (dk_at dksL_law_48 3 rfl rfl)
theorem dL_law_1206 : decode cL_law 1206 = .ok (.iload 4, 2) := dk_21 4 (dk_at dksL_law_48 4 rfl rfl)
theorem dL_law_1208 : decode cL_law 1208 = .ok (.iconst 2, 1) := dk_5 (dk_at dksL_law_48 6 rfl rfl)
theorem dL_law_1209 : decode cL_law 1209 = .ok (.iadd, 1) := dk_96 (dk_at dksL_law_48 7 rfl rfl)
theorem dL_law_1210 : decode cL_law 1210 = .ok (.iaload, 1) := dk_46 (dk_at dksL_law_48 8 rfl rfl)
theorem dL_law_1211 : decode cL_law 1211 = .ok (.aload_n 0, 1) := dk_42 (dk_at dksL_law_48 9 rfl rfl)
theorem dL_law_1212 : decode cL_law 1212 = .ok (.iload 4, 2) := dk_21 4 (dk_at dksL_law_48 10 rfl rfl)
theorem dL_law_1214 : decode cL_law 1214 = .ok (.iconst 3, 1) := dk_6 (dk_at dksL_law_48 12 rfl rfl)
theorem dL_law_1215 : decode cL_law 1215 = .ok (.iadd, 1) := dk_96 (dk_at dksL_law_48 13 rfl rfl)
theorem dL_law_1216 : decode cL_law 1216 = .ok (.iaload, 1) := dk_46 (dk_at dksL_law_48 14 rfl rfl)
theorem dL_law_1217 : decode cL_law 1217 = .ok (.aload_n 3, 1) := dk_45 (dk_at dksL_law_48 15 rfl rfl)
theorem dL_law_1218 : decode cL_law 1218 = .ok (.invokestatic 151, 3) := dk_184 0 151 (dk_at dksL_law_48 16 rfl rfl)
theorem dL_law_1221 : decode cL_law 1221 = .ok (.istore 5, 2) := dk_54 5 (dk_at dksL_law_48 19 rfl rfl)
theorem dL_law_1223 : decode cL_law 1223 = .ok (.aload_n 2, 1) := dk_44 (dk_at dksL_law_48 21 rfl rfl)
theorem dL_law_1224 : decode cL_law 1224 = .ok (.aload_n 0, 1) := dk_42 (dk_at dksL_law_48 22 rfl rfl)
theorem dL_law_1225 : decode cL_law 1225 = .ok (.iload 4, 2) := dk_21 4 (dk_at dksL_law_49 0 rfl rfl)
theorem dL_law_1227 : decode cL_law 1227 = .ok (.iconst 1, 1) := dk_4 (dk_at dksL_law_49 2 rfl rfl)
theorem dL_law_1228 : decode cL_law 1228 = .ok (.iadd, 1) := dk_96 (dk_at dksL_law_49 3 rfl rfl)
theorem dL_law_1229 : decode cL_law 1229 = .ok (.iaload, 1) := dk_46 (dk_at dksL_law_49 4 rfl rfl)
theorem dL_law_1230 : decode cL_law 1230 = .ok (.aload_n 0, 1) := dk_42 (dk_at dksL_law_49 5 rfl rfl)
theorem dL_law_1231 : decode cL_law 1231 = .ok (.iload 4, 2) := dk_21 4 (dk_at dksL_law_49 6 rfl rfl)
theorem dL_law_1233 : decode cL_law 1233 = .ok (.iconst 2, 1) := dk_5 (dk_at dksL_law_49 8 rfl rfl)
theorem dL_law_1234 : decode cL_law 1234 = .ok (.iadd, 1) := dk_96 (dk_at dksL_law_49 9 rfl rfl)
theorem dL_law_1235 : decode cL_law 1235 = .ok (.iaload, 1) := dk_46 (dk_at dksL_law_49 10 rfl rfl)
theorem dL_law_1236 : decode cL_law 1236 = .ok (.aload_n 0, 1) := dk_42 (dk_at dksL_law_49 11 rfl rfl)
theorem dL_law_1237 : decode cL_law 1237 = .ok (.iload 4, 2) := dk_21 4 (dk_at dksL_law_49 12 rfl rfl)
theorem dL_law_1239 : decode cL_law 1239 = .ok (.iconst 3, 1) := dk_6 (dk_at dksL_law_49 14 rfl rfl)
theorem dL_law_1240 : decode cL_law 1240 = .ok (.iadd, 1) := dk_96 (dk_at dksL_law_49 15 rfl rfl)
theorem dL_law_1241 : decode cL_law 1241 = .ok (.iaload, 1) := dk_46 (dk_at dksL_law_49 16 rfl rfl)
theorem dL_law_1242 : decode cL_law 1242 = .ok (.invokevirtual 153, 3) := dk_182 0 153 (dk_at dksL_law_49 17 rfl rfl)
theorem dL_law_1245 : decode cL_law 1245 = .ok (.istore 6, 2) := dk_54 6 (dk_at dksL_law_49 20 rfl rfl)
theorem dL_law_1247 : decode cL_law 1247 = .ok (.aload_n 2, 1) := dk_44 (dk_at dksL_law_49 22 rfl rfl)
theorem dL_law_1248 : decode cL_law 1248 = .ok (.invokevirtual 89, 3) := dk_182 0 89 (dk_at dksL_law_50 0 rfl rfl)
theorem dL_law_1251 : decode cL_law 1251 = .ok (.iload 5, 2) := dk_21 5 (dk_at dksL_law_50 3 rfl rfl)
theorem dL_law_1253 : decode cL_law 1253 = .ok (.if_icmp .eq 5, 3) := dk_159 0 5 (dk_at dksL_law_50 5 rfl rfl)
theorem dL_law_1256 : decode cL_law 1256 = .ok (.iconst 0, 1) := dk_3 (dk_at dksL_law_50 8 rfl rfl)
theorem dL_law_1257 : decode cL_law 1257 = .ok (.ireturn, 1) := dk_172 (dk_at dksL_law_50 9 rfl rfl)
theorem dL_law_1258 : decode cL_law 1258 = .ok (.iload 5, 2) := dk_21 5 (dk_at dksL_law_50 10 rfl rfl)
theorem dL_law_1260 : decode cL_law 1260 = .ok (.ifCond .ne 15, 3) := dk_154 0 15 (dk_at dksL_law_50 12 rfl rfl)
theorem dL_law_1263 : decode cL_law 1263 = .ok (.aload_n 3, 1) := dk_45 (dk_at dksL_law_50 15 rfl rfl)
theorem dL_law_1264 : decode cL_law 1264 = .ok (.iconst 0, 1) := dk_3 (dk_at dksL_law_50 16 rfl rfl)
theorem dL_law_1265 : decode cL_law 1265 = .ok (.laload, 1) := dk_47 (dk_at dksL_law_50 17 rfl rfl)
theorem dL_law_1266 : decode cL_law 1266 = .ok (.iload 6, 2) := dk_21 6 (dk_at dksL_law_50 18 rfl rfl)
theorem dL_law_1268 : decode cL_law 1268 = .ok (.i2l, 1) := dk_133 (dk_at dksL_law_50 20 rfl rfl)
theorem dL_law_1269 : decode cL_law 1269 = .ok (.lcmp, 1) := dk_148 (dk_at dksL_law_50 21 rfl rfl)
theorem dL_law_1270 : decode cL_law 1270 = .ok (.ifCond .eq 5, 3) := dk_153 0 5 (dk_at dksL_law_51 0 rfl rfl)
theorem dL_law_1273 : decode cL_law 1273 = .ok (.iconst 0, 1) := dk_3 (dk_at dksL_law_51 3 rfl rfl)
theorem dL_law_1274 : decode cL_law 1274 = .ok (.ireturn, 1) := dk_172 (dk_at dksL_law_51 4 rfl rfl)
theorem dL_law_1275 : decode cL_law 1275 = .ok (.goto 151, 3) := dk_167 0 151 (dk_at dksL_law_51 5 rfl rfl)
theorem dL_law_1278 : decode cL_law 1278 = .ok (.aload_n 1, 1) := dk_43 (dk_at dksL_law_51 8 rfl rfl)
theorem dL_law_1279 : decode cL_law 1279 = .ok (.aload_n 0, 1) := dk_42 (dk_at dksL_law_51 9 rfl rfl)
theorem dL_law_1280 : decode cL_law 1280 = .ok (.iload 4, 2) := dk_21 4 (dk_at dksL_law_51 10 rfl rfl)
theorem dL_law_1282 : decode cL_law 1282 = .ok (.iconst 1, 1) := dk_4 (dk_at dksL_law_51 12 rfl rfl)
theorem dL_law_1283 : decode cL_law 1283 = .ok (.iadd, 1) := dk_96 (dk_at dksL_law_51 13 rfl rfl)
theorem dL_law_1284 : decode cL_law 1284 = .ok (.iaload, 1) := dk_46 (dk_at dksL_law_51 14 rfl rfl)
theorem dL_law_1285 : decode cL_law 1285 = .ok (.aload_n 0, 1) := dk_42 (dk_at dksL_law_51 15 rfl rfl)
theorem dL_law_1286 : decode cL_law 1286 = .ok (.iload 4, 2) := dk_21 4 (dk_at dksL_law_51 16 rfl rfl)
theorem dL_law_1288 : decode cL_law 1288 = .ok (.iconst 2, 1) := dk_5 (dk_at dksL_law_51 18 rfl rfl)
theorem dL_law_1289 : decode cL_law 1289 = .ok (.iadd, 1) := dk_96 (dk_at dksL_law_51 19 rfl rfl)
theorem dL_law_1290 : decode cL_law 1290 = .ok (.iaload, 1) := dk_46 (dk_at dksL_law_51 20 rfl rfl)
theorem dL_law_1291 : decode cL_law 1291 = .ok (.aload_n 3, 1) := dk_45 (dk_at dksL_law_51 21 rfl rfl)
theorem dL_law_1292 : decode cL_law 1292 = .ok (.invokestatic 154, 3) := dk_184 0 154 (dk_at dksL_law_52 0 rfl rfl)
theorem dL_law_1295 : decode cL_law 1295 = .ok (.istore 5, 2) := dk_54 5 (dk_at dksL_law_52 3 rfl rfl)
theorem dL_law_1297 : decode cL_law 1297 = .ok (.aload_n 2, 1) := dk_44 (dk_at dksL_law_52 5 rfl rfl)
theorem dL_law_1298 : decode cL_law 1298 = .ok (.aload_n 0, 1) := dk_42 (dk_at dksL_law_52 6 rfl rfl)
theorem dL_law_1299 : decode cL_law 1299 = .ok (.iload 4, 2) := dk_21 4 (dk_at dksL_law_52 7 rfl rfl)
theorem dL_law_1301 : decode cL_law 1301 = .ok (.iconst 1, 1) := dk_4 (dk_at dksL_law_52 9 rfl rfl)
theorem dL_law_1302 : decode cL_law 1302 = .ok (.iadd, 1) := dk_96 (dk_at dksL_law_52 10 rfl rfl)
theorem dL_law_1303 : decode cL_law 1303 = .ok (.iaload, 1) := dk_46 (dk_at dksL_law_52 11 rfl rfl)
theorem dL_law_1304 : decode cL_law 1304 = .ok (.aload_n 0, 1) := dk_42 (dk_at dksL_law_52 12 rfl rfl)
theorem dL_law_1305 : decode cL_law 1305 = .ok (.iload 4, 2) := dk_21 4 (dk_at dksL_law_52 13 rfl rfl)
theorem dL_law_1307 : decode cL_law 1307 = .ok (.iconst 2, 1) := dk_5 (dk_at dksL_law_52 15 rfl rfl)
theorem dL_law_1308 : decode cL_law 1308 = .ok (.iadd, 1) := dk_96 (dk_at dksL_law_52 16 rfl rfl)
theorem dL_law_1309 : decode cL_law 1309 = .ok (.iaload, 1) := dk_46 (dk_at dksL_law_52 17 rfl rfl)
theorem dL_law_1310 : decode cL_law 1310 = .ok (.invokevirtual 156, 3) := dk_182 0 156 (dk_at dksL_law_52 18 rfl rfl)
theorem dL_law_1313 : decode cL_law 1313 = .ok (.istore 6, 2) := dk_54 6 (dk_at dksL_law_52 21 rfl rfl)
theorem dL_law_1315 : decode cL_law 1315 = .ok (.aload_n 2, 1) := dk_44 (dk_at dksL_law_52 23 rfl rfl)
theorem dL_law_1316 : decode cL_law 1316 = .ok (.invokevirtual 89, 3) := dk_182 0 89 (dk_at dksL_law_53 0 rfl rfl)
theorem dL_law_1319 : decode cL_law 1319 = .ok (.iload 5, 2) := dk_21 5 (dk_at dksL_law_53 3 rfl rfl)
theorem dL_law_1321 : decode cL_law 1321 = .ok (.if_icmp .eq 5, 3) := dk_159 0 5 (dk_at dksL_law_53 5 rfl rfl)
theorem dL_law_1324 : decode cL_law 1324 = .ok (.iconst 0, 1) := dk_3 (dk_at dksL_law_53 8 rfl rfl)
theorem dL_law_1325 : decode cL_law 1325 = .ok (.ireturn, 1) := dk_172 (dk_at dksL_law_53 9 rfl rfl)
theorem dL_law_1326 : decode cL_law 1326 = .ok (.iload 5, 2) := dk_21 5 (dk_at dksL_law_53 10 rfl rfl)
theorem dL_law_1328 : decode cL_law 1328 = .ok (.ifCond .ne 15, 3) := dk_154 0 15 (dk_at dksL_law_53 12 rfl rfl)
theorem dL_law_1331 : decode cL_law 1331 = .ok (.aload_n 3, 1) := dk_45 (dk_at dksL_law_53 15 rfl rfl)
theorem dL_law_1332 : decode cL_law 1332 = .ok (.iconst 0, 1) := dk_3 (dk_at dksL_law_53 16 rfl rfl)
theorem dL_law_1333 : decode cL_law 1333 = .ok (.laload, 1) := dk_47 (dk_at dksL_law_53 17 rfl rfl)
theorem dL_law_1334 : decode cL_law 1334 = .ok (.iload 6, 2) := dk_21 6 (dk_at dksL_law_53 18 rfl rfl)
theorem dL_law_1336 : decode cL_law 1336 = .ok (.i2l, 1) := dk_133 (dk_at dksL_law_53 20 rfl rfl)
theorem dL_law_1337 : decode cL_law 1337 = .ok (.lcmp, 1) := dk_148 (dk_at dksL_law_53 21 rfl rfl)
theorem dL_law_1338 : decode cL_law 1338 = .ok (.ifCond .eq 5, 3) := dk_153 0 5 (dk_at dksL_law_54 0 rfl rfl)
theorem dL_law_1341 : decode cL_law 1341 = .ok (.iconst 0, 1) := dk_3 (dk_at dksL_law_54 3 rfl rfl)
theorem dL_law_1342 : decode cL_law 1342 = .ok (.ireturn, 1) := dk_172 (dk_at dksL_law_54 4 rfl rfl)
theorem dL_law_1343 : decode cL_law 1343 = .ok (.goto 83, 3) := dk_167 0 83 (dk_at dksL_law_54 5 rfl rfl)
theorem dL_law_1346 : decode cL_law 1346 = .ok (.aload_n 1, 1) := dk_43 (dk_at dksL_law_54 8 rfl rfl)
theorem dL_law_1347 : decode cL_law 1347 = .ok (.aload_n 0, 1) := dk_42 (dk_at dksL_law_54 9 rfl rfl)
theorem dL_law_1348 : decode cL_law 1348 = .ok (.iload 4, 2) := dk_21 4 (dk_at dksL_law_54 10 rfl rfl)
theorem dL_law_1350 : decode cL_law 1350 = .ok (.iconst 1, 1) := dk_4 (dk_at dksL_law_54 12 rfl rfl)
theorem dL_law_1351 : decode cL_law 1351 = .ok (.iadd, 1) := dk_96 (dk_at dksL_law_54 13 rfl rfl)
theorem dL_law_1352 : decode cL_law 1352 = .ok (.iaload, 1) := dk_46 (dk_at dksL_law_54 14 rfl rfl)
theorem dL_law_1353 : decode cL_law 1353 = .ok (.aload_n 0, 1) := dk_42 (dk_at dksL_law_54 15 rfl rfl)
theorem dL_law_1354 : decode cL_law 1354 = .ok (.iload 4, 2) := dk_21 4 (dk_at dksL_law_54 16 rfl rfl)
theorem dL_law_1356 : decode cL_law 1356 = .ok (.iconst 2, 1) := dk_5 (dk_at dksL_law_54 18 rfl rfl)
theorem dL_law_1357 : decode cL_law 1357 = .ok (.iadd, 1) := dk_96 (dk_at dksL_law_54 19 rfl rfl)
theorem dL_law_1358 : decode cL_law 1358 = .ok (.iaload, 1) := dk_46 (dk_at dksL_law_54 20 rfl rfl)
theorem dL_law_1359 : decode cL_law 1359 = .ok (.aload_n 0, 1) := dk_42 (dk_at dksL_law_54 21 rfl rfl)
theorem dL_law_1360 : decode cL_law 1360 = .ok (.iload 4, 2) := dk_21 4 (dk_at dksL_law_54 22 rfl rfl)
theorem dL_law_1362 : decode cL_law 1362 = .ok (.iconst 3, 1) := dk_6 (dk_at dksL_law_55 0 rfl rfl)
theorem dL_law_1363 : decode cL_law 1363 = .ok (.iadd, 1) := dk_96 (dk_at dksL_law_55 1 rfl rfl)
theorem dL_law_1364 : decode cL_law 1364 = .ok (.iaload, 1) := dk_46 (dk_at dksL_law_55 2 rfl rfl)
theorem dL_law_1365 : decode cL_law 1365 = .ok (.aload_n 3, 1) := dk_45 (dk_at dksL_law_55 3 rfl rfl)
theorem dL_law_1366 : decode cL_law 1366 = .ok (.invokestatic 157, 3) := dk_184 0 157 (dk_at dksL_law_55 4 rfl rfl)
theorem dL_law_1369 : decode cL_law 1369 = .ok (.istore 5, 2) := dk_54 5 (dk_at dksL_law_55 7 rfl rfl)
theorem dL_law_1371 : decode cL_law 1371 = .ok (.aload_n 2, 1) := dk_44 (dk_at dksL_law_55 9 rfl rfl)
theorem dL_law_1372 : decode cL_law 1372 = .ok (.aload_n 0, 1) := dk_42 (dk_at dksL_law_55 10 rfl rfl)
theorem dL_law_1373 : decode cL_law 1373 = .ok (.iload 4, 2) := dk_21 4 (dk_at dksL_law_55 11 rfl rfl)
theorem dL_law_1375 : decode cL_law 1375 = .ok (.iconst 1, 1) := dk_4 (dk_at dksL_law_55 13 rfl rfl)
theorem dL_law_1376 : decode cL_law 1376 = .ok (.iadd, 1) := dk_96 (dk_at dksL_law_55 14 rfl rfl)
theorem dL_law_1377 : decode cL_law 1377 = .ok (.iaload, 1) := dk_46 (dk_at dksL_law_55 15 rfl rfl)
theorem dL_law_1378 : decode cL_law 1378 = .ok (.aload_n 0, 1) := dk_42 (dk_at dksL_law_55 16 rfl rfl)
theorem dL_law_1379 : decode cL_law 1379 = .ok (.iload 4, 2) := dk_21 4 (dk_at dksL_law_55 17 rfl rfl)
theorem dL_law_1381 : decode cL_law 1381 = .ok (.iconst 2, 1) := dk_5 (dk_at dksL_law_55 19 rfl rfl)
theorem dL_law_1382 : decode cL_law 1382 = .ok (.iadd, 1) := dk_96 (dk_at dksL_law_55 20 rfl rfl)
theorem dL_law_1383 : decode cL_law 1383 = .ok (.iaload, 1) := dk_46 (dk_at dksL_law_55 21 rfl rfl)
theorem dL_law_1384 : decode cL_law 1384 = .ok (.aload_n 0, 1) := dk_42 (dk_at dksL_law_55 22 rfl rfl)
theorem dL_law_1385 : decode cL_law 1385 = .ok (.iload 4, 2) := dk_21 4 (dk_at dksL_law_56 0 rfl rfl)
theorem dL_law_1387 : decode cL_law 1387 = .ok (.iconst 3, 1) := dk_6 (dk_at dksL_law_56 2 rfl rfl)
theorem dL_law_1388 : decode cL_law 1388 = .ok (.iadd, 1) := dk_96 (dk_at dksL_law_56 3 rfl rfl)
theorem dL_law_1389 : decode cL_law 1389 = .ok (.iaload, 1) := dk_46 (dk_at dksL_law_56 4 rfl rfl)
theorem dL_law_1390 : decode cL_law 1390 = .ok (.invokevirtual 159, 3) := dk_182 0 159 (dk_at dksL_law_56 5 rfl rfl)
theorem dL_law_1393 : decode cL_law 1393 = .ok (.istore 6, 2) := dk_54 6 (dk_at dksL_law_56 8 rfl rfl)
theorem dL_law_1395 : decode cL_law 1395 = .ok (.aload_n 2, 1) := dk_44 (dk_at dksL_law_56 10 rfl rfl)
theorem dL_law_1396 : decode cL_law 1396 = .ok (.invokevirtual 89, 3) := dk_182 0 89 (dk_at dksL_law_56 11 rfl rfl)
theorem dL_law_1399 : decode cL_law 1399 = .ok (.iload 5, 2) := dk_21 5 (dk_at dksL_law_56 14 rfl rfl)
theorem dL_law_1401 : decode cL_law 1401 = .ok (.if_icmp .eq 5, 3) := dk_159 0 5 (dk_at dksL_law_56 16 rfl rfl)
theorem dL_law_1404 : decode cL_law 1404 = .ok (.iconst 0, 1) := dk_3 (dk_at dksL_law_56 19 rfl rfl)
theorem dL_law_1405 : decode cL_law 1405 = .ok (.ireturn, 1) := dk_172 (dk_at dksL_law_56 20 rfl rfl)
theorem dL_law_1406 : decode cL_law 1406 = .ok (.iload 5, 2) := dk_21 5 (dk_at dksL_law_56 21 rfl rfl)
theorem dL_law_1408 : decode cL_law 1408 = .ok (.ifCond .ne 15, 3) := dk_154 0 15 (dk_at dksL_law_57 0 rfl rfl)
theorem dL_law_1411 : decode cL_law 1411 = .ok (.aload_n 3, 1) := dk_45 (dk_at dksL_law_57 3 rfl rfl)
theorem dL_law_1412 : decode cL_law 1412 = .ok (.iconst 0, 1) := dk_3 (dk_at dksL_law_57 4 rfl rfl)
theorem dL_law_1413 : decode cL_law 1413 = .ok (.laload, 1) := dk_47 (dk_at dksL_law_57 5 rfl rfl)
theorem dL_law_1414 : decode cL_law 1414 = .ok (.iload 6, 2) := dk_21 6 (dk_at dksL_law_57 6 rfl rfl)
theorem dL_law_1416 : decode cL_law 1416 = .ok (.i2l, 1) := dk_133 (dk_at dksL_law_57 8 rfl rfl)
theorem dL_law_1417 : decode cL_law 1417 = .ok (.lcmp, 1) := dk_148 (dk_at dksL_law_57 9 rfl rfl)
theorem dL_law_1418 : decode cL_law 1418 = .ok (.ifCond .eq 5, 3) := dk_153 0 5 (dk_at dksL_law_57 10 rfl rfl)
theorem dL_law_1421 : decode cL_law 1421 = .ok (.iconst 0, 1) := dk_3 (dk_at dksL_law_57 13 rfl rfl)
theorem dL_law_1422 : decode cL_law 1422 = .ok (.ireturn, 1) := dk_172 (dk_at dksL_law_57 14 rfl rfl)
theorem dL_law_1423 : decode cL_law 1423 = .ok (.goto 3, 3) := dk_167 0 3 (dk_at dksL_law_57 15 rfl rfl)
theorem dL_law_1426 : decode cL_law 1426 = .ok (.iinc 4 6, 3) := dk_132 4 6 (dk_at dksL_law_57 18 rfl rfl)
theorem dL_law_1429 : decode cL_law 1429 = .ok (.goto (-1406), 3) := dk_167 250 130 (dk_at dksL_law_57 21 rfl rfl)
theorem dL_law_1432 : decode cL_law 1432 = .ok (.iconst 1, 1) := dk_4 (dk_at dksL_law_58 0 rfl rfl)
theorem dL_law_1433 : decode cL_law 1433 = .ok (.ireturn, 1) := dk_172 (dk_at dksL_law_58 1 rfl rfl)
