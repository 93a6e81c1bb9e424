set_option maxRecDepth 100000
/-! ValleyMassLaw -/
def RX0 : String := "ValleyMassLaw"
abbrev cX0_valley : ByteArray := method_3_code
def yX0_valley : MethodName := ⟨RX0, "valley", "(LValleyMass;I[J)I"⟩
def dkwX0_valley_0 : List UInt8 := [44, 3, 42, 27, 182, 0, 7, 133, 80, 167, 0, 6, 78, 4, 172, 3, 172]
abbrev dktX0_valley_0 : List UInt8 := dkwX0_valley_0 ++ []
theorem dksX0_valley_0 : cX0_valley.data.toList.drop 0 = dktX0_valley_0 := by decide +kernel
theorem dX0_valley_0 : decode cX0_valley 0 = .ok (.aload_n 2, 1) := dk_44 (dk_at dksX0_valley_0 0 rfl rfl)
theorem dX0_valley_1 : decode cX0_valley 1 = .ok (.iconst 0, 1) := dk_3 (dk_at dksX0_valley_0 1 rfl rfl)
theorem dX0_valley_2 : decode cX0_valley 2 = .ok (.aload_n 0, 1) := dk_42 (dk_at dksX0_valley_0 2 rfl rfl)
theorem dX0_valley_3 : decode cX0_valley 3 = .ok (.iload_n 1, 1) := dk_27 (dk_at dksX0_valley_0 3 rfl rfl)
theorem dX0_valley_4 : decode cX0_valley 4 = .ok (.invokevirtual 7, 3) := dk_182 0 7 (dk_at dksX0_valley_0 4 rfl rfl)
theorem dX0_valley_7 : decode cX0_valley 7 = .ok (.i2l, 1) := dk_133 (dk_at dksX0_valley_0 7 rfl rfl)
theorem dX0_valley_8 : decode cX0_valley 8 = .ok (.lastore, 1) := dk_80 (dk_at dksX0_valley_0 8 rfl rfl)
theorem dX0_valley_9 : decode cX0_valley 9 = .ok (.goto 6, 3) := dk_167 0 6 (dk_at dksX0_valley_0 9 rfl rfl)
theorem dX0_valley_12 : decode cX0_valley 12 = .ok (.astore_n 3, 1) := dk_78 (dk_at dksX0_valley_0 12 rfl rfl)
theorem dX0_valley_13 : decode cX0_valley 13 = .ok (.iconst 1, 1) := dk_4 (dk_at dksX0_valley_0 13 rfl rfl)
theorem dX0_valley_14 : decode cX0_valley 14 = .ok (.ireturn, 1) := dk_172 (dk_at dksX0_valley_0 14 rfl rfl)
theorem dX0_valley_15 : decode cX0_valley 15 = .ok (.iconst 0, 1) := dk_3 (dk_at dksX0_valley_0 15 rfl rfl)
theorem dX0_valley_16 : decode cX0_valley 16 = .ok (.ireturn, 1) := dk_172 (dk_at dksX0_valley_0 16 rfl rfl)
abbrev cX0_count : ByteArray := method_4_code
def yX0_count : MethodName := ⟨RX0, "count", "(LValleyMass;I[J)I"⟩
def dkwX0_count_0 : List UInt8 := [44, 3, 42, 27, 182, 0, 15, 133, 80, 167, 0, 6, 78, 4, 172, 3, 172]
abbrev dktX0_count_0 : List UInt8 := dkwX0_count_0 ++ []
theorem dksX0_count_0 : cX0_count.data.toList.drop 0 = dktX0_count_0 := by decide +kernel
theorem dX0_count_0 : decode cX0_count 0 = .ok (.aload_n 2, 1) := dk_44 (dk_at dksX0_count_0 0 rfl rfl)
theorem dX0_count_1 : decode cX0_count 1 = .ok (.iconst 0, 1) := dk_3 (dk_at dksX0_count_0 1 rfl rfl)
theorem dX0_count_2 : decode cX0_count 2 = .ok (.aload_n 0, 1) := dk_42 (dk_at dksX0_count_0 2 rfl rfl)
theorem dX0_count_3 : decode cX0_count 3 = .ok (.iload_n 1, 1) := dk_27 (dk_at dksX0_count_0 3 rfl rfl)
theorem dX0_count_4 : decode cX0_count 4 = .ok (.invokevirtual 15, 3) := dk_182 0 15 (dk_at dksX0_count_0 4 rfl rfl)
theorem dX0_count_7 : decode cX0_count 7 = .ok (.i2l, 1) := dk_133 (dk_at dksX0_count_0 7 rfl rfl)
theorem dX0_count_8 : decode cX0_count 8 = .ok (.lastore, 1) := dk_80 (dk_at dksX0_count_0 8 rfl rfl)
theorem dX0_count_9 : decode cX0_count 9 = .ok (.goto 6, 3) := dk_167 0 6 (dk_at dksX0_count_0 9 rfl rfl)
theorem dX0_count_12 : decode cX0_count 12 = .ok (.astore_n 3, 1) := dk_78 (dk_at dksX0_count_0 12 rfl rfl)
theorem dX0_count_13 : decode cX0_count 13 = .ok (.iconst 1, 1) := dk_4 (dk_at dksX0_count_0 13 rfl rfl)
theorem dX0_count_14 : decode cX0_count 14 = .ok (.ireturn, 1) := dk_172 (dk_at dksX0_count_0 14 rfl rfl)
theorem dX0_count_15 : decode cX0_count 15 = .ok (.iconst 0, 1) := dk_3 (dk_at dksX0_count_0 15 rfl rfl)
theorem dX0_count_16 : decode cX0_count 16 = .ok (.ireturn, 1) := dk_172 (dk_at dksX0_count_0 16 rfl rfl)
abbrev cX0_singer : ByteArray := method_5_code
def yX0_singer : MethodName := ⟨RX0, "singer", "(LValleyMass;II[J)I"⟩
def dkwX0_singer_0 : List UInt8 := [45, 3, 42, 27, 28, 182, 0, 20, 133, 80, 167, 0, 7, 58, 4, 4, 172, 3, 172]
abbrev dktX0_singer_0 : List UInt8 := dkwX0_singer_0 ++ []
theorem dksX0_singer_0 : cX0_singer.data.toList.drop 0 = dktX0_singer_0 := by decide +kernel
theorem dX0_singer_0 : decode cX0_singer 0 = .ok (.aload_n 3, 1) := dk_45 (dk_at dksX0_singer_0 0 rfl rfl)
theorem dX0_singer_1 : decode cX0_singer 1 = .ok (.iconst 0, 1) := dk_3 (dk_at dksX0_singer_0 1 rfl rfl)
theorem dX0_singer_2 : decode cX0_singer 2 = .ok (.aload_n 0, 1) := dk_42 (dk_at dksX0_singer_0 2 rfl rfl)
theorem dX0_singer_3 : decode cX0_singer 3 = .ok (.iload_n 1, 1) := dk_27 (dk_at dksX0_singer_0 3 rfl rfl)
theorem dX0_singer_4 : decode cX0_singer 4 = .ok (.iload_n 2, 1) := dk_28 (dk_at dksX0_singer_0 4 rfl rfl)
theorem dX0_singer_5 : decode cX0_singer 5 = .ok (.invokevirtual 20, 3) := dk_182 0 20 (dk_at dksX0_singer_0 5 rfl rfl)
theorem dX0_singer_8 : decode cX0_singer 8 = .ok (.i2l, 1) := dk_133 (dk_at dksX0_singer_0 8 rfl rfl)
theorem dX0_singer_9 : decode cX0_singer 9 = .ok (.lastore, 1) := dk_80 (dk_at dksX0_singer_0 9 rfl rfl)
theorem dX0_singer_10 : decode cX0_singer 10 = .ok (.goto 7, 3) := dk_167 0 7 (dk_at dksX0_singer_0 10 rfl rfl)
theorem dX0_singer_13 : decode cX0_singer 13 = .ok (.astore 4, 2) := dk_58 4 (dk_at dksX0_singer_0 13 rfl rfl)
theorem dX0_singer_15 : decode cX0_singer 15 = .ok (.iconst 1, 1) := dk_4 (dk_at dksX0_singer_0 15 rfl rfl)
theorem dX0_singer_16 : decode cX0_singer 16 = .ok (.ireturn, 1) := dk_172 (dk_at dksX0_singer_0 16 rfl rfl)
theorem dX0_singer_17 : decode cX0_singer 17 = .ok (.iconst 0, 1) := dk_3 (dk_at dksX0_singer_0 17 rfl rfl)
theorem dX0_singer_18 : decode cX0_singer 18 = .ok (.ireturn, 1) := dk_172 (dk_at dksX0_singer_0 18 rfl rfl)
abbrev cX0_row : ByteArray := method_6_code
def yX0_row : MethodName := ⟨RX0, "row", "(LValleyMass;III[J)I"⟩
def dkwX0_row_0 : List UInt8 := [25, 4, 3, 42, 27, 28, 29, 182, 0, 24, 133, 80, 167, 0, 7, 58, 5, 4, 172, 3, 172]
abbrev dktX0_row_0 : List UInt8 := dkwX0_row_0 ++ []
theorem dksX0_row_0 : cX0_row.data.toList.drop 0 = dktX0_row_0 := by decide +kernel
theorem dX0_row_0 : decode cX0_row 0 = .ok (.aload 4, 2) := dk_25 4 (dk_at dksX0_row_0 0 rfl rfl)
theorem dX0_row_2 : decode cX0_row 2 = .ok (.iconst 0, 1) := dk_3 (dk_at dksX0_row_0 2 rfl rfl)
theorem dX0_row_3 : decode cX0_row 3 = .ok (.aload_n 0, 1) := dk_42 (dk_at dksX0_row_0 3 rfl rfl)
theorem dX0_row_4 : decode cX0_row 4 = .ok (.iload_n 1, 1) := dk_27 (dk_at dksX0_row_0 4 rfl rfl)
theorem dX0_row_5 : decode cX0_row 5 = .ok (.iload_n 2, 1) := dk_28 (dk_at dksX0_row_0 5 rfl rfl)
theorem dX0_row_6 : decode cX0_row 6 = .ok (.iload_n 3, 1) := dk_29 (dk_at dksX0_row_0 6 rfl rfl)
theorem dX0_row_7 : decode cX0_row 7 = .ok (.invokevirtual 24, 3) := dk_182 0 24 (dk_at dksX0_row_0 7 rfl rfl)
theorem dX0_row_10 : decode cX0_row 10 = .ok (.i2l, 1) := dk_133 (dk_at dksX0_row_0 10 rfl rfl)
theorem dX0_row_11 : decode cX0_row 11 = .ok (.lastore, 1) := dk_80 (dk_at dksX0_row_0 11 rfl rfl)
theorem dX0_row_12 : decode cX0_row 12 = .ok (.goto 7, 3) := dk_167 0 7 (dk_at dksX0_row_0 12 rfl rfl)
theorem dX0_row_15 : decode cX0_row 15 = .ok (.astore 5, 2) := dk_58 5 (dk_at dksX0_row_0 15 rfl rfl)
theorem dX0_row_17 : decode cX0_row 17 = .ok (.iconst 1, 1) := dk_4 (dk_at dksX0_row_0 17 rfl rfl)
theorem dX0_row_18 : decode cX0_row 18 = .ok (.ireturn, 1) := dk_172 (dk_at dksX0_row_0 18 rfl rfl)
theorem dX0_row_19 : decode cX0_row 19 = .ok (.iconst 0, 1) := dk_3 (dk_at dksX0_row_0 19 rfl rfl)
theorem dX0_row_20 : decode cX0_row 20 = .ok (.ireturn, 1) := dk_172 (dk_at dksX0_row_0 20 rfl rfl)
abbrev cX0_able : ByteArray := method_7_code
def yX0_able : MethodName := ⟨RX0, "able", "(LValleyMass;II[J)I"⟩
def dkwX0_able_0 : List UInt8 := [45, 3, 42, 27, 28, 182, 0, 28, 133, 80, 167, 0, 7, 58, 4, 4, 172, 3, 172]
abbrev dktX0_able_0 : List UInt8 := dkwX0_able_0 ++ []
theorem dksX0_able_0 : cX0_able.data.toList.drop 0 = dktX0_able_0 := by decide +kernel
theorem dX0_able_0 : decode cX0_able 0 = .ok (.aload_n 3, 1) := dk_45 (dk_at dksX0_able_0 0 rfl rfl)
theorem dX0_able_1 : decode cX0_able 1 = .ok (.iconst 0, 1) := dk_3 (dk_at dksX0_able_0 1 rfl rfl)
theorem dX0_able_2 : decode cX0_able 2 = .ok (.aload_n 0, 1) := dk_42 (dk_at dksX0_able_0 2 rfl rfl)
theorem dX0_able_3 : decode cX0_able 3 = .ok (.iload_n 1, 1) := dk_27 (dk_at dksX0_able_0 3 rfl rfl)
theorem dX0_able_4 : decode cX0_able 4 = .ok (.iload_n 2, 1) := dk_28 (dk_at dksX0_able_0 4 rfl rfl)
theorem dX0_able_5 : decode cX0_able 5 = .ok (.invokevirtual 28, 3) := dk_182 0 28 (dk_at dksX0_able_0 5 rfl rfl)
theorem dX0_able_8 : decode cX0_able 8 = .ok (.i2l, 1) := dk_133 (dk_at dksX0_able_0 8 rfl rfl)
theorem dX0_able_9 : decode cX0_able 9 = .ok (.lastore, 1) := dk_80 (dk_at dksX0_able_0 9 rfl rfl)
theorem dX0_able_10 : decode cX0_able 10 = .ok (.goto 7, 3) := dk_167 0 7 (dk_at dksX0_able_0 10 rfl rfl)
theorem dX0_able_13 : decode cX0_able 13 = .ok (.astore 4, 2) := dk_58 4 (dk_at dksX0_able_0 13 rfl rfl)
theorem dX0_able_15 : decode cX0_able 15 = .ok (.iconst 1, 1) := dk_4 (dk_at dksX0_able_0 15 rfl rfl)
theorem dX0_able_16 : decode cX0_able 16 = .ok (.ireturn, 1) := dk_172 (dk_at dksX0_able_0 16 rfl rfl)
theorem dX0_able_17 : decode cX0_able 17 = .ok (.iconst 0, 1) := dk_3 (dk_at dksX0_able_0 17 rfl rfl)
theorem dX0_able_18 : decode cX0_able 18 = .ok (.ireturn, 1) := dk_172 (dk_at dksX0_able_0 18 rfl rfl)
abbrev cX0_fall : ByteArray := method_8_code
def yX0_fall : MethodName := ⟨RX0, "fall", "(LValleyMass;I[J)I"⟩
def dkwX0_fall_0 : List UInt8 := [44, 3, 42, 27, 182, 0, 31, 153, 0, 7, 10, 167, 0, 4, 9, 80, 167, 0, 6, 78, 4, 172, 3, 172]
abbrev dktX0_fall_0 : List UInt8 := dkwX0_fall_0 ++ []
theorem dksX0_fall_0 : cX0_fall.data.toList.drop 0 = dktX0_fall_0 := by decide +kernel
theorem dX0_fall_0 : decode cX0_fall 0 = .ok (.aload_n 2, 1) := dk_44 (dk_at dksX0_fall_0 0 rfl rfl)
theorem dX0_fall_1 : decode cX0_fall 1 = .ok (.iconst 0, 1) := dk_3 (dk_at dksX0_fall_0 1 rfl rfl)
theorem dX0_fall_2 : decode cX0_fall 2 = .ok (.aload_n 0, 1) := dk_42 (dk_at dksX0_fall_0 2 rfl rfl)
theorem dX0_fall_3 : decode cX0_fall 3 = .ok (.iload_n 1, 1) := dk_27 (dk_at dksX0_fall_0 3 rfl rfl)
theorem dX0_fall_4 : decode cX0_fall 4 = .ok (.invokevirtual 31, 3) := dk_182 0 31 (dk_at dksX0_fall_0 4 rfl rfl)
theorem dX0_fall_7 : decode cX0_fall 7 = .ok (.ifCond .eq 7, 3) := dk_153 0 7 (dk_at dksX0_fall_0 7 rfl rfl)
theorem dX0_fall_10 : decode cX0_fall 10 = .ok (.lconst 1, 1) := dk_10 (dk_at dksX0_fall_0 10 rfl rfl)
theorem dX0_fall_11 : decode cX0_fall 11 = .ok (.goto 4, 3) := dk_167 0 4 (dk_at dksX0_fall_0 11 rfl rfl)
theorem dX0_fall_14 : decode cX0_fall 14 = .ok (.lconst 0, 1) := dk_9 (dk_at dksX0_fall_0 14 rfl rfl)
theorem dX0_fall_15 : decode cX0_fall 15 = .ok (.lastore, 1) := dk_80 (dk_at dksX0_fall_0 15 rfl rfl)
theorem dX0_fall_16 : decode cX0_fall 16 = .ok (.goto 6, 3) := dk_167 0 6 (dk_at dksX0_fall_0 16 rfl rfl)
theorem dX0_fall_19 : decode cX0_fall 19 = .ok (.astore_n 3, 1) := dk_78 (dk_at dksX0_fall_0 19 rfl rfl)
theorem dX0_fall_20 : decode cX0_fall 20 = .ok (.iconst 1, 1) := dk_4 (dk_at dksX0_fall_0 20 rfl rfl)
theorem dX0_fall_21 : decode cX0_fall 21 = .ok (.ireturn, 1) := dk_172 (dk_at dksX0_fall_0 21 rfl rfl)
theorem dX0_fall_22 : decode cX0_fall 22 = .ok (.iconst 0, 1) := dk_3 (dk_at dksX0_fall_0 22 rfl rfl)
theorem dX0_fall_23 : decode cX0_fall 23 = .ok (.ireturn, 1) := dk_172 (dk_at dksX0_fall_0 23 rfl rfl)
abbrev cX0_catches : ByteArray := method_9_code
def yX0_catches : MethodName := ⟨RX0, "catches", "(LValleyMass;I[J)I"⟩
def dkwX0_catches_0 : List UInt8 := [44, 3, 42, 27, 182, 0, 35, 153, 0, 7, 10, 167, 0, 4, 9, 80, 167, 0, 6, 78, 4, 172, 3, 172]
abbrev dktX0_catches_0 : List UInt8 := dkwX0_catches_0 ++ []
theorem dksX0_catches_0 : cX0_catches.data.toList.drop 0 = dktX0_catches_0 := by decide +kernel
theorem dX0_catches_0 : decode cX0_catches 0 = .ok (.aload_n 2, 1) := dk_44 (dk_at dksX0_catches_0 0 rfl rfl)
theorem dX0_catches_1 : decode cX0_catches 1 = .ok (.iconst 0, 1) := dk_3 (dk_at dksX0_catches_0 1 rfl rfl)
theorem dX0_catches_2 : decode cX0_catches 2 = .ok (.aload_n 0, 1) := dk_42 (dk_at dksX0_catches_0 2 rfl rfl)
theorem dX0_catches_3 : decode cX0_catches 3 = .ok (.iload_n 1, 1) := dk_27 (dk_at dksX0_catches_0 3 rfl rfl)
theorem dX0_catches_4 : decode cX0_catches 4 = .ok (.invokevirtual 35, 3) := dk_182 0 35 (dk_at dksX0_catches_0 4 rfl rfl)
theorem dX0_catches_7 : decode cX0_catches 7 = .ok (.ifCond .eq 7, 3) := dk_153 0 7 (dk_at dksX0_catches_0 7 rfl rfl)
theorem dX0_catches_10 : decode cX0_catches 10 = .ok (.lconst 1, 1) := dk_10 (dk_at dksX0_catches_0 10 rfl rfl)
theorem dX0_catches_11 : decode cX0_catches 11 = .ok (.goto 4, 3) := dk_167 0 4 (dk_at dksX0_catches_0 11 rfl rfl)
theorem dX0_catches_14 : decode cX0_catches 14 = .ok (.lconst 0, 1) := dk_9 (dk_at dksX0_catches_0 14 rfl rfl)
theorem dX0_catches_15 : decode cX0_catches 15 = .ok (.lastore, 1) := dk_80 (dk_at dksX0_catches_0 15 rfl rfl)
theorem dX0_catches_16 : decode cX0_catches 16 = .ok (.goto 6, 3) := dk_167 0 6 (dk_at dksX0_catches_0 16 rfl rfl)
theorem dX0_catches_19 : decode cX0_catches 19 = .ok (.astore_n 3, 1) := dk_78 (dk_at dksX0_catches_0 19 rfl rfl)
theorem dX0_catches_20 : decode cX0_catches 20 = .ok (.iconst 1, 1) := dk_4 (dk_at dksX0_catches_0 20 rfl rfl)
theorem dX0_catches_21 : decode cX0_catches 21 = .ok (.ireturn, 1) := dk_172 (dk_at dksX0_catches_0 21 rfl rfl)
theorem dX0_catches_22 : decode cX0_catches 22 = .ok (.iconst 0, 1) := dk_3 (dk_at dksX0_catches_0 22 rfl rfl)
theorem dX0_catches_23 : decode cX0_catches 23 = .ok (.ireturn, 1) := dk_172 (dk_at dksX0_catches_0 23 rfl rfl)
abbrev cX0_release : ByteArray := method_10_code
def yX0_release : MethodName := ⟨RX0, "release", "(LValleyMass;I[J)I"⟩
def dkwX0_release_0 : List UInt8 := [44, 3, 42, 27, 182, 0, 38, 153, 0, 7, 10, 167, 0, 4, 9, 80, 167, 0, 6, 78, 4, 172, 3, 172]
abbrev dktX0_release_0 : List UInt8 := dkwX0_release_0 ++ []
theorem dksX0_release_0 : cX0_release.data.toList.drop 0 = dktX0_release_0 := by decide +kernel
theorem dX0_release_0 : decode cX0_release 0 = .ok (.aload_n 2, 1) := dk_44 (dk_at dksX0_release_0 0 rfl rfl)
theorem dX0_release_1 : decode cX0_release 1 = .ok (.iconst 0, 1) := dk_3 (dk_at dksX0_release_0 1 rfl rfl)
theorem dX0_release_2 : decode cX0_release 2 = .ok (.aload_n 0, 1) := dk_42 (dk_at dksX0_release_0 2 rfl rfl)
theorem dX0_release_3 : decode cX0_release 3 = .ok (.iload_n 1, 1) := dk_27 (dk_at dksX0_release_0 3 rfl rfl)
theorem dX0_release_4 : decode cX0_release 4 = .ok (.invokevirtual 38, 3) := dk_182 0 38 (dk_at dksX0_release_0 4 rfl rfl)
theorem dX0_release_7 : decode cX0_release 7 = .ok (.ifCond .eq 7, 3) := dk_153 0 7 (dk_at dksX0_release_0 7 rfl rfl)
theorem dX0_release_10 : decode cX0_release 10 = .ok (.lconst 1, 1) := dk_10 (dk_at dksX0_release_0 10 rfl rfl)
theorem dX0_release_11 : decode cX0_release 11 = .ok (.goto 4, 3) := dk_167 0 4 (dk_at dksX0_release_0 11 rfl rfl)
theorem dX0_release_14 : decode cX0_release 14 = .ok (.lconst 0, 1) := dk_9 (dk_at dksX0_release_0 14 rfl rfl)
theorem dX0_release_15 : decode cX0_release 15 = .ok (.lastore, 1) := dk_80 (dk_at dksX0_release_0 15 rfl rfl)
theorem dX0_release_16 : decode cX0_release 16 = .ok (.goto 6, 3) := dk_167 0 6 (dk_at dksX0_release_0 16 rfl rfl)
theorem dX0_release_19 : decode cX0_release 19 = .ok (.astore_n 3, 1) := dk_78 (dk_at dksX0_release_0 19 rfl rfl)
theorem dX0_release_20 : decode cX0_release 20 = .ok (.iconst 1, 1) := dk_4 (dk_at dksX0_release_0 20 rfl rfl)
theorem dX0_release_21 : decode cX0_release 21 = .ok (.ireturn, 1) := dk_172 (dk_at dksX0_release_0 21 rfl rfl)
theorem dX0_release_22 : decode cX0_release 22 = .ok (.iconst 0, 1) := dk_3 (dk_at dksX0_release_0 22 rfl rfl)
theorem dX0_release_23 : decode cX0_release 23 = .ok (.ireturn, 1) := dk_172 (dk_at dksX0_release_0 23 rfl rfl)
abbrev cX0_exchange : ByteArray := method_11_code
def yX0_exchange : MethodName := ⟨RX0, "exchange", "(LValleyMass;II[J)I"⟩
def dkwX0_exchange_1 : List UInt8 := [3, 172]
abbrev dktX0_exchange_1 : List UInt8 := dkwX0_exchange_1 ++ []
def dkwX0_exchange_0 : List UInt8 := [45, 3, 42, 27, 28, 182, 0, 41, 153, 0, 7, 10, 167, 0, 4, 9, 80, 167, 0, 7, 58, 4, 4, 172]
abbrev dktX0_exchange_0 : List UInt8 := dkwX0_exchange_0 ++ dktX0_exchange_1
theorem dksX0_exchange_0 : cX0_exchange.data.toList.drop 0 = dktX0_exchange_0 := by decide +kernel
theorem dksX0_exchange_1 : cX0_exchange.data.toList.drop 24 = dktX0_exchange_1 := dk_seg dksX0_exchange_0 24 rfl rfl
theorem dX0_exchange_0 : decode cX0_exchange 0 = .ok (.aload_n 3, 1) := dk_45 (dk_at dksX0_exchange_0 0 rfl rfl)
theorem dX0_exchange_1 : decode cX0_exchange 1 = .ok (.iconst 0, 1) := dk_3 (dk_at dksX0_exchange_0 1 rfl rfl)
theorem dX0_exchange_2 : decode cX0_exchange 2 = .ok (.aload_n 0, 1) := dk_42 (dk_at dksX0_exchange_0 2 rfl rfl)
theorem dX0_exchange_3 : decode cX0_exchange 3 = .ok (.iload_n 1, 1) := dk_27 (dk_at dksX0_exchange_0 3 rfl rfl)
theorem dX0_exchange_4 : decode cX0_exchange 4 = .ok (.iload_n 2, 1) := dk_28 (dk_at dksX0_exchange_0 4 rfl rfl)
theorem dX0_exchange_5 : decode cX0_exchange 5 = .ok (.invokevirtual 41, 3) := dk_182 0 41 (dk_at dksX0_exchange_0 5 rfl rfl)
theorem dX0_exchange_8 : decode cX0_exchange 8 = .ok (.ifCond .eq 7, 3) := dk_153 0 7 (dk_at dksX0_exchange_0 8 rfl rfl)
theorem dX0_exchange_11 : decode cX0_exchange 11 = .ok (.lconst 1, 1) := dk_10 (dk_at dksX0_exchange_0 11 rfl rfl)
theorem dX0_exchange_12 : decode cX0_exchange 12 = .ok (.goto 4, 3) := dk_167 0 4 (dk_at dksX0_exchange_0 12 rfl rfl)
theorem dX0_exchange_15 : decode cX0_exchange 15 = .ok (.lconst 0, 1) := dk_9 (dk_at dksX0_exchange_0 15 rfl rfl)
theorem dX0_exchange_16 : decode cX0_exchange 16 = .ok (.lastore, 1) := dk_80 (dk_at dksX0_exchange_0 16 rfl rfl)
theorem dX0_exchange_17 : decode cX0_exchange 17 = .ok (.goto 7, 3) := dk_167 0 7 (dk_at dksX0_exchange_0 17 rfl rfl)
theorem dX0_exchange_20 : decode cX0_exchange 20 = .ok (.astore 4, 2) := dk_58 4 (dk_at dksX0_exchange_0 20 rfl rfl)
theorem dX0_exchange_22 : decode cX0_exchange 22 = .ok (.iconst 1, 1) := dk_4 (dk_at dksX0_exchange_0 22 rfl rfl)
theorem dX0_exchange_23 : decode cX0_exchange 23 = .ok (.ireturn, 1) := dk_172 (dk_at dksX0_exchange_0 23 rfl rfl)
theorem dX0_exchange_24 : decode cX0_exchange 24 = .ok (.iconst 0, 1) := dk_3 (dk_at dksX0_exchange_1 0 rfl rfl)
theorem dX0_exchange_25 : decode cX0_exchange 25 = .ok (.ireturn, 1) := dk_172 (dk_at dksX0_exchange_1 1 rfl rfl)
abbrev cX0_moved : ByteArray := method_12_code
def yX0_moved : MethodName := ⟨RX0, "moved", "(LValleyMass;I[J)I"⟩
def dkwX0_moved_0 : List UInt8 := [44, 3, 42, 27, 182, 0, 45, 133, 80, 167, 0, 6, 78, 4, 172, 3, 172]
abbrev dktX0_moved_0 : List UInt8 := dkwX0_moved_0 ++ []
theorem dksX0_moved_0 : cX0_moved.data.toList.drop 0 = dktX0_moved_0 := by decide +kernel
theorem dX0_moved_0 : decode cX0_moved 0 = .ok (.aload_n 2, 1) := dk_44 (dk_at dksX0_moved_0 0 rfl rfl)
theorem dX0_moved_1 : decode cX0_moved 1 = .ok (.iconst 0, 1) := dk_3 (dk_at dksX0_moved_0 1 rfl rfl)
theorem dX0_moved_2 : decode cX0_moved 2 = .ok (.aload_n 0, 1) := dk_42 (dk_at dksX0_moved_0 2 rfl rfl)
theorem dX0_moved_3 : decode cX0_moved 3 = .ok (.iload_n 1, 1) := dk_27 (dk_at dksX0_moved_0 3 rfl rfl)
theorem dX0_moved_4 : decode cX0_moved 4 = .ok (.invokevirtual 45, 3) := dk_182 0 45 (dk_at dksX0_moved_0 4 rfl rfl)
theorem dX0_moved_7 : decode cX0_moved 7 = .ok (.i2l, 1) := dk_133 (dk_at dksX0_moved_0 7 rfl rfl)
theorem dX0_moved_8 : decode cX0_moved 8 = .ok (.lastore, 1) := dk_80 (dk_at dksX0_moved_0 8 rfl rfl)
theorem dX0_moved_9 : decode cX0_moved 9 = .ok (.goto 6, 3) := dk_167 0 6 (dk_at dksX0_moved_0 9 rfl rfl)
theorem dX0_moved_12 : decode cX0_moved 12 = .ok (.astore_n 3, 1) := dk_78 (dk_at dksX0_moved_0 12 rfl rfl)
theorem dX0_moved_13 : decode cX0_moved 13 = .ok (.iconst 1, 1) := dk_4 (dk_at dksX0_moved_0 13 rfl rfl)
theorem dX0_moved_14 : decode cX0_moved 14 = .ok (.ireturn, 1) := dk_172 (dk_at dksX0_moved_0 14 rfl rfl)
theorem dX0_moved_15 : decode cX0_moved 15 = .ok (.iconst 0, 1) := dk_3 (dk_at dksX0_moved_0 15 rfl rfl)
theorem dX0_moved_16 : decode cX0_moved 16 = .ok (.ireturn, 1) := dk_172 (dk_at dksX0_moved_0 16 rfl rfl)
abbrev cX0_spare : ByteArray := method_13_code
def yX0_spare : MethodName := ⟨RX0, "spare", "(LValleyMass;I[J)I"⟩
def dkwX0_spare_0 : List UInt8 := [44, 3, 42, 27, 182, 0, 48, 133, 80, 167, 0, 6, 78, 4, 172, 3, 172]
abbrev dktX0_spare_0 : List UInt8 := dkwX0_spare_0 ++ []
theorem dksX0_spare_0 : cX0_spare.data.toList.drop 0 = dktX0_spare_0 := by decide +kernel
theorem dX0_spare_0 : decode cX0_spare 0 = .ok (.aload_n 2, 1) := dk_44 (dk_at dksX0_spare_0 0 rfl rfl)
theorem dX0_spare_1 : decode cX0_spare 1 = .ok (.iconst 0, 1) := dk_3 (dk_at dksX0_spare_0 1 rfl rfl)
theorem dX0_spare_2 : decode cX0_spare 2 = .ok (.aload_n 0, 1) := dk_42 (dk_at dksX0_spare_0 2 rfl rfl)
theorem dX0_spare_3 : decode cX0_spare 3 = .ok (.iload_n 1, 1) := dk_27 (dk_at dksX0_spare_0 3 rfl rfl)
theorem dX0_spare_4 : decode cX0_spare 4 = .ok (.invokevirtual 48, 3) := dk_182 0 48 (dk_at dksX0_spare_0 4 rfl rfl)
theorem dX0_spare_7 : decode cX0_spare 7 = .ok (.i2l, 1) := dk_133 (dk_at dksX0_spare_0 7 rfl rfl)
theorem dX0_spare_8 : decode cX0_spare 8 = .ok (.lastore, 1) := dk_80 (dk_at dksX0_spare_0 8 rfl rfl)
theorem dX0_spare_9 : decode cX0_spare 9 = .ok (.goto 6, 3) := dk_167 0 6 (dk_at dksX0_spare_0 9 rfl rfl)
theorem dX0_spare_12 : decode cX0_spare 12 = .ok (.astore_n 3, 1) := dk_78 (dk_at dksX0_spare_0 12 rfl rfl)
theorem dX0_spare_13 : decode cX0_spare 13 = .ok (.iconst 1, 1) := dk_4 (dk_at dksX0_spare_0 13 rfl rfl)
theorem dX0_spare_14 : decode cX0_spare 14 = .ok (.ireturn, 1) := dk_172 (dk_at dksX0_spare_0 14 rfl rfl)
theorem dX0_spare_15 : decode cX0_spare 15 = .ok (.iconst 0, 1) := dk_3 (dk_at dksX0_spare_0 15 rfl rfl)
theorem dX0_spare_16 : decode cX0_spare 16 = .ok (.ireturn, 1) := dk_172 (dk_at dksX0_spare_0 16 rfl rfl)
abbrev cX0_ransom : ByteArray := method_14_code
def yX0_ransom : MethodName := ⟨RX0, "ransom", "(LValleyMass;I[J)I"⟩
def dkwX0_ransom_0 : List UInt8 := [44, 3, 42, 27, 182, 0, 51, 133, 80, 167, 0, 6, 78, 4, 172, 3, 172]
abbrev dktX0_ransom_0 : List UInt8 := dkwX0_ransom_0 ++ []
theorem dksX0_ransom_0 : cX0_ransom.data.toList.drop 0 = dktX0_ransom_0 := by decide +kernel
theorem dX0_ransom_0 : decode cX0_ransom 0 = .ok (.aload_n 2, 1) := dk_44 (dk_at dksX0_ransom_0 0 rfl rfl)
theorem dX0_ransom_1 : decode cX0_ransom 1 = .ok (.iconst 0, 1) := dk_3 (dk_at dksX0_ransom_0 1 rfl rfl)
theorem dX0_ransom_2 : decode cX0_ransom 2 = .ok (.aload_n 0, 1) := dk_42 (dk_at dksX0_ransom_0 2 rfl rfl)
theorem dX0_ransom_3 : decode cX0_ransom 3 = .ok (.iload_n 1, 1) := dk_27 (dk_at dksX0_ransom_0 3 rfl rfl)
theorem dX0_ransom_4 : decode cX0_ransom 4 = .ok (.invokevirtual 51, 3) := dk_182 0 51 (dk_at dksX0_ransom_0 4 rfl rfl)
theorem dX0_ransom_7 : decode cX0_ransom 7 = .ok (.i2l, 1) := dk_133 (dk_at dksX0_ransom_0 7 rfl rfl)
theorem dX0_ransom_8 : decode cX0_ransom 8 = .ok (.lastore, 1) := dk_80 (dk_at dksX0_ransom_0 8 rfl rfl)
theorem dX0_ransom_9 : decode cX0_ransom 9 = .ok (.goto 6, 3) := dk_167 0 6 (dk_at dksX0_ransom_0 9 rfl rfl)
theorem dX0_ransom_12 : decode cX0_ransom 12 = .ok (.astore_n 3, 1) := dk_78 (dk_at dksX0_ransom_0 12 rfl rfl)
theorem dX0_ransom_13 : decode cX0_ransom 13 = .ok (.iconst 1, 1) := dk_4 (dk_at dksX0_ransom_0 13 rfl rfl)
theorem dX0_ransom_14 : decode cX0_ransom 14 = .ok (.ireturn, 1) := dk_172 (dk_at dksX0_ransom_0 14 rfl rfl)
theorem dX0_ransom_15 : decode cX0_ransom 15 = .ok (.iconst 0, 1) := dk_3 (dk_at dksX0_ransom_0 15 rfl rfl)
theorem dX0_ransom_16 : decode cX0_ransom 16 = .ok (.ireturn, 1) := dk_172 (dk_at dksX0_ransom_0 16 rfl rfl)
abbrev cX0_luck : ByteArray := method_15_code
def yX0_luck : MethodName := ⟨RX0, "luck", "(LValleyMass;III[J)I"⟩
def dkwX0_luck_1 : List UInt8 := [172]
abbrev dktX0_luck_1 : List UInt8 := dkwX0_luck_1 ++ []
def dkwX0_luck_0 : List UInt8 := [25, 4, 3, 42, 27, 28, 29, 182, 0, 54, 133, 80, 167, 0, 11, 58, 5, 4, 172, 58, 5, 5, 172, 3]
abbrev dktX0_luck_0 : List UInt8 := dkwX0_luck_0 ++ dktX0_luck_1
theorem dksX0_luck_0 : cX0_luck.data.toList.drop 0 = dktX0_luck_0 := by decide +kernel
theorem dksX0_luck_1 : cX0_luck.data.toList.drop 24 = dktX0_luck_1 := dk_seg dksX0_luck_0 24 rfl rfl
theorem dX0_luck_0 : decode cX0_luck 0 = .ok (.aload 4, 2) := dk_25 4 (dk_at dksX0_luck_0 0 rfl rfl)
theorem dX0_luck_2 : decode cX0_luck 2 = .ok (.iconst 0, 1) := dk_3 (dk_at dksX0_luck_0 2 rfl rfl)
theorem dX0_luck_3 : decode cX0_luck 3 = .ok (.aload_n 0, 1) := dk_42 (dk_at dksX0_luck_0 3 rfl rfl)
theorem dX0_luck_4 : decode cX0_luck 4 = .ok (.iload_n 1, 1) := dk_27 (dk_at dksX0_luck_0 4 rfl rfl)
theorem dX0_luck_5 : decode cX0_luck 5 = .ok (.iload_n 2, 1) := dk_28 (dk_at dksX0_luck_0 5 rfl rfl)
theorem dX0_luck_6 : decode cX0_luck 6 = .ok (.iload_n 3, 1) := dk_29 (dk_at dksX0_luck_0 6 rfl rfl)
theorem dX0_luck_7 : decode cX0_luck 7 = .ok (.invokevirtual 54, 3) := dk_182 0 54 (dk_at dksX0_luck_0 7 rfl rfl)
theorem dX0_luck_10 : decode cX0_luck 10 = .ok (.i2l, 1) := dk_133 (dk_at dksX0_luck_0 10 rfl rfl)
theorem dX0_luck_11 : decode cX0_luck 11 = .ok (.lastore, 1) := dk_80 (dk_at dksX0_luck_0 11 rfl rfl)
theorem dX0_luck_12 : decode cX0_luck 12 = .ok (.goto 11, 3) := dk_167 0 11 (dk_at dksX0_luck_0 12 rfl rfl)
theorem dX0_luck_15 : decode cX0_luck 15 = .ok (.astore 5, 2) := dk_58 5 (dk_at dksX0_luck_0 15 rfl rfl)
theorem dX0_luck_17 : decode cX0_luck 17 = .ok (.iconst 1, 1) := dk_4 (dk_at dksX0_luck_0 17 rfl rfl)
theorem dX0_luck_18 : decode cX0_luck 18 = .ok (.ireturn, 1) := dk_172 (dk_at dksX0_luck_0 18 rfl rfl)
theorem dX0_luck_19 : decode cX0_luck 19 = .ok (.astore 5, 2) := dk_58 5 (dk_at dksX0_luck_0 19 rfl rfl)
theorem dX0_luck_21 : decode cX0_luck 21 = .ok (.iconst 2, 1) := dk_5 (dk_at dksX0_luck_0 21 rfl rfl)
theorem dX0_luck_22 : decode cX0_luck 22 = .ok (.ireturn, 1) := dk_172 (dk_at dksX0_luck_0 22 rfl rfl)
theorem dX0_luck_23 : decode cX0_luck 23 = .ok (.iconst 0, 1) := dk_3 (dk_at dksX0_luck_0 23 rfl rfl)
theorem dX0_luck_24 : decode cX0_luck 24 = .ok (.ireturn, 1) := dk_172 (dk_at dksX0_luck_1 0 rfl rfl)
abbrev cX0_codes : ByteArray := method_16_code
def yX0_codes : MethodName := ⟨RX0, "codes", "(LValleyMass;II[J)I"⟩
def dkwX0_codes_0 : List UInt8 := [45, 3, 42, 27, 28, 182, 0, 57, 80, 167, 0, 11, 58, 4, 4, 172, 58, 4, 5, 172, 3, 172]
abbrev dktX0_codes_0 : List UInt8 := dkwX0_codes_0 ++ []
theorem dksX0_codes_0 : cX0_codes.data.toList.drop 0 = dktX0_codes_0 := by decide +kernel
theorem dX0_codes_0 : decode cX0_codes 0 = .ok (.aload_n 3, 1) := dk_45 (dk_at dksX0_codes_0 0 rfl rfl)
theorem dX0_codes_1 : decode cX0_codes 1 = .ok (.iconst 0, 1) := dk_3 (dk_at dksX0_codes_0 1 rfl rfl)
theorem dX0_codes_2 : decode cX0_codes 2 = .ok (.aload_n 0, 1) := dk_42 (dk_at dksX0_codes_0 2 rfl rfl)
theorem dX0_codes_3 : decode cX0_codes 3 = .ok (.iload_n 1, 1) := dk_27 (dk_at dksX0_codes_0 3 rfl rfl)
theorem dX0_codes_4 : decode cX0_codes 4 = .ok (.iload_n 2, 1) := dk_28 (dk_at dksX0_codes_0 4 rfl rfl)
theorem dX0_codes_5 : decode cX0_codes 5 = .ok (.invokevirtual 57, 3) := dk_182 0 57 (dk_at dksX0_codes_0 5 rfl rfl)
theorem dX0_codes_8 : decode cX0_codes 8 = .ok (.lastore, 1) := dk_80 (dk_at dksX0_codes_0 8 rfl rfl)
theorem dX0_codes_9 : decode cX0_codes 9 = .ok (.goto 11, 3) := dk_167 0 11 (dk_at dksX0_codes_0 9 rfl rfl)
theorem dX0_codes_12 : decode cX0_codes 12 = .ok (.astore 4, 2) := dk_58 4 (dk_at dksX0_codes_0 12 rfl rfl)
theorem dX0_codes_14 : decode cX0_codes 14 = .ok (.iconst 1, 1) := dk_4 (dk_at dksX0_codes_0 14 rfl rfl)
theorem dX0_codes_15 : decode cX0_codes 15 = .ok (.ireturn, 1) := dk_172 (dk_at dksX0_codes_0 15 rfl rfl)
theorem dX0_codes_16 : decode cX0_codes 16 = .ok (.astore 4, 2) := dk_58 4 (dk_at dksX0_codes_0 16 rfl rfl)
theorem dX0_codes_18 : decode cX0_codes 18 = .ok (.iconst 2, 1) := dk_5 (dk_at dksX0_codes_0 18 rfl rfl)
theorem dX0_codes_19 : decode cX0_codes 19 = .ok (.ireturn, 1) := dk_172 (dk_at dksX0_codes_0 19 rfl rfl)
theorem dX0_codes_20 : decode cX0_codes 20 = .ok (.iconst 0, 1) := dk_3 (dk_at dksX0_codes_0 20 rfl rfl)
theorem dX0_codes_21 : decode cX0_codes 21 = .ok (.ireturn, 1) := dk_172 (dk_at dksX0_codes_0 21 rfl rfl)
abbrev cX0_slips : ByteArray := method_17_code
def yX0_slips : MethodName := ⟨RX0, "slips", "(LValleyMass;II[J)I"⟩
def dkwX0_slips_0 : List UInt8 := [45, 3, 42, 27, 28, 182, 0, 61, 133, 80, 167, 0, 11, 58, 4, 4, 172, 58, 4, 5, 172, 3, 172]
abbrev dktX0_slips_0 : List UInt8 := dkwX0_slips_0 ++ []
theorem dksX0_slips_0 : cX0_slips.data.toList.drop 0 = dktX0_slips_0 := by decide +kernel
theorem dX0_slips_0 : decode cX0_slips 0 = .ok (.aload_n 3, 1) := dk_45 (dk_at dksX0_slips_0 0 rfl rfl)
theorem dX0_slips_1 : decode cX0_slips 1 = .ok (.iconst 0, 1) := dk_3 (dk_at dksX0_slips_0 1 rfl rfl)
theorem dX0_slips_2 : decode cX0_slips 2 = .ok (.aload_n 0, 1) := dk_42 (dk_at dksX0_slips_0 2 rfl rfl)
theorem dX0_slips_3 : decode cX0_slips 3 = .ok (.iload_n 1, 1) := dk_27 (dk_at dksX0_slips_0 3 rfl rfl)
theorem dX0_slips_4 : decode cX0_slips 4 = .ok (.iload_n 2, 1) := dk_28 (dk_at dksX0_slips_0 4 rfl rfl)
theorem dX0_slips_5 : decode cX0_slips 5 = .ok (.invokevirtual 61, 3) := dk_182 0 61 (dk_at dksX0_slips_0 5 rfl rfl)
theorem dX0_slips_8 : decode cX0_slips 8 = .ok (.i2l, 1) := dk_133 (dk_at dksX0_slips_0 8 rfl rfl)
theorem dX0_slips_9 : decode cX0_slips 9 = .ok (.lastore, 1) := dk_80 (dk_at dksX0_slips_0 9 rfl rfl)
theorem dX0_slips_10 : decode cX0_slips 10 = .ok (.goto 11, 3) := dk_167 0 11 (dk_at dksX0_slips_0 10 rfl rfl)
theorem dX0_slips_13 : decode cX0_slips 13 = .ok (.astore 4, 2) := dk_58 4 (dk_at dksX0_slips_0 13 rfl rfl)
theorem dX0_slips_15 : decode cX0_slips 15 = .ok (.iconst 1, 1) := dk_4 (dk_at dksX0_slips_0 15 rfl rfl)
theorem dX0_slips_16 : decode cX0_slips 16 = .ok (.ireturn, 1) := dk_172 (dk_at dksX0_slips_0 16 rfl rfl)
theorem dX0_slips_17 : decode cX0_slips 17 = .ok (.astore 4, 2) := dk_58 4 (dk_at dksX0_slips_0 17 rfl rfl)
theorem dX0_slips_19 : decode cX0_slips 19 = .ok (.iconst 2, 1) := dk_5 (dk_at dksX0_slips_0 19 rfl rfl)
theorem dX0_slips_20 : decode cX0_slips 20 = .ok (.ireturn, 1) := dk_172 (dk_at dksX0_slips_0 20 rfl rfl)
theorem dX0_slips_21 : decode cX0_slips 21 = .ok (.iconst 0, 1) := dk_3 (dk_at dksX0_slips_0 21 rfl rfl)
theorem dX0_slips_22 : decode cX0_slips 22 = .ok (.ireturn, 1) := dk_172 (dk_at dksX0_slips_0 22 rfl rfl)
abbrev cX0_hear : ByteArray := method_18_code
def yX0_hear : MethodName := ⟨RX0, "hear", "(LValleyMass;IIII[J)I"⟩
def dkwX0_hear_0 : List UInt8 := [25, 5, 3, 42, 27, 28, 29, 21, 4, 182, 0, 64, 133, 80, 167, 0, 7, 58, 6, 4, 172, 3, 172]
abbrev dktX0_hear_0 : List UInt8 := dkwX0_hear_0 ++ []
theorem dksX0_hear_0 : cX0_hear.data.toList.drop 0 = dktX0_hear_0 := by decide +kernel
theorem dX0_hear_0 : decode cX0_hear 0 = .ok (.aload 5, 2) := dk_25 5 (dk_at dksX0_hear_0 0 rfl rfl)
theorem dX0_hear_2 : decode cX0_hear 2 = .ok (.iconst 0, 1) := dk_3 (dk_at dksX0_hear_0 2 rfl rfl)
theorem dX0_hear_3 : decode cX0_hear 3 = .ok (.aload_n 0, 1) := dk_42 (dk_at dksX0_hear_0 3 rfl rfl)
theorem dX0_hear_4 : decode cX0_hear 4 = .ok (.iload_n 1, 1) := dk_27 (dk_at dksX0_hear_0 4 rfl rfl)
theorem dX0_hear_5 : decode cX0_hear 5 = .ok (.iload_n 2, 1) := dk_28 (dk_at dksX0_hear_0 5 rfl rfl)
theorem dX0_hear_6 : decode cX0_hear 6 = .ok (.iload_n 3, 1) := dk_29 (dk_at dksX0_hear_0 6 rfl rfl)
theorem dX0_hear_7 : decode cX0_hear 7 = .ok (.iload 4, 2) := dk_21 4 (dk_at dksX0_hear_0 7 rfl rfl)
theorem dX0_hear_9 : decode cX0_hear 9 = .ok (.invokevirtual 64, 3) := dk_182 0 64 (dk_at dksX0_hear_0 9 rfl rfl)
theorem dX0_hear_12 : decode cX0_hear 12 = .ok (.i2l, 1) := dk_133 (dk_at dksX0_hear_0 12 rfl rfl)
theorem dX0_hear_13 : decode cX0_hear 13 = .ok (.lastore, 1) := dk_80 (dk_at dksX0_hear_0 13 rfl rfl)
theorem dX0_hear_14 : decode cX0_hear 14 = .ok (.goto 7, 3) := dk_167 0 7 (dk_at dksX0_hear_0 14 rfl rfl)
theorem dX0_hear_17 : decode cX0_hear 17 = .ok (.astore 6, 2) := dk_58 6 (dk_at dksX0_hear_0 17 rfl rfl)
theorem dX0_hear_19 : decode cX0_hear 19 = .ok (.iconst 1, 1) := dk_4 (dk_at dksX0_hear_0 19 rfl rfl)
theorem dX0_hear_20 : decode cX0_hear 20 = .ok (.ireturn, 1) := dk_172 (dk_at dksX0_hear_0 20 rfl rfl)
theorem dX0_hear_21 : decode cX0_hear 21 = .ok (.iconst 0, 1) := dk_3 (dk_at dksX0_hear_0 21 rfl rfl)
theorem dX0_hear_22 : decode cX0_hear 22 = .ok (.ireturn, 1) := dk_172 (dk_at dksX0_hear_0 22 rfl rfl)
abbrev cX0_flat : ByteArray := method_19_code
def yX0_flat : MethodName := ⟨RX0, "flat", "(LValleyMass;I[J)I"⟩
def dkwX0_flat_0 : List UInt8 := [44, 3, 42, 27, 182, 0, 68, 133, 80, 167, 0, 6, 78, 4, 172, 3, 172]
abbrev dktX0_flat_0 : List UInt8 := dkwX0_flat_0 ++ []
theorem dksX0_flat_0 : cX0_flat.data.toList.drop 0 = dktX0_flat_0 := by decide +kernel
theorem dX0_flat_0 : decode cX0_flat 0 = .ok (.aload_n 2, 1) := dk_44 (dk_at dksX0_flat_0 0 rfl rfl)
theorem dX0_flat_1 : decode cX0_flat 1 = .ok (.iconst 0, 1) := dk_3 (dk_at dksX0_flat_0 1 rfl rfl)
theorem dX0_flat_2 : decode cX0_flat 2 = .ok (.aload_n 0, 1) := dk_42 (dk_at dksX0_flat_0 2 rfl rfl)
theorem dX0_flat_3 : decode cX0_flat 3 = .ok (.iload_n 1, 1) := dk_27 (dk_at dksX0_flat_0 3 rfl rfl)
theorem dX0_flat_4 : decode cX0_flat 4 = .ok (.invokevirtual 68, 3) := dk_182 0 68 (dk_at dksX0_flat_0 4 rfl rfl)
theorem dX0_flat_7 : decode cX0_flat 7 = .ok (.i2l, 1) := dk_133 (dk_at dksX0_flat_0 7 rfl rfl)
theorem dX0_flat_8 : decode cX0_flat 8 = .ok (.lastore, 1) := dk_80 (dk_at dksX0_flat_0 8 rfl rfl)
theorem dX0_flat_9 : decode cX0_flat 9 = .ok (.goto 6, 3) := dk_167 0 6 (dk_at dksX0_flat_0 9 rfl rfl)
theorem dX0_flat_12 : decode cX0_flat 12 = .ok (.astore_n 3, 1) := dk_78 (dk_at dksX0_flat_0 12 rfl rfl)
theorem dX0_flat_13 : decode cX0_flat 13 = .ok (.iconst 1, 1) := dk_4 (dk_at dksX0_flat_0 13 rfl rfl)
theorem dX0_flat_14 : decode cX0_flat 14 = .ok (.ireturn, 1) := dk_172 (dk_at dksX0_flat_0 14 rfl rfl)
theorem dX0_flat_15 : decode cX0_flat 15 = .ok (.iconst 0, 1) := dk_3 (dk_at dksX0_flat_0 15 rfl rfl)
theorem dX0_flat_16 : decode cX0_flat 16 = .ok (.ireturn, 1) := dk_172 (dk_at dksX0_flat_0 16 rfl rfl)
abbrev cX0_game : ByteArray := method_20_code
def yX0_game : MethodName := ⟨RX0, "game", "(LValleyMass;II[J)I"⟩
def dkwX0_game_0 : List UInt8 := [45, 3, 42, 27, 28, 182, 0, 71, 133, 80, 167, 0, 11, 58, 4, 4, 172, 58, 4, 5, 172, 3, 172]
abbrev dktX0_game_0 : List UInt8 := dkwX0_game_0 ++ []
theorem dksX0_game_0 : cX0_game.data.toList.drop 0 = dktX0_game_0 := by decide +kernel
theorem dX0_game_0 : decode cX0_game 0 = .ok (.aload_n 3, 1) := dk_45 (dk_at dksX0_game_0 0 rfl rfl)
theorem dX0_game_1 : decode cX0_game 1 = .ok (.iconst 0, 1) := dk_3 (dk_at dksX0_game_0 1 rfl rfl)
theorem dX0_game_2 : decode cX0_game 2 = .ok (.aload_n 0, 1) := dk_42 (dk_at dksX0_game_0 2 rfl rfl)
theorem dX0_game_3 : decode cX0_game 3 = .ok (.iload_n 1, 1) := dk_27 (dk_at dksX0_game_0 3 rfl rfl)
theorem dX0_game_4 : decode cX0_game 4 = .ok (.iload_n 2, 1) := dk_28 (dk_at dksX0_game_0 4 rfl rfl)
theorem dX0_game_5 : decode cX0_game 5 = .ok (.invokevirtual 71, 3) := dk_182 0 71 (dk_at dksX0_game_0 5 rfl rfl)
theorem dX0_game_8 : decode cX0_game 8 = .ok (.i2l, 1) := dk_133 (dk_at dksX0_game_0 8 rfl rfl)
theorem dX0_game_9 : decode cX0_game 9 = .ok (.lastore, 1) := dk_80 (dk_at dksX0_game_0 9 rfl rfl)
theorem dX0_game_10 : decode cX0_game 10 = .ok (.goto 11, 3) := dk_167 0 11 (dk_at dksX0_game_0 10 rfl rfl)
theorem dX0_game_13 : decode cX0_game 13 = .ok (.astore 4, 2) := dk_58 4 (dk_at dksX0_game_0 13 rfl rfl)
theorem dX0_game_15 : decode cX0_game 15 = .ok (.iconst 1, 1) := dk_4 (dk_at dksX0_game_0 15 rfl rfl)
theorem dX0_game_16 : decode cX0_game 16 = .ok (.ireturn, 1) := dk_172 (dk_at dksX0_game_0 16 rfl rfl)
theorem dX0_game_17 : decode cX0_game 17 = .ok (.astore 4, 2) := dk_58 4 (dk_at dksX0_game_0 17 rfl rfl)
theorem dX0_game_19 : decode cX0_game 19 = .ok (.iconst 2, 1) := dk_5 (dk_at dksX0_game_0 19 rfl rfl)
theorem dX0_game_20 : decode cX0_game 20 = .ok (.ireturn, 1) := dk_172 (dk_at dksX0_game_0 20 rfl rfl)
theorem dX0_game_21 : decode cX0_game 21 = .ok (.iconst 0, 1) := dk_3 (dk_at dksX0_game_0 21 rfl rfl)
theorem dX0_game_22 : decode cX0_game 22 = .ok (.ireturn, 1) := dk_172 (dk_at dksX0_game_0 22 rfl rfl)
abbrev cX0_wars : ByteArray := method_21_code
def yX0_wars : MethodName := ⟨RX0, "wars", "(LValleyMass;III[J)I"⟩
def dkwX0_wars_1 : List UInt8 := [172]
abbrev dktX0_wars_1 : List UInt8 := dkwX0_wars_1 ++ []
def dkwX0_wars_0 : List UInt8 := [25, 4, 3, 42, 27, 28, 29, 182, 0, 74, 133, 80, 167, 0, 11, 58, 5, 4, 172, 58, 5, 5, 172, 3]
abbrev dktX0_wars_0 : List UInt8 := dkwX0_wars_0 ++ dktX0_wars_1
theorem dksX0_wars_0 : cX0_wars.data.toList.drop 0 = dktX0_wars_0 := by decide +kernel
theorem dksX0_wars_1 : cX0_wars.data.toList.drop 24 = dktX0_wars_1 := dk_seg dksX0_wars_0 24 rfl rfl
theorem dX0_wars_0 : decode cX0_wars 0 = .ok (.aload 4, 2) := dk_25 4 (dk_at dksX0_wars_0 0 rfl rfl)
theorem dX0_wars_2 : decode cX0_wars 2 = .ok (.iconst 0, 1) := dk_3 (dk_at dksX0_wars_0 2 rfl rfl)
theorem dX0_wars_3 : decode cX0_wars 3 = .ok (.aload_n 0, 1) := dk_42 (dk_at dksX0_wars_0 3 rfl rfl)
theorem dX0_wars_4 : decode cX0_wars 4 = .ok (.iload_n 1, 1) := dk_27 (dk_at dksX0_wars_0 4 rfl rfl)
theorem dX0_wars_5 : decode cX0_wars 5 = .ok (.iload_n 2, 1) := dk_28 (dk_at dksX0_wars_0 5 rfl rfl)
theorem dX0_wars_6 : decode cX0_wars 6 = .ok (.iload_n 3, 1) := dk_29 (dk_at dksX0_wars_0 6 rfl rfl)
theorem dX0_wars_7 : decode cX0_wars 7 = .ok (.invokevirtual 74, 3) := dk_182 0 74 (dk_at dksX0_wars_0 7 rfl rfl)
theorem dX0_wars_10 : decode cX0_wars 10 = .ok (.i2l, 1) := dk_133 (dk_at dksX0_wars_0 10 rfl rfl)
theorem dX0_wars_11 : decode cX0_wars 11 = .ok (.lastore, 1) := dk_80 (dk_at dksX0_wars_0 11 rfl rfl)
theorem dX0_wars_12 : decode cX0_wars 12 = .ok (.goto 11, 3) := dk_167 0 11 (dk_at dksX0_wars_0 12 rfl rfl)
theorem dX0_wars_15 : decode cX0_wars 15 = .ok (.astore 5, 2) := dk_58 5 (dk_at dksX0_wars_0 15 rfl rfl)
theorem dX0_wars_17 : decode cX0_wars 17 = .ok (.iconst 1, 1) := dk_4 (dk_at dksX0_wars_0 17 rfl rfl)
theorem dX0_wars_18 : decode cX0_wars 18 = .ok (.ireturn, 1) := dk_172 (dk_at dksX0_wars_0 18 rfl rfl)
theorem dX0_wars_19 : decode cX0_wars 19 = .ok (.astore 5, 2) := dk_58 5 (dk_at dksX0_wars_0 19 rfl rfl)
theorem dX0_wars_21 : decode cX0_wars 21 = .ok (.iconst 2, 1) := dk_5 (dk_at dksX0_wars_0 21 rfl rfl)
theorem dX0_wars_22 : decode cX0_wars 22 = .ok (.ireturn, 1) := dk_172 (dk_at dksX0_wars_0 22 rfl rfl)
theorem dX0_wars_23 : decode cX0_wars 23 = .ok (.iconst 0, 1) := dk_3 (dk_at dksX0_wars_0 23 rfl rfl)
theorem dX0_wars_24 : decode cX0_wars 24 = .ok (.ireturn, 1) := dk_172 (dk_at dksX0_wars_1 0 rfl rfl)
abbrev cX0_cast : ByteArray := method_22_code
def yX0_cast : MethodName := ⟨RX0, "cast", "(LValleyMass;II[J)I"⟩
def dkwX0_cast_0 : List UInt8 := [45, 3, 42, 27, 28, 182, 0, 77, 133, 80, 167, 0, 7, 58, 4, 4, 172, 3, 172]
abbrev dktX0_cast_0 : List UInt8 := dkwX0_cast_0 ++ []
theorem dksX0_cast_0 : cX0_cast.data.toList.drop 0 = dktX0_cast_0 := by decide +kernel
theorem dX0_cast_0 : decode cX0_cast 0 = .ok (.aload_n 3, 1) := dk_45 (dk_at dksX0_cast_0 0 rfl rfl)
theorem dX0_cast_1 : decode cX0_cast 1 = .ok (.iconst 0, 1) := dk_3 (dk_at dksX0_cast_0 1 rfl rfl)
theorem dX0_cast_2 : decode cX0_cast 2 = .ok (.aload_n 0, 1) := dk_42 (dk_at dksX0_cast_0 2 rfl rfl)
theorem dX0_cast_3 : decode cX0_cast 3 = .ok (.iload_n 1, 1) := dk_27 (dk_at dksX0_cast_0 3 rfl rfl)
theorem dX0_cast_4 : decode cX0_cast 4 = .ok (.iload_n 2, 1) := dk_28 (dk_at dksX0_cast_0 4 rfl rfl)
theorem dX0_cast_5 : decode cX0_cast 5 = .ok (.invokevirtual 77, 3) := dk_182 0 77 (dk_at dksX0_cast_0 5 rfl rfl)
theorem dX0_cast_8 : decode cX0_cast 8 = .ok (.i2l, 1) := dk_133 (dk_at dksX0_cast_0 8 rfl rfl)
theorem dX0_cast_9 : decode cX0_cast 9 = .ok (.lastore, 1) := dk_80 (dk_at dksX0_cast_0 9 rfl rfl)
theorem dX0_cast_10 : decode cX0_cast 10 = .ok (.goto 7, 3) := dk_167 0 7 (dk_at dksX0_cast_0 10 rfl rfl)
theorem dX0_cast_13 : decode cX0_cast 13 = .ok (.astore 4, 2) := dk_58 4 (dk_at dksX0_cast_0 13 rfl rfl)
theorem dX0_cast_15 : decode cX0_cast 15 = .ok (.iconst 1, 1) := dk_4 (dk_at dksX0_cast_0 15 rfl rfl)
theorem dX0_cast_16 : decode cX0_cast 16 = .ok (.ireturn, 1) := dk_172 (dk_at dksX0_cast_0 16 rfl rfl)
theorem dX0_cast_17 : decode cX0_cast 17 = .ok (.iconst 0, 1) := dk_3 (dk_at dksX0_cast_0 17 rfl rfl)
theorem dX0_cast_18 : decode cX0_cast 18 = .ok (.ireturn, 1) := dk_172 (dk_at dksX0_cast_0 18 rfl rfl)
abbrev cX0_transposed : ByteArray := method_23_code
def yX0_transposed : MethodName := ⟨RX0, "transposed", "(LValleyMass;I[J)I"⟩
def dkwX0_transposed_0 : List UInt8 := [44, 3, 42, 27, 182, 0, 80, 133, 80, 167, 0, 6, 78, 4, 172, 3, 172]
abbrev dktX0_transposed_0 : List UInt8 := dkwX0_transposed_0 ++ []
theorem dksX0_transposed_0 : cX0_transposed.data.toList.drop 0 = dktX0_transposed_0 := by decide +kernel
theorem dX0_transposed_0 : decode cX0_transposed 0 = .ok (.aload_n 2, 1) := dk_44 (dk_at dksX0_transposed_0 0 rfl rfl)
theorem dX0_transposed_1 : decode cX0_transposed 1 = .ok (.iconst 0, 1) := dk_3 (dk_at dksX0_transposed_0 1 rfl rfl)
theorem dX0_transposed_2 : decode cX0_transposed 2 = .ok (.aload_n 0, 1) := dk_42 (dk_at dksX0_transposed_0 2 rfl rfl)
theorem dX0_transposed_3 : decode cX0_transposed 3 = .ok (.iload_n 1, 1) := dk_27 (dk_at dksX0_transposed_0 3 rfl rfl)
theorem dX0_transposed_4 : decode cX0_transposed 4 = .ok (.invokevirtual 80, 3) := dk_182 0 80 (dk_at dksX0_transposed_0 4 rfl rfl)
theorem dX0_transposed_7 : decode cX0_transposed 7 = .ok (.i2l, 1) := dk_133 (dk_at dksX0_transposed_0 7 rfl rfl)
theorem dX0_transposed_8 : decode cX0_transposed 8 = .ok (.lastore, 1) := dk_80 (dk_at dksX0_transposed_0 8 rfl rfl)
theorem dX0_transposed_9 : decode cX0_transposed 9 = .ok (.goto 6, 3) := dk_167 0 6 (dk_at dksX0_transposed_0 9 rfl rfl)
theorem dX0_transposed_12 : decode cX0_transposed 12 = .ok (.astore_n 3, 1) := dk_78 (dk_at dksX0_transposed_0 12 rfl rfl)
theorem dX0_transposed_13 : decode cX0_transposed 13 = .ok (.iconst 1, 1) := dk_4 (dk_at dksX0_transposed_0 13 rfl rfl)
theorem dX0_transposed_14 : decode cX0_transposed 14 = .ok (.ireturn, 1) := dk_172 (dk_at dksX0_transposed_0 14 rfl rfl)
theorem dX0_transposed_15 : decode cX0_transposed 15 = .ok (.iconst 0, 1) := dk_3 (dk_at dksX0_transposed_0 15 rfl rfl)
theorem dX0_transposed_16 : decode cX0_transposed 16 = .ok (.ireturn, 1) := dk_172 (dk_at dksX0_transposed_0 16 rfl rfl)
abbrev cX0_standIns : ByteArray := method_24_code
def yX0_standIns : MethodName := ⟨RX0, "standIns", "(LValleyMass;I[J)I"⟩
def dkwX0_standIns_0 : List UInt8 := [44, 3, 42, 27, 182, 0, 83, 133, 80, 167, 0, 6, 78, 4, 172, 3, 172]
abbrev dktX0_standIns_0 : List UInt8 := dkwX0_standIns_0 ++ []
theorem dksX0_standIns_0 : cX0_standIns.data.toList.drop 0 = dktX0_standIns_0 := by decide +kernel
theorem dX0_standIns_0 : decode cX0_standIns 0 = .ok (.aload_n 2, 1) := dk_44 (dk_at dksX0_standIns_0 0 rfl rfl)
theorem dX0_standIns_1 : decode cX0_standIns 1 = .ok (.iconst 0, 1) := dk_3 (dk_at dksX0_standIns_0 1 rfl rfl)
theorem dX0_standIns_2 : decode cX0_standIns 2 = .ok (.aload_n 0, 1) := dk_42 (dk_at dksX0_standIns_0 2 rfl rfl)
theorem dX0_standIns_3 : decode cX0_standIns 3 = .ok (.iload_n 1, 1) := dk_27 (dk_at dksX0_standIns_0 3 rfl rfl)
theorem dX0_standIns_4 : decode cX0_standIns 4 = .ok (.invokevirtual 83, 3) := dk_182 0 83 (dk_at dksX0_standIns_0 4 rfl rfl)
theorem dX0_standIns_7 : decode cX0_standIns 7 = .ok (.i2l, 1) := dk_133 (dk_at dksX0_standIns_0 7 rfl rfl)
theorem dX0_standIns_8 : decode cX0_standIns 8 = .ok (.lastore, 1) := dk_80 (dk_at dksX0_standIns_0 8 rfl rfl)
theorem dX0_standIns_9 : decode cX0_standIns 9 = .ok (.goto 6, 3) := dk_167 0 6 (dk_at dksX0_standIns_0 9 rfl rfl)
theorem dX0_standIns_12 : decode cX0_standIns 12 = .ok (.astore_n 3, 1) := dk_78 (dk_at dksX0_standIns_0 12 rfl rfl)
theorem dX0_standIns_13 : decode cX0_standIns 13 = .ok (.iconst 1, 1) := dk_4 (dk_at dksX0_standIns_0 13 rfl rfl)
theorem dX0_standIns_14 : decode cX0_standIns 14 = .ok (.ireturn, 1) := dk_172 (dk_at dksX0_standIns_0 14 rfl rfl)
theorem dX0_standIns_15 : decode cX0_standIns 15 = .ok (.iconst 0, 1) := dk_3 (dk_at dksX0_standIns_0 15 rfl rfl)
theorem dX0_standIns_16 : decode cX0_standIns 16 = .ok (.ireturn, 1) := dk_172 (dk_at dksX0_standIns_0 16 rfl rfl)
abbrev cX0_falls : ByteArray := method_25_code
def yX0_falls : MethodName := ⟨RX0, "falls", "(LValleyMass;I[J)I"⟩
def dkwX0_falls_0 : List UInt8 := [44, 3, 42, 27, 182, 0, 86, 133, 80, 167, 0, 6, 78, 4, 172, 3, 172]
abbrev dktX0_falls_0 : List UInt8 := dkwX0_falls_0 ++ []
theorem dksX0_falls_0 : cX0_falls.data.toList.drop 0 = dktX0_falls_0 := by decide +kernel
theorem dX0_falls_0 : decode cX0_falls 0 = .ok (.aload_n 2, 1) := dk_44 (dk_at dksX0_falls_0 0 rfl rfl)
theorem dX0_falls_1 : decode cX0_falls 1 = .ok (.iconst 0, 1) := dk_3 (dk_at dksX0_falls_0 1 rfl rfl)
theorem dX0_falls_2 : decode cX0_falls 2 = .ok (.aload_n 0, 1) := dk_42 (dk_at dksX0_falls_0 2 rfl rfl)
theorem dX0_falls_3 : decode cX0_falls 3 = .ok (.iload_n 1, 1) := dk_27 (dk_at dksX0_falls_0 3 rfl rfl)
theorem dX0_falls_4 : decode cX0_falls 4 = .ok (.invokevirtual 86, 3) := dk_182 0 86 (dk_at dksX0_falls_0 4 rfl rfl)
theorem dX0_falls_7 : decode cX0_falls 7 = .ok (.i2l, 1) := dk_133 (dk_at dksX0_falls_0 7 rfl rfl)
theorem dX0_falls_8 : decode cX0_falls 8 = .ok (.lastore, 1) := dk_80 (dk_at dksX0_falls_0 8 rfl rfl)
theorem dX0_falls_9 : decode cX0_falls 9 = .ok (.goto 6, 3) := dk_167 0 6 (dk_at dksX0_falls_0 9 rfl rfl)
theorem dX0_falls_12 : decode cX0_falls 12 = .ok (.astore_n 3, 1) := dk_78 (dk_at dksX0_falls_0 12 rfl rfl)
theorem dX0_falls_13 : decode cX0_falls 13 = .ok (.iconst 1, 1) := dk_4 (dk_at dksX0_falls_0 13 rfl rfl)
theorem dX0_falls_14 : decode cX0_falls 14 = .ok (.ireturn, 1) := dk_172 (dk_at dksX0_falls_0 14 rfl rfl)
theorem dX0_falls_15 : decode cX0_falls 15 = .ok (.iconst 0, 1) := dk_3 (dk_at dksX0_falls_0 15 rfl rfl)
theorem dX0_falls_16 : decode cX0_falls 16 = .ok (.ireturn, 1) := dk_172 (dk_at dksX0_falls_0 16 rfl rfl)
abbrev cX0_voices : ByteArray := method_26_code
def yX0_voices : MethodName := ⟨RX0, "voices", "(LValleyMass;II[J)I"⟩
def dkwX0_voices_0 : List UInt8 := [45, 3, 42, 27, 28, 182, 0, 89, 133, 80, 167, 0, 7, 58, 4, 4, 172, 3, 172]
abbrev dktX0_voices_0 : List UInt8 := dkwX0_voices_0 ++ []
theorem dksX0_voices_0 : cX0_voices.data.toList.drop 0 = dktX0_voices_0 := by decide +kernel
theorem dX0_voices_0 : decode cX0_voices 0 = .ok (.aload_n 3, 1) := dk_45 (dk_at dksX0_voices_0 0 rfl rfl)
theorem dX0_voices_1 : decode cX0_voices 1 = .ok (.iconst 0, 1) := dk_3 (dk_at dksX0_voices_0 1 rfl rfl)
theorem dX0_voices_2 : decode cX0_voices 2 = .ok (.aload_n 0, 1) := dk_42 (dk_at dksX0_voices_0 2 rfl rfl)
theorem dX0_voices_3 : decode cX0_voices 3 = .ok (.iload_n 1, 1) := dk_27 (dk_at dksX0_voices_0 3 rfl rfl)
theorem dX0_voices_4 : decode cX0_voices 4 = .ok (.iload_n 2, 1) := dk_28 (dk_at dksX0_voices_0 4 rfl rfl)
theorem dX0_voices_5 : decode cX0_voices 5 = .ok (.invokevirtual 89, 3) := dk_182 0 89 (dk_at dksX0_voices_0 5 rfl rfl)
theorem dX0_voices_8 : decode cX0_voices 8 = .ok (.i2l, 1) := dk_133 (dk_at dksX0_voices_0 8 rfl rfl)
theorem dX0_voices_9 : decode cX0_voices 9 = .ok (.lastore, 1) := dk_80 (dk_at dksX0_voices_0 9 rfl rfl)
theorem dX0_voices_10 : decode cX0_voices 10 = .ok (.goto 7, 3) := dk_167 0 7 (dk_at dksX0_voices_0 10 rfl rfl)
theorem dX0_voices_13 : decode cX0_voices 13 = .ok (.astore 4, 2) := dk_58 4 (dk_at dksX0_voices_0 13 rfl rfl)
theorem dX0_voices_15 : decode cX0_voices 15 = .ok (.iconst 1, 1) := dk_4 (dk_at dksX0_voices_0 15 rfl rfl)
theorem dX0_voices_16 : decode cX0_voices 16 = .ok (.ireturn, 1) := dk_172 (dk_at dksX0_voices_0 16 rfl rfl)
theorem dX0_voices_17 : decode cX0_voices 17 = .ok (.iconst 0, 1) := dk_3 (dk_at dksX0_voices_0 17 rfl rfl)
theorem dX0_voices_18 : decode cX0_voices 18 = .ok (.ireturn, 1) := dk_172 (dk_at dksX0_voices_0 18 rfl rfl)
abbrev cX0_lacking : ByteArray := method_27_code
def yX0_lacking : MethodName := ⟨RX0, "lacking", "(LValleyMass;II[J)I"⟩
def dkwX0_lacking_0 : List UInt8 := [45, 3, 42, 27, 28, 182, 0, 92, 133, 80, 167, 0, 7, 58, 4, 4, 172, 3, 172]
abbrev dktX0_lacking_0 : List UInt8 := dkwX0_lacking_0 ++ []
theorem dksX0_lacking_0 : cX0_lacking.data.toList.drop 0 = dktX0_lacking_0 := by decide +kernel
theorem dX0_lacking_0 : decode cX0_lacking 0 = .ok (.aload_n 3, 1) := dk_45 (dk_at dksX0_lacking_0 0 rfl rfl)
theorem dX0_lacking_1 : decode cX0_lacking 1 = .ok (.iconst 0, 1) := dk_3 (dk_at dksX0_lacking_0 1 rfl rfl)
theorem dX0_lacking_2 : decode cX0_lacking 2 = .ok (.aload_n 0, 1) := dk_42 (dk_at dksX0_lacking_0 2 rfl rfl)
theorem dX0_lacking_3 : decode cX0_lacking 3 = .ok (.iload_n 1, 1) := dk_27 (dk_at dksX0_lacking_0 3 rfl rfl)
theorem dX0_lacking_4 : decode cX0_lacking 4 = .ok (.iload_n 2, 1) := dk_28 (dk_at dksX0_lacking_0 4 rfl rfl)
theorem dX0_lacking_5 : decode cX0_lacking 5 = .ok (.invokevirtual 92, 3) := dk_182 0 92 (dk_at dksX0_lacking_0 5 rfl rfl)
theorem dX0_lacking_8 : decode cX0_lacking 8 = .ok (.i2l, 1) := dk_133 (dk_at dksX0_lacking_0 8 rfl rfl)
theorem dX0_lacking_9 : decode cX0_lacking 9 = .ok (.lastore, 1) := dk_80 (dk_at dksX0_lacking_0 9 rfl rfl)
theorem dX0_lacking_10 : decode cX0_lacking 10 = .ok (.goto 7, 3) := dk_167 0 7 (dk_at dksX0_lacking_0 10 rfl rfl)
theorem dX0_lacking_13 : decode cX0_lacking 13 = .ok (.astore 4, 2) := dk_58 4 (dk_at dksX0_lacking_0 13 rfl rfl)
theorem dX0_lacking_15 : decode cX0_lacking 15 = .ok (.iconst 1, 1) := dk_4 (dk_at dksX0_lacking_0 15 rfl rfl)
theorem dX0_lacking_16 : decode cX0_lacking 16 = .ok (.ireturn, 1) := dk_172 (dk_at dksX0_lacking_0 16 rfl rfl)
theorem dX0_lacking_17 : decode cX0_lacking 17 = .ok (.iconst 0, 1) := dk_3 (dk_at dksX0_lacking_0 17 rfl rfl)
theorem dX0_lacking_18 : decode cX0_lacking 18 = .ok (.ireturn, 1) := dk_172 (dk_at dksX0_lacking_0 18 rfl rfl)
abbrev cX0_widen : ByteArray := method_28_code
def yX0_widen : MethodName := ⟨RX0, "widen", "(LValleyMass;II[J)I"⟩
def dkwX0_widen_0 : List UInt8 := [45, 3, 42, 27, 28, 182, 0, 95, 133, 80, 167, 0, 7, 58, 4, 4, 172, 3, 172]
abbrev dktX0_widen_0 : List UInt8 := dkwX0_widen_0 ++ []
theorem dksX0_widen_0 : cX0_widen.data.toList.drop 0 = dktX0_widen_0 := by decide +kernel
theorem dX0_widen_0 : decode cX0_widen 0 = .ok (.aload_n 3, 1) := dk_45 (dk_at dksX0_widen_0 0 rfl rfl)
theorem dX0_widen_1 : decode cX0_widen 1 = .ok (.iconst 0, 1) := dk_3 (dk_at dksX0_widen_0 1 rfl rfl)
theorem dX0_widen_2 : decode cX0_widen 2 = .ok (.aload_n 0, 1) := dk_42 (dk_at dksX0_widen_0 2 rfl rfl)
theorem dX0_widen_3 : decode cX0_widen 3 = .ok (.iload_n 1, 1) := dk_27 (dk_at dksX0_widen_0 3 rfl rfl)
theorem dX0_widen_4 : decode cX0_widen 4 = .ok (.iload_n 2, 1) := dk_28 (dk_at dksX0_widen_0 4 rfl rfl)
theorem dX0_widen_5 : decode cX0_widen 5 = .ok (.invokevirtual 95, 3) := dk_182 0 95 (dk_at dksX0_widen_0 5 rfl rfl)
theorem dX0_widen_8 : decode cX0_widen 8 = .ok (.i2l, 1) := dk_133 (dk_at dksX0_widen_0 8 rfl rfl)
theorem dX0_widen_9 : decode cX0_widen 9 = .ok (.lastore, 1) := dk_80 (dk_at dksX0_widen_0 9 rfl rfl)
theorem dX0_widen_10 : decode cX0_widen 10 = .ok (.goto 7, 3) := dk_167 0 7 (dk_at dksX0_widen_0 10 rfl rfl)
theorem dX0_widen_13 : decode cX0_widen 13 = .ok (.astore 4, 2) := dk_58 4 (dk_at dksX0_widen_0 13 rfl rfl)
theorem dX0_widen_15 : decode cX0_widen 15 = .ok (.iconst 1, 1) := dk_4 (dk_at dksX0_widen_0 15 rfl rfl)
theorem dX0_widen_16 : decode cX0_widen 16 = .ok (.ireturn, 1) := dk_172 (dk_at dksX0_widen_0 16 rfl rfl)
theorem dX0_widen_17 : decode cX0_widen 17 = .ok (.iconst 0, 1) := dk_3 (dk_at dksX0_widen_0 17 rfl rfl)
theorem dX0_widen_18 : decode cX0_widen 18 = .ok (.ireturn, 1) := dk_172 (dk_at dksX0_widen_0 18 rfl rfl)
abbrev cX0_casts : ByteArray := method_29_code
def yX0_casts : MethodName := ⟨RX0, "casts", "(LValleyMass;I[J)I"⟩
def dkwX0_casts_0 : List UInt8 := [44, 3, 42, 27, 182, 0, 98, 80, 167, 0, 6, 78, 4, 172, 3, 172]
abbrev dktX0_casts_0 : List UInt8 := dkwX0_casts_0 ++ []
theorem dksX0_casts_0 : cX0_casts.data.toList.drop 0 = dktX0_casts_0 := by decide +kernel
theorem dX0_casts_0 : decode cX0_casts 0 = .ok (.aload_n 2, 1) := dk_44 (dk_at dksX0_casts_0 0 rfl rfl)
theorem dX0_casts_1 : decode cX0_casts 1 = .ok (.iconst 0, 1) := dk_3 (dk_at dksX0_casts_0 1 rfl rfl)
theorem dX0_casts_2 : decode cX0_casts 2 = .ok (.aload_n 0, 1) := dk_42 (dk_at dksX0_casts_0 2 rfl rfl)
theorem dX0_casts_3 : decode cX0_casts 3 = .ok (.iload_n 1, 1) := dk_27 (dk_at dksX0_casts_0 3 rfl rfl)
theorem dX0_casts_4 : decode cX0_casts 4 = .ok (.invokevirtual 98, 3) := dk_182 0 98 (dk_at dksX0_casts_0 4 rfl rfl)
theorem dX0_casts_7 : decode cX0_casts 7 = .ok (.lastore, 1) := dk_80 (dk_at dksX0_casts_0 7 rfl rfl)
theorem dX0_casts_8 : decode cX0_casts 8 = .ok (.goto 6, 3) := dk_167 0 6 (dk_at dksX0_casts_0 8 rfl rfl)
theorem dX0_casts_11 : decode cX0_casts 11 = .ok (.astore_n 3, 1) := dk_78 (dk_at dksX0_casts_0 11 rfl rfl)
theorem dX0_casts_12 : decode cX0_casts 12 = .ok (.iconst 1, 1) := dk_4 (dk_at dksX0_casts_0 12 rfl rfl)
theorem dX0_casts_13 : decode cX0_casts 13 = .ok (.ireturn, 1) := dk_172 (dk_at dksX0_casts_0 13 rfl rfl)
theorem dX0_casts_14 : decode cX0_casts 14 = .ok (.iconst 0, 1) := dk_3 (dk_at dksX0_casts_0 14 rfl rfl)
theorem dX0_casts_15 : decode cX0_casts 15 = .ok (.ireturn, 1) := dk_172 (dk_at dksX0_casts_0 15 rfl rfl)
abbrev cX0_holds : ByteArray := method_30_code
def yX0_holds : MethodName := ⟨RX0, "holds", "(LValleyMass;I[J)I"⟩
def dkwX0_holds_0 : List UInt8 := [44, 3, 42, 27, 182, 0, 102, 153, 0, 7, 10, 167, 0, 4, 9, 80, 167, 0, 6, 78, 4, 172, 3, 172]
abbrev dktX0_holds_0 : List UInt8 := dkwX0_holds_0 ++ []
theorem dksX0_holds_0 : cX0_holds.data.toList.drop 0 = dktX0_holds_0 := by decide +kernel
theorem dX0_holds_0 : decode cX0_holds 0 = .ok (.aload_n 2, 1) := dk_44 (dk_at dksX0_holds_0 0 rfl rfl)
theorem dX0_holds_1 : decode cX0_holds 1 = .ok (.iconst 0, 1) := dk_3 (dk_at dksX0_holds_0 1 rfl rfl)
theorem dX0_holds_2 : decode cX0_holds 2 = .ok (.aload_n 0, 1) := dk_42 (dk_at dksX0_holds_0 2 rfl rfl)
theorem dX0_holds_3 : decode cX0_holds 3 = .ok (.iload_n 1, 1) := dk_27 (dk_at dksX0_holds_0 3 rfl rfl)
theorem dX0_holds_4 : decode cX0_holds 4 = .ok (.invokevirtual 102, 3) := dk_182 0 102 (dk_at dksX0_holds_0 4 rfl rfl)
theorem dX0_holds_7 : decode cX0_holds 7 = .ok (.ifCond .eq 7, 3) := dk_153 0 7 (dk_at dksX0_holds_0 7 rfl rfl)
theorem dX0_holds_10 : decode cX0_holds 10 = .ok (.lconst 1, 1) := dk_10 (dk_at dksX0_holds_0 10 rfl rfl)
theorem dX0_holds_11 : decode cX0_holds 11 = .ok (.goto 4, 3) := dk_167 0 4 (dk_at dksX0_holds_0 11 rfl rfl)
theorem dX0_holds_14 : decode cX0_holds 14 = .ok (.lconst 0, 1) := dk_9 (dk_at dksX0_holds_0 14 rfl rfl)
theorem dX0_holds_15 : decode cX0_holds 15 = .ok (.lastore, 1) := dk_80 (dk_at dksX0_holds_0 15 rfl rfl)
theorem dX0_holds_16 : decode cX0_holds 16 = .ok (.goto 6, 3) := dk_167 0 6 (dk_at dksX0_holds_0 16 rfl rfl)
theorem dX0_holds_19 : decode cX0_holds 19 = .ok (.astore_n 3, 1) := dk_78 (dk_at dksX0_holds_0 19 rfl rfl)
theorem dX0_holds_20 : decode cX0_holds 20 = .ok (.iconst 1, 1) := dk_4 (dk_at dksX0_holds_0 20 rfl rfl)
theorem dX0_holds_21 : decode cX0_holds 21 = .ok (.ireturn, 1) := dk_172 (dk_at dksX0_holds_0 21 rfl rfl)
theorem dX0_holds_22 : decode cX0_holds 22 = .ok (.iconst 0, 1) := dk_3 (dk_at dksX0_holds_0 22 rfl rfl)
theorem dX0_holds_23 : decode cX0_holds 23 = .ok (.ireturn, 1) := dk_172 (dk_at dksX0_holds_0 23 rfl rfl)
abbrev cX0_aimed : ByteArray := method_31_code
def yX0_aimed : MethodName := ⟨RX0, "aimed", "(LValleyMass;I[J)I"⟩
def dkwX0_aimed_0 : List UInt8 := [44, 3, 42, 27, 182, 0, 105, 133, 80, 167, 0, 6, 78, 4, 172, 3, 172]
abbrev dktX0_aimed_0 : List UInt8 := dkwX0_aimed_0 ++ []
theorem dksX0_aimed_0 : cX0_aimed.data.toList.drop 0 = dktX0_aimed_0 := by decide +kernel
theorem dX0_aimed_0 : decode cX0_aimed 0 = .ok (.aload_n 2, 1) := dk_44 (dk_at dksX0_aimed_0 0 rfl rfl)
theorem dX0_aimed_1 : decode cX0_aimed 1 = .ok (.iconst 0, 1) := dk_3 (dk_at dksX0_aimed_0 1 rfl rfl)
theorem dX0_aimed_2 : decode cX0_aimed 2 = .ok (.aload_n 0, 1) := dk_42 (dk_at dksX0_aimed_0 2 rfl rfl)
theorem dX0_aimed_3 : decode cX0_aimed 3 = .ok (.iload_n 1, 1) := dk_27 (dk_at dksX0_aimed_0 3 rfl rfl)
theorem dX0_aimed_4 : decode cX0_aimed 4 = .ok (.invokevirtual 105, 3) := dk_182 0 105 (dk_at dksX0_aimed_0 4 rfl rfl)
theorem dX0_aimed_7 : decode cX0_aimed 7 = .ok (.i2l, 1) := dk_133 (dk_at dksX0_aimed_0 7 rfl rfl)
theorem dX0_aimed_8 : decode cX0_aimed 8 = .ok (.lastore, 1) := dk_80 (dk_at dksX0_aimed_0 8 rfl rfl)
theorem dX0_aimed_9 : decode cX0_aimed 9 = .ok (.goto 6, 3) := dk_167 0 6 (dk_at dksX0_aimed_0 9 rfl rfl)
theorem dX0_aimed_12 : decode cX0_aimed 12 = .ok (.astore_n 3, 1) := dk_78 (dk_at dksX0_aimed_0 12 rfl rfl)
theorem dX0_aimed_13 : decode cX0_aimed 13 = .ok (.iconst 1, 1) := dk_4 (dk_at dksX0_aimed_0 13 rfl rfl)
theorem dX0_aimed_14 : decode cX0_aimed 14 = .ok (.ireturn, 1) := dk_172 (dk_at dksX0_aimed_0 14 rfl rfl)
theorem dX0_aimed_15 : decode cX0_aimed 15 = .ok (.iconst 0, 1) := dk_3 (dk_at dksX0_aimed_0 15 rfl rfl)
theorem dX0_aimed_16 : decode cX0_aimed 16 = .ok (.ireturn, 1) := dk_172 (dk_at dksX0_aimed_0 16 rfl rfl)
abbrev cX0_held : ByteArray := method_32_code
def yX0_held : MethodName := ⟨RX0, "held", "(LValleyMass;II[J)I"⟩
def dkwX0_held_0 : List UInt8 := [45, 3, 42, 27, 28, 182, 0, 108, 133, 80, 167, 0, 11, 58, 4, 4, 172, 58, 4, 5, 172, 3, 172]
abbrev dktX0_held_0 : List UInt8 := dkwX0_held_0 ++ []
theorem dksX0_held_0 : cX0_held.data.toList.drop 0 = dktX0_held_0 := by decide +kernel
theorem dX0_held_0 : decode cX0_held 0 = .ok (.aload_n 3, 1) := dk_45 (dk_at dksX0_held_0 0 rfl rfl)
theorem dX0_held_1 : decode cX0_held 1 = .ok (.iconst 0, 1) := dk_3 (dk_at dksX0_held_0 1 rfl rfl)
theorem dX0_held_2 : decode cX0_held 2 = .ok (.aload_n 0, 1) := dk_42 (dk_at dksX0_held_0 2 rfl rfl)
theorem dX0_held_3 : decode cX0_held 3 = .ok (.iload_n 1, 1) := dk_27 (dk_at dksX0_held_0 3 rfl rfl)
theorem dX0_held_4 : decode cX0_held 4 = .ok (.iload_n 2, 1) := dk_28 (dk_at dksX0_held_0 4 rfl rfl)
theorem dX0_held_5 : decode cX0_held 5 = .ok (.invokevirtual 108, 3) := dk_182 0 108 (dk_at dksX0_held_0 5 rfl rfl)
theorem dX0_held_8 : decode cX0_held 8 = .ok (.i2l, 1) := dk_133 (dk_at dksX0_held_0 8 rfl rfl)
theorem dX0_held_9 : decode cX0_held 9 = .ok (.lastore, 1) := dk_80 (dk_at dksX0_held_0 9 rfl rfl)
theorem dX0_held_10 : decode cX0_held 10 = .ok (.goto 11, 3) := dk_167 0 11 (dk_at dksX0_held_0 10 rfl rfl)
theorem dX0_held_13 : decode cX0_held 13 = .ok (.astore 4, 2) := dk_58 4 (dk_at dksX0_held_0 13 rfl rfl)
theorem dX0_held_15 : decode cX0_held 15 = .ok (.iconst 1, 1) := dk_4 (dk_at dksX0_held_0 15 rfl rfl)
theorem dX0_held_16 : decode cX0_held 16 = .ok (.ireturn, 1) := dk_172 (dk_at dksX0_held_0 16 rfl rfl)
theorem dX0_held_17 : decode cX0_held 17 = .ok (.astore 4, 2) := dk_58 4 (dk_at dksX0_held_0 17 rfl rfl)
theorem dX0_held_19 : decode cX0_held 19 = .ok (.iconst 2, 1) := dk_5 (dk_at dksX0_held_0 19 rfl rfl)
theorem dX0_held_20 : decode cX0_held 20 = .ok (.ireturn, 1) := dk_172 (dk_at dksX0_held_0 20 rfl rfl)
theorem dX0_held_21 : decode cX0_held 21 = .ok (.iconst 0, 1) := dk_3 (dk_at dksX0_held_0 21 rfl rfl)
theorem dX0_held_22 : decode cX0_held 22 = .ok (.ireturn, 1) := dk_172 (dk_at dksX0_held_0 22 rfl rfl)
abbrev cX0_lost : ByteArray := method_33_code
def yX0_lost : MethodName := ⟨RX0, "lost", "(LValleyMass;I[J)I"⟩
def dkwX0_lost_0 : List UInt8 := [44, 3, 42, 27, 182, 0, 111, 133, 80, 167, 0, 6, 78, 4, 172, 3, 172]
abbrev dktX0_lost_0 : List UInt8 := dkwX0_lost_0 ++ []
theorem dksX0_lost_0 : cX0_lost.data.toList.drop 0 = dktX0_lost_0 := by decide +kernel
theorem dX0_lost_0 : decode cX0_lost 0 = .ok (.aload_n 2, 1) := dk_44 (dk_at dksX0_lost_0 0 rfl rfl)
theorem dX0_lost_1 : decode cX0_lost 1 = .ok (.iconst 0, 1) := dk_3 (dk_at dksX0_lost_0 1 rfl rfl)
theorem dX0_lost_2 : decode cX0_lost 2 = .ok (.aload_n 0, 1) := dk_42 (dk_at dksX0_lost_0 2 rfl rfl)
theorem dX0_lost_3 : decode cX0_lost 3 = .ok (.iload_n 1, 1) := dk_27 (dk_at dksX0_lost_0 3 rfl rfl)
theorem dX0_lost_4 : decode cX0_lost 4 = .ok (.invokevirtual 111, 3) := dk_182 0 111 (dk_at dksX0_lost_0 4 rfl rfl)
theorem dX0_lost_7 : decode cX0_lost 7 = .ok (.i2l, 1) := dk_133 (dk_at dksX0_lost_0 7 rfl rfl)
theorem dX0_lost_8 : decode cX0_lost 8 = .ok (.lastore, 1) := dk_80 (dk_at dksX0_lost_0 8 rfl rfl)
theorem dX0_lost_9 : decode cX0_lost 9 = .ok (.goto 6, 3) := dk_167 0 6 (dk_at dksX0_lost_0 9 rfl rfl)
theorem dX0_lost_12 : decode cX0_lost 12 = .ok (.astore_n 3, 1) := dk_78 (dk_at dksX0_lost_0 12 rfl rfl)
theorem dX0_lost_13 : decode cX0_lost 13 = .ok (.iconst 1, 1) := dk_4 (dk_at dksX0_lost_0 13 rfl rfl)
theorem dX0_lost_14 : decode cX0_lost 14 = .ok (.ireturn, 1) := dk_172 (dk_at dksX0_lost_0 14 rfl rfl)
theorem dX0_lost_15 : decode cX0_lost 15 = .ok (.iconst 0, 1) := dk_3 (dk_at dksX0_lost_0 15 rfl rfl)
theorem dX0_lost_16 : decode cX0_lost 16 = .ok (.ireturn, 1) := dk_172 (dk_at dksX0_lost_0 16 rfl rfl)
abbrev cX0_gone : ByteArray := method_34_code
def yX0_gone : MethodName := ⟨RX0, "gone", "(LValleyMass;I[J)I"⟩
def dkwX0_gone_0 : List UInt8 := [44, 3, 42, 27, 182, 0, 114, 133, 80, 167, 0, 6, 78, 4, 172, 3, 172]
abbrev dktX0_gone_0 : List UInt8 := dkwX0_gone_0 ++ []
theorem dksX0_gone_0 : cX0_gone.data.toList.drop 0 = dktX0_gone_0 := by decide +kernel
theorem dX0_gone_0 : decode cX0_gone 0 = .ok (.aload_n 2, 1) := dk_44 (dk_at dksX0_gone_0 0 rfl rfl)
theorem dX0_gone_1 : decode cX0_gone 1 = .ok (.iconst 0, 1) := dk_3 (dk_at dksX0_gone_0 1 rfl rfl)
theorem dX0_gone_2 : decode cX0_gone 2 = .ok (.aload_n 0, 1) := dk_42 (dk_at dksX0_gone_0 2 rfl rfl)
theorem dX0_gone_3 : decode cX0_gone 3 = .ok (.iload_n 1, 1) := dk_27 (dk_at dksX0_gone_0 3 rfl rfl)
theorem dX0_gone_4 : decode cX0_gone 4 = .ok (.invokevirtual 114, 3) := dk_182 0 114 (dk_at dksX0_gone_0 4 rfl rfl)
theorem dX0_gone_7 : decode cX0_gone 7 = .ok (.i2l, 1) := dk_133 (dk_at dksX0_gone_0 7 rfl rfl)
theorem dX0_gone_8 : decode cX0_gone 8 = .ok (.lastore, 1) := dk_80 (dk_at dksX0_gone_0 8 rfl rfl)
theorem dX0_gone_9 : decode cX0_gone 9 = .ok (.goto 6, 3) := dk_167 0 6 (dk_at dksX0_gone_0 9 rfl rfl)
theorem dX0_gone_12 : decode cX0_gone 12 = .ok (.astore_n 3, 1) := dk_78 (dk_at dksX0_gone_0 12 rfl rfl)
theorem dX0_gone_13 : decode cX0_gone 13 = .ok (.iconst 1, 1) := dk_4 (dk_at dksX0_gone_0 13 rfl rfl)
theorem dX0_gone_14 : decode cX0_gone 14 = .ok (.ireturn, 1) := dk_172 (dk_at dksX0_gone_0 14 rfl rfl)
theorem dX0_gone_15 : decode cX0_gone 15 = .ok (.iconst 0, 1) := dk_3 (dk_at dksX0_gone_0 15 rfl rfl)
theorem dX0_gone_16 : decode cX0_gone 16 = .ok (.ireturn, 1) := dk_172 (dk_at dksX0_gone_0 16 rfl rfl)
abbrev cX0_rows : ByteArray := method_35_code
def yX0_rows : MethodName := ⟨RX0, "rows", "(LValleyMass;I[J)I"⟩
def dkwX0_rows_0 : List UInt8 := [44, 3, 42, 27, 182, 0, 117, 133, 80, 167, 0, 6, 78, 4, 172, 3, 172]
abbrev dktX0_rows_0 : List UInt8 := dkwX0_rows_0 ++ []
theorem dksX0_rows_0 : cX0_rows.data.toList.drop 0 = dktX0_rows_0 := by decide +kernel
theorem dX0_rows_0 : decode cX0_rows 0 = .ok (.aload_n 2, 1) := dk_44 (dk_at dksX0_rows_0 0 rfl rfl)
theorem dX0_rows_1 : decode cX0_rows 1 = .ok (.iconst 0, 1) := dk_3 (dk_at dksX0_rows_0 1 rfl rfl)
theorem dX0_rows_2 : decode cX0_rows 2 = .ok (.aload_n 0, 1) := dk_42 (dk_at dksX0_rows_0 2 rfl rfl)
theorem dX0_rows_3 : decode cX0_rows 3 = .ok (.iload_n 1, 1) := dk_27 (dk_at dksX0_rows_0 3 rfl rfl)
theorem dX0_rows_4 : decode cX0_rows 4 = .ok (.invokevirtual 117, 3) := dk_182 0 117 (dk_at dksX0_rows_0 4 rfl rfl)
theorem dX0_rows_7 : decode cX0_rows 7 = .ok (.i2l, 1) := dk_133 (dk_at dksX0_rows_0 7 rfl rfl)
theorem dX0_rows_8 : decode cX0_rows 8 = .ok (.lastore, 1) := dk_80 (dk_at dksX0_rows_0 8 rfl rfl)
theorem dX0_rows_9 : decode cX0_rows 9 = .ok (.goto 6, 3) := dk_167 0 6 (dk_at dksX0_rows_0 9 rfl rfl)
theorem dX0_rows_12 : decode cX0_rows 12 = .ok (.astore_n 3, 1) := dk_78 (dk_at dksX0_rows_0 12 rfl rfl)
theorem dX0_rows_13 : decode cX0_rows 13 = .ok (.iconst 1, 1) := dk_4 (dk_at dksX0_rows_0 13 rfl rfl)
theorem dX0_rows_14 : decode cX0_rows 14 = .ok (.ireturn, 1) := dk_172 (dk_at dksX0_rows_0 14 rfl rfl)
theorem dX0_rows_15 : decode cX0_rows 15 = .ok (.iconst 0, 1) := dk_3 (dk_at dksX0_rows_0 15 rfl rfl)
theorem dX0_rows_16 : decode cX0_rows 16 = .ok (.ireturn, 1) := dk_172 (dk_at dksX0_rows_0 16 rfl rfl)
theorem q99 : (Jvm.Cond.initialized "ValleyMassLaw") ∈ lw_all := lw_g (lw_at lw_m1 0 rfl) rfl
theorem q135 : (Jvm.Cond.classLink "ValleyMassLaw" (8 : Nat) "ValleyMass") ∈ lw_all := lw_g (lw_at lw_m1 36 rfl) rfl
theorem q137 : (Jvm.Cond.methodLink "ValleyMassLaw" (120 : Nat) ({ cls := "ValleyMass", name := "<init>", desc := "()V" } : Jvm.MethodName)) ∈ lw_all := lw_g (lw_at lw_m1 38 rfl) rfl
theorem q274 : (Jvm.Cond.methodLink "ValleyMassLaw" (124 : Nat) ({ cls := "ValleyMass", name := "feed", desc := "(IIIII)I" } : Jvm.MethodName)) ∈ lw_all := lw_g (lw_at lw_m1 175 rfl) rfl
theorem q278 : (Jvm.Cond.methodLink "ValleyMassLaw" (139 : Nat) ({ cls := "ValleyMass", name := "fault", desc := "()I" } : Jvm.MethodName)) ∈ lw_all := lw_g (lw_at lw_m1 179 rfl) rfl
theorem q282 : (Jvm.Cond.methodLink "ValleyMassLaw" (157 : Nat) ({ cls := "ValleyMass", name := "days", desc := "(I)I" } : Jvm.MethodName)) ∈ lw_all := lw_g (lw_at lw_m1 183 rfl) rfl
theorem q571 : (Jvm.Cond.methodLink "ValleyMassLaw" (173 : Nat) ({ cls := "ValleyMass", name := "undo", desc := "()I" } : Jvm.MethodName)) ∈ lw_all := lw_g (lw_at lw_m2 232 rfl) rfl
theorem q584 : (Jvm.Cond.methodLink "ValleyMassLaw" (183 : Nat) ({ cls := "ValleyMass", name := "keys", desc := "()I" } : Jvm.MethodName)) ∈ lw_all := lw_g (lw_at lw_m3 5 rfl) rfl
theorem q592 : (Jvm.Cond.methodLink "ValleyMassLaw" (190 : Nat) ({ cls := "ValleyMass", name := "peace", desc := "()I" } : Jvm.MethodName)) ∈ lw_all := lw_g (lw_at lw_m3 13 rfl) rfl
theorem q596 : (Jvm.Cond.methodLink "ValleyMassLaw" (194 : Nat) ({ cls := "ValleyMass", name := "silent", desc := "()I" } : Jvm.MethodName)) ∈ lw_all := lw_g (lw_at lw_m3 17 rfl) rfl
theorem q601 : (Jvm.Cond.methodLink "ValleyMassLaw" (198 : Nat) ({ cls := "ValleyMass", name := "duet", desc := "()I" } : Jvm.MethodName)) ∈ lw_all := lw_g (lw_at lw_m3 22 rfl) rfl
theorem q618 : (Jvm.Cond.methodLink "ValleyMassLaw" (234 : Nat) ({ cls := "ValleyMass", name := "evening", desc := "()I" } : Jvm.MethodName)) ∈ lw_all := lw_g (lw_at lw_m3 39 rfl) rfl
theorem q622 : (Jvm.Cond.methodLink "ValleyMassLaw" (218 : Nat) ({ cls := "ValleyMass", name := "forget", desc := "()V" } : Jvm.MethodName)) ∈ lw_all := lw_g (lw_at lw_m3 43 rfl) rfl
theorem q626 : (Jvm.Cond.methodLink "ValleyMassLaw" (253 : Nat) ({ cls := "ValleyMass", name := "bargain", desc := "()I" } : Jvm.MethodName)) ∈ lw_all := lw_g (lw_at lw_m3 47 rfl) rfl
theorem q631 : (Jvm.Cond.methodLink "ValleyMassLaw" (278 : Nat) ({ cls := "ValleyMass", name := "image", desc := "()V" } : Jvm.MethodName)) ∈ lw_all := lw_g (lw_at lw_m3 52 rfl) rfl
theorem q659 : (Jvm.Cond.methodLink "ValleyMassLaw" (282 : Nat) ({ cls := "ValleyMass", name := "restore", desc := "()Z" } : Jvm.MethodName)) ∈ lw_all := lw_g (lw_at lw_m3 80 rfl) rfl
theorem q663 : (Jvm.Cond.methodLink "ValleyMassLaw" (129 : Nat) ({ cls := "ValleyMassLaw", name := "valley", desc := "(LValleyMass;I[J)I" } : Jvm.MethodName)) ∈ lw_all := lw_g (lw_at lw_m3 84 rfl) rfl
theorem q664 : (Jvm.Cond.static ({ cls := "ValleyMassLaw", name := "valley", desc := "(LValleyMass;I[J)I" } : Jvm.MethodName)) ∈ lw_all := lw_g (lw_at lw_m3 85 rfl) rfl
theorem q665 : (Jvm.Cond.codeWith ({ cls := "ValleyMassLaw", name := "valley", desc := "(LValleyMass;I[J)I" } : Jvm.MethodName) method_3_code (4 : Nat) (Option.some Jvm.ClassFile.FieldType.int) [((0 : Nat), (9 : Nat), (12 : Nat), (13 : Nat))]) ∈ lw_all := lw_g (lw_at lw_m3 86 rfl) rfl
theorem q666 : (Jvm.Cond.classLink "ValleyMassLaw" (13 : Nat) "java/lang/IllegalArgumentException") ∈ lw_all := lw_g (lw_at lw_m3 87 rfl) rfl
theorem q667 : (Jvm.Cond.methodLink "ValleyMassLaw" (7 : Nat) ({ cls := "ValleyMass", name := "valley", desc := "(I)I" } : Jvm.MethodName)) ∈ lw_all := lw_g (lw_at lw_m3 88 rfl) rfl
theorem q1247 : (Jvm.Cond.methodLink "ValleyMassLaw" (143 : Nat) ({ cls := "ValleyMassLaw", name := "count", desc := "(LValleyMass;I[J)I" } : Jvm.MethodName)) ∈ lw_all := lw_g (lw_at lw_m5 188 rfl) rfl
theorem q1248 : (Jvm.Cond.static ({ cls := "ValleyMassLaw", name := "count", desc := "(LValleyMass;I[J)I" } : Jvm.MethodName)) ∈ lw_all := lw_g (lw_at lw_m5 189 rfl) rfl
theorem q1249 : (Jvm.Cond.codeWith ({ cls := "ValleyMassLaw", name := "count", desc := "(LValleyMass;I[J)I" } : Jvm.MethodName) method_4_code (4 : Nat) (Option.some Jvm.ClassFile.FieldType.int) [((0 : Nat), (9 : Nat), (12 : Nat), (18 : Nat))]) ∈ lw_all := lw_g (lw_at lw_m5 190 rfl) rfl
theorem q1250 : (Jvm.Cond.classLink "ValleyMassLaw" (18 : Nat) "java/util/NoSuchElementException") ∈ lw_all := lw_g (lw_at lw_m5 191 rfl) rfl
theorem q1251 : (Jvm.Cond.methodLink "ValleyMassLaw" (15 : Nat) ({ cls := "ValleyMass", name := "count", desc := "(I)I" } : Jvm.MethodName)) ∈ lw_all := lw_g (lw_at lw_m5 192 rfl) rfl
theorem q1274 : (Jvm.Cond.methodLink "ValleyMassLaw" (146 : Nat) ({ cls := "ValleyMassLaw", name := "singer", desc := "(LValleyMass;II[J)I" } : Jvm.MethodName)) ∈ lw_all := lw_g (lw_at lw_m5 215 rfl) rfl
theorem q1275 : (Jvm.Cond.static ({ cls := "ValleyMassLaw", name := "singer", desc := "(LValleyMass;II[J)I" } : Jvm.MethodName)) ∈ lw_all := lw_g (lw_at lw_m5 216 rfl) rfl
theorem q1276 : (Jvm.Cond.codeWith ({ cls := "ValleyMassLaw", name := "singer", desc := "(LValleyMass;II[J)I" } : Jvm.MethodName) method_5_code (5 : Nat) (Option.some Jvm.ClassFile.FieldType.int) [((0 : Nat), (10 : Nat), (13 : Nat), (18 : Nat))]) ∈ lw_all := lw_g (lw_at lw_m5 217 rfl) rfl
theorem q1277 : (Jvm.Cond.methodLink "ValleyMassLaw" (20 : Nat) ({ cls := "ValleyMass", name := "singer", desc := "(II)I" } : Jvm.MethodName)) ∈ lw_all := lw_g (lw_at lw_m5 218 rfl) rfl
theorem q1285 : (Jvm.Cond.methodLink "ValleyMassLaw" (150 : Nat) ({ cls := "ValleyMassLaw", name := "row", desc := "(LValleyMass;III[J)I" } : Jvm.MethodName)) ∈ lw_all := lw_g (lw_at lw_m5 226 rfl) rfl
theorem q1286 : (Jvm.Cond.static ({ cls := "ValleyMassLaw", name := "row", desc := "(LValleyMass;III[J)I" } : Jvm.MethodName)) ∈ lw_all := lw_g (lw_at lw_m5 227 rfl) rfl
theorem q1287 : (Jvm.Cond.codeWith ({ cls := "ValleyMassLaw", name := "row", desc := "(LValleyMass;III[J)I" } : Jvm.MethodName) method_6_code (6 : Nat) (Option.some Jvm.ClassFile.FieldType.int) [((0 : Nat), (12 : Nat), (15 : Nat), (18 : Nat))]) ∈ lw_all := lw_g (lw_at lw_m5 228 rfl) rfl
theorem q1288 : (Jvm.Cond.methodLink "ValleyMassLaw" (24 : Nat) ({ cls := "ValleyMass", name := "row", desc := "(III)I" } : Jvm.MethodName)) ∈ lw_all := lw_g (lw_at lw_m5 229 rfl) rfl
theorem q1301 : (Jvm.Cond.methodLink "ValleyMassLaw" (154 : Nat) ({ cls := "ValleyMassLaw", name := "able", desc := "(LValleyMass;II[J)I" } : Jvm.MethodName)) ∈ lw_all := lw_g (lw_at lw_m6 2 rfl) rfl
theorem q1302 : (Jvm.Cond.static ({ cls := "ValleyMassLaw", name := "able", desc := "(LValleyMass;II[J)I" } : Jvm.MethodName)) ∈ lw_all := lw_g (lw_at lw_m6 3 rfl) rfl
theorem q1303 : (Jvm.Cond.codeWith ({ cls := "ValleyMassLaw", name := "able", desc := "(LValleyMass;II[J)I" } : Jvm.MethodName) method_7_code (5 : Nat) (Option.some Jvm.ClassFile.FieldType.int) [((0 : Nat), (10 : Nat), (13 : Nat), (18 : Nat))]) ∈ lw_all := lw_g (lw_at lw_m6 4 rfl) rfl
theorem q1304 : (Jvm.Cond.methodLink "ValleyMassLaw" (28 : Nat) ({ cls := "ValleyMass", name := "able", desc := "(II)I" } : Jvm.MethodName)) ∈ lw_all := lw_g (lw_at lw_m6 5 rfl) rfl
theorem q1308 : (Jvm.Cond.methodLink "ValleyMassLaw" (161 : Nat) ({ cls := "ValleyMassLaw", name := "fall", desc := "(LValleyMass;I[J)I" } : Jvm.MethodName)) ∈ lw_all := lw_g (lw_at lw_m6 9 rfl) rfl
theorem q1309 : (Jvm.Cond.static ({ cls := "ValleyMassLaw", name := "fall", desc := "(LValleyMass;I[J)I" } : Jvm.MethodName)) ∈ lw_all := lw_g (lw_at lw_m6 10 rfl) rfl
theorem q1310 : (Jvm.Cond.codeWith ({ cls := "ValleyMassLaw", name := "fall", desc := "(LValleyMass;I[J)I" } : Jvm.MethodName) method_8_code (4 : Nat) (Option.some Jvm.ClassFile.FieldType.int) [((0 : Nat), (16 : Nat), (19 : Nat), (18 : Nat))]) ∈ lw_all := lw_g (lw_at lw_m6 11 rfl) rfl
theorem q1311 : (Jvm.Cond.methodLink "ValleyMassLaw" (31 : Nat) ({ cls := "ValleyMass", name := "fall", desc := "(I)Z" } : Jvm.MethodName)) ∈ lw_all := lw_g (lw_at lw_m6 12 rfl) rfl
theorem q1319 : (Jvm.Cond.methodLink "ValleyMassLaw" (164 : Nat) ({ cls := "ValleyMassLaw", name := "catches", desc := "(LValleyMass;I[J)I" } : Jvm.MethodName)) ∈ lw_all := lw_g (lw_at lw_m6 20 rfl) rfl
theorem q1320 : (Jvm.Cond.static ({ cls := "ValleyMassLaw", name := "catches", desc := "(LValleyMass;I[J)I" } : Jvm.MethodName)) ∈ lw_all := lw_g (lw_at lw_m6 21 rfl) rfl
theorem q1321 : (Jvm.Cond.codeWith ({ cls := "ValleyMassLaw", name := "catches", desc := "(LValleyMass;I[J)I" } : Jvm.MethodName) method_9_code (4 : Nat) (Option.some Jvm.ClassFile.FieldType.int) [((0 : Nat), (16 : Nat), (19 : Nat), (18 : Nat))]) ∈ lw_all := lw_g (lw_at lw_m6 22 rfl) rfl
theorem q1322 : (Jvm.Cond.methodLink "ValleyMassLaw" (35 : Nat) ({ cls := "ValleyMass", name := "catches", desc := "(I)Z" } : Jvm.MethodName)) ∈ lw_all := lw_g (lw_at lw_m6 23 rfl) rfl
theorem q1326 : (Jvm.Cond.methodLink "ValleyMassLaw" (167 : Nat) ({ cls := "ValleyMassLaw", name := "release", desc := "(LValleyMass;I[J)I" } : Jvm.MethodName)) ∈ lw_all := lw_g (lw_at lw_m6 27 rfl) rfl
theorem q1327 : (Jvm.Cond.static ({ cls := "ValleyMassLaw", name := "release", desc := "(LValleyMass;I[J)I" } : Jvm.MethodName)) ∈ lw_all := lw_g (lw_at lw_m6 28 rfl) rfl
theorem q1328 : (Jvm.Cond.codeWith ({ cls := "ValleyMassLaw", name := "release", desc := "(LValleyMass;I[J)I" } : Jvm.MethodName) method_10_code (4 : Nat) (Option.some Jvm.ClassFile.FieldType.int) [((0 : Nat), (16 : Nat), (19 : Nat), (18 : Nat))]) ∈ lw_all := lw_g (lw_at lw_m6 29 rfl) rfl
theorem q1329 : (Jvm.Cond.methodLink "ValleyMassLaw" (38 : Nat) ({ cls := "ValleyMass", name := "release", desc := "(I)Z" } : Jvm.MethodName)) ∈ lw_all := lw_g (lw_at lw_m6 30 rfl) rfl
theorem q1333 : (Jvm.Cond.methodLink "ValleyMassLaw" (170 : Nat) ({ cls := "ValleyMassLaw", name := "exchange", desc := "(LValleyMass;II[J)I" } : Jvm.MethodName)) ∈ lw_all := lw_g (lw_at lw_m6 34 rfl) rfl
theorem q1334 : (Jvm.Cond.static ({ cls := "ValleyMassLaw", name := "exchange", desc := "(LValleyMass;II[J)I" } : Jvm.MethodName)) ∈ lw_all := lw_g (lw_at lw_m6 35 rfl) rfl
theorem q1335 : (Jvm.Cond.codeWith ({ cls := "ValleyMassLaw", name := "exchange", desc := "(LValleyMass;II[J)I" } : Jvm.MethodName) method_11_code (5 : Nat) (Option.some Jvm.ClassFile.FieldType.int) [((0 : Nat), (17 : Nat), (20 : Nat), (18 : Nat))]) ∈ lw_all := lw_g (lw_at lw_m6 36 rfl) rfl
theorem q1336 : (Jvm.Cond.methodLink "ValleyMassLaw" (41 : Nat) ({ cls := "ValleyMass", name := "exchange", desc := "(II)Z" } : Jvm.MethodName)) ∈ lw_all := lw_g (lw_at lw_m6 37 rfl) rfl
theorem q1340 : (Jvm.Cond.methodLink "ValleyMassLaw" (177 : Nat) ({ cls := "ValleyMassLaw", name := "moved", desc := "(LValleyMass;I[J)I" } : Jvm.MethodName)) ∈ lw_all := lw_g (lw_at lw_m6 41 rfl) rfl
theorem q1341 : (Jvm.Cond.static ({ cls := "ValleyMassLaw", name := "moved", desc := "(LValleyMass;I[J)I" } : Jvm.MethodName)) ∈ lw_all := lw_g (lw_at lw_m6 42 rfl) rfl
theorem q1342 : (Jvm.Cond.codeWith ({ cls := "ValleyMassLaw", name := "moved", desc := "(LValleyMass;I[J)I" } : Jvm.MethodName) method_12_code (4 : Nat) (Option.some Jvm.ClassFile.FieldType.int) [((0 : Nat), (9 : Nat), (12 : Nat), (18 : Nat))]) ∈ lw_all := lw_g (lw_at lw_m6 43 rfl) rfl
theorem q1343 : (Jvm.Cond.methodLink "ValleyMassLaw" (45 : Nat) ({ cls := "ValleyMass", name := "moved", desc := "(I)I" } : Jvm.MethodName)) ∈ lw_all := lw_g (lw_at lw_m6 44 rfl) rfl
theorem q1361 : (Jvm.Cond.methodLink "ValleyMassLaw" (180 : Nat) ({ cls := "ValleyMassLaw", name := "spare", desc := "(LValleyMass;I[J)I" } : Jvm.MethodName)) ∈ lw_all := lw_g (lw_at lw_m6 62 rfl) rfl
theorem q1362 : (Jvm.Cond.static ({ cls := "ValleyMassLaw", name := "spare", desc := "(LValleyMass;I[J)I" } : Jvm.MethodName)) ∈ lw_all := lw_g (lw_at lw_m6 63 rfl) rfl
theorem q1363 : (Jvm.Cond.codeWith ({ cls := "ValleyMassLaw", name := "spare", desc := "(LValleyMass;I[J)I" } : Jvm.MethodName) method_13_code (4 : Nat) (Option.some Jvm.ClassFile.FieldType.int) [((0 : Nat), (9 : Nat), (12 : Nat), (18 : Nat))]) ∈ lw_all := lw_g (lw_at lw_m6 64 rfl) rfl
theorem q1364 : (Jvm.Cond.methodLink "ValleyMassLaw" (48 : Nat) ({ cls := "ValleyMass", name := "spare", desc := "(I)I" } : Jvm.MethodName)) ∈ lw_all := lw_g (lw_at lw_m6 65 rfl) rfl
theorem q1368 : (Jvm.Cond.methodLink "ValleyMassLaw" (187 : Nat) ({ cls := "ValleyMassLaw", name := "ransom", desc := "(LValleyMass;I[J)I" } : Jvm.MethodName)) ∈ lw_all := lw_g (lw_at lw_m6 69 rfl) rfl
theorem q1369 : (Jvm.Cond.static ({ cls := "ValleyMassLaw", name := "ransom", desc := "(LValleyMass;I[J)I" } : Jvm.MethodName)) ∈ lw_all := lw_g (lw_at lw_m6 70 rfl) rfl
theorem q1370 : (Jvm.Cond.codeWith ({ cls := "ValleyMassLaw", name := "ransom", desc := "(LValleyMass;I[J)I" } : Jvm.MethodName) method_14_code (4 : Nat) (Option.some Jvm.ClassFile.FieldType.int) [((0 : Nat), (9 : Nat), (12 : Nat), (18 : Nat))]) ∈ lw_all := lw_g (lw_at lw_m6 71 rfl) rfl
theorem q1371 : (Jvm.Cond.methodLink "ValleyMassLaw" (51 : Nat) ({ cls := "ValleyMass", name := "ransom", desc := "(I)I" } : Jvm.MethodName)) ∈ lw_all := lw_g (lw_at lw_m6 72 rfl) rfl
theorem q1380 : (Jvm.Cond.methodLink "ValleyMassLaw" (202 : Nat) ({ cls := "ValleyMassLaw", name := "luck", desc := "(LValleyMass;III[J)I" } : Jvm.MethodName)) ∈ lw_all := lw_g (lw_at lw_m6 81 rfl) rfl
theorem q1381 : (Jvm.Cond.static ({ cls := "ValleyMassLaw", name := "luck", desc := "(LValleyMass;III[J)I" } : Jvm.MethodName)) ∈ lw_all := lw_g (lw_at lw_m6 82 rfl) rfl
theorem q1382 : (Jvm.Cond.codeWith ({ cls := "ValleyMassLaw", name := "luck", desc := "(LValleyMass;III[J)I" } : Jvm.MethodName) method_15_code (6 : Nat) (Option.some Jvm.ClassFile.FieldType.int) [((0 : Nat), (12 : Nat), (15 : Nat), (18 : Nat)), ((0 : Nat), (12 : Nat), (19 : Nat), (13 : Nat))]) ∈ lw_all := lw_g (lw_at lw_m6 83 rfl) rfl
theorem q1383 : (Jvm.Cond.methodLink "ValleyMassLaw" (54 : Nat) ({ cls := "ValleyMass", name := "luck", desc := "(III)I" } : Jvm.MethodName)) ∈ lw_all := lw_g (lw_at lw_m6 84 rfl) rfl
theorem q1390 : (Jvm.Cond.methodLink "ValleyMassLaw" (205 : Nat) ({ cls := "ValleyMassLaw", name := "codes", desc := "(LValleyMass;II[J)I" } : Jvm.MethodName)) ∈ lw_all := lw_g (lw_at lw_m6 91 rfl) rfl
theorem q1391 : (Jvm.Cond.static ({ cls := "ValleyMassLaw", name := "codes", desc := "(LValleyMass;II[J)I" } : Jvm.MethodName)) ∈ lw_all := lw_g (lw_at lw_m6 92 rfl) rfl
theorem q1392 : (Jvm.Cond.codeWith ({ cls := "ValleyMassLaw", name := "codes", desc := "(LValleyMass;II[J)I" } : Jvm.MethodName) method_16_code (5 : Nat) (Option.some Jvm.ClassFile.FieldType.int) [((0 : Nat), (9 : Nat), (12 : Nat), (18 : Nat)), ((0 : Nat), (9 : Nat), (16 : Nat), (13 : Nat))]) ∈ lw_all := lw_g (lw_at lw_m6 93 rfl) rfl
theorem q1393 : (Jvm.Cond.methodLink "ValleyMassLaw" (57 : Nat) ({ cls := "ValleyMass", name := "codes", desc := "(II)J" } : Jvm.MethodName)) ∈ lw_all := lw_g (lw_at lw_m6 94 rfl) rfl
theorem q1402 : (Jvm.Cond.methodLink "ValleyMassLaw" (208 : Nat) ({ cls := "ValleyMassLaw", name := "slips", desc := "(LValleyMass;II[J)I" } : Jvm.MethodName)) ∈ lw_all := lw_g (lw_at lw_m6 103 rfl) rfl
theorem q1403 : (Jvm.Cond.static ({ cls := "ValleyMassLaw", name := "slips", desc := "(LValleyMass;II[J)I" } : Jvm.MethodName)) ∈ lw_all := lw_g (lw_at lw_m6 104 rfl) rfl
theorem q1404 : (Jvm.Cond.codeWith ({ cls := "ValleyMassLaw", name := "slips", desc := "(LValleyMass;II[J)I" } : Jvm.MethodName) method_17_code (5 : Nat) (Option.some Jvm.ClassFile.FieldType.int) [((0 : Nat), (10 : Nat), (13 : Nat), (18 : Nat)), ((0 : Nat), (10 : Nat), (17 : Nat), (13 : Nat))]) ∈ lw_all := lw_g (lw_at lw_m6 105 rfl) rfl
theorem q1405 : (Jvm.Cond.methodLink "ValleyMassLaw" (61 : Nat) ({ cls := "ValleyMass", name := "slips", desc := "(II)I" } : Jvm.MethodName)) ∈ lw_all := lw_g (lw_at lw_m6 106 rfl) rfl
theorem q1410 : (Jvm.Cond.methodLink "ValleyMassLaw" (211 : Nat) ({ cls := "ValleyMassLaw", name := "hear", desc := "(LValleyMass;IIII[J)I" } : Jvm.MethodName)) ∈ lw_all := lw_g (lw_at lw_m6 111 rfl) rfl
theorem q1411 : (Jvm.Cond.static ({ cls := "ValleyMassLaw", name := "hear", desc := "(LValleyMass;IIII[J)I" } : Jvm.MethodName)) ∈ lw_all := lw_g (lw_at lw_m6 112 rfl) rfl
theorem q1412 : (Jvm.Cond.codeWith ({ cls := "ValleyMassLaw", name := "hear", desc := "(LValleyMass;IIII[J)I" } : Jvm.MethodName) method_18_code (7 : Nat) (Option.some Jvm.ClassFile.FieldType.int) [((0 : Nat), (14 : Nat), (17 : Nat), (18 : Nat))]) ∈ lw_all := lw_g (lw_at lw_m6 113 rfl) rfl
theorem q1413 : (Jvm.Cond.methodLink "ValleyMassLaw" (64 : Nat) ({ cls := "ValleyMass", name := "hear", desc := "(IIII)I" } : Jvm.MethodName)) ∈ lw_all := lw_g (lw_at lw_m6 114 rfl) rfl
theorem q1417 : (Jvm.Cond.methodLink "ValleyMassLaw" (215 : Nat) ({ cls := "ValleyMassLaw", name := "flat", desc := "(LValleyMass;I[J)I" } : Jvm.MethodName)) ∈ lw_all := lw_g (lw_at lw_m6 118 rfl) rfl
theorem q1418 : (Jvm.Cond.static ({ cls := "ValleyMassLaw", name := "flat", desc := "(LValleyMass;I[J)I" } : Jvm.MethodName)) ∈ lw_all := lw_g (lw_at lw_m6 119 rfl) rfl
theorem q1419 : (Jvm.Cond.codeWith ({ cls := "ValleyMassLaw", name := "flat", desc := "(LValleyMass;I[J)I" } : Jvm.MethodName) method_19_code (4 : Nat) (Option.some Jvm.ClassFile.FieldType.int) [((0 : Nat), (9 : Nat), (12 : Nat), (18 : Nat))]) ∈ lw_all := lw_g (lw_at lw_m6 120 rfl) rfl
theorem q1420 : (Jvm.Cond.methodLink "ValleyMassLaw" (68 : Nat) ({ cls := "ValleyMass", name := "flat", desc := "(I)I" } : Jvm.MethodName)) ∈ lw_all := lw_g (lw_at lw_m6 121 rfl) rfl
theorem q1429 : (Jvm.Cond.methodLink "ValleyMassLaw" (222 : Nat) ({ cls := "ValleyMassLaw", name := "game", desc := "(LValleyMass;II[J)I" } : Jvm.MethodName)) ∈ lw_all := lw_g (lw_at lw_m6 130 rfl) rfl
theorem q1430 : (Jvm.Cond.static ({ cls := "ValleyMassLaw", name := "game", desc := "(LValleyMass;II[J)I" } : Jvm.MethodName)) ∈ lw_all := lw_g (lw_at lw_m6 131 rfl) rfl
theorem q1431 : (Jvm.Cond.codeWith ({ cls := "ValleyMassLaw", name := "game", desc := "(LValleyMass;II[J)I" } : Jvm.MethodName) method_20_code (5 : Nat) (Option.some Jvm.ClassFile.FieldType.int) [((0 : Nat), (10 : Nat), (13 : Nat), (18 : Nat)), ((0 : Nat), (10 : Nat), (17 : Nat), (13 : Nat))]) ∈ lw_all := lw_g (lw_at lw_m6 132 rfl) rfl
theorem q1432 : (Jvm.Cond.methodLink "ValleyMassLaw" (71 : Nat) ({ cls := "ValleyMass", name := "game", desc := "(II)I" } : Jvm.MethodName)) ∈ lw_all := lw_g (lw_at lw_m6 133 rfl) rfl
theorem q1445 : (Jvm.Cond.methodLink "ValleyMassLaw" (225 : Nat) ({ cls := "ValleyMassLaw", name := "wars", desc := "(LValleyMass;III[J)I" } : Jvm.MethodName)) ∈ lw_all := lw_g (lw_at lw_m6 146 rfl) rfl
theorem q1446 : (Jvm.Cond.static ({ cls := "ValleyMassLaw", name := "wars", desc := "(LValleyMass;III[J)I" } : Jvm.MethodName)) ∈ lw_all := lw_g (lw_at lw_m6 147 rfl) rfl
theorem q1447 : (Jvm.Cond.codeWith ({ cls := "ValleyMassLaw", name := "wars", desc := "(LValleyMass;III[J)I" } : Jvm.MethodName) method_21_code (6 : Nat) (Option.some Jvm.ClassFile.FieldType.int) [((0 : Nat), (12 : Nat), (15 : Nat), (18 : Nat)), ((0 : Nat), (12 : Nat), (19 : Nat), (13 : Nat))]) ∈ lw_all := lw_g (lw_at lw_m6 148 rfl) rfl
theorem q1448 : (Jvm.Cond.methodLink "ValleyMassLaw" (74 : Nat) ({ cls := "ValleyMass", name := "wars", desc := "(III)I" } : Jvm.MethodName)) ∈ lw_all := lw_g (lw_at lw_m6 149 rfl) rfl
theorem q1457 : (Jvm.Cond.methodLink "ValleyMassLaw" (228 : Nat) ({ cls := "ValleyMassLaw", name := "cast", desc := "(LValleyMass;II[J)I" } : Jvm.MethodName)) ∈ lw_all := lw_g (lw_at lw_m6 158 rfl) rfl
theorem q1458 : (Jvm.Cond.static ({ cls := "ValleyMassLaw", name := "cast", desc := "(LValleyMass;II[J)I" } : Jvm.MethodName)) ∈ lw_all := lw_g (lw_at lw_m6 159 rfl) rfl
theorem q1459 : (Jvm.Cond.codeWith ({ cls := "ValleyMassLaw", name := "cast", desc := "(LValleyMass;II[J)I" } : Jvm.MethodName) method_22_code (5 : Nat) (Option.some Jvm.ClassFile.FieldType.int) [((0 : Nat), (10 : Nat), (13 : Nat), (18 : Nat))]) ∈ lw_all := lw_g (lw_at lw_m6 160 rfl) rfl
theorem q1460 : (Jvm.Cond.methodLink "ValleyMassLaw" (77 : Nat) ({ cls := "ValleyMass", name := "cast", desc := "(II)I" } : Jvm.MethodName)) ∈ lw_all := lw_g (lw_at lw_m6 161 rfl) rfl
theorem q1468 : (Jvm.Cond.methodLink "ValleyMassLaw" (231 : Nat) ({ cls := "ValleyMassLaw", name := "transposed", desc := "(LValleyMass;I[J)I" } : Jvm.MethodName)) ∈ lw_all := lw_g (lw_at lw_m6 169 rfl) rfl
theorem q1469 : (Jvm.Cond.static ({ cls := "ValleyMassLaw", name := "transposed", desc := "(LValleyMass;I[J)I" } : Jvm.MethodName)) ∈ lw_all := lw_g (lw_at lw_m6 170 rfl) rfl
theorem q1470 : (Jvm.Cond.codeWith ({ cls := "ValleyMassLaw", name := "transposed", desc := "(LValleyMass;I[J)I" } : Jvm.MethodName) method_23_code (4 : Nat) (Option.some Jvm.ClassFile.FieldType.int) [((0 : Nat), (9 : Nat), (12 : Nat), (18 : Nat))]) ∈ lw_all := lw_g (lw_at lw_m6 171 rfl) rfl
theorem q1471 : (Jvm.Cond.methodLink "ValleyMassLaw" (80 : Nat) ({ cls := "ValleyMass", name := "transposed", desc := "(I)I" } : Jvm.MethodName)) ∈ lw_all := lw_g (lw_at lw_m6 172 rfl) rfl
theorem q1480 : (Jvm.Cond.methodLink "ValleyMassLaw" (238 : Nat) ({ cls := "ValleyMassLaw", name := "standIns", desc := "(LValleyMass;I[J)I" } : Jvm.MethodName)) ∈ lw_all := lw_g (lw_at lw_m6 181 rfl) rfl
theorem q1481 : (Jvm.Cond.static ({ cls := "ValleyMassLaw", name := "standIns", desc := "(LValleyMass;I[J)I" } : Jvm.MethodName)) ∈ lw_all := lw_g (lw_at lw_m6 182 rfl) rfl
theorem q1482 : (Jvm.Cond.codeWith ({ cls := "ValleyMassLaw", name := "standIns", desc := "(LValleyMass;I[J)I" } : Jvm.MethodName) method_24_code (4 : Nat) (Option.some Jvm.ClassFile.FieldType.int) [((0 : Nat), (9 : Nat), (12 : Nat), (18 : Nat))]) ∈ lw_all := lw_g (lw_at lw_m6 183 rfl) rfl
theorem q1483 : (Jvm.Cond.methodLink "ValleyMassLaw" (83 : Nat) ({ cls := "ValleyMass", name := "standIns", desc := "(I)I" } : Jvm.MethodName)) ∈ lw_all := lw_g (lw_at lw_m6 184 rfl) rfl
theorem q1487 : (Jvm.Cond.methodLink "ValleyMassLaw" (241 : Nat) ({ cls := "ValleyMassLaw", name := "falls", desc := "(LValleyMass;I[J)I" } : Jvm.MethodName)) ∈ lw_all := lw_g (lw_at lw_m6 188 rfl) rfl
theorem q1488 : (Jvm.Cond.static ({ cls := "ValleyMassLaw", name := "falls", desc := "(LValleyMass;I[J)I" } : Jvm.MethodName)) ∈ lw_all := lw_g (lw_at lw_m6 189 rfl) rfl
theorem q1489 : (Jvm.Cond.codeWith ({ cls := "ValleyMassLaw", name := "falls", desc := "(LValleyMass;I[J)I" } : Jvm.MethodName) method_25_code (4 : Nat) (Option.some Jvm.ClassFile.FieldType.int) [((0 : Nat), (9 : Nat), (12 : Nat), (13 : Nat))]) ∈ lw_all := lw_g (lw_at lw_m6 190 rfl) rfl
theorem q1490 : (Jvm.Cond.methodLink "ValleyMassLaw" (86 : Nat) ({ cls := "ValleyMass", name := "falls", desc := "(I)I" } : Jvm.MethodName)) ∈ lw_all := lw_g (lw_at lw_m6 191 rfl) rfl
theorem q1494 : (Jvm.Cond.methodLink "ValleyMassLaw" (244 : Nat) ({ cls := "ValleyMassLaw", name := "voices", desc := "(LValleyMass;II[J)I" } : Jvm.MethodName)) ∈ lw_all := lw_g (lw_at lw_m6 195 rfl) rfl
theorem q1495 : (Jvm.Cond.static ({ cls := "ValleyMassLaw", name := "voices", desc := "(LValleyMass;II[J)I" } : Jvm.MethodName)) ∈ lw_all := lw_g (lw_at lw_m6 196 rfl) rfl
theorem q1496 : (Jvm.Cond.codeWith ({ cls := "ValleyMassLaw", name := "voices", desc := "(LValleyMass;II[J)I" } : Jvm.MethodName) method_26_code (5 : Nat) (Option.some Jvm.ClassFile.FieldType.int) [((0 : Nat), (10 : Nat), (13 : Nat), (18 : Nat))]) ∈ lw_all := lw_g (lw_at lw_m6 197 rfl) rfl
theorem q1497 : (Jvm.Cond.methodLink "ValleyMassLaw" (89 : Nat) ({ cls := "ValleyMass", name := "voices", desc := "(II)I" } : Jvm.MethodName)) ∈ lw_all := lw_g (lw_at lw_m6 198 rfl) rfl
theorem q1502 : (Jvm.Cond.methodLink "ValleyMassLaw" (247 : Nat) ({ cls := "ValleyMassLaw", name := "lacking", desc := "(LValleyMass;II[J)I" } : Jvm.MethodName)) ∈ lw_all := lw_g (lw_at lw_m6 203 rfl) rfl
theorem q1503 : (Jvm.Cond.static ({ cls := "ValleyMassLaw", name := "lacking", desc := "(LValleyMass;II[J)I" } : Jvm.MethodName)) ∈ lw_all := lw_g (lw_at lw_m6 204 rfl) rfl
theorem q1504 : (Jvm.Cond.codeWith ({ cls := "ValleyMassLaw", name := "lacking", desc := "(LValleyMass;II[J)I" } : Jvm.MethodName) method_27_code (5 : Nat) (Option.some Jvm.ClassFile.FieldType.int) [((0 : Nat), (10 : Nat), (13 : Nat), (18 : Nat))]) ∈ lw_all := lw_g (lw_at lw_m6 205 rfl) rfl
theorem q1505 : (Jvm.Cond.methodLink "ValleyMassLaw" (92 : Nat) ({ cls := "ValleyMass", name := "lacking", desc := "(II)I" } : Jvm.MethodName)) ∈ lw_all := lw_g (lw_at lw_m6 206 rfl) rfl
theorem q1514 : (Jvm.Cond.methodLink "ValleyMassLaw" (250 : Nat) ({ cls := "ValleyMassLaw", name := "widen", desc := "(LValleyMass;II[J)I" } : Jvm.MethodName)) ∈ lw_all := lw_g (lw_at lw_m6 215 rfl) rfl
theorem q1515 : (Jvm.Cond.static ({ cls := "ValleyMassLaw", name := "widen", desc := "(LValleyMass;II[J)I" } : Jvm.MethodName)) ∈ lw_all := lw_g (lw_at lw_m6 216 rfl) rfl
theorem q1516 : (Jvm.Cond.codeWith ({ cls := "ValleyMassLaw", name := "widen", desc := "(LValleyMass;II[J)I" } : Jvm.MethodName) method_28_code (5 : Nat) (Option.some Jvm.ClassFile.FieldType.int) [((0 : Nat), (10 : Nat), (13 : Nat), (18 : Nat))]) ∈ lw_all := lw_g (lw_at lw_m6 217 rfl) rfl
theorem q1517 : (Jvm.Cond.methodLink "ValleyMassLaw" (95 : Nat) ({ cls := "ValleyMass", name := "widen", desc := "(II)I" } : Jvm.MethodName)) ∈ lw_all := lw_g (lw_at lw_m6 218 rfl) rfl
theorem q1525 : (Jvm.Cond.methodLink "ValleyMassLaw" (257 : Nat) ({ cls := "ValleyMassLaw", name := "casts", desc := "(LValleyMass;I[J)I" } : Jvm.MethodName)) ∈ lw_all := lw_g (lw_at lw_m6 226 rfl) rfl
theorem q1526 : (Jvm.Cond.static ({ cls := "ValleyMassLaw", name := "casts", desc := "(LValleyMass;I[J)I" } : Jvm.MethodName)) ∈ lw_all := lw_g (lw_at lw_m6 227 rfl) rfl
theorem q1527 : (Jvm.Cond.codeWith ({ cls := "ValleyMassLaw", name := "casts", desc := "(LValleyMass;I[J)I" } : Jvm.MethodName) method_29_code (4 : Nat) (Option.some Jvm.ClassFile.FieldType.int) [((0 : Nat), (8 : Nat), (11 : Nat), (18 : Nat))]) ∈ lw_all := lw_g (lw_at lw_m6 228 rfl) rfl
theorem q1528 : (Jvm.Cond.methodLink "ValleyMassLaw" (98 : Nat) ({ cls := "ValleyMass", name := "casts", desc := "(I)J" } : Jvm.MethodName)) ∈ lw_all := lw_g (lw_at lw_m6 229 rfl) rfl
theorem q1532 : (Jvm.Cond.methodLink "ValleyMassLaw" (260 : Nat) ({ cls := "ValleyMassLaw", name := "holds", desc := "(LValleyMass;I[J)I" } : Jvm.MethodName)) ∈ lw_all := lw_g (lw_at lw_m6 233 rfl) rfl
theorem q1533 : (Jvm.Cond.static ({ cls := "ValleyMassLaw", name := "holds", desc := "(LValleyMass;I[J)I" } : Jvm.MethodName)) ∈ lw_all := lw_g (lw_at lw_m6 234 rfl) rfl
theorem q1534 : (Jvm.Cond.codeWith ({ cls := "ValleyMassLaw", name := "holds", desc := "(LValleyMass;I[J)I" } : Jvm.MethodName) method_30_code (4 : Nat) (Option.some Jvm.ClassFile.FieldType.int) [((0 : Nat), (16 : Nat), (19 : Nat), (18 : Nat))]) ∈ lw_all := lw_g (lw_at lw_m6 235 rfl) rfl
theorem q1535 : (Jvm.Cond.methodLink "ValleyMassLaw" (102 : Nat) ({ cls := "ValleyMass", name := "holds", desc := "(I)Z" } : Jvm.MethodName)) ∈ lw_all := lw_g (lw_at lw_m6 236 rfl) rfl
theorem q1540 : (Jvm.Cond.methodLink "ValleyMassLaw" (263 : Nat) ({ cls := "ValleyMassLaw", name := "aimed", desc := "(LValleyMass;I[J)I" } : Jvm.MethodName)) ∈ lw_all := lw_g (lw_at lw_m7 1 rfl) rfl
theorem q1541 : (Jvm.Cond.static ({ cls := "ValleyMassLaw", name := "aimed", desc := "(LValleyMass;I[J)I" } : Jvm.MethodName)) ∈ lw_all := lw_g (lw_at lw_m7 2 rfl) rfl
theorem q1542 : (Jvm.Cond.codeWith ({ cls := "ValleyMassLaw", name := "aimed", desc := "(LValleyMass;I[J)I" } : Jvm.MethodName) method_31_code (4 : Nat) (Option.some Jvm.ClassFile.FieldType.int) [((0 : Nat), (9 : Nat), (12 : Nat), (18 : Nat))]) ∈ lw_all := lw_g (lw_at lw_m7 3 rfl) rfl
theorem q1543 : (Jvm.Cond.methodLink "ValleyMassLaw" (105 : Nat) ({ cls := "ValleyMass", name := "aimed", desc := "(I)I" } : Jvm.MethodName)) ∈ lw_all := lw_g (lw_at lw_m7 4 rfl) rfl
theorem q1547 : (Jvm.Cond.methodLink "ValleyMassLaw" (266 : Nat) ({ cls := "ValleyMassLaw", name := "held", desc := "(LValleyMass;II[J)I" } : Jvm.MethodName)) ∈ lw_all := lw_g (lw_at lw_m7 8 rfl) rfl
theorem q1548 : (Jvm.Cond.static ({ cls := "ValleyMassLaw", name := "held", desc := "(LValleyMass;II[J)I" } : Jvm.MethodName)) ∈ lw_all := lw_g (lw_at lw_m7 9 rfl) rfl
theorem q1549 : (Jvm.Cond.codeWith ({ cls := "ValleyMassLaw", name := "held", desc := "(LValleyMass;II[J)I" } : Jvm.MethodName) method_32_code (5 : Nat) (Option.some Jvm.ClassFile.FieldType.int) [((0 : Nat), (10 : Nat), (13 : Nat), (18 : Nat)), ((0 : Nat), (10 : Nat), (17 : Nat), (13 : Nat))]) ∈ lw_all := lw_g (lw_at lw_m7 10 rfl) rfl
theorem q1550 : (Jvm.Cond.methodLink "ValleyMassLaw" (108 : Nat) ({ cls := "ValleyMass", name := "held", desc := "(II)I" } : Jvm.MethodName)) ∈ lw_all := lw_g (lw_at lw_m7 11 rfl) rfl
theorem q1554 : (Jvm.Cond.methodLink "ValleyMassLaw" (269 : Nat) ({ cls := "ValleyMassLaw", name := "lost", desc := "(LValleyMass;I[J)I" } : Jvm.MethodName)) ∈ lw_all := lw_g (lw_at lw_m7 15 rfl) rfl
theorem q1555 : (Jvm.Cond.static ({ cls := "ValleyMassLaw", name := "lost", desc := "(LValleyMass;I[J)I" } : Jvm.MethodName)) ∈ lw_all := lw_g (lw_at lw_m7 16 rfl) rfl
theorem q1556 : (Jvm.Cond.codeWith ({ cls := "ValleyMassLaw", name := "lost", desc := "(LValleyMass;I[J)I" } : Jvm.MethodName) method_33_code (4 : Nat) (Option.some Jvm.ClassFile.FieldType.int) [((0 : Nat), (9 : Nat), (12 : Nat), (18 : Nat))]) ∈ lw_all := lw_g (lw_at lw_m7 17 rfl) rfl
theorem q1557 : (Jvm.Cond.methodLink "ValleyMassLaw" (111 : Nat) ({ cls := "ValleyMass", name := "lost", desc := "(I)I" } : Jvm.MethodName)) ∈ lw_all := lw_g (lw_at lw_m7 18 rfl) rfl
theorem q1561 : (Jvm.Cond.methodLink "ValleyMassLaw" (272 : Nat) ({ cls := "ValleyMassLaw", name := "gone", desc := "(LValleyMass;I[J)I" } : Jvm.MethodName)) ∈ lw_all := lw_g (lw_at lw_m7 22 rfl) rfl
theorem q1562 : (Jvm.Cond.static ({ cls := "ValleyMassLaw", name := "gone", desc := "(LValleyMass;I[J)I" } : Jvm.MethodName)) ∈ lw_all := lw_g (lw_at lw_m7 23 rfl) rfl
theorem q1563 : (Jvm.Cond.codeWith ({ cls := "ValleyMassLaw", name := "gone", desc := "(LValleyMass;I[J)I" } : Jvm.MethodName) method_34_code (4 : Nat) (Option.some Jvm.ClassFile.FieldType.int) [((0 : Nat), (9 : Nat), (12 : Nat), (18 : Nat))]) ∈ lw_all := lw_g (lw_at lw_m7 24 rfl) rfl
theorem q1564 : (Jvm.Cond.methodLink "ValleyMassLaw" (114 : Nat) ({ cls := "ValleyMass", name := "gone", desc := "(I)I" } : Jvm.MethodName)) ∈ lw_all := lw_g (lw_at lw_m7 25 rfl) rfl
theorem q1568 : (Jvm.Cond.methodLink "ValleyMassLaw" (275 : Nat) ({ cls := "ValleyMassLaw", name := "rows", desc := "(LValleyMass;I[J)I" } : Jvm.MethodName)) ∈ lw_all := lw_g (lw_at lw_m7 29 rfl) rfl
theorem q1569 : (Jvm.Cond.static ({ cls := "ValleyMassLaw", name := "rows", desc := "(LValleyMass;I[J)I" } : Jvm.MethodName)) ∈ lw_all := lw_g (lw_at lw_m7 30 rfl) rfl
theorem q1570 : (Jvm.Cond.codeWith ({ cls := "ValleyMassLaw", name := "rows", desc := "(LValleyMass;I[J)I" } : Jvm.MethodName) method_35_code (4 : Nat) (Option.some Jvm.ClassFile.FieldType.int) [((0 : Nat), (9 : Nat), (12 : Nat), (18 : Nat))]) ∈ lw_all := lw_g (lw_at lw_m7 31 rfl) rfl
theorem q1571 : (Jvm.Cond.methodLink "ValleyMassLaw" (117 : Nat) ({ cls := "ValleyMass", name := "rows", desc := "(I)I" } : Jvm.MethodName)) ∈ lw_all := lw_g (lw_at lw_m7 32 rfl) rfl
theorem q1575 : (Jvm.Cond.classLink "ValleyMassLaw" (121 : Nat) "ValleyMassModel") ∈ lw_all := lw_g (lw_at lw_m7 36 rfl) rfl
theorem q1577 : (Jvm.Cond.methodLink "ValleyMassLaw" (123 : Nat) ({ cls := "ValleyMassModel", name := "<init>", desc := "()V" } : Jvm.MethodName)) ∈ lw_all := lw_g (lw_at lw_m7 38 rfl) rfl
theorem q1772 : (Jvm.Cond.methodLink "ValleyMassLaw" (135 : Nat) ({ cls := "ValleyMassModel", name := "thrown", desc := "()I" } : Jvm.MethodName)) ∈ lw_all := lw_g (lw_at lw_m7 233 rfl) rfl
theorem q1776 : (Jvm.Cond.methodLink "ValleyMassLaw" (128 : Nat) ({ cls := "ValleyMassModel", name := "feed", desc := "(IIIII)I" } : Jvm.MethodName)) ∈ lw_all := lw_g (lw_at lw_m7 237 rfl) rfl
theorem q1784 : (Jvm.Cond.methodLink "ValleyMassLaw" (134 : Nat) ({ cls := "ValleyMassModel", name := "valley", desc := "(I)I" } : Jvm.MethodName)) ∈ lw_all := lw_g (lw_at lw_m8 5 rfl) rfl
theorem q1899 : (Jvm.Cond.methodLink "ValleyMassLaw" (142 : Nat) ({ cls := "ValleyMassModel", name := "fault", desc := "()I" } : Jvm.MethodName)) ∈ lw_all := lw_g (lw_at lw_m8 120 rfl) rfl
theorem q1903 : (Jvm.Cond.methodLink "ValleyMassLaw" (176 : Nat) ({ cls := "ValleyMassModel", name := "undo", desc := "()I" } : Jvm.MethodName)) ∈ lw_all := lw_g (lw_at lw_m8 124 rfl) rfl
theorem q1907 : (Jvm.Cond.methodLink "ValleyMassLaw" (145 : Nat) ({ cls := "ValleyMassModel", name := "count", desc := "(I)I" } : Jvm.MethodName)) ∈ lw_all := lw_g (lw_at lw_m8 128 rfl) rfl
theorem q1941 : (Jvm.Cond.methodLink "ValleyMassLaw" (149 : Nat) ({ cls := "ValleyMassModel", name := "singer", desc := "(II)I" } : Jvm.MethodName)) ∈ lw_all := lw_g (lw_at lw_m8 162 rfl) rfl
theorem q1953 : (Jvm.Cond.methodLink "ValleyMassLaw" (153 : Nat) ({ cls := "ValleyMassModel", name := "row", desc := "(III)I" } : Jvm.MethodName)) ∈ lw_all := lw_g (lw_at lw_m8 174 rfl) rfl
theorem q1965 : (Jvm.Cond.methodLink "ValleyMassLaw" (156 : Nat) ({ cls := "ValleyMassModel", name := "able", desc := "(II)I" } : Jvm.MethodName)) ∈ lw_all := lw_g (lw_at lw_m8 186 rfl) rfl
theorem q1969 : (Jvm.Cond.methodLink "ValleyMassLaw" (160 : Nat) ({ cls := "ValleyMassModel", name := "days", desc := "(I)I" } : Jvm.MethodName)) ∈ lw_all := lw_g (lw_at lw_m8 190 rfl) rfl
theorem q2008 : (Jvm.Cond.methodLink "ValleyMassLaw" (163 : Nat) ({ cls := "ValleyMassModel", name := "fall", desc := "(I)Z" } : Jvm.MethodName)) ∈ lw_all := lw_g (lw_at lw_m8 229 rfl) rfl
theorem q2016 : (Jvm.Cond.methodLink "ValleyMassLaw" (166 : Nat) ({ cls := "ValleyMassModel", name := "catches", desc := "(I)Z" } : Jvm.MethodName)) ∈ lw_all := lw_g (lw_at lw_m8 237 rfl) rfl
theorem q2020 : (Jvm.Cond.methodLink "ValleyMassLaw" (169 : Nat) ({ cls := "ValleyMassModel", name := "release", desc := "(I)Z" } : Jvm.MethodName)) ∈ lw_all := lw_g (lw_at lw_m9 1 rfl) rfl
theorem q2024 : (Jvm.Cond.methodLink "ValleyMassLaw" (172 : Nat) ({ cls := "ValleyMassModel", name := "exchange", desc := "(II)Z" } : Jvm.MethodName)) ∈ lw_all := lw_g (lw_at lw_m9 5 rfl) rfl
theorem q2028 : (Jvm.Cond.methodLink "ValleyMassLaw" (179 : Nat) ({ cls := "ValleyMassModel", name := "moved", desc := "(I)I" } : Jvm.MethodName)) ∈ lw_all := lw_g (lw_at lw_m9 9 rfl) rfl
theorem q2040 : (Jvm.Cond.methodLink "ValleyMassLaw" (182 : Nat) ({ cls := "ValleyMassModel", name := "spare", desc := "(I)I" } : Jvm.MethodName)) ∈ lw_all := lw_g (lw_at lw_m9 21 rfl) rfl
theorem q2044 : (Jvm.Cond.methodLink "ValleyMassLaw" (186 : Nat) ({ cls := "ValleyMassModel", name := "keys", desc := "()I" } : Jvm.MethodName)) ∈ lw_all := lw_g (lw_at lw_m9 25 rfl) rfl
theorem q2048 : (Jvm.Cond.methodLink "ValleyMassLaw" (189 : Nat) ({ cls := "ValleyMassModel", name := "ransom", desc := "(I)I" } : Jvm.MethodName)) ∈ lw_all := lw_g (lw_at lw_m9 29 rfl) rfl
theorem q2052 : (Jvm.Cond.methodLink "ValleyMassLaw" (193 : Nat) ({ cls := "ValleyMassModel", name := "peace", desc := "()I" } : Jvm.MethodName)) ∈ lw_all := lw_g (lw_at lw_m9 33 rfl) rfl
theorem q2056 : (Jvm.Cond.methodLink "ValleyMassLaw" (197 : Nat) ({ cls := "ValleyMassModel", name := "silent", desc := "()I" } : Jvm.MethodName)) ∈ lw_all := lw_g (lw_at lw_m9 37 rfl) rfl
theorem q2060 : (Jvm.Cond.methodLink "ValleyMassLaw" (243 : Nat) ({ cls := "ValleyMassModel", name := "falls", desc := "(I)I" } : Jvm.MethodName)) ∈ lw_all := lw_g (lw_at lw_m9 41 rfl) rfl
theorem q2064 : (Jvm.Cond.methodLink "ValleyMassLaw" (201 : Nat) ({ cls := "ValleyMassModel", name := "duet", desc := "()I" } : Jvm.MethodName)) ∈ lw_all := lw_g (lw_at lw_m9 45 rfl) rfl
theorem q2072 : (Jvm.Cond.methodLink "ValleyMassLaw" (237 : Nat) ({ cls := "ValleyMassModel", name := "evening", desc := "()I" } : Jvm.MethodName)) ∈ lw_all := lw_g (lw_at lw_m9 53 rfl) rfl
theorem q2076 : (Jvm.Cond.methodLink "ValleyMassLaw" (230 : Nat) ({ cls := "ValleyMassModel", name := "cast", desc := "(II)I" } : Jvm.MethodName)) ∈ lw_all := lw_g (lw_at lw_m9 57 rfl) rfl
theorem q2080 : (Jvm.Cond.methodLink "ValleyMassLaw" (233 : Nat) ({ cls := "ValleyMassModel", name := "transposed", desc := "(I)I" } : Jvm.MethodName)) ∈ lw_all := lw_g (lw_at lw_m9 61 rfl) rfl
theorem q2088 : (Jvm.Cond.methodLink "ValleyMassLaw" (240 : Nat) ({ cls := "ValleyMassModel", name := "standIns", desc := "(I)I" } : Jvm.MethodName)) ∈ lw_all := lw_g (lw_at lw_m9 69 rfl) rfl
theorem q2092 : (Jvm.Cond.methodLink "ValleyMassLaw" (246 : Nat) ({ cls := "ValleyMassModel", name := "voices", desc := "(II)I" } : Jvm.MethodName)) ∈ lw_all := lw_g (lw_at lw_m9 73 rfl) rfl
theorem q2096 : (Jvm.Cond.methodLink "ValleyMassLaw" (249 : Nat) ({ cls := "ValleyMassModel", name := "lacking", desc := "(II)I" } : Jvm.MethodName)) ∈ lw_all := lw_g (lw_at lw_m9 77 rfl) rfl
theorem q2104 : (Jvm.Cond.methodLink "ValleyMassLaw" (252 : Nat) ({ cls := "ValleyMassModel", name := "widen", desc := "(II)I" } : Jvm.MethodName)) ∈ lw_all := lw_g (lw_at lw_m9 85 rfl) rfl
theorem q2112 : (Jvm.Cond.methodLink "ValleyMassLaw" (256 : Nat) ({ cls := "ValleyMassModel", name := "bargain", desc := "()I" } : Jvm.MethodName)) ∈ lw_all := lw_g (lw_at lw_m9 93 rfl) rfl
theorem q2116 : (Jvm.Cond.methodLink "ValleyMassLaw" (259 : Nat) ({ cls := "ValleyMassModel", name := "casts", desc := "(I)J" } : Jvm.MethodName)) ∈ lw_all := lw_g (lw_at lw_m9 97 rfl) rfl
theorem q2120 : (Jvm.Cond.methodLink "ValleyMassLaw" (262 : Nat) ({ cls := "ValleyMassModel", name := "holds", desc := "(I)Z" } : Jvm.MethodName)) ∈ lw_all := lw_g (lw_at lw_m9 101 rfl) rfl
theorem q2124 : (Jvm.Cond.methodLink "ValleyMassLaw" (265 : Nat) ({ cls := "ValleyMassModel", name := "aimed", desc := "(I)I" } : Jvm.MethodName)) ∈ lw_all := lw_g (lw_at lw_m9 105 rfl) rfl
theorem q2128 : (Jvm.Cond.methodLink "ValleyMassLaw" (268 : Nat) ({ cls := "ValleyMassModel", name := "held", desc := "(II)I" } : Jvm.MethodName)) ∈ lw_all := lw_g (lw_at lw_m9 109 rfl) rfl
theorem q2132 : (Jvm.Cond.methodLink "ValleyMassLaw" (271 : Nat) ({ cls := "ValleyMassModel", name := "lost", desc := "(I)I" } : Jvm.MethodName)) ∈ lw_all := lw_g (lw_at lw_m9 113 rfl) rfl
theorem q2136 : (Jvm.Cond.methodLink "ValleyMassLaw" (274 : Nat) ({ cls := "ValleyMassModel", name := "gone", desc := "(I)I" } : Jvm.MethodName)) ∈ lw_all := lw_g (lw_at lw_m9 117 rfl) rfl
theorem q2140 : (Jvm.Cond.methodLink "ValleyMassLaw" (277 : Nat) ({ cls := "ValleyMassModel", name := "rows", desc := "(I)I" } : Jvm.MethodName)) ∈ lw_all := lw_g (lw_at lw_m9 121 rfl) rfl
theorem q2144 : (Jvm.Cond.methodLink "ValleyMassLaw" (204 : Nat) ({ cls := "ValleyMassModel", name := "luck", desc := "(III)I" } : Jvm.MethodName)) ∈ lw_all := lw_g (lw_at lw_m9 125 rfl) rfl
theorem q2151 : (Jvm.Cond.methodLink "ValleyMassLaw" (207 : Nat) ({ cls := "ValleyMassModel", name := "codes", desc := "(II)J" } : Jvm.MethodName)) ∈ lw_all := lw_g (lw_at lw_m9 132 rfl) rfl
theorem q2164 : (Jvm.Cond.methodLink "ValleyMassLaw" (210 : Nat) ({ cls := "ValleyMassModel", name := "slips", desc := "(II)I" } : Jvm.MethodName)) ∈ lw_all := lw_g (lw_at lw_m9 145 rfl) rfl
theorem q2169 : (Jvm.Cond.methodLink "ValleyMassLaw" (214 : Nat) ({ cls := "ValleyMassModel", name := "hear", desc := "(IIII)I" } : Jvm.MethodName)) ∈ lw_all := lw_g (lw_at lw_m9 150 rfl) rfl
theorem q2173 : (Jvm.Cond.methodLink "ValleyMassLaw" (221 : Nat) ({ cls := "ValleyMassModel", name := "forget", desc := "()V" } : Jvm.MethodName)) ∈ lw_all := lw_g (lw_at lw_m9 154 rfl) rfl
theorem q2177 : (Jvm.Cond.methodLink "ValleyMassLaw" (217 : Nat) ({ cls := "ValleyMassModel", name := "flat", desc := "(I)I" } : Jvm.MethodName)) ∈ lw_all := lw_g (lw_at lw_m9 158 rfl) rfl
theorem q2185 : (Jvm.Cond.methodLink "ValleyMassLaw" (224 : Nat) ({ cls := "ValleyMassModel", name := "game", desc := "(II)I" } : Jvm.MethodName)) ∈ lw_all := lw_g (lw_at lw_m9 166 rfl) rfl
theorem q2193 : (Jvm.Cond.methodLink "ValleyMassLaw" (227 : Nat) ({ cls := "ValleyMassModel", name := "wars", desc := "(III)I" } : Jvm.MethodName)) ∈ lw_all := lw_g (lw_at lw_m9 174 rfl) rfl
theorem q2202 : (Jvm.Cond.methodLink "ValleyMassLaw" (281 : Nat) ({ cls := "ValleyMassModel", name := "image", desc := "()V" } : Jvm.MethodName)) ∈ lw_all := lw_g (lw_at lw_m9 183 rfl) rfl
theorem q2206 : (Jvm.Cond.methodLink "ValleyMassLaw" (286 : Nat) ({ cls := "ValleyMassModel", name := "restore", desc := "()Z" } : Jvm.MethodName)) ∈ lw_all := lw_g (lw_at lw_m9 187 rfl) rfl

/-! the law's own entry -/
abbrev cL_law : ByteArray := code
def dkwL_law_104 : List UInt8 := [182, 1, 30, 159, 0, 5, 3, 172, 132, 4, 6, 167, 245, 238, 4, 172]
abbrev dktL_law_104 : List UInt8 := dkwL_law_104 ++ []
def dkwL_law_103 : List UInt8 := [153, 0, 5, 3, 172, 167, 0, 27, 43, 182, 1, 22, 44, 182, 1, 25, 167, 0, 16, 43, 182, 1, 26, 44]
abbrev dktL_law_103 : List UInt8 := dkwL_law_103 ++ dktL_law_104
def dkwL_law_102 : List UInt8 := [182, 0, 135, 21, 5, 159, 0, 5, 3, 172, 21, 5, 154, 0, 15, 45, 3, 47, 21, 6, 133, 148]
abbrev dktL_law_102 : List UInt8 := dkwL_law_102 ++ dktL_law_103
def dkwL_law_101 : List UInt8 := [21, 4, 4, 96, 46, 45, 184, 1, 19, 54, 5, 44, 42, 21, 4, 4, 96, 46, 182, 1, 21, 54, 6, 44]
abbrev dktL_law_101 : List UInt8 := dkwL_law_101 ++ dktL_law_102
def dkwL_law_100 : List UInt8 := [172, 21, 5, 154, 0, 15, 45, 3, 47, 21, 6, 133, 148, 153, 0, 5, 3, 172, 167, 0, 83, 43, 42]
abbrev dktL_law_100 : List UInt8 := dkwL_law_100 ++ dktL_law_101
def dkwL_law_99 : List UInt8 := [54, 5, 44, 42, 21, 4, 4, 96, 46, 182, 1, 18, 54, 6, 44, 182, 0, 135, 21, 5, 159, 0, 5, 3]
abbrev dktL_law_99 : List UInt8 := dkwL_law_99 ++ dktL_law_100
def dkwL_law_98 : List UInt8 := [21, 6, 133, 148, 153, 0, 5, 3, 172, 167, 0, 139, 43, 42, 21, 4, 4, 96, 46, 45, 184, 1, 16]
abbrev dktL_law_98 : List UInt8 := dkwL_law_98 ++ dktL_law_99
def dkwL_law_97 : List UInt8 := [182, 1, 15, 54, 6, 44, 182, 0, 135, 21, 5, 159, 0, 5, 3, 172, 21, 5, 154, 0, 15, 45, 3, 47]
abbrev dktL_law_97 : List UInt8 := dkwL_law_97 ++ dktL_law_98
def dkwL_law_96 : List UInt8 := [167, 0, 195, 43, 42, 21, 4, 4, 96, 46, 45, 184, 1, 13, 54, 5, 44, 42, 21, 4, 4, 96, 46]
abbrev dktL_law_96 : List UInt8 := dkwL_law_96 ++ dktL_law_97
def dkwL_law_95 : List UInt8 := [159, 0, 5, 3, 172, 21, 5, 154, 0, 15, 45, 3, 47, 21, 6, 133, 148, 153, 0, 5, 3, 172]
abbrev dktL_law_95 : List UInt8 := dkwL_law_95 ++ dktL_law_96
def dkwL_law_94 : List UInt8 := [21, 4, 4, 96, 46, 42, 21, 4, 5, 96, 46, 182, 1, 12, 54, 6, 44, 182, 0, 135, 21, 5]
abbrev dktL_law_94 : List UInt8 := dkwL_law_94 ++ dktL_law_95
def dkwL_law_93 : List UInt8 := [167, 1, 7, 43, 42, 21, 4, 4, 96, 46, 42, 21, 4, 5, 96, 46, 45, 184, 1, 10, 54, 5, 44, 42]
abbrev dktL_law_93 : List UInt8 := dkwL_law_93 ++ dktL_law_94
def dkwL_law_92 : List UInt8 := [159, 0, 5, 3, 172, 21, 5, 154, 0, 15, 45, 3, 47, 21, 6, 133, 148, 153, 0, 5, 3, 172]
abbrev dktL_law_92 : List UInt8 := dkwL_law_92 ++ dktL_law_93
def dkwL_law_91 : List UInt8 := [45, 184, 1, 7, 54, 5, 44, 42, 21, 4, 4, 96, 46, 182, 1, 9, 54, 6, 44, 182, 0, 135, 21, 5]
abbrev dktL_law_91 : List UInt8 := dkwL_law_91 ++ dktL_law_92
def dkwL_law_90 : List UInt8 := [153, 0, 7, 10, 167, 0, 4, 9, 148, 153, 0, 5, 3, 172, 167, 1, 63, 43, 42, 21, 4, 4, 96, 46]
abbrev dktL_law_90 : List UInt8 := dkwL_law_90 ++ dktL_law_91
def dkwL_law_89 : List UInt8 := [54, 6, 44, 182, 0, 135, 21, 5, 159, 0, 5, 3, 172, 21, 5, 154, 0, 22, 45, 3, 47, 21, 6]
abbrev dktL_law_89 : List UInt8 := dkwL_law_89 ++ dktL_law_90
def dkwL_law_88 : List UInt8 := [43, 42, 21, 4, 4, 96, 46, 45, 184, 1, 4, 54, 5, 44, 42, 21, 4, 4, 96, 46, 182, 1, 6]
abbrev dktL_law_88 : List UInt8 := dkwL_law_88 ++ dktL_law_89
def dkwL_law_87 : List UInt8 := [159, 0, 5, 3, 172, 21, 5, 154, 0, 14, 45, 3, 47, 22, 6, 148, 153, 0, 5, 3, 172, 167, 1, 126]
abbrev dktL_law_87 : List UInt8 := dkwL_law_87 ++ dktL_law_88
def dkwL_law_86 : List UInt8 := [184, 1, 1, 54, 5, 44, 42, 21, 4, 4, 96, 46, 182, 1, 3, 55, 6, 44, 182, 0, 135, 21, 5]
abbrev dktL_law_86 : List UInt8 := dkwL_law_86 ++ dktL_law_87
def dkwL_law_85 : List UInt8 := [167, 1, 194, 43, 182, 0, 253, 44, 182, 1, 0, 159, 1, 183, 3, 172, 43, 42, 21, 4, 4, 96, 46, 45]
abbrev dktL_law_85 : List UInt8 := dkwL_law_85 ++ dktL_law_86
def dkwL_law_84 : List UInt8 := [159, 0, 5, 3, 172, 21, 5, 154, 0, 15, 45, 3, 47, 21, 6, 133, 148, 153, 0, 5, 3, 172]
abbrev dktL_law_84 : List UInt8 := dkwL_law_84 ++ dktL_law_85
def dkwL_law_83 : List UInt8 := [21, 4, 4, 96, 46, 42, 21, 4, 5, 96, 46, 182, 0, 252, 54, 6, 44, 182, 0, 135, 21, 5]
abbrev dktL_law_83 : List UInt8 := dkwL_law_83 ++ dktL_law_84
def dkwL_law_82 : List UInt8 := [167, 2, 6, 43, 42, 21, 4, 4, 96, 46, 42, 21, 4, 5, 96, 46, 45, 184, 0, 250, 54, 5, 44, 42]
abbrev dktL_law_82 : List UInt8 := dkwL_law_82 ++ dktL_law_83
def dkwL_law_81 : List UInt8 := [159, 0, 5, 3, 172, 21, 5, 154, 0, 15, 45, 3, 47, 21, 6, 133, 148, 153, 0, 5, 3, 172]
abbrev dktL_law_81 : List UInt8 := dkwL_law_81 ++ dktL_law_82
def dkwL_law_80 : List UInt8 := [21, 4, 4, 96, 46, 42, 21, 4, 5, 96, 46, 182, 0, 249, 54, 6, 44, 182, 0, 135, 21, 5]
abbrev dktL_law_80 : List UInt8 := dkwL_law_80 ++ dktL_law_81
def dkwL_law_79 : List UInt8 := [167, 2, 74, 43, 42, 21, 4, 4, 96, 46, 42, 21, 4, 5, 96, 46, 45, 184, 0, 247, 54, 5, 44, 42]
abbrev dktL_law_79 : List UInt8 := dkwL_law_79 ++ dktL_law_80
def dkwL_law_78 : List UInt8 := [159, 0, 5, 3, 172, 21, 5, 154, 0, 15, 45, 3, 47, 21, 6, 133, 148, 153, 0, 5, 3, 172]
abbrev dktL_law_78 : List UInt8 := dkwL_law_78 ++ dktL_law_79
def dkwL_law_77 : List UInt8 := [21, 4, 4, 96, 46, 42, 21, 4, 5, 96, 46, 182, 0, 246, 54, 6, 44, 182, 0, 135, 21, 5]
abbrev dktL_law_77 : List UInt8 := dkwL_law_77 ++ dktL_law_78
def dkwL_law_76 : List UInt8 := [167, 2, 142, 43, 42, 21, 4, 4, 96, 46, 42, 21, 4, 5, 96, 46, 45, 184, 0, 244, 54, 5, 44, 42]
abbrev dktL_law_76 : List UInt8 := dkwL_law_76 ++ dktL_law_77
def dkwL_law_75 : List UInt8 := [21, 5, 159, 0, 5, 3, 172, 21, 5, 154, 0, 15, 45, 3, 47, 21, 6, 133, 148, 153, 0, 5, 3, 172]
abbrev dktL_law_75 : List UInt8 := dkwL_law_75 ++ dktL_law_76
def dkwL_law_74 : List UInt8 := [46, 45, 184, 0, 241, 54, 5, 44, 42, 21, 4, 4, 96, 46, 182, 0, 243, 54, 6, 44, 182, 0, 135]
abbrev dktL_law_74 : List UInt8 := dkwL_law_74 ++ dktL_law_75
def dkwL_law_73 : List UInt8 := [154, 0, 15, 45, 3, 47, 21, 6, 133, 148, 153, 0, 5, 3, 172, 167, 2, 198, 43, 42, 21, 4, 4, 96]
abbrev dktL_law_73 : List UInt8 := dkwL_law_73 ++ dktL_law_74
def dkwL_law_72 : List UInt8 := [21, 4, 4, 96, 46, 182, 0, 240, 54, 6, 44, 182, 0, 135, 21, 5, 159, 0, 5, 3, 172, 21, 5]
abbrev dktL_law_72 : List UInt8 := dkwL_law_72 ++ dktL_law_73
def dkwL_law_71 : List UInt8 := [182, 0, 237, 159, 3, 0, 3, 172, 43, 42, 21, 4, 4, 96, 46, 45, 184, 0, 238, 54, 5, 44, 42]
abbrev dktL_law_71 : List UInt8 := dkwL_law_71 ++ dktL_law_72
def dkwL_law_70 : List UInt8 := [154, 0, 15, 45, 3, 47, 21, 6, 133, 148, 153, 0, 5, 3, 172, 167, 3, 11, 43, 182, 0, 234, 44]
abbrev dktL_law_70 : List UInt8 := dkwL_law_70 ++ dktL_law_71
def dkwL_law_69 : List UInt8 := [21, 4, 4, 96, 46, 182, 0, 233, 54, 6, 44, 182, 0, 135, 21, 5, 159, 0, 5, 3, 172, 21, 5]
abbrev dktL_law_69 : List UInt8 := dkwL_law_69 ++ dktL_law_70
def dkwL_law_68 : List UInt8 := [153, 0, 5, 3, 172, 167, 3, 67, 43, 42, 21, 4, 4, 96, 46, 45, 184, 0, 231, 54, 5, 44, 42]
abbrev dktL_law_68 : List UInt8 := dkwL_law_68 ++ dktL_law_69
def dkwL_law_67 : List UInt8 := [182, 0, 135, 21, 5, 159, 0, 5, 3, 172, 21, 5, 154, 0, 15, 45, 3, 47, 21, 6, 133, 148]
abbrev dktL_law_67 : List UInt8 := dkwL_law_67 ++ dktL_law_68
def dkwL_law_66 : List UInt8 := [184, 0, 228, 54, 5, 44, 42, 21, 4, 4, 96, 46, 42, 21, 4, 5, 96, 46, 182, 0, 230, 54, 6, 44]
abbrev dktL_law_66 : List UInt8 := dkwL_law_66 ++ dktL_law_67
def dkwL_law_65 : List UInt8 := [153, 0, 5, 3, 172, 167, 3, 135, 43, 42, 21, 4, 4, 96, 46, 42, 21, 4, 5, 96, 46, 45]
abbrev dktL_law_65 : List UInt8 := dkwL_law_65 ++ dktL_law_66
def dkwL_law_64 : List UInt8 := [182, 0, 135, 21, 5, 159, 0, 5, 3, 172, 21, 5, 154, 0, 15, 45, 3, 47, 21, 6, 133, 148]
abbrev dktL_law_64 : List UInt8 := dkwL_law_64 ++ dktL_law_65
def dkwL_law_63 : List UInt8 := [21, 4, 4, 96, 46, 42, 21, 4, 5, 96, 46, 42, 21, 4, 6, 96, 46, 182, 0, 227, 54, 6, 44]
abbrev dktL_law_63 : List UInt8 := dkwL_law_63 ++ dktL_law_64
def dkwL_law_62 : List UInt8 := [4, 96, 46, 42, 21, 4, 5, 96, 46, 42, 21, 4, 6, 96, 46, 45, 184, 0, 225, 54, 5, 44, 42]
abbrev dktL_law_62 : List UInt8 := dkwL_law_62 ++ dktL_law_63
def dkwL_law_61 : List UInt8 := [21, 5, 154, 0, 15, 45, 3, 47, 21, 6, 133, 148, 153, 0, 5, 3, 172, 167, 3, 215, 43, 42, 21, 4]
abbrev dktL_law_61 : List UInt8 := dkwL_law_61 ++ dktL_law_62
def dkwL_law_60 : List UInt8 := [46, 42, 21, 4, 5, 96, 46, 182, 0, 224, 54, 6, 44, 182, 0, 135, 21, 5, 159, 0, 5, 3, 172]
abbrev dktL_law_60 : List UInt8 := dkwL_law_60 ++ dktL_law_61
def dkwL_law_59 : List UInt8 := [42, 21, 4, 4, 96, 46, 42, 21, 4, 5, 96, 46, 45, 184, 0, 222, 54, 5, 44, 42, 21, 4, 4, 96]
abbrev dktL_law_59 : List UInt8 := dkwL_law_59 ++ dktL_law_60
def dkwL_law_58 : List UInt8 := [21, 6, 133, 148, 153, 0, 5, 3, 172, 167, 4, 38, 43, 182, 0, 218, 44, 182, 0, 221, 167, 4, 27, 43]
abbrev dktL_law_58 : List UInt8 := dkwL_law_58 ++ dktL_law_59
def dkwL_law_57 : List UInt8 := [182, 0, 217, 54, 6, 44, 182, 0, 135, 21, 5, 159, 0, 5, 3, 172, 21, 5, 154, 0, 15, 45, 3, 47]
abbrev dktL_law_57 : List UInt8 := dkwL_law_57 ++ dktL_law_58
def dkwL_law_56 : List UInt8 := [167, 4, 94, 43, 42, 21, 4, 4, 96, 46, 45, 184, 0, 215, 54, 5, 44, 42, 21, 4, 4, 96, 46]
abbrev dktL_law_56 : List UInt8 := dkwL_law_56 ++ dktL_law_57
def dkwL_law_55 : List UInt8 := [159, 0, 5, 3, 172, 21, 5, 154, 0, 15, 45, 3, 47, 21, 6, 133, 148, 153, 0, 5, 3, 172]
abbrev dktL_law_55 : List UInt8 := dkwL_law_55 ++ dktL_law_56
def dkwL_law_54 : List UInt8 := [42, 21, 4, 6, 96, 46, 42, 21, 4, 7, 96, 46, 182, 0, 214, 54, 6, 44, 182, 0, 135, 21, 5]
abbrev dktL_law_54 : List UInt8 := dkwL_law_54 ++ dktL_law_55
def dkwL_law_53 : List UInt8 := [21, 4, 7, 96, 46, 45, 184, 0, 211, 54, 5, 44, 42, 21, 4, 4, 96, 46, 42, 21, 4, 5, 96, 46]
abbrev dktL_law_53 : List UInt8 := dkwL_law_53 ++ dktL_law_54
def dkwL_law_52 : List UInt8 := [167, 4, 186, 43, 42, 21, 4, 4, 96, 46, 42, 21, 4, 5, 96, 46, 42, 21, 4, 6, 96, 46, 42]
abbrev dktL_law_52 : List UInt8 := dkwL_law_52 ++ dktL_law_53
def dkwL_law_51 : List UInt8 := [159, 0, 5, 3, 172, 21, 5, 154, 0, 15, 45, 3, 47, 21, 6, 133, 148, 153, 0, 5, 3, 172]
abbrev dktL_law_51 : List UInt8 := dkwL_law_51 ++ dktL_law_52
def dkwL_law_50 : List UInt8 := [44, 42, 21, 4, 4, 96, 46, 42, 21, 4, 5, 96, 46, 182, 0, 210, 54, 6, 44, 182, 0, 135, 21, 5]
abbrev dktL_law_50 : List UInt8 := dkwL_law_50 ++ dktL_law_51
def dkwL_law_49 : List UInt8 := [3, 172, 167, 4, 254, 43, 42, 21, 4, 4, 96, 46, 42, 21, 4, 5, 96, 46, 45, 184, 0, 208, 54, 5]
abbrev dktL_law_49 : List UInt8 := dkwL_law_49 ++ dktL_law_50
def dkwL_law_48 : List UInt8 := [182, 0, 135, 21, 5, 159, 0, 5, 3, 172, 21, 5, 154, 0, 14, 45, 3, 47, 22, 6, 148, 153, 0, 5]
abbrev dktL_law_48 : List UInt8 := dkwL_law_48 ++ dktL_law_49
def dkwL_law_47 : List UInt8 := [184, 0, 205, 54, 5, 44, 42, 21, 4, 4, 96, 46, 42, 21, 4, 5, 96, 46, 182, 0, 207, 55, 6, 44]
abbrev dktL_law_47 : List UInt8 := dkwL_law_47 ++ dktL_law_48
def dkwL_law_46 : List UInt8 := [148, 153, 0, 5, 3, 172, 167, 5, 65, 43, 42, 21, 4, 4, 96, 46, 42, 21, 4, 5, 96, 46, 45]
abbrev dktL_law_46 : List UInt8 := dkwL_law_46 ++ dktL_law_47
def dkwL_law_45 : List UInt8 := [54, 6, 44, 182, 0, 135, 21, 5, 159, 0, 5, 3, 172, 21, 5, 154, 0, 15, 45, 3, 47, 21, 6, 133]
abbrev dktL_law_45 : List UInt8 := dkwL_law_45 ++ dktL_law_46
def dkwL_law_44 : List UInt8 := [54, 5, 44, 42, 21, 4, 4, 96, 46, 42, 21, 4, 5, 96, 46, 42, 21, 4, 6, 96, 46, 182, 0, 204]
abbrev dktL_law_44 : List UInt8 := dkwL_law_44 ++ dktL_law_45
def dkwL_law_43 : List UInt8 := [172, 43, 42, 21, 4, 4, 96, 46, 42, 21, 4, 5, 96, 46, 42, 21, 4, 6, 96, 46, 45, 184, 0, 202]
abbrev dktL_law_43 : List UInt8 := dkwL_law_43 ++ dktL_law_44
def dkwL_law_42 : List UInt8 := [182, 0, 194, 44, 182, 0, 197, 159, 5, 160, 3, 172, 43, 182, 0, 198, 44, 182, 0, 201, 159, 5, 147, 3]
abbrev dktL_law_42 : List UInt8 := dkwL_law_42 ++ dktL_law_43
def dkwL_law_41 : List UInt8 := [153, 0, 5, 3, 172, 167, 5, 184, 43, 182, 0, 190, 44, 182, 0, 193, 159, 5, 173, 3, 172, 43]
abbrev dktL_law_41 : List UInt8 := dkwL_law_41 ++ dktL_law_42
def dkwL_law_40 : List UInt8 := [182, 0, 135, 21, 5, 159, 0, 5, 3, 172, 21, 5, 154, 0, 15, 45, 3, 47, 21, 6, 133, 148]
abbrev dktL_law_40 : List UInt8 := dkwL_law_40 ++ dktL_law_41
def dkwL_law_39 : List UInt8 := [21, 4, 4, 96, 46, 45, 184, 0, 187, 54, 5, 44, 42, 21, 4, 4, 96, 46, 182, 0, 189, 54, 6, 44]
abbrev dktL_law_39 : List UInt8 := dkwL_law_39 ++ dktL_law_40
def dkwL_law_38 : List UInt8 := [153, 0, 5, 3, 172, 167, 5, 253, 43, 182, 0, 183, 44, 182, 0, 186, 159, 5, 242, 3, 172, 43, 42]
abbrev dktL_law_38 : List UInt8 := dkwL_law_38 ++ dktL_law_39
def dkwL_law_37 : List UInt8 := [182, 0, 135, 21, 5, 159, 0, 5, 3, 172, 21, 5, 154, 0, 15, 45, 3, 47, 21, 6, 133, 148]
abbrev dktL_law_37 : List UInt8 := dkwL_law_37 ++ dktL_law_38
def dkwL_law_36 : List UInt8 := [21, 4, 4, 96, 46, 45, 184, 0, 180, 54, 5, 44, 42, 21, 4, 4, 96, 46, 182, 0, 182, 54, 6, 44]
abbrev dktL_law_36 : List UInt8 := dkwL_law_36 ++ dktL_law_37
def dkwL_law_35 : List UInt8 := [172, 21, 5, 154, 0, 15, 45, 3, 47, 21, 6, 133, 148, 153, 0, 5, 3, 172, 167, 6, 53, 43, 42]
abbrev dktL_law_35 : List UInt8 := dkwL_law_35 ++ dktL_law_36
def dkwL_law_34 : List UInt8 := [54, 5, 44, 42, 21, 4, 4, 96, 46, 182, 0, 179, 54, 6, 44, 182, 0, 135, 21, 5, 159, 0, 5, 3]
abbrev dktL_law_34 : List UInt8 := dkwL_law_34 ++ dktL_law_35
def dkwL_law_33 : List UInt8 := [182, 0, 173, 44, 182, 0, 176, 159, 6, 111, 3, 172, 43, 42, 21, 4, 4, 96, 46, 45, 184, 0, 177]
abbrev dktL_law_33 : List UInt8 := dkwL_law_33 ++ dktL_law_34
def dkwL_law_32 : List UInt8 := [45, 3, 47, 21, 6, 153, 0, 7, 10, 167, 0, 4, 9, 148, 153, 0, 5, 3, 172, 167, 6, 122, 43]
abbrev dktL_law_32 : List UInt8 := dkwL_law_32 ++ dktL_law_33
def dkwL_law_31 : List UInt8 := [5, 96, 46, 182, 0, 172, 54, 6, 44, 182, 0, 135, 21, 5, 159, 0, 5, 3, 172, 21, 5, 154, 0, 22]
abbrev dktL_law_31 : List UInt8 := dkwL_law_31 ++ dktL_law_32
def dkwL_law_30 : List UInt8 := [96, 46, 42, 21, 4, 5, 96, 46, 45, 184, 0, 170, 54, 5, 44, 42, 21, 4, 4, 96, 46, 42, 21, 4]
abbrev dktL_law_30 : List UInt8 := dkwL_law_30 ++ dktL_law_31
def dkwL_law_29 : List UInt8 := [21, 6, 153, 0, 7, 10, 167, 0, 4, 9, 148, 153, 0, 5, 3, 172, 167, 6, 197, 43, 42, 21, 4, 4]
abbrev dktL_law_29 : List UInt8 := dkwL_law_29 ++ dktL_law_30
def dkwL_law_28 : List UInt8 := [182, 0, 169, 54, 6, 44, 182, 0, 135, 21, 5, 159, 0, 5, 3, 172, 21, 5, 154, 0, 22, 45, 3, 47]
abbrev dktL_law_28 : List UInt8 := dkwL_law_28 ++ dktL_law_29
def dkwL_law_27 : List UInt8 := [167, 7, 4, 43, 42, 21, 4, 4, 96, 46, 45, 184, 0, 167, 54, 5, 44, 42, 21, 4, 4, 96, 46]
abbrev dktL_law_27 : List UInt8 := dkwL_law_27 ++ dktL_law_28
def dkwL_law_26 : List UInt8 := [154, 0, 22, 45, 3, 47, 21, 6, 153, 0, 7, 10, 167, 0, 4, 9, 148, 153, 0, 5, 3, 172]
abbrev dktL_law_26 : List UInt8 := dkwL_law_26 ++ dktL_law_27
def dkwL_law_25 : List UInt8 := [21, 4, 4, 96, 46, 182, 0, 166, 54, 6, 44, 182, 0, 135, 21, 5, 159, 0, 5, 3, 172, 21, 5]
abbrev dktL_law_25 : List UInt8 := dkwL_law_25 ++ dktL_law_26
def dkwL_law_24 : List UInt8 := [153, 0, 5, 3, 172, 167, 7, 67, 43, 42, 21, 4, 4, 96, 46, 45, 184, 0, 164, 54, 5, 44, 42]
abbrev dktL_law_24 : List UInt8 := dkwL_law_24 ++ dktL_law_25
def dkwL_law_23 : List UInt8 := [159, 0, 5, 3, 172, 21, 5, 154, 0, 22, 45, 3, 47, 21, 6, 153, 0, 7, 10, 167, 0, 4, 9, 148]
abbrev dktL_law_23 : List UInt8 := dkwL_law_23 ++ dktL_law_24
def dkwL_law_22 : List UInt8 := [184, 0, 161, 54, 5, 44, 42, 21, 4, 4, 96, 46, 182, 0, 163, 54, 6, 44, 182, 0, 135, 21, 5]
abbrev dktL_law_22 : List UInt8 := dkwL_law_22 ++ dktL_law_23
def dkwL_law_21 : List UInt8 := [44, 42, 21, 4, 4, 96, 46, 182, 0, 160, 159, 7, 132, 3, 172, 43, 42, 21, 4, 4, 96, 46, 45]
abbrev dktL_law_21 : List UInt8 := dkwL_law_21 ++ dktL_law_22
def dkwL_law_20 : List UInt8 := [3, 47, 21, 6, 133, 148, 153, 0, 5, 3, 172, 167, 7, 155, 43, 42, 21, 4, 4, 96, 46, 182, 0, 157]
abbrev dktL_law_20 : List UInt8 := dkwL_law_20 ++ dktL_law_21
def dkwL_law_19 : List UInt8 := [96, 46, 182, 0, 156, 54, 6, 44, 182, 0, 135, 21, 5, 159, 0, 5, 3, 172, 21, 5, 154, 0, 15, 45]
abbrev dktL_law_19 : List UInt8 := dkwL_law_19 ++ dktL_law_20
def dkwL_law_18 : List UInt8 := [46, 42, 21, 4, 5, 96, 46, 45, 184, 0, 154, 54, 5, 44, 42, 21, 4, 4, 96, 46, 42, 21, 4, 5]
abbrev dktL_law_18 : List UInt8 := dkwL_law_18 ++ dktL_law_19
def dkwL_law_17 : List UInt8 := [154, 0, 15, 45, 3, 47, 21, 6, 133, 148, 153, 0, 5, 3, 172, 167, 7, 223, 43, 42, 21, 4, 4, 96]
abbrev dktL_law_17 : List UInt8 := dkwL_law_17 ++ dktL_law_18
def dkwL_law_16 : List UInt8 := [21, 4, 6, 96, 46, 182, 0, 153, 54, 6, 44, 182, 0, 135, 21, 5, 159, 0, 5, 3, 172, 21, 5]
abbrev dktL_law_16 : List UInt8 := dkwL_law_16 ++ dktL_law_17
def dkwL_law_15 : List UInt8 := [6, 96, 46, 45, 184, 0, 150, 54, 5, 44, 42, 21, 4, 4, 96, 46, 42, 21, 4, 5, 96, 46, 42]
abbrev dktL_law_15 : List UInt8 := dkwL_law_15 ++ dktL_law_16
def dkwL_law_14 : List UInt8 := [153, 0, 5, 3, 172, 167, 8, 47, 43, 42, 21, 4, 4, 96, 46, 42, 21, 4, 5, 96, 46, 42, 21, 4]
abbrev dktL_law_14 : List UInt8 := dkwL_law_14 ++ dktL_law_15
def dkwL_law_13 : List UInt8 := [182, 0, 135, 21, 5, 159, 0, 5, 3, 172, 21, 5, 154, 0, 15, 45, 3, 47, 21, 6, 133, 148]
abbrev dktL_law_13 : List UInt8 := dkwL_law_13 ++ dktL_law_14
def dkwL_law_12 : List UInt8 := [184, 0, 146, 54, 5, 44, 42, 21, 4, 4, 96, 46, 42, 21, 4, 5, 96, 46, 182, 0, 149, 54, 6, 44]
abbrev dktL_law_12 : List UInt8 := dkwL_law_12 ++ dktL_law_13
def dkwL_law_11 : List UInt8 := [153, 0, 5, 3, 172, 167, 8, 115, 43, 42, 21, 4, 4, 96, 46, 42, 21, 4, 5, 96, 46, 45]
abbrev dktL_law_11 : List UInt8 := dkwL_law_11 ++ dktL_law_12
def dkwL_law_10 : List UInt8 := [182, 0, 135, 21, 5, 159, 0, 5, 3, 172, 21, 5, 154, 0, 15, 45, 3, 47, 21, 6, 133, 148]
abbrev dktL_law_10 : List UInt8 := dkwL_law_10 ++ dktL_law_11
def dkwL_law_9 : List UInt8 := [21, 4, 4, 96, 46, 45, 184, 0, 143, 54, 5, 44, 42, 21, 4, 4, 96, 46, 182, 0, 145, 54, 6, 44]
abbrev dktL_law_9 : List UInt8 := dkwL_law_9 ++ dktL_law_10
def dkwL_law_8 : List UInt8 := [148, 153, 0, 5, 3, 172, 167, 8, 184, 43, 182, 0, 139, 44, 182, 0, 142, 159, 8, 173, 3, 172, 43, 42]
abbrev dktL_law_8 : List UInt8 := dkwL_law_8 ++ dktL_law_9
def dkwL_law_7 : List UInt8 := [54, 6, 44, 182, 0, 135, 21, 5, 159, 0, 5, 3, 172, 21, 5, 154, 0, 15, 45, 3, 47, 21, 6, 133]
abbrev dktL_law_7 : List UInt8 := dkwL_law_7 ++ dktL_law_8
def dkwL_law_6 : List UInt8 := [172, 43, 42, 21, 4, 4, 96, 46, 45, 184, 0, 129, 54, 5, 44, 42, 21, 4, 4, 96, 46, 182, 0, 134]
abbrev dktL_law_6 : List UInt8 := dkwL_law_6 ++ dktL_law_7
def dkwL_law_5 : List UInt8 := [21, 4, 6, 96, 46, 42, 21, 4, 7, 96, 46, 42, 21, 4, 8, 96, 46, 182, 0, 128, 159, 8, 242, 3]
abbrev dktL_law_5 : List UInt8 := dkwL_law_5 ++ dktL_law_6
def dkwL_law_4 : List UInt8 := [46, 42, 21, 4, 8, 96, 46, 182, 0, 124, 44, 42, 21, 4, 4, 96, 46, 42, 21, 4, 5, 96, 46, 42]
abbrev dktL_law_4 : List UInt8 := dkwL_law_4 ++ dktL_law_5
def dkwL_law_3 : List UInt8 := [43, 42, 21, 4, 4, 96, 46, 42, 21, 4, 5, 96, 46, 42, 21, 4, 6, 96, 46, 42, 21, 4, 7, 96]
abbrev dktL_law_3 : List UInt8 := dkwL_law_3 ++ dktL_law_4
def dkwL_law_2 : List UInt8 := [170, 0, 0, 0, 0, 0, 9, 254, 0, 0, 0, 0, 0, 0, 0, 45, 0, 0, 0, 200, 0, 0, 1, 17, 0, 0, 1, 73, 0, 0, 1, 86, 0, 0, 1, 142, 0, 0, 1, 210, 0, 0, 2, 34, 0, 0, 2, 102, 0, 0, 2, 127, 0, 0, 2, 190, 0, 0, 2, 253, 0, 0, 3, 60, 0, 0, 3, 135, 0, 0, 3, 148, 0, 0, 3, 204, 0, 0, 4, 4, 0, 0, 4, 17, 0, 0, 4, 73, 0, 0, 4, 86, 0, 0, 4, 99, 0, 0, 4, 112, 0, 0, 4, 192, 0, 0, 5, 3, 0, 0, 5, 71, 0, 0, 5, 163, 0, 0, 5, 219, 0, 0, 5, 230, 0, 0, 6, 42, 0, 0, 6, 122, 0, 0, 6, 190, 0, 0, 6, 246, 0, 0, 7, 3, 0, 0, 7, 59, 0, 0, 7, 115, 0, 0, 7, 183, 0, 0, 7, 251, 0, 0, 8, 63, 0, 0, 8, 76, 0, 0, 8, 131, 0, 0, 8, 194, 0, 0, 8, 250, 0, 0, 9, 62, 0, 0, 9, 118, 0, 0, 9, 174, 0, 0, 9, 230, 0, 0, 9, 241]
abbrev dktL_law_2 : List UInt8 := dkwL_law_2 ++ dktL_law_3
def dkwL_law_1 : List UInt8 := [21, 4, 42, 190, 16, 6, 100, 163, 10, 14, 42, 21, 4, 46, 16, 63, 126]
abbrev dktL_law_1 : List UInt8 := dkwL_law_1 ++ dktL_law_2
def dkwL_law_0 : List UInt8 := [187, 0, 8, 89, 183, 0, 120, 76, 187, 0, 121, 89, 183, 0, 123, 77, 4, 188, 11, 78, 3, 54, 4]
abbrev dktL_law_0 : List UInt8 := dkwL_law_0 ++ dktL_law_1
theorem dksL_law_0 : cL_law.data.toList.drop 0 = dktL_law_0 := by decide +kernel
theorem dksL_law_1 : cL_law.data.toList.drop 23 = dktL_law_1 := dk_seg dksL_law_0 23 rfl rfl
theorem dksL_law_2 : cL_law.data.toList.drop 40 = dktL_law_2 := dk_seg dksL_law_1 17 rfl rfl
theorem dksL_law_3 : cL_law.data.toList.drop 240 = dktL_law_3 := dk_seg dksL_law_2 200 rfl rfl
theorem dksL_law_4 : cL_law.data.toList.drop 264 = dktL_law_4 := dk_seg dksL_law_3 24 rfl rfl
theorem dksL_law_5 : cL_law.data.toList.drop 288 = dktL_law_5 := dk_seg dksL_law_4 24 rfl rfl
theorem dksL_law_6 : cL_law.data.toList.drop 312 = dktL_law_6 := dk_seg dksL_law_5 24 rfl rfl
theorem dksL_law_7 : cL_law.data.toList.drop 336 = dktL_law_7 := dk_seg dksL_law_6 24 rfl rfl
theorem dksL_law_8 : cL_law.data.toList.drop 360 = dktL_law_8 := dk_seg dksL_law_7 24 rfl rfl
theorem dksL_law_9 : cL_law.data.toList.drop 384 = dktL_law_9 := dk_seg dksL_law_8 24 rfl rfl
theorem dksL_law_10 : cL_law.data.toList.drop 408 = dktL_law_10 := dk_seg dksL_law_9 24 rfl rfl
theorem dksL_law_11 : cL_law.data.toList.drop 430 = dktL_law_11 := dk_seg dksL_law_10 22 rfl rfl
theorem dksL_law_12 : cL_law.data.toList.drop 452 = dktL_law_12 := dk_seg dksL_law_11 22 rfl rfl
theorem dksL_law_13 : cL_law.data.toList.drop 476 = dktL_law_13 := dk_seg dksL_law_12 24 rfl rfl
theorem dksL_law_14 : cL_law.data.toList.drop 498 = dktL_law_14 := dk_seg dksL_law_13 22 rfl rfl
theorem dksL_law_15 : cL_law.data.toList.drop 522 = dktL_law_15 := dk_seg dksL_law_14 24 rfl rfl
theorem dksL_law_16 : cL_law.data.toList.drop 545 = dktL_law_16 := dk_seg dksL_law_15 23 rfl rfl
theorem dksL_law_17 : cL_law.data.toList.drop 568 = dktL_law_17 := dk_seg dksL_law_16 23 rfl rfl
theorem dksL_law_18 : cL_law.data.toList.drop 592 = dktL_law_18 := dk_seg dksL_law_17 24 rfl rfl
theorem dksL_law_19 : cL_law.data.toList.drop 616 = dktL_law_19 := dk_seg dksL_law_18 24 rfl rfl
theorem dksL_law_20 : cL_law.data.toList.drop 640 = dktL_law_20 := dk_seg dksL_law_19 24 rfl rfl
theorem dksL_law_21 : cL_law.data.toList.drop 664 = dktL_law_21 := dk_seg dksL_law_20 24 rfl rfl
theorem dksL_law_22 : cL_law.data.toList.drop 687 = dktL_law_22 := dk_seg dksL_law_21 23 rfl rfl
theorem dksL_law_23 : cL_law.data.toList.drop 710 = dktL_law_23 := dk_seg dksL_law_22 23 rfl rfl
theorem dksL_law_24 : cL_law.data.toList.drop 734 = dktL_law_24 := dk_seg dksL_law_23 24 rfl rfl
theorem dksL_law_25 : cL_law.data.toList.drop 757 = dktL_law_25 := dk_seg dksL_law_24 23 rfl rfl
theorem dksL_law_26 : cL_law.data.toList.drop 780 = dktL_law_26 := dk_seg dksL_law_25 23 rfl rfl
theorem dksL_law_27 : cL_law.data.toList.drop 802 = dktL_law_27 := dk_seg dksL_law_26 22 rfl rfl
theorem dksL_law_28 : cL_law.data.toList.drop 825 = dktL_law_28 := dk_seg dksL_law_27 23 rfl rfl
theorem dksL_law_29 : cL_law.data.toList.drop 849 = dktL_law_29 := dk_seg dksL_law_28 24 rfl rfl
theorem dksL_law_30 : cL_law.data.toList.drop 873 = dktL_law_30 := dk_seg dksL_law_29 24 rfl rfl
theorem dksL_law_31 : cL_law.data.toList.drop 897 = dktL_law_31 := dk_seg dksL_law_30 24 rfl rfl
theorem dksL_law_32 : cL_law.data.toList.drop 921 = dktL_law_32 := dk_seg dksL_law_31 24 rfl rfl
theorem dksL_law_33 : cL_law.data.toList.drop 944 = dktL_law_33 := dk_seg dksL_law_32 23 rfl rfl
theorem dksL_law_34 : cL_law.data.toList.drop 967 = dktL_law_34 := dk_seg dksL_law_33 23 rfl rfl
theorem dksL_law_35 : cL_law.data.toList.drop 991 = dktL_law_35 := dk_seg dksL_law_34 24 rfl rfl
theorem dksL_law_36 : cL_law.data.toList.drop 1014 = dktL_law_36 := dk_seg dksL_law_35 23 rfl rfl
theorem dksL_law_37 : cL_law.data.toList.drop 1038 = dktL_law_37 := dk_seg dksL_law_36 24 rfl rfl
theorem dksL_law_38 : cL_law.data.toList.drop 1060 = dktL_law_38 := dk_seg dksL_law_37 22 rfl rfl
theorem dksL_law_39 : cL_law.data.toList.drop 1083 = dktL_law_39 := dk_seg dksL_law_38 23 rfl rfl
theorem dksL_law_40 : cL_law.data.toList.drop 1107 = dktL_law_40 := dk_seg dksL_law_39 24 rfl rfl
theorem dksL_law_41 : cL_law.data.toList.drop 1129 = dktL_law_41 := dk_seg dksL_law_40 22 rfl rfl
theorem dksL_law_42 : cL_law.data.toList.drop 1151 = dktL_law_42 := dk_seg dksL_law_41 22 rfl rfl
theorem dksL_law_43 : cL_law.data.toList.drop 1175 = dktL_law_43 := dk_seg dksL_law_42 24 rfl rfl
theorem dksL_law_44 : cL_law.data.toList.drop 1199 = dktL_law_44 := dk_seg dksL_law_43 24 rfl rfl
theorem dksL_law_45 : cL_law.data.toList.drop 1223 = dktL_law_45 := dk_seg dksL_law_44 24 rfl rfl
theorem dksL_law_46 : cL_law.data.toList.drop 1247 = dktL_law_46 := dk_seg dksL_law_45 24 rfl rfl
theorem dksL_law_47 : cL_law.data.toList.drop 1270 = dktL_law_47 := dk_seg dksL_law_46 23 rfl rfl
theorem dksL_law_48 : cL_law.data.toList.drop 1294 = dktL_law_48 := dk_seg dksL_law_47 24 rfl rfl
theorem dksL_law_49 : cL_law.data.toList.drop 1318 = dktL_law_49 := dk_seg dksL_law_48 24 rfl rfl
theorem dksL_law_50 : cL_law.data.toList.drop 1342 = dktL_law_50 := dk_seg dksL_law_49 24 rfl rfl
theorem dksL_law_51 : cL_law.data.toList.drop 1366 = dktL_law_51 := dk_seg dksL_law_50 24 rfl rfl
theorem dksL_law_52 : cL_law.data.toList.drop 1388 = dktL_law_52 := dk_seg dksL_law_51 22 rfl rfl
theorem dksL_law_53 : cL_law.data.toList.drop 1411 = dktL_law_53 := dk_seg dksL_law_52 23 rfl rfl
theorem dksL_law_54 : cL_law.data.toList.drop 1435 = dktL_law_54 := dk_seg dksL_law_53 24 rfl rfl
theorem dksL_law_55 : cL_law.data.toList.drop 1458 = dktL_law_55 := dk_seg dksL_law_54 23 rfl rfl
theorem dksL_law_56 : cL_law.data.toList.drop 1480 = dktL_law_56 := dk_seg dksL_law_55 22 rfl rfl
theorem dksL_law_57 : cL_law.data.toList.drop 1503 = dktL_law_57 := dk_seg dksL_law_56 23 rfl rfl
theorem dksL_law_58 : cL_law.data.toList.drop 1527 = dktL_law_58 := dk_seg dksL_law_57 24 rfl rfl
theorem dksL_law_59 : cL_law.data.toList.drop 1551 = dktL_law_59 := dk_seg dksL_law_58 24 rfl rfl
theorem dksL_law_60 : cL_law.data.toList.drop 1575 = dktL_law_60 := dk_seg dksL_law_59 24 rfl rfl
theorem dksL_law_61 : cL_law.data.toList.drop 1598 = dktL_law_61 := dk_seg dksL_law_60 23 rfl rfl
theorem dksL_law_62 : cL_law.data.toList.drop 1622 = dktL_law_62 := dk_seg dksL_law_61 24 rfl rfl
theorem dksL_law_63 : cL_law.data.toList.drop 1645 = dktL_law_63 := dk_seg dksL_law_62 23 rfl rfl
theorem dksL_law_64 : cL_law.data.toList.drop 1668 = dktL_law_64 := dk_seg dksL_law_63 23 rfl rfl
theorem dksL_law_65 : cL_law.data.toList.drop 1690 = dktL_law_65 := dk_seg dksL_law_64 22 rfl rfl
theorem dksL_law_66 : cL_law.data.toList.drop 1712 = dktL_law_66 := dk_seg dksL_law_65 22 rfl rfl
theorem dksL_law_67 : cL_law.data.toList.drop 1736 = dktL_law_67 := dk_seg dksL_law_66 24 rfl rfl
theorem dksL_law_68 : cL_law.data.toList.drop 1758 = dktL_law_68 := dk_seg dksL_law_67 22 rfl rfl
theorem dksL_law_69 : cL_law.data.toList.drop 1781 = dktL_law_69 := dk_seg dksL_law_68 23 rfl rfl
theorem dksL_law_70 : cL_law.data.toList.drop 1804 = dktL_law_70 := dk_seg dksL_law_69 23 rfl rfl
theorem dksL_law_71 : cL_law.data.toList.drop 1827 = dktL_law_71 := dk_seg dksL_law_70 23 rfl rfl
theorem dksL_law_72 : cL_law.data.toList.drop 1850 = dktL_law_72 := dk_seg dksL_law_71 23 rfl rfl
theorem dksL_law_73 : cL_law.data.toList.drop 1873 = dktL_law_73 := dk_seg dksL_law_72 23 rfl rfl
theorem dksL_law_74 : cL_law.data.toList.drop 1897 = dktL_law_74 := dk_seg dksL_law_73 24 rfl rfl
theorem dksL_law_75 : cL_law.data.toList.drop 1920 = dktL_law_75 := dk_seg dksL_law_74 23 rfl rfl
theorem dksL_law_76 : cL_law.data.toList.drop 1944 = dktL_law_76 := dk_seg dksL_law_75 24 rfl rfl
theorem dksL_law_77 : cL_law.data.toList.drop 1968 = dktL_law_77 := dk_seg dksL_law_76 24 rfl rfl
theorem dksL_law_78 : cL_law.data.toList.drop 1990 = dktL_law_78 := dk_seg dksL_law_77 22 rfl rfl
theorem dksL_law_79 : cL_law.data.toList.drop 2012 = dktL_law_79 := dk_seg dksL_law_78 22 rfl rfl
theorem dksL_law_80 : cL_law.data.toList.drop 2036 = dktL_law_80 := dk_seg dksL_law_79 24 rfl rfl
theorem dksL_law_81 : cL_law.data.toList.drop 2058 = dktL_law_81 := dk_seg dksL_law_80 22 rfl rfl
theorem dksL_law_82 : cL_law.data.toList.drop 2080 = dktL_law_82 := dk_seg dksL_law_81 22 rfl rfl
theorem dksL_law_83 : cL_law.data.toList.drop 2104 = dktL_law_83 := dk_seg dksL_law_82 24 rfl rfl
theorem dksL_law_84 : cL_law.data.toList.drop 2126 = dktL_law_84 := dk_seg dksL_law_83 22 rfl rfl
theorem dksL_law_85 : cL_law.data.toList.drop 2148 = dktL_law_85 := dk_seg dksL_law_84 22 rfl rfl
theorem dksL_law_86 : cL_law.data.toList.drop 2172 = dktL_law_86 := dk_seg dksL_law_85 24 rfl rfl
theorem dksL_law_87 : cL_law.data.toList.drop 2195 = dktL_law_87 := dk_seg dksL_law_86 23 rfl rfl
theorem dksL_law_88 : cL_law.data.toList.drop 2219 = dktL_law_88 := dk_seg dksL_law_87 24 rfl rfl
theorem dksL_law_89 : cL_law.data.toList.drop 2242 = dktL_law_89 := dk_seg dksL_law_88 23 rfl rfl
theorem dksL_law_90 : cL_law.data.toList.drop 2265 = dktL_law_90 := dk_seg dksL_law_89 23 rfl rfl
theorem dksL_law_91 : cL_law.data.toList.drop 2289 = dktL_law_91 := dk_seg dksL_law_90 24 rfl rfl
theorem dksL_law_92 : cL_law.data.toList.drop 2313 = dktL_law_92 := dk_seg dksL_law_91 24 rfl rfl
theorem dksL_law_93 : cL_law.data.toList.drop 2335 = dktL_law_93 := dk_seg dksL_law_92 22 rfl rfl
theorem dksL_law_94 : cL_law.data.toList.drop 2359 = dktL_law_94 := dk_seg dksL_law_93 24 rfl rfl
theorem dksL_law_95 : cL_law.data.toList.drop 2381 = dktL_law_95 := dk_seg dksL_law_94 22 rfl rfl
theorem dksL_law_96 : cL_law.data.toList.drop 2403 = dktL_law_96 := dk_seg dksL_law_95 22 rfl rfl
theorem dksL_law_97 : cL_law.data.toList.drop 2426 = dktL_law_97 := dk_seg dksL_law_96 23 rfl rfl
theorem dksL_law_98 : cL_law.data.toList.drop 2450 = dktL_law_98 := dk_seg dksL_law_97 24 rfl rfl
theorem dksL_law_99 : cL_law.data.toList.drop 2473 = dktL_law_99 := dk_seg dksL_law_98 23 rfl rfl
theorem dksL_law_100 : cL_law.data.toList.drop 2497 = dktL_law_100 := dk_seg dksL_law_99 24 rfl rfl
theorem dksL_law_101 : cL_law.data.toList.drop 2520 = dktL_law_101 := dk_seg dksL_law_100 23 rfl rfl
theorem dksL_law_102 : cL_law.data.toList.drop 2544 = dktL_law_102 := dk_seg dksL_law_101 24 rfl rfl
theorem dksL_law_103 : cL_law.data.toList.drop 2566 = dktL_law_103 := dk_seg dksL_law_102 22 rfl rfl
theorem dksL_law_104 : cL_law.data.toList.drop 2590 = dktL_law_104 := dk_seg dksL_law_103 24 rfl rfl
theorem dL_law_0 : decode cL_law 0 = .ok (.new 8, 3) := dk_187 0 8 (dk_at dksL_law_0 0 rfl rfl)
theorem dL_law_3 : decode cL_law 3 = .ok (.dup, 1) := dk_89 (dk_at dksL_law_0 3 rfl rfl)
theorem dL_law_4 : decode cL_law 4 = .ok (.invokespecial 120, 3) := dk_183 0 120 (dk_at dksL_law_0 4 rfl rfl)
theorem dL_law_7 : decode cL_law 7 = .ok (.astore_n 1, 1) := dk_76 (dk_at dksL_law_0 7 rfl rfl)
theorem dL_law_8 : decode cL_law 8 = .ok (.new 121, 3) := dk_187 0 121 (dk_at dksL_law_0 8 rfl rfl)
theorem dL_law_11 : decode cL_law 11 = .ok (.dup, 1) := dk_89 (dk_at dksL_law_0 11 rfl rfl)
theorem dL_law_12 : decode cL_law 12 = .ok (.invokespecial 123, 3) := dk_183 0 123 (dk_at dksL_law_0 12 rfl rfl)
theorem dL_law_15 : decode cL_law 15 = .ok (.astore_n 2, 1) := dk_77 (dk_at dksL_law_0 15 rfl rfl)
theorem dL_law_16 : decode cL_law 16 = .ok (.iconst 1, 1) := dk_4 (dk_at dksL_law_0 16 rfl rfl)
theorem dL_law_17 : decode cL_law 17 = .ok (.newarray .long, 2) := dk_188_11 (dk_at dksL_law_0 17 rfl rfl)
theorem dL_law_19 : decode cL_law 19 = .ok (.astore_n 3, 1) := dk_78 (dk_at dksL_law_0 19 rfl rfl)
theorem dL_law_20 : decode cL_law 20 = .ok (.iconst 0, 1) := dk_3 (dk_at dksL_law_0 20 rfl rfl)
theorem dL_law_21 : decode cL_law 21 = .ok (.istore 4, 2) := dk_54 4 (dk_at dksL_law_0 21 rfl rfl)
theorem dL_law_23 : decode cL_law 23 = .ok (.iload 4, 2) := dk_21 4 (dk_at dksL_law_1 0 rfl rfl)
theorem dL_law_25 : decode cL_law 25 = .ok (.aload_n 0, 1) := dk_42 (dk_at dksL_law_1 2 rfl rfl)
theorem dL_law_26 : decode cL_law 26 = .ok (.arraylength, 1) := dk_190 (dk_at dksL_law_1 3 rfl rfl)
theorem dL_law_27 : decode cL_law 27 = .ok (.bipush 6, 2) := dk_16 6 (dk_at dksL_law_1 4 rfl rfl)
theorem dL_law_29 : decode cL_law 29 = .ok (.isub, 1) := dk_100 (dk_at dksL_law_1 6 rfl rfl)
theorem dL_law_30 : decode cL_law 30 = .ok (.if_icmp .gt 2574, 3) := dk_163 10 14 (dk_at dksL_law_1 7 rfl rfl)
theorem dL_law_33 : decode cL_law 33 = .ok (.aload_n 0, 1) := dk_42 (dk_at dksL_law_1 10 rfl rfl)
theorem dL_law_34 : decode cL_law 34 = .ok (.iload 4, 2) := dk_21 4 (dk_at dksL_law_1 11 rfl rfl)
theorem dL_law_36 : decode cL_law 36 = .ok (.iaload, 1) := dk_46 (dk_at dksL_law_1 13 rfl rfl)
theorem dL_law_37 : decode cL_law 37 = .ok (.bipush 63, 2) := dk_16 63 (dk_at dksL_law_1 14 rfl rfl)
theorem dL_law_39 : decode cL_law 39 = .ok (.iand, 1) := dk_126 (dk_at dksL_law_1 16 rfl rfl)
theorem dL_law_40 : decode cL_law 40 = .ok (.tableswitch 2558 0 45 #[200, 273, 329, 342, 398, 466, 546, 614, 639, 702, 765, 828, 903, 916, 972, 1028, 1041, 1097, 1110, 1123, 1136, 1216, 1283, 1351, 1443, 1499, 1510, 1578, 1658, 1726, 1782, 1795, 1851, 1907, 1975, 2043, 2111, 2124, 2179, 2242, 2298, 2366, 2422, 2478, 2534, 2545], 200) := by decide +kernel
theorem dL_law_240 : decode cL_law 240 = .ok (.aload_n 1, 1) := dk_43 (dk_at dksL_law_3 0 rfl rfl)
theorem dL_law_241 : decode cL_law 241 = .ok (.aload_n 0, 1) := dk_42 (dk_at dksL_law_3 1 rfl rfl)
theorem dL_law_242 : decode cL_law 242 = .ok (.iload 4, 2) := dk_21 4 (dk_at dksL_law_3 2 rfl rfl)
theorem dL_law_244 : decode cL_law 244 = .ok (.iconst 1, 1) := dk_4 (dk_at dksL_law_3 4 rfl rfl)
theorem dL_law_245 : decode cL_law 245 = .ok (.iadd, 1) := dk_96 (dk_at dksL_law_3 5 rfl rfl)
theorem dL_law_246 : decode cL_law 246 = .ok (.iaload, 1) := dk_46 (dk_at dksL_law_3 6 rfl rfl)
theorem dL_law_247 : decode cL_law 247 = .ok (.aload_n 0, 1) := dk_42 (dk_at dksL_law_3 7 rfl rfl)
theorem dL_law_248 : decode cL_law 248 = .ok (.iload 4, 2) := dk_21 4 (dk_at dksL_law_3 8 rfl rfl)
theorem dL_law_250 : decode cL_law 250 = .ok (.iconst 2, 1) := dk_5 (dk_at dksL_law_3 10 rfl rfl)
theorem dL_law_251 : decode cL_law 251 = .ok (.iadd, 1) := dk_96 (dk_at dksL_law_3 11 rfl rfl)
theorem dL_law_252 : decode cL_law 252 = .ok (.iaload, 1) := dk_46 (dk_at dksL_law_3 12 rfl rfl)
theorem dL_law_253 : decode cL_law 253 = .ok (.aload_n 0, 1) := dk_42 (dk_at dksL_law_3 13 rfl rfl)
theorem dL_law_254 : decode cL_law 254 = .ok (.iload 4, 2) := dk_21 4 (dk_at dksL_law_3 14 rfl rfl)
theorem dL_law_256 : decode cL_law 256 = .ok (.iconst 3, 1) := dk_6 (dk_at dksL_law_3 16 rfl rfl)
theorem dL_law_257 : decode cL_law 257 = .ok (.iadd, 1) := dk_96 (dk_at dksL_law_3 17 rfl rfl)
theorem dL_law_258 : decode cL_law 258 = .ok (.iaload, 1) := dk_46 (dk_at dksL_law_3 18 rfl rfl)
theorem dL_law_259 : decode cL_law 259 = .ok (.aload_n 0, 1) := dk_42 (dk_at dksL_law_3 19 rfl rfl)
theorem dL_law_260 : decode cL_law 260 = .ok (.iload 4, 2) := dk_21 4 (dk_at dksL_law_3 20 rfl rfl)
theorem dL_law_262 : decode cL_law 262 = .ok (.iconst 4, 1) := dk_7 (dk_at dksL_law_3 22 rfl rfl)
theorem dL_law_263 : decode cL_law 263 = .ok (.iadd, 1) := dk_96 (dk_at dksL_law_3 23 rfl rfl)
theorem dL_law_264 : decode cL_law 264 = .ok (.iaload, 1) := dk_46 (dk_at dksL_law_4 0 rfl rfl)
theorem dL_law_265 : decode cL_law 265 = .ok (.aload_n 0, 1) := dk_42 (dk_at dksL_law_4 1 rfl rfl)
theorem dL_law_266 : decode cL_law 266 = .ok (.iload 4, 2) := dk_21 4 (dk_at dksL_law_4 2 rfl rfl)
theorem dL_law_268 : decode cL_law 268 = .ok (.iconst 5, 1) := dk_8 (dk_at dksL_law_4 4 rfl rfl)
theorem dL_law_269 : decode cL_law 269 = .ok (.iadd, 1) := dk_96 (dk_at dksL_law_4 5 rfl rfl)
theorem dL_law_270 : decode cL_law 270 = .ok (.iaload, 1) := dk_46 (dk_at dksL_law_4 6 rfl rfl)
theorem dL_law_271 : decode cL_law 271 = .ok (.invokevirtual 124, 3) := dk_182 0 124 (dk_at dksL_law_4 7 rfl rfl)
theorem dL_law_274 : decode cL_law 274 = .ok (.aload_n 2, 1) := dk_44 (dk_at dksL_law_4 10 rfl rfl)
theorem dL_law_275 : decode cL_law 275 = .ok (.aload_n 0, 1) := dk_42 (dk_at dksL_law_4 11 rfl rfl)
theorem dL_law_276 : decode cL_law 276 = .ok (.iload 4, 2) := dk_21 4 (dk_at dksL_law_4 12 rfl rfl)
theorem dL_law_278 : decode cL_law 278 = .ok (.iconst 1, 1) := dk_4 (dk_at dksL_law_4 14 rfl rfl)
theorem dL_law_279 : decode cL_law 279 = .ok (.iadd, 1) := dk_96 (dk_at dksL_law_4 15 rfl rfl)
theorem dL_law_280 : decode cL_law 280 = .ok (.iaload, 1) := dk_46 (dk_at dksL_law_4 16 rfl rfl)
theorem dL_law_281 : decode cL_law 281 = .ok (.aload_n 0, 1) := dk_42 (dk_at dksL_law_4 17 rfl rfl)
theorem dL_law_282 : decode cL_law 282 = .ok (.iload 4, 2) := dk_21 4 (dk_at dksL_law_4 18 rfl rfl)
theorem dL_law_284 : decode cL_law 284 = .ok (.iconst 2, 1) := dk_5 (dk_at dksL_law_4 20 rfl rfl)
theorem dL_law_285 : decode cL_law 285 = .ok (.iadd, 1) := dk_96 (dk_at dksL_law_4 21 rfl rfl)
theorem dL_law_286 : decode cL_law 286 = .ok (.iaload, 1) := dk_46 (dk_at dksL_law_4 22 rfl rfl)
theorem dL_law_287 : decode cL_law 287 = .ok (.aload_n 0, 1) := dk_42 (dk_at dksL_law_4 23 rfl rfl)
theorem dL_law_288 : decode cL_law 288 = .ok (.iload 4, 2) := dk_21 4 (dk_at dksL_law_5 0 rfl rfl)
theorem dL_law_290 : decode cL_law 290 = .ok (.iconst 3, 1) := dk_6 (dk_at dksL_law_5 2 rfl rfl)
theorem dL_law_291 : decode cL_law 291 = .ok (.iadd, 1) := dk_96 (dk_at dksL_law_5 3 rfl rfl)
theorem dL_law_292 : decode cL_law 292 = .ok (.iaload, 1) := dk_46 (dk_at dksL_law_5 4 rfl rfl)
theorem dL_law_293 : decode cL_law 293 = .ok (.aload_n 0, 1) := dk_42 (dk_at dksL_law_5 5 rfl rfl)
theorem dL_law_294 : decode cL_law 294 = .ok (.iload 4, 2) := dk_21 4 (dk_at dksL_law_5 6 rfl rfl)
theorem dL_law_296 : decode cL_law 296 = .ok (.iconst 4, 1) := dk_7 (dk_at dksL_law_5 8 rfl rfl)
theorem dL_law_297 : decode cL_law 297 = .ok (.iadd, 1) := dk_96 (dk_at dksL_law_5 9 rfl rfl)
theorem dL_law_298 : decode cL_law 298 = .ok (.iaload, 1) := dk_46 (dk_at dksL_law_5 10 rfl rfl)
theorem dL_law_299 : decode cL_law 299 = .ok (.aload_n 0, 1) := dk_42 (dk_at dksL_law_5 11 rfl rfl)
theorem dL_law_300 : decode cL_law 300 = .ok (.iload 4, 2) := dk_21 4 (dk_at dksL_law_5 12 rfl rfl)
theorem dL_law_302 : decode cL_law 302 = .ok (.iconst 5, 1) := dk_8 (dk_at dksL_law_5 14 rfl rfl)
theorem dL_law_303 : decode cL_law 303 = .ok (.iadd, 1) := dk_96 (dk_at dksL_law_5 15 rfl rfl)
theorem dL_law_304 : decode cL_law 304 = .ok (.iaload, 1) := dk_46 (dk_at dksL_law_5 16 rfl rfl)
theorem dL_law_305 : decode cL_law 305 = .ok (.invokevirtual 128, 3) := dk_182 0 128 (dk_at dksL_law_5 17 rfl rfl)
theorem dL_law_308 : decode cL_law 308 = .ok (.if_icmp .eq 2290, 3) := dk_159 8 242 (dk_at dksL_law_5 20 rfl rfl)
theorem dL_law_311 : decode cL_law 311 = .ok (.iconst 0, 1) := dk_3 (dk_at dksL_law_5 23 rfl rfl)
theorem dL_law_312 : decode cL_law 312 = .ok (.ireturn, 1) := dk_172 (dk_at dksL_law_6 0 rfl rfl)
theorem dL_law_313 : decode cL_law 313 = .ok (.aload_n 1, 1) := dk_43 (dk_at dksL_law_6 1 rfl rfl)
theorem dL_law_314 : decode cL_law 314 = .ok (.aload_n 0, 1) := dk_42 (dk_at dksL_law_6 2 rfl rfl)
theorem dL_law_315 : decode cL_law 315 = .ok (.iload 4, 2) := dk_21 4 (dk_at dksL_law_6 3 rfl rfl)
theorem dL_law_317 : decode cL_law 317 = .ok (.iconst 1, 1) := dk_4 (dk_at dksL_law_6 5 rfl rfl)
theorem dL_law_318 : decode cL_law 318 = .ok (.iadd, 1) := dk_96 (dk_at dksL_law_6 6 rfl rfl)
theorem dL_law_319 : decode cL_law 319 = .ok (.iaload, 1) := dk_46 (dk_at dksL_law_6 7 rfl rfl)
theorem dL_law_320 : decode cL_law 320 = .ok (.aload_n 3, 1) := dk_45 (dk_at dksL_law_6 8 rfl rfl)
theorem dL_law_321 : decode cL_law 321 = .ok (.invokestatic 129, 3) := dk_184 0 129 (dk_at dksL_law_6 9 rfl rfl)
theorem dL_law_324 : decode cL_law 324 = .ok (.istore 5, 2) := dk_54 5 (dk_at dksL_law_6 12 rfl rfl)
theorem dL_law_326 : decode cL_law 326 = .ok (.aload_n 2, 1) := dk_44 (dk_at dksL_law_6 14 rfl rfl)
theorem dL_law_327 : decode cL_law 327 = .ok (.aload_n 0, 1) := dk_42 (dk_at dksL_law_6 15 rfl rfl)
theorem dL_law_328 : decode cL_law 328 = .ok (.iload 4, 2) := dk_21 4 (dk_at dksL_law_6 16 rfl rfl)
theorem dL_law_330 : decode cL_law 330 = .ok (.iconst 1, 1) := dk_4 (dk_at dksL_law_6 18 rfl rfl)
theorem dL_law_331 : decode cL_law 331 = .ok (.iadd, 1) := dk_96 (dk_at dksL_law_6 19 rfl rfl)
theorem dL_law_332 : decode cL_law 332 = .ok (.iaload, 1) := dk_46 (dk_at dksL_law_6 20 rfl rfl)
theorem dL_law_333 : decode cL_law 333 = .ok (.invokevirtual 134, 3) := dk_182 0 134 (dk_at dksL_law_6 21 rfl rfl)
theorem dL_law_336 : decode cL_law 336 = .ok (.istore 6, 2) := dk_54 6 (dk_at dksL_law_7 0 rfl rfl)
theorem dL_law_338 : decode cL_law 338 = .ok (.aload_n 2, 1) := dk_44 (dk_at dksL_law_7 2 rfl rfl)
theorem dL_law_339 : decode cL_law 339 = .ok (.invokevirtual 135, 3) := dk_182 0 135 (dk_at dksL_law_7 3 rfl rfl)
theorem dL_law_342 : decode cL_law 342 = .ok (.iload 5, 2) := dk_21 5 (dk_at dksL_law_7 6 rfl rfl)
theorem dL_law_344 : decode cL_law 344 = .ok (.if_icmp .eq 5, 3) := dk_159 0 5 (dk_at dksL_law_7 8 rfl rfl)
theorem dL_law_347 : decode cL_law 347 = .ok (.iconst 0, 1) := dk_3 (dk_at dksL_law_7 11 rfl rfl)
theorem dL_law_348 : decode cL_law 348 = .ok (.ireturn, 1) := dk_172 (dk_at dksL_law_7 12 rfl rfl)
theorem dL_law_349 : decode cL_law 349 = .ok (.iload 5, 2) := dk_21 5 (dk_at dksL_law_7 13 rfl rfl)
theorem dL_law_351 : decode cL_law 351 = .ok (.ifCond .ne 15, 3) := dk_154 0 15 (dk_at dksL_law_7 15 rfl rfl)
theorem dL_law_354 : decode cL_law 354 = .ok (.aload_n 3, 1) := dk_45 (dk_at dksL_law_7 18 rfl rfl)
theorem dL_law_355 : decode cL_law 355 = .ok (.iconst 0, 1) := dk_3 (dk_at dksL_law_7 19 rfl rfl)
theorem dL_law_356 : decode cL_law 356 = .ok (.laload, 1) := dk_47 (dk_at dksL_law_7 20 rfl rfl)
theorem dL_law_357 : decode cL_law 357 = .ok (.iload 6, 2) := dk_21 6 (dk_at dksL_law_7 21 rfl rfl)
theorem dL_law_359 : decode cL_law 359 = .ok (.i2l, 1) := dk_133 (dk_at dksL_law_7 23 rfl rfl)
theorem dL_law_360 : decode cL_law 360 = .ok (.lcmp, 1) := dk_148 (dk_at dksL_law_8 0 rfl rfl)
theorem dL_law_361 : decode cL_law 361 = .ok (.ifCond .eq 5, 3) := dk_153 0 5 (dk_at dksL_law_8 1 rfl rfl)
theorem dL_law_364 : decode cL_law 364 = .ok (.iconst 0, 1) := dk_3 (dk_at dksL_law_8 4 rfl rfl)
theorem dL_law_365 : decode cL_law 365 = .ok (.ireturn, 1) := dk_172 (dk_at dksL_law_8 5 rfl rfl)
theorem dL_law_366 : decode cL_law 366 = .ok (.goto 2232, 3) := dk_167 8 184 (dk_at dksL_law_8 6 rfl rfl)
theorem dL_law_369 : decode cL_law 369 = .ok (.aload_n 1, 1) := dk_43 (dk_at dksL_law_8 9 rfl rfl)
theorem dL_law_370 : decode cL_law 370 = .ok (.invokevirtual 139, 3) := dk_182 0 139 (dk_at dksL_law_8 10 rfl rfl)
theorem dL_law_373 : decode cL_law 373 = .ok (.aload_n 2, 1) := dk_44 (dk_at dksL_law_8 13 rfl rfl)
theorem dL_law_374 : decode cL_law 374 = .ok (.invokevirtual 142, 3) := dk_182 0 142 (dk_at dksL_law_8 14 rfl rfl)
theorem dL_law_377 : decode cL_law 377 = .ok (.if_icmp .eq 2221, 3) := dk_159 8 173 (dk_at dksL_law_8 17 rfl rfl)
theorem dL_law_380 : decode cL_law 380 = .ok (.iconst 0, 1) := dk_3 (dk_at dksL_law_8 20 rfl rfl)
theorem dL_law_381 : decode cL_law 381 = .ok (.ireturn, 1) := dk_172 (dk_at dksL_law_8 21 rfl rfl)
theorem dL_law_382 : decode cL_law 382 = .ok (.aload_n 1, 1) := dk_43 (dk_at dksL_law_8 22 rfl rfl)
theorem dL_law_383 : decode cL_law 383 = .ok (.aload_n 0, 1) := dk_42 (dk_at dksL_law_8 23 rfl rfl)
theorem dL_law_384 : decode cL_law 384 = .ok (.iload 4, 2) := dk_21 4 (dk_at dksL_law_9 0 rfl rfl)
theorem dL_law_386 : decode cL_law 386 = .ok (.iconst 1, 1) := dk_4 (dk_at dksL_law_9 2 rfl rfl)
theorem dL_law_387 : decode cL_law 387 = .ok (.iadd, 1) := dk_96 (dk_at dksL_law_9 3 rfl rfl)
theorem dL_law_388 : decode cL_law 388 = .ok (.iaload, 1) := dk_46 (dk_at dksL_law_9 4 rfl rfl)
theorem dL_law_389 : decode cL_law 389 = .ok (.aload_n 3, 1) := dk_45 (dk_at dksL_law_9 5 rfl rfl)
theorem dL_law_390 : decode cL_law 390 = .ok (.invokestatic 143, 3) := dk_184 0 143 (dk_at dksL_law_9 6 rfl rfl)
theorem dL_law_393 : decode cL_law 393 = .ok (.istore 5, 2) := dk_54 5 (dk_at dksL_law_9 9 rfl rfl)
theorem dL_law_395 : decode cL_law 395 = .ok (.aload_n 2, 1) := dk_44 (dk_at dksL_law_9 11 rfl rfl)
theorem dL_law_396 : decode cL_law 396 = .ok (.aload_n 0, 1) := dk_42 (dk_at dksL_law_9 12 rfl rfl)
theorem dL_law_397 : decode cL_law 397 = .ok (.iload 4, 2) := dk_21 4 (dk_at dksL_law_9 13 rfl rfl)
theorem dL_law_399 : decode cL_law 399 = .ok (.iconst 1, 1) := dk_4 (dk_at dksL_law_9 15 rfl rfl)
theorem dL_law_400 : decode cL_law 400 = .ok (.iadd, 1) := dk_96 (dk_at dksL_law_9 16 rfl rfl)
theorem dL_law_401 : decode cL_law 401 = .ok (.iaload, 1) := dk_46 (dk_at dksL_law_9 17 rfl rfl)
theorem dL_law_402 : decode cL_law 402 = .ok (.invokevirtual 145, 3) := dk_182 0 145 (dk_at dksL_law_9 18 rfl rfl)
theorem dL_law_405 : decode cL_law 405 = .ok (.istore 6, 2) := dk_54 6 (dk_at dksL_law_9 21 rfl rfl)
theorem dL_law_407 : decode cL_law 407 = .ok (.aload_n 2, 1) := dk_44 (dk_at dksL_law_9 23 rfl rfl)
theorem dL_law_408 : decode cL_law 408 = .ok (.invokevirtual 135, 3) := dk_182 0 135 (dk_at dksL_law_10 0 rfl rfl)
theorem dL_law_411 : decode cL_law 411 = .ok (.iload 5, 2) := dk_21 5 (dk_at dksL_law_10 3 rfl rfl)
theorem dL_law_413 : decode cL_law 413 = .ok (.if_icmp .eq 5, 3) := dk_159 0 5 (dk_at dksL_law_10 5 rfl rfl)
theorem dL_law_416 : decode cL_law 416 = .ok (.iconst 0, 1) := dk_3 (dk_at dksL_law_10 8 rfl rfl)
theorem dL_law_417 : decode cL_law 417 = .ok (.ireturn, 1) := dk_172 (dk_at dksL_law_10 9 rfl rfl)
theorem dL_law_418 : decode cL_law 418 = .ok (.iload 5, 2) := dk_21 5 (dk_at dksL_law_10 10 rfl rfl)
theorem dL_law_420 : decode cL_law 420 = .ok (.ifCond .ne 15, 3) := dk_154 0 15 (dk_at dksL_law_10 12 rfl rfl)
theorem dL_law_423 : decode cL_law 423 = .ok (.aload_n 3, 1) := dk_45 (dk_at dksL_law_10 15 rfl rfl)
theorem dL_law_424 : decode cL_law 424 = .ok (.iconst 0, 1) := dk_3 (dk_at dksL_law_10 16 rfl rfl)
theorem dL_law_425 : decode cL_law 425 = .ok (.laload, 1) := dk_47 (dk_at dksL_law_10 17 rfl rfl)
theorem dL_law_426 : decode cL_law 426 = .ok (.iload 6, 2) := dk_21 6 (dk_at dksL_law_10 18 rfl rfl)
theorem dL_law_428 : decode cL_law 428 = .ok (.i2l, 1) := dk_133 (dk_at dksL_law_10 20 rfl rfl)
theorem dL_law_429 : decode cL_law 429 = .ok (.lcmp, 1) := dk_148 (dk_at dksL_law_10 21 rfl rfl)
theorem dL_law_430 : decode cL_law 430 = .ok (.ifCond .eq 5, 3) := dk_153 0 5 (dk_at dksL_law_11 0 rfl rfl)
theorem dL_law_433 : decode cL_law 433 = .ok (.iconst 0, 1) := dk_3 (dk_at dksL_law_11 3 rfl rfl)
theorem dL_law_434 : decode cL_law 434 = .ok (.ireturn, 1) := dk_172 (dk_at dksL_law_11 4 rfl rfl)
theorem dL_law_435 : decode cL_law 435 = .ok (.goto 2163, 3) := dk_167 8 115 (dk_at dksL_law_11 5 rfl rfl)
theorem dL_law_438 : decode cL_law 438 = .ok (.aload_n 1, 1) := dk_43 (dk_at dksL_law_11 8 rfl rfl)
theorem dL_law_439 : decode cL_law 439 = .ok (.aload_n 0, 1) := dk_42 (dk_at dksL_law_11 9 rfl rfl)
theorem dL_law_440 : decode cL_law 440 = .ok (.iload 4, 2) := dk_21 4 (dk_at dksL_law_11 10 rfl rfl)
theorem dL_law_442 : decode cL_law 442 = .ok (.iconst 1, 1) := dk_4 (dk_at dksL_law_11 12 rfl rfl)
theorem dL_law_443 : decode cL_law 443 = .ok (.iadd, 1) := dk_96 (dk_at dksL_law_11 13 rfl rfl)
theorem dL_law_444 : decode cL_law 444 = .ok (.iaload, 1) := dk_46 (dk_at dksL_law_11 14 rfl rfl)
theorem dL_law_445 : decode cL_law 445 = .ok (.aload_n 0, 1) := dk_42 (dk_at dksL_law_11 15 rfl rfl)
theorem dL_law_446 : decode cL_law 446 = .ok (.iload 4, 2) := dk_21 4 (dk_at dksL_law_11 16 rfl rfl)
theorem dL_law_448 : decode cL_law 448 = .ok (.iconst 2, 1) := dk_5 (dk_at dksL_law_11 18 rfl rfl)
theorem dL_law_449 : decode cL_law 449 = .ok (.iadd, 1) := dk_96 (dk_at dksL_law_11 19 rfl rfl)
theorem dL_law_450 : decode cL_law 450 = .ok (.iaload, 1) := dk_46 (dk_at dksL_law_11 20 rfl rfl)
theorem dL_law_451 : decode cL_law 451 = .ok (.aload_n 3, 1) := dk_45 (dk_at dksL_law_11 21 rfl rfl)
theorem dL_law_452 : decode cL_law 452 = .ok (.invokestatic 146, 3) := dk_184 0 146 (dk_at dksL_law_12 0 rfl rfl)
theorem dL_law_455 : decode cL_law 455 = .ok (.istore 5, 2) := dk_54 5 (dk_at dksL_law_12 3 rfl rfl)
theorem dL_law_457 : decode cL_law 457 = .ok (.aload_n 2, 1) := dk_44 (dk_at dksL_law_12 5 rfl rfl)
theorem dL_law_458 : decode cL_law 458 = .ok (.aload_n 0, 1) := dk_42 (dk_at dksL_law_12 6 rfl rfl)
theorem dL_law_459 : decode cL_law 459 = .ok (.iload 4, 2) := dk_21 4 (dk_at dksL_law_12 7 rfl rfl)
theorem dL_law_461 : decode cL_law 461 = .ok (.iconst 1, 1) := dk_4 (dk_at dksL_law_12 9 rfl rfl)
theorem dL_law_462 : decode cL_law 462 = .ok (.iadd, 1) := dk_96 (dk_at dksL_law_12 10 rfl rfl)
theorem dL_law_463 : decode cL_law 463 = .ok (.iaload, 1) := dk_46 (dk_at dksL_law_12 11 rfl rfl)
theorem dL_law_464 : decode cL_law 464 = .ok (.aload_n 0, 1) := dk_42 (dk_at dksL_law_12 12 rfl rfl)
theorem dL_law_465 : decode cL_law 465 = .ok (.iload 4, 2) := dk_21 4 (dk_at dksL_law_12 13 rfl rfl)
theorem dL_law_467 : decode cL_law 467 = .ok (.iconst 2, 1) := dk_5 (dk_at dksL_law_12 15 rfl rfl)
theorem dL_law_468 : decode cL_law 468 = .ok (.iadd, 1) := dk_96 (dk_at dksL_law_12 16 rfl rfl)
theorem dL_law_469 : decode cL_law 469 = .ok (.iaload, 1) := dk_46 (dk_at dksL_law_12 17 rfl rfl)
theorem dL_law_470 : decode cL_law 470 = .ok (.invokevirtual 149, 3) := dk_182 0 149 (dk_at dksL_law_12 18 rfl rfl)
theorem dL_law_473 : decode cL_law 473 = .ok (.istore 6, 2) := dk_54 6 (dk_at dksL_law_12 21 rfl rfl)
theorem dL_law_475 : decode cL_law 475 = .ok (.aload_n 2, 1) := dk_44 (dk_at dksL_law_12 23 rfl rfl)
theorem dL_law_476 : decode cL_law 476 = .ok (.invokevirtual 135, 3) := dk_182 0 135 (dk_at dksL_law_13 0 rfl rfl)
theorem dL_law_479 : decode cL_law 479 = .ok (.iload 5, 2) := dk_21 5 (dk_at dksL_law_13 3 rfl rfl)
theorem dL_law_481 : decode cL_law 481 = .ok (.if_icmp .eq 5, 3) := dk_159 0 5 (dk_at dksL_law_13 5 rfl rfl)
theorem dL_law_484 : decode cL_law 484 = .ok (.iconst 0, 1) := dk_3 (dk_at dksL_law_13 8 rfl rfl)
theorem dL_law_485 : decode cL_law 485 = .ok (.ireturn, 1) := dk_172 (dk_at dksL_law_13 9 rfl rfl)
theorem dL_law_486 : decode cL_law 486 = .ok (.iload 5, 2) := dk_21 5 (dk_at dksL_law_13 10 rfl rfl)
theorem dL_law_488 : decode cL_law 488 = .ok (.ifCond .ne 15, 3) := dk_154 0 15 (dk_at dksL_law_13 12 rfl rfl)
theorem dL_law_491 : decode cL_law 491 = .ok (.aload_n 3, 1) := dk_45 (dk_at dksL_law_13 15 rfl rfl)
theorem dL_law_492 : decode cL_law 492 = .ok (.iconst 0, 1) := dk_3 (dk_at dksL_law_13 16 rfl rfl)
theorem dL_law_493 : decode cL_law 493 = .ok (.laload, 1) := dk_47 (dk_at dksL_law_13 17 rfl rfl)
theorem dL_law_494 : decode cL_law 494 = .ok (.iload 6, 2) := dk_21 6 (dk_at dksL_law_13 18 rfl rfl)
theorem dL_law_496 : decode cL_law 496 = .ok (.i2l, 1) := dk_133 (dk_at dksL_law_13 20 rfl rfl)
theorem dL_law_497 : decode cL_law 497 = .ok (.lcmp, 1) := dk_148 (dk_at dksL_law_13 21 rfl rfl)
theorem dL_law_498 : decode cL_law 498 = .ok (.ifCond .eq 5, 3) := dk_153 0 5 (dk_at dksL_law_14 0 rfl rfl)
theorem dL_law_501 : decode cL_law 501 = .ok (.iconst 0, 1) := dk_3 (dk_at dksL_law_14 3 rfl rfl)
theorem dL_law_502 : decode cL_law 502 = .ok (.ireturn, 1) := dk_172 (dk_at dksL_law_14 4 rfl rfl)
theorem dL_law_503 : decode cL_law 503 = .ok (.goto 2095, 3) := dk_167 8 47 (dk_at dksL_law_14 5 rfl rfl)
theorem dL_law_506 : decode cL_law 506 = .ok (.aload_n 1, 1) := dk_43 (dk_at dksL_law_14 8 rfl rfl)
theorem dL_law_507 : decode cL_law 507 = .ok (.aload_n 0, 1) := dk_42 (dk_at dksL_law_14 9 rfl rfl)
theorem dL_law_508 : decode cL_law 508 = .ok (.iload 4, 2) := dk_21 4 (dk_at dksL_law_14 10 rfl rfl)
theorem dL_law_510 : decode cL_law 510 = .ok (.iconst 1, 1) := dk_4 (dk_at dksL_law_14 12 rfl rfl)
theorem dL_law_511 : decode cL_law 511 = .ok (.iadd, 1) := dk_96 (dk_at dksL_law_14 13 rfl rfl)
theorem dL_law_512 : decode cL_law 512 = .ok (.iaload, 1) := dk_46 (dk_at dksL_law_14 14 rfl rfl)
theorem dL_law_513 : decode cL_law 513 = .ok (.aload_n 0, 1) := dk_42 (dk_at dksL_law_14 15 rfl rfl)
theorem dL_law_514 : decode cL_law 514 = .ok (.iload 4, 2) := dk_21 4 (dk_at dksL_law_14 16 rfl rfl)
theorem dL_law_516 : decode cL_law 516 = .ok (.iconst 2, 1) := dk_5 (dk_at dksL_law_14 18 rfl rfl)
theorem dL_law_517 : decode cL_law 517 = .ok (.iadd, 1) := dk_96 (dk_at dksL_law_14 19 rfl rfl)
theorem dL_law_518 : decode cL_law 518 = .ok (.iaload, 1) := dk_46 (dk_at dksL_law_14 20 rfl rfl)
theorem dL_law_519 : decode cL_law 519 = .ok (.aload_n 0, 1) := dk_42 (dk_at dksL_law_14 21 rfl rfl)
theorem dL_law_520 : decode cL_law 520 = .ok (.iload 4, 2) := dk_21 4 (dk_at dksL_law_14 22 rfl rfl)
theorem dL_law_522 : decode cL_law 522 = .ok (.iconst 3, 1) := dk_6 (dk_at dksL_law_15 0 rfl rfl)
theorem dL_law_523 : decode cL_law 523 = .ok (.iadd, 1) := dk_96 (dk_at dksL_law_15 1 rfl rfl)
theorem dL_law_524 : decode cL_law 524 = .ok (.iaload, 1) := dk_46 (dk_at dksL_law_15 2 rfl rfl)
theorem dL_law_525 : decode cL_law 525 = .ok (.aload_n 3, 1) := dk_45 (dk_at dksL_law_15 3 rfl rfl)
theorem dL_law_526 : decode cL_law 526 = .ok (.invokestatic 150, 3) := dk_184 0 150 (dk_at dksL_law_15 4 rfl rfl)
theorem dL_law_529 : decode cL_law 529 = .ok (.istore 5, 2) := dk_54 5 (dk_at dksL_law_15 7 rfl rfl)
theorem dL_law_531 : decode cL_law 531 = .ok (.aload_n 2, 1) := dk_44 (dk_at dksL_law_15 9 rfl rfl)
theorem dL_law_532 : decode cL_law 532 = .ok (.aload_n 0, 1) := dk_42 (dk_at dksL_law_15 10 rfl rfl)
theorem dL_law_533 : decode cL_law 533 = .ok (.iload 4, 2) := dk_21 4 (dk_at dksL_law_15 11 rfl rfl)
theorem dL_law_535 : decode cL_law 535 = .ok (.iconst 1, 1) := dk_4 (dk_at dksL_law_15 13 rfl rfl)
theorem dL_law_536 : decode cL_law 536 = .ok (.iadd, 1) := dk_96 (dk_at dksL_law_15 14 rfl rfl)
theorem dL_law_537 : decode cL_law 537 = .ok (.iaload, 1) := dk_46 (dk_at dksL_law_15 15 rfl rfl)
theorem dL_law_538 : decode cL_law 538 = .ok (.aload_n 0, 1) := dk_42 (dk_at dksL_law_15 16 rfl rfl)
theorem dL_law_539 : decode cL_law 539 = .ok (.iload 4, 2) := dk_21 4 (dk_at dksL_law_15 17 rfl rfl)
theorem dL_law_541 : decode cL_law 541 = .ok (.iconst 2, 1) := dk_5 (dk_at dksL_law_15 19 rfl rfl)
theorem dL_law_542 : decode cL_law 542 = .ok (.iadd, 1) := dk_96 (dk_at dksL_law_15 20 rfl rfl)
theorem dL_law_543 : decode cL_law 543 = .ok (.iaload, 1) := dk_46 (dk_at dksL_law_15 21 rfl rfl)
theorem dL_law_544 : decode cL_law 544 = .ok (.aload_n 0, 1) := dk_42 (dk_at dksL_law_15 22 rfl rfl)
theorem dL_law_545 : decode cL_law 545 = .ok (.iload 4, 2) := dk_21 4 (dk_at dksL_law_16 0 rfl rfl)
theorem dL_law_547 : decode cL_law 547 = .ok (.iconst 3, 1) := dk_6 (dk_at dksL_law_16 2 rfl rfl)
theorem dL_law_548 : decode cL_law 548 = .ok (.iadd, 1) := dk_96 (dk_at dksL_law_16 3 rfl rfl)
theorem dL_law_549 : decode cL_law 549 = .ok (.iaload, 1) := dk_46 (dk_at dksL_law_16 4 rfl rfl)
theorem dL_law_550 : decode cL_law 550 = .ok (.invokevirtual 153, 3) := dk_182 0 153 (dk_at dksL_law_16 5 rfl rfl)
theorem dL_law_553 : decode cL_law 553 = .ok (.istore 6, 2) := dk_54 6 (dk_at dksL_law_16 8 rfl rfl)
theorem dL_law_555 : decode cL_law 555 = .ok (.aload_n 2, 1) := dk_44 (dk_at dksL_law_16 10 rfl rfl)
theorem dL_law_556 : decode cL_law 556 = .ok (.invokevirtual 135, 3) := dk_182 0 135 (dk_at dksL_law_16 11 rfl rfl)
theorem dL_law_559 : decode cL_law 559 = .ok (.iload 5, 2) := dk_21 5 (dk_at dksL_law_16 14 rfl rfl)
theorem dL_law_561 : decode cL_law 561 = .ok (.if_icmp .eq 5, 3) := dk_159 0 5 (dk_at dksL_law_16 16 rfl rfl)
theorem dL_law_564 : decode cL_law 564 = .ok (.iconst 0, 1) := dk_3 (dk_at dksL_law_16 19 rfl rfl)
theorem dL_law_565 : decode cL_law 565 = .ok (.ireturn, 1) := dk_172 (dk_at dksL_law_16 20 rfl rfl)
theorem dL_law_566 : decode cL_law 566 = .ok (.iload 5, 2) := dk_21 5 (dk_at dksL_law_16 21 rfl rfl)
theorem dL_law_568 : decode cL_law 568 = .ok (.ifCond .ne 15, 3) := dk_154 0 15 (dk_at dksL_law_17 0 rfl rfl)
theorem dL_law_571 : decode cL_law 571 = .ok (.aload_n 3, 1) := dk_45 (dk_at dksL_law_17 3 rfl rfl)
theorem dL_law_572 : decode cL_law 572 = .ok (.iconst 0, 1) := dk_3 (dk_at dksL_law_17 4 rfl rfl)
theorem dL_law_573 : decode cL_law 573 = .ok (.laload, 1) := dk_47 (dk_at dksL_law_17 5 rfl rfl)
theorem dL_law_574 : decode cL_law 574 = .ok (.iload 6, 2) := dk_21 6 (dk_at dksL_law_17 6 rfl rfl)
theorem dL_law_576 : decode cL_law 576 = .ok (.i2l, 1) := dk_133 (dk_at dksL_law_17 8 rfl rfl)
theorem dL_law_577 : decode cL_law 577 = .ok (.lcmp, 1) := dk_148 (dk_at dksL_law_17 9 rfl rfl)
theorem dL_law_578 : decode cL_law 578 = .ok (.ifCond .eq 5, 3) := dk_153 0 5 (dk_at dksL_law_17 10 rfl rfl)
theorem dL_law_581 : decode cL_law 581 = .ok (.iconst 0, 1) := dk_3 (dk_at dksL_law_17 13 rfl rfl)
theorem dL_law_582 : decode cL_law 582 = .ok (.ireturn, 1) := dk_172 (dk_at dksL_law_17 14 rfl rfl)
theorem dL_law_583 : decode cL_law 583 = .ok (.goto 2015, 3) := dk_167 7 223 (dk_at dksL_law_17 15 rfl rfl)
theorem dL_law_586 : decode cL_law 586 = .ok (.aload_n 1, 1) := dk_43 (dk_at dksL_law_17 18 rfl rfl)
theorem dL_law_587 : decode cL_law 587 = .ok (.aload_n 0, 1) := dk_42 (dk_at dksL_law_17 19 rfl rfl)
theorem dL_law_588 : decode cL_law 588 = .ok (.iload 4, 2) := dk_21 4 (dk_at dksL_law_17 20 rfl rfl)
theorem dL_law_590 : decode cL_law 590 = .ok (.iconst 1, 1) := dk_4 (dk_at dksL_law_17 22 rfl rfl)
theorem dL_law_591 : decode cL_law 591 = .ok (.iadd, 1) := dk_96 (dk_at dksL_law_17 23 rfl rfl)
theorem dL_law_592 : decode cL_law 592 = .ok (.iaload, 1) := dk_46 (dk_at dksL_law_18 0 rfl rfl)
theorem dL_law_593 : decode cL_law 593 = .ok (.aload_n 0, 1) := dk_42 (dk_at dksL_law_18 1 rfl rfl)
theorem dL_law_594 : decode cL_law 594 = .ok (.iload 4, 2) := dk_21 4 (dk_at dksL_law_18 2 rfl rfl)
theorem dL_law_596 : decode cL_law 596 = .ok (.iconst 2, 1) := dk_5 (dk_at dksL_law_18 4 rfl rfl)
theorem dL_law_597 : decode cL_law 597 = .ok (.iadd, 1) := dk_96 (dk_at dksL_law_18 5 rfl rfl)
theorem dL_law_598 : decode cL_law 598 = .ok (.iaload, 1) := dk_46 (dk_at dksL_law_18 6 rfl rfl)
theorem dL_law_599 : decode cL_law 599 = .ok (.aload_n 3, 1) := dk_45 (dk_at dksL_law_18 7 rfl rfl)
theorem dL_law_600 : decode cL_law 600 = .ok (.invokestatic 154, 3) := dk_184 0 154 (dk_at dksL_law_18 8 rfl rfl)
theorem dL_law_603 : decode cL_law 603 = .ok (.istore 5, 2) := dk_54 5 (dk_at dksL_law_18 11 rfl rfl)
theorem dL_law_605 : decode cL_law 605 = .ok (.aload_n 2, 1) := dk_44 (dk_at dksL_law_18 13 rfl rfl)
theorem dL_law_606 : decode cL_law 606 = .ok (.aload_n 0, 1) := dk_42 (dk_at dksL_law_18 14 rfl rfl)
theorem dL_law_607 : decode cL_law 607 = .ok (.iload 4, 2) := dk_21 4 (dk_at dksL_law_18 15 rfl rfl)
theorem dL_law_609 : decode cL_law 609 = .ok (.iconst 1, 1) := dk_4 (dk_at dksL_law_18 17 rfl rfl)
theorem dL_law_610 : decode cL_law 610 = .ok (.iadd, 1) := dk_96 (dk_at dksL_law_18 18 rfl rfl)
theorem dL_law_611 : decode cL_law 611 = .ok (.iaload, 1) := dk_46 (dk_at dksL_law_18 19 rfl rfl)
theorem dL_law_612 : decode cL_law 612 = .ok (.aload_n 0, 1) := dk_42 (dk_at dksL_law_18 20 rfl rfl)
theorem dL_law_613 : decode cL_law 613 = .ok (.iload 4, 2) := dk_21 4 (dk_at dksL_law_18 21 rfl rfl)
theorem dL_law_615 : decode cL_law 615 = .ok (.iconst 2, 1) := dk_5 (dk_at dksL_law_18 23 rfl rfl)
theorem dL_law_616 : decode cL_law 616 = .ok (.iadd, 1) := dk_96 (dk_at dksL_law_19 0 rfl rfl)
theorem dL_law_617 : decode cL_law 617 = .ok (.iaload, 1) := dk_46 (dk_at dksL_law_19 1 rfl rfl)
theorem dL_law_618 : decode cL_law 618 = .ok (.invokevirtual 156, 3) := dk_182 0 156 (dk_at dksL_law_19 2 rfl rfl)
theorem dL_law_621 : decode cL_law 621 = .ok (.istore 6, 2) := dk_54 6 (dk_at dksL_law_19 5 rfl rfl)
theorem dL_law_623 : decode cL_law 623 = .ok (.aload_n 2, 1) := dk_44 (dk_at dksL_law_19 7 rfl rfl)
theorem dL_law_624 : decode cL_law 624 = .ok (.invokevirtual 135, 3) := dk_182 0 135 (dk_at dksL_law_19 8 rfl rfl)
theorem dL_law_627 : decode cL_law 627 = .ok (.iload 5, 2) := dk_21 5 (dk_at dksL_law_19 11 rfl rfl)
theorem dL_law_629 : decode cL_law 629 = .ok (.if_icmp .eq 5, 3) := dk_159 0 5 (dk_at dksL_law_19 13 rfl rfl)
theorem dL_law_632 : decode cL_law 632 = .ok (.iconst 0, 1) := dk_3 (dk_at dksL_law_19 16 rfl rfl)
theorem dL_law_633 : decode cL_law 633 = .ok (.ireturn, 1) := dk_172 (dk_at dksL_law_19 17 rfl rfl)
theorem dL_law_634 : decode cL_law 634 = .ok (.iload 5, 2) := dk_21 5 (dk_at dksL_law_19 18 rfl rfl)
theorem dL_law_636 : decode cL_law 636 = .ok (.ifCond .ne 15, 3) := dk_154 0 15 (dk_at dksL_law_19 20 rfl rfl)
theorem dL_law_639 : decode cL_law 639 = .ok (.aload_n 3, 1) := dk_45 (dk_at dksL_law_19 23 rfl rfl)
theorem dL_law_640 : decode cL_law 640 = .ok (.iconst 0, 1) := dk_3 (dk_at dksL_law_20 0 rfl rfl)
theorem dL_law_641 : decode cL_law 641 = .ok (.laload, 1) := dk_47 (dk_at dksL_law_20 1 rfl rfl)
theorem dL_law_642 : decode cL_law 642 = .ok (.iload 6, 2) := dk_21 6 (dk_at dksL_law_20 2 rfl rfl)
theorem dL_law_644 : decode cL_law 644 = .ok (.i2l, 1) := dk_133 (dk_at dksL_law_20 4 rfl rfl)
theorem dL_law_645 : decode cL_law 645 = .ok (.lcmp, 1) := dk_148 (dk_at dksL_law_20 5 rfl rfl)
theorem dL_law_646 : decode cL_law 646 = .ok (.ifCond .eq 5, 3) := dk_153 0 5 (dk_at dksL_law_20 6 rfl rfl)
theorem dL_law_649 : decode cL_law 649 = .ok (.iconst 0, 1) := dk_3 (dk_at dksL_law_20 9 rfl rfl)
theorem dL_law_650 : decode cL_law 650 = .ok (.ireturn, 1) := dk_172 (dk_at dksL_law_20 10 rfl rfl)
theorem dL_law_651 : decode cL_law 651 = .ok (.goto 1947, 3) := dk_167 7 155 (dk_at dksL_law_20 11 rfl rfl)
theorem dL_law_654 : decode cL_law 654 = .ok (.aload_n 1, 1) := dk_43 (dk_at dksL_law_20 14 rfl rfl)
theorem dL_law_655 : decode cL_law 655 = .ok (.aload_n 0, 1) := dk_42 (dk_at dksL_law_20 15 rfl rfl)
theorem dL_law_656 : decode cL_law 656 = .ok (.iload 4, 2) := dk_21 4 (dk_at dksL_law_20 16 rfl rfl)
theorem dL_law_658 : decode cL_law 658 = .ok (.iconst 1, 1) := dk_4 (dk_at dksL_law_20 18 rfl rfl)
theorem dL_law_659 : decode cL_law 659 = .ok (.iadd, 1) := dk_96 (dk_at dksL_law_20 19 rfl rfl)
theorem dL_law_660 : decode cL_law 660 = .ok (.iaload, 1) := dk_46 (dk_at dksL_law_20 20 rfl rfl)
theorem dL_law_661 : decode cL_law 661 = .ok (.invokevirtual 157, 3) := dk_182 0 157 (dk_at dksL_law_20 21 rfl rfl)
theorem dL_law_664 : decode cL_law 664 = .ok (.aload_n 2, 1) := dk_44 (dk_at dksL_law_21 0 rfl rfl)
theorem dL_law_665 : decode cL_law 665 = .ok (.aload_n 0, 1) := dk_42 (dk_at dksL_law_21 1 rfl rfl)
theorem dL_law_666 : decode cL_law 666 = .ok (.iload 4, 2) := dk_21 4 (dk_at dksL_law_21 2 rfl rfl)
theorem dL_law_668 : decode cL_law 668 = .ok (.iconst 1, 1) := dk_4 (dk_at dksL_law_21 4 rfl rfl)
theorem dL_law_669 : decode cL_law 669 = .ok (.iadd, 1) := dk_96 (dk_at dksL_law_21 5 rfl rfl)
theorem dL_law_670 : decode cL_law 670 = .ok (.iaload, 1) := dk_46 (dk_at dksL_law_21 6 rfl rfl)
theorem dL_law_671 : decode cL_law 671 = .ok (.invokevirtual 160, 3) := dk_182 0 160 (dk_at dksL_law_21 7 rfl rfl)
theorem dL_law_674 : decode cL_law 674 = .ok (.if_icmp .eq 1924, 3) := dk_159 7 132 (dk_at dksL_law_21 10 rfl rfl)
theorem dL_law_677 : decode cL_law 677 = .ok (.iconst 0, 1) := dk_3 (dk_at dksL_law_21 13 rfl rfl)
theorem dL_law_678 : decode cL_law 678 = .ok (.ireturn, 1) := dk_172 (dk_at dksL_law_21 14 rfl rfl)
theorem dL_law_679 : decode cL_law 679 = .ok (.aload_n 1, 1) := dk_43 (dk_at dksL_law_21 15 rfl rfl)
theorem dL_law_680 : decode cL_law 680 = .ok (.aload_n 0, 1) := dk_42 (dk_at dksL_law_21 16 rfl rfl)
theorem dL_law_681 : decode cL_law 681 = .ok (.iload 4, 2) := dk_21 4 (dk_at dksL_law_21 17 rfl rfl)
theorem dL_law_683 : decode cL_law 683 = .ok (.iconst 1, 1) := dk_4 (dk_at dksL_law_21 19 rfl rfl)
theorem dL_law_684 : decode cL_law 684 = .ok (.iadd, 1) := dk_96 (dk_at dksL_law_21 20 rfl rfl)
theorem dL_law_685 : decode cL_law 685 = .ok (.iaload, 1) := dk_46 (dk_at dksL_law_21 21 rfl rfl)
theorem dL_law_686 : decode cL_law 686 = .ok (.aload_n 3, 1) := dk_45 (dk_at dksL_law_21 22 rfl rfl)
theorem dL_law_687 : decode cL_law 687 = .ok (.invokestatic 161, 3) := dk_184 0 161 (dk_at dksL_law_22 0 rfl rfl)
theorem dL_law_690 : decode cL_law 690 = .ok (.istore 5, 2) := dk_54 5 (dk_at dksL_law_22 3 rfl rfl)
theorem dL_law_692 : decode cL_law 692 = .ok (.aload_n 2, 1) := dk_44 (dk_at dksL_law_22 5 rfl rfl)
theorem dL_law_693 : decode cL_law 693 = .ok (.aload_n 0, 1) := dk_42 (dk_at dksL_law_22 6 rfl rfl)
theorem dL_law_694 : decode cL_law 694 = .ok (.iload 4, 2) := dk_21 4 (dk_at dksL_law_22 7 rfl rfl)
theorem dL_law_696 : decode cL_law 696 = .ok (.iconst 1, 1) := dk_4 (dk_at dksL_law_22 9 rfl rfl)
theorem dL_law_697 : decode cL_law 697 = .ok (.iadd, 1) := dk_96 (dk_at dksL_law_22 10 rfl rfl)
theorem dL_law_698 : decode cL_law 698 = .ok (.iaload, 1) := dk_46 (dk_at dksL_law_22 11 rfl rfl)
theorem dL_law_699 : decode cL_law 699 = .ok (.invokevirtual 163, 3) := dk_182 0 163 (dk_at dksL_law_22 12 rfl rfl)
theorem dL_law_702 : decode cL_law 702 = .ok (.istore 6, 2) := dk_54 6 (dk_at dksL_law_22 15 rfl rfl)
theorem dL_law_704 : decode cL_law 704 = .ok (.aload_n 2, 1) := dk_44 (dk_at dksL_law_22 17 rfl rfl)
theorem dL_law_705 : decode cL_law 705 = .ok (.invokevirtual 135, 3) := dk_182 0 135 (dk_at dksL_law_22 18 rfl rfl)
theorem dL_law_708 : decode cL_law 708 = .ok (.iload 5, 2) := dk_21 5 (dk_at dksL_law_22 21 rfl rfl)
theorem dL_law_710 : decode cL_law 710 = .ok (.if_icmp .eq 5, 3) := dk_159 0 5 (dk_at dksL_law_23 0 rfl rfl)
theorem dL_law_713 : decode cL_law 713 = .ok (.iconst 0, 1) := dk_3 (dk_at dksL_law_23 3 rfl rfl)
theorem dL_law_714 : decode cL_law 714 = .ok (.ireturn, 1) := dk_172 (dk_at dksL_law_23 4 rfl rfl)
theorem dL_law_715 : decode cL_law 715 = .ok (.iload 5, 2) := dk_21 5 (dk_at dksL_law_23 5 rfl rfl)
theorem dL_law_717 : decode cL_law 717 = .ok (.ifCond .ne 22, 3) := dk_154 0 22 (dk_at dksL_law_23 7 rfl rfl)
theorem dL_law_720 : decode cL_law 720 = .ok (.aload_n 3, 1) := dk_45 (dk_at dksL_law_23 10 rfl rfl)
theorem dL_law_721 : decode cL_law 721 = .ok (.iconst 0, 1) := dk_3 (dk_at dksL_law_23 11 rfl rfl)
theorem dL_law_722 : decode cL_law 722 = .ok (.laload, 1) := dk_47 (dk_at dksL_law_23 12 rfl rfl)
theorem dL_law_723 : decode cL_law 723 = .ok (.iload 6, 2) := dk_21 6 (dk_at dksL_law_23 13 rfl rfl)
theorem dL_law_725 : decode cL_law 725 = .ok (.ifCond .eq 7, 3) := dk_153 0 7 (dk_at dksL_law_23 15 rfl rfl)
theorem dL_law_728 : decode cL_law 728 = .ok (.lconst 1, 1) := dk_10 (dk_at dksL_law_23 18 rfl rfl)
theorem dL_law_729 : decode cL_law 729 = .ok (.goto 4, 3) := dk_167 0 4 (dk_at dksL_law_23 19 rfl rfl)
theorem dL_law_732 : decode cL_law 732 = .ok (.lconst 0, 1) := dk_9 (dk_at dksL_law_23 22 rfl rfl)
theorem dL_law_733 : decode cL_law 733 = .ok (.lcmp, 1) := dk_148 (dk_at dksL_law_23 23 rfl rfl)
theorem dL_law_734 : decode cL_law 734 = .ok (.ifCond .eq 5, 3) := dk_153 0 5 (dk_at dksL_law_24 0 rfl rfl)
theorem dL_law_737 : decode cL_law 737 = .ok (.iconst 0, 1) := dk_3 (dk_at dksL_law_24 3 rfl rfl)
theorem dL_law_738 : decode cL_law 738 = .ok (.ireturn, 1) := dk_172 (dk_at dksL_law_24 4 rfl rfl)
theorem dL_law_739 : decode cL_law 739 = .ok (.goto 1859, 3) := dk_167 7 67 (dk_at dksL_law_24 5 rfl rfl)
theorem dL_law_742 : decode cL_law 742 = .ok (.aload_n 1, 1) := dk_43 (dk_at dksL_law_24 8 rfl rfl)
theorem dL_law_743 : decode cL_law 743 = .ok (.aload_n 0, 1) := dk_42 (dk_at dksL_law_24 9 rfl rfl)
theorem dL_law_744 : decode cL_law 744 = .ok (.iload 4, 2) := dk_21 4 (dk_at dksL_law_24 10 rfl rfl)
theorem dL_law_746 : decode cL_law 746 = .ok (.iconst 1, 1) := dk_4 (dk_at dksL_law_24 12 rfl rfl)
theorem dL_law_747 : decode cL_law 747 = .ok (.iadd, 1) := dk_96 (dk_at dksL_law_24 13 rfl rfl)
theorem dL_law_748 : decode cL_law 748 = .ok (.iaload, 1) := dk_46 (dk_at dksL_law_24 14 rfl rfl)
theorem dL_law_749 : decode cL_law 749 = .ok (.aload_n 3, 1) := dk_45 (dk_at dksL_law_24 15 rfl rfl)
theorem dL_law_750 : decode cL_law 750 = .ok (.invokestatic 164, 3) := dk_184 0 164 (dk_at dksL_law_24 16 rfl rfl)
theorem dL_law_753 : decode cL_law 753 = .ok (.istore 5, 2) := dk_54 5 (dk_at dksL_law_24 19 rfl rfl)
theorem dL_law_755 : decode cL_law 755 = .ok (.aload_n 2, 1) := dk_44 (dk_at dksL_law_24 21 rfl rfl)
theorem dL_law_756 : decode cL_law 756 = .ok (.aload_n 0, 1) := dk_42 (dk_at dksL_law_24 22 rfl rfl)
theorem dL_law_757 : decode cL_law 757 = .ok (.iload 4, 2) := dk_21 4 (dk_at dksL_law_25 0 rfl rfl)
theorem dL_law_759 : decode cL_law 759 = .ok (.iconst 1, 1) := dk_4 (dk_at dksL_law_25 2 rfl rfl)
theorem dL_law_760 : decode cL_law 760 = .ok (.iadd, 1) := dk_96 (dk_at dksL_law_25 3 rfl rfl)
theorem dL_law_761 : decode cL_law 761 = .ok (.iaload, 1) := dk_46 (dk_at dksL_law_25 4 rfl rfl)
theorem dL_law_762 : decode cL_law 762 = .ok (.invokevirtual 166, 3) := dk_182 0 166 (dk_at dksL_law_25 5 rfl rfl)
theorem dL_law_765 : decode cL_law 765 = .ok (.istore 6, 2) := dk_54 6 (dk_at dksL_law_25 8 rfl rfl)
theorem dL_law_767 : decode cL_law 767 = .ok (.aload_n 2, 1) := dk_44 (dk_at dksL_law_25 10 rfl rfl)
theorem dL_law_768 : decode cL_law 768 = .ok (.invokevirtual 135, 3) := dk_182 0 135 (dk_at dksL_law_25 11 rfl rfl)
theorem dL_law_771 : decode cL_law 771 = .ok (.iload 5, 2) := dk_21 5 (dk_at dksL_law_25 14 rfl rfl)
theorem dL_law_773 : decode cL_law 773 = .ok (.if_icmp .eq 5, 3) := dk_159 0 5 (dk_at dksL_law_25 16 rfl rfl)
theorem dL_law_776 : decode cL_law 776 = .ok (.iconst 0, 1) := dk_3 (dk_at dksL_law_25 19 rfl rfl)
theorem dL_law_777 : decode cL_law 777 = .ok (.ireturn, 1) := dk_172 (dk_at dksL_law_25 20 rfl rfl)
theorem dL_law_778 : decode cL_law 778 = .ok (.iload 5, 2) := dk_21 5 (dk_at dksL_law_25 21 rfl rfl)
theorem dL_law_780 : decode cL_law 780 = .ok (.ifCond .ne 22, 3) := dk_154 0 22 (dk_at dksL_law_26 0 rfl rfl)
theorem dL_law_783 : decode cL_law 783 = .ok (.aload_n 3, 1) := dk_45 (dk_at dksL_law_26 3 rfl rfl)
theorem dL_law_784 : decode cL_law 784 = .ok (.iconst 0, 1) := dk_3 (dk_at dksL_law_26 4 rfl rfl)
theorem dL_law_785 : decode cL_law 785 = .ok (.laload, 1) := dk_47 (dk_at dksL_law_26 5 rfl rfl)
theorem dL_law_786 : decode cL_law 786 = .ok (.iload 6, 2) := dk_21 6 (dk_at dksL_law_26 6 rfl rfl)
theorem dL_law_788 : decode cL_law 788 = .ok (.ifCond .eq 7, 3) := dk_153 0 7 (dk_at dksL_law_26 8 rfl rfl)
theorem dL_law_791 : decode cL_law 791 = .ok (.lconst 1, 1) := dk_10 (dk_at dksL_law_26 11 rfl rfl)
theorem dL_law_792 : decode cL_law 792 = .ok (.goto 4, 3) := dk_167 0 4 (dk_at dksL_law_26 12 rfl rfl)
theorem dL_law_795 : decode cL_law 795 = .ok (.lconst 0, 1) := dk_9 (dk_at dksL_law_26 15 rfl rfl)
theorem dL_law_796 : decode cL_law 796 = .ok (.lcmp, 1) := dk_148 (dk_at dksL_law_26 16 rfl rfl)
theorem dL_law_797 : decode cL_law 797 = .ok (.ifCond .eq 5, 3) := dk_153 0 5 (dk_at dksL_law_26 17 rfl rfl)
theorem dL_law_800 : decode cL_law 800 = .ok (.iconst 0, 1) := dk_3 (dk_at dksL_law_26 20 rfl rfl)
theorem dL_law_801 : decode cL_law 801 = .ok (.ireturn, 1) := dk_172 (dk_at dksL_law_26 21 rfl rfl)
theorem dL_law_802 : decode cL_law 802 = .ok (.goto 1796, 3) := dk_167 7 4 (dk_at dksL_law_27 0 rfl rfl)
theorem dL_law_805 : decode cL_law 805 = .ok (.aload_n 1, 1) := dk_43 (dk_at dksL_law_27 3 rfl rfl)
theorem dL_law_806 : decode cL_law 806 = .ok (.aload_n 0, 1) := dk_42 (dk_at dksL_law_27 4 rfl rfl)
theorem dL_law_807 : decode cL_law 807 = .ok (.iload 4, 2) := dk_21 4 (dk_at dksL_law_27 5 rfl rfl)
theorem dL_law_809 : decode cL_law 809 = .ok (.iconst 1, 1) := dk_4 (dk_at dksL_law_27 7 rfl rfl)
theorem dL_law_810 : decode cL_law 810 = .ok (.iadd, 1) := dk_96 (dk_at dksL_law_27 8 rfl rfl)
theorem dL_law_811 : decode cL_law 811 = .ok (.iaload, 1) := dk_46 (dk_at dksL_law_27 9 rfl rfl)
theorem dL_law_812 : decode cL_law 812 = .ok (.aload_n 3, 1) := dk_45 (dk_at dksL_law_27 10 rfl rfl)
theorem dL_law_813 : decode cL_law 813 = .ok (.invokestatic 167, 3) := dk_184 0 167 (dk_at dksL_law_27 11 rfl rfl)
theorem dL_law_816 : decode cL_law 816 = .ok (.istore 5, 2) := dk_54 5 (dk_at dksL_law_27 14 rfl rfl)
theorem dL_law_818 : decode cL_law 818 = .ok (.aload_n 2, 1) := dk_44 (dk_at dksL_law_27 16 rfl rfl)
theorem dL_law_819 : decode cL_law 819 = .ok (.aload_n 0, 1) := dk_42 (dk_at dksL_law_27 17 rfl rfl)
theorem dL_law_820 : decode cL_law 820 = .ok (.iload 4, 2) := dk_21 4 (dk_at dksL_law_27 18 rfl rfl)
theorem dL_law_822 : decode cL_law 822 = .ok (.iconst 1, 1) := dk_4 (dk_at dksL_law_27 20 rfl rfl)
theorem dL_law_823 : decode cL_law 823 = .ok (.iadd, 1) := dk_96 (dk_at dksL_law_27 21 rfl rfl)
theorem dL_law_824 : decode cL_law 824 = .ok (.iaload, 1) := dk_46 (dk_at dksL_law_27 22 rfl rfl)
theorem dL_law_825 : decode cL_law 825 = .ok (.invokevirtual 169, 3) := dk_182 0 169 (dk_at dksL_law_28 0 rfl rfl)
theorem dL_law_828 : decode cL_law 828 = .ok (.istore 6, 2) := dk_54 6 (dk_at dksL_law_28 3 rfl rfl)
theorem dL_law_830 : decode cL_law 830 = .ok (.aload_n 2, 1) := dk_44 (dk_at dksL_law_28 5 rfl rfl)
theorem dL_law_831 : decode cL_law 831 = .ok (.invokevirtual 135, 3) := dk_182 0 135 (dk_at dksL_law_28 6 rfl rfl)
theorem dL_law_834 : decode cL_law 834 = .ok (.iload 5, 2) := dk_21 5 (dk_at dksL_law_28 9 rfl rfl)
theorem dL_law_836 : decode cL_law 836 = .ok (.if_icmp .eq 5, 3) := dk_159 0 5 (dk_at dksL_law_28 11 rfl rfl)
theorem dL_law_839 : decode cL_law 839 = .ok (.iconst 0, 1) := dk_3 (dk_at dksL_law_28 14 rfl rfl)
theorem dL_law_840 : decode cL_law 840 = .ok (.ireturn, 1) := dk_172 (dk_at dksL_law_28 15 rfl rfl)
theorem dL_law_841 : decode cL_law 841 = .ok (.iload 5, 2) := dk_21 5 (dk_at dksL_law_28 16 rfl rfl)
theorem dL_law_843 : decode cL_law 843 = .ok (.ifCond .ne 22, 3) := dk_154 0 22 (dk_at dksL_law_28 18 rfl rfl)
theorem dL_law_846 : decode cL_law 846 = .ok (.aload_n 3, 1) := dk_45 (dk_at dksL_law_28 21 rfl rfl)
theorem dL_law_847 : decode cL_law 847 = .ok (.iconst 0, 1) := dk_3 (dk_at dksL_law_28 22 rfl rfl)
theorem dL_law_848 : decode cL_law 848 = .ok (.laload, 1) := dk_47 (dk_at dksL_law_28 23 rfl rfl)
theorem dL_law_849 : decode cL_law 849 = .ok (.iload 6, 2) := dk_21 6 (dk_at dksL_law_29 0 rfl rfl)
theorem dL_law_851 : decode cL_law 851 = .ok (.ifCond .eq 7, 3) := dk_153 0 7 (dk_at dksL_law_29 2 rfl rfl)
theorem dL_law_854 : decode cL_law 854 = .ok (.lconst 1, 1) := dk_10 (dk_at dksL_law_29 5 rfl rfl)
theorem dL_law_855 : decode cL_law 855 = .ok (.goto 4, 3) := dk_167 0 4 (dk_at dksL_law_29 6 rfl rfl)
theorem dL_law_858 : decode cL_law 858 = .ok (.lconst 0, 1) := dk_9 (dk_at dksL_law_29 9 rfl rfl)
theorem dL_law_859 : decode cL_law 859 = .ok (.lcmp, 1) := dk_148 (dk_at dksL_law_29 10 rfl rfl)
theorem dL_law_860 : decode cL_law 860 = .ok (.ifCond .eq 5, 3) := dk_153 0 5 (dk_at dksL_law_29 11 rfl rfl)
theorem dL_law_863 : decode cL_law 863 = .ok (.iconst 0, 1) := dk_3 (dk_at dksL_law_29 14 rfl rfl)
theorem dL_law_864 : decode cL_law 864 = .ok (.ireturn, 1) := dk_172 (dk_at dksL_law_29 15 rfl rfl)
theorem dL_law_865 : decode cL_law 865 = .ok (.goto 1733, 3) := dk_167 6 197 (dk_at dksL_law_29 16 rfl rfl)
theorem dL_law_868 : decode cL_law 868 = .ok (.aload_n 1, 1) := dk_43 (dk_at dksL_law_29 19 rfl rfl)
theorem dL_law_869 : decode cL_law 869 = .ok (.aload_n 0, 1) := dk_42 (dk_at dksL_law_29 20 rfl rfl)
theorem dL_law_870 : decode cL_law 870 = .ok (.iload 4, 2) := dk_21 4 (dk_at dksL_law_29 21 rfl rfl)
theorem dL_law_872 : decode cL_law 872 = .ok (.iconst 1, 1) := dk_4 (dk_at dksL_law_29 23 rfl rfl)
theorem dL_law_873 : decode cL_law 873 = .ok (.iadd, 1) := dk_96 (dk_at dksL_law_30 0 rfl rfl)
theorem dL_law_874 : decode cL_law 874 = .ok (.iaload, 1) := dk_46 (dk_at dksL_law_30 1 rfl rfl)
theorem dL_law_875 : decode cL_law 875 = .ok (.aload_n 0, 1) := dk_42 (dk_at dksL_law_30 2 rfl rfl)
theorem dL_law_876 : decode cL_law 876 = .ok (.iload 4, 2) := dk_21 4 (dk_at dksL_law_30 3 rfl rfl)
theorem dL_law_878 : decode cL_law 878 = .ok (.iconst 2, 1) := dk_5 (dk_at dksL_law_30 5 rfl rfl)
theorem dL_law_879 : decode cL_law 879 = .ok (.iadd, 1) := dk_96 (dk_at dksL_law_30 6 rfl rfl)
theorem dL_law_880 : decode cL_law 880 = .ok (.iaload, 1) := dk_46 (dk_at dksL_law_30 7 rfl rfl)
theorem dL_law_881 : decode cL_law 881 = .ok (.aload_n 3, 1) := dk_45 (dk_at dksL_law_30 8 rfl rfl)
theorem dL_law_882 : decode cL_law 882 = .ok (.invokestatic 170, 3) := dk_184 0 170 (dk_at dksL_law_30 9 rfl rfl)
theorem dL_law_885 : decode cL_law 885 = .ok (.istore 5, 2) := dk_54 5 (dk_at dksL_law_30 12 rfl rfl)
theorem dL_law_887 : decode cL_law 887 = .ok (.aload_n 2, 1) := dk_44 (dk_at dksL_law_30 14 rfl rfl)
theorem dL_law_888 : decode cL_law 888 = .ok (.aload_n 0, 1) := dk_42 (dk_at dksL_law_30 15 rfl rfl)
theorem dL_law_889 : decode cL_law 889 = .ok (.iload 4, 2) := dk_21 4 (dk_at dksL_law_30 16 rfl rfl)
theorem dL_law_891 : decode cL_law 891 = .ok (.iconst 1, 1) := dk_4 (dk_at dksL_law_30 18 rfl rfl)
theorem dL_law_892 : decode cL_law 892 = .ok (.iadd, 1) := dk_96 (dk_at dksL_law_30 19 rfl rfl)
theorem dL_law_893 : decode cL_law 893 = .ok (.iaload, 1) := dk_46 (dk_at dksL_law_30 20 rfl rfl)
theorem dL_law_894 : decode cL_law 894 = .ok (.aload_n 0, 1) := dk_42 (dk_at dksL_law_30 21 rfl rfl)
theorem dL_law_895 : decode cL_law 895 = .ok (.iload 4, 2) := dk_21 4 (dk_at dksL_law_30 22 rfl rfl)
theorem dL_law_897 : decode cL_law 897 = .ok (.iconst 2, 1) := dk_5 (dk_at dksL_law_31 0 rfl rfl)
theorem dL_law_898 : decode cL_law 898 = .ok (.iadd, 1) := dk_96 (dk_at dksL_law_31 1 rfl rfl)
theorem dL_law_899 : decode cL_law 899 = .ok (.iaload, 1) := dk_46 (dk_at dksL_law_31 2 rfl rfl)
theorem dL_law_900 : decode cL_law 900 = .ok (.invokevirtual 172, 3) := dk_182 0 172 (dk_at dksL_law_31 3 rfl rfl)
theorem dL_law_903 : decode cL_law 903 = .ok (.istore 6, 2) := dk_54 6 (dk_at dksL_law_31 6 rfl rfl)
theorem dL_law_905 : decode cL_law 905 = .ok (.aload_n 2, 1) := dk_44 (dk_at dksL_law_31 8 rfl rfl)
theorem dL_law_906 : decode cL_law 906 = .ok (.invokevirtual 135, 3) := dk_182 0 135 (dk_at dksL_law_31 9 rfl rfl)
theorem dL_law_909 : decode cL_law 909 = .ok (.iload 5, 2) := dk_21 5 (dk_at dksL_law_31 12 rfl rfl)
theorem dL_law_911 : decode cL_law 911 = .ok (.if_icmp .eq 5, 3) := dk_159 0 5 (dk_at dksL_law_31 14 rfl rfl)
theorem dL_law_914 : decode cL_law 914 = .ok (.iconst 0, 1) := dk_3 (dk_at dksL_law_31 17 rfl rfl)
theorem dL_law_915 : decode cL_law 915 = .ok (.ireturn, 1) := dk_172 (dk_at dksL_law_31 18 rfl rfl)
theorem dL_law_916 : decode cL_law 916 = .ok (.iload 5, 2) := dk_21 5 (dk_at dksL_law_31 19 rfl rfl)
theorem dL_law_918 : decode cL_law 918 = .ok (.ifCond .ne 22, 3) := dk_154 0 22 (dk_at dksL_law_31 21 rfl rfl)
theorem dL_law_921 : decode cL_law 921 = .ok (.aload_n 3, 1) := dk_45 (dk_at dksL_law_32 0 rfl rfl)
theorem dL_law_922 : decode cL_law 922 = .ok (.iconst 0, 1) := dk_3 (dk_at dksL_law_32 1 rfl rfl)
theorem dL_law_923 : decode cL_law 923 = .ok (.laload, 1) := dk_47 (dk_at dksL_law_32 2 rfl rfl)
theorem dL_law_924 : decode cL_law 924 = .ok (.iload 6, 2) := dk_21 6 (dk_at dksL_law_32 3 rfl rfl)
theorem dL_law_926 : decode cL_law 926 = .ok (.ifCond .eq 7, 3) := dk_153 0 7 (dk_at dksL_law_32 5 rfl rfl)
theorem dL_law_929 : decode cL_law 929 = .ok (.lconst 1, 1) := dk_10 (dk_at dksL_law_32 8 rfl rfl)
theorem dL_law_930 : decode cL_law 930 = .ok (.goto 4, 3) := dk_167 0 4 (dk_at dksL_law_32 9 rfl rfl)
theorem dL_law_933 : decode cL_law 933 = .ok (.lconst 0, 1) := dk_9 (dk_at dksL_law_32 12 rfl rfl)
theorem dL_law_934 : decode cL_law 934 = .ok (.lcmp, 1) := dk_148 (dk_at dksL_law_32 13 rfl rfl)
theorem dL_law_935 : decode cL_law 935 = .ok (.ifCond .eq 5, 3) := dk_153 0 5 (dk_at dksL_law_32 14 rfl rfl)
theorem dL_law_938 : decode cL_law 938 = .ok (.iconst 0, 1) := dk_3 (dk_at dksL_law_32 17 rfl rfl)
theorem dL_law_939 : decode cL_law 939 = .ok (.ireturn, 1) := dk_172 (dk_at dksL_law_32 18 rfl rfl)
theorem dL_law_940 : decode cL_law 940 = .ok (.goto 1658, 3) := dk_167 6 122 (dk_at dksL_law_32 19 rfl rfl)
theorem dL_law_943 : decode cL_law 943 = .ok (.aload_n 1, 1) := dk_43 (dk_at dksL_law_32 22 rfl rfl)
theorem dL_law_944 : decode cL_law 944 = .ok (.invokevirtual 173, 3) := dk_182 0 173 (dk_at dksL_law_33 0 rfl rfl)
theorem dL_law_947 : decode cL_law 947 = .ok (.aload_n 2, 1) := dk_44 (dk_at dksL_law_33 3 rfl rfl)
theorem dL_law_948 : decode cL_law 948 = .ok (.invokevirtual 176, 3) := dk_182 0 176 (dk_at dksL_law_33 4 rfl rfl)
theorem dL_law_951 : decode cL_law 951 = .ok (.if_icmp .eq 1647, 3) := dk_159 6 111 (dk_at dksL_law_33 7 rfl rfl)
theorem dL_law_954 : decode cL_law 954 = .ok (.iconst 0, 1) := dk_3 (dk_at dksL_law_33 10 rfl rfl)
theorem dL_law_955 : decode cL_law 955 = .ok (.ireturn, 1) := dk_172 (dk_at dksL_law_33 11 rfl rfl)
theorem dL_law_956 : decode cL_law 956 = .ok (.aload_n 1, 1) := dk_43 (dk_at dksL_law_33 12 rfl rfl)
theorem dL_law_957 : decode cL_law 957 = .ok (.aload_n 0, 1) := dk_42 (dk_at dksL_law_33 13 rfl rfl)
theorem dL_law_958 : decode cL_law 958 = .ok (.iload 4, 2) := dk_21 4 (dk_at dksL_law_33 14 rfl rfl)
theorem dL_law_960 : decode cL_law 960 = .ok (.iconst 1, 1) := dk_4 (dk_at dksL_law_33 16 rfl rfl)
theorem dL_law_961 : decode cL_law 961 = .ok (.iadd, 1) := dk_96 (dk_at dksL_law_33 17 rfl rfl)
theorem dL_law_962 : decode cL_law 962 = .ok (.iaload, 1) := dk_46 (dk_at dksL_law_33 18 rfl rfl)
theorem dL_law_963 : decode cL_law 963 = .ok (.aload_n 3, 1) := dk_45 (dk_at dksL_law_33 19 rfl rfl)
theorem dL_law_964 : decode cL_law 964 = .ok (.invokestatic 177, 3) := dk_184 0 177 (dk_at dksL_law_33 20 rfl rfl)
theorem dL_law_967 : decode cL_law 967 = .ok (.istore 5, 2) := dk_54 5 (dk_at dksL_law_34 0 rfl rfl)
theorem dL_law_969 : decode cL_law 969 = .ok (.aload_n 2, 1) := dk_44 (dk_at dksL_law_34 2 rfl rfl)
theorem dL_law_970 : decode cL_law 970 = .ok (.aload_n 0, 1) := dk_42 (dk_at dksL_law_34 3 rfl rfl)
theorem dL_law_971 : decode cL_law 971 = .ok (.iload 4, 2) := dk_21 4 (dk_at dksL_law_34 4 rfl rfl)
theorem dL_law_973 : decode cL_law 973 = .ok (.iconst 1, 1) := dk_4 (dk_at dksL_law_34 6 rfl rfl)
theorem dL_law_974 : decode cL_law 974 = .ok (.iadd, 1) := dk_96 (dk_at dksL_law_34 7 rfl rfl)
theorem dL_law_975 : decode cL_law 975 = .ok (.iaload, 1) := dk_46 (dk_at dksL_law_34 8 rfl rfl)
theorem dL_law_976 : decode cL_law 976 = .ok (.invokevirtual 179, 3) := dk_182 0 179 (dk_at dksL_law_34 9 rfl rfl)
theorem dL_law_979 : decode cL_law 979 = .ok (.istore 6, 2) := dk_54 6 (dk_at dksL_law_34 12 rfl rfl)
theorem dL_law_981 : decode cL_law 981 = .ok (.aload_n 2, 1) := dk_44 (dk_at dksL_law_34 14 rfl rfl)
theorem dL_law_982 : decode cL_law 982 = .ok (.invokevirtual 135, 3) := dk_182 0 135 (dk_at dksL_law_34 15 rfl rfl)
theorem dL_law_985 : decode cL_law 985 = .ok (.iload 5, 2) := dk_21 5 (dk_at dksL_law_34 18 rfl rfl)
theorem dL_law_987 : decode cL_law 987 = .ok (.if_icmp .eq 5, 3) := dk_159 0 5 (dk_at dksL_law_34 20 rfl rfl)
theorem dL_law_990 : decode cL_law 990 = .ok (.iconst 0, 1) := dk_3 (dk_at dksL_law_34 23 rfl rfl)
theorem dL_law_991 : decode cL_law 991 = .ok (.ireturn, 1) := dk_172 (dk_at dksL_law_35 0 rfl rfl)
theorem dL_law_992 : decode cL_law 992 = .ok (.iload 5, 2) := dk_21 5 (dk_at dksL_law_35 1 rfl rfl)
theorem dL_law_994 : decode cL_law 994 = .ok (.ifCond .ne 15, 3) := dk_154 0 15 (dk_at dksL_law_35 3 rfl rfl)
theorem dL_law_997 : decode cL_law 997 = .ok (.aload_n 3, 1) := dk_45 (dk_at dksL_law_35 6 rfl rfl)
theorem dL_law_998 : decode cL_law 998 = .ok (.iconst 0, 1) := dk_3 (dk_at dksL_law_35 7 rfl rfl)
theorem dL_law_999 : decode cL_law 999 = .ok (.laload, 1) := dk_47 (dk_at dksL_law_35 8 rfl rfl)
theorem dL_law_1000 : decode cL_law 1000 = .ok (.iload 6, 2) := dk_21 6 (dk_at dksL_law_35 9 rfl rfl)
theorem dL_law_1002 : decode cL_law 1002 = .ok (.i2l, 1) := dk_133 (dk_at dksL_law_35 11 rfl rfl)
theorem dL_law_1003 : decode cL_law 1003 = .ok (.lcmp, 1) := dk_148 (dk_at dksL_law_35 12 rfl rfl)
theorem dL_law_1004 : decode cL_law 1004 = .ok (.ifCond .eq 5, 3) := dk_153 0 5 (dk_at dksL_law_35 13 rfl rfl)
theorem dL_law_1007 : decode cL_law 1007 = .ok (.iconst 0, 1) := dk_3 (dk_at dksL_law_35 16 rfl rfl)
theorem dL_law_1008 : decode cL_law 1008 = .ok (.ireturn, 1) := dk_172 (dk_at dksL_law_35 17 rfl rfl)
theorem dL_law_1009 : decode cL_law 1009 = .ok (.goto 1589, 3) := dk_167 6 53 (dk_at dksL_law_35 18 rfl rfl)
theorem dL_law_1012 : decode cL_law 1012 = .ok (.aload_n 1, 1) := dk_43 (dk_at dksL_law_35 21 rfl rfl)
theorem dL_law_1013 : decode cL_law 1013 = .ok (.aload_n 0, 1) := dk_42 (dk_at dksL_law_35 22 rfl rfl)
theorem dL_law_1014 : decode cL_law 1014 = .ok (.iload 4, 2) := dk_21 4 (dk_at dksL_law_36 0 rfl rfl)
theorem dL_law_1016 : decode cL_law 1016 = .ok (.iconst 1, 1) := dk_4 (dk_at dksL_law_36 2 rfl rfl)
theorem dL_law_1017 : decode cL_law 1017 = .ok (.iadd, 1) := dk_96 (dk_at dksL_law_36 3 rfl rfl)
theorem dL_law_1018 : decode cL_law 1018 = .ok (.iaload, 1) := dk_46 (dk_at dksL_law_36 4 rfl rfl)
theorem dL_law_1019 : decode cL_law 1019 = .ok (.aload_n 3, 1) := dk_45 (dk_at dksL_law_36 5 rfl rfl)
theorem dL_law_1020 : decode cL_law 1020 = .ok (.invokestatic 180, 3) := dk_184 0 180 (dk_at dksL_law_36 6 rfl rfl)
theorem dL_law_1023 : decode cL_law 1023 = .ok (.istore 5, 2) := dk_54 5 (dk_at dksL_law_36 9 rfl rfl)
theorem dL_law_1025 : decode cL_law 1025 = .ok (.aload_n 2, 1) := dk_44 (dk_at dksL_law_36 11 rfl rfl)
theorem dL_law_1026 : decode cL_law 1026 = .ok (.aload_n 0, 1) := dk_42 (dk_at dksL_law_36 12 rfl rfl)
theorem dL_law_1027 : decode cL_law 1027 = .ok (.iload 4, 2) := dk_21 4 (dk_at dksL_law_36 13 rfl rfl)
theorem dL_law_1029 : decode cL_law 1029 = .ok (.iconst 1, 1) := dk_4 (dk_at dksL_law_36 15 rfl rfl)
theorem dL_law_1030 : decode cL_law 1030 = .ok (.iadd, 1) := dk_96 (dk_at dksL_law_36 16 rfl rfl)
theorem dL_law_1031 : decode cL_law 1031 = .ok (.iaload, 1) := dk_46 (dk_at dksL_law_36 17 rfl rfl)
theorem dL_law_1032 : decode cL_law 1032 = .ok (.invokevirtual 182, 3) := dk_182 0 182 (dk_at dksL_law_36 18 rfl rfl)
theorem dL_law_1035 : decode cL_law 1035 = .ok (.istore 6, 2) := dk_54 6 (dk_at dksL_law_36 21 rfl rfl)
theorem dL_law_1037 : decode cL_law 1037 = .ok (.aload_n 2, 1) := dk_44 (dk_at dksL_law_36 23 rfl rfl)
theorem dL_law_1038 : decode cL_law 1038 = .ok (.invokevirtual 135, 3) := dk_182 0 135 (dk_at dksL_law_37 0 rfl rfl)
theorem dL_law_1041 : decode cL_law 1041 = .ok (.iload 5, 2) := dk_21 5 (dk_at dksL_law_37 3 rfl rfl)
theorem dL_law_1043 : decode cL_law 1043 = .ok (.if_icmp .eq 5, 3) := dk_159 0 5 (dk_at dksL_law_37 5 rfl rfl)
theorem dL_law_1046 : decode cL_law 1046 = .ok (.iconst 0, 1) := dk_3 (dk_at dksL_law_37 8 rfl rfl)
theorem dL_law_1047 : decode cL_law 1047 = .ok (.ireturn, 1) := dk_172 (dk_at dksL_law_37 9 rfl rfl)
theorem dL_law_1048 : decode cL_law 1048 = .ok (.iload 5, 2) := dk_21 5 (dk_at dksL_law_37 10 rfl rfl)
theorem dL_law_1050 : decode cL_law 1050 = .ok (.ifCond .ne 15, 3) := dk_154 0 15 (dk_at dksL_law_37 12 rfl rfl)
theorem dL_law_1053 : decode cL_law 1053 = .ok (.aload_n 3, 1) := dk_45 (dk_at dksL_law_37 15 rfl rfl)
theorem dL_law_1054 : decode cL_law 1054 = .ok (.iconst 0, 1) := dk_3 (dk_at dksL_law_37 16 rfl rfl)
theorem dL_law_1055 : decode cL_law 1055 = .ok (.laload, 1) := dk_47 (dk_at dksL_law_37 17 rfl rfl)
theorem dL_law_1056 : decode cL_law 1056 = .ok (.iload 6, 2) := dk_21 6 (dk_at dksL_law_37 18 rfl rfl)
theorem dL_law_1058 : decode cL_law 1058 = .ok (.i2l, 1) := dk_133 (dk_at dksL_law_37 20 rfl rfl)
theorem dL_law_1059 : decode cL_law 1059 = .ok (.lcmp, 1) := dk_148 (dk_at dksL_law_37 21 rfl rfl)
theorem dL_law_1060 : decode cL_law 1060 = .ok (.ifCond .eq 5, 3) := dk_153 0 5 (dk_at dksL_law_38 0 rfl rfl)
theorem dL_law_1063 : decode cL_law 1063 = .ok (.iconst 0, 1) := dk_3 (dk_at dksL_law_38 3 rfl rfl)
theorem dL_law_1064 : decode cL_law 1064 = .ok (.ireturn, 1) := dk_172 (dk_at dksL_law_38 4 rfl rfl)
theorem dL_law_1065 : decode cL_law 1065 = .ok (.goto 1533, 3) := dk_167 5 253 (dk_at dksL_law_38 5 rfl rfl)
theorem dL_law_1068 : decode cL_law 1068 = .ok (.aload_n 1, 1) := dk_43 (dk_at dksL_law_38 8 rfl rfl)
theorem dL_law_1069 : decode cL_law 1069 = .ok (.invokevirtual 183, 3) := dk_182 0 183 (dk_at dksL_law_38 9 rfl rfl)
theorem dL_law_1072 : decode cL_law 1072 = .ok (.aload_n 2, 1) := dk_44 (dk_at dksL_law_38 12 rfl rfl)
theorem dL_law_1073 : decode cL_law 1073 = .ok (.invokevirtual 186, 3) := dk_182 0 186 (dk_at dksL_law_38 13 rfl rfl)
theorem dL_law_1076 : decode cL_law 1076 = .ok (.if_icmp .eq 1522, 3) := dk_159 5 242 (dk_at dksL_law_38 16 rfl rfl)
theorem dL_law_1079 : decode cL_law 1079 = .ok (.iconst 0, 1) := dk_3 (dk_at dksL_law_38 19 rfl rfl)
theorem dL_law_1080 : decode cL_law 1080 = .ok (.ireturn, 1) := dk_172 (dk_at dksL_law_38 20 rfl rfl)
theorem dL_law_1081 : decode cL_law 1081 = .ok (.aload_n 1, 1) := dk_43 (dk_at dksL_law_38 21 rfl rfl)
theorem dL_law_1082 : decode cL_law 1082 = .ok (.aload_n 0, 1) := dk_42 (dk_at dksL_law_38 22 rfl rfl)
theorem dL_law_1083 : decode cL_law 1083 = .ok (.iload 4, 2) := dk_21 4 (dk_at dksL_law_39 0 rfl rfl)
theorem dL_law_1085 : decode cL_law 1085 = .ok (.iconst 1, 1) := dk_4 (dk_at dksL_law_39 2 rfl rfl)
theorem dL_law_1086 : decode cL_law 1086 = .ok (.iadd, 1) := dk_96 (dk_at dksL_law_39 3 rfl rfl)
theorem dL_law_1087 : decode cL_law 1087 = .ok (.iaload, 1) := dk_46 (dk_at dksL_law_39 4 rfl rfl)
theorem dL_law_1088 : decode cL_law 1088 = .ok (.aload_n 3, 1) := dk_45 (dk_at dksL_law_39 5 rfl rfl)
theorem dL_law_1089 : decode cL_law 1089 = .ok (.invokestatic 187, 3) := dk_184 0 187 (dk_at dksL_law_39 6 rfl rfl)
theorem dL_law_1092 : decode cL_law 1092 = .ok (.istore 5, 2) := dk_54 5 (dk_at dksL_law_39 9 rfl rfl)
theorem dL_law_1094 : decode cL_law 1094 = .ok (.aload_n 2, 1) := dk_44 (dk_at dksL_law_39 11 rfl rfl)
theorem dL_law_1095 : decode cL_law 1095 = .ok (.aload_n 0, 1) := dk_42 (dk_at dksL_law_39 12 rfl rfl)
theorem dL_law_1096 : decode cL_law 1096 = .ok (.iload 4, 2) := dk_21 4 (dk_at dksL_law_39 13 rfl rfl)
theorem dL_law_1098 : decode cL_law 1098 = .ok (.iconst 1, 1) := dk_4 (dk_at dksL_law_39 15 rfl rfl)
theorem dL_law_1099 : decode cL_law 1099 = .ok (.iadd, 1) := dk_96 (dk_at dksL_law_39 16 rfl rfl)
theorem dL_law_1100 : decode cL_law 1100 = .ok (.iaload, 1) := dk_46 (dk_at dksL_law_39 17 rfl rfl)
theorem dL_law_1101 : decode cL_law 1101 = .ok (.invokevirtual 189, 3) := dk_182 0 189 (dk_at dksL_law_39 18 rfl rfl)
theorem dL_law_1104 : decode cL_law 1104 = .ok (.istore 6, 2) := dk_54 6 (dk_at dksL_law_39 21 rfl rfl)
theorem dL_law_1106 : decode cL_law 1106 = .ok (.aload_n 2, 1) := dk_44 (dk_at dksL_law_39 23 rfl rfl)
theorem dL_law_1107 : decode cL_law 1107 = .ok (.invokevirtual 135, 3) := dk_182 0 135 (dk_at dksL_law_40 0 rfl rfl)
theorem dL_law_1110 : decode cL_law 1110 = .ok (.iload 5, 2) := dk_21 5 (dk_at dksL_law_40 3 rfl rfl)
theorem dL_law_1112 : decode cL_law 1112 = .ok (.if_icmp .eq 5, 3) := dk_159 0 5 (dk_at dksL_law_40 5 rfl rfl)
theorem dL_law_1115 : decode cL_law 1115 = .ok (.iconst 0, 1) := dk_3 (dk_at dksL_law_40 8 rfl rfl)
theorem dL_law_1116 : decode cL_law 1116 = .ok (.ireturn, 1) := dk_172 (dk_at dksL_law_40 9 rfl rfl)
theorem dL_law_1117 : decode cL_law 1117 = .ok (.iload 5, 2) := dk_21 5 (dk_at dksL_law_40 10 rfl rfl)
theorem dL_law_1119 : decode cL_law 1119 = .ok (.ifCond .ne 15, 3) := dk_154 0 15 (dk_at dksL_law_40 12 rfl rfl)
theorem dL_law_1122 : decode cL_law 1122 = .ok (.aload_n 3, 1) := dk_45 (dk_at dksL_law_40 15 rfl rfl)
theorem dL_law_1123 : decode cL_law 1123 = .ok (.iconst 0, 1) := dk_3 (dk_at dksL_law_40 16 rfl rfl)
theorem dL_law_1124 : decode cL_law 1124 = .ok (.laload, 1) := dk_47 (dk_at dksL_law_40 17 rfl rfl)
theorem dL_law_1125 : decode cL_law 1125 = .ok (.iload 6, 2) := dk_21 6 (dk_at dksL_law_40 18 rfl rfl)
theorem dL_law_1127 : decode cL_law 1127 = .ok (.i2l, 1) := dk_133 (dk_at dksL_law_40 20 rfl rfl)
theorem dL_law_1128 : decode cL_law 1128 = .ok (.lcmp, 1) := dk_148 (dk_at dksL_law_40 21 rfl rfl)
theorem dL_law_1129 : decode cL_law 1129 = .ok (.ifCond .eq 5, 3) := dk_153 0 5 (dk_at dksL_law_41 0 rfl rfl)
theorem dL_law_1132 : decode cL_law 1132 = .ok (.iconst 0, 1) := dk_3 (dk_at dksL_law_41 3 rfl rfl)
theorem dL_law_1133 : decode cL_law 1133 = .ok (.ireturn, 1) := dk_172 (dk_at dksL_law_41 4 rfl rfl)
theorem dL_law_1134 : decode cL_law 1134 = .ok (.goto 1464, 3) := dk_167 5 184 (dk_at dksL_law_41 5 rfl rfl)
theorem dL_law_1137 : decode cL_law 1137 = .ok (.aload_n 1, 1) := dk_43 (dk_at dksL_law_41 8 rfl rfl)
theorem dL_law_1138 : decode cL_law 1138 = .ok (.invokevirtual 190, 3) := dk_182 0 190 (dk_at dksL_law_41 9 rfl rfl)
theorem dL_law_1141 : decode cL_law 1141 = .ok (.aload_n 2, 1) := dk_44 (dk_at dksL_law_41 12 rfl rfl)
theorem dL_law_1142 : decode cL_law 1142 = .ok (.invokevirtual 193, 3) := dk_182 0 193 (dk_at dksL_law_41 13 rfl rfl)
theorem dL_law_1145 : decode cL_law 1145 = .ok (.if_icmp .eq 1453, 3) := dk_159 5 173 (dk_at dksL_law_41 16 rfl rfl)
theorem dL_law_1148 : decode cL_law 1148 = .ok (.iconst 0, 1) := dk_3 (dk_at dksL_law_41 19 rfl rfl)
theorem dL_law_1149 : decode cL_law 1149 = .ok (.ireturn, 1) := dk_172 (dk_at dksL_law_41 20 rfl rfl)
theorem dL_law_1150 : decode cL_law 1150 = .ok (.aload_n 1, 1) := dk_43 (dk_at dksL_law_41 21 rfl rfl)
theorem dL_law_1151 : decode cL_law 1151 = .ok (.invokevirtual 194, 3) := dk_182 0 194 (dk_at dksL_law_42 0 rfl rfl)
theorem dL_law_1154 : decode cL_law 1154 = .ok (.aload_n 2, 1) := dk_44 (dk_at dksL_law_42 3 rfl rfl)
theorem dL_law_1155 : decode cL_law 1155 = .ok (.invokevirtual 197, 3) := dk_182 0 197 (dk_at dksL_law_42 4 rfl rfl)
theorem dL_law_1158 : decode cL_law 1158 = .ok (.if_icmp .eq 1440, 3) := dk_159 5 160 (dk_at dksL_law_42 7 rfl rfl)
theorem dL_law_1161 : decode cL_law 1161 = .ok (.iconst 0, 1) := dk_3 (dk_at dksL_law_42 10 rfl rfl)
theorem dL_law_1162 : decode cL_law 1162 = .ok (.ireturn, 1) := dk_172 (dk_at dksL_law_42 11 rfl rfl)
theorem dL_law_1163 : decode cL_law 1163 = .ok (.aload_n 1, 1) := dk_43 (dk_at dksL_law_42 12 rfl rfl)
theorem dL_law_1164 : decode cL_law 1164 = .ok (.invokevirtual 198, 3) := dk_182 0 198 (dk_at dksL_law_42 13 rfl rfl)
theorem dL_law_1167 : decode cL_law 1167 = .ok (.aload_n 2, 1) := dk_44 (dk_at dksL_law_42 16 rfl rfl)
theorem dL_law_1168 : decode cL_law 1168 = .ok (.invokevirtual 201, 3) := dk_182 0 201 (dk_at dksL_law_42 17 rfl rfl)
theorem dL_law_1171 : decode cL_law 1171 = .ok (.if_icmp .eq 1427, 3) := dk_159 5 147 (dk_at dksL_law_42 20 rfl rfl)
theorem dL_law_1174 : decode cL_law 1174 = .ok (.iconst 0, 1) := dk_3 (dk_at dksL_law_42 23 rfl rfl)
theorem dL_law_1175 : decode cL_law 1175 = .ok (.ireturn, 1) := dk_172 (dk_at dksL_law_43 0 rfl rfl)
theorem dL_law_1176 : decode cL_law 1176 = .ok (.aload_n 1, 1) := dk_43 (dk_at dksL_law_43 1 rfl rfl)
theorem dL_law_1177 : decode cL_law 1177 = .ok (.aload_n 0, 1) := dk_42 (dk_at dksL_law_43 2 rfl rfl)
theorem dL_law_1178 : decode cL_law 1178 = .ok (.iload 4, 2) := dk_21 4 (dk_at dksL_law_43 3 rfl rfl)
theorem dL_law_1180 : decode cL_law 1180 = .ok (.iconst 1, 1) := dk_4 (dk_at dksL_law_43 5 rfl rfl)
theorem dL_law_1181 : decode cL_law 1181 = .ok (.iadd, 1) := dk_96 (dk_at dksL_law_43 6 rfl rfl)
theorem dL_law_1182 : decode cL_law 1182 = .ok (.iaload, 1) := dk_46 (dk_at dksL_law_43 7 rfl rfl)
theorem dL_law_1183 : decode cL_law 1183 = .ok (.aload_n 0, 1) := dk_42 (dk_at dksL_law_43 8 rfl rfl)
theorem dL_law_1184 : decode cL_law 1184 = .ok (.iload 4, 2) := dk_21 4 (dk_at dksL_law_43 9 rfl rfl)
theorem dL_law_1186 : decode cL_law 1186 = .ok (.iconst 2, 1) := dk_5 (dk_at dksL_law_43 11 rfl rfl)
theorem dL_law_1187 : decode cL_law 1187 = .ok (.iadd, 1) := dk_96 (dk_at dksL_law_43 12 rfl rfl)
theorem dL_law_1188 : decode cL_law 1188 = .ok (.iaload, 1) := dk_46 (dk_at dksL_law_43 13 rfl rfl)
theorem dL_law_1189 : decode cL_law 1189 = .ok (.aload_n 0, 1) := dk_42 (dk_at dksL_law_43 14 rfl rfl)
theorem dL_law_1190 : decode cL_law 1190 = .ok (.iload 4, 2) := dk_21 4 (dk_at dksL_law_43 15 rfl rfl)
theorem dL_law_1192 : decode cL_law 1192 = .ok (.iconst 3, 1) := dk_6 (dk_at dksL_law_43 17 rfl rfl)
theorem dL_law_1193 : decode cL_law 1193 = .ok (.iadd, 1) := dk_96 (dk_at dksL_law_43 18 rfl rfl)
theorem dL_law_1194 : decode cL_law 1194 = .ok (.iaload, 1) := dk_46 (dk_at dksL_law_43 19 rfl rfl)
theorem dL_law_1195 : decode cL_law 1195 = .ok (.aload_n 3, 1) := dk_45 (dk_at dksL_law_43 20 rfl rfl)
theorem dL_law_1196 : decode cL_law 1196 = .ok (.invokestatic 202, 3) := dk_184 0 202 (dk_at dksL_law_43 21 rfl rfl)
theorem dL_law_1199 : decode cL_law 1199 = .ok (.istore 5, 2) := dk_54 5 (dk_at dksL_law_44 0 rfl rfl)
theorem dL_law_1201 : decode cL_law 1201 = .ok (.aload_n 2, 1) := dk_44 (dk_at dksL_law_44 2 rfl rfl)
theorem dL_law_1202 : decode cL_law 1202 = .ok (.aload_n 0, 1) := dk_42 (dk_at dksL_law_44 3 rfl rfl)
theorem dL_law_1203 : decode cL_law 1203 = .ok (.iload 4, 2) := dk_21 4 (dk_at dksL_law_44 4 rfl rfl)
theorem dL_law_1205 : decode cL_law 1205 = .ok (.iconst 1, 1) := dk_4 (dk_at dksL_law_44 6 rfl rfl)
theorem dL_law_1206 : decode cL_law 1206 = .ok (.iadd, 1) := dk_96 (dk_at dksL_law_44 7 rfl rfl)
theorem dL_law_1207 : decode cL_law 1207 = .ok (.iaload, 1) := dk_46 (dk_at dksL_law_44 8 rfl rfl)
theorem dL_law_1208 : decode cL_law 1208 = .ok (.aload_n 0, 1) := dk_42 (dk_at dksL_law_44 9 rfl rfl)
theorem dL_law_1209 : decode cL_law 1209 = .ok (.iload 4, 2) := dk_21 4 (dk_at dksL_law_44 10 rfl rfl)
theorem dL_law_1211 : decode cL_law 1211 = .ok (.iconst 2, 1) := dk_5 (dk_at dksL_law_44 12 rfl rfl)
theorem dL_law_1212 : decode cL_law 1212 = .ok (.iadd, 1) := dk_96 (dk_at dksL_law_44 13 rfl rfl)
theorem dL_law_1213 : decode cL_law 1213 = .ok (.iaload, 1) := dk_46 (dk_at dksL_law_44 14 rfl rfl)
theorem dL_law_1214 : decode cL_law 1214 = .ok (.aload_n 0, 1) := dk_42 (dk_at dksL_law_44 15 rfl rfl)
theorem dL_law_1215 : decode cL_law 1215 = .ok (.iload 4, 2) := dk_21 4 (dk_at dksL_law_44 16 rfl rfl)
theorem dL_law_1217 : decode cL_law 1217 = .ok (.iconst 3, 1) := dk_6 (dk_at dksL_law_44 18 rfl rfl)
theorem dL_law_1218 : decode cL_law 1218 = .ok (.iadd, 1) := dk_96 (dk_at dksL_law_44 19 rfl rfl)
theorem dL_law_1219 : decode cL_law 1219 = .ok (.iaload, 1) := dk_46 (dk_at dksL_law_44 20 rfl rfl)
theorem dL_law_1220 : decode cL_law 1220 = .ok (.invokevirtual 204, 3) := dk_182 0 204 (dk_at dksL_law_44 21 rfl rfl)
theorem dL_law_1223 : decode cL_law 1223 = .ok (.istore 6, 2) := dk_54 6 (dk_at dksL_law_45 0 rfl rfl)
theorem dL_law_1225 : decode cL_law 1225 = .ok (.aload_n 2, 1) := dk_44 (dk_at dksL_law_45 2 rfl rfl)
theorem dL_law_1226 : decode cL_law 1226 = .ok (.invokevirtual 135, 3) := dk_182 0 135 (dk_at dksL_law_45 3 rfl rfl)
theorem dL_law_1229 : decode cL_law 1229 = .ok (.iload 5, 2) := dk_21 5 (dk_at dksL_law_45 6 rfl rfl)
theorem dL_law_1231 : decode cL_law 1231 = .ok (.if_icmp .eq 5, 3) := dk_159 0 5 (dk_at dksL_law_45 8 rfl rfl)
theorem dL_law_1234 : decode cL_law 1234 = .ok (.iconst 0, 1) := dk_3 (dk_at dksL_law_45 11 rfl rfl)
theorem dL_law_1235 : decode cL_law 1235 = .ok (.ireturn, 1) := dk_172 (dk_at dksL_law_45 12 rfl rfl)
theorem dL_law_1236 : decode cL_law 1236 = .ok (.iload 5, 2) := dk_21 5 (dk_at dksL_law_45 13 rfl rfl)
theorem dL_law_1238 : decode cL_law 1238 = .ok (.ifCond .ne 15, 3) := dk_154 0 15 (dk_at dksL_law_45 15 rfl rfl)
theorem dL_law_1241 : decode cL_law 1241 = .ok (.aload_n 3, 1) := dk_45 (dk_at dksL_law_45 18 rfl rfl)
theorem dL_law_1242 : decode cL_law 1242 = .ok (.iconst 0, 1) := dk_3 (dk_at dksL_law_45 19 rfl rfl)
theorem dL_law_1243 : decode cL_law 1243 = .ok (.laload, 1) := dk_47 (dk_at dksL_law_45 20 rfl rfl)
theorem dL_law_1244 : decode cL_law 1244 = .ok (.iload 6, 2) := dk_21 6 (dk_at dksL_law_45 21 rfl rfl)
theorem dL_law_1246 : decode cL_law 1246 = .ok (.i2l, 1) := dk_133 (dk_at dksL_law_45 23 rfl rfl)
theorem dL_law_1247 : decode cL_law 1247 = .ok (.lcmp, 1) := dk_148 (dk_at dksL_law_46 0 rfl rfl)
theorem dL_law_1248 : decode cL_law 1248 = .ok (.ifCond .eq 5, 3) := dk_153 0 5 (dk_at dksL_law_46 1 rfl rfl)
theorem dL_law_1251 : decode cL_law 1251 = .ok (.iconst 0, 1) := dk_3 (dk_at dksL_law_46 4 rfl rfl)
theorem dL_law_1252 : decode cL_law 1252 = .ok (.ireturn, 1) := dk_172 (dk_at dksL_law_46 5 rfl rfl)
theorem dL_law_1253 : decode cL_law 1253 = .ok (.goto 1345, 3) := dk_167 5 65 (dk_at dksL_law_46 6 rfl rfl)
theorem dL_law_1256 : decode cL_law 1256 = .ok (.aload_n 1, 1) := dk_43 (dk_at dksL_law_46 9 rfl rfl)
theorem dL_law_1257 : decode cL_law 1257 = .ok (.aload_n 0, 1) := dk_42 (dk_at dksL_law_46 10 rfl rfl)
theorem dL_law_1258 : decode cL_law 1258 = .ok (.iload 4, 2) := dk_21 4 (dk_at dksL_law_46 11 rfl rfl)
theorem dL_law_1260 : decode cL_law 1260 = .ok (.iconst 1, 1) := dk_4 (dk_at dksL_law_46 13 rfl rfl)
theorem dL_law_1261 : decode cL_law 1261 = .ok (.iadd, 1) := dk_96 (dk_at dksL_law_46 14 rfl rfl)
theorem dL_law_1262 : decode cL_law 1262 = .ok (.iaload, 1) := dk_46 (dk_at dksL_law_46 15 rfl rfl)
theorem dL_law_1263 : decode cL_law 1263 = .ok (.aload_n 0, 1) := dk_42 (dk_at dksL_law_46 16 rfl rfl)
theorem dL_law_1264 : decode cL_law 1264 = .ok (.iload 4, 2) := dk_21 4 (dk_at dksL_law_46 17 rfl rfl)
theorem dL_law_1266 : decode cL_law 1266 = .ok (.iconst 2, 1) := dk_5 (dk_at dksL_law_46 19 rfl rfl)
theorem dL_law_1267 : decode cL_law 1267 = .ok (.iadd, 1) := dk_96 (dk_at dksL_law_46 20 rfl rfl)
theorem dL_law_1268 : decode cL_law 1268 = .ok (.iaload, 1) := dk_46 (dk_at dksL_law_46 21 rfl rfl)
theorem dL_law_1269 : decode cL_law 1269 = .ok (.aload_n 3, 1) := dk_45 (dk_at dksL_law_46 22 rfl rfl)
theorem dL_law_1270 : decode cL_law 1270 = .ok (.invokestatic 205, 3) := dk_184 0 205 (dk_at dksL_law_47 0 rfl rfl)
theorem dL_law_1273 : decode cL_law 1273 = .ok (.istore 5, 2) := dk_54 5 (dk_at dksL_law_47 3 rfl rfl)
theorem dL_law_1275 : decode cL_law 1275 = .ok (.aload_n 2, 1) := dk_44 (dk_at dksL_law_47 5 rfl rfl)
theorem dL_law_1276 : decode cL_law 1276 = .ok (.aload_n 0, 1) := dk_42 (dk_at dksL_law_47 6 rfl rfl)
theorem dL_law_1277 : decode cL_law 1277 = .ok (.iload 4, 2) := dk_21 4 (dk_at dksL_law_47 7 rfl rfl)
theorem dL_law_1279 : decode cL_law 1279 = .ok (.iconst 1, 1) := dk_4 (dk_at dksL_law_47 9 rfl rfl)
theorem dL_law_1280 : decode cL_law 1280 = .ok (.iadd, 1) := dk_96 (dk_at dksL_law_47 10 rfl rfl)
theorem dL_law_1281 : decode cL_law 1281 = .ok (.iaload, 1) := dk_46 (dk_at dksL_law_47 11 rfl rfl)
theorem dL_law_1282 : decode cL_law 1282 = .ok (.aload_n 0, 1) := dk_42 (dk_at dksL_law_47 12 rfl rfl)
theorem dL_law_1283 : decode cL_law 1283 = .ok (.iload 4, 2) := dk_21 4 (dk_at dksL_law_47 13 rfl rfl)
theorem dL_law_1285 : decode cL_law 1285 = .ok (.iconst 2, 1) := dk_5 (dk_at dksL_law_47 15 rfl rfl)
theorem dL_law_1286 : decode cL_law 1286 = .ok (.iadd, 1) := dk_96 (dk_at dksL_law_47 16 rfl rfl)
theorem dL_law_1287 : decode cL_law 1287 = .ok (.iaload, 1) := dk_46 (dk_at dksL_law_47 17 rfl rfl)
theorem dL_law_1288 : decode cL_law 1288 = .ok (.invokevirtual 207, 3) := dk_182 0 207 (dk_at dksL_law_47 18 rfl rfl)
theorem dL_law_1291 : decode cL_law 1291 = .ok (.lstore 6, 2) := dk_55 6 (dk_at dksL_law_47 21 rfl rfl)
theorem dL_law_1293 : decode cL_law 1293 = .ok (.aload_n 2, 1) := dk_44 (dk_at dksL_law_47 23 rfl rfl)
theorem dL_law_1294 : decode cL_law 1294 = .ok (.invokevirtual 135, 3) := dk_182 0 135 (dk_at dksL_law_48 0 rfl rfl)
theorem dL_law_1297 : decode cL_law 1297 = .ok (.iload 5, 2) := dk_21 5 (dk_at dksL_law_48 3 rfl rfl)
theorem dL_law_1299 : decode cL_law 1299 = .ok (.if_icmp .eq 5, 3) := dk_159 0 5 (dk_at dksL_law_48 5 rfl rfl)
theorem dL_law_1302 : decode cL_law 1302 = .ok (.iconst 0, 1) := dk_3 (dk_at dksL_law_48 8 rfl rfl)
theorem dL_law_1303 : decode cL_law 1303 = .ok (.ireturn, 1) := dk_172 (dk_at dksL_law_48 9 rfl rfl)
theorem dL_law_1304 : decode cL_law 1304 = .ok (.iload 5, 2) := dk_21 5 (dk_at dksL_law_48 10 rfl rfl)
theorem dL_law_1306 : decode cL_law 1306 = .ok (.ifCond .ne 14, 3) := dk_154 0 14 (dk_at dksL_law_48 12 rfl rfl)
theorem dL_law_1309 : decode cL_law 1309 = .ok (.aload_n 3, 1) := dk_45 (dk_at dksL_law_48 15 rfl rfl)
theorem dL_law_1310 : decode cL_law 1310 = .ok (.iconst 0, 1) := dk_3 (dk_at dksL_law_48 16 rfl rfl)
theorem dL_law_1311 : decode cL_law 1311 = .ok (.laload, 1) := dk_47 (dk_at dksL_law_48 17 rfl rfl)
theorem dL_law_1312 : decode cL_law 1312 = .ok (.lload 6, 2) := dk_22 6 (dk_at dksL_law_48 18 rfl rfl)
theorem dL_law_1314 : decode cL_law 1314 = .ok (.lcmp, 1) := dk_148 (dk_at dksL_law_48 20 rfl rfl)
theorem dL_law_1315 : decode cL_law 1315 = .ok (.ifCond .eq 5, 3) := dk_153 0 5 (dk_at dksL_law_48 21 rfl rfl)
theorem dL_law_1318 : decode cL_law 1318 = .ok (.iconst 0, 1) := dk_3 (dk_at dksL_law_49 0 rfl rfl)
theorem dL_law_1319 : decode cL_law 1319 = .ok (.ireturn, 1) := dk_172 (dk_at dksL_law_49 1 rfl rfl)
theorem dL_law_1320 : decode cL_law 1320 = .ok (.goto 1278, 3) := dk_167 4 254 (dk_at dksL_law_49 2 rfl rfl)
theorem dL_law_1323 : decode cL_law 1323 = .ok (.aload_n 1, 1) := dk_43 (dk_at dksL_law_49 5 rfl rfl)
theorem dL_law_1324 : decode cL_law 1324 = .ok (.aload_n 0, 1) := dk_42 (dk_at dksL_law_49 6 rfl rfl)
theorem dL_law_1325 : decode cL_law 1325 = .ok (.iload 4, 2) := dk_21 4 (dk_at dksL_law_49 7 rfl rfl)
theorem dL_law_1327 : decode cL_law 1327 = .ok (.iconst 1, 1) := dk_4 (dk_at dksL_law_49 9 rfl rfl)
theorem dL_law_1328 : decode cL_law 1328 = .ok (.iadd, 1) := dk_96 (dk_at dksL_law_49 10 rfl rfl)
theorem dL_law_1329 : decode cL_law 1329 = .ok (.iaload, 1) := dk_46 (dk_at dksL_law_49 11 rfl rfl)
theorem dL_law_1330 : decode cL_law 1330 = .ok (.aload_n 0, 1) := dk_42 (dk_at dksL_law_49 12 rfl rfl)
theorem dL_law_1331 : decode cL_law 1331 = .ok (.iload 4, 2) := dk_21 4 (dk_at dksL_law_49 13 rfl rfl)
theorem dL_law_1333 : decode cL_law 1333 = .ok (.iconst 2, 1) := dk_5 (dk_at dksL_law_49 15 rfl rfl)
theorem dL_law_1334 : decode cL_law 1334 = .ok (.iadd, 1) := dk_96 (dk_at dksL_law_49 16 rfl rfl)
theorem dL_law_1335 : decode cL_law 1335 = .ok (.iaload, 1) := dk_46 (dk_at dksL_law_49 17 rfl rfl)
theorem dL_law_1336 : decode cL_law 1336 = .ok (.aload_n 3, 1) := dk_45 (dk_at dksL_law_49 18 rfl rfl)
theorem dL_law_1337 : decode cL_law 1337 = .ok (.invokestatic 208, 3) := dk_184 0 208 (dk_at dksL_law_49 19 rfl rfl)
theorem dL_law_1340 : decode cL_law 1340 = .ok (.istore 5, 2) := dk_54 5 (dk_at dksL_law_49 22 rfl rfl)
theorem dL_law_1342 : decode cL_law 1342 = .ok (.aload_n 2, 1) := dk_44 (dk_at dksL_law_50 0 rfl rfl)
theorem dL_law_1343 : decode cL_law 1343 = .ok (.aload_n 0, 1) := dk_42 (dk_at dksL_law_50 1 rfl rfl)
theorem dL_law_1344 : decode cL_law 1344 = .ok (.iload 4, 2) := dk_21 4 (dk_at dksL_law_50 2 rfl rfl)
theorem dL_law_1346 : decode cL_law 1346 = .ok (.iconst 1, 1) := dk_4 (dk_at dksL_law_50 4 rfl rfl)
theorem dL_law_1347 : decode cL_law 1347 = .ok (.iadd, 1) := dk_96 (dk_at dksL_law_50 5 rfl rfl)
theorem dL_law_1348 : decode cL_law 1348 = .ok (.iaload, 1) := dk_46 (dk_at dksL_law_50 6 rfl rfl)
theorem dL_law_1349 : decode cL_law 1349 = .ok (.aload_n 0, 1) := dk_42 (dk_at dksL_law_50 7 rfl rfl)
theorem dL_law_1350 : decode cL_law 1350 = .ok (.iload 4, 2) := dk_21 4 (dk_at dksL_law_50 8 rfl rfl)
theorem dL_law_1352 : decode cL_law 1352 = .ok (.iconst 2, 1) := dk_5 (dk_at dksL_law_50 10 rfl rfl)
theorem dL_law_1353 : decode cL_law 1353 = .ok (.iadd, 1) := dk_96 (dk_at dksL_law_50 11 rfl rfl)
theorem dL_law_1354 : decode cL_law 1354 = .ok (.iaload, 1) := dk_46 (dk_at dksL_law_50 12 rfl rfl)
theorem dL_law_1355 : decode cL_law 1355 = .ok (.invokevirtual 210, 3) := dk_182 0 210 (dk_at dksL_law_50 13 rfl rfl)
theorem dL_law_1358 : decode cL_law 1358 = .ok (.istore 6, 2) := dk_54 6 (dk_at dksL_law_50 16 rfl rfl)
theorem dL_law_1360 : decode cL_law 1360 = .ok (.aload_n 2, 1) := dk_44 (dk_at dksL_law_50 18 rfl rfl)
theorem dL_law_1361 : decode cL_law 1361 = .ok (.invokevirtual 135, 3) := dk_182 0 135 (dk_at dksL_law_50 19 rfl rfl)
theorem dL_law_1364 : decode cL_law 1364 = .ok (.iload 5, 2) := dk_21 5 (dk_at dksL_law_50 22 rfl rfl)
theorem dL_law_1366 : decode cL_law 1366 = .ok (.if_icmp .eq 5, 3) := dk_159 0 5 (dk_at dksL_law_51 0 rfl rfl)
theorem dL_law_1369 : decode cL_law 1369 = .ok (.iconst 0, 1) := dk_3 (dk_at dksL_law_51 3 rfl rfl)
theorem dL_law_1370 : decode cL_law 1370 = .ok (.ireturn, 1) := dk_172 (dk_at dksL_law_51 4 rfl rfl)
theorem dL_law_1371 : decode cL_law 1371 = .ok (.iload 5, 2) := dk_21 5 (dk_at dksL_law_51 5 rfl rfl)
theorem dL_law_1373 : decode cL_law 1373 = .ok (.ifCond .ne 15, 3) := dk_154 0 15 (dk_at dksL_law_51 7 rfl rfl)
theorem dL_law_1376 : decode cL_law 1376 = .ok (.aload_n 3, 1) := dk_45 (dk_at dksL_law_51 10 rfl rfl)
theorem dL_law_1377 : decode cL_law 1377 = .ok (.iconst 0, 1) := dk_3 (dk_at dksL_law_51 11 rfl rfl)
theorem dL_law_1378 : decode cL_law 1378 = .ok (.laload, 1) := dk_47 (dk_at dksL_law_51 12 rfl rfl)
theorem dL_law_1379 : decode cL_law 1379 = .ok (.iload 6, 2) := dk_21 6 (dk_at dksL_law_51 13 rfl rfl)
theorem dL_law_1381 : decode cL_law 1381 = .ok (.i2l, 1) := dk_133 (dk_at dksL_law_51 15 rfl rfl)
theorem dL_law_1382 : decode cL_law 1382 = .ok (.lcmp, 1) := dk_148 (dk_at dksL_law_51 16 rfl rfl)
theorem dL_law_1383 : decode cL_law 1383 = .ok (.ifCond .eq 5, 3) := dk_153 0 5 (dk_at dksL_law_51 17 rfl rfl)
theorem dL_law_1386 : decode cL_law 1386 = .ok (.iconst 0, 1) := dk_3 (dk_at dksL_law_51 20 rfl rfl)
theorem dL_law_1387 : decode cL_law 1387 = .ok (.ireturn, 1) := dk_172 (dk_at dksL_law_51 21 rfl rfl)
theorem dL_law_1388 : decode cL_law 1388 = .ok (.goto 1210, 3) := dk_167 4 186 (dk_at dksL_law_52 0 rfl rfl)
theorem dL_law_1391 : decode cL_law 1391 = .ok (.aload_n 1, 1) := dk_43 (dk_at dksL_law_52 3 rfl rfl)
theorem dL_law_1392 : decode cL_law 1392 = .ok (.aload_n 0, 1) := dk_42 (dk_at dksL_law_52 4 rfl rfl)
theorem dL_law_1393 : decode cL_law 1393 = .ok (.iload 4, 2) := dk_21 4 (dk_at dksL_law_52 5 rfl rfl)
theorem dL_law_1395 : decode cL_law 1395 = .ok (.iconst 1, 1) := dk_4 (dk_at dksL_law_52 7 rfl rfl)
theorem dL_law_1396 : decode cL_law 1396 = .ok (.iadd, 1) := dk_96 (dk_at dksL_law_52 8 rfl rfl)
theorem dL_law_1397 : decode cL_law 1397 = .ok (.iaload, 1) := dk_46 (dk_at dksL_law_52 9 rfl rfl)
theorem dL_law_1398 : decode cL_law 1398 = .ok (.aload_n 0, 1) := dk_42 (dk_at dksL_law_52 10 rfl rfl)
theorem dL_law_1399 : decode cL_law 1399 = .ok (.iload 4, 2) := dk_21 4 (dk_at dksL_law_52 11 rfl rfl)
theorem dL_law_1401 : decode cL_law 1401 = .ok (.iconst 2, 1) := dk_5 (dk_at dksL_law_52 13 rfl rfl)
theorem dL_law_1402 : decode cL_law 1402 = .ok (.iadd, 1) := dk_96 (dk_at dksL_law_52 14 rfl rfl)
theorem dL_law_1403 : decode cL_law 1403 = .ok (.iaload, 1) := dk_46 (dk_at dksL_law_52 15 rfl rfl)
theorem dL_law_1404 : decode cL_law 1404 = .ok (.aload_n 0, 1) := dk_42 (dk_at dksL_law_52 16 rfl rfl)
theorem dL_law_1405 : decode cL_law 1405 = .ok (.iload 4, 2) := dk_21 4 (dk_at dksL_law_52 17 rfl rfl)
theorem dL_law_1407 : decode cL_law 1407 = .ok (.iconst 3, 1) := dk_6 (dk_at dksL_law_52 19 rfl rfl)
theorem dL_law_1408 : decode cL_law 1408 = .ok (.iadd, 1) := dk_96 (dk_at dksL_law_52 20 rfl rfl)
theorem dL_law_1409 : decode cL_law 1409 = .ok (.iaload, 1) := dk_46 (dk_at dksL_law_52 21 rfl rfl)
theorem dL_law_1410 : decode cL_law 1410 = .ok (.aload_n 0, 1) := dk_42 (dk_at dksL_law_52 22 rfl rfl)
theorem dL_law_1411 : decode cL_law 1411 = .ok (.iload 4, 2) := dk_21 4 (dk_at dksL_law_53 0 rfl rfl)
theorem dL_law_1413 : decode cL_law 1413 = .ok (.iconst 4, 1) := dk_7 (dk_at dksL_law_53 2 rfl rfl)
theorem dL_law_1414 : decode cL_law 1414 = .ok (.iadd, 1) := dk_96 (dk_at dksL_law_53 3 rfl rfl)
theorem dL_law_1415 : decode cL_law 1415 = .ok (.iaload, 1) := dk_46 (dk_at dksL_law_53 4 rfl rfl)
theorem dL_law_1416 : decode cL_law 1416 = .ok (.aload_n 3, 1) := dk_45 (dk_at dksL_law_53 5 rfl rfl)
theorem dL_law_1417 : decode cL_law 1417 = .ok (.invokestatic 211, 3) := dk_184 0 211 (dk_at dksL_law_53 6 rfl rfl)
theorem dL_law_1420 : decode cL_law 1420 = .ok (.istore 5, 2) := dk_54 5 (dk_at dksL_law_53 9 rfl rfl)
theorem dL_law_1422 : decode cL_law 1422 = .ok (.aload_n 2, 1) := dk_44 (dk_at dksL_law_53 11 rfl rfl)
theorem dL_law_1423 : decode cL_law 1423 = .ok (.aload_n 0, 1) := dk_42 (dk_at dksL_law_53 12 rfl rfl)
theorem dL_law_1424 : decode cL_law 1424 = .ok (.iload 4, 2) := dk_21 4 (dk_at dksL_law_53 13 rfl rfl)
theorem dL_law_1426 : decode cL_law 1426 = .ok (.iconst 1, 1) := dk_4 (dk_at dksL_law_53 15 rfl rfl)
theorem dL_law_1427 : decode cL_law 1427 = .ok (.iadd, 1) := dk_96 (dk_at dksL_law_53 16 rfl rfl)
theorem dL_law_1428 : decode cL_law 1428 = .ok (.iaload, 1) := dk_46 (dk_at dksL_law_53 17 rfl rfl)
theorem dL_law_1429 : decode cL_law 1429 = .ok (.aload_n 0, 1) := dk_42 (dk_at dksL_law_53 18 rfl rfl)
theorem dL_law_1430 : decode cL_law 1430 = .ok (.iload 4, 2) := dk_21 4 (dk_at dksL_law_53 19 rfl rfl)
theorem dL_law_1432 : decode cL_law 1432 = .ok (.iconst 2, 1) := dk_5 (dk_at dksL_law_53 21 rfl rfl)
theorem dL_law_1433 : decode cL_law 1433 = .ok (.iadd, 1) := dk_96 (dk_at dksL_law_53 22 rfl rfl)
theorem dL_law_1434 : decode cL_law 1434 = .ok (.iaload, 1) := dk_46 (dk_at dksL_law_53 23 rfl rfl)
theorem dL_law_1435 : decode cL_law 1435 = .ok (.aload_n 0, 1) := dk_42 (dk_at dksL_law_54 0 rfl rfl)
theorem dL_law_1436 : decode cL_law 1436 = .ok (.iload 4, 2) := dk_21 4 (dk_at dksL_law_54 1 rfl rfl)
theorem dL_law_1438 : decode cL_law 1438 = .ok (.iconst 3, 1) := dk_6 (dk_at dksL_law_54 3 rfl rfl)
theorem dL_law_1439 : decode cL_law 1439 = .ok (.iadd, 1) := dk_96 (dk_at dksL_law_54 4 rfl rfl)
theorem dL_law_1440 : decode cL_law 1440 = .ok (.iaload, 1) := dk_46 (dk_at dksL_law_54 5 rfl rfl)
theorem dL_law_1441 : decode cL_law 1441 = .ok (.aload_n 0, 1) := dk_42 (dk_at dksL_law_54 6 rfl rfl)
theorem dL_law_1442 : decode cL_law 1442 = .ok (.iload 4, 2) := dk_21 4 (dk_at dksL_law_54 7 rfl rfl)
theorem dL_law_1444 : decode cL_law 1444 = .ok (.iconst 4, 1) := dk_7 (dk_at dksL_law_54 9 rfl rfl)
theorem dL_law_1445 : decode cL_law 1445 = .ok (.iadd, 1) := dk_96 (dk_at dksL_law_54 10 rfl rfl)
theorem dL_law_1446 : decode cL_law 1446 = .ok (.iaload, 1) := dk_46 (dk_at dksL_law_54 11 rfl rfl)
theorem dL_law_1447 : decode cL_law 1447 = .ok (.invokevirtual 214, 3) := dk_182 0 214 (dk_at dksL_law_54 12 rfl rfl)
theorem dL_law_1450 : decode cL_law 1450 = .ok (.istore 6, 2) := dk_54 6 (dk_at dksL_law_54 15 rfl rfl)
theorem dL_law_1452 : decode cL_law 1452 = .ok (.aload_n 2, 1) := dk_44 (dk_at dksL_law_54 17 rfl rfl)
theorem dL_law_1453 : decode cL_law 1453 = .ok (.invokevirtual 135, 3) := dk_182 0 135 (dk_at dksL_law_54 18 rfl rfl)
theorem dL_law_1456 : decode cL_law 1456 = .ok (.iload 5, 2) := dk_21 5 (dk_at dksL_law_54 21 rfl rfl)
theorem dL_law_1458 : decode cL_law 1458 = .ok (.if_icmp .eq 5, 3) := dk_159 0 5 (dk_at dksL_law_55 0 rfl rfl)
theorem dL_law_1461 : decode cL_law 1461 = .ok (.iconst 0, 1) := dk_3 (dk_at dksL_law_55 3 rfl rfl)
theorem dL_law_1462 : decode cL_law 1462 = .ok (.ireturn, 1) := dk_172 (dk_at dksL_law_55 4 rfl rfl)
theorem dL_law_1463 : decode cL_law 1463 = .ok (.iload 5, 2) := dk_21 5 (dk_at dksL_law_55 5 rfl rfl)
theorem dL_law_1465 : decode cL_law 1465 = .ok (.ifCond .ne 15, 3) := dk_154 0 15 (dk_at dksL_law_55 7 rfl rfl)
theorem dL_law_1468 : decode cL_law 1468 = .ok (.aload_n 3, 1) := dk_45 (dk_at dksL_law_55 10 rfl rfl)
theorem dL_law_1469 : decode cL_law 1469 = .ok (.iconst 0, 1) := dk_3 (dk_at dksL_law_55 11 rfl rfl)
theorem dL_law_1470 : decode cL_law 1470 = .ok (.laload, 1) := dk_47 (dk_at dksL_law_55 12 rfl rfl)
theorem dL_law_1471 : decode cL_law 1471 = .ok (.iload 6, 2) := dk_21 6 (dk_at dksL_law_55 13 rfl rfl)
theorem dL_law_1473 : decode cL_law 1473 = .ok (.i2l, 1) := dk_133 (dk_at dksL_law_55 15 rfl rfl)
theorem dL_law_1474 : decode cL_law 1474 = .ok (.lcmp, 1) := dk_148 (dk_at dksL_law_55 16 rfl rfl)
theorem dL_law_1475 : decode cL_law 1475 = .ok (.ifCond .eq 5, 3) := dk_153 0 5 (dk_at dksL_law_55 17 rfl rfl)
theorem dL_law_1478 : decode cL_law 1478 = .ok (.iconst 0, 1) := dk_3 (dk_at dksL_law_55 20 rfl rfl)
theorem dL_law_1479 : decode cL_law 1479 = .ok (.ireturn, 1) := dk_172 (dk_at dksL_law_55 21 rfl rfl)
theorem dL_law_1480 : decode cL_law 1480 = .ok (.goto 1118, 3) := dk_167 4 94 (dk_at dksL_law_56 0 rfl rfl)
theorem dL_law_1483 : decode cL_law 1483 = .ok (.aload_n 1, 1) := dk_43 (dk_at dksL_law_56 3 rfl rfl)
theorem dL_law_1484 : decode cL_law 1484 = .ok (.aload_n 0, 1) := dk_42 (dk_at dksL_law_56 4 rfl rfl)
theorem dL_law_1485 : decode cL_law 1485 = .ok (.iload 4, 2) := dk_21 4 (dk_at dksL_law_56 5 rfl rfl)
theorem dL_law_1487 : decode cL_law 1487 = .ok (.iconst 1, 1) := dk_4 (dk_at dksL_law_56 7 rfl rfl)
theorem dL_law_1488 : decode cL_law 1488 = .ok (.iadd, 1) := dk_96 (dk_at dksL_law_56 8 rfl rfl)
theorem dL_law_1489 : decode cL_law 1489 = .ok (.iaload, 1) := dk_46 (dk_at dksL_law_56 9 rfl rfl)
theorem dL_law_1490 : decode cL_law 1490 = .ok (.aload_n 3, 1) := dk_45 (dk_at dksL_law_56 10 rfl rfl)
theorem dL_law_1491 : decode cL_law 1491 = .ok (.invokestatic 215, 3) := dk_184 0 215 (dk_at dksL_law_56 11 rfl rfl)
theorem dL_law_1494 : decode cL_law 1494 = .ok (.istore 5, 2) := dk_54 5 (dk_at dksL_law_56 14 rfl rfl)
theorem dL_law_1496 : decode cL_law 1496 = .ok (.aload_n 2, 1) := dk_44 (dk_at dksL_law_56 16 rfl rfl)
theorem dL_law_1497 : decode cL_law 1497 = .ok (.aload_n 0, 1) := dk_42 (dk_at dksL_law_56 17 rfl rfl)
theorem dL_law_1498 : decode cL_law 1498 = .ok (.iload 4, 2) := dk_21 4 (dk_at dksL_law_56 18 rfl rfl)
theorem dL_law_1500 : decode cL_law 1500 = .ok (.iconst 1, 1) := dk_4 (dk_at dksL_law_56 20 rfl rfl)
theorem dL_law_1501 : decode cL_law 1501 = .ok (.iadd, 1) := dk_96 (dk_at dksL_law_56 21 rfl rfl)
theorem dL_law_1502 : decode cL_law 1502 = .ok (.iaload, 1) := dk_46 (dk_at dksL_law_56 22 rfl rfl)
theorem dL_law_1503 : decode cL_law 1503 = .ok (.invokevirtual 217, 3) := dk_182 0 217 (dk_at dksL_law_57 0 rfl rfl)
theorem dL_law_1506 : decode cL_law 1506 = .ok (.istore 6, 2) := dk_54 6 (dk_at dksL_law_57 3 rfl rfl)
theorem dL_law_1508 : decode cL_law 1508 = .ok (.aload_n 2, 1) := dk_44 (dk_at dksL_law_57 5 rfl rfl)
theorem dL_law_1509 : decode cL_law 1509 = .ok (.invokevirtual 135, 3) := dk_182 0 135 (dk_at dksL_law_57 6 rfl rfl)
theorem dL_law_1512 : decode cL_law 1512 = .ok (.iload 5, 2) := dk_21 5 (dk_at dksL_law_57 9 rfl rfl)
theorem dL_law_1514 : decode cL_law 1514 = .ok (.if_icmp .eq 5, 3) := dk_159 0 5 (dk_at dksL_law_57 11 rfl rfl)
theorem dL_law_1517 : decode cL_law 1517 = .ok (.iconst 0, 1) := dk_3 (dk_at dksL_law_57 14 rfl rfl)
theorem dL_law_1518 : decode cL_law 1518 = .ok (.ireturn, 1) := dk_172 (dk_at dksL_law_57 15 rfl rfl)
theorem dL_law_1519 : decode cL_law 1519 = .ok (.iload 5, 2) := dk_21 5 (dk_at dksL_law_57 16 rfl rfl)
theorem dL_law_1521 : decode cL_law 1521 = .ok (.ifCond .ne 15, 3) := dk_154 0 15 (dk_at dksL_law_57 18 rfl rfl)
theorem dL_law_1524 : decode cL_law 1524 = .ok (.aload_n 3, 1) := dk_45 (dk_at dksL_law_57 21 rfl rfl)
theorem dL_law_1525 : decode cL_law 1525 = .ok (.iconst 0, 1) := dk_3 (dk_at dksL_law_57 22 rfl rfl)
theorem dL_law_1526 : decode cL_law 1526 = .ok (.laload, 1) := dk_47 (dk_at dksL_law_57 23 rfl rfl)
theorem dL_law_1527 : decode cL_law 1527 = .ok (.iload 6, 2) := dk_21 6 (dk_at dksL_law_58 0 rfl rfl)
theorem dL_law_1529 : decode cL_law 1529 = .ok (.i2l, 1) := dk_133 (dk_at dksL_law_58 2 rfl rfl)
theorem dL_law_1530 : decode cL_law 1530 = .ok (.lcmp, 1) := dk_148 (dk_at dksL_law_58 3 rfl rfl)
theorem dL_law_1531 : decode cL_law 1531 = .ok (.ifCond .eq 5, 3) := dk_153 0 5 (dk_at dksL_law_58 4 rfl rfl)
theorem dL_law_1534 : decode cL_law 1534 = .ok (.iconst 0, 1) := dk_3 (dk_at dksL_law_58 7 rfl rfl)
theorem dL_law_1535 : decode cL_law 1535 = .ok (.ireturn, 1) := dk_172 (dk_at dksL_law_58 8 rfl rfl)
theorem dL_law_1536 : decode cL_law 1536 = .ok (.goto 1062, 3) := dk_167 4 38 (dk_at dksL_law_58 9 rfl rfl)
theorem dL_law_1539 : decode cL_law 1539 = .ok (.aload_n 1, 1) := dk_43 (dk_at dksL_law_58 12 rfl rfl)
theorem dL_law_1540 : decode cL_law 1540 = .ok (.invokevirtual 218, 3) := dk_182 0 218 (dk_at dksL_law_58 13 rfl rfl)
theorem dL_law_1543 : decode cL_law 1543 = .ok (.aload_n 2, 1) := dk_44 (dk_at dksL_law_58 16 rfl rfl)
theorem dL_law_1544 : decode cL_law 1544 = .ok (.invokevirtual 221, 3) := dk_182 0 221 (dk_at dksL_law_58 17 rfl rfl)
theorem dL_law_1547 : decode cL_law 1547 = .ok (.goto 1051, 3) := dk_167 4 27 (dk_at dksL_law_58 20 rfl rfl)
theorem dL_law_1550 : decode cL_law 1550 = .ok (.aload_n 1, 1) := dk_43 (dk_at dksL_law_58 23 rfl rfl)
theorem dL_law_1551 : decode cL_law 1551 = .ok (.aload_n 0, 1) := dk_42 (dk_at dksL_law_59 0 rfl rfl)
theorem dL_law_1552 : decode cL_law 1552 = .ok (.iload 4, 2) := dk_21 4 (dk_at dksL_law_59 1 rfl rfl)
theorem dL_law_1554 : decode cL_law 1554 = .ok (.iconst 1, 1) := dk_4 (dk_at dksL_law_59 3 rfl rfl)
theorem dL_law_1555 : decode cL_law 1555 = .ok (.iadd, 1) := dk_96 (dk_at dksL_law_59 4 rfl rfl)
theorem dL_law_1556 : decode cL_law 1556 = .ok (.iaload, 1) := dk_46 (dk_at dksL_law_59 5 rfl rfl)
theorem dL_law_1557 : decode cL_law 1557 = .ok (.aload_n 0, 1) := dk_42 (dk_at dksL_law_59 6 rfl rfl)
theorem dL_law_1558 : decode cL_law 1558 = .ok (.iload 4, 2) := dk_21 4 (dk_at dksL_law_59 7 rfl rfl)
theorem dL_law_1560 : decode cL_law 1560 = .ok (.iconst 2, 1) := dk_5 (dk_at dksL_law_59 9 rfl rfl)
theorem dL_law_1561 : decode cL_law 1561 = .ok (.iadd, 1) := dk_96 (dk_at dksL_law_59 10 rfl rfl)
theorem dL_law_1562 : decode cL_law 1562 = .ok (.iaload, 1) := dk_46 (dk_at dksL_law_59 11 rfl rfl)
theorem dL_law_1563 : decode cL_law 1563 = .ok (.aload_n 3, 1) := dk_45 (dk_at dksL_law_59 12 rfl rfl)
theorem dL_law_1564 : decode cL_law 1564 = .ok (.invokestatic 222, 3) := dk_184 0 222 (dk_at dksL_law_59 13 rfl rfl)
theorem dL_law_1567 : decode cL_law 1567 = .ok (.istore 5, 2) := dk_54 5 (dk_at dksL_law_59 16 rfl rfl)
theorem dL_law_1569 : decode cL_law 1569 = .ok (.aload_n 2, 1) := dk_44 (dk_at dksL_law_59 18 rfl rfl)
theorem dL_law_1570 : decode cL_law 1570 = .ok (.aload_n 0, 1) := dk_42 (dk_at dksL_law_59 19 rfl rfl)
theorem dL_law_1571 : decode cL_law 1571 = .ok (.iload 4, 2) := dk_21 4 (dk_at dksL_law_59 20 rfl rfl)
theorem dL_law_1573 : decode cL_law 1573 = .ok (.iconst 1, 1) := dk_4 (dk_at dksL_law_59 22 rfl rfl)
theorem dL_law_1574 : decode cL_law 1574 = .ok (.iadd, 1) := dk_96 (dk_at dksL_law_59 23 rfl rfl)
theorem dL_law_1575 : decode cL_law 1575 = .ok (.iaload, 1) := dk_46 (dk_at dksL_law_60 0 rfl rfl)
theorem dL_law_1576 : decode cL_law 1576 = .ok (.aload_n 0, 1) := dk_42 (dk_at dksL_law_60 1 rfl rfl)
theorem dL_law_1577 : decode cL_law 1577 = .ok (.iload 4, 2) := dk_21 4 (dk_at dksL_law_60 2 rfl rfl)
theorem dL_law_1579 : decode cL_law 1579 = .ok (.iconst 2, 1) := dk_5 (dk_at dksL_law_60 4 rfl rfl)
theorem dL_law_1580 : decode cL_law 1580 = .ok (.iadd, 1) := dk_96 (dk_at dksL_law_60 5 rfl rfl)
theorem dL_law_1581 : decode cL_law 1581 = .ok (.iaload, 1) := dk_46 (dk_at dksL_law_60 6 rfl rfl)
theorem dL_law_1582 : decode cL_law 1582 = .ok (.invokevirtual 224, 3) := dk_182 0 224 (dk_at dksL_law_60 7 rfl rfl)
theorem dL_law_1585 : decode cL_law 1585 = .ok (.istore 6, 2) := dk_54 6 (dk_at dksL_law_60 10 rfl rfl)
theorem dL_law_1587 : decode cL_law 1587 = .ok (.aload_n 2, 1) := dk_44 (dk_at dksL_law_60 12 rfl rfl)
theorem dL_law_1588 : decode cL_law 1588 = .ok (.invokevirtual 135, 3) := dk_182 0 135 (dk_at dksL_law_60 13 rfl rfl)
theorem dL_law_1591 : decode cL_law 1591 = .ok (.iload 5, 2) := dk_21 5 (dk_at dksL_law_60 16 rfl rfl)
theorem dL_law_1593 : decode cL_law 1593 = .ok (.if_icmp .eq 5, 3) := dk_159 0 5 (dk_at dksL_law_60 18 rfl rfl)
theorem dL_law_1596 : decode cL_law 1596 = .ok (.iconst 0, 1) := dk_3 (dk_at dksL_law_60 21 rfl rfl)
theorem dL_law_1597 : decode cL_law 1597 = .ok (.ireturn, 1) := dk_172 (dk_at dksL_law_60 22 rfl rfl)
theorem dL_law_1598 : decode cL_law 1598 = .ok (.iload 5, 2) := dk_21 5 (dk_at dksL_law_61 0 rfl rfl)
theorem dL_law_1600 : decode cL_law 1600 = .ok (.ifCond .ne 15, 3) := dk_154 0 15 (dk_at dksL_law_61 2 rfl rfl)
theorem dL_law_1603 : decode cL_law 1603 = .ok (.aload_n 3, 1) := dk_45 (dk_at dksL_law_61 5 rfl rfl)
theorem dL_law_1604 : decode cL_law 1604 = .ok (.iconst 0, 1) := dk_3 (dk_at dksL_law_61 6 rfl rfl)
theorem dL_law_1605 : decode cL_law 1605 = .ok (.laload, 1) := dk_47 (dk_at dksL_law_61 7 rfl rfl)
theorem dL_law_1606 : decode cL_law 1606 = .ok (.iload 6, 2) := dk_21 6 (dk_at dksL_law_61 8 rfl rfl)
theorem dL_law_1608 : decode cL_law 1608 = .ok (.i2l, 1) := dk_133 (dk_at dksL_law_61 10 rfl rfl)
theorem dL_law_1609 : decode cL_law 1609 = .ok (.lcmp, 1) := dk_148 (dk_at dksL_law_61 11 rfl rfl)
theorem dL_law_1610 : decode cL_law 1610 = .ok (.ifCond .eq 5, 3) := dk_153 0 5 (dk_at dksL_law_61 12 rfl rfl)
theorem dL_law_1613 : decode cL_law 1613 = .ok (.iconst 0, 1) := dk_3 (dk_at dksL_law_61 15 rfl rfl)
theorem dL_law_1614 : decode cL_law 1614 = .ok (.ireturn, 1) := dk_172 (dk_at dksL_law_61 16 rfl rfl)
theorem dL_law_1615 : decode cL_law 1615 = .ok (.goto 983, 3) := dk_167 3 215 (dk_at dksL_law_61 17 rfl rfl)
theorem dL_law_1618 : decode cL_law 1618 = .ok (.aload_n 1, 1) := dk_43 (dk_at dksL_law_61 20 rfl rfl)
theorem dL_law_1619 : decode cL_law 1619 = .ok (.aload_n 0, 1) := dk_42 (dk_at dksL_law_61 21 rfl rfl)
theorem dL_law_1620 : decode cL_law 1620 = .ok (.iload 4, 2) := dk_21 4 (dk_at dksL_law_61 22 rfl rfl)
theorem dL_law_1622 : decode cL_law 1622 = .ok (.iconst 1, 1) := dk_4 (dk_at dksL_law_62 0 rfl rfl)
theorem dL_law_1623 : decode cL_law 1623 = .ok (.iadd, 1) := dk_96 (dk_at dksL_law_62 1 rfl rfl)
theorem dL_law_1624 : decode cL_law 1624 = .ok (.iaload, 1) := dk_46 (dk_at dksL_law_62 2 rfl rfl)
theorem dL_law_1625 : decode cL_law 1625 = .ok (.aload_n 0, 1) := dk_42 (dk_at dksL_law_62 3 rfl rfl)
theorem dL_law_1626 : decode cL_law 1626 = .ok (.iload 4, 2) := dk_21 4 (dk_at dksL_law_62 4 rfl rfl)
theorem dL_law_1628 : decode cL_law 1628 = .ok (.iconst 2, 1) := dk_5 (dk_at dksL_law_62 6 rfl rfl)
theorem dL_law_1629 : decode cL_law 1629 = .ok (.iadd, 1) := dk_96 (dk_at dksL_law_62 7 rfl rfl)
theorem dL_law_1630 : decode cL_law 1630 = .ok (.iaload, 1) := dk_46 (dk_at dksL_law_62 8 rfl rfl)
theorem dL_law_1631 : decode cL_law 1631 = .ok (.aload_n 0, 1) := dk_42 (dk_at dksL_law_62 9 rfl rfl)
theorem dL_law_1632 : decode cL_law 1632 = .ok (.iload 4, 2) := dk_21 4 (dk_at dksL_law_62 10 rfl rfl)
theorem dL_law_1634 : decode cL_law 1634 = .ok (.iconst 3, 1) := dk_6 (dk_at dksL_law_62 12 rfl rfl)
theorem dL_law_1635 : decode cL_law 1635 = .ok (.iadd, 1) := dk_96 (dk_at dksL_law_62 13 rfl rfl)
theorem dL_law_1636 : decode cL_law 1636 = .ok (.iaload, 1) := dk_46 (dk_at dksL_law_62 14 rfl rfl)
theorem dL_law_1637 : decode cL_law 1637 = .ok (.aload_n 3, 1) := dk_45 (dk_at dksL_law_62 15 rfl rfl)
theorem dL_law_1638 : decode cL_law 1638 = .ok (.invokestatic 225, 3) := dk_184 0 225 (dk_at dksL_law_62 16 rfl rfl)
theorem dL_law_1641 : decode cL_law 1641 = .ok (.istore 5, 2) := dk_54 5 (dk_at dksL_law_62 19 rfl rfl)
theorem dL_law_1643 : decode cL_law 1643 = .ok (.aload_n 2, 1) := dk_44 (dk_at dksL_law_62 21 rfl rfl)
theorem dL_law_1644 : decode cL_law 1644 = .ok (.aload_n 0, 1) := dk_42 (dk_at dksL_law_62 22 rfl rfl)
theorem dL_law_1645 : decode cL_law 1645 = .ok (.iload 4, 2) := dk_21 4 (dk_at dksL_law_63 0 rfl rfl)
theorem dL_law_1647 : decode cL_law 1647 = .ok (.iconst 1, 1) := dk_4 (dk_at dksL_law_63 2 rfl rfl)
theorem dL_law_1648 : decode cL_law 1648 = .ok (.iadd, 1) := dk_96 (dk_at dksL_law_63 3 rfl rfl)
theorem dL_law_1649 : decode cL_law 1649 = .ok (.iaload, 1) := dk_46 (dk_at dksL_law_63 4 rfl rfl)
theorem dL_law_1650 : decode cL_law 1650 = .ok (.aload_n 0, 1) := dk_42 (dk_at dksL_law_63 5 rfl rfl)
theorem dL_law_1651 : decode cL_law 1651 = .ok (.iload 4, 2) := dk_21 4 (dk_at dksL_law_63 6 rfl rfl)
theorem dL_law_1653 : decode cL_law 1653 = .ok (.iconst 2, 1) := dk_5 (dk_at dksL_law_63 8 rfl rfl)
theorem dL_law_1654 : decode cL_law 1654 = .ok (.iadd, 1) := dk_96 (dk_at dksL_law_63 9 rfl rfl)
theorem dL_law_1655 : decode cL_law 1655 = .ok (.iaload, 1) := dk_46 (dk_at dksL_law_63 10 rfl rfl)
theorem dL_law_1656 : decode cL_law 1656 = .ok (.aload_n 0, 1) := dk_42 (dk_at dksL_law_63 11 rfl rfl)
theorem dL_law_1657 : decode cL_law 1657 = .ok (.iload 4, 2) := dk_21 4 (dk_at dksL_law_63 12 rfl rfl)
theorem dL_law_1659 : decode cL_law 1659 = .ok (.iconst 3, 1) := dk_6 (dk_at dksL_law_63 14 rfl rfl)
theorem dL_law_1660 : decode cL_law 1660 = .ok (.iadd, 1) := dk_96 (dk_at dksL_law_63 15 rfl rfl)
theorem dL_law_1661 : decode cL_law 1661 = .ok (.iaload, 1) := dk_46 (dk_at dksL_law_63 16 rfl rfl)
theorem dL_law_1662 : decode cL_law 1662 = .ok (.invokevirtual 227, 3) := dk_182 0 227 (dk_at dksL_law_63 17 rfl rfl)
theorem dL_law_1665 : decode cL_law 1665 = .ok (.istore 6, 2) := dk_54 6 (dk_at dksL_law_63 20 rfl rfl)
theorem dL_law_1667 : decode cL_law 1667 = .ok (.aload_n 2, 1) := dk_44 (dk_at dksL_law_63 22 rfl rfl)
theorem dL_law_1668 : decode cL_law 1668 = .ok (.invokevirtual 135, 3) := dk_182 0 135 (dk_at dksL_law_64 0 rfl rfl)
theorem dL_law_1671 : decode cL_law 1671 = .ok (.iload 5, 2) := dk_21 5 (dk_at dksL_law_64 3 rfl rfl)
theorem dL_law_1673 : decode cL_law 1673 = .ok (.if_icmp .eq 5, 3) := dk_159 0 5 (dk_at dksL_law_64 5 rfl rfl)
theorem dL_law_1676 : decode cL_law 1676 = .ok (.iconst 0, 1) := dk_3 (dk_at dksL_law_64 8 rfl rfl)
theorem dL_law_1677 : decode cL_law 1677 = .ok (.ireturn, 1) := dk_172 (dk_at dksL_law_64 9 rfl rfl)
theorem dL_law_1678 : decode cL_law 1678 = .ok (.iload 5, 2) := dk_21 5 (dk_at dksL_law_64 10 rfl rfl)
theorem dL_law_1680 : decode cL_law 1680 = .ok (.ifCond .ne 15, 3) := dk_154 0 15 (dk_at dksL_law_64 12 rfl rfl)
theorem dL_law_1683 : decode cL_law 1683 = .ok (.aload_n 3, 1) := dk_45 (dk_at dksL_law_64 15 rfl rfl)
theorem dL_law_1684 : decode cL_law 1684 = .ok (.iconst 0, 1) := dk_3 (dk_at dksL_law_64 16 rfl rfl)
theorem dL_law_1685 : decode cL_law 1685 = .ok (.laload, 1) := dk_47 (dk_at dksL_law_64 17 rfl rfl)
theorem dL_law_1686 : decode cL_law 1686 = .ok (.iload 6, 2) := dk_21 6 (dk_at dksL_law_64 18 rfl rfl)
theorem dL_law_1688 : decode cL_law 1688 = .ok (.i2l, 1) := dk_133 (dk_at dksL_law_64 20 rfl rfl)
theorem dL_law_1689 : decode cL_law 1689 = .ok (.lcmp, 1) := dk_148 (dk_at dksL_law_64 21 rfl rfl)
theorem dL_law_1690 : decode cL_law 1690 = .ok (.ifCond .eq 5, 3) := dk_153 0 5 (dk_at dksL_law_65 0 rfl rfl)
theorem dL_law_1693 : decode cL_law 1693 = .ok (.iconst 0, 1) := dk_3 (dk_at dksL_law_65 3 rfl rfl)
theorem dL_law_1694 : decode cL_law 1694 = .ok (.ireturn, 1) := dk_172 (dk_at dksL_law_65 4 rfl rfl)
theorem dL_law_1695 : decode cL_law 1695 = .ok (.goto 903, 3) := dk_167 3 135 (dk_at dksL_law_65 5 rfl rfl)
theorem dL_law_1698 : decode cL_law 1698 = .ok (.aload_n 1, 1) := dk_43 (dk_at dksL_law_65 8 rfl rfl)
theorem dL_law_1699 : decode cL_law 1699 = .ok (.aload_n 0, 1) := dk_42 (dk_at dksL_law_65 9 rfl rfl)
theorem dL_law_1700 : decode cL_law 1700 = .ok (.iload 4, 2) := dk_21 4 (dk_at dksL_law_65 10 rfl rfl)
theorem dL_law_1702 : decode cL_law 1702 = .ok (.iconst 1, 1) := dk_4 (dk_at dksL_law_65 12 rfl rfl)
theorem dL_law_1703 : decode cL_law 1703 = .ok (.iadd, 1) := dk_96 (dk_at dksL_law_65 13 rfl rfl)
theorem dL_law_1704 : decode cL_law 1704 = .ok (.iaload, 1) := dk_46 (dk_at dksL_law_65 14 rfl rfl)
theorem dL_law_1705 : decode cL_law 1705 = .ok (.aload_n 0, 1) := dk_42 (dk_at dksL_law_65 15 rfl rfl)
theorem dL_law_1706 : decode cL_law 1706 = .ok (.iload 4, 2) := dk_21 4 (dk_at dksL_law_65 16 rfl rfl)
theorem dL_law_1708 : decode cL_law 1708 = .ok (.iconst 2, 1) := dk_5 (dk_at dksL_law_65 18 rfl rfl)
theorem dL_law_1709 : decode cL_law 1709 = .ok (.iadd, 1) := dk_96 (dk_at dksL_law_65 19 rfl rfl)
theorem dL_law_1710 : decode cL_law 1710 = .ok (.iaload, 1) := dk_46 (dk_at dksL_law_65 20 rfl rfl)
theorem dL_law_1711 : decode cL_law 1711 = .ok (.aload_n 3, 1) := dk_45 (dk_at dksL_law_65 21 rfl rfl)
theorem dL_law_1712 : decode cL_law 1712 = .ok (.invokestatic 228, 3) := dk_184 0 228 (dk_at dksL_law_66 0 rfl rfl)
theorem dL_law_1715 : decode cL_law 1715 = .ok (.istore 5, 2) := dk_54 5 (dk_at dksL_law_66 3 rfl rfl)
theorem dL_law_1717 : decode cL_law 1717 = .ok (.aload_n 2, 1) := dk_44 (dk_at dksL_law_66 5 rfl rfl)
theorem dL_law_1718 : decode cL_law 1718 = .ok (.aload_n 0, 1) := dk_42 (dk_at dksL_law_66 6 rfl rfl)
theorem dL_law_1719 : decode cL_law 1719 = .ok (.iload 4, 2) := dk_21 4 (dk_at dksL_law_66 7 rfl rfl)
theorem dL_law_1721 : decode cL_law 1721 = .ok (.iconst 1, 1) := dk_4 (dk_at dksL_law_66 9 rfl rfl)
theorem dL_law_1722 : decode cL_law 1722 = .ok (.iadd, 1) := dk_96 (dk_at dksL_law_66 10 rfl rfl)
theorem dL_law_1723 : decode cL_law 1723 = .ok (.iaload, 1) := dk_46 (dk_at dksL_law_66 11 rfl rfl)
theorem dL_law_1724 : decode cL_law 1724 = .ok (.aload_n 0, 1) := dk_42 (dk_at dksL_law_66 12 rfl rfl)
theorem dL_law_1725 : decode cL_law 1725 = .ok (.iload 4, 2) := dk_21 4 (dk_at dksL_law_66 13 rfl rfl)
theorem dL_law_1727 : decode cL_law 1727 = .ok (.iconst 2, 1) := dk_5 (dk_at dksL_law_66 15 rfl rfl)
theorem dL_law_1728 : decode cL_law 1728 = .ok (.iadd, 1) := dk_96 (dk_at dksL_law_66 16 rfl rfl)
theorem dL_law_1729 : decode cL_law 1729 = .ok (.iaload, 1) := dk_46 (dk_at dksL_law_66 17 rfl rfl)
theorem dL_law_1730 : decode cL_law 1730 = .ok (.invokevirtual 230, 3) := dk_182 0 230 (dk_at dksL_law_66 18 rfl rfl)
theorem dL_law_1733 : decode cL_law 1733 = .ok (.istore 6, 2) := dk_54 6 (dk_at dksL_law_66 21 rfl rfl)
theorem dL_law_1735 : decode cL_law 1735 = .ok (.aload_n 2, 1) := dk_44 (dk_at dksL_law_66 23 rfl rfl)
theorem dL_law_1736 : decode cL_law 1736 = .ok (.invokevirtual 135, 3) := dk_182 0 135 (dk_at dksL_law_67 0 rfl rfl)
theorem dL_law_1739 : decode cL_law 1739 = .ok (.iload 5, 2) := dk_21 5 (dk_at dksL_law_67 3 rfl rfl)
theorem dL_law_1741 : decode cL_law 1741 = .ok (.if_icmp .eq 5, 3) := dk_159 0 5 (dk_at dksL_law_67 5 rfl rfl)
theorem dL_law_1744 : decode cL_law 1744 = .ok (.iconst 0, 1) := dk_3 (dk_at dksL_law_67 8 rfl rfl)
theorem dL_law_1745 : decode cL_law 1745 = .ok (.ireturn, 1) := dk_172 (dk_at dksL_law_67 9 rfl rfl)
theorem dL_law_1746 : decode cL_law 1746 = .ok (.iload 5, 2) := dk_21 5 (dk_at dksL_law_67 10 rfl rfl)
theorem dL_law_1748 : decode cL_law 1748 = .ok (.ifCond .ne 15, 3) := dk_154 0 15 (dk_at dksL_law_67 12 rfl rfl)
theorem dL_law_1751 : decode cL_law 1751 = .ok (.aload_n 3, 1) := dk_45 (dk_at dksL_law_67 15 rfl rfl)
theorem dL_law_1752 : decode cL_law 1752 = .ok (.iconst 0, 1) := dk_3 (dk_at dksL_law_67 16 rfl rfl)
theorem dL_law_1753 : decode cL_law 1753 = .ok (.laload, 1) := dk_47 (dk_at dksL_law_67 17 rfl rfl)
theorem dL_law_1754 : decode cL_law 1754 = .ok (.iload 6, 2) := dk_21 6 (dk_at dksL_law_67 18 rfl rfl)
theorem dL_law_1756 : decode cL_law 1756 = .ok (.i2l, 1) := dk_133 (dk_at dksL_law_67 20 rfl rfl)
theorem dL_law_1757 : decode cL_law 1757 = .ok (.lcmp, 1) := dk_148 (dk_at dksL_law_67 21 rfl rfl)
theorem dL_law_1758 : decode cL_law 1758 = .ok (.ifCond .eq 5, 3) := dk_153 0 5 (dk_at dksL_law_68 0 rfl rfl)
theorem dL_law_1761 : decode cL_law 1761 = .ok (.iconst 0, 1) := dk_3 (dk_at dksL_law_68 3 rfl rfl)
theorem dL_law_1762 : decode cL_law 1762 = .ok (.ireturn, 1) := dk_172 (dk_at dksL_law_68 4 rfl rfl)
theorem dL_law_1763 : decode cL_law 1763 = .ok (.goto 835, 3) := dk_167 3 67 (dk_at dksL_law_68 5 rfl rfl)
theorem dL_law_1766 : decode cL_law 1766 = .ok (.aload_n 1, 1) := dk_43 (dk_at dksL_law_68 8 rfl rfl)
theorem dL_law_1767 : decode cL_law 1767 = .ok (.aload_n 0, 1) := dk_42 (dk_at dksL_law_68 9 rfl rfl)
theorem dL_law_1768 : decode cL_law 1768 = .ok (.iload 4, 2) := dk_21 4 (dk_at dksL_law_68 10 rfl rfl)
theorem dL_law_1770 : decode cL_law 1770 = .ok (.iconst 1, 1) := dk_4 (dk_at dksL_law_68 12 rfl rfl)
theorem dL_law_1771 : decode cL_law 1771 = .ok (.iadd, 1) := dk_96 (dk_at dksL_law_68 13 rfl rfl)
theorem dL_law_1772 : decode cL_law 1772 = .ok (.iaload, 1) := dk_46 (dk_at dksL_law_68 14 rfl rfl)
theorem dL_law_1773 : decode cL_law 1773 = .ok (.aload_n 3, 1) := dk_45 (dk_at dksL_law_68 15 rfl rfl)
theorem dL_law_1774 : decode cL_law 1774 = .ok (.invokestatic 231, 3) := dk_184 0 231 (dk_at dksL_law_68 16 rfl rfl)
theorem dL_law_1777 : decode cL_law 1777 = .ok (.istore 5, 2) := dk_54 5 (dk_at dksL_law_68 19 rfl rfl)
theorem dL_law_1779 : decode cL_law 1779 = .ok (.aload_n 2, 1) := dk_44 (dk_at dksL_law_68 21 rfl rfl)
theorem dL_law_1780 : decode cL_law 1780 = .ok (.aload_n 0, 1) := dk_42 (dk_at dksL_law_68 22 rfl rfl)
theorem dL_law_1781 : decode cL_law 1781 = .ok (.iload 4, 2) := dk_21 4 (dk_at dksL_law_69 0 rfl rfl)
theorem dL_law_1783 : decode cL_law 1783 = .ok (.iconst 1, 1) := dk_4 (dk_at dksL_law_69 2 rfl rfl)
theorem dL_law_1784 : decode cL_law 1784 = .ok (.iadd, 1) := dk_96 (dk_at dksL_law_69 3 rfl rfl)
theorem dL_law_1785 : decode cL_law 1785 = .ok (.iaload, 1) := dk_46 (dk_at dksL_law_69 4 rfl rfl)
theorem dL_law_1786 : decode cL_law 1786 = .ok (.invokevirtual 233, 3) := dk_182 0 233 (dk_at dksL_law_69 5 rfl rfl)
theorem dL_law_1789 : decode cL_law 1789 = .ok (.istore 6, 2) := dk_54 6 (dk_at dksL_law_69 8 rfl rfl)
theorem dL_law_1791 : decode cL_law 1791 = .ok (.aload_n 2, 1) := dk_44 (dk_at dksL_law_69 10 rfl rfl)
theorem dL_law_1792 : decode cL_law 1792 = .ok (.invokevirtual 135, 3) := dk_182 0 135 (dk_at dksL_law_69 11 rfl rfl)
theorem dL_law_1795 : decode cL_law 1795 = .ok (.iload 5, 2) := dk_21 5 (dk_at dksL_law_69 14 rfl rfl)
theorem dL_law_1797 : decode cL_law 1797 = .ok (.if_icmp .eq 5, 3) := dk_159 0 5 (dk_at dksL_law_69 16 rfl rfl)
theorem dL_law_1800 : decode cL_law 1800 = .ok (.iconst 0, 1) := dk_3 (dk_at dksL_law_69 19 rfl rfl)
theorem dL_law_1801 : decode cL_law 1801 = .ok (.ireturn, 1) := dk_172 (dk_at dksL_law_69 20 rfl rfl)
theorem dL_law_1802 : decode cL_law 1802 = .ok (.iload 5, 2) := dk_21 5 (dk_at dksL_law_69 21 rfl rfl)
theorem dL_law_1804 : decode cL_law 1804 = .ok (.ifCond .ne 15, 3) := dk_154 0 15 (dk_at dksL_law_70 0 rfl rfl)
theorem dL_law_1807 : decode cL_law 1807 = .ok (.aload_n 3, 1) := dk_45 (dk_at dksL_law_70 3 rfl rfl)
theorem dL_law_1808 : decode cL_law 1808 = .ok (.iconst 0, 1) := dk_3 (dk_at dksL_law_70 4 rfl rfl)
theorem dL_law_1809 : decode cL_law 1809 = .ok (.laload, 1) := dk_47 (dk_at dksL_law_70 5 rfl rfl)
theorem dL_law_1810 : decode cL_law 1810 = .ok (.iload 6, 2) := dk_21 6 (dk_at dksL_law_70 6 rfl rfl)
theorem dL_law_1812 : decode cL_law 1812 = .ok (.i2l, 1) := dk_133 (dk_at dksL_law_70 8 rfl rfl)
theorem dL_law_1813 : decode cL_law 1813 = .ok (.lcmp, 1) := dk_148 (dk_at dksL_law_70 9 rfl rfl)
theorem dL_law_1814 : decode cL_law 1814 = .ok (.ifCond .eq 5, 3) := dk_153 0 5 (dk_at dksL_law_70 10 rfl rfl)
theorem dL_law_1817 : decode cL_law 1817 = .ok (.iconst 0, 1) := dk_3 (dk_at dksL_law_70 13 rfl rfl)
theorem dL_law_1818 : decode cL_law 1818 = .ok (.ireturn, 1) := dk_172 (dk_at dksL_law_70 14 rfl rfl)
theorem dL_law_1819 : decode cL_law 1819 = .ok (.goto 779, 3) := dk_167 3 11 (dk_at dksL_law_70 15 rfl rfl)
theorem dL_law_1822 : decode cL_law 1822 = .ok (.aload_n 1, 1) := dk_43 (dk_at dksL_law_70 18 rfl rfl)
theorem dL_law_1823 : decode cL_law 1823 = .ok (.invokevirtual 234, 3) := dk_182 0 234 (dk_at dksL_law_70 19 rfl rfl)
theorem dL_law_1826 : decode cL_law 1826 = .ok (.aload_n 2, 1) := dk_44 (dk_at dksL_law_70 22 rfl rfl)
theorem dL_law_1827 : decode cL_law 1827 = .ok (.invokevirtual 237, 3) := dk_182 0 237 (dk_at dksL_law_71 0 rfl rfl)
theorem dL_law_1830 : decode cL_law 1830 = .ok (.if_icmp .eq 768, 3) := dk_159 3 0 (dk_at dksL_law_71 3 rfl rfl)
theorem dL_law_1833 : decode cL_law 1833 = .ok (.iconst 0, 1) := dk_3 (dk_at dksL_law_71 6 rfl rfl)
theorem dL_law_1834 : decode cL_law 1834 = .ok (.ireturn, 1) := dk_172 (dk_at dksL_law_71 7 rfl rfl)
theorem dL_law_1835 : decode cL_law 1835 = .ok (.aload_n 1, 1) := dk_43 (dk_at dksL_law_71 8 rfl rfl)
theorem dL_law_1836 : decode cL_law 1836 = .ok (.aload_n 0, 1) := dk_42 (dk_at dksL_law_71 9 rfl rfl)
theorem dL_law_1837 : decode cL_law 1837 = .ok (.iload 4, 2) := dk_21 4 (dk_at dksL_law_71 10 rfl rfl)
theorem dL_law_1839 : decode cL_law 1839 = .ok (.iconst 1, 1) := dk_4 (dk_at dksL_law_71 12 rfl rfl)
theorem dL_law_1840 : decode cL_law 1840 = .ok (.iadd, 1) := dk_96 (dk_at dksL_law_71 13 rfl rfl)
theorem dL_law_1841 : decode cL_law 1841 = .ok (.iaload, 1) := dk_46 (dk_at dksL_law_71 14 rfl rfl)
theorem dL_law_1842 : decode cL_law 1842 = .ok (.aload_n 3, 1) := dk_45 (dk_at dksL_law_71 15 rfl rfl)
theorem dL_law_1843 : decode cL_law 1843 = .ok (.invokestatic 238, 3) := dk_184 0 238 (dk_at dksL_law_71 16 rfl rfl)
theorem dL_law_1846 : decode cL_law 1846 = .ok (.istore 5, 2) := dk_54 5 (dk_at dksL_law_71 19 rfl rfl)
theorem dL_law_1848 : decode cL_law 1848 = .ok (.aload_n 2, 1) := dk_44 (dk_at dksL_law_71 21 rfl rfl)
theorem dL_law_1849 : decode cL_law 1849 = .ok (.aload_n 0, 1) := dk_42 (dk_at dksL_law_71 22 rfl rfl)
theorem dL_law_1850 : decode cL_law 1850 = .ok (.iload 4, 2) := dk_21 4 (dk_at dksL_law_72 0 rfl rfl)
theorem dL_law_1852 : decode cL_law 1852 = .ok (.iconst 1, 1) := dk_4 (dk_at dksL_law_72 2 rfl rfl)
theorem dL_law_1853 : decode cL_law 1853 = .ok (.iadd, 1) := dk_96 (dk_at dksL_law_72 3 rfl rfl)
theorem dL_law_1854 : decode cL_law 1854 = .ok (.iaload, 1) := dk_46 (dk_at dksL_law_72 4 rfl rfl)
theorem dL_law_1855 : decode cL_law 1855 = .ok (.invokevirtual 240, 3) := dk_182 0 240 (dk_at dksL_law_72 5 rfl rfl)
theorem dL_law_1858 : decode cL_law 1858 = .ok (.istore 6, 2) := dk_54 6 (dk_at dksL_law_72 8 rfl rfl)
theorem dL_law_1860 : decode cL_law 1860 = .ok (.aload_n 2, 1) := dk_44 (dk_at dksL_law_72 10 rfl rfl)
theorem dL_law_1861 : decode cL_law 1861 = .ok (.invokevirtual 135, 3) := dk_182 0 135 (dk_at dksL_law_72 11 rfl rfl)
theorem dL_law_1864 : decode cL_law 1864 = .ok (.iload 5, 2) := dk_21 5 (dk_at dksL_law_72 14 rfl rfl)
theorem dL_law_1866 : decode cL_law 1866 = .ok (.if_icmp .eq 5, 3) := dk_159 0 5 (dk_at dksL_law_72 16 rfl rfl)
theorem dL_law_1869 : decode cL_law 1869 = .ok (.iconst 0, 1) := dk_3 (dk_at dksL_law_72 19 rfl rfl)
theorem dL_law_1870 : decode cL_law 1870 = .ok (.ireturn, 1) := dk_172 (dk_at dksL_law_72 20 rfl rfl)
theorem dL_law_1871 : decode cL_law 1871 = .ok (.iload 5, 2) := dk_21 5 (dk_at dksL_law_72 21 rfl rfl)
theorem dL_law_1873 : decode cL_law 1873 = .ok (.ifCond .ne 15, 3) := dk_154 0 15 (dk_at dksL_law_73 0 rfl rfl)
theorem dL_law_1876 : decode cL_law 1876 = .ok (.aload_n 3, 1) := dk_45 (dk_at dksL_law_73 3 rfl rfl)
theorem dL_law_1877 : decode cL_law 1877 = .ok (.iconst 0, 1) := dk_3 (dk_at dksL_law_73 4 rfl rfl)
theorem dL_law_1878 : decode cL_law 1878 = .ok (.laload, 1) := dk_47 (dk_at dksL_law_73 5 rfl rfl)
theorem dL_law_1879 : decode cL_law 1879 = .ok (.iload 6, 2) := dk_21 6 (dk_at dksL_law_73 6 rfl rfl)
theorem dL_law_1881 : decode cL_law 1881 = .ok (.i2l, 1) := dk_133 (dk_at dksL_law_73 8 rfl rfl)
theorem dL_law_1882 : decode cL_law 1882 = .ok (.lcmp, 1) := dk_148 (dk_at dksL_law_73 9 rfl rfl)
theorem dL_law_1883 : decode cL_law 1883 = .ok (.ifCond .eq 5, 3) := dk_153 0 5 (dk_at dksL_law_73 10 rfl rfl)
theorem dL_law_1886 : decode cL_law 1886 = .ok (.iconst 0, 1) := dk_3 (dk_at dksL_law_73 13 rfl rfl)
theorem dL_law_1887 : decode cL_law 1887 = .ok (.ireturn, 1) := dk_172 (dk_at dksL_law_73 14 rfl rfl)
theorem dL_law_1888 : decode cL_law 1888 = .ok (.goto 710, 3) := dk_167 2 198 (dk_at dksL_law_73 15 rfl rfl)
theorem dL_law_1891 : decode cL_law 1891 = .ok (.aload_n 1, 1) := dk_43 (dk_at dksL_law_73 18 rfl rfl)
theorem dL_law_1892 : decode cL_law 1892 = .ok (.aload_n 0, 1) := dk_42 (dk_at dksL_law_73 19 rfl rfl)
theorem dL_law_1893 : decode cL_law 1893 = .ok (.iload 4, 2) := dk_21 4 (dk_at dksL_law_73 20 rfl rfl)
theorem dL_law_1895 : decode cL_law 1895 = .ok (.iconst 1, 1) := dk_4 (dk_at dksL_law_73 22 rfl rfl)
theorem dL_law_1896 : decode cL_law 1896 = .ok (.iadd, 1) := dk_96 (dk_at dksL_law_73 23 rfl rfl)
theorem dL_law_1897 : decode cL_law 1897 = .ok (.iaload, 1) := dk_46 (dk_at dksL_law_74 0 rfl rfl)
theorem dL_law_1898 : decode cL_law 1898 = .ok (.aload_n 3, 1) := dk_45 (dk_at dksL_law_74 1 rfl rfl)
theorem dL_law_1899 : decode cL_law 1899 = .ok (.invokestatic 241, 3) := dk_184 0 241 (dk_at dksL_law_74 2 rfl rfl)
theorem dL_law_1902 : decode cL_law 1902 = .ok (.istore 5, 2) := dk_54 5 (dk_at dksL_law_74 5 rfl rfl)
theorem dL_law_1904 : decode cL_law 1904 = .ok (.aload_n 2, 1) := dk_44 (dk_at dksL_law_74 7 rfl rfl)
theorem dL_law_1905 : decode cL_law 1905 = .ok (.aload_n 0, 1) := dk_42 (dk_at dksL_law_74 8 rfl rfl)
theorem dL_law_1906 : decode cL_law 1906 = .ok (.iload 4, 2) := dk_21 4 (dk_at dksL_law_74 9 rfl rfl)
theorem dL_law_1908 : decode cL_law 1908 = .ok (.iconst 1, 1) := dk_4 (dk_at dksL_law_74 11 rfl rfl)
theorem dL_law_1909 : decode cL_law 1909 = .ok (.iadd, 1) := dk_96 (dk_at dksL_law_74 12 rfl rfl)
theorem dL_law_1910 : decode cL_law 1910 = .ok (.iaload, 1) := dk_46 (dk_at dksL_law_74 13 rfl rfl)
theorem dL_law_1911 : decode cL_law 1911 = .ok (.invokevirtual 243, 3) := dk_182 0 243 (dk_at dksL_law_74 14 rfl rfl)
theorem dL_law_1914 : decode cL_law 1914 = .ok (.istore 6, 2) := dk_54 6 (dk_at dksL_law_74 17 rfl rfl)
theorem dL_law_1916 : decode cL_law 1916 = .ok (.aload_n 2, 1) := dk_44 (dk_at dksL_law_74 19 rfl rfl)
theorem dL_law_1917 : decode cL_law 1917 = .ok (.invokevirtual 135, 3) := dk_182 0 135 (dk_at dksL_law_74 20 rfl rfl)
theorem dL_law_1920 : decode cL_law 1920 = .ok (.iload 5, 2) := dk_21 5 (dk_at dksL_law_75 0 rfl rfl)
theorem dL_law_1922 : decode cL_law 1922 = .ok (.if_icmp .eq 5, 3) := dk_159 0 5 (dk_at dksL_law_75 2 rfl rfl)
theorem dL_law_1925 : decode cL_law 1925 = .ok (.iconst 0, 1) := dk_3 (dk_at dksL_law_75 5 rfl rfl)
theorem dL_law_1926 : decode cL_law 1926 = .ok (.ireturn, 1) := dk_172 (dk_at dksL_law_75 6 rfl rfl)
theorem dL_law_1927 : decode cL_law 1927 = .ok (.iload 5, 2) := dk_21 5 (dk_at dksL_law_75 7 rfl rfl)
theorem dL_law_1929 : decode cL_law 1929 = .ok (.ifCond .ne 15, 3) := dk_154 0 15 (dk_at dksL_law_75 9 rfl rfl)
theorem dL_law_1932 : decode cL_law 1932 = .ok (.aload_n 3, 1) := dk_45 (dk_at dksL_law_75 12 rfl rfl)
theorem dL_law_1933 : decode cL_law 1933 = .ok (.iconst 0, 1) := dk_3 (dk_at dksL_law_75 13 rfl rfl)
theorem dL_law_1934 : decode cL_law 1934 = .ok (.laload, 1) := dk_47 (dk_at dksL_law_75 14 rfl rfl)
theorem dL_law_1935 : decode cL_law 1935 = .ok (.iload 6, 2) := dk_21 6 (dk_at dksL_law_75 15 rfl rfl)
theorem dL_law_1937 : decode cL_law 1937 = .ok (.i2l, 1) := dk_133 (dk_at dksL_law_75 17 rfl rfl)
theorem dL_law_1938 : decode cL_law 1938 = .ok (.lcmp, 1) := dk_148 (dk_at dksL_law_75 18 rfl rfl)
theorem dL_law_1939 : decode cL_law 1939 = .ok (.ifCond .eq 5, 3) := dk_153 0 5 (dk_at dksL_law_75 19 rfl rfl)
theorem dL_law_1942 : decode cL_law 1942 = .ok (.iconst 0, 1) := dk_3 (dk_at dksL_law_75 22 rfl rfl)
theorem dL_law_1943 : decode cL_law 1943 = .ok (.ireturn, 1) := dk_172 (dk_at dksL_law_75 23 rfl rfl)
theorem dL_law_1944 : decode cL_law 1944 = .ok (.goto 654, 3) := dk_167 2 142 (dk_at dksL_law_76 0 rfl rfl)
theorem dL_law_1947 : decode cL_law 1947 = .ok (.aload_n 1, 1) := dk_43 (dk_at dksL_law_76 3 rfl rfl)
theorem dL_law_1948 : decode cL_law 1948 = .ok (.aload_n 0, 1) := dk_42 (dk_at dksL_law_76 4 rfl rfl)
theorem dL_law_1949 : decode cL_law 1949 = .ok (.iload 4, 2) := dk_21 4 (dk_at dksL_law_76 5 rfl rfl)
theorem dL_law_1951 : decode cL_law 1951 = .ok (.iconst 1, 1) := dk_4 (dk_at dksL_law_76 7 rfl rfl)
theorem dL_law_1952 : decode cL_law 1952 = .ok (.iadd, 1) := dk_96 (dk_at dksL_law_76 8 rfl rfl)
theorem dL_law_1953 : decode cL_law 1953 = .ok (.iaload, 1) := dk_46 (dk_at dksL_law_76 9 rfl rfl)
theorem dL_law_1954 : decode cL_law 1954 = .ok (.aload_n 0, 1) := dk_42 (dk_at dksL_law_76 10 rfl rfl)
theorem dL_law_1955 : decode cL_law 1955 = .ok (.iload 4, 2) := dk_21 4 (dk_at dksL_law_76 11 rfl rfl)
theorem dL_law_1957 : decode cL_law 1957 = .ok (.iconst 2, 1) := dk_5 (dk_at dksL_law_76 13 rfl rfl)
theorem dL_law_1958 : decode cL_law 1958 = .ok (.iadd, 1) := dk_96 (dk_at dksL_law_76 14 rfl rfl)
theorem dL_law_1959 : decode cL_law 1959 = .ok (.iaload, 1) := dk_46 (dk_at dksL_law_76 15 rfl rfl)
theorem dL_law_1960 : decode cL_law 1960 = .ok (.aload_n 3, 1) := dk_45 (dk_at dksL_law_76 16 rfl rfl)
theorem dL_law_1961 : decode cL_law 1961 = .ok (.invokestatic 244, 3) := dk_184 0 244 (dk_at dksL_law_76 17 rfl rfl)
theorem dL_law_1964 : decode cL_law 1964 = .ok (.istore 5, 2) := dk_54 5 (dk_at dksL_law_76 20 rfl rfl)
theorem dL_law_1966 : decode cL_law 1966 = .ok (.aload_n 2, 1) := dk_44 (dk_at dksL_law_76 22 rfl rfl)
theorem dL_law_1967 : decode cL_law 1967 = .ok (.aload_n 0, 1) := dk_42 (dk_at dksL_law_76 23 rfl rfl)
theorem dL_law_1968 : decode cL_law 1968 = .ok (.iload 4, 2) := dk_21 4 (dk_at dksL_law_77 0 rfl rfl)
theorem dL_law_1970 : decode cL_law 1970 = .ok (.iconst 1, 1) := dk_4 (dk_at dksL_law_77 2 rfl rfl)
theorem dL_law_1971 : decode cL_law 1971 = .ok (.iadd, 1) := dk_96 (dk_at dksL_law_77 3 rfl rfl)
theorem dL_law_1972 : decode cL_law 1972 = .ok (.iaload, 1) := dk_46 (dk_at dksL_law_77 4 rfl rfl)
theorem dL_law_1973 : decode cL_law 1973 = .ok (.aload_n 0, 1) := dk_42 (dk_at dksL_law_77 5 rfl rfl)
theorem dL_law_1974 : decode cL_law 1974 = .ok (.iload 4, 2) := dk_21 4 (dk_at dksL_law_77 6 rfl rfl)
theorem dL_law_1976 : decode cL_law 1976 = .ok (.iconst 2, 1) := dk_5 (dk_at dksL_law_77 8 rfl rfl)
theorem dL_law_1977 : decode cL_law 1977 = .ok (.iadd, 1) := dk_96 (dk_at dksL_law_77 9 rfl rfl)
theorem dL_law_1978 : decode cL_law 1978 = .ok (.iaload, 1) := dk_46 (dk_at dksL_law_77 10 rfl rfl)
theorem dL_law_1979 : decode cL_law 1979 = .ok (.invokevirtual 246, 3) := dk_182 0 246 (dk_at dksL_law_77 11 rfl rfl)
theorem dL_law_1982 : decode cL_law 1982 = .ok (.istore 6, 2) := dk_54 6 (dk_at dksL_law_77 14 rfl rfl)
theorem dL_law_1984 : decode cL_law 1984 = .ok (.aload_n 2, 1) := dk_44 (dk_at dksL_law_77 16 rfl rfl)
theorem dL_law_1985 : decode cL_law 1985 = .ok (.invokevirtual 135, 3) := dk_182 0 135 (dk_at dksL_law_77 17 rfl rfl)
theorem dL_law_1988 : decode cL_law 1988 = .ok (.iload 5, 2) := dk_21 5 (dk_at dksL_law_77 20 rfl rfl)
theorem dL_law_1990 : decode cL_law 1990 = .ok (.if_icmp .eq 5, 3) := dk_159 0 5 (dk_at dksL_law_78 0 rfl rfl)
theorem dL_law_1993 : decode cL_law 1993 = .ok (.iconst 0, 1) := dk_3 (dk_at dksL_law_78 3 rfl rfl)
theorem dL_law_1994 : decode cL_law 1994 = .ok (.ireturn, 1) := dk_172 (dk_at dksL_law_78 4 rfl rfl)
theorem dL_law_1995 : decode cL_law 1995 = .ok (.iload 5, 2) := dk_21 5 (dk_at dksL_law_78 5 rfl rfl)
theorem dL_law_1997 : decode cL_law 1997 = .ok (.ifCond .ne 15, 3) := dk_154 0 15 (dk_at dksL_law_78 7 rfl rfl)
theorem dL_law_2000 : decode cL_law 2000 = .ok (.aload_n 3, 1) := dk_45 (dk_at dksL_law_78 10 rfl rfl)
theorem dL_law_2001 : decode cL_law 2001 = .ok (.iconst 0, 1) := dk_3 (dk_at dksL_law_78 11 rfl rfl)
theorem dL_law_2002 : decode cL_law 2002 = .ok (.laload, 1) := dk_47 (dk_at dksL_law_78 12 rfl rfl)
theorem dL_law_2003 : decode cL_law 2003 = .ok (.iload 6, 2) := dk_21 6 (dk_at dksL_law_78 13 rfl rfl)
theorem dL_law_2005 : decode cL_law 2005 = .ok (.i2l, 1) := dk_133 (dk_at dksL_law_78 15 rfl rfl)
theorem dL_law_2006 : decode cL_law 2006 = .ok (.lcmp, 1) := dk_148 (dk_at dksL_law_78 16 rfl rfl)
theorem dL_law_2007 : decode cL_law 2007 = .ok (.ifCond .eq 5, 3) := dk_153 0 5 (dk_at dksL_law_78 17 rfl rfl)
theorem dL_law_2010 : decode cL_law 2010 = .ok (.iconst 0, 1) := dk_3 (dk_at dksL_law_78 20 rfl rfl)
theorem dL_law_2011 : decode cL_law 2011 = .ok (.ireturn, 1) := dk_172 (dk_at dksL_law_78 21 rfl rfl)
theorem dL_law_2012 : decode cL_law 2012 = .ok (.goto 586, 3) := dk_167 2 74 (dk_at dksL_law_79 0 rfl rfl)
theorem dL_law_2015 : decode cL_law 2015 = .ok (.aload_n 1, 1) := dk_43 (dk_at dksL_law_79 3 rfl rfl)
theorem dL_law_2016 : decode cL_law 2016 = .ok (.aload_n 0, 1) := dk_42 (dk_at dksL_law_79 4 rfl rfl)
theorem dL_law_2017 : decode cL_law 2017 = .ok (.iload 4, 2) := dk_21 4 (dk_at dksL_law_79 5 rfl rfl)
theorem dL_law_2019 : decode cL_law 2019 = .ok (.iconst 1, 1) := dk_4 (dk_at dksL_law_79 7 rfl rfl)
theorem dL_law_2020 : decode cL_law 2020 = .ok (.iadd, 1) := dk_96 (dk_at dksL_law_79 8 rfl rfl)
theorem dL_law_2021 : decode cL_law 2021 = .ok (.iaload, 1) := dk_46 (dk_at dksL_law_79 9 rfl rfl)
theorem dL_law_2022 : decode cL_law 2022 = .ok (.aload_n 0, 1) := dk_42 (dk_at dksL_law_79 10 rfl rfl)
theorem dL_law_2023 : decode cL_law 2023 = .ok (.iload 4, 2) := dk_21 4 (dk_at dksL_law_79 11 rfl rfl)
theorem dL_law_2025 : decode cL_law 2025 = .ok (.iconst 2, 1) := dk_5 (dk_at dksL_law_79 13 rfl rfl)
theorem dL_law_2026 : decode cL_law 2026 = .ok (.iadd, 1) := dk_96 (dk_at dksL_law_79 14 rfl rfl)
theorem dL_law_2027 : decode cL_law 2027 = .ok (.iaload, 1) := dk_46 (dk_at dksL_law_79 15 rfl rfl)
theorem dL_law_2028 : decode cL_law 2028 = .ok (.aload_n 3, 1) := dk_45 (dk_at dksL_law_79 16 rfl rfl)
theorem dL_law_2029 : decode cL_law 2029 = .ok (.invokestatic 247, 3) := dk_184 0 247 (dk_at dksL_law_79 17 rfl rfl)
theorem dL_law_2032 : decode cL_law 2032 = .ok (.istore 5, 2) := dk_54 5 (dk_at dksL_law_79 20 rfl rfl)
theorem dL_law_2034 : decode cL_law 2034 = .ok (.aload_n 2, 1) := dk_44 (dk_at dksL_law_79 22 rfl rfl)
theorem dL_law_2035 : decode cL_law 2035 = .ok (.aload_n 0, 1) := dk_42 (dk_at dksL_law_79 23 rfl rfl)
theorem dL_law_2036 : decode cL_law 2036 = .ok (.iload 4, 2) := dk_21 4 (dk_at dksL_law_80 0 rfl rfl)
theorem dL_law_2038 : decode cL_law 2038 = .ok (.iconst 1, 1) := dk_4 (dk_at dksL_law_80 2 rfl rfl)
theorem dL_law_2039 : decode cL_law 2039 = .ok (.iadd, 1) := dk_96 (dk_at dksL_law_80 3 rfl rfl)
theorem dL_law_2040 : decode cL_law 2040 = .ok (.iaload, 1) := dk_46 (dk_at dksL_law_80 4 rfl rfl)
theorem dL_law_2041 : decode cL_law 2041 = .ok (.aload_n 0, 1) := dk_42 (dk_at dksL_law_80 5 rfl rfl)
theorem dL_law_2042 : decode cL_law 2042 = .ok (.iload 4, 2) := dk_21 4 (dk_at dksL_law_80 6 rfl rfl)
theorem dL_law_2044 : decode cL_law 2044 = .ok (.iconst 2, 1) := dk_5 (dk_at dksL_law_80 8 rfl rfl)
theorem dL_law_2045 : decode cL_law 2045 = .ok (.iadd, 1) := dk_96 (dk_at dksL_law_80 9 rfl rfl)
theorem dL_law_2046 : decode cL_law 2046 = .ok (.iaload, 1) := dk_46 (dk_at dksL_law_80 10 rfl rfl)
theorem dL_law_2047 : decode cL_law 2047 = .ok (.invokevirtual 249, 3) := dk_182 0 249 (dk_at dksL_law_80 11 rfl rfl)
theorem dL_law_2050 : decode cL_law 2050 = .ok (.istore 6, 2) := dk_54 6 (dk_at dksL_law_80 14 rfl rfl)
theorem dL_law_2052 : decode cL_law 2052 = .ok (.aload_n 2, 1) := dk_44 (dk_at dksL_law_80 16 rfl rfl)
theorem dL_law_2053 : decode cL_law 2053 = .ok (.invokevirtual 135, 3) := dk_182 0 135 (dk_at dksL_law_80 17 rfl rfl)
theorem dL_law_2056 : decode cL_law 2056 = .ok (.iload 5, 2) := dk_21 5 (dk_at dksL_law_80 20 rfl rfl)
theorem dL_law_2058 : decode cL_law 2058 = .ok (.if_icmp .eq 5, 3) := dk_159 0 5 (dk_at dksL_law_81 0 rfl rfl)
theorem dL_law_2061 : decode cL_law 2061 = .ok (.iconst 0, 1) := dk_3 (dk_at dksL_law_81 3 rfl rfl)
theorem dL_law_2062 : decode cL_law 2062 = .ok (.ireturn, 1) := dk_172 (dk_at dksL_law_81 4 rfl rfl)
theorem dL_law_2063 : decode cL_law 2063 = .ok (.iload 5, 2) := dk_21 5 (dk_at dksL_law_81 5 rfl rfl)
theorem dL_law_2065 : decode cL_law 2065 = .ok (.ifCond .ne 15, 3) := dk_154 0 15 (dk_at dksL_law_81 7 rfl rfl)
theorem dL_law_2068 : decode cL_law 2068 = .ok (.aload_n 3, 1) := dk_45 (dk_at dksL_law_81 10 rfl rfl)
theorem dL_law_2069 : decode cL_law 2069 = .ok (.iconst 0, 1) := dk_3 (dk_at dksL_law_81 11 rfl rfl)
theorem dL_law_2070 : decode cL_law 2070 = .ok (.laload, 1) := dk_47 (dk_at dksL_law_81 12 rfl rfl)
theorem dL_law_2071 : decode cL_law 2071 = .ok (.iload 6, 2) := dk_21 6 (dk_at dksL_law_81 13 rfl rfl)
theorem dL_law_2073 : decode cL_law 2073 = .ok (.i2l, 1) := dk_133 (dk_at dksL_law_81 15 rfl rfl)
theorem dL_law_2074 : decode cL_law 2074 = .ok (.lcmp, 1) := dk_148 (dk_at dksL_law_81 16 rfl rfl)
theorem dL_law_2075 : decode cL_law 2075 = .ok (.ifCond .eq 5, 3) := dk_153 0 5 (dk_at dksL_law_81 17 rfl rfl)
theorem dL_law_2078 : decode cL_law 2078 = .ok (.iconst 0, 1) := dk_3 (dk_at dksL_law_81 20 rfl rfl)
theorem dL_law_2079 : decode cL_law 2079 = .ok (.ireturn, 1) := dk_172 (dk_at dksL_law_81 21 rfl rfl)
theorem dL_law_2080 : decode cL_law 2080 = .ok (.goto 518, 3) := dk_167 2 6 (dk_at dksL_law_82 0 rfl rfl)
theorem dL_law_2083 : decode cL_law 2083 = .ok (.aload_n 1, 1) := dk_43 (dk_at dksL_law_82 3 rfl rfl)
theorem dL_law_2084 : decode cL_law 2084 = .ok (.aload_n 0, 1) := dk_42 (dk_at dksL_law_82 4 rfl rfl)
theorem dL_law_2085 : decode cL_law 2085 = .ok (.iload 4, 2) := dk_21 4 (dk_at dksL_law_82 5 rfl rfl)
theorem dL_law_2087 : decode cL_law 2087 = .ok (.iconst 1, 1) := dk_4 (dk_at dksL_law_82 7 rfl rfl)
theorem dL_law_2088 : decode cL_law 2088 = .ok (.iadd, 1) := dk_96 (dk_at dksL_law_82 8 rfl rfl)
theorem dL_law_2089 : decode cL_law 2089 = .ok (.iaload, 1) := dk_46 (dk_at dksL_law_82 9 rfl rfl)
theorem dL_law_2090 : decode cL_law 2090 = .ok (.aload_n 0, 1) := dk_42 (dk_at dksL_law_82 10 rfl rfl)
theorem dL_law_2091 : decode cL_law 2091 = .ok (.iload 4, 2) := dk_21 4 (dk_at dksL_law_82 11 rfl rfl)
theorem dL_law_2093 : decode cL_law 2093 = .ok (.iconst 2, 1) := dk_5 (dk_at dksL_law_82 13 rfl rfl)
theorem dL_law_2094 : decode cL_law 2094 = .ok (.iadd, 1) := dk_96 (dk_at dksL_law_82 14 rfl rfl)
theorem dL_law_2095 : decode cL_law 2095 = .ok (.iaload, 1) := dk_46 (dk_at dksL_law_82 15 rfl rfl)
theorem dL_law_2096 : decode cL_law 2096 = .ok (.aload_n 3, 1) := dk_45 (dk_at dksL_law_82 16 rfl rfl)
theorem dL_law_2097 : decode cL_law 2097 = .ok (.invokestatic 250, 3) := dk_184 0 250 (dk_at dksL_law_82 17 rfl rfl)
theorem dL_law_2100 : decode cL_law 2100 = .ok (.istore 5, 2) := dk_54 5 (dk_at dksL_law_82 20 rfl rfl)
theorem dL_law_2102 : decode cL_law 2102 = .ok (.aload_n 2, 1) := dk_44 (dk_at dksL_law_82 22 rfl rfl)
theorem dL_law_2103 : decode cL_law 2103 = .ok (.aload_n 0, 1) := dk_42 (dk_at dksL_law_82 23 rfl rfl)
theorem dL_law_2104 : decode cL_law 2104 = .ok (.iload 4, 2) := dk_21 4 (dk_at dksL_law_83 0 rfl rfl)
theorem dL_law_2106 : decode cL_law 2106 = .ok (.iconst 1, 1) := dk_4 (dk_at dksL_law_83 2 rfl rfl)
theorem dL_law_2107 : decode cL_law 2107 = .ok (.iadd, 1) := dk_96 (dk_at dksL_law_83 3 rfl rfl)
theorem dL_law_2108 : decode cL_law 2108 = .ok (.iaload, 1) := dk_46 (dk_at dksL_law_83 4 rfl rfl)
theorem dL_law_2109 : decode cL_law 2109 = .ok (.aload_n 0, 1) := dk_42 (dk_at dksL_law_83 5 rfl rfl)
theorem dL_law_2110 : decode cL_law 2110 = .ok (.iload 4, 2) := dk_21 4 (dk_at dksL_law_83 6 rfl rfl)
theorem dL_law_2112 : decode cL_law 2112 = .ok (.iconst 2, 1) := dk_5 (dk_at dksL_law_83 8 rfl rfl)
theorem dL_law_2113 : decode cL_law 2113 = .ok (.iadd, 1) := dk_96 (dk_at dksL_law_83 9 rfl rfl)
theorem dL_law_2114 : decode cL_law 2114 = .ok (.iaload, 1) := dk_46 (dk_at dksL_law_83 10 rfl rfl)
theorem dL_law_2115 : decode cL_law 2115 = .ok (.invokevirtual 252, 3) := dk_182 0 252 (dk_at dksL_law_83 11 rfl rfl)
theorem dL_law_2118 : decode cL_law 2118 = .ok (.istore 6, 2) := dk_54 6 (dk_at dksL_law_83 14 rfl rfl)
theorem dL_law_2120 : decode cL_law 2120 = .ok (.aload_n 2, 1) := dk_44 (dk_at dksL_law_83 16 rfl rfl)
theorem dL_law_2121 : decode cL_law 2121 = .ok (.invokevirtual 135, 3) := dk_182 0 135 (dk_at dksL_law_83 17 rfl rfl)
theorem dL_law_2124 : decode cL_law 2124 = .ok (.iload 5, 2) := dk_21 5 (dk_at dksL_law_83 20 rfl rfl)
theorem dL_law_2126 : decode cL_law 2126 = .ok (.if_icmp .eq 5, 3) := dk_159 0 5 (dk_at dksL_law_84 0 rfl rfl)
theorem dL_law_2129 : decode cL_law 2129 = .ok (.iconst 0, 1) := dk_3 (dk_at dksL_law_84 3 rfl rfl)
theorem dL_law_2130 : decode cL_law 2130 = .ok (.ireturn, 1) := dk_172 (dk_at dksL_law_84 4 rfl rfl)
theorem dL_law_2131 : decode cL_law 2131 = .ok (.iload 5, 2) := dk_21 5 (dk_at dksL_law_84 5 rfl rfl)
theorem dL_law_2133 : decode cL_law 2133 = .ok (.ifCond .ne 15, 3) := dk_154 0 15 (dk_at dksL_law_84 7 rfl rfl)
theorem dL_law_2136 : decode cL_law 2136 = .ok (.aload_n 3, 1) := dk_45 (dk_at dksL_law_84 10 rfl rfl)
theorem dL_law_2137 : decode cL_law 2137 = .ok (.iconst 0, 1) := dk_3 (dk_at dksL_law_84 11 rfl rfl)
theorem dL_law_2138 : decode cL_law 2138 = .ok (.laload, 1) := dk_47 (dk_at dksL_law_84 12 rfl rfl)
theorem dL_law_2139 : decode cL_law 2139 = .ok (.iload 6, 2) := dk_21 6 (dk_at dksL_law_84 13 rfl rfl)
theorem dL_law_2141 : decode cL_law 2141 = .ok (.i2l, 1) := dk_133 (dk_at dksL_law_84 15 rfl rfl)
theorem dL_law_2142 : decode cL_law 2142 = .ok (.lcmp, 1) := dk_148 (dk_at dksL_law_84 16 rfl rfl)
theorem dL_law_2143 : decode cL_law 2143 = .ok (.ifCond .eq 5, 3) := dk_153 0 5 (dk_at dksL_law_84 17 rfl rfl)
theorem dL_law_2146 : decode cL_law 2146 = .ok (.iconst 0, 1) := dk_3 (dk_at dksL_law_84 20 rfl rfl)
theorem dL_law_2147 : decode cL_law 2147 = .ok (.ireturn, 1) := dk_172 (dk_at dksL_law_84 21 rfl rfl)
theorem dL_law_2148 : decode cL_law 2148 = .ok (.goto 450, 3) := dk_167 1 194 (dk_at dksL_law_85 0 rfl rfl)
theorem dL_law_2151 : decode cL_law 2151 = .ok (.aload_n 1, 1) := dk_43 (dk_at dksL_law_85 3 rfl rfl)
theorem dL_law_2152 : decode cL_law 2152 = .ok (.invokevirtual 253, 3) := dk_182 0 253 (dk_at dksL_law_85 4 rfl rfl)
theorem dL_law_2155 : decode cL_law 2155 = .ok (.aload_n 2, 1) := dk_44 (dk_at dksL_law_85 7 rfl rfl)
theorem dL_law_2156 : decode cL_law 2156 = .ok (.invokevirtual 256, 3) := dk_182 1 0 (dk_at dksL_law_85 8 rfl rfl)
theorem dL_law_2159 : decode cL_law 2159 = .ok (.if_icmp .eq 439, 3) := dk_159 1 183 (dk_at dksL_law_85 11 rfl rfl)
theorem dL_law_2162 : decode cL_law 2162 = .ok (.iconst 0, 1) := dk_3 (dk_at dksL_law_85 14 rfl rfl)
theorem dL_law_2163 : decode cL_law 2163 = .ok (.ireturn, 1) := dk_172 (dk_at dksL_law_85 15 rfl rfl)
theorem dL_law_2164 : decode cL_law 2164 = .ok (.aload_n 1, 1) := dk_43 (dk_at dksL_law_85 16 rfl rfl)
theorem dL_law_2165 : decode cL_law 2165 = .ok (.aload_n 0, 1) := dk_42 (dk_at dksL_law_85 17 rfl rfl)
theorem dL_law_2166 : decode cL_law 2166 = .ok (.iload 4, 2) := dk_21 4 (dk_at dksL_law_85 18 rfl rfl)
theorem dL_law_2168 : decode cL_law 2168 = .ok (.iconst 1, 1) := dk_4 (dk_at dksL_law_85 20 rfl rfl)
theorem dL_law_2169 : decode cL_law 2169 = .ok (.iadd, 1) := dk_96 (dk_at dksL_law_85 21 rfl rfl)
theorem dL_law_2170 : decode cL_law 2170 = .ok (.iaload, 1) := dk_46 (dk_at dksL_law_85 22 rfl rfl)
theorem dL_law_2171 : decode cL_law 2171 = .ok (.aload_n 3, 1) := dk_45 (dk_at dksL_law_85 23 rfl rfl)
theorem dL_law_2172 : decode cL_law 2172 = .ok (.invokestatic 257, 3) := dk_184 1 1 (dk_at dksL_law_86 0 rfl rfl)
theorem dL_law_2175 : decode cL_law 2175 = .ok (.istore 5, 2) := dk_54 5 (dk_at dksL_law_86 3 rfl rfl)
theorem dL_law_2177 : decode cL_law 2177 = .ok (.aload_n 2, 1) := dk_44 (dk_at dksL_law_86 5 rfl rfl)
theorem dL_law_2178 : decode cL_law 2178 = .ok (.aload_n 0, 1) := dk_42 (dk_at dksL_law_86 6 rfl rfl)
theorem dL_law_2179 : decode cL_law 2179 = .ok (.iload 4, 2) := dk_21 4 (dk_at dksL_law_86 7 rfl rfl)
theorem dL_law_2181 : decode cL_law 2181 = .ok (.iconst 1, 1) := dk_4 (dk_at dksL_law_86 9 rfl rfl)
theorem dL_law_2182 : decode cL_law 2182 = .ok (.iadd, 1) := dk_96 (dk_at dksL_law_86 10 rfl rfl)
theorem dL_law_2183 : decode cL_law 2183 = .ok (.iaload, 1) := dk_46 (dk_at dksL_law_86 11 rfl rfl)
theorem dL_law_2184 : decode cL_law 2184 = .ok (.invokevirtual 259, 3) := dk_182 1 3 (dk_at dksL_law_86 12 rfl rfl)
theorem dL_law_2187 : decode cL_law 2187 = .ok (.lstore 6, 2) := dk_55 6 (dk_at dksL_law_86 15 rfl rfl)
theorem dL_law_2189 : decode cL_law 2189 = .ok (.aload_n 2, 1) := dk_44 (dk_at dksL_law_86 17 rfl rfl)
theorem dL_law_2190 : decode cL_law 2190 = .ok (.invokevirtual 135, 3) := dk_182 0 135 (dk_at dksL_law_86 18 rfl rfl)
theorem dL_law_2193 : decode cL_law 2193 = .ok (.iload 5, 2) := dk_21 5 (dk_at dksL_law_86 21 rfl rfl)
theorem dL_law_2195 : decode cL_law 2195 = .ok (.if_icmp .eq 5, 3) := dk_159 0 5 (dk_at dksL_law_87 0 rfl rfl)
theorem dL_law_2198 : decode cL_law 2198 = .ok (.iconst 0, 1) := dk_3 (dk_at dksL_law_87 3 rfl rfl)
theorem dL_law_2199 : decode cL_law 2199 = .ok (.ireturn, 1) := dk_172 (dk_at dksL_law_87 4 rfl rfl)
theorem dL_law_2200 : decode cL_law 2200 = .ok (.iload 5, 2) := dk_21 5 (dk_at dksL_law_87 5 rfl rfl)
theorem dL_law_2202 : decode cL_law 2202 = .ok (.ifCond .ne 14, 3) := dk_154 0 14 (dk_at dksL_law_87 7 rfl rfl)
theorem dL_law_2205 : decode cL_law 2205 = .ok (.aload_n 3, 1) := dk_45 (dk_at dksL_law_87 10 rfl rfl)
theorem dL_law_2206 : decode cL_law 2206 = .ok (.iconst 0, 1) := dk_3 (dk_at dksL_law_87 11 rfl rfl)
theorem dL_law_2207 : decode cL_law 2207 = .ok (.laload, 1) := dk_47 (dk_at dksL_law_87 12 rfl rfl)
theorem dL_law_2208 : decode cL_law 2208 = .ok (.lload 6, 2) := dk_22 6 (dk_at dksL_law_87 13 rfl rfl)
theorem dL_law_2210 : decode cL_law 2210 = .ok (.lcmp, 1) := dk_148 (dk_at dksL_law_87 15 rfl rfl)
theorem dL_law_2211 : decode cL_law 2211 = .ok (.ifCond .eq 5, 3) := dk_153 0 5 (dk_at dksL_law_87 16 rfl rfl)
theorem dL_law_2214 : decode cL_law 2214 = .ok (.iconst 0, 1) := dk_3 (dk_at dksL_law_87 19 rfl rfl)
theorem dL_law_2215 : decode cL_law 2215 = .ok (.ireturn, 1) := dk_172 (dk_at dksL_law_87 20 rfl rfl)
theorem dL_law_2216 : decode cL_law 2216 = .ok (.goto 382, 3) := dk_167 1 126 (dk_at dksL_law_87 21 rfl rfl)
theorem dL_law_2219 : decode cL_law 2219 = .ok (.aload_n 1, 1) := dk_43 (dk_at dksL_law_88 0 rfl rfl)
theorem dL_law_2220 : decode cL_law 2220 = .ok (.aload_n 0, 1) := dk_42 (dk_at dksL_law_88 1 rfl rfl)
theorem dL_law_2221 : decode cL_law 2221 = .ok (.iload 4, 2) := dk_21 4 (dk_at dksL_law_88 2 rfl rfl)
theorem dL_law_2223 : decode cL_law 2223 = .ok (.iconst 1, 1) := dk_4 (dk_at dksL_law_88 4 rfl rfl)
theorem dL_law_2224 : decode cL_law 2224 = .ok (.iadd, 1) := dk_96 (dk_at dksL_law_88 5 rfl rfl)
theorem dL_law_2225 : decode cL_law 2225 = .ok (.iaload, 1) := dk_46 (dk_at dksL_law_88 6 rfl rfl)
theorem dL_law_2226 : decode cL_law 2226 = .ok (.aload_n 3, 1) := dk_45 (dk_at dksL_law_88 7 rfl rfl)
theorem dL_law_2227 : decode cL_law 2227 = .ok (.invokestatic 260, 3) := dk_184 1 4 (dk_at dksL_law_88 8 rfl rfl)
theorem dL_law_2230 : decode cL_law 2230 = .ok (.istore 5, 2) := dk_54 5 (dk_at dksL_law_88 11 rfl rfl)
theorem dL_law_2232 : decode cL_law 2232 = .ok (.aload_n 2, 1) := dk_44 (dk_at dksL_law_88 13 rfl rfl)
theorem dL_law_2233 : decode cL_law 2233 = .ok (.aload_n 0, 1) := dk_42 (dk_at dksL_law_88 14 rfl rfl)
theorem dL_law_2234 : decode cL_law 2234 = .ok (.iload 4, 2) := dk_21 4 (dk_at dksL_law_88 15 rfl rfl)
theorem dL_law_2236 : decode cL_law 2236 = .ok (.iconst 1, 1) := dk_4 (dk_at dksL_law_88 17 rfl rfl)
theorem dL_law_2237 : decode cL_law 2237 = .ok (.iadd, 1) := dk_96 (dk_at dksL_law_88 18 rfl rfl)
theorem dL_law_2238 : decode cL_law 2238 = .ok (.iaload, 1) := dk_46 (dk_at dksL_law_88 19 rfl rfl)
theorem dL_law_2239 : decode cL_law 2239 = .ok (.invokevirtual 262, 3) := dk_182 1 6 (dk_at dksL_law_88 20 rfl rfl)
theorem dL_law_2242 : decode cL_law 2242 = .ok (.istore 6, 2) := dk_54 6 (dk_at dksL_law_89 0 rfl rfl)
theorem dL_law_2244 : decode cL_law 2244 = .ok (.aload_n 2, 1) := dk_44 (dk_at dksL_law_89 2 rfl rfl)
theorem dL_law_2245 : decode cL_law 2245 = .ok (.invokevirtual 135, 3) := dk_182 0 135 (dk_at dksL_law_89 3 rfl rfl)
theorem dL_law_2248 : decode cL_law 2248 = .ok (.iload 5, 2) := dk_21 5 (dk_at dksL_law_89 6 rfl rfl)
theorem dL_law_2250 : decode cL_law 2250 = .ok (.if_icmp .eq 5, 3) := dk_159 0 5 (dk_at dksL_law_89 8 rfl rfl)
theorem dL_law_2253 : decode cL_law 2253 = .ok (.iconst 0, 1) := dk_3 (dk_at dksL_law_89 11 rfl rfl)
theorem dL_law_2254 : decode cL_law 2254 = .ok (.ireturn, 1) := dk_172 (dk_at dksL_law_89 12 rfl rfl)
theorem dL_law_2255 : decode cL_law 2255 = .ok (.iload 5, 2) := dk_21 5 (dk_at dksL_law_89 13 rfl rfl)
theorem dL_law_2257 : decode cL_law 2257 = .ok (.ifCond .ne 22, 3) := dk_154 0 22 (dk_at dksL_law_89 15 rfl rfl)
theorem dL_law_2260 : decode cL_law 2260 = .ok (.aload_n 3, 1) := dk_45 (dk_at dksL_law_89 18 rfl rfl)
theorem dL_law_2261 : decode cL_law 2261 = .ok (.iconst 0, 1) := dk_3 (dk_at dksL_law_89 19 rfl rfl)
theorem dL_law_2262 : decode cL_law 2262 = .ok (.laload, 1) := dk_47 (dk_at dksL_law_89 20 rfl rfl)
theorem dL_law_2263 : decode cL_law 2263 = .ok (.iload 6, 2) := dk_21 6 (dk_at dksL_law_89 21 rfl rfl)
theorem dL_law_2265 : decode cL_law 2265 = .ok (.ifCond .eq 7, 3) := dk_153 0 7 (dk_at dksL_law_90 0 rfl rfl)
theorem dL_law_2268 : decode cL_law 2268 = .ok (.lconst 1, 1) := dk_10 (dk_at dksL_law_90 3 rfl rfl)
theorem dL_law_2269 : decode cL_law 2269 = .ok (.goto 4, 3) := dk_167 0 4 (dk_at dksL_law_90 4 rfl rfl)
theorem dL_law_2272 : decode cL_law 2272 = .ok (.lconst 0, 1) := dk_9 (dk_at dksL_law_90 7 rfl rfl)
theorem dL_law_2273 : decode cL_law 2273 = .ok (.lcmp, 1) := dk_148 (dk_at dksL_law_90 8 rfl rfl)
theorem dL_law_2274 : decode cL_law 2274 = .ok (.ifCond .eq 5, 3) := dk_153 0 5 (dk_at dksL_law_90 9 rfl rfl)
theorem dL_law_2277 : decode cL_law 2277 = .ok (.iconst 0, 1) := dk_3 (dk_at dksL_law_90 12 rfl rfl)
theorem dL_law_2278 : decode cL_law 2278 = .ok (.ireturn, 1) := dk_172 (dk_at dksL_law_90 13 rfl rfl)
theorem dL_law_2279 : decode cL_law 2279 = .ok (.goto 319, 3) := dk_167 1 63 (dk_at dksL_law_90 14 rfl rfl)
theorem dL_law_2282 : decode cL_law 2282 = .ok (.aload_n 1, 1) := dk_43 (dk_at dksL_law_90 17 rfl rfl)
theorem dL_law_2283 : decode cL_law 2283 = .ok (.aload_n 0, 1) := dk_42 (dk_at dksL_law_90 18 rfl rfl)
theorem dL_law_2284 : decode cL_law 2284 = .ok (.iload 4, 2) := dk_21 4 (dk_at dksL_law_90 19 rfl rfl)
theorem dL_law_2286 : decode cL_law 2286 = .ok (.iconst 1, 1) := dk_4 (dk_at dksL_law_90 21 rfl rfl)
theorem dL_law_2287 : decode cL_law 2287 = .ok (.iadd, 1) := dk_96 (dk_at dksL_law_90 22 rfl rfl)
theorem dL_law_2288 : decode cL_law 2288 = .ok (.iaload, 1) := dk_46 (dk_at dksL_law_90 23 rfl rfl)
theorem dL_law_2289 : decode cL_law 2289 = .ok (.aload_n 3, 1) := dk_45 (dk_at dksL_law_91 0 rfl rfl)
theorem dL_law_2290 : decode cL_law 2290 = .ok (.invokestatic 263, 3) := dk_184 1 7 (dk_at dksL_law_91 1 rfl rfl)
theorem dL_law_2293 : decode cL_law 2293 = .ok (.istore 5, 2) := dk_54 5 (dk_at dksL_law_91 4 rfl rfl)
theorem dL_law_2295 : decode cL_law 2295 = .ok (.aload_n 2, 1) := dk_44 (dk_at dksL_law_91 6 rfl rfl)
theorem dL_law_2296 : decode cL_law 2296 = .ok (.aload_n 0, 1) := dk_42 (dk_at dksL_law_91 7 rfl rfl)
theorem dL_law_2297 : decode cL_law 2297 = .ok (.iload 4, 2) := dk_21 4 (dk_at dksL_law_91 8 rfl rfl)
theorem dL_law_2299 : decode cL_law 2299 = .ok (.iconst 1, 1) := dk_4 (dk_at dksL_law_91 10 rfl rfl)
theorem dL_law_2300 : decode cL_law 2300 = .ok (.iadd, 1) := dk_96 (dk_at dksL_law_91 11 rfl rfl)
theorem dL_law_2301 : decode cL_law 2301 = .ok (.iaload, 1) := dk_46 (dk_at dksL_law_91 12 rfl rfl)
theorem dL_law_2302 : decode cL_law 2302 = .ok (.invokevirtual 265, 3) := dk_182 1 9 (dk_at dksL_law_91 13 rfl rfl)
theorem dL_law_2305 : decode cL_law 2305 = .ok (.istore 6, 2) := dk_54 6 (dk_at dksL_law_91 16 rfl rfl)
theorem dL_law_2307 : decode cL_law 2307 = .ok (.aload_n 2, 1) := dk_44 (dk_at dksL_law_91 18 rfl rfl)
theorem dL_law_2308 : decode cL_law 2308 = .ok (.invokevirtual 135, 3) := dk_182 0 135 (dk_at dksL_law_91 19 rfl rfl)
theorem dL_law_2311 : decode cL_law 2311 = .ok (.iload 5, 2) := dk_21 5 (dk_at dksL_law_91 22 rfl rfl)
theorem dL_law_2313 : decode cL_law 2313 = .ok (.if_icmp .eq 5, 3) := dk_159 0 5 (dk_at dksL_law_92 0 rfl rfl)
theorem dL_law_2316 : decode cL_law 2316 = .ok (.iconst 0, 1) := dk_3 (dk_at dksL_law_92 3 rfl rfl)
theorem dL_law_2317 : decode cL_law 2317 = .ok (.ireturn, 1) := dk_172 (dk_at dksL_law_92 4 rfl rfl)
theorem dL_law_2318 : decode cL_law 2318 = .ok (.iload 5, 2) := dk_21 5 (dk_at dksL_law_92 5 rfl rfl)
theorem dL_law_2320 : decode cL_law 2320 = .ok (.ifCond .ne 15, 3) := dk_154 0 15 (dk_at dksL_law_92 7 rfl rfl)
theorem dL_law_2323 : decode cL_law 2323 = .ok (.aload_n 3, 1) := dk_45 (dk_at dksL_law_92 10 rfl rfl)
theorem dL_law_2324 : decode cL_law 2324 = .ok (.iconst 0, 1) := dk_3 (dk_at dksL_law_92 11 rfl rfl)
theorem dL_law_2325 : decode cL_law 2325 = .ok (.laload, 1) := dk_47 (dk_at dksL_law_92 12 rfl rfl)
theorem dL_law_2326 : decode cL_law 2326 = .ok (.iload 6, 2) := dk_21 6 (dk_at dksL_law_92 13 rfl rfl)
theorem dL_law_2328 : decode cL_law 2328 = .ok (.i2l, 1) := dk_133 (dk_at dksL_law_92 15 rfl rfl)
theorem dL_law_2329 : decode cL_law 2329 = .ok (.lcmp, 1) := dk_148 (dk_at dksL_law_92 16 rfl rfl)
theorem dL_law_2330 : decode cL_law 2330 = .ok (.ifCond .eq 5, 3) := dk_153 0 5 (dk_at dksL_law_92 17 rfl rfl)
theorem dL_law_2333 : decode cL_law 2333 = .ok (.iconst 0, 1) := dk_3 (dk_at dksL_law_92 20 rfl rfl)
theorem dL_law_2334 : decode cL_law 2334 = .ok (.ireturn, 1) := dk_172 (dk_at dksL_law_92 21 rfl rfl)
theorem dL_law_2335 : decode cL_law 2335 = .ok (.goto 263, 3) := dk_167 1 7 (dk_at dksL_law_93 0 rfl rfl)
theorem dL_law_2338 : decode cL_law 2338 = .ok (.aload_n 1, 1) := dk_43 (dk_at dksL_law_93 3 rfl rfl)
theorem dL_law_2339 : decode cL_law 2339 = .ok (.aload_n 0, 1) := dk_42 (dk_at dksL_law_93 4 rfl rfl)
theorem dL_law_2340 : decode cL_law 2340 = .ok (.iload 4, 2) := dk_21 4 (dk_at dksL_law_93 5 rfl rfl)
theorem dL_law_2342 : decode cL_law 2342 = .ok (.iconst 1, 1) := dk_4 (dk_at dksL_law_93 7 rfl rfl)
theorem dL_law_2343 : decode cL_law 2343 = .ok (.iadd, 1) := dk_96 (dk_at dksL_law_93 8 rfl rfl)
theorem dL_law_2344 : decode cL_law 2344 = .ok (.iaload, 1) := dk_46 (dk_at dksL_law_93 9 rfl rfl)
theorem dL_law_2345 : decode cL_law 2345 = .ok (.aload_n 0, 1) := dk_42 (dk_at dksL_law_93 10 rfl rfl)
theorem dL_law_2346 : decode cL_law 2346 = .ok (.iload 4, 2) := dk_21 4 (dk_at dksL_law_93 11 rfl rfl)
theorem dL_law_2348 : decode cL_law 2348 = .ok (.iconst 2, 1) := dk_5 (dk_at dksL_law_93 13 rfl rfl)
theorem dL_law_2349 : decode cL_law 2349 = .ok (.iadd, 1) := dk_96 (dk_at dksL_law_93 14 rfl rfl)
theorem dL_law_2350 : decode cL_law 2350 = .ok (.iaload, 1) := dk_46 (dk_at dksL_law_93 15 rfl rfl)
theorem dL_law_2351 : decode cL_law 2351 = .ok (.aload_n 3, 1) := dk_45 (dk_at dksL_law_93 16 rfl rfl)
theorem dL_law_2352 : decode cL_law 2352 = .ok (.invokestatic 266, 3) := dk_184 1 10 (dk_at dksL_law_93 17 rfl rfl)
theorem dL_law_2355 : decode cL_law 2355 = .ok (.istore 5, 2) := dk_54 5 (dk_at dksL_law_93 20 rfl rfl)
theorem dL_law_2357 : decode cL_law 2357 = .ok (.aload_n 2, 1) := dk_44 (dk_at dksL_law_93 22 rfl rfl)
theorem dL_law_2358 : decode cL_law 2358 = .ok (.aload_n 0, 1) := dk_42 (dk_at dksL_law_93 23 rfl rfl)
theorem dL_law_2359 : decode cL_law 2359 = .ok (.iload 4, 2) := dk_21 4 (dk_at dksL_law_94 0 rfl rfl)
theorem dL_law_2361 : decode cL_law 2361 = .ok (.iconst 1, 1) := dk_4 (dk_at dksL_law_94 2 rfl rfl)
theorem dL_law_2362 : decode cL_law 2362 = .ok (.iadd, 1) := dk_96 (dk_at dksL_law_94 3 rfl rfl)
theorem dL_law_2363 : decode cL_law 2363 = .ok (.iaload, 1) := dk_46 (dk_at dksL_law_94 4 rfl rfl)
theorem dL_law_2364 : decode cL_law 2364 = .ok (.aload_n 0, 1) := dk_42 (dk_at dksL_law_94 5 rfl rfl)
theorem dL_law_2365 : decode cL_law 2365 = .ok (.iload 4, 2) := dk_21 4 (dk_at dksL_law_94 6 rfl rfl)
theorem dL_law_2367 : decode cL_law 2367 = .ok (.iconst 2, 1) := dk_5 (dk_at dksL_law_94 8 rfl rfl)
theorem dL_law_2368 : decode cL_law 2368 = .ok (.iadd, 1) := dk_96 (dk_at dksL_law_94 9 rfl rfl)
theorem dL_law_2369 : decode cL_law 2369 = .ok (.iaload, 1) := dk_46 (dk_at dksL_law_94 10 rfl rfl)
theorem dL_law_2370 : decode cL_law 2370 = .ok (.invokevirtual 268, 3) := dk_182 1 12 (dk_at dksL_law_94 11 rfl rfl)
theorem dL_law_2373 : decode cL_law 2373 = .ok (.istore 6, 2) := dk_54 6 (dk_at dksL_law_94 14 rfl rfl)
theorem dL_law_2375 : decode cL_law 2375 = .ok (.aload_n 2, 1) := dk_44 (dk_at dksL_law_94 16 rfl rfl)
theorem dL_law_2376 : decode cL_law 2376 = .ok (.invokevirtual 135, 3) := dk_182 0 135 (dk_at dksL_law_94 17 rfl rfl)
theorem dL_law_2379 : decode cL_law 2379 = .ok (.iload 5, 2) := dk_21 5 (dk_at dksL_law_94 20 rfl rfl)
theorem dL_law_2381 : decode cL_law 2381 = .ok (.if_icmp .eq 5, 3) := dk_159 0 5 (dk_at dksL_law_95 0 rfl rfl)
theorem dL_law_2384 : decode cL_law 2384 = .ok (.iconst 0, 1) := dk_3 (dk_at dksL_law_95 3 rfl rfl)
theorem dL_law_2385 : decode cL_law 2385 = .ok (.ireturn, 1) := dk_172 (dk_at dksL_law_95 4 rfl rfl)
theorem dL_law_2386 : decode cL_law 2386 = .ok (.iload 5, 2) := dk_21 5 (dk_at dksL_law_95 5 rfl rfl)
theorem dL_law_2388 : decode cL_law 2388 = .ok (.ifCond .ne 15, 3) := dk_154 0 15 (dk_at dksL_law_95 7 rfl rfl)
theorem dL_law_2391 : decode cL_law 2391 = .ok (.aload_n 3, 1) := dk_45 (dk_at dksL_law_95 10 rfl rfl)
theorem dL_law_2392 : decode cL_law 2392 = .ok (.iconst 0, 1) := dk_3 (dk_at dksL_law_95 11 rfl rfl)
theorem dL_law_2393 : decode cL_law 2393 = .ok (.laload, 1) := dk_47 (dk_at dksL_law_95 12 rfl rfl)
theorem dL_law_2394 : decode cL_law 2394 = .ok (.iload 6, 2) := dk_21 6 (dk_at dksL_law_95 13 rfl rfl)
theorem dL_law_2396 : decode cL_law 2396 = .ok (.i2l, 1) := dk_133 (dk_at dksL_law_95 15 rfl rfl)
theorem dL_law_2397 : decode cL_law 2397 = .ok (.lcmp, 1) := dk_148 (dk_at dksL_law_95 16 rfl rfl)
theorem dL_law_2398 : decode cL_law 2398 = .ok (.ifCond .eq 5, 3) := dk_153 0 5 (dk_at dksL_law_95 17 rfl rfl)
theorem dL_law_2401 : decode cL_law 2401 = .ok (.iconst 0, 1) := dk_3 (dk_at dksL_law_95 20 rfl rfl)
theorem dL_law_2402 : decode cL_law 2402 = .ok (.ireturn, 1) := dk_172 (dk_at dksL_law_95 21 rfl rfl)
theorem dL_law_2403 : decode cL_law 2403 = .ok (.goto 195, 3) := dk_167 0 195 (dk_at dksL_law_96 0 rfl rfl)
theorem dL_law_2406 : decode cL_law 2406 = .ok (.aload_n 1, 1) := dk_43 (dk_at dksL_law_96 3 rfl rfl)
theorem dL_law_2407 : decode cL_law 2407 = .ok (.aload_n 0, 1) := dk_42 (dk_at dksL_law_96 4 rfl rfl)
theorem dL_law_2408 : decode cL_law 2408 = .ok (.iload 4, 2) := dk_21 4 (dk_at dksL_law_96 5 rfl rfl)
theorem dL_law_2410 : decode cL_law 2410 = .ok (.iconst 1, 1) := dk_4 (dk_at dksL_law_96 7 rfl rfl)
theorem dL_law_2411 : decode cL_law 2411 = .ok (.iadd, 1) := dk_96 (dk_at dksL_law_96 8 rfl rfl)
theorem dL_law_2412 : decode cL_law 2412 = .ok (.iaload, 1) := dk_46 (dk_at dksL_law_96 9 rfl rfl)
theorem dL_law_2413 : decode cL_law 2413 = .ok (.aload_n 3, 1) := dk_45 (dk_at dksL_law_96 10 rfl rfl)
theorem dL_law_2414 : decode cL_law 2414 = .ok (.invokestatic 269, 3) := dk_184 1 13 (dk_at dksL_law_96 11 rfl rfl)
theorem dL_law_2417 : decode cL_law 2417 = .ok (.istore 5, 2) := dk_54 5 (dk_at dksL_law_96 14 rfl rfl)
theorem dL_law_2419 : decode cL_law 2419 = .ok (.aload_n 2, 1) := dk_44 (dk_at dksL_law_96 16 rfl rfl)
theorem dL_law_2420 : decode cL_law 2420 = .ok (.aload_n 0, 1) := dk_42 (dk_at dksL_law_96 17 rfl rfl)
theorem dL_law_2421 : decode cL_law 2421 = .ok (.iload 4, 2) := dk_21 4 (dk_at dksL_law_96 18 rfl rfl)
theorem dL_law_2423 : decode cL_law 2423 = .ok (.iconst 1, 1) := dk_4 (dk_at dksL_law_96 20 rfl rfl)
theorem dL_law_2424 : decode cL_law 2424 = .ok (.iadd, 1) := dk_96 (dk_at dksL_law_96 21 rfl rfl)
theorem dL_law_2425 : decode cL_law 2425 = .ok (.iaload, 1) := dk_46 (dk_at dksL_law_96 22 rfl rfl)
theorem dL_law_2426 : decode cL_law 2426 = .ok (.invokevirtual 271, 3) := dk_182 1 15 (dk_at dksL_law_97 0 rfl rfl)
theorem dL_law_2429 : decode cL_law 2429 = .ok (.istore 6, 2) := dk_54 6 (dk_at dksL_law_97 3 rfl rfl)
theorem dL_law_2431 : decode cL_law 2431 = .ok (.aload_n 2, 1) := dk_44 (dk_at dksL_law_97 5 rfl rfl)
theorem dL_law_2432 : decode cL_law 2432 = .ok (.invokevirtual 135, 3) := dk_182 0 135 (dk_at dksL_law_97 6 rfl rfl)
theorem dL_law_2435 : decode cL_law 2435 = .ok (.iload 5, 2) := dk_21 5 (dk_at dksL_law_97 9 rfl rfl)
theorem dL_law_2437 : decode cL_law 2437 = .ok (.if_icmp .eq 5, 3) := dk_159 0 5 (dk_at dksL_law_97 11 rfl rfl)
theorem dL_law_2440 : decode cL_law 2440 = .ok (.iconst 0, 1) := dk_3 (dk_at dksL_law_97 14 rfl rfl)
theorem dL_law_2441 : decode cL_law 2441 = .ok (.ireturn, 1) := dk_172 (dk_at dksL_law_97 15 rfl rfl)
theorem dL_law_2442 : decode cL_law 2442 = .ok (.iload 5, 2) := dk_21 5 (dk_at dksL_law_97 16 rfl rfl)
theorem dL_law_2444 : decode cL_law 2444 = .ok (.ifCond .ne 15, 3) := dk_154 0 15 (dk_at dksL_law_97 18 rfl rfl)
theorem dL_law_2447 : decode cL_law 2447 = .ok (.aload_n 3, 1) := dk_45 (dk_at dksL_law_97 21 rfl rfl)
theorem dL_law_2448 : decode cL_law 2448 = .ok (.iconst 0, 1) := dk_3 (dk_at dksL_law_97 22 rfl rfl)
theorem dL_law_2449 : decode cL_law 2449 = .ok (.laload, 1) := dk_47 (dk_at dksL_law_97 23 rfl rfl)
theorem dL_law_2450 : decode cL_law 2450 = .ok (.iload 6, 2) := dk_21 6 (dk_at dksL_law_98 0 rfl rfl)
theorem dL_law_2452 : decode cL_law 2452 = .ok (.i2l, 1) := dk_133 (dk_at dksL_law_98 2 rfl rfl)
theorem dL_law_2453 : decode cL_law 2453 = .ok (.lcmp, 1) := dk_148 (dk_at dksL_law_98 3 rfl rfl)
theorem dL_law_2454 : decode cL_law 2454 = .ok (.ifCond .eq 5, 3) := dk_153 0 5 (dk_at dksL_law_98 4 rfl rfl)
theorem dL_law_2457 : decode cL_law 2457 = .ok (.iconst 0, 1) := dk_3 (dk_at dksL_law_98 7 rfl rfl)
theorem dL_law_2458 : decode cL_law 2458 = .ok (.ireturn, 1) := dk_172 (dk_at dksL_law_98 8 rfl rfl)
theorem dL_law_2459 : decode cL_law 2459 = .ok (.goto 139, 3) := dk_167 0 139 (dk_at dksL_law_98 9 rfl rfl)
theorem dL_law_2462 : decode cL_law 2462 = .ok (.aload_n 1, 1) := dk_43 (dk_at dksL_law_98 12 rfl rfl)
theorem dL_law_2463 : decode cL_law 2463 = .ok (.aload_n 0, 1) := dk_42 (dk_at dksL_law_98 13 rfl rfl)
theorem dL_law_2464 : decode cL_law 2464 = .ok (.iload 4, 2) := dk_21 4 (dk_at dksL_law_98 14 rfl rfl)
theorem dL_law_2466 : decode cL_law 2466 = .ok (.iconst 1, 1) := dk_4 (dk_at dksL_law_98 16 rfl rfl)
theorem dL_law_2467 : decode cL_law 2467 = .ok (.iadd, 1) := dk_96 (dk_at dksL_law_98 17 rfl rfl)
theorem dL_law_2468 : decode cL_law 2468 = .ok (.iaload, 1) := dk_46 (dk_at dksL_law_98 18 rfl rfl)
theorem dL_law_2469 : decode cL_law 2469 = .ok (.aload_n 3, 1) := dk_45 (dk_at dksL_law_98 19 rfl rfl)
theorem dL_law_2470 : decode cL_law 2470 = .ok (.invokestatic 272, 3) := dk_184 1 16 (dk_at dksL_law_98 20 rfl rfl)
theorem dL_law_2473 : decode cL_law 2473 = .ok (.istore 5, 2) := dk_54 5 (dk_at dksL_law_99 0 rfl rfl)
theorem dL_law_2475 : decode cL_law 2475 = .ok (.aload_n 2, 1) := dk_44 (dk_at dksL_law_99 2 rfl rfl)
theorem dL_law_2476 : decode cL_law 2476 = .ok (.aload_n 0, 1) := dk_42 (dk_at dksL_law_99 3 rfl rfl)
theorem dL_law_2477 : decode cL_law 2477 = .ok (.iload 4, 2) := dk_21 4 (dk_at dksL_law_99 4 rfl rfl)
theorem dL_law_2479 : decode cL_law 2479 = .ok (.iconst 1, 1) := dk_4 (dk_at dksL_law_99 6 rfl rfl)
theorem dL_law_2480 : decode cL_law 2480 = .ok (.iadd, 1) := dk_96 (dk_at dksL_law_99 7 rfl rfl)
theorem dL_law_2481 : decode cL_law 2481 = .ok (.iaload, 1) := dk_46 (dk_at dksL_law_99 8 rfl rfl)
theorem dL_law_2482 : decode cL_law 2482 = .ok (.invokevirtual 274, 3) := dk_182 1 18 (dk_at dksL_law_99 9 rfl rfl)
theorem dL_law_2485 : decode cL_law 2485 = .ok (.istore 6, 2) := dk_54 6 (dk_at dksL_law_99 12 rfl rfl)
theorem dL_law_2487 : decode cL_law 2487 = .ok (.aload_n 2, 1) := dk_44 (dk_at dksL_law_99 14 rfl rfl)
theorem dL_law_2488 : decode cL_law 2488 = .ok (.invokevirtual 135, 3) := dk_182 0 135 (dk_at dksL_law_99 15 rfl rfl)
theorem dL_law_2491 : decode cL_law 2491 = .ok (.iload 5, 2) := dk_21 5 (dk_at dksL_law_99 18 rfl rfl)
theorem dL_law_2493 : decode cL_law 2493 = .ok (.if_icmp .eq 5, 3) := dk_159 0 5 (dk_at dksL_law_99 20 rfl rfl)
theorem dL_law_2496 : decode cL_law 2496 = .ok (.iconst 0, 1) := dk_3 (dk_at dksL_law_99 23 rfl rfl)
theorem dL_law_2497 : decode cL_law 2497 = .ok (.ireturn, 1) := dk_172 (dk_at dksL_law_100 0 rfl rfl)
theorem dL_law_2498 : decode cL_law 2498 = .ok (.iload 5, 2) := dk_21 5 (dk_at dksL_law_100 1 rfl rfl)
theorem dL_law_2500 : decode cL_law 2500 = .ok (.ifCond .ne 15, 3) := dk_154 0 15 (dk_at dksL_law_100 3 rfl rfl)
theorem dL_law_2503 : decode cL_law 2503 = .ok (.aload_n 3, 1) := dk_45 (dk_at dksL_law_100 6 rfl rfl)
theorem dL_law_2504 : decode cL_law 2504 = .ok (.iconst 0, 1) := dk_3 (dk_at dksL_law_100 7 rfl rfl)
theorem dL_law_2505 : decode cL_law 2505 = .ok (.laload, 1) := dk_47 (dk_at dksL_law_100 8 rfl rfl)
theorem dL_law_2506 : decode cL_law 2506 = .ok (.iload 6, 2) := dk_21 6 (dk_at dksL_law_100 9 rfl rfl)
theorem dL_law_2508 : decode cL_law 2508 = .ok (.i2l, 1) := dk_133 (dk_at dksL_law_100 11 rfl rfl)
theorem dL_law_2509 : decode cL_law 2509 = .ok (.lcmp, 1) := dk_148 (dk_at dksL_law_100 12 rfl rfl)
theorem dL_law_2510 : decode cL_law 2510 = .ok (.ifCond .eq 5, 3) := dk_153 0 5 (dk_at dksL_law_100 13 rfl rfl)
theorem dL_law_2513 : decode cL_law 2513 = .ok (.iconst 0, 1) := dk_3 (dk_at dksL_law_100 16 rfl rfl)
theorem dL_law_2514 : decode cL_law 2514 = .ok (.ireturn, 1) := dk_172 (dk_at dksL_law_100 17 rfl rfl)
theorem dL_law_2515 : decode cL_law 2515 = .ok (.goto 83, 3) := dk_167 0 83 (dk_at dksL_law_100 18 rfl rfl)
theorem dL_law_2518 : decode cL_law 2518 = .ok (.aload_n 1, 1) := dk_43 (dk_at dksL_law_100 21 rfl rfl)
theorem dL_law_2519 : decode cL_law 2519 = .ok (.aload_n 0, 1) := dk_42 (dk_at dksL_law_100 22 rfl rfl)
theorem dL_law_2520 : decode cL_law 2520 = .ok (.iload 4, 2) := dk_21 4 (dk_at dksL_law_101 0 rfl rfl)
theorem dL_law_2522 : decode cL_law 2522 = .ok (.iconst 1, 1) := dk_4 (dk_at dksL_law_101 2 rfl rfl)
theorem dL_law_2523 : decode cL_law 2523 = .ok (.iadd, 1) := dk_96 (dk_at dksL_law_101 3 rfl rfl)
theorem dL_law_2524 : decode cL_law 2524 = .ok (.iaload, 1) := dk_46 (dk_at dksL_law_101 4 rfl rfl)
theorem dL_law_2525 : decode cL_law 2525 = .ok (.aload_n 3, 1) := dk_45 (dk_at dksL_law_101 5 rfl rfl)
theorem dL_law_2526 : decode cL_law 2526 = .ok (.invokestatic 275, 3) := dk_184 1 19 (dk_at dksL_law_101 6 rfl rfl)
theorem dL_law_2529 : decode cL_law 2529 = .ok (.istore 5, 2) := dk_54 5 (dk_at dksL_law_101 9 rfl rfl)
theorem dL_law_2531 : decode cL_law 2531 = .ok (.aload_n 2, 1) := dk_44 (dk_at dksL_law_101 11 rfl rfl)
theorem dL_law_2532 : decode cL_law 2532 = .ok (.aload_n 0, 1) := dk_42 (dk_at dksL_law_101 12 rfl rfl)
theorem dL_law_2533 : decode cL_law 2533 = .ok (.iload 4, 2) := dk_21 4 (dk_at dksL_law_101 13 rfl rfl)
theorem dL_law_2535 : decode cL_law 2535 = .ok (.iconst 1, 1) := dk_4 (dk_at dksL_law_101 15 rfl rfl)
theorem dL_law_2536 : decode cL_law 2536 = .ok (.iadd, 1) := dk_96 (dk_at dksL_law_101 16 rfl rfl)
theorem dL_law_2537 : decode cL_law 2537 = .ok (.iaload, 1) := dk_46 (dk_at dksL_law_101 17 rfl rfl)
theorem dL_law_2538 : decode cL_law 2538 = .ok (.invokevirtual 277, 3) := dk_182 1 21 (dk_at dksL_law_101 18 rfl rfl)
theorem dL_law_2541 : decode cL_law 2541 = .ok (.istore 6, 2) := dk_54 6 (dk_at dksL_law_101 21 rfl rfl)
theorem dL_law_2543 : decode cL_law 2543 = .ok (.aload_n 2, 1) := dk_44 (dk_at dksL_law_101 23 rfl rfl)
theorem dL_law_2544 : decode cL_law 2544 = .ok (.invokevirtual 135, 3) := dk_182 0 135 (dk_at dksL_law_102 0 rfl rfl)
theorem dL_law_2547 : decode cL_law 2547 = .ok (.iload 5, 2) := dk_21 5 (dk_at dksL_law_102 3 rfl rfl)
theorem dL_law_2549 : decode cL_law 2549 = .ok (.if_icmp .eq 5, 3) := dk_159 0 5 (dk_at dksL_law_102 5 rfl rfl)
theorem dL_law_2552 : decode cL_law 2552 = .ok (.iconst 0, 1) := dk_3 (dk_at dksL_law_102 8 rfl rfl)
theorem dL_law_2553 : decode cL_law 2553 = .ok (.ireturn, 1) := dk_172 (dk_at dksL_law_102 9 rfl rfl)
theorem dL_law_2554 : decode cL_law 2554 = .ok (.iload 5, 2) := dk_21 5 (dk_at dksL_law_102 10 rfl rfl)
theorem dL_law_2556 : decode cL_law 2556 = .ok (.ifCond .ne 15, 3) := dk_154 0 15 (dk_at dksL_law_102 12 rfl rfl)
theorem dL_law_2559 : decode cL_law 2559 = .ok (.aload_n 3, 1) := dk_45 (dk_at dksL_law_102 15 rfl rfl)
theorem dL_law_2560 : decode cL_law 2560 = .ok (.iconst 0, 1) := dk_3 (dk_at dksL_law_102 16 rfl rfl)
theorem dL_law_2561 : decode cL_law 2561 = .ok (.laload, 1) := dk_47 (dk_at dksL_law_102 17 rfl rfl)
theorem dL_law_2562 : decode cL_law 2562 = .ok (.iload 6, 2) := dk_21 6 (dk_at dksL_law_102 18 rfl rfl)
theorem dL_law_2564 : decode cL_law 2564 = .ok (.i2l, 1) := dk_133 (dk_at dksL_law_102 20 rfl rfl)
theorem dL_law_2565 : decode cL_law 2565 = .ok (.lcmp, 1) := dk_148 (dk_at dksL_law_102 21 rfl rfl)
theorem dL_law_2566 : decode cL_law 2566 = .ok (.ifCond .eq 5, 3) := dk_153 0 5 (dk_at dksL_law_103 0 rfl rfl)
theorem dL_law_2569 : decode cL_law 2569 = .ok (.iconst 0, 1) := dk_3 (dk_at dksL_law_103 3 rfl rfl)
theorem dL_law_2570 : decode cL_law 2570 = .ok (.ireturn, 1) := dk_172 (dk_at dksL_law_103 4 rfl rfl)
theorem dL_law_2571 : decode cL_law 2571 = .ok (.goto 27, 3) := dk_167 0 27 (dk_at dksL_law_103 5 rfl rfl)
theorem dL_law_2574 : decode cL_law 2574 = .ok (.aload_n 1, 1) := dk_43 (dk_at dksL_law_103 8 rfl rfl)
theorem dL_law_2575 : decode cL_law 2575 = .ok (.invokevirtual 278, 3) := dk_182 1 22 (dk_at dksL_law_103 9 rfl rfl)
theorem dL_law_2578 : decode cL_law 2578 = .ok (.aload_n 2, 1) := dk_44 (dk_at dksL_law_103 12 rfl rfl)
theorem dL_law_2579 : decode cL_law 2579 = .ok (.invokevirtual 281, 3) := dk_182 1 25 (dk_at dksL_law_103 13 rfl rfl)
theorem dL_law_2582 : decode cL_law 2582 = .ok (.goto 16, 3) := dk_167 0 16 (dk_at dksL_law_103 16 rfl rfl)
theorem dL_law_2585 : decode cL_law 2585 = .ok (.aload_n 1, 1) := dk_43 (dk_at dksL_law_103 19 rfl rfl)
theorem dL_law_2586 : decode cL_law 2586 = .ok (.invokevirtual 282, 3) := dk_182 1 26 (dk_at dksL_law_103 20 rfl rfl)
theorem dL_law_2589 : decode cL_law 2589 = .ok (.aload_n 2, 1) := dk_44 (dk_at dksL_law_103 23 rfl rfl)
theorem dL_law_2590 : decode cL_law 2590 = .ok (.invokevirtual 286, 3) := dk_182 1 30 (dk_at dksL_law_104 0 rfl rfl)
theorem dL_law_2593 : decode cL_law 2593 = .ok (.if_icmp .eq 5, 3) := dk_159 0 5 (dk_at dksL_law_104 3 rfl rfl)
theorem dL_law_2596 : decode cL_law 2596 = .ok (.iconst 0, 1) := dk_3 (dk_at dksL_law_104 6 rfl rfl)
theorem dL_law_2597 : decode cL_law 2597 = .ok (.ireturn, 1) := dk_172 (dk_at dksL_law_104 7 rfl rfl)
theorem dL_law_2598 : decode cL_law 2598 = .ok (.iinc 4 6, 3) := dk_132 4 6 (dk_at dksL_law_104 8 rfl rfl)
theorem dL_law_2601 : decode cL_law 2601 = .ok (.goto (-2578), 3) := dk_167 245 238 (dk_at dksL_law_104 11 rfl rfl)
theorem dL_law_2604 : decode cL_law 2604 = .ok (.iconst 1, 1) := dk_4 (dk_at dksL_law_104 14 rfl rfl)
theorem dL_law_2605 : decode cL_law 2605 = .ok (.ireturn, 1) := dk_172 (dk_at dksL_law_104 15 rfl rfl)

