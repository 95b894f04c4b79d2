/-! TunedHousesLaw -/
set_option maxRecDepth 100000
def RX0 : String := "TunedHousesLaw"
abbrev cX0_terrace : ByteArray := method_3_code
def yX0_terrace : MethodName := ⟨RX0, "terrace", "(LTunedHouses;I[J)I"⟩
def dkwX0_terrace_0 : List UInt8 := [44, 3, 42, 27, 182, 0, 7, 133, 80, 167, 0, 6, 78, 4, 172, 3, 172]
abbrev dktX0_terrace_0 : List UInt8 := dkwX0_terrace_0 ++ []
theorem dksX0_terrace_0 : cX0_terrace.data.toList.drop 0 = dktX0_terrace_0 := by decide +kernel
theorem dX0_terrace_0 : decode cX0_terrace 0 = .ok (.aload_n 2, 1) := dk_44 (dk_at dksX0_terrace_0 0 rfl rfl)
theorem dX0_terrace_1 : decode cX0_terrace 1 = .ok (.iconst 0, 1) := dk_3 (dk_at dksX0_terrace_0 1 rfl rfl)
theorem dX0_terrace_2 : decode cX0_terrace 2 = .ok (.aload_n 0, 1) := dk_42 (dk_at dksX0_terrace_0 2 rfl rfl)
theorem dX0_terrace_3 : decode cX0_terrace 3 = .ok (.iload_n 1, 1) := dk_27 (dk_at dksX0_terrace_0 3 rfl rfl)
theorem dX0_terrace_4 : decode cX0_terrace 4 = .ok (.invokevirtual 7, 3) := dk_182 0 7 (dk_at dksX0_terrace_0 4 rfl rfl)
theorem dX0_terrace_7 : decode cX0_terrace 7 = .ok (.i2l, 1) := dk_133 (dk_at dksX0_terrace_0 7 rfl rfl)
theorem dX0_terrace_8 : decode cX0_terrace 8 = .ok (.lastore, 1) := dk_80 (dk_at dksX0_terrace_0 8 rfl rfl)
theorem dX0_terrace_9 : decode cX0_terrace 9 = .ok (.goto 6, 3) := dk_167 0 6 (dk_at dksX0_terrace_0 9 rfl rfl)
theorem dX0_terrace_12 : decode cX0_terrace 12 = .ok (.astore_n 3, 1) := dk_78 (dk_at dksX0_terrace_0 12 rfl rfl)
theorem dX0_terrace_13 : decode cX0_terrace 13 = .ok (.iconst 1, 1) := dk_4 (dk_at dksX0_terrace_0 13 rfl rfl)
theorem dX0_terrace_14 : decode cX0_terrace 14 = .ok (.ireturn, 1) := dk_172 (dk_at dksX0_terrace_0 14 rfl rfl)
theorem dX0_terrace_15 : decode cX0_terrace 15 = .ok (.iconst 0, 1) := dk_3 (dk_at dksX0_terrace_0 15 rfl rfl)
theorem dX0_terrace_16 : decode cX0_terrace 16 = .ok (.ireturn, 1) := dk_172 (dk_at dksX0_terrace_0 16 rfl rfl)
abbrev cX0_law : ByteArray := method_4_code
def yX0_law : MethodName := ⟨RX0, "law", "(LTunedHouses;I[J)I"⟩
def dkwX0_law_0 : List UInt8 := [44, 3, 42, 27, 182, 0, 15, 133, 80, 167, 0, 6, 78, 4, 172, 3, 172]
abbrev dktX0_law_0 : List UInt8 := dkwX0_law_0 ++ []
theorem dksX0_law_0 : cX0_law.data.toList.drop 0 = dktX0_law_0 := by decide +kernel
theorem dX0_law_0 : decode cX0_law 0 = .ok (.aload_n 2, 1) := dk_44 (dk_at dksX0_law_0 0 rfl rfl)
theorem dX0_law_1 : decode cX0_law 1 = .ok (.iconst 0, 1) := dk_3 (dk_at dksX0_law_0 1 rfl rfl)
theorem dX0_law_2 : decode cX0_law 2 = .ok (.aload_n 0, 1) := dk_42 (dk_at dksX0_law_0 2 rfl rfl)
theorem dX0_law_3 : decode cX0_law 3 = .ok (.iload_n 1, 1) := dk_27 (dk_at dksX0_law_0 3 rfl rfl)
theorem dX0_law_4 : decode cX0_law 4 = .ok (.invokevirtual 15, 3) := dk_182 0 15 (dk_at dksX0_law_0 4 rfl rfl)
theorem dX0_law_7 : decode cX0_law 7 = .ok (.i2l, 1) := dk_133 (dk_at dksX0_law_0 7 rfl rfl)
theorem dX0_law_8 : decode cX0_law 8 = .ok (.lastore, 1) := dk_80 (dk_at dksX0_law_0 8 rfl rfl)
theorem dX0_law_9 : decode cX0_law 9 = .ok (.goto 6, 3) := dk_167 0 6 (dk_at dksX0_law_0 9 rfl rfl)
theorem dX0_law_12 : decode cX0_law 12 = .ok (.astore_n 3, 1) := dk_78 (dk_at dksX0_law_0 12 rfl rfl)
theorem dX0_law_13 : decode cX0_law 13 = .ok (.iconst 1, 1) := dk_4 (dk_at dksX0_law_0 13 rfl rfl)
theorem dX0_law_14 : decode cX0_law 14 = .ok (.ireturn, 1) := dk_172 (dk_at dksX0_law_0 14 rfl rfl)
theorem dX0_law_15 : decode cX0_law 15 = .ok (.iconst 0, 1) := dk_3 (dk_at dksX0_law_0 15 rfl rfl)
theorem dX0_law_16 : decode cX0_law 16 = .ok (.ireturn, 1) := dk_172 (dk_at dksX0_law_0 16 rfl rfl)
abbrev cX0_work : ByteArray := method_5_code
def yX0_work : MethodName := ⟨RX0, "work", "(LTunedHouses;I[J)I"⟩
def dkwX0_work_0 : List UInt8 := [44, 3, 42, 27, 182, 0, 18, 133, 80, 167, 0, 6, 78, 4, 172, 3, 172]
abbrev dktX0_work_0 : List UInt8 := dkwX0_work_0 ++ []
theorem dksX0_work_0 : cX0_work.data.toList.drop 0 = dktX0_work_0 := by decide +kernel
theorem dX0_work_0 : decode cX0_work 0 = .ok (.aload_n 2, 1) := dk_44 (dk_at dksX0_work_0 0 rfl rfl)
theorem dX0_work_1 : decode cX0_work 1 = .ok (.iconst 0, 1) := dk_3 (dk_at dksX0_work_0 1 rfl rfl)
theorem dX0_work_2 : decode cX0_work 2 = .ok (.aload_n 0, 1) := dk_42 (dk_at dksX0_work_0 2 rfl rfl)
theorem dX0_work_3 : decode cX0_work 3 = .ok (.iload_n 1, 1) := dk_27 (dk_at dksX0_work_0 3 rfl rfl)
theorem dX0_work_4 : decode cX0_work 4 = .ok (.invokevirtual 18, 3) := dk_182 0 18 (dk_at dksX0_work_0 4 rfl rfl)
theorem dX0_work_7 : decode cX0_work 7 = .ok (.i2l, 1) := dk_133 (dk_at dksX0_work_0 7 rfl rfl)
theorem dX0_work_8 : decode cX0_work 8 = .ok (.lastore, 1) := dk_80 (dk_at dksX0_work_0 8 rfl rfl)
theorem dX0_work_9 : decode cX0_work 9 = .ok (.goto 6, 3) := dk_167 0 6 (dk_at dksX0_work_0 9 rfl rfl)
theorem dX0_work_12 : decode cX0_work 12 = .ok (.astore_n 3, 1) := dk_78 (dk_at dksX0_work_0 12 rfl rfl)
theorem dX0_work_13 : decode cX0_work 13 = .ok (.iconst 1, 1) := dk_4 (dk_at dksX0_work_0 13 rfl rfl)
theorem dX0_work_14 : decode cX0_work 14 = .ok (.ireturn, 1) := dk_172 (dk_at dksX0_work_0 14 rfl rfl)
theorem dX0_work_15 : decode cX0_work 15 = .ok (.iconst 0, 1) := dk_3 (dk_at dksX0_work_0 15 rfl rfl)
theorem dX0_work_16 : decode cX0_work 16 = .ok (.ireturn, 1) := dk_172 (dk_at dksX0_work_0 16 rfl rfl)
abbrev cX0_book : ByteArray := method_6_code
def yX0_book : MethodName := ⟨RX0, "book", "(LTunedHouses;I[J)I"⟩
def dkwX0_book_0 : List UInt8 := [44, 3, 42, 27, 182, 0, 21, 133, 80, 167, 0, 6, 78, 4, 172, 3, 172]
abbrev dktX0_book_0 : List UInt8 := dkwX0_book_0 ++ []
theorem dksX0_book_0 : cX0_book.data.toList.drop 0 = dktX0_book_0 := by decide +kernel
theorem dX0_book_0 : decode cX0_book 0 = .ok (.aload_n 2, 1) := dk_44 (dk_at dksX0_book_0 0 rfl rfl)
theorem dX0_book_1 : decode cX0_book 1 = .ok (.iconst 0, 1) := dk_3 (dk_at dksX0_book_0 1 rfl rfl)
theorem dX0_book_2 : decode cX0_book 2 = .ok (.aload_n 0, 1) := dk_42 (dk_at dksX0_book_0 2 rfl rfl)
theorem dX0_book_3 : decode cX0_book 3 = .ok (.iload_n 1, 1) := dk_27 (dk_at dksX0_book_0 3 rfl rfl)
theorem dX0_book_4 : decode cX0_book 4 = .ok (.invokevirtual 21, 3) := dk_182 0 21 (dk_at dksX0_book_0 4 rfl rfl)
theorem dX0_book_7 : decode cX0_book 7 = .ok (.i2l, 1) := dk_133 (dk_at dksX0_book_0 7 rfl rfl)
theorem dX0_book_8 : decode cX0_book 8 = .ok (.lastore, 1) := dk_80 (dk_at dksX0_book_0 8 rfl rfl)
theorem dX0_book_9 : decode cX0_book 9 = .ok (.goto 6, 3) := dk_167 0 6 (dk_at dksX0_book_0 9 rfl rfl)
theorem dX0_book_12 : decode cX0_book 12 = .ok (.astore_n 3, 1) := dk_78 (dk_at dksX0_book_0 12 rfl rfl)
theorem dX0_book_13 : decode cX0_book 13 = .ok (.iconst 1, 1) := dk_4 (dk_at dksX0_book_0 13 rfl rfl)
theorem dX0_book_14 : decode cX0_book 14 = .ok (.ireturn, 1) := dk_172 (dk_at dksX0_book_0 14 rfl rfl)
theorem dX0_book_15 : decode cX0_book 15 = .ok (.iconst 0, 1) := dk_3 (dk_at dksX0_book_0 15 rfl rfl)
theorem dX0_book_16 : decode cX0_book 16 = .ok (.ireturn, 1) := dk_172 (dk_at dksX0_book_0 16 rfl rfl)
abbrev cX0_told : ByteArray := method_7_code
def yX0_told : MethodName := ⟨RX0, "told", "(LTunedHouses;I[J)I"⟩
def dkwX0_told_0 : List UInt8 := [44, 3, 42, 27, 182, 0, 24, 133, 80, 167, 0, 6, 78, 4, 172, 3, 172]
abbrev dktX0_told_0 : List UInt8 := dkwX0_told_0 ++ []
theorem dksX0_told_0 : cX0_told.data.toList.drop 0 = dktX0_told_0 := by decide +kernel
theorem dX0_told_0 : decode cX0_told 0 = .ok (.aload_n 2, 1) := dk_44 (dk_at dksX0_told_0 0 rfl rfl)
theorem dX0_told_1 : decode cX0_told 1 = .ok (.iconst 0, 1) := dk_3 (dk_at dksX0_told_0 1 rfl rfl)
theorem dX0_told_2 : decode cX0_told 2 = .ok (.aload_n 0, 1) := dk_42 (dk_at dksX0_told_0 2 rfl rfl)
theorem dX0_told_3 : decode cX0_told 3 = .ok (.iload_n 1, 1) := dk_27 (dk_at dksX0_told_0 3 rfl rfl)
theorem dX0_told_4 : decode cX0_told 4 = .ok (.invokevirtual 24, 3) := dk_182 0 24 (dk_at dksX0_told_0 4 rfl rfl)
theorem dX0_told_7 : decode cX0_told 7 = .ok (.i2l, 1) := dk_133 (dk_at dksX0_told_0 7 rfl rfl)
theorem dX0_told_8 : decode cX0_told 8 = .ok (.lastore, 1) := dk_80 (dk_at dksX0_told_0 8 rfl rfl)
theorem dX0_told_9 : decode cX0_told 9 = .ok (.goto 6, 3) := dk_167 0 6 (dk_at dksX0_told_0 9 rfl rfl)
theorem dX0_told_12 : decode cX0_told 12 = .ok (.astore_n 3, 1) := dk_78 (dk_at dksX0_told_0 12 rfl rfl)
theorem dX0_told_13 : decode cX0_told 13 = .ok (.iconst 1, 1) := dk_4 (dk_at dksX0_told_0 13 rfl rfl)
theorem dX0_told_14 : decode cX0_told 14 = .ok (.ireturn, 1) := dk_172 (dk_at dksX0_told_0 14 rfl rfl)
theorem dX0_told_15 : decode cX0_told 15 = .ok (.iconst 0, 1) := dk_3 (dk_at dksX0_told_0 15 rfl rfl)
theorem dX0_told_16 : decode cX0_told 16 = .ok (.ireturn, 1) := dk_172 (dk_at dksX0_told_0 16 rfl rfl)
abbrev cX0_house : ByteArray := method_8_code
def yX0_house : MethodName := ⟨RX0, "house", "(LTunedHouses;II[J)I"⟩
def dkwX0_house_0 : List UInt8 := [45, 3, 42, 27, 28, 182, 0, 27, 133, 80, 167, 0, 11, 58, 4, 4, 172, 58, 4, 5, 172, 3, 172]
abbrev dktX0_house_0 : List UInt8 := dkwX0_house_0 ++ []
theorem dksX0_house_0 : cX0_house.data.toList.drop 0 = dktX0_house_0 := by decide +kernel
theorem dX0_house_0 : decode cX0_house 0 = .ok (.aload_n 3, 1) := dk_45 (dk_at dksX0_house_0 0 rfl rfl)
theorem dX0_house_1 : decode cX0_house 1 = .ok (.iconst 0, 1) := dk_3 (dk_at dksX0_house_0 1 rfl rfl)
theorem dX0_house_2 : decode cX0_house 2 = .ok (.aload_n 0, 1) := dk_42 (dk_at dksX0_house_0 2 rfl rfl)
theorem dX0_house_3 : decode cX0_house 3 = .ok (.iload_n 1, 1) := dk_27 (dk_at dksX0_house_0 3 rfl rfl)
theorem dX0_house_4 : decode cX0_house 4 = .ok (.iload_n 2, 1) := dk_28 (dk_at dksX0_house_0 4 rfl rfl)
theorem dX0_house_5 : decode cX0_house 5 = .ok (.invokevirtual 27, 3) := dk_182 0 27 (dk_at dksX0_house_0 5 rfl rfl)
theorem dX0_house_8 : decode cX0_house 8 = .ok (.i2l, 1) := dk_133 (dk_at dksX0_house_0 8 rfl rfl)
theorem dX0_house_9 : decode cX0_house 9 = .ok (.lastore, 1) := dk_80 (dk_at dksX0_house_0 9 rfl rfl)
theorem dX0_house_10 : decode cX0_house 10 = .ok (.goto 11, 3) := dk_167 0 11 (dk_at dksX0_house_0 10 rfl rfl)
theorem dX0_house_13 : decode cX0_house 13 = .ok (.astore 4, 2) := dk_58 4 (dk_at dksX0_house_0 13 rfl rfl)
theorem dX0_house_15 : decode cX0_house 15 = .ok (.iconst 1, 1) := dk_4 (dk_at dksX0_house_0 15 rfl rfl)
theorem dX0_house_16 : decode cX0_house 16 = .ok (.ireturn, 1) := dk_172 (dk_at dksX0_house_0 16 rfl rfl)
theorem dX0_house_17 : decode cX0_house 17 = .ok (.astore 4, 2) := dk_58 4 (dk_at dksX0_house_0 17 rfl rfl)
theorem dX0_house_19 : decode cX0_house 19 = .ok (.iconst 2, 1) := dk_5 (dk_at dksX0_house_0 19 rfl rfl)
theorem dX0_house_20 : decode cX0_house 20 = .ok (.ireturn, 1) := dk_172 (dk_at dksX0_house_0 20 rfl rfl)
theorem dX0_house_21 : decode cX0_house 21 = .ok (.iconst 0, 1) := dk_3 (dk_at dksX0_house_0 21 rfl rfl)
theorem dX0_house_22 : decode cX0_house 22 = .ok (.ireturn, 1) := dk_172 (dk_at dksX0_house_0 22 rfl rfl)
abbrev cX0_there : ByteArray := method_9_code
def yX0_there : MethodName := ⟨RX0, "there", "(LTunedHouses;II[J)I"⟩
def dkwX0_there_0 : List UInt8 := [45, 3, 42, 27, 28, 182, 0, 33, 133, 80, 167, 0, 11, 58, 4, 4, 172, 58, 4, 5, 172, 3, 172]
abbrev dktX0_there_0 : List UInt8 := dkwX0_there_0 ++ []
theorem dksX0_there_0 : cX0_there.data.toList.drop 0 = dktX0_there_0 := by decide +kernel
theorem dX0_there_0 : decode cX0_there 0 = .ok (.aload_n 3, 1) := dk_45 (dk_at dksX0_there_0 0 rfl rfl)
theorem dX0_there_1 : decode cX0_there 1 = .ok (.iconst 0, 1) := dk_3 (dk_at dksX0_there_0 1 rfl rfl)
theorem dX0_there_2 : decode cX0_there 2 = .ok (.aload_n 0, 1) := dk_42 (dk_at dksX0_there_0 2 rfl rfl)
theorem dX0_there_3 : decode cX0_there 3 = .ok (.iload_n 1, 1) := dk_27 (dk_at dksX0_there_0 3 rfl rfl)
theorem dX0_there_4 : decode cX0_there 4 = .ok (.iload_n 2, 1) := dk_28 (dk_at dksX0_there_0 4 rfl rfl)
theorem dX0_there_5 : decode cX0_there 5 = .ok (.invokevirtual 33, 3) := dk_182 0 33 (dk_at dksX0_there_0 5 rfl rfl)
theorem dX0_there_8 : decode cX0_there 8 = .ok (.i2l, 1) := dk_133 (dk_at dksX0_there_0 8 rfl rfl)
theorem dX0_there_9 : decode cX0_there 9 = .ok (.lastore, 1) := dk_80 (dk_at dksX0_there_0 9 rfl rfl)
theorem dX0_there_10 : decode cX0_there 10 = .ok (.goto 11, 3) := dk_167 0 11 (dk_at dksX0_there_0 10 rfl rfl)
theorem dX0_there_13 : decode cX0_there 13 = .ok (.astore 4, 2) := dk_58 4 (dk_at dksX0_there_0 13 rfl rfl)
theorem dX0_there_15 : decode cX0_there 15 = .ok (.iconst 1, 1) := dk_4 (dk_at dksX0_there_0 15 rfl rfl)
theorem dX0_there_16 : decode cX0_there 16 = .ok (.ireturn, 1) := dk_172 (dk_at dksX0_there_0 16 rfl rfl)
theorem dX0_there_17 : decode cX0_there 17 = .ok (.astore 4, 2) := dk_58 4 (dk_at dksX0_there_0 17 rfl rfl)
theorem dX0_there_19 : decode cX0_there 19 = .ok (.iconst 2, 1) := dk_5 (dk_at dksX0_there_0 19 rfl rfl)
theorem dX0_there_20 : decode cX0_there 20 = .ok (.ireturn, 1) := dk_172 (dk_at dksX0_there_0 20 rfl rfl)
theorem dX0_there_21 : decode cX0_there 21 = .ok (.iconst 0, 1) := dk_3 (dk_at dksX0_there_0 21 rfl rfl)
theorem dX0_there_22 : decode cX0_there 22 = .ok (.ireturn, 1) := dk_172 (dk_at dksX0_there_0 22 rfl rfl)
abbrev cX0_wall : ByteArray := method_10_code
def yX0_wall : MethodName := ⟨RX0, "wall", "(LTunedHouses;II[J)I"⟩
def dkwX0_wall_0 : List UInt8 := [45, 3, 42, 27, 28, 182, 0, 36, 133, 80, 167, 0, 11, 58, 4, 4, 172, 58, 4, 5, 172, 3, 172]
abbrev dktX0_wall_0 : List UInt8 := dkwX0_wall_0 ++ []
theorem dksX0_wall_0 : cX0_wall.data.toList.drop 0 = dktX0_wall_0 := by decide +kernel
theorem dX0_wall_0 : decode cX0_wall 0 = .ok (.aload_n 3, 1) := dk_45 (dk_at dksX0_wall_0 0 rfl rfl)
theorem dX0_wall_1 : decode cX0_wall 1 = .ok (.iconst 0, 1) := dk_3 (dk_at dksX0_wall_0 1 rfl rfl)
theorem dX0_wall_2 : decode cX0_wall 2 = .ok (.aload_n 0, 1) := dk_42 (dk_at dksX0_wall_0 2 rfl rfl)
theorem dX0_wall_3 : decode cX0_wall 3 = .ok (.iload_n 1, 1) := dk_27 (dk_at dksX0_wall_0 3 rfl rfl)
theorem dX0_wall_4 : decode cX0_wall 4 = .ok (.iload_n 2, 1) := dk_28 (dk_at dksX0_wall_0 4 rfl rfl)
theorem dX0_wall_5 : decode cX0_wall 5 = .ok (.invokevirtual 36, 3) := dk_182 0 36 (dk_at dksX0_wall_0 5 rfl rfl)
theorem dX0_wall_8 : decode cX0_wall 8 = .ok (.i2l, 1) := dk_133 (dk_at dksX0_wall_0 8 rfl rfl)
theorem dX0_wall_9 : decode cX0_wall 9 = .ok (.lastore, 1) := dk_80 (dk_at dksX0_wall_0 9 rfl rfl)
theorem dX0_wall_10 : decode cX0_wall 10 = .ok (.goto 11, 3) := dk_167 0 11 (dk_at dksX0_wall_0 10 rfl rfl)
theorem dX0_wall_13 : decode cX0_wall 13 = .ok (.astore 4, 2) := dk_58 4 (dk_at dksX0_wall_0 13 rfl rfl)
theorem dX0_wall_15 : decode cX0_wall 15 = .ok (.iconst 1, 1) := dk_4 (dk_at dksX0_wall_0 15 rfl rfl)
theorem dX0_wall_16 : decode cX0_wall 16 = .ok (.ireturn, 1) := dk_172 (dk_at dksX0_wall_0 16 rfl rfl)
theorem dX0_wall_17 : decode cX0_wall 17 = .ok (.astore 4, 2) := dk_58 4 (dk_at dksX0_wall_0 17 rfl rfl)
theorem dX0_wall_19 : decode cX0_wall 19 = .ok (.iconst 2, 1) := dk_5 (dk_at dksX0_wall_0 19 rfl rfl)
theorem dX0_wall_20 : decode cX0_wall 20 = .ok (.ireturn, 1) := dk_172 (dk_at dksX0_wall_0 20 rfl rfl)
theorem dX0_wall_21 : decode cX0_wall 21 = .ok (.iconst 0, 1) := dk_3 (dk_at dksX0_wall_0 21 rfl rfl)
theorem dX0_wall_22 : decode cX0_wall 22 = .ok (.ireturn, 1) := dk_172 (dk_at dksX0_wall_0 22 rfl rfl)
abbrev cX0_piano : ByteArray := method_11_code
def yX0_piano : MethodName := ⟨RX0, "piano", "(LTunedHouses;II[J)I"⟩
def dkwX0_piano_0 : List UInt8 := [45, 3, 42, 27, 28, 182, 0, 39, 133, 80, 167, 0, 11, 58, 4, 4, 172, 58, 4, 5, 172, 3, 172]
abbrev dktX0_piano_0 : List UInt8 := dkwX0_piano_0 ++ []
theorem dksX0_piano_0 : cX0_piano.data.toList.drop 0 = dktX0_piano_0 := by decide +kernel
theorem dX0_piano_0 : decode cX0_piano 0 = .ok (.aload_n 3, 1) := dk_45 (dk_at dksX0_piano_0 0 rfl rfl)
theorem dX0_piano_1 : decode cX0_piano 1 = .ok (.iconst 0, 1) := dk_3 (dk_at dksX0_piano_0 1 rfl rfl)
theorem dX0_piano_2 : decode cX0_piano 2 = .ok (.aload_n 0, 1) := dk_42 (dk_at dksX0_piano_0 2 rfl rfl)
theorem dX0_piano_3 : decode cX0_piano 3 = .ok (.iload_n 1, 1) := dk_27 (dk_at dksX0_piano_0 3 rfl rfl)
theorem dX0_piano_4 : decode cX0_piano 4 = .ok (.iload_n 2, 1) := dk_28 (dk_at dksX0_piano_0 4 rfl rfl)
theorem dX0_piano_5 : decode cX0_piano 5 = .ok (.invokevirtual 39, 3) := dk_182 0 39 (dk_at dksX0_piano_0 5 rfl rfl)
theorem dX0_piano_8 : decode cX0_piano 8 = .ok (.i2l, 1) := dk_133 (dk_at dksX0_piano_0 8 rfl rfl)
theorem dX0_piano_9 : decode cX0_piano 9 = .ok (.lastore, 1) := dk_80 (dk_at dksX0_piano_0 9 rfl rfl)
theorem dX0_piano_10 : decode cX0_piano 10 = .ok (.goto 11, 3) := dk_167 0 11 (dk_at dksX0_piano_0 10 rfl rfl)
theorem dX0_piano_13 : decode cX0_piano 13 = .ok (.astore 4, 2) := dk_58 4 (dk_at dksX0_piano_0 13 rfl rfl)
theorem dX0_piano_15 : decode cX0_piano 15 = .ok (.iconst 1, 1) := dk_4 (dk_at dksX0_piano_0 15 rfl rfl)
theorem dX0_piano_16 : decode cX0_piano 16 = .ok (.ireturn, 1) := dk_172 (dk_at dksX0_piano_0 16 rfl rfl)
theorem dX0_piano_17 : decode cX0_piano 17 = .ok (.astore 4, 2) := dk_58 4 (dk_at dksX0_piano_0 17 rfl rfl)
theorem dX0_piano_19 : decode cX0_piano 19 = .ok (.iconst 2, 1) := dk_5 (dk_at dksX0_piano_0 19 rfl rfl)
theorem dX0_piano_20 : decode cX0_piano 20 = .ok (.ireturn, 1) := dk_172 (dk_at dksX0_piano_0 20 rfl rfl)
theorem dX0_piano_21 : decode cX0_piano 21 = .ok (.iconst 0, 1) := dk_3 (dk_at dksX0_piano_0 21 rfl rfl)
theorem dX0_piano_22 : decode cX0_piano 22 = .ok (.ireturn, 1) := dk_172 (dk_at dksX0_piano_0 22 rfl rfl)
abbrev cX0_would : ByteArray := method_12_code
def yX0_would : MethodName := ⟨RX0, "would", "(LTunedHouses;IIIIIIII[J)I"⟩
def dkwX0_would_1 : List UInt8 := [167, 0, 7, 58, 10, 4, 172, 3, 172]
abbrev dktX0_would_1 : List UInt8 := dkwX0_would_1 ++ []
def dkwX0_would_0 : List UInt8 := [25, 9, 3, 42, 27, 28, 29, 21, 4, 21, 5, 21, 6, 21, 7, 21, 8, 182, 0, 42, 133, 80]
abbrev dktX0_would_0 : List UInt8 := dkwX0_would_0 ++ dktX0_would_1
theorem dksX0_would_0 : cX0_would.data.toList.drop 0 = dktX0_would_0 := by decide +kernel
theorem dksX0_would_1 : cX0_would.data.toList.drop 22 = dktX0_would_1 := dk_seg dksX0_would_0 22 rfl rfl
theorem dX0_would_0 : decode cX0_would 0 = .ok (.aload 9, 2) := dk_25 9 (dk_at dksX0_would_0 0 rfl rfl)
theorem dX0_would_2 : decode cX0_would 2 = .ok (.iconst 0, 1) := dk_3 (dk_at dksX0_would_0 2 rfl rfl)
theorem dX0_would_3 : decode cX0_would 3 = .ok (.aload_n 0, 1) := dk_42 (dk_at dksX0_would_0 3 rfl rfl)
theorem dX0_would_4 : decode cX0_would 4 = .ok (.iload_n 1, 1) := dk_27 (dk_at dksX0_would_0 4 rfl rfl)
theorem dX0_would_5 : decode cX0_would 5 = .ok (.iload_n 2, 1) := dk_28 (dk_at dksX0_would_0 5 rfl rfl)
theorem dX0_would_6 : decode cX0_would 6 = .ok (.iload_n 3, 1) := dk_29 (dk_at dksX0_would_0 6 rfl rfl)
theorem dX0_would_7 : decode cX0_would 7 = .ok (.iload 4, 2) := dk_21 4 (dk_at dksX0_would_0 7 rfl rfl)
theorem dX0_would_9 : decode cX0_would 9 = .ok (.iload 5, 2) := dk_21 5 (dk_at dksX0_would_0 9 rfl rfl)
theorem dX0_would_11 : decode cX0_would 11 = .ok (.iload 6, 2) := dk_21 6 (dk_at dksX0_would_0 11 rfl rfl)
theorem dX0_would_13 : decode cX0_would 13 = .ok (.iload 7, 2) := dk_21 7 (dk_at dksX0_would_0 13 rfl rfl)
theorem dX0_would_15 : decode cX0_would 15 = .ok (.iload 8, 2) := dk_21 8 (dk_at dksX0_would_0 15 rfl rfl)
theorem dX0_would_17 : decode cX0_would 17 = .ok (.invokevirtual 42, 3) := dk_182 0 42 (dk_at dksX0_would_0 17 rfl rfl)
theorem dX0_would_20 : decode cX0_would 20 = .ok (.i2l, 1) := dk_133 (dk_at dksX0_would_0 20 rfl rfl)
theorem dX0_would_21 : decode cX0_would 21 = .ok (.lastore, 1) := dk_80 (dk_at dksX0_would_0 21 rfl rfl)
theorem dX0_would_22 : decode cX0_would 22 = .ok (.goto 7, 3) := dk_167 0 7 (dk_at dksX0_would_1 0 rfl rfl)
theorem dX0_would_25 : decode cX0_would 25 = .ok (.astore 10, 2) := dk_58 10 (dk_at dksX0_would_1 3 rfl rfl)
theorem dX0_would_27 : decode cX0_would 27 = .ok (.iconst 1, 1) := dk_4 (dk_at dksX0_would_1 5 rfl rfl)
theorem dX0_would_28 : decode cX0_would 28 = .ok (.ireturn, 1) := dk_172 (dk_at dksX0_would_1 6 rfl rfl)
theorem dX0_would_29 : decode cX0_would 29 = .ok (.iconst 0, 1) := dk_3 (dk_at dksX0_would_1 7 rfl rfl)
theorem dX0_would_30 : decode cX0_would 30 = .ok (.ireturn, 1) := dk_172 (dk_at dksX0_would_1 8 rfl rfl)
abbrev cX0_ahead : ByteArray := method_13_code
def yX0_ahead : MethodName := ⟨RX0, "ahead", "(LTunedHouses;III[J)I"⟩
def dkwX0_ahead_1 : List UInt8 := [172]
abbrev dktX0_ahead_1 : List UInt8 := dkwX0_ahead_1 ++ []
def dkwX0_ahead_0 : List UInt8 := [25, 4, 3, 42, 27, 28, 29, 182, 0, 46, 133, 80, 167, 0, 11, 58, 5, 4, 172, 58, 5, 5, 172, 3]
abbrev dktX0_ahead_0 : List UInt8 := dkwX0_ahead_0 ++ dktX0_ahead_1
theorem dksX0_ahead_0 : cX0_ahead.data.toList.drop 0 = dktX0_ahead_0 := by decide +kernel
theorem dksX0_ahead_1 : cX0_ahead.data.toList.drop 24 = dktX0_ahead_1 := dk_seg dksX0_ahead_0 24 rfl rfl
theorem dX0_ahead_0 : decode cX0_ahead 0 = .ok (.aload 4, 2) := dk_25 4 (dk_at dksX0_ahead_0 0 rfl rfl)
theorem dX0_ahead_2 : decode cX0_ahead 2 = .ok (.iconst 0, 1) := dk_3 (dk_at dksX0_ahead_0 2 rfl rfl)
theorem dX0_ahead_3 : decode cX0_ahead 3 = .ok (.aload_n 0, 1) := dk_42 (dk_at dksX0_ahead_0 3 rfl rfl)
theorem dX0_ahead_4 : decode cX0_ahead 4 = .ok (.iload_n 1, 1) := dk_27 (dk_at dksX0_ahead_0 4 rfl rfl)
theorem dX0_ahead_5 : decode cX0_ahead 5 = .ok (.iload_n 2, 1) := dk_28 (dk_at dksX0_ahead_0 5 rfl rfl)
theorem dX0_ahead_6 : decode cX0_ahead 6 = .ok (.iload_n 3, 1) := dk_29 (dk_at dksX0_ahead_0 6 rfl rfl)
theorem dX0_ahead_7 : decode cX0_ahead 7 = .ok (.invokevirtual 46, 3) := dk_182 0 46 (dk_at dksX0_ahead_0 7 rfl rfl)
theorem dX0_ahead_10 : decode cX0_ahead 10 = .ok (.i2l, 1) := dk_133 (dk_at dksX0_ahead_0 10 rfl rfl)
theorem dX0_ahead_11 : decode cX0_ahead 11 = .ok (.lastore, 1) := dk_80 (dk_at dksX0_ahead_0 11 rfl rfl)
theorem dX0_ahead_12 : decode cX0_ahead 12 = .ok (.goto 11, 3) := dk_167 0 11 (dk_at dksX0_ahead_0 12 rfl rfl)
theorem dX0_ahead_15 : decode cX0_ahead 15 = .ok (.astore 5, 2) := dk_58 5 (dk_at dksX0_ahead_0 15 rfl rfl)
theorem dX0_ahead_17 : decode cX0_ahead 17 = .ok (.iconst 1, 1) := dk_4 (dk_at dksX0_ahead_0 17 rfl rfl)
theorem dX0_ahead_18 : decode cX0_ahead 18 = .ok (.ireturn, 1) := dk_172 (dk_at dksX0_ahead_0 18 rfl rfl)
theorem dX0_ahead_19 : decode cX0_ahead 19 = .ok (.astore 5, 2) := dk_58 5 (dk_at dksX0_ahead_0 19 rfl rfl)
theorem dX0_ahead_21 : decode cX0_ahead 21 = .ok (.iconst 2, 1) := dk_5 (dk_at dksX0_ahead_0 21 rfl rfl)
theorem dX0_ahead_22 : decode cX0_ahead 22 = .ok (.ireturn, 1) := dk_172 (dk_at dksX0_ahead_0 22 rfl rfl)
theorem dX0_ahead_23 : decode cX0_ahead 23 = .ok (.iconst 0, 1) := dk_3 (dk_at dksX0_ahead_0 23 rfl rfl)
theorem dX0_ahead_24 : decode cX0_ahead 24 = .ok (.ireturn, 1) := dk_172 (dk_at dksX0_ahead_1 0 rfl rfl)
abbrev cX0_when : ByteArray := method_14_code
def yX0_when : MethodName := ⟨RX0, "when", "(LTunedHouses;II[J)I"⟩
def dkwX0_when_0 : List UInt8 := [45, 3, 42, 27, 28, 182, 0, 50, 133, 80, 167, 0, 11, 58, 4, 4, 172, 58, 4, 5, 172, 3, 172]
abbrev dktX0_when_0 : List UInt8 := dkwX0_when_0 ++ []
theorem dksX0_when_0 : cX0_when.data.toList.drop 0 = dktX0_when_0 := by decide +kernel
theorem dX0_when_0 : decode cX0_when 0 = .ok (.aload_n 3, 1) := dk_45 (dk_at dksX0_when_0 0 rfl rfl)
theorem dX0_when_1 : decode cX0_when 1 = .ok (.iconst 0, 1) := dk_3 (dk_at dksX0_when_0 1 rfl rfl)
theorem dX0_when_2 : decode cX0_when 2 = .ok (.aload_n 0, 1) := dk_42 (dk_at dksX0_when_0 2 rfl rfl)
theorem dX0_when_3 : decode cX0_when 3 = .ok (.iload_n 1, 1) := dk_27 (dk_at dksX0_when_0 3 rfl rfl)
theorem dX0_when_4 : decode cX0_when 4 = .ok (.iload_n 2, 1) := dk_28 (dk_at dksX0_when_0 4 rfl rfl)
theorem dX0_when_5 : decode cX0_when 5 = .ok (.invokevirtual 50, 3) := dk_182 0 50 (dk_at dksX0_when_0 5 rfl rfl)
theorem dX0_when_8 : decode cX0_when 8 = .ok (.i2l, 1) := dk_133 (dk_at dksX0_when_0 8 rfl rfl)
theorem dX0_when_9 : decode cX0_when 9 = .ok (.lastore, 1) := dk_80 (dk_at dksX0_when_0 9 rfl rfl)
theorem dX0_when_10 : decode cX0_when 10 = .ok (.goto 11, 3) := dk_167 0 11 (dk_at dksX0_when_0 10 rfl rfl)
theorem dX0_when_13 : decode cX0_when 13 = .ok (.astore 4, 2) := dk_58 4 (dk_at dksX0_when_0 13 rfl rfl)
theorem dX0_when_15 : decode cX0_when 15 = .ok (.iconst 1, 1) := dk_4 (dk_at dksX0_when_0 15 rfl rfl)
theorem dX0_when_16 : decode cX0_when 16 = .ok (.ireturn, 1) := dk_172 (dk_at dksX0_when_0 16 rfl rfl)
theorem dX0_when_17 : decode cX0_when 17 = .ok (.astore 4, 2) := dk_58 4 (dk_at dksX0_when_0 17 rfl rfl)
theorem dX0_when_19 : decode cX0_when 19 = .ok (.iconst 2, 1) := dk_5 (dk_at dksX0_when_0 19 rfl rfl)
theorem dX0_when_20 : decode cX0_when 20 = .ok (.ireturn, 1) := dk_172 (dk_at dksX0_when_0 20 rfl rfl)
theorem dX0_when_21 : decode cX0_when 21 = .ok (.iconst 0, 1) := dk_3 (dk_at dksX0_when_0 21 rfl rfl)
theorem dX0_when_22 : decode cX0_when 22 = .ok (.ireturn, 1) := dk_172 (dk_at dksX0_when_0 22 rfl rfl)
abbrev cX0_muffle : ByteArray := method_15_code
def yX0_muffle : MethodName := ⟨RX0, "muffle", "(LTunedHouses;I[J)I"⟩
def dkwX0_muffle_0 : List UInt8 := [44, 3, 42, 27, 182, 0, 53, 133, 80, 167, 0, 6, 78, 4, 172, 3, 172]
abbrev dktX0_muffle_0 : List UInt8 := dkwX0_muffle_0 ++ []
theorem dksX0_muffle_0 : cX0_muffle.data.toList.drop 0 = dktX0_muffle_0 := by decide +kernel
theorem dX0_muffle_0 : decode cX0_muffle 0 = .ok (.aload_n 2, 1) := dk_44 (dk_at dksX0_muffle_0 0 rfl rfl)
theorem dX0_muffle_1 : decode cX0_muffle 1 = .ok (.iconst 0, 1) := dk_3 (dk_at dksX0_muffle_0 1 rfl rfl)
theorem dX0_muffle_2 : decode cX0_muffle 2 = .ok (.aload_n 0, 1) := dk_42 (dk_at dksX0_muffle_0 2 rfl rfl)
theorem dX0_muffle_3 : decode cX0_muffle 3 = .ok (.iload_n 1, 1) := dk_27 (dk_at dksX0_muffle_0 3 rfl rfl)
theorem dX0_muffle_4 : decode cX0_muffle 4 = .ok (.invokevirtual 53, 3) := dk_182 0 53 (dk_at dksX0_muffle_0 4 rfl rfl)
theorem dX0_muffle_7 : decode cX0_muffle 7 = .ok (.i2l, 1) := dk_133 (dk_at dksX0_muffle_0 7 rfl rfl)
theorem dX0_muffle_8 : decode cX0_muffle 8 = .ok (.lastore, 1) := dk_80 (dk_at dksX0_muffle_0 8 rfl rfl)
theorem dX0_muffle_9 : decode cX0_muffle 9 = .ok (.goto 6, 3) := dk_167 0 6 (dk_at dksX0_muffle_0 9 rfl rfl)
theorem dX0_muffle_12 : decode cX0_muffle 12 = .ok (.astore_n 3, 1) := dk_78 (dk_at dksX0_muffle_0 12 rfl rfl)
theorem dX0_muffle_13 : decode cX0_muffle 13 = .ok (.iconst 1, 1) := dk_4 (dk_at dksX0_muffle_0 13 rfl rfl)
theorem dX0_muffle_14 : decode cX0_muffle 14 = .ok (.ireturn, 1) := dk_172 (dk_at dksX0_muffle_0 14 rfl rfl)
theorem dX0_muffle_15 : decode cX0_muffle 15 = .ok (.iconst 0, 1) := dk_3 (dk_at dksX0_muffle_0 15 rfl rfl)
theorem dX0_muffle_16 : decode cX0_muffle 16 = .ok (.ireturn, 1) := dk_172 (dk_at dksX0_muffle_0 16 rfl rfl)
abbrev cX0_placed : ByteArray := method_16_code
def yX0_placed : MethodName := ⟨RX0, "placed", "(LTunedHouses;I[J)I"⟩
def dkwX0_placed_0 : List UInt8 := [44, 3, 42, 27, 182, 0, 56, 133, 80, 167, 0, 6, 78, 4, 172, 3, 172]
abbrev dktX0_placed_0 : List UInt8 := dkwX0_placed_0 ++ []
theorem dksX0_placed_0 : cX0_placed.data.toList.drop 0 = dktX0_placed_0 := by decide +kernel
theorem dX0_placed_0 : decode cX0_placed 0 = .ok (.aload_n 2, 1) := dk_44 (dk_at dksX0_placed_0 0 rfl rfl)
theorem dX0_placed_1 : decode cX0_placed 1 = .ok (.iconst 0, 1) := dk_3 (dk_at dksX0_placed_0 1 rfl rfl)
theorem dX0_placed_2 : decode cX0_placed 2 = .ok (.aload_n 0, 1) := dk_42 (dk_at dksX0_placed_0 2 rfl rfl)
theorem dX0_placed_3 : decode cX0_placed 3 = .ok (.iload_n 1, 1) := dk_27 (dk_at dksX0_placed_0 3 rfl rfl)
theorem dX0_placed_4 : decode cX0_placed 4 = .ok (.invokevirtual 56, 3) := dk_182 0 56 (dk_at dksX0_placed_0 4 rfl rfl)
theorem dX0_placed_7 : decode cX0_placed 7 = .ok (.i2l, 1) := dk_133 (dk_at dksX0_placed_0 7 rfl rfl)
theorem dX0_placed_8 : decode cX0_placed 8 = .ok (.lastore, 1) := dk_80 (dk_at dksX0_placed_0 8 rfl rfl)
theorem dX0_placed_9 : decode cX0_placed 9 = .ok (.goto 6, 3) := dk_167 0 6 (dk_at dksX0_placed_0 9 rfl rfl)
theorem dX0_placed_12 : decode cX0_placed 12 = .ok (.astore_n 3, 1) := dk_78 (dk_at dksX0_placed_0 12 rfl rfl)
theorem dX0_placed_13 : decode cX0_placed 13 = .ok (.iconst 1, 1) := dk_4 (dk_at dksX0_placed_0 13 rfl rfl)
theorem dX0_placed_14 : decode cX0_placed 14 = .ok (.ireturn, 1) := dk_172 (dk_at dksX0_placed_0 14 rfl rfl)
theorem dX0_placed_15 : decode cX0_placed 15 = .ok (.iconst 0, 1) := dk_3 (dk_at dksX0_placed_0 15 rfl rfl)
theorem dX0_placed_16 : decode cX0_placed 16 = .ok (.ireturn, 1) := dk_172 (dk_at dksX0_placed_0 16 rfl rfl)
abbrev cX0_from : ByteArray := method_17_code
def yX0_from : MethodName := ⟨RX0, "from", "(LTunedHouses;II[J)I"⟩
def dkwX0_from_0 : List UInt8 := [45, 3, 42, 27, 28, 182, 0, 59, 133, 80, 167, 0, 11, 58, 4, 4, 172, 58, 4, 5, 172, 3, 172]
abbrev dktX0_from_0 : List UInt8 := dkwX0_from_0 ++ []
theorem dksX0_from_0 : cX0_from.data.toList.drop 0 = dktX0_from_0 := by decide +kernel
theorem dX0_from_0 : decode cX0_from 0 = .ok (.aload_n 3, 1) := dk_45 (dk_at dksX0_from_0 0 rfl rfl)
theorem dX0_from_1 : decode cX0_from 1 = .ok (.iconst 0, 1) := dk_3 (dk_at dksX0_from_0 1 rfl rfl)
theorem dX0_from_2 : decode cX0_from 2 = .ok (.aload_n 0, 1) := dk_42 (dk_at dksX0_from_0 2 rfl rfl)
theorem dX0_from_3 : decode cX0_from 3 = .ok (.iload_n 1, 1) := dk_27 (dk_at dksX0_from_0 3 rfl rfl)
theorem dX0_from_4 : decode cX0_from 4 = .ok (.iload_n 2, 1) := dk_28 (dk_at dksX0_from_0 4 rfl rfl)
theorem dX0_from_5 : decode cX0_from 5 = .ok (.invokevirtual 59, 3) := dk_182 0 59 (dk_at dksX0_from_0 5 rfl rfl)
theorem dX0_from_8 : decode cX0_from 8 = .ok (.i2l, 1) := dk_133 (dk_at dksX0_from_0 8 rfl rfl)
theorem dX0_from_9 : decode cX0_from 9 = .ok (.lastore, 1) := dk_80 (dk_at dksX0_from_0 9 rfl rfl)
theorem dX0_from_10 : decode cX0_from 10 = .ok (.goto 11, 3) := dk_167 0 11 (dk_at dksX0_from_0 10 rfl rfl)
theorem dX0_from_13 : decode cX0_from 13 = .ok (.astore 4, 2) := dk_58 4 (dk_at dksX0_from_0 13 rfl rfl)
theorem dX0_from_15 : decode cX0_from 15 = .ok (.iconst 1, 1) := dk_4 (dk_at dksX0_from_0 15 rfl rfl)
theorem dX0_from_16 : decode cX0_from 16 = .ok (.ireturn, 1) := dk_172 (dk_at dksX0_from_0 16 rfl rfl)
theorem dX0_from_17 : decode cX0_from 17 = .ok (.astore 4, 2) := dk_58 4 (dk_at dksX0_from_0 17 rfl rfl)
theorem dX0_from_19 : decode cX0_from 19 = .ok (.iconst 2, 1) := dk_5 (dk_at dksX0_from_0 19 rfl rfl)
theorem dX0_from_20 : decode cX0_from 20 = .ok (.ireturn, 1) := dk_172 (dk_at dksX0_from_0 20 rfl rfl)
theorem dX0_from_21 : decode cX0_from 21 = .ok (.iconst 0, 1) := dk_3 (dk_at dksX0_from_0 21 rfl rfl)
theorem dX0_from_22 : decode cX0_from 22 = .ok (.ireturn, 1) := dk_172 (dk_at dksX0_from_0 22 rfl rfl)
abbrev cX0_look : ByteArray := method_18_code
def yX0_look : MethodName := ⟨RX0, "look", "(LTunedHouses;II[J)I"⟩
def dkwX0_look_0 : List UInt8 := [45, 3, 42, 27, 28, 182, 0, 62, 133, 80, 167, 0, 11, 58, 4, 4, 172, 58, 4, 5, 172, 3, 172]
abbrev dktX0_look_0 : List UInt8 := dkwX0_look_0 ++ []
theorem dksX0_look_0 : cX0_look.data.toList.drop 0 = dktX0_look_0 := by decide +kernel
theorem dX0_look_0 : decode cX0_look 0 = .ok (.aload_n 3, 1) := dk_45 (dk_at dksX0_look_0 0 rfl rfl)
theorem dX0_look_1 : decode cX0_look 1 = .ok (.iconst 0, 1) := dk_3 (dk_at dksX0_look_0 1 rfl rfl)
theorem dX0_look_2 : decode cX0_look 2 = .ok (.aload_n 0, 1) := dk_42 (dk_at dksX0_look_0 2 rfl rfl)
theorem dX0_look_3 : decode cX0_look 3 = .ok (.iload_n 1, 1) := dk_27 (dk_at dksX0_look_0 3 rfl rfl)
theorem dX0_look_4 : decode cX0_look 4 = .ok (.iload_n 2, 1) := dk_28 (dk_at dksX0_look_0 4 rfl rfl)
theorem dX0_look_5 : decode cX0_look 5 = .ok (.invokevirtual 62, 3) := dk_182 0 62 (dk_at dksX0_look_0 5 rfl rfl)
theorem dX0_look_8 : decode cX0_look 8 = .ok (.i2l, 1) := dk_133 (dk_at dksX0_look_0 8 rfl rfl)
theorem dX0_look_9 : decode cX0_look 9 = .ok (.lastore, 1) := dk_80 (dk_at dksX0_look_0 9 rfl rfl)
theorem dX0_look_10 : decode cX0_look 10 = .ok (.goto 11, 3) := dk_167 0 11 (dk_at dksX0_look_0 10 rfl rfl)
theorem dX0_look_13 : decode cX0_look 13 = .ok (.astore 4, 2) := dk_58 4 (dk_at dksX0_look_0 13 rfl rfl)
theorem dX0_look_15 : decode cX0_look 15 = .ok (.iconst 1, 1) := dk_4 (dk_at dksX0_look_0 15 rfl rfl)
theorem dX0_look_16 : decode cX0_look 16 = .ok (.ireturn, 1) := dk_172 (dk_at dksX0_look_0 16 rfl rfl)
theorem dX0_look_17 : decode cX0_look 17 = .ok (.astore 4, 2) := dk_58 4 (dk_at dksX0_look_0 17 rfl rfl)
theorem dX0_look_19 : decode cX0_look 19 = .ok (.iconst 2, 1) := dk_5 (dk_at dksX0_look_0 19 rfl rfl)
theorem dX0_look_20 : decode cX0_look 20 = .ok (.ireturn, 1) := dk_172 (dk_at dksX0_look_0 20 rfl rfl)
theorem dX0_look_21 : decode cX0_look 21 = .ok (.iconst 0, 1) := dk_3 (dk_at dksX0_look_0 21 rfl rfl)
theorem dX0_look_22 : decode cX0_look 22 = .ok (.ireturn, 1) := dk_172 (dk_at dksX0_look_0 22 rfl rfl)
abbrev cX0_way : ByteArray := method_19_code
def yX0_way : MethodName := ⟨RX0, "way", "(LTunedHouses;II[J)I"⟩
def dkwX0_way_0 : List UInt8 := [45, 3, 42, 27, 28, 182, 0, 65, 133, 80, 167, 0, 7, 58, 4, 4, 172, 3, 172]
abbrev dktX0_way_0 : List UInt8 := dkwX0_way_0 ++ []
theorem dksX0_way_0 : cX0_way.data.toList.drop 0 = dktX0_way_0 := by decide +kernel
theorem dX0_way_0 : decode cX0_way 0 = .ok (.aload_n 3, 1) := dk_45 (dk_at dksX0_way_0 0 rfl rfl)
theorem dX0_way_1 : decode cX0_way 1 = .ok (.iconst 0, 1) := dk_3 (dk_at dksX0_way_0 1 rfl rfl)
theorem dX0_way_2 : decode cX0_way 2 = .ok (.aload_n 0, 1) := dk_42 (dk_at dksX0_way_0 2 rfl rfl)
theorem dX0_way_3 : decode cX0_way 3 = .ok (.iload_n 1, 1) := dk_27 (dk_at dksX0_way_0 3 rfl rfl)
theorem dX0_way_4 : decode cX0_way 4 = .ok (.iload_n 2, 1) := dk_28 (dk_at dksX0_way_0 4 rfl rfl)
theorem dX0_way_5 : decode cX0_way 5 = .ok (.invokevirtual 65, 3) := dk_182 0 65 (dk_at dksX0_way_0 5 rfl rfl)
theorem dX0_way_8 : decode cX0_way 8 = .ok (.i2l, 1) := dk_133 (dk_at dksX0_way_0 8 rfl rfl)
theorem dX0_way_9 : decode cX0_way 9 = .ok (.lastore, 1) := dk_80 (dk_at dksX0_way_0 9 rfl rfl)
theorem dX0_way_10 : decode cX0_way 10 = .ok (.goto 7, 3) := dk_167 0 7 (dk_at dksX0_way_0 10 rfl rfl)
theorem dX0_way_13 : decode cX0_way 13 = .ok (.astore 4, 2) := dk_58 4 (dk_at dksX0_way_0 13 rfl rfl)
theorem dX0_way_15 : decode cX0_way 15 = .ok (.iconst 1, 1) := dk_4 (dk_at dksX0_way_0 15 rfl rfl)
theorem dX0_way_16 : decode cX0_way 16 = .ok (.ireturn, 1) := dk_172 (dk_at dksX0_way_0 16 rfl rfl)
theorem dX0_way_17 : decode cX0_way 17 = .ok (.iconst 0, 1) := dk_3 (dk_at dksX0_way_0 17 rfl rfl)
theorem dX0_way_18 : decode cX0_way 18 = .ok (.ireturn, 1) := dk_172 (dk_at dksX0_way_0 18 rfl rfl)
abbrev cX0_price : ByteArray := method_20_code
def yX0_price : MethodName := ⟨RX0, "price", "(LTunedHouses;III[J)I"⟩
def dkwX0_price_0 : List UInt8 := [25, 4, 3, 42, 27, 28, 29, 182, 0, 68, 80, 167, 0, 7, 58, 5, 4, 172, 3, 172]
abbrev dktX0_price_0 : List UInt8 := dkwX0_price_0 ++ []
theorem dksX0_price_0 : cX0_price.data.toList.drop 0 = dktX0_price_0 := by decide +kernel
theorem dX0_price_0 : decode cX0_price 0 = .ok (.aload 4, 2) := dk_25 4 (dk_at dksX0_price_0 0 rfl rfl)
theorem dX0_price_2 : decode cX0_price 2 = .ok (.iconst 0, 1) := dk_3 (dk_at dksX0_price_0 2 rfl rfl)
theorem dX0_price_3 : decode cX0_price 3 = .ok (.aload_n 0, 1) := dk_42 (dk_at dksX0_price_0 3 rfl rfl)
theorem dX0_price_4 : decode cX0_price 4 = .ok (.iload_n 1, 1) := dk_27 (dk_at dksX0_price_0 4 rfl rfl)
theorem dX0_price_5 : decode cX0_price 5 = .ok (.iload_n 2, 1) := dk_28 (dk_at dksX0_price_0 5 rfl rfl)
theorem dX0_price_6 : decode cX0_price 6 = .ok (.iload_n 3, 1) := dk_29 (dk_at dksX0_price_0 6 rfl rfl)
theorem dX0_price_7 : decode cX0_price 7 = .ok (.invokevirtual 68, 3) := dk_182 0 68 (dk_at dksX0_price_0 7 rfl rfl)
theorem dX0_price_10 : decode cX0_price 10 = .ok (.lastore, 1) := dk_80 (dk_at dksX0_price_0 10 rfl rfl)
theorem dX0_price_11 : decode cX0_price 11 = .ok (.goto 7, 3) := dk_167 0 7 (dk_at dksX0_price_0 11 rfl rfl)
theorem dX0_price_14 : decode cX0_price 14 = .ok (.astore 5, 2) := dk_58 5 (dk_at dksX0_price_0 14 rfl rfl)
theorem dX0_price_16 : decode cX0_price 16 = .ok (.iconst 1, 1) := dk_4 (dk_at dksX0_price_0 16 rfl rfl)
theorem dX0_price_17 : decode cX0_price 17 = .ok (.ireturn, 1) := dk_172 (dk_at dksX0_price_0 17 rfl rfl)
theorem dX0_price_18 : decode cX0_price 18 = .ok (.iconst 0, 1) := dk_3 (dk_at dksX0_price_0 18 rfl rfl)
theorem dX0_price_19 : decode cX0_price 19 = .ok (.ireturn, 1) := dk_172 (dk_at dksX0_price_0 19 rfl rfl)
abbrev cX0_tuner : ByteArray := method_21_code
def yX0_tuner : MethodName := ⟨RX0, "tuner", "(LTunedHouses;III[J)I"⟩
def dkwX0_tuner_0 : List UInt8 := [25, 4, 3, 42, 27, 28, 29, 182, 0, 72, 133, 80, 167, 0, 7, 58, 5, 4, 172, 3, 172]
abbrev dktX0_tuner_0 : List UInt8 := dkwX0_tuner_0 ++ []
theorem dksX0_tuner_0 : cX0_tuner.data.toList.drop 0 = dktX0_tuner_0 := by decide +kernel
theorem dX0_tuner_0 : decode cX0_tuner 0 = .ok (.aload 4, 2) := dk_25 4 (dk_at dksX0_tuner_0 0 rfl rfl)
theorem dX0_tuner_2 : decode cX0_tuner 2 = .ok (.iconst 0, 1) := dk_3 (dk_at dksX0_tuner_0 2 rfl rfl)
theorem dX0_tuner_3 : decode cX0_tuner 3 = .ok (.aload_n 0, 1) := dk_42 (dk_at dksX0_tuner_0 3 rfl rfl)
theorem dX0_tuner_4 : decode cX0_tuner 4 = .ok (.iload_n 1, 1) := dk_27 (dk_at dksX0_tuner_0 4 rfl rfl)
theorem dX0_tuner_5 : decode cX0_tuner 5 = .ok (.iload_n 2, 1) := dk_28 (dk_at dksX0_tuner_0 5 rfl rfl)
theorem dX0_tuner_6 : decode cX0_tuner 6 = .ok (.iload_n 3, 1) := dk_29 (dk_at dksX0_tuner_0 6 rfl rfl)
theorem dX0_tuner_7 : decode cX0_tuner 7 = .ok (.invokevirtual 72, 3) := dk_182 0 72 (dk_at dksX0_tuner_0 7 rfl rfl)
theorem dX0_tuner_10 : decode cX0_tuner 10 = .ok (.i2l, 1) := dk_133 (dk_at dksX0_tuner_0 10 rfl rfl)
theorem dX0_tuner_11 : decode cX0_tuner 11 = .ok (.lastore, 1) := dk_80 (dk_at dksX0_tuner_0 11 rfl rfl)
theorem dX0_tuner_12 : decode cX0_tuner 12 = .ok (.goto 7, 3) := dk_167 0 7 (dk_at dksX0_tuner_0 12 rfl rfl)
theorem dX0_tuner_15 : decode cX0_tuner 15 = .ok (.astore 5, 2) := dk_58 5 (dk_at dksX0_tuner_0 15 rfl rfl)
theorem dX0_tuner_17 : decode cX0_tuner 17 = .ok (.iconst 1, 1) := dk_4 (dk_at dksX0_tuner_0 17 rfl rfl)
theorem dX0_tuner_18 : decode cX0_tuner 18 = .ok (.ireturn, 1) := dk_172 (dk_at dksX0_tuner_0 18 rfl rfl)
theorem dX0_tuner_19 : decode cX0_tuner 19 = .ok (.iconst 0, 1) := dk_3 (dk_at dksX0_tuner_0 19 rfl rfl)
theorem dX0_tuner_20 : decode cX0_tuner 20 = .ok (.ireturn, 1) := dk_172 (dk_at dksX0_tuner_0 20 rfl rfl)
abbrev cX0_share : ByteArray := method_22_code
def yX0_share : MethodName := ⟨RX0, "share", "(LTunedHouses;III[J)I"⟩
def dkwX0_share_1 : List UInt8 := [172]
abbrev dktX0_share_1 : List UInt8 := dkwX0_share_1 ++ []
def dkwX0_share_0 : List UInt8 := [25, 4, 3, 42, 27, 28, 29, 182, 0, 75, 133, 80, 167, 0, 11, 58, 5, 4, 172, 58, 5, 5, 172, 3]
abbrev dktX0_share_0 : List UInt8 := dkwX0_share_0 ++ dktX0_share_1
theorem dksX0_share_0 : cX0_share.data.toList.drop 0 = dktX0_share_0 := by decide +kernel
theorem dksX0_share_1 : cX0_share.data.toList.drop 24 = dktX0_share_1 := dk_seg dksX0_share_0 24 rfl rfl
theorem dX0_share_0 : decode cX0_share 0 = .ok (.aload 4, 2) := dk_25 4 (dk_at dksX0_share_0 0 rfl rfl)
theorem dX0_share_2 : decode cX0_share 2 = .ok (.iconst 0, 1) := dk_3 (dk_at dksX0_share_0 2 rfl rfl)
theorem dX0_share_3 : decode cX0_share 3 = .ok (.aload_n 0, 1) := dk_42 (dk_at dksX0_share_0 3 rfl rfl)
theorem dX0_share_4 : decode cX0_share 4 = .ok (.iload_n 1, 1) := dk_27 (dk_at dksX0_share_0 4 rfl rfl)
theorem dX0_share_5 : decode cX0_share 5 = .ok (.iload_n 2, 1) := dk_28 (dk_at dksX0_share_0 5 rfl rfl)
theorem dX0_share_6 : decode cX0_share 6 = .ok (.iload_n 3, 1) := dk_29 (dk_at dksX0_share_0 6 rfl rfl)
theorem dX0_share_7 : decode cX0_share 7 = .ok (.invokevirtual 75, 3) := dk_182 0 75 (dk_at dksX0_share_0 7 rfl rfl)
theorem dX0_share_10 : decode cX0_share 10 = .ok (.i2l, 1) := dk_133 (dk_at dksX0_share_0 10 rfl rfl)
theorem dX0_share_11 : decode cX0_share 11 = .ok (.lastore, 1) := dk_80 (dk_at dksX0_share_0 11 rfl rfl)
theorem dX0_share_12 : decode cX0_share 12 = .ok (.goto 11, 3) := dk_167 0 11 (dk_at dksX0_share_0 12 rfl rfl)
theorem dX0_share_15 : decode cX0_share 15 = .ok (.astore 5, 2) := dk_58 5 (dk_at dksX0_share_0 15 rfl rfl)
theorem dX0_share_17 : decode cX0_share 17 = .ok (.iconst 1, 1) := dk_4 (dk_at dksX0_share_0 17 rfl rfl)
theorem dX0_share_18 : decode cX0_share 18 = .ok (.ireturn, 1) := dk_172 (dk_at dksX0_share_0 18 rfl rfl)
theorem dX0_share_19 : decode cX0_share 19 = .ok (.astore 5, 2) := dk_58 5 (dk_at dksX0_share_0 19 rfl rfl)
theorem dX0_share_21 : decode cX0_share 21 = .ok (.iconst 2, 1) := dk_5 (dk_at dksX0_share_0 21 rfl rfl)
theorem dX0_share_22 : decode cX0_share 22 = .ok (.ireturn, 1) := dk_172 (dk_at dksX0_share_0 22 rfl rfl)
theorem dX0_share_23 : decode cX0_share 23 = .ok (.iconst 0, 1) := dk_3 (dk_at dksX0_share_0 23 rfl rfl)
theorem dX0_share_24 : decode cX0_share 24 = .ok (.ireturn, 1) := dk_172 (dk_at dksX0_share_1 0 rfl rfl)
abbrev cX0_those : ByteArray := method_23_code
def yX0_those : MethodName := ⟨RX0, "those", "(LTunedHouses;I[J)I"⟩
def dkwX0_those_0 : List UInt8 := [44, 3, 42, 27, 182, 0, 78, 133, 80, 167, 0, 6, 78, 4, 172, 3, 172]
abbrev dktX0_those_0 : List UInt8 := dkwX0_those_0 ++ []
theorem dksX0_those_0 : cX0_those.data.toList.drop 0 = dktX0_those_0 := by decide +kernel
theorem dX0_those_0 : decode cX0_those 0 = .ok (.aload_n 2, 1) := dk_44 (dk_at dksX0_those_0 0 rfl rfl)
theorem dX0_those_1 : decode cX0_those 1 = .ok (.iconst 0, 1) := dk_3 (dk_at dksX0_those_0 1 rfl rfl)
theorem dX0_those_2 : decode cX0_those 2 = .ok (.aload_n 0, 1) := dk_42 (dk_at dksX0_those_0 2 rfl rfl)
theorem dX0_those_3 : decode cX0_those 3 = .ok (.iload_n 1, 1) := dk_27 (dk_at dksX0_those_0 3 rfl rfl)
theorem dX0_those_4 : decode cX0_those 4 = .ok (.invokevirtual 78, 3) := dk_182 0 78 (dk_at dksX0_those_0 4 rfl rfl)
theorem dX0_those_7 : decode cX0_those 7 = .ok (.i2l, 1) := dk_133 (dk_at dksX0_those_0 7 rfl rfl)
theorem dX0_those_8 : decode cX0_those 8 = .ok (.lastore, 1) := dk_80 (dk_at dksX0_those_0 8 rfl rfl)
theorem dX0_those_9 : decode cX0_those 9 = .ok (.goto 6, 3) := dk_167 0 6 (dk_at dksX0_those_0 9 rfl rfl)
theorem dX0_those_12 : decode cX0_those 12 = .ok (.astore_n 3, 1) := dk_78 (dk_at dksX0_those_0 12 rfl rfl)
theorem dX0_those_13 : decode cX0_those 13 = .ok (.iconst 1, 1) := dk_4 (dk_at dksX0_those_0 13 rfl rfl)
theorem dX0_those_14 : decode cX0_those 14 = .ok (.ireturn, 1) := dk_172 (dk_at dksX0_those_0 14 rfl rfl)
theorem dX0_those_15 : decode cX0_those 15 = .ok (.iconst 0, 1) := dk_3 (dk_at dksX0_those_0 15 rfl rfl)
theorem dX0_those_16 : decode cX0_those 16 = .ok (.ireturn, 1) := dk_172 (dk_at dksX0_those_0 16 rfl rfl)
abbrev cX0_loudest : ByteArray := method_24_code
def yX0_loudest : MethodName := ⟨RX0, "loudest", "(LTunedHouses;I[J)I"⟩
def dkwX0_loudest_0 : List UInt8 := [44, 3, 42, 27, 182, 0, 81, 133, 80, 167, 0, 6, 78, 4, 172, 3, 172]
abbrev dktX0_loudest_0 : List UInt8 := dkwX0_loudest_0 ++ []
theorem dksX0_loudest_0 : cX0_loudest.data.toList.drop 0 = dktX0_loudest_0 := by decide +kernel
theorem dX0_loudest_0 : decode cX0_loudest 0 = .ok (.aload_n 2, 1) := dk_44 (dk_at dksX0_loudest_0 0 rfl rfl)
theorem dX0_loudest_1 : decode cX0_loudest 1 = .ok (.iconst 0, 1) := dk_3 (dk_at dksX0_loudest_0 1 rfl rfl)
theorem dX0_loudest_2 : decode cX0_loudest 2 = .ok (.aload_n 0, 1) := dk_42 (dk_at dksX0_loudest_0 2 rfl rfl)
theorem dX0_loudest_3 : decode cX0_loudest 3 = .ok (.iload_n 1, 1) := dk_27 (dk_at dksX0_loudest_0 3 rfl rfl)
theorem dX0_loudest_4 : decode cX0_loudest 4 = .ok (.invokevirtual 81, 3) := dk_182 0 81 (dk_at dksX0_loudest_0 4 rfl rfl)
theorem dX0_loudest_7 : decode cX0_loudest 7 = .ok (.i2l, 1) := dk_133 (dk_at dksX0_loudest_0 7 rfl rfl)
theorem dX0_loudest_8 : decode cX0_loudest 8 = .ok (.lastore, 1) := dk_80 (dk_at dksX0_loudest_0 8 rfl rfl)
theorem dX0_loudest_9 : decode cX0_loudest 9 = .ok (.goto 6, 3) := dk_167 0 6 (dk_at dksX0_loudest_0 9 rfl rfl)
theorem dX0_loudest_12 : decode cX0_loudest 12 = .ok (.astore_n 3, 1) := dk_78 (dk_at dksX0_loudest_0 12 rfl rfl)
theorem dX0_loudest_13 : decode cX0_loudest 13 = .ok (.iconst 1, 1) := dk_4 (dk_at dksX0_loudest_0 13 rfl rfl)
theorem dX0_loudest_14 : decode cX0_loudest 14 = .ok (.ireturn, 1) := dk_172 (dk_at dksX0_loudest_0 14 rfl rfl)
theorem dX0_loudest_15 : decode cX0_loudest 15 = .ok (.iconst 0, 1) := dk_3 (dk_at dksX0_loudest_0 15 rfl rfl)
theorem dX0_loudest_16 : decode cX0_loudest 16 = .ok (.ireturn, 1) := dk_172 (dk_at dksX0_loudest_0 16 rfl rfl)
abbrev cX0_quiet : ByteArray := method_25_code
def yX0_quiet : MethodName := ⟨RX0, "quiet", "(LTunedHouses;I[J)I"⟩
def dkwX0_quiet_0 : List UInt8 := [44, 3, 42, 27, 182, 0, 84, 133, 80, 167, 0, 6, 78, 4, 172, 3, 172]
abbrev dktX0_quiet_0 : List UInt8 := dkwX0_quiet_0 ++ []
theorem dksX0_quiet_0 : cX0_quiet.data.toList.drop 0 = dktX0_quiet_0 := by decide +kernel
theorem dX0_quiet_0 : decode cX0_quiet 0 = .ok (.aload_n 2, 1) := dk_44 (dk_at dksX0_quiet_0 0 rfl rfl)
theorem dX0_quiet_1 : decode cX0_quiet 1 = .ok (.iconst 0, 1) := dk_3 (dk_at dksX0_quiet_0 1 rfl rfl)
theorem dX0_quiet_2 : decode cX0_quiet 2 = .ok (.aload_n 0, 1) := dk_42 (dk_at dksX0_quiet_0 2 rfl rfl)
theorem dX0_quiet_3 : decode cX0_quiet 3 = .ok (.iload_n 1, 1) := dk_27 (dk_at dksX0_quiet_0 3 rfl rfl)
theorem dX0_quiet_4 : decode cX0_quiet 4 = .ok (.invokevirtual 84, 3) := dk_182 0 84 (dk_at dksX0_quiet_0 4 rfl rfl)
theorem dX0_quiet_7 : decode cX0_quiet 7 = .ok (.i2l, 1) := dk_133 (dk_at dksX0_quiet_0 7 rfl rfl)
theorem dX0_quiet_8 : decode cX0_quiet 8 = .ok (.lastore, 1) := dk_80 (dk_at dksX0_quiet_0 8 rfl rfl)
theorem dX0_quiet_9 : decode cX0_quiet 9 = .ok (.goto 6, 3) := dk_167 0 6 (dk_at dksX0_quiet_0 9 rfl rfl)
theorem dX0_quiet_12 : decode cX0_quiet 12 = .ok (.astore_n 3, 1) := dk_78 (dk_at dksX0_quiet_0 12 rfl rfl)
theorem dX0_quiet_13 : decode cX0_quiet 13 = .ok (.iconst 1, 1) := dk_4 (dk_at dksX0_quiet_0 13 rfl rfl)
theorem dX0_quiet_14 : decode cX0_quiet 14 = .ok (.ireturn, 1) := dk_172 (dk_at dksX0_quiet_0 14 rfl rfl)
theorem dX0_quiet_15 : decode cX0_quiet 15 = .ok (.iconst 0, 1) := dk_3 (dk_at dksX0_quiet_0 15 rfl rfl)
theorem dX0_quiet_16 : decode cX0_quiet 16 = .ok (.ireturn, 1) := dk_172 (dk_at dksX0_quiet_0 16 rfl rfl)
abbrev cX0_oldest : ByteArray := method_26_code
def yX0_oldest : MethodName := ⟨RX0, "oldest", "(LTunedHouses;I[J)I"⟩
def dkwX0_oldest_0 : List UInt8 := [44, 3, 42, 27, 182, 0, 87, 133, 80, 167, 0, 6, 78, 4, 172, 3, 172]
abbrev dktX0_oldest_0 : List UInt8 := dkwX0_oldest_0 ++ []
theorem dksX0_oldest_0 : cX0_oldest.data.toList.drop 0 = dktX0_oldest_0 := by decide +kernel
theorem dX0_oldest_0 : decode cX0_oldest 0 = .ok (.aload_n 2, 1) := dk_44 (dk_at dksX0_oldest_0 0 rfl rfl)
theorem dX0_oldest_1 : decode cX0_oldest 1 = .ok (.iconst 0, 1) := dk_3 (dk_at dksX0_oldest_0 1 rfl rfl)
theorem dX0_oldest_2 : decode cX0_oldest 2 = .ok (.aload_n 0, 1) := dk_42 (dk_at dksX0_oldest_0 2 rfl rfl)
theorem dX0_oldest_3 : decode cX0_oldest 3 = .ok (.iload_n 1, 1) := dk_27 (dk_at dksX0_oldest_0 3 rfl rfl)
theorem dX0_oldest_4 : decode cX0_oldest 4 = .ok (.invokevirtual 87, 3) := dk_182 0 87 (dk_at dksX0_oldest_0 4 rfl rfl)
theorem dX0_oldest_7 : decode cX0_oldest 7 = .ok (.i2l, 1) := dk_133 (dk_at dksX0_oldest_0 7 rfl rfl)
theorem dX0_oldest_8 : decode cX0_oldest 8 = .ok (.lastore, 1) := dk_80 (dk_at dksX0_oldest_0 8 rfl rfl)
theorem dX0_oldest_9 : decode cX0_oldest 9 = .ok (.goto 6, 3) := dk_167 0 6 (dk_at dksX0_oldest_0 9 rfl rfl)
theorem dX0_oldest_12 : decode cX0_oldest 12 = .ok (.astore_n 3, 1) := dk_78 (dk_at dksX0_oldest_0 12 rfl rfl)
theorem dX0_oldest_13 : decode cX0_oldest 13 = .ok (.iconst 1, 1) := dk_4 (dk_at dksX0_oldest_0 13 rfl rfl)
theorem dX0_oldest_14 : decode cX0_oldest 14 = .ok (.ireturn, 1) := dk_172 (dk_at dksX0_oldest_0 14 rfl rfl)
theorem dX0_oldest_15 : decode cX0_oldest 15 = .ok (.iconst 0, 1) := dk_3 (dk_at dksX0_oldest_0 15 rfl rfl)
theorem dX0_oldest_16 : decode cX0_oldest 16 = .ok (.ireturn, 1) := dk_172 (dk_at dksX0_oldest_0 16 rfl rfl)
abbrev cX0_margin : ByteArray := method_27_code
def yX0_margin : MethodName := ⟨RX0, "margin", "(LTunedHouses;I[J)I"⟩
def dkwX0_margin_0 : List UInt8 := [44, 3, 42, 27, 182, 0, 90, 133, 80, 167, 0, 6, 78, 4, 172, 3, 172]
abbrev dktX0_margin_0 : List UInt8 := dkwX0_margin_0 ++ []
theorem dksX0_margin_0 : cX0_margin.data.toList.drop 0 = dktX0_margin_0 := by decide +kernel
theorem dX0_margin_0 : decode cX0_margin 0 = .ok (.aload_n 2, 1) := dk_44 (dk_at dksX0_margin_0 0 rfl rfl)
theorem dX0_margin_1 : decode cX0_margin 1 = .ok (.iconst 0, 1) := dk_3 (dk_at dksX0_margin_0 1 rfl rfl)
theorem dX0_margin_2 : decode cX0_margin 2 = .ok (.aload_n 0, 1) := dk_42 (dk_at dksX0_margin_0 2 rfl rfl)
theorem dX0_margin_3 : decode cX0_margin 3 = .ok (.iload_n 1, 1) := dk_27 (dk_at dksX0_margin_0 3 rfl rfl)
theorem dX0_margin_4 : decode cX0_margin 4 = .ok (.invokevirtual 90, 3) := dk_182 0 90 (dk_at dksX0_margin_0 4 rfl rfl)
theorem dX0_margin_7 : decode cX0_margin 7 = .ok (.i2l, 1) := dk_133 (dk_at dksX0_margin_0 7 rfl rfl)
theorem dX0_margin_8 : decode cX0_margin 8 = .ok (.lastore, 1) := dk_80 (dk_at dksX0_margin_0 8 rfl rfl)
theorem dX0_margin_9 : decode cX0_margin 9 = .ok (.goto 6, 3) := dk_167 0 6 (dk_at dksX0_margin_0 9 rfl rfl)
theorem dX0_margin_12 : decode cX0_margin 12 = .ok (.astore_n 3, 1) := dk_78 (dk_at dksX0_margin_0 12 rfl rfl)
theorem dX0_margin_13 : decode cX0_margin 13 = .ok (.iconst 1, 1) := dk_4 (dk_at dksX0_margin_0 13 rfl rfl)
theorem dX0_margin_14 : decode cX0_margin 14 = .ok (.ireturn, 1) := dk_172 (dk_at dksX0_margin_0 14 rfl rfl)
theorem dX0_margin_15 : decode cX0_margin 15 = .ok (.iconst 0, 1) := dk_3 (dk_at dksX0_margin_0 15 rfl rfl)
theorem dX0_margin_16 : decode cX0_margin 16 = .ok (.ireturn, 1) := dk_172 (dk_at dksX0_margin_0 16 rfl rfl)
abbrev cX0_tunes : ByteArray := method_28_code
def yX0_tunes : MethodName := ⟨RX0, "tunes", "(LTunedHouses;II[J)I"⟩
def dkwX0_tunes_0 : List UInt8 := [45, 3, 42, 27, 28, 182, 0, 93, 133, 80, 167, 0, 7, 58, 4, 4, 172, 3, 172]
abbrev dktX0_tunes_0 : List UInt8 := dkwX0_tunes_0 ++ []
theorem dksX0_tunes_0 : cX0_tunes.data.toList.drop 0 = dktX0_tunes_0 := by decide +kernel
theorem dX0_tunes_0 : decode cX0_tunes 0 = .ok (.aload_n 3, 1) := dk_45 (dk_at dksX0_tunes_0 0 rfl rfl)
theorem dX0_tunes_1 : decode cX0_tunes 1 = .ok (.iconst 0, 1) := dk_3 (dk_at dksX0_tunes_0 1 rfl rfl)
theorem dX0_tunes_2 : decode cX0_tunes 2 = .ok (.aload_n 0, 1) := dk_42 (dk_at dksX0_tunes_0 2 rfl rfl)
theorem dX0_tunes_3 : decode cX0_tunes 3 = .ok (.iload_n 1, 1) := dk_27 (dk_at dksX0_tunes_0 3 rfl rfl)
theorem dX0_tunes_4 : decode cX0_tunes 4 = .ok (.iload_n 2, 1) := dk_28 (dk_at dksX0_tunes_0 4 rfl rfl)
theorem dX0_tunes_5 : decode cX0_tunes 5 = .ok (.invokevirtual 93, 3) := dk_182 0 93 (dk_at dksX0_tunes_0 5 rfl rfl)
theorem dX0_tunes_8 : decode cX0_tunes 8 = .ok (.i2l, 1) := dk_133 (dk_at dksX0_tunes_0 8 rfl rfl)
theorem dX0_tunes_9 : decode cX0_tunes 9 = .ok (.lastore, 1) := dk_80 (dk_at dksX0_tunes_0 9 rfl rfl)
theorem dX0_tunes_10 : decode cX0_tunes 10 = .ok (.goto 7, 3) := dk_167 0 7 (dk_at dksX0_tunes_0 10 rfl rfl)
theorem dX0_tunes_13 : decode cX0_tunes 13 = .ok (.astore 4, 2) := dk_58 4 (dk_at dksX0_tunes_0 13 rfl rfl)
theorem dX0_tunes_15 : decode cX0_tunes 15 = .ok (.iconst 1, 1) := dk_4 (dk_at dksX0_tunes_0 15 rfl rfl)
theorem dX0_tunes_16 : decode cX0_tunes 16 = .ok (.ireturn, 1) := dk_172 (dk_at dksX0_tunes_0 16 rfl rfl)
theorem dX0_tunes_17 : decode cX0_tunes 17 = .ok (.iconst 0, 1) := dk_3 (dk_at dksX0_tunes_0 17 rfl rfl)
theorem dX0_tunes_18 : decode cX0_tunes 18 = .ok (.ireturn, 1) := dk_172 (dk_at dksX0_tunes_0 18 rfl rfl)
abbrev cX0_year : ByteArray := method_29_code
def yX0_year : MethodName := ⟨RX0, "year", "(LTunedHouses;IIII[J)I"⟩
def dkwX0_year_0 : List UInt8 := [25, 5, 3, 42, 27, 28, 29, 21, 4, 182, 0, 96, 133, 80, 167, 0, 7, 58, 6, 4, 172, 3, 172]
abbrev dktX0_year_0 : List UInt8 := dkwX0_year_0 ++ []
theorem dksX0_year_0 : cX0_year.data.toList.drop 0 = dktX0_year_0 := by decide +kernel
theorem dX0_year_0 : decode cX0_year 0 = .ok (.aload 5, 2) := dk_25 5 (dk_at dksX0_year_0 0 rfl rfl)
theorem dX0_year_2 : decode cX0_year 2 = .ok (.iconst 0, 1) := dk_3 (dk_at dksX0_year_0 2 rfl rfl)
theorem dX0_year_3 : decode cX0_year 3 = .ok (.aload_n 0, 1) := dk_42 (dk_at dksX0_year_0 3 rfl rfl)
theorem dX0_year_4 : decode cX0_year 4 = .ok (.iload_n 1, 1) := dk_27 (dk_at dksX0_year_0 4 rfl rfl)
theorem dX0_year_5 : decode cX0_year 5 = .ok (.iload_n 2, 1) := dk_28 (dk_at dksX0_year_0 5 rfl rfl)
theorem dX0_year_6 : decode cX0_year 6 = .ok (.iload_n 3, 1) := dk_29 (dk_at dksX0_year_0 6 rfl rfl)
theorem dX0_year_7 : decode cX0_year 7 = .ok (.iload 4, 2) := dk_21 4 (dk_at dksX0_year_0 7 rfl rfl)
theorem dX0_year_9 : decode cX0_year 9 = .ok (.invokevirtual 96, 3) := dk_182 0 96 (dk_at dksX0_year_0 9 rfl rfl)
theorem dX0_year_12 : decode cX0_year 12 = .ok (.i2l, 1) := dk_133 (dk_at dksX0_year_0 12 rfl rfl)
theorem dX0_year_13 : decode cX0_year 13 = .ok (.lastore, 1) := dk_80 (dk_at dksX0_year_0 13 rfl rfl)
theorem dX0_year_14 : decode cX0_year 14 = .ok (.goto 7, 3) := dk_167 0 7 (dk_at dksX0_year_0 14 rfl rfl)
theorem dX0_year_17 : decode cX0_year 17 = .ok (.astore 6, 2) := dk_58 6 (dk_at dksX0_year_0 17 rfl rfl)
theorem dX0_year_19 : decode cX0_year 19 = .ok (.iconst 1, 1) := dk_4 (dk_at dksX0_year_0 19 rfl rfl)
theorem dX0_year_20 : decode cX0_year 20 = .ok (.ireturn, 1) := dk_172 (dk_at dksX0_year_0 20 rfl rfl)
theorem dX0_year_21 : decode cX0_year 21 = .ok (.iconst 0, 1) := dk_3 (dk_at dksX0_year_0 21 rfl rfl)
theorem dX0_year_22 : decode cX0_year 22 = .ok (.ireturn, 1) := dk_172 (dk_at dksX0_year_0 22 rfl rfl)
abbrev cX0_span : ByteArray := method_30_code
def yX0_span : MethodName := ⟨RX0, "span", "(LTunedHouses;IIIIII[J)I"⟩
def dkwX0_span_1 : List UInt8 := [172, 3, 172]
abbrev dktX0_span_1 : List UInt8 := dkwX0_span_1 ++ []
def dkwX0_span_0 : List UInt8 := [25, 7, 3, 42, 27, 28, 29, 21, 4, 21, 5, 21, 6, 182, 0, 100, 133, 80, 167, 0, 7, 58, 8, 4]
abbrev dktX0_span_0 : List UInt8 := dkwX0_span_0 ++ dktX0_span_1
theorem dksX0_span_0 : cX0_span.data.toList.drop 0 = dktX0_span_0 := by decide +kernel
theorem dksX0_span_1 : cX0_span.data.toList.drop 24 = dktX0_span_1 := dk_seg dksX0_span_0 24 rfl rfl
theorem dX0_span_0 : decode cX0_span 0 = .ok (.aload 7, 2) := dk_25 7 (dk_at dksX0_span_0 0 rfl rfl)
theorem dX0_span_2 : decode cX0_span 2 = .ok (.iconst 0, 1) := dk_3 (dk_at dksX0_span_0 2 rfl rfl)
theorem dX0_span_3 : decode cX0_span 3 = .ok (.aload_n 0, 1) := dk_42 (dk_at dksX0_span_0 3 rfl rfl)
theorem dX0_span_4 : decode cX0_span 4 = .ok (.iload_n 1, 1) := dk_27 (dk_at dksX0_span_0 4 rfl rfl)
theorem dX0_span_5 : decode cX0_span 5 = .ok (.iload_n 2, 1) := dk_28 (dk_at dksX0_span_0 5 rfl rfl)
theorem dX0_span_6 : decode cX0_span 6 = .ok (.iload_n 3, 1) := dk_29 (dk_at dksX0_span_0 6 rfl rfl)
theorem dX0_span_7 : decode cX0_span 7 = .ok (.iload 4, 2) := dk_21 4 (dk_at dksX0_span_0 7 rfl rfl)
theorem dX0_span_9 : decode cX0_span 9 = .ok (.iload 5, 2) := dk_21 5 (dk_at dksX0_span_0 9 rfl rfl)
theorem dX0_span_11 : decode cX0_span 11 = .ok (.iload 6, 2) := dk_21 6 (dk_at dksX0_span_0 11 rfl rfl)
theorem dX0_span_13 : decode cX0_span 13 = .ok (.invokevirtual 100, 3) := dk_182 0 100 (dk_at dksX0_span_0 13 rfl rfl)
theorem dX0_span_16 : decode cX0_span 16 = .ok (.i2l, 1) := dk_133 (dk_at dksX0_span_0 16 rfl rfl)
theorem dX0_span_17 : decode cX0_span 17 = .ok (.lastore, 1) := dk_80 (dk_at dksX0_span_0 17 rfl rfl)
theorem dX0_span_18 : decode cX0_span 18 = .ok (.goto 7, 3) := dk_167 0 7 (dk_at dksX0_span_0 18 rfl rfl)
theorem dX0_span_21 : decode cX0_span 21 = .ok (.astore 8, 2) := dk_58 8 (dk_at dksX0_span_0 21 rfl rfl)
theorem dX0_span_23 : decode cX0_span 23 = .ok (.iconst 1, 1) := dk_4 (dk_at dksX0_span_0 23 rfl rfl)
theorem dX0_span_24 : decode cX0_span 24 = .ok (.ireturn, 1) := dk_172 (dk_at dksX0_span_1 0 rfl rfl)
theorem dX0_span_25 : decode cX0_span 25 = .ok (.iconst 0, 1) := dk_3 (dk_at dksX0_span_1 1 rfl rfl)
theorem dX0_span_26 : decode cX0_span 26 = .ok (.ireturn, 1) := dk_172 (dk_at dksX0_span_1 2 rfl rfl)
theorem q98 : (Jvm.Cond.initialized "TunedHousesLaw") ∈ lw_all := lw_g (lw_at lw_m1 0 rfl) rfl
theorem q149 : (Jvm.Cond.classLink "TunedHousesLaw" (8 : Nat) "TunedHouses") ∈ lw_all := lw_g (lw_at lw_m1 51 rfl) rfl
theorem q151 : (Jvm.Cond.methodLink "TunedHousesLaw" (104 : Nat) ({ cls := "TunedHouses", name := "<init>", desc := "()V" } : Jvm.MethodName)) ∈ lw_all := lw_g (lw_at lw_m1 53 rfl) rfl
theorem q730 : (Jvm.Cond.methodLink "TunedHousesLaw" (108 : Nat) ({ cls := "TunedHouses", name := "feed", desc := "(IIIII)I" } : Jvm.MethodName)) ∈ lw_all := lw_g (lw_at lw_m3 152 rfl) rfl
theorem q738 : (Jvm.Cond.methodLink "TunedHousesLaw" (132 : Nat) ({ cls := "TunedHouses", name := "fault", desc := "()I" } : Jvm.MethodName)) ∈ lw_all := lw_g (lw_at lw_m3 160 rfl) rfl
theorem q742 : (Jvm.Cond.methodLink "TunedHousesLaw" (136 : Nat) ({ cls := "TunedHouses", name := "undo", desc := "()I" } : Jvm.MethodName)) ∈ lw_all := lw_g (lw_at lw_m3 164 rfl) rfl
theorem q751 : (Jvm.Cond.methodLink "TunedHousesLaw" (208 : Nat) ({ cls := "TunedHouses", name := "changed", desc := "()I" } : Jvm.MethodName)) ∈ lw_all := lw_g (lw_at lw_m3 173 rfl) rfl
theorem q767 : (Jvm.Cond.methodLink "TunedHousesLaw" (215 : Nat) ({ cls := "TunedHouses", name := "empty", desc := "()I" } : Jvm.MethodName)) ∈ lw_all := lw_g (lw_at lw_m3 189 rfl) rfl
theorem q783 : (Jvm.Cond.methodLink "TunedHousesLaw" (170 : Nat) ({ cls := "TunedHouses", name := "places", desc := "()I" } : Jvm.MethodName)) ∈ lw_all := lw_g (lw_at lw_m3 205 rfl) rfl
theorem q823 : (Jvm.Cond.methodLink "TunedHousesLaw" (186 : Nat) ({ cls := "TunedHouses", name := "alone", desc := "()I" } : Jvm.MethodName)) ∈ lw_all := lw_g (lw_at lw_m4 5 rfl) rfl
theorem q837 : (Jvm.Cond.methodLink "TunedHousesLaw" (233 : Nat) ({ cls := "TunedHouses", name := "image", desc := "()I" } : Jvm.MethodName)) ∈ lw_all := lw_g (lw_at lw_m4 19 rfl) rfl
theorem q845 : (Jvm.Cond.methodLink "TunedHousesLaw" (237 : Nat) ({ cls := "TunedHouses", name := "restore", desc := "()I" } : Jvm.MethodName)) ∈ lw_all := lw_g (lw_at lw_m4 27 rfl) rfl
theorem q849 : (Jvm.Cond.methodLink "TunedHousesLaw" (241 : Nat) ({ cls := "TunedHouses", name := "status", desc := "(I)I" } : Jvm.MethodName)) ∈ lw_all := lw_g (lw_at lw_m4 31 rfl) rfl
theorem q856 : (Jvm.Cond.methodLink "TunedHousesLaw" (245 : Nat) ({ cls := "TunedHouses", name := "count", desc := "(I)I" } : Jvm.MethodName)) ∈ lw_all := lw_g (lw_at lw_m4 38 rfl) rfl
theorem q860 : (Jvm.Cond.methodLink "TunedHousesLaw" (113 : Nat) ({ cls := "TunedHousesLaw", name := "terrace", desc := "(LTunedHouses;I[J)I" } : Jvm.MethodName)) ∈ lw_all := lw_g (lw_at lw_m4 42 rfl) rfl
theorem q861 : (Jvm.Cond.static ({ cls := "TunedHousesLaw", name := "terrace", desc := "(LTunedHouses;I[J)I" } : Jvm.MethodName)) ∈ lw_all := lw_g (lw_at lw_m4 43 rfl) rfl
theorem q862 : (Jvm.Cond.codeWith ({ cls := "TunedHousesLaw", name := "terrace", desc := "(LTunedHouses;I[J)I" } : Jvm.MethodName) method_3_code (4 : Nat) (Option.some Jvm.ClassFile.FieldType.int) [((0 : Nat), (9 : Nat), (12 : Nat), (13 : Nat))]) ∈ lw_all := lw_g (lw_at lw_m4 44 rfl) rfl
theorem q863 : (Jvm.Cond.classLink "TunedHousesLaw" (13 : Nat) "java/lang/IllegalArgumentException") ∈ lw_all := lw_g (lw_at lw_m4 45 rfl) rfl
theorem q864 : (Jvm.Cond.methodLink "TunedHousesLaw" (7 : Nat) ({ cls := "TunedHouses", name := "terrace", desc := "(I)I" } : Jvm.MethodName)) ∈ lw_all := lw_g (lw_at lw_m4 46 rfl) rfl
theorem q1209 : (Jvm.Cond.methodLink "TunedHousesLaw" (123 : Nat) ({ cls := "TunedHousesLaw", name := "law", desc := "(LTunedHouses;I[J)I" } : Jvm.MethodName)) ∈ lw_all := lw_g (lw_at lw_m5 151 rfl) rfl
theorem q1210 : (Jvm.Cond.static ({ cls := "TunedHousesLaw", name := "law", desc := "(LTunedHouses;I[J)I" } : Jvm.MethodName)) ∈ lw_all := lw_g (lw_at lw_m5 152 rfl) rfl
theorem q1211 : (Jvm.Cond.codeWith ({ cls := "TunedHousesLaw", name := "law", desc := "(LTunedHouses;I[J)I" } : Jvm.MethodName) method_4_code (4 : Nat) (Option.some Jvm.ClassFile.FieldType.int) [((0 : Nat), (9 : Nat), (12 : Nat), (13 : Nat))]) ∈ lw_all := lw_g (lw_at lw_m5 153 rfl) rfl
theorem q1212 : (Jvm.Cond.methodLink "TunedHousesLaw" (15 : Nat) ({ cls := "TunedHouses", name := "law", desc := "(I)I" } : Jvm.MethodName)) ∈ lw_all := lw_g (lw_at lw_m5 154 rfl) rfl
theorem q1354 : (Jvm.Cond.methodLink "TunedHousesLaw" (126 : Nat) ({ cls := "TunedHousesLaw", name := "work", desc := "(LTunedHouses;I[J)I" } : Jvm.MethodName)) ∈ lw_all := lw_g (lw_at lw_m6 56 rfl) rfl
theorem q1355 : (Jvm.Cond.static ({ cls := "TunedHousesLaw", name := "work", desc := "(LTunedHouses;I[J)I" } : Jvm.MethodName)) ∈ lw_all := lw_g (lw_at lw_m6 57 rfl) rfl
theorem q1356 : (Jvm.Cond.codeWith ({ cls := "TunedHousesLaw", name := "work", desc := "(LTunedHouses;I[J)I" } : Jvm.MethodName) method_5_code (4 : Nat) (Option.some Jvm.ClassFile.FieldType.int) [((0 : Nat), (9 : Nat), (12 : Nat), (13 : Nat))]) ∈ lw_all := lw_g (lw_at lw_m6 58 rfl) rfl
theorem q1357 : (Jvm.Cond.methodLink "TunedHousesLaw" (18 : Nat) ({ cls := "TunedHouses", name := "work", desc := "(I)I" } : Jvm.MethodName)) ∈ lw_all := lw_g (lw_at lw_m6 59 rfl) rfl
theorem q1630 : (Jvm.Cond.methodLink "TunedHousesLaw" (129 : Nat) ({ cls := "TunedHousesLaw", name := "book", desc := "(LTunedHouses;I[J)I" } : Jvm.MethodName)) ∈ lw_all := lw_g (lw_at lw_m7 92 rfl) rfl
theorem q1631 : (Jvm.Cond.static ({ cls := "TunedHousesLaw", name := "book", desc := "(LTunedHouses;I[J)I" } : Jvm.MethodName)) ∈ lw_all := lw_g (lw_at lw_m7 93 rfl) rfl
theorem q1632 : (Jvm.Cond.codeWith ({ cls := "TunedHousesLaw", name := "book", desc := "(LTunedHouses;I[J)I" } : Jvm.MethodName) method_6_code (4 : Nat) (Option.some Jvm.ClassFile.FieldType.int) [((0 : Nat), (9 : Nat), (12 : Nat), (13 : Nat))]) ∈ lw_all := lw_g (lw_at lw_m7 94 rfl) rfl
theorem q1633 : (Jvm.Cond.methodLink "TunedHousesLaw" (21 : Nat) ({ cls := "TunedHouses", name := "book", desc := "(I)I" } : Jvm.MethodName)) ∈ lw_all := lw_g (lw_at lw_m7 95 rfl) rfl
theorem q1671 : (Jvm.Cond.methodLink "TunedHousesLaw" (140 : Nat) ({ cls := "TunedHousesLaw", name := "told", desc := "(LTunedHouses;I[J)I" } : Jvm.MethodName)) ∈ lw_all := lw_g (lw_at lw_m7 133 rfl) rfl
theorem q1672 : (Jvm.Cond.static ({ cls := "TunedHousesLaw", name := "told", desc := "(LTunedHouses;I[J)I" } : Jvm.MethodName)) ∈ lw_all := lw_g (lw_at lw_m7 134 rfl) rfl
theorem q1673 : (Jvm.Cond.codeWith ({ cls := "TunedHousesLaw", name := "told", desc := "(LTunedHouses;I[J)I" } : Jvm.MethodName) method_7_code (4 : Nat) (Option.some Jvm.ClassFile.FieldType.int) [((0 : Nat), (9 : Nat), (12 : Nat), (13 : Nat))]) ∈ lw_all := lw_g (lw_at lw_m7 135 rfl) rfl
theorem q1674 : (Jvm.Cond.methodLink "TunedHousesLaw" (24 : Nat) ({ cls := "TunedHouses", name := "told", desc := "(I)I" } : Jvm.MethodName)) ∈ lw_all := lw_g (lw_at lw_m7 136 rfl) rfl
theorem q1695 : (Jvm.Cond.methodLink "TunedHousesLaw" (143 : Nat) ({ cls := "TunedHousesLaw", name := "house", desc := "(LTunedHouses;II[J)I" } : Jvm.MethodName)) ∈ lw_all := lw_g (lw_at lw_m7 157 rfl) rfl
theorem q1696 : (Jvm.Cond.static ({ cls := "TunedHousesLaw", name := "house", desc := "(LTunedHouses;II[J)I" } : Jvm.MethodName)) ∈ lw_all := lw_g (lw_at lw_m7 158 rfl) rfl
theorem q1697 : (Jvm.Cond.codeWith ({ cls := "TunedHousesLaw", name := "house", desc := "(LTunedHouses;II[J)I" } : Jvm.MethodName) method_8_code (5 : Nat) (Option.some Jvm.ClassFile.FieldType.int) [((0 : Nat), (10 : Nat), (13 : Nat), (31 : Nat)), ((0 : Nat), (10 : Nat), (17 : Nat), (13 : Nat))]) ∈ lw_all := lw_g (lw_at lw_m7 159 rfl) rfl
theorem q1698 : (Jvm.Cond.classLink "TunedHousesLaw" (31 : Nat) "java/util/NoSuchElementException") ∈ lw_all := lw_g (lw_at lw_m7 160 rfl) rfl
theorem q1699 : (Jvm.Cond.methodLink "TunedHousesLaw" (27 : Nat) ({ cls := "TunedHouses", name := "house", desc := "(II)I" } : Jvm.MethodName)) ∈ lw_all := lw_g (lw_at lw_m7 161 rfl) rfl
theorem q1727 : (Jvm.Cond.methodLink "TunedHousesLaw" (147 : Nat) ({ cls := "TunedHousesLaw", name := "there", desc := "(LTunedHouses;II[J)I" } : Jvm.MethodName)) ∈ lw_all := lw_g (lw_at lw_m7 189 rfl) rfl
theorem q1728 : (Jvm.Cond.static ({ cls := "TunedHousesLaw", name := "there", desc := "(LTunedHouses;II[J)I" } : Jvm.MethodName)) ∈ lw_all := lw_g (lw_at lw_m7 190 rfl) rfl
theorem q1729 : (Jvm.Cond.codeWith ({ cls := "TunedHousesLaw", name := "there", desc := "(LTunedHouses;II[J)I" } : Jvm.MethodName) method_9_code (5 : Nat) (Option.some Jvm.ClassFile.FieldType.int) [((0 : Nat), (10 : Nat), (13 : Nat), (31 : Nat)), ((0 : Nat), (10 : Nat), (17 : Nat), (13 : Nat))]) ∈ lw_all := lw_g (lw_at lw_m7 191 rfl) rfl
theorem q1730 : (Jvm.Cond.methodLink "TunedHousesLaw" (33 : Nat) ({ cls := "TunedHouses", name := "there", desc := "(II)I" } : Jvm.MethodName)) ∈ lw_all := lw_g (lw_at lw_m7 192 rfl) rfl
theorem q1737 : (Jvm.Cond.methodLink "TunedHousesLaw" (150 : Nat) ({ cls := "TunedHousesLaw", name := "wall", desc := "(LTunedHouses;II[J)I" } : Jvm.MethodName)) ∈ lw_all := lw_g (lw_at lw_m7 199 rfl) rfl
theorem q1738 : (Jvm.Cond.static ({ cls := "TunedHousesLaw", name := "wall", desc := "(LTunedHouses;II[J)I" } : Jvm.MethodName)) ∈ lw_all := lw_g (lw_at lw_m7 200 rfl) rfl
theorem q1739 : (Jvm.Cond.codeWith ({ cls := "TunedHousesLaw", name := "wall", desc := "(LTunedHouses;II[J)I" } : Jvm.MethodName) method_10_code (5 : Nat) (Option.some Jvm.ClassFile.FieldType.int) [((0 : Nat), (10 : Nat), (13 : Nat), (31 : Nat)), ((0 : Nat), (10 : Nat), (17 : Nat), (13 : Nat))]) ∈ lw_all := lw_g (lw_at lw_m7 201 rfl) rfl
theorem q1740 : (Jvm.Cond.methodLink "TunedHousesLaw" (36 : Nat) ({ cls := "TunedHouses", name := "wall", desc := "(II)I" } : Jvm.MethodName)) ∈ lw_all := lw_g (lw_at lw_m7 202 rfl) rfl
theorem q1744 : (Jvm.Cond.methodLink "TunedHousesLaw" (153 : Nat) ({ cls := "TunedHousesLaw", name := "piano", desc := "(LTunedHouses;II[J)I" } : Jvm.MethodName)) ∈ lw_all := lw_g (lw_at lw_m7 206 rfl) rfl
theorem q1745 : (Jvm.Cond.static ({ cls := "TunedHousesLaw", name := "piano", desc := "(LTunedHouses;II[J)I" } : Jvm.MethodName)) ∈ lw_all := lw_g (lw_at lw_m7 207 rfl) rfl
theorem q1746 : (Jvm.Cond.codeWith ({ cls := "TunedHousesLaw", name := "piano", desc := "(LTunedHouses;II[J)I" } : Jvm.MethodName) method_11_code (5 : Nat) (Option.some Jvm.ClassFile.FieldType.int) [((0 : Nat), (10 : Nat), (13 : Nat), (31 : Nat)), ((0 : Nat), (10 : Nat), (17 : Nat), (13 : Nat))]) ∈ lw_all := lw_g (lw_at lw_m7 208 rfl) rfl
theorem q1747 : (Jvm.Cond.methodLink "TunedHousesLaw" (39 : Nat) ({ cls := "TunedHouses", name := "piano", desc := "(II)I" } : Jvm.MethodName)) ∈ lw_all := lw_g (lw_at lw_m7 209 rfl) rfl
theorem q1757 : (Jvm.Cond.methodLink "TunedHousesLaw" (156 : Nat) ({ cls := "TunedHousesLaw", name := "would", desc := "(LTunedHouses;IIIIIIII[J)I" } : Jvm.MethodName)) ∈ lw_all := lw_g (lw_at lw_m7 219 rfl) rfl
theorem q1758 : (Jvm.Cond.static ({ cls := "TunedHousesLaw", name := "would", desc := "(LTunedHouses;IIIIIIII[J)I" } : Jvm.MethodName)) ∈ lw_all := lw_g (lw_at lw_m7 220 rfl) rfl
theorem q1759 : (Jvm.Cond.codeWith ({ cls := "TunedHousesLaw", name := "would", desc := "(LTunedHouses;IIIIIIII[J)I" } : Jvm.MethodName) method_12_code (11 : Nat) (Option.some Jvm.ClassFile.FieldType.int) [((0 : Nat), (22 : Nat), (25 : Nat), (13 : Nat))]) ∈ lw_all := lw_g (lw_at lw_m7 221 rfl) rfl
theorem q1760 : (Jvm.Cond.methodLink "TunedHousesLaw" (42 : Nat) ({ cls := "TunedHouses", name := "would", desc := "(IIIIIIII)I" } : Jvm.MethodName)) ∈ lw_all := lw_g (lw_at lw_m7 222 rfl) rfl
theorem q1765 : (Jvm.Cond.methodLink "TunedHousesLaw" (160 : Nat) ({ cls := "TunedHousesLaw", name := "ahead", desc := "(LTunedHouses;III[J)I" } : Jvm.MethodName)) ∈ lw_all := lw_g (lw_at lw_m7 227 rfl) rfl
theorem q1766 : (Jvm.Cond.static ({ cls := "TunedHousesLaw", name := "ahead", desc := "(LTunedHouses;III[J)I" } : Jvm.MethodName)) ∈ lw_all := lw_g (lw_at lw_m7 228 rfl) rfl
theorem q1767 : (Jvm.Cond.codeWith ({ cls := "TunedHousesLaw", name := "ahead", desc := "(LTunedHouses;III[J)I" } : Jvm.MethodName) method_13_code (6 : Nat) (Option.some Jvm.ClassFile.FieldType.int) [((0 : Nat), (12 : Nat), (15 : Nat), (31 : Nat)), ((0 : Nat), (12 : Nat), (19 : Nat), (13 : Nat))]) ∈ lw_all := lw_g (lw_at lw_m7 229 rfl) rfl
theorem q1768 : (Jvm.Cond.methodLink "TunedHousesLaw" (46 : Nat) ({ cls := "TunedHouses", name := "ahead", desc := "(III)I" } : Jvm.MethodName)) ∈ lw_all := lw_g (lw_at lw_m7 230 rfl) rfl
theorem q1773 : (Jvm.Cond.methodLink "TunedHousesLaw" (164 : Nat) ({ cls := "TunedHousesLaw", name := "when", desc := "(LTunedHouses;II[J)I" } : Jvm.MethodName)) ∈ lw_all := lw_g (lw_at lw_m7 235 rfl) rfl
theorem q1774 : (Jvm.Cond.static ({ cls := "TunedHousesLaw", name := "when", desc := "(LTunedHouses;II[J)I" } : Jvm.MethodName)) ∈ lw_all := lw_g (lw_at lw_m7 236 rfl) rfl
theorem q1775 : (Jvm.Cond.codeWith ({ cls := "TunedHousesLaw", name := "when", desc := "(LTunedHouses;II[J)I" } : Jvm.MethodName) method_14_code (5 : Nat) (Option.some Jvm.ClassFile.FieldType.int) [((0 : Nat), (10 : Nat), (13 : Nat), (31 : Nat)), ((0 : Nat), (10 : Nat), (17 : Nat), (13 : Nat))]) ∈ lw_all := lw_g (lw_at lw_m7 237 rfl) rfl
theorem q1776 : (Jvm.Cond.methodLink "TunedHousesLaw" (50 : Nat) ({ cls := "TunedHouses", name := "when", desc := "(II)I" } : Jvm.MethodName)) ∈ lw_all := lw_g (lw_at lw_m7 238 rfl) rfl
theorem q1780 : (Jvm.Cond.methodLink "TunedHousesLaw" (167 : Nat) ({ cls := "TunedHousesLaw", name := "muffle", desc := "(LTunedHouses;I[J)I" } : Jvm.MethodName)) ∈ lw_all := lw_g (lw_at lw_m8 2 rfl) rfl
theorem q1781 : (Jvm.Cond.static ({ cls := "TunedHousesLaw", name := "muffle", desc := "(LTunedHouses;I[J)I" } : Jvm.MethodName)) ∈ lw_all := lw_g (lw_at lw_m8 3 rfl) rfl
theorem q1782 : (Jvm.Cond.codeWith ({ cls := "TunedHousesLaw", name := "muffle", desc := "(LTunedHouses;I[J)I" } : Jvm.MethodName) method_15_code (4 : Nat) (Option.some Jvm.ClassFile.FieldType.int) [((0 : Nat), (9 : Nat), (12 : Nat), (31 : Nat))]) ∈ lw_all := lw_g (lw_at lw_m8 4 rfl) rfl
theorem q1783 : (Jvm.Cond.methodLink "TunedHousesLaw" (53 : Nat) ({ cls := "TunedHouses", name := "muffle", desc := "(I)I" } : Jvm.MethodName)) ∈ lw_all := lw_g (lw_at lw_m8 5 rfl) rfl
theorem q1788 : (Jvm.Cond.methodLink "TunedHousesLaw" (174 : Nat) ({ cls := "TunedHousesLaw", name := "placed", desc := "(LTunedHouses;I[J)I" } : Jvm.MethodName)) ∈ lw_all := lw_g (lw_at lw_m8 10 rfl) rfl
theorem q1789 : (Jvm.Cond.static ({ cls := "TunedHousesLaw", name := "placed", desc := "(LTunedHouses;I[J)I" } : Jvm.MethodName)) ∈ lw_all := lw_g (lw_at lw_m8 11 rfl) rfl
theorem q1790 : (Jvm.Cond.codeWith ({ cls := "TunedHousesLaw", name := "placed", desc := "(LTunedHouses;I[J)I" } : Jvm.MethodName) method_16_code (4 : Nat) (Option.some Jvm.ClassFile.FieldType.int) [((0 : Nat), (9 : Nat), (12 : Nat), (31 : Nat))]) ∈ lw_all := lw_g (lw_at lw_m8 12 rfl) rfl
theorem q1791 : (Jvm.Cond.methodLink "TunedHousesLaw" (56 : Nat) ({ cls := "TunedHouses", name := "placed", desc := "(I)I" } : Jvm.MethodName)) ∈ lw_all := lw_g (lw_at lw_m8 13 rfl) rfl
theorem q1795 : (Jvm.Cond.methodLink "TunedHousesLaw" (177 : Nat) ({ cls := "TunedHousesLaw", name := "from", desc := "(LTunedHouses;II[J)I" } : Jvm.MethodName)) ∈ lw_all := lw_g (lw_at lw_m8 17 rfl) rfl
theorem q1796 : (Jvm.Cond.static ({ cls := "TunedHousesLaw", name := "from", desc := "(LTunedHouses;II[J)I" } : Jvm.MethodName)) ∈ lw_all := lw_g (lw_at lw_m8 18 rfl) rfl
theorem q1797 : (Jvm.Cond.codeWith ({ cls := "TunedHousesLaw", name := "from", desc := "(LTunedHouses;II[J)I" } : Jvm.MethodName) method_17_code (5 : Nat) (Option.some Jvm.ClassFile.FieldType.int) [((0 : Nat), (10 : Nat), (13 : Nat), (31 : Nat)), ((0 : Nat), (10 : Nat), (17 : Nat), (13 : Nat))]) ∈ lw_all := lw_g (lw_at lw_m8 19 rfl) rfl
theorem q1798 : (Jvm.Cond.methodLink "TunedHousesLaw" (59 : Nat) ({ cls := "TunedHouses", name := "from", desc := "(II)I" } : Jvm.MethodName)) ∈ lw_all := lw_g (lw_at lw_m8 20 rfl) rfl
theorem q1810 : (Jvm.Cond.methodLink "TunedHousesLaw" (180 : Nat) ({ cls := "TunedHousesLaw", name := "look", desc := "(LTunedHouses;II[J)I" } : Jvm.MethodName)) ∈ lw_all := lw_g (lw_at lw_m8 32 rfl) rfl
theorem q1811 : (Jvm.Cond.static ({ cls := "TunedHousesLaw", name := "look", desc := "(LTunedHouses;II[J)I" } : Jvm.MethodName)) ∈ lw_all := lw_g (lw_at lw_m8 33 rfl) rfl
theorem q1812 : (Jvm.Cond.codeWith ({ cls := "TunedHousesLaw", name := "look", desc := "(LTunedHouses;II[J)I" } : Jvm.MethodName) method_18_code (5 : Nat) (Option.some Jvm.ClassFile.FieldType.int) [((0 : Nat), (10 : Nat), (13 : Nat), (31 : Nat)), ((0 : Nat), (10 : Nat), (17 : Nat), (13 : Nat))]) ∈ lw_all := lw_g (lw_at lw_m8 34 rfl) rfl
theorem q1813 : (Jvm.Cond.methodLink "TunedHousesLaw" (62 : Nat) ({ cls := "TunedHouses", name := "look", desc := "(II)I" } : Jvm.MethodName)) ∈ lw_all := lw_g (lw_at lw_m8 35 rfl) rfl
theorem q1821 : (Jvm.Cond.methodLink "TunedHousesLaw" (183 : Nat) ({ cls := "TunedHousesLaw", name := "way", desc := "(LTunedHouses;II[J)I" } : Jvm.MethodName)) ∈ lw_all := lw_g (lw_at lw_m8 43 rfl) rfl
theorem q1822 : (Jvm.Cond.static ({ cls := "TunedHousesLaw", name := "way", desc := "(LTunedHouses;II[J)I" } : Jvm.MethodName)) ∈ lw_all := lw_g (lw_at lw_m8 44 rfl) rfl
theorem q1823 : (Jvm.Cond.codeWith ({ cls := "TunedHousesLaw", name := "way", desc := "(LTunedHouses;II[J)I" } : Jvm.MethodName) method_19_code (5 : Nat) (Option.some Jvm.ClassFile.FieldType.int) [((0 : Nat), (10 : Nat), (13 : Nat), (31 : Nat))]) ∈ lw_all := lw_g (lw_at lw_m8 45 rfl) rfl
theorem q1824 : (Jvm.Cond.methodLink "TunedHousesLaw" (65 : Nat) ({ cls := "TunedHouses", name := "way", desc := "(II)I" } : Jvm.MethodName)) ∈ lw_all := lw_g (lw_at lw_m8 46 rfl) rfl
theorem q1828 : (Jvm.Cond.methodLink "TunedHousesLaw" (190 : Nat) ({ cls := "TunedHousesLaw", name := "price", desc := "(LTunedHouses;III[J)I" } : Jvm.MethodName)) ∈ lw_all := lw_g (lw_at lw_m8 50 rfl) rfl
theorem q1829 : (Jvm.Cond.static ({ cls := "TunedHousesLaw", name := "price", desc := "(LTunedHouses;III[J)I" } : Jvm.MethodName)) ∈ lw_all := lw_g (lw_at lw_m8 51 rfl) rfl
theorem q1830 : (Jvm.Cond.codeWith ({ cls := "TunedHousesLaw", name := "price", desc := "(LTunedHouses;III[J)I" } : Jvm.MethodName) method_20_code (6 : Nat) (Option.some Jvm.ClassFile.FieldType.int) [((0 : Nat), (11 : Nat), (14 : Nat), (13 : Nat))]) ∈ lw_all := lw_g (lw_at lw_m8 52 rfl) rfl
theorem q1831 : (Jvm.Cond.methodLink "TunedHousesLaw" (68 : Nat) ({ cls := "TunedHouses", name := "price", desc := "(III)J" } : Jvm.MethodName)) ∈ lw_all := lw_g (lw_at lw_m8 53 rfl) rfl
theorem q1841 : (Jvm.Cond.methodLink "TunedHousesLaw" (193 : Nat) ({ cls := "TunedHousesLaw", name := "tuner", desc := "(LTunedHouses;III[J)I" } : Jvm.MethodName)) ∈ lw_all := lw_g (lw_at lw_m8 63 rfl) rfl
theorem q1842 : (Jvm.Cond.static ({ cls := "TunedHousesLaw", name := "tuner", desc := "(LTunedHouses;III[J)I" } : Jvm.MethodName)) ∈ lw_all := lw_g (lw_at lw_m8 64 rfl) rfl
theorem q1843 : (Jvm.Cond.codeWith ({ cls := "TunedHousesLaw", name := "tuner", desc := "(LTunedHouses;III[J)I" } : Jvm.MethodName) method_21_code (6 : Nat) (Option.some Jvm.ClassFile.FieldType.int) [((0 : Nat), (12 : Nat), (15 : Nat), (13 : Nat))]) ∈ lw_all := lw_g (lw_at lw_m8 65 rfl) rfl
theorem q1844 : (Jvm.Cond.methodLink "TunedHousesLaw" (72 : Nat) ({ cls := "TunedHouses", name := "tuner", desc := "(III)I" } : Jvm.MethodName)) ∈ lw_all := lw_g (lw_at lw_m8 66 rfl) rfl
theorem q1854 : (Jvm.Cond.methodLink "TunedHousesLaw" (196 : Nat) ({ cls := "TunedHousesLaw", name := "share", desc := "(LTunedHouses;III[J)I" } : Jvm.MethodName)) ∈ lw_all := lw_g (lw_at lw_m8 76 rfl) rfl
theorem q1855 : (Jvm.Cond.static ({ cls := "TunedHousesLaw", name := "share", desc := "(LTunedHouses;III[J)I" } : Jvm.MethodName)) ∈ lw_all := lw_g (lw_at lw_m8 77 rfl) rfl
theorem q1856 : (Jvm.Cond.codeWith ({ cls := "TunedHousesLaw", name := "share", desc := "(LTunedHouses;III[J)I" } : Jvm.MethodName) method_22_code (6 : Nat) (Option.some Jvm.ClassFile.FieldType.int) [((0 : Nat), (12 : Nat), (15 : Nat), (31 : Nat)), ((0 : Nat), (12 : Nat), (19 : Nat), (13 : Nat))]) ∈ lw_all := lw_g (lw_at lw_m8 78 rfl) rfl
theorem q1857 : (Jvm.Cond.methodLink "TunedHousesLaw" (75 : Nat) ({ cls := "TunedHouses", name := "share", desc := "(III)I" } : Jvm.MethodName)) ∈ lw_all := lw_g (lw_at lw_m8 79 rfl) rfl
theorem q1865 : (Jvm.Cond.methodLink "TunedHousesLaw" (199 : Nat) ({ cls := "TunedHousesLaw", name := "those", desc := "(LTunedHouses;I[J)I" } : Jvm.MethodName)) ∈ lw_all := lw_g (lw_at lw_m8 87 rfl) rfl
theorem q1866 : (Jvm.Cond.static ({ cls := "TunedHousesLaw", name := "those", desc := "(LTunedHouses;I[J)I" } : Jvm.MethodName)) ∈ lw_all := lw_g (lw_at lw_m8 88 rfl) rfl
theorem q1867 : (Jvm.Cond.codeWith ({ cls := "TunedHousesLaw", name := "those", desc := "(LTunedHouses;I[J)I" } : Jvm.MethodName) method_23_code (4 : Nat) (Option.some Jvm.ClassFile.FieldType.int) [((0 : Nat), (9 : Nat), (12 : Nat), (13 : Nat))]) ∈ lw_all := lw_g (lw_at lw_m8 89 rfl) rfl
theorem q1868 : (Jvm.Cond.methodLink "TunedHousesLaw" (78 : Nat) ({ cls := "TunedHouses", name := "those", desc := "(I)I" } : Jvm.MethodName)) ∈ lw_all := lw_g (lw_at lw_m8 90 rfl) rfl
theorem q1872 : (Jvm.Cond.methodLink "TunedHousesLaw" (202 : Nat) ({ cls := "TunedHousesLaw", name := "loudest", desc := "(LTunedHouses;I[J)I" } : Jvm.MethodName)) ∈ lw_all := lw_g (lw_at lw_m8 94 rfl) rfl
theorem q1873 : (Jvm.Cond.static ({ cls := "TunedHousesLaw", name := "loudest", desc := "(LTunedHouses;I[J)I" } : Jvm.MethodName)) ∈ lw_all := lw_g (lw_at lw_m8 95 rfl) rfl
theorem q1874 : (Jvm.Cond.codeWith ({ cls := "TunedHousesLaw", name := "loudest", desc := "(LTunedHouses;I[J)I" } : Jvm.MethodName) method_24_code (4 : Nat) (Option.some Jvm.ClassFile.FieldType.int) [((0 : Nat), (9 : Nat), (12 : Nat), (13 : Nat))]) ∈ lw_all := lw_g (lw_at lw_m8 96 rfl) rfl
theorem q1875 : (Jvm.Cond.methodLink "TunedHousesLaw" (81 : Nat) ({ cls := "TunedHouses", name := "loudest", desc := "(I)I" } : Jvm.MethodName)) ∈ lw_all := lw_g (lw_at lw_m8 97 rfl) rfl
theorem q1879 : (Jvm.Cond.methodLink "TunedHousesLaw" (205 : Nat) ({ cls := "TunedHousesLaw", name := "quiet", desc := "(LTunedHouses;I[J)I" } : Jvm.MethodName)) ∈ lw_all := lw_g (lw_at lw_m8 101 rfl) rfl
theorem q1880 : (Jvm.Cond.static ({ cls := "TunedHousesLaw", name := "quiet", desc := "(LTunedHouses;I[J)I" } : Jvm.MethodName)) ∈ lw_all := lw_g (lw_at lw_m8 102 rfl) rfl
theorem q1881 : (Jvm.Cond.codeWith ({ cls := "TunedHousesLaw", name := "quiet", desc := "(LTunedHouses;I[J)I" } : Jvm.MethodName) method_25_code (4 : Nat) (Option.some Jvm.ClassFile.FieldType.int) [((0 : Nat), (9 : Nat), (12 : Nat), (31 : Nat))]) ∈ lw_all := lw_g (lw_at lw_m8 103 rfl) rfl
theorem q1882 : (Jvm.Cond.methodLink "TunedHousesLaw" (84 : Nat) ({ cls := "TunedHouses", name := "quiet", desc := "(I)I" } : Jvm.MethodName)) ∈ lw_all := lw_g (lw_at lw_m8 104 rfl) rfl
theorem q1887 : (Jvm.Cond.methodLink "TunedHousesLaw" (212 : Nat) ({ cls := "TunedHousesLaw", name := "oldest", desc := "(LTunedHouses;I[J)I" } : Jvm.MethodName)) ∈ lw_all := lw_g (lw_at lw_m8 109 rfl) rfl
theorem q1888 : (Jvm.Cond.static ({ cls := "TunedHousesLaw", name := "oldest", desc := "(LTunedHouses;I[J)I" } : Jvm.MethodName)) ∈ lw_all := lw_g (lw_at lw_m8 110 rfl) rfl
theorem q1889 : (Jvm.Cond.codeWith ({ cls := "TunedHousesLaw", name := "oldest", desc := "(LTunedHouses;I[J)I" } : Jvm.MethodName) method_26_code (4 : Nat) (Option.some Jvm.ClassFile.FieldType.int) [((0 : Nat), (9 : Nat), (12 : Nat), (13 : Nat))]) ∈ lw_all := lw_g (lw_at lw_m8 111 rfl) rfl
theorem q1890 : (Jvm.Cond.methodLink "TunedHousesLaw" (87 : Nat) ({ cls := "TunedHouses", name := "oldest", desc := "(I)I" } : Jvm.MethodName)) ∈ lw_all := lw_g (lw_at lw_m8 112 rfl) rfl
theorem q1894 : (Jvm.Cond.methodLink "TunedHousesLaw" (219 : Nat) ({ cls := "TunedHousesLaw", name := "margin", desc := "(LTunedHouses;I[J)I" } : Jvm.MethodName)) ∈ lw_all := lw_g (lw_at lw_m8 116 rfl) rfl
theorem q1895 : (Jvm.Cond.static ({ cls := "TunedHousesLaw", name := "margin", desc := "(LTunedHouses;I[J)I" } : Jvm.MethodName)) ∈ lw_all := lw_g (lw_at lw_m8 117 rfl) rfl
theorem q1896 : (Jvm.Cond.codeWith ({ cls := "TunedHousesLaw", name := "margin", desc := "(LTunedHouses;I[J)I" } : Jvm.MethodName) method_27_code (4 : Nat) (Option.some Jvm.ClassFile.FieldType.int) [((0 : Nat), (9 : Nat), (12 : Nat), (31 : Nat))]) ∈ lw_all := lw_g (lw_at lw_m8 118 rfl) rfl
theorem q1897 : (Jvm.Cond.methodLink "TunedHousesLaw" (90 : Nat) ({ cls := "TunedHouses", name := "margin", desc := "(I)I" } : Jvm.MethodName)) ∈ lw_all := lw_g (lw_at lw_m8 119 rfl) rfl
theorem q1901 : (Jvm.Cond.methodLink "TunedHousesLaw" (222 : Nat) ({ cls := "TunedHousesLaw", name := "tunes", desc := "(LTunedHouses;II[J)I" } : Jvm.MethodName)) ∈ lw_all := lw_g (lw_at lw_m8 123 rfl) rfl
theorem q1902 : (Jvm.Cond.static ({ cls := "TunedHousesLaw", name := "tunes", desc := "(LTunedHouses;II[J)I" } : Jvm.MethodName)) ∈ lw_all := lw_g (lw_at lw_m8 124 rfl) rfl
theorem q1903 : (Jvm.Cond.codeWith ({ cls := "TunedHousesLaw", name := "tunes", desc := "(LTunedHouses;II[J)I" } : Jvm.MethodName) method_28_code (5 : Nat) (Option.some Jvm.ClassFile.FieldType.int) [((0 : Nat), (10 : Nat), (13 : Nat), (31 : Nat))]) ∈ lw_all := lw_g (lw_at lw_m8 125 rfl) rfl
theorem q1904 : (Jvm.Cond.methodLink "TunedHousesLaw" (93 : Nat) ({ cls := "TunedHouses", name := "tunes", desc := "(II)I" } : Jvm.MethodName)) ∈ lw_all := lw_g (lw_at lw_m8 126 rfl) rfl
theorem q1909 : (Jvm.Cond.methodLink "TunedHousesLaw" (225 : Nat) ({ cls := "TunedHousesLaw", name := "year", desc := "(LTunedHouses;IIII[J)I" } : Jvm.MethodName)) ∈ lw_all := lw_g (lw_at lw_m8 131 rfl) rfl
theorem q1910 : (Jvm.Cond.static ({ cls := "TunedHousesLaw", name := "year", desc := "(LTunedHouses;IIII[J)I" } : Jvm.MethodName)) ∈ lw_all := lw_g (lw_at lw_m8 132 rfl) rfl
theorem q1911 : (Jvm.Cond.codeWith ({ cls := "TunedHousesLaw", name := "year", desc := "(LTunedHouses;IIII[J)I" } : Jvm.MethodName) method_29_code (7 : Nat) (Option.some Jvm.ClassFile.FieldType.int) [((0 : Nat), (14 : Nat), (17 : Nat), (13 : Nat))]) ∈ lw_all := lw_g (lw_at lw_m8 133 rfl) rfl
theorem q1912 : (Jvm.Cond.methodLink "TunedHousesLaw" (96 : Nat) ({ cls := "TunedHouses", name := "year", desc := "(IIII)I" } : Jvm.MethodName)) ∈ lw_all := lw_g (lw_at lw_m8 134 rfl) rfl
theorem q1928 : (Jvm.Cond.methodLink "TunedHousesLaw" (229 : Nat) ({ cls := "TunedHousesLaw", name := "span", desc := "(LTunedHouses;IIIIII[J)I" } : Jvm.MethodName)) ∈ lw_all := lw_g (lw_at lw_m8 150 rfl) rfl
theorem q1929 : (Jvm.Cond.static ({ cls := "TunedHousesLaw", name := "span", desc := "(LTunedHouses;IIIIII[J)I" } : Jvm.MethodName)) ∈ lw_all := lw_g (lw_at lw_m8 151 rfl) rfl
theorem q1930 : (Jvm.Cond.codeWith ({ cls := "TunedHousesLaw", name := "span", desc := "(LTunedHouses;IIIIII[J)I" } : Jvm.MethodName) method_30_code (9 : Nat) (Option.some Jvm.ClassFile.FieldType.int) [((0 : Nat), (18 : Nat), (21 : Nat), (13 : Nat))]) ∈ lw_all := lw_g (lw_at lw_m8 152 rfl) rfl
theorem q1931 : (Jvm.Cond.methodLink "TunedHousesLaw" (100 : Nat) ({ cls := "TunedHouses", name := "span", desc := "(IIIIII)I" } : Jvm.MethodName)) ∈ lw_all := lw_g (lw_at lw_m8 153 rfl) rfl
theorem q1935 : (Jvm.Cond.classLink "TunedHousesLaw" (105 : Nat) "TunedHousesModel") ∈ lw_all := lw_g (lw_at lw_m8 157 rfl) rfl
theorem q1937 : (Jvm.Cond.methodLink "TunedHousesLaw" (107 : Nat) ({ cls := "TunedHousesModel", name := "<init>", desc := "()V" } : Jvm.MethodName)) ∈ lw_all := lw_g (lw_at lw_m8 159 rfl) rfl
theorem q2105 : (Jvm.Cond.methodLink "TunedHousesLaw" (119 : Nat) ({ cls := "TunedHousesModel", name := "thrown", desc := "()I" } : Jvm.MethodName)) ∈ lw_all := lw_g (lw_at lw_m9 87 rfl) rfl
theorem q2109 : (Jvm.Cond.methodLink "TunedHousesLaw" (112 : Nat) ({ cls := "TunedHousesModel", name := "feed", desc := "(IIIII)I" } : Jvm.MethodName)) ∈ lw_all := lw_g (lw_at lw_m9 91 rfl) rfl
theorem q2113 : (Jvm.Cond.methodLink "TunedHousesLaw" (118 : Nat) ({ cls := "TunedHousesModel", name := "terrace", desc := "(I)I" } : Jvm.MethodName)) ∈ lw_all := lw_g (lw_at lw_m9 95 rfl) rfl
theorem q2193 : (Jvm.Cond.methodLink "TunedHousesLaw" (125 : Nat) ({ cls := "TunedHousesModel", name := "law", desc := "(I)I" } : Jvm.MethodName)) ∈ lw_all := lw_g (lw_at lw_m9 175 rfl) rfl
theorem q2229 : (Jvm.Cond.methodLink "TunedHousesLaw" (131 : Nat) ({ cls := "TunedHousesModel", name := "book", desc := "(I)I" } : Jvm.MethodName)) ∈ lw_all := lw_g (lw_at lw_m9 211 rfl) rfl
theorem q2233 : (Jvm.Cond.methodLink "TunedHousesLaw" (135 : Nat) ({ cls := "TunedHousesModel", name := "fault", desc := "()I" } : Jvm.MethodName)) ∈ lw_all := lw_g (lw_at lw_m9 215 rfl) rfl
theorem q2237 : (Jvm.Cond.methodLink "TunedHousesLaw" (128 : Nat) ({ cls := "TunedHousesModel", name := "work", desc := "(I)I" } : Jvm.MethodName)) ∈ lw_all := lw_g (lw_at lw_m9 219 rfl) rfl
theorem q2313 : (Jvm.Cond.methodLink "TunedHousesLaw" (139 : Nat) ({ cls := "TunedHousesModel", name := "undo", desc := "()I" } : Jvm.MethodName)) ∈ lw_all := lw_g (lw_at lw_m10 55 rfl) rfl
theorem q2317 : (Jvm.Cond.methodLink "TunedHousesLaw" (142 : Nat) ({ cls := "TunedHousesModel", name := "told", desc := "(I)I" } : Jvm.MethodName)) ∈ lw_all := lw_g (lw_at lw_m10 59 rfl) rfl
theorem q2341 : (Jvm.Cond.methodLink "TunedHousesLaw" (146 : Nat) ({ cls := "TunedHousesModel", name := "house", desc := "(II)I" } : Jvm.MethodName)) ∈ lw_all := lw_g (lw_at lw_m10 83 rfl) rfl
theorem q2349 : (Jvm.Cond.methodLink "TunedHousesLaw" (149 : Nat) ({ cls := "TunedHousesModel", name := "there", desc := "(II)I" } : Jvm.MethodName)) ∈ lw_all := lw_g (lw_at lw_m10 91 rfl) rfl
theorem q2356 : (Jvm.Cond.methodLink "TunedHousesLaw" (152 : Nat) ({ cls := "TunedHousesModel", name := "wall", desc := "(II)I" } : Jvm.MethodName)) ∈ lw_all := lw_g (lw_at lw_m10 98 rfl) rfl
theorem q2360 : (Jvm.Cond.methodLink "TunedHousesLaw" (155 : Nat) ({ cls := "TunedHousesModel", name := "piano", desc := "(II)I" } : Jvm.MethodName)) ∈ lw_all := lw_g (lw_at lw_m10 102 rfl) rfl
theorem q2368 : (Jvm.Cond.methodLink "TunedHousesLaw" (159 : Nat) ({ cls := "TunedHousesModel", name := "would", desc := "(IIIIIIII)I" } : Jvm.MethodName)) ∈ lw_all := lw_g (lw_at lw_m10 110 rfl) rfl
theorem q2372 : (Jvm.Cond.methodLink "TunedHousesLaw" (163 : Nat) ({ cls := "TunedHousesModel", name := "ahead", desc := "(III)I" } : Jvm.MethodName)) ∈ lw_all := lw_g (lw_at lw_m10 114 rfl) rfl
theorem q2376 : (Jvm.Cond.methodLink "TunedHousesLaw" (166 : Nat) ({ cls := "TunedHousesModel", name := "when", desc := "(II)I" } : Jvm.MethodName)) ∈ lw_all := lw_g (lw_at lw_m10 118 rfl) rfl
theorem q2380 : (Jvm.Cond.methodLink "TunedHousesLaw" (169 : Nat) ({ cls := "TunedHousesModel", name := "muffle", desc := "(I)I" } : Jvm.MethodName)) ∈ lw_all := lw_g (lw_at lw_m10 122 rfl) rfl
theorem q2384 : (Jvm.Cond.methodLink "TunedHousesLaw" (173 : Nat) ({ cls := "TunedHousesModel", name := "places", desc := "()I" } : Jvm.MethodName)) ∈ lw_all := lw_g (lw_at lw_m10 126 rfl) rfl
theorem q2396 : (Jvm.Cond.methodLink "TunedHousesLaw" (176 : Nat) ({ cls := "TunedHousesModel", name := "placed", desc := "(I)I" } : Jvm.MethodName)) ∈ lw_all := lw_g (lw_at lw_m10 138 rfl) rfl
theorem q2400 : (Jvm.Cond.methodLink "TunedHousesLaw" (179 : Nat) ({ cls := "TunedHousesModel", name := "from", desc := "(II)I" } : Jvm.MethodName)) ∈ lw_all := lw_g (lw_at lw_m10 142 rfl) rfl
theorem q2412 : (Jvm.Cond.methodLink "TunedHousesLaw" (182 : Nat) ({ cls := "TunedHousesModel", name := "look", desc := "(II)I" } : Jvm.MethodName)) ∈ lw_all := lw_g (lw_at lw_m10 154 rfl) rfl
theorem q2420 : (Jvm.Cond.methodLink "TunedHousesLaw" (185 : Nat) ({ cls := "TunedHousesModel", name := "way", desc := "(II)I" } : Jvm.MethodName)) ∈ lw_all := lw_g (lw_at lw_m10 162 rfl) rfl
theorem q2424 : (Jvm.Cond.methodLink "TunedHousesLaw" (189 : Nat) ({ cls := "TunedHousesModel", name := "alone", desc := "()I" } : Jvm.MethodName)) ∈ lw_all := lw_g (lw_at lw_m10 166 rfl) rfl
theorem q2434 : (Jvm.Cond.methodLink "TunedHousesLaw" (192 : Nat) ({ cls := "TunedHousesModel", name := "price", desc := "(III)J" } : Jvm.MethodName)) ∈ lw_all := lw_g (lw_at lw_m10 176 rfl) rfl
theorem q2438 : (Jvm.Cond.methodLink "TunedHousesLaw" (195 : Nat) ({ cls := "TunedHousesModel", name := "tuner", desc := "(III)I" } : Jvm.MethodName)) ∈ lw_all := lw_g (lw_at lw_m10 180 rfl) rfl
theorem q2448 : (Jvm.Cond.methodLink "TunedHousesLaw" (198 : Nat) ({ cls := "TunedHousesModel", name := "share", desc := "(III)I" } : Jvm.MethodName)) ∈ lw_all := lw_g (lw_at lw_m10 190 rfl) rfl
theorem q2456 : (Jvm.Cond.methodLink "TunedHousesLaw" (201 : Nat) ({ cls := "TunedHousesModel", name := "those", desc := "(I)I" } : Jvm.MethodName)) ∈ lw_all := lw_g (lw_at lw_m10 198 rfl) rfl
theorem q2460 : (Jvm.Cond.methodLink "TunedHousesLaw" (204 : Nat) ({ cls := "TunedHousesModel", name := "loudest", desc := "(I)I" } : Jvm.MethodName)) ∈ lw_all := lw_g (lw_at lw_m10 202 rfl) rfl
theorem q2464 : (Jvm.Cond.methodLink "TunedHousesLaw" (207 : Nat) ({ cls := "TunedHousesModel", name := "quiet", desc := "(I)I" } : Jvm.MethodName)) ∈ lw_all := lw_g (lw_at lw_m10 206 rfl) rfl
theorem q2468 : (Jvm.Cond.methodLink "TunedHousesLaw" (224 : Nat) ({ cls := "TunedHousesModel", name := "tunes", desc := "(II)I" } : Jvm.MethodName)) ∈ lw_all := lw_g (lw_at lw_m10 210 rfl) rfl
theorem q2472 : (Jvm.Cond.methodLink "TunedHousesLaw" (214 : Nat) ({ cls := "TunedHousesModel", name := "oldest", desc := "(I)I" } : Jvm.MethodName)) ∈ lw_all := lw_g (lw_at lw_m10 214 rfl) rfl
theorem q2476 : (Jvm.Cond.methodLink "TunedHousesLaw" (218 : Nat) ({ cls := "TunedHousesModel", name := "empty", desc := "()I" } : Jvm.MethodName)) ∈ lw_all := lw_g (lw_at lw_m10 218 rfl) rfl
theorem q2480 : (Jvm.Cond.methodLink "TunedHousesLaw" (221 : Nat) ({ cls := "TunedHousesModel", name := "margin", desc := "(I)I" } : Jvm.MethodName)) ∈ lw_all := lw_g (lw_at lw_m10 222 rfl) rfl
theorem q2484 : (Jvm.Cond.methodLink "TunedHousesLaw" (211 : Nat) ({ cls := "TunedHousesModel", name := "changed", desc := "()I" } : Jvm.MethodName)) ∈ lw_all := lw_g (lw_at lw_m10 226 rfl) rfl
theorem q2492 : (Jvm.Cond.methodLink "TunedHousesLaw" (228 : Nat) ({ cls := "TunedHousesModel", name := "year", desc := "(IIII)I" } : Jvm.MethodName)) ∈ lw_all := lw_g (lw_at lw_m10 234 rfl) rfl
theorem q2508 : (Jvm.Cond.methodLink "TunedHousesLaw" (232 : Nat) ({ cls := "TunedHousesModel", name := "span", desc := "(IIIIII)I" } : Jvm.MethodName)) ∈ lw_all := lw_g (lw_at lw_m11 10 rfl) rfl
theorem q2512 : (Jvm.Cond.methodLink "TunedHousesLaw" (236 : Nat) ({ cls := "TunedHousesModel", name := "image", desc := "()I" } : Jvm.MethodName)) ∈ lw_all := lw_g (lw_at lw_m11 14 rfl) rfl
theorem q2524 : (Jvm.Cond.methodLink "TunedHousesLaw" (240 : Nat) ({ cls := "TunedHousesModel", name := "restore", desc := "()I" } : Jvm.MethodName)) ∈ lw_all := lw_g (lw_at lw_m11 26 rfl) rfl
theorem q2528 : (Jvm.Cond.methodLink "TunedHousesLaw" (244 : Nat) ({ cls := "TunedHousesModel", name := "status", desc := "(I)I" } : Jvm.MethodName)) ∈ lw_all := lw_g (lw_at lw_m11 30 rfl) rfl
theorem q2532 : (Jvm.Cond.methodLink "TunedHousesLaw" (248 : Nat) ({ cls := "TunedHousesModel", name := "count", desc := "(I)I" } : Jvm.MethodName)) ∈ lw_all := lw_g (lw_at lw_m11 34 rfl) rfl

/-! TunedHouses$Told -/
set_option maxRecDepth 100000
def RX2 : String := "TunedHouses$Told"
def TX2 : u_T := fun k => match k with
  | 0 => ("TunedHouses$Told", "thing", "[I", true)
  | 1 => ("TunedHouses$Told", "wish", "[I", true)
  | 2 => ("TunedHouses$Told", "through", "[I", true)
  | 3 => ("TunedHouses$Told", "one", "[I", true)
  | 4 => ("TunedHouses$Told", "other", "[I", true)
  | 5 => ("TunedHouses$Told", "pianos", "Ljava/util/ArrayList;", true)
  | 6 => ("TunedHouses$Told", "houses", "I", false)
  | 7 => ("TunedHouses$Told", "walls", "I", false)
  | 8 => ("TunedHouses$Told", "felt", "I", false)
  | _ => ("TunedHouses$Told", "clauses", "I", false)
def tyX2 : Nat → FieldType := fun k => match k with
  | 0 => .array .int
  | 1 => .array .int
  | 2 => .array .int
  | 3 => .array .int
  | 4 => .array .int
  | 5 => .object "java/util/ArrayList"
  | 6 => .int
  | 7 => .int
  | 8 => .int
  | _ => .int
abbrev wsX20 : List Cond := u_ws RX2 TX2 10
theorem nmX2 : ∀ a, a < 10 → ∀ b, b < 10 → a ≠ b → (TX2 a).2.1 ≠ (TX2 b).2.1 := by decide +kernel
theorem tyX2_ok : ∀ k, k < 10 → parseFieldDescriptor (TX2 k).2.2.1 = some (tyX2 k) := by decide +kernel
abbrev cX2_init : ByteArray := prog_25_method_1_code
def yX2_init : MethodName := ⟨RX2, "<init>", "()V"⟩
def dkwX2_init_2 : List UInt8 := [187, 0, 27, 89, 5, 183, 0, 29, 181, 0, 32, 42, 16, 12, 181, 0, 36, 177]
abbrev dktX2_init_2 : List UInt8 := dkwX2_init_2 ++ []
def dkwX2_init_1 : List UInt8 := [188, 10, 181, 0, 18, 42, 16, 12, 188, 10, 181, 0, 21, 42, 16, 12, 188, 10, 181, 0, 24, 42]
abbrev dktX2_init_1 : List UInt8 := dkwX2_init_1 ++ dktX2_init_2
def dkwX2_init_0 : List UInt8 := [42, 183, 0, 3, 42, 16, 8, 188, 10, 181, 0, 9, 42, 16, 8, 188, 10, 181, 0, 15, 42, 16, 8]
abbrev dktX2_init_0 : List UInt8 := dkwX2_init_0 ++ dktX2_init_1
theorem dksX2_init_0 : cX2_init.data.toList.drop 0 = dktX2_init_0 := by decide +kernel
theorem dksX2_init_1 : cX2_init.data.toList.drop 23 = dktX2_init_1 := dk_seg dksX2_init_0 23 rfl rfl
theorem dksX2_init_2 : cX2_init.data.toList.drop 45 = dktX2_init_2 := dk_seg dksX2_init_1 22 rfl rfl
theorem dX2_init_0 : decode cX2_init 0 = .ok (.aload_n 0, 1) := dk_42 (dk_at dksX2_init_0 0 rfl rfl)
theorem dX2_init_1 : decode cX2_init 1 = .ok (.invokespecial 3, 3) := dk_183 0 3 (dk_at dksX2_init_0 1 rfl rfl)
theorem dX2_init_4 : decode cX2_init 4 = .ok (.aload_n 0, 1) := dk_42 (dk_at dksX2_init_0 4 rfl rfl)
theorem dX2_init_5 : decode cX2_init 5 = .ok (.bipush 8, 2) := dk_16 8 (dk_at dksX2_init_0 5 rfl rfl)
theorem dX2_init_7 : decode cX2_init 7 = .ok (.newarray .int, 2) := dk_188_10 (dk_at dksX2_init_0 7 rfl rfl)
theorem dX2_init_9 : decode cX2_init 9 = .ok (.putfield 9, 3) := dk_181 0 9 (dk_at dksX2_init_0 9 rfl rfl)
theorem dX2_init_12 : decode cX2_init 12 = .ok (.aload_n 0, 1) := dk_42 (dk_at dksX2_init_0 12 rfl rfl)
theorem dX2_init_13 : decode cX2_init 13 = .ok (.bipush 8, 2) := dk_16 8 (dk_at dksX2_init_0 13 rfl rfl)
theorem dX2_init_15 : decode cX2_init 15 = .ok (.newarray .int, 2) := dk_188_10 (dk_at dksX2_init_0 15 rfl rfl)
theorem dX2_init_17 : decode cX2_init 17 = .ok (.putfield 15, 3) := dk_181 0 15 (dk_at dksX2_init_0 17 rfl rfl)
theorem dX2_init_20 : decode cX2_init 20 = .ok (.aload_n 0, 1) := dk_42 (dk_at dksX2_init_0 20 rfl rfl)
theorem dX2_init_21 : decode cX2_init 21 = .ok (.bipush 8, 2) := dk_16 8 (dk_at dksX2_init_0 21 rfl rfl)
theorem dX2_init_23 : decode cX2_init 23 = .ok (.newarray .int, 2) := dk_188_10 (dk_at dksX2_init_1 0 rfl rfl)
theorem dX2_init_25 : decode cX2_init 25 = .ok (.putfield 18, 3) := dk_181 0 18 (dk_at dksX2_init_1 2 rfl rfl)
theorem dX2_init_28 : decode cX2_init 28 = .ok (.aload_n 0, 1) := dk_42 (dk_at dksX2_init_1 5 rfl rfl)
theorem dX2_init_29 : decode cX2_init 29 = .ok (.bipush 12, 2) := dk_16 12 (dk_at dksX2_init_1 6 rfl rfl)
theorem dX2_init_31 : decode cX2_init 31 = .ok (.newarray .int, 2) := dk_188_10 (dk_at dksX2_init_1 8 rfl rfl)
theorem dX2_init_33 : decode cX2_init 33 = .ok (.putfield 21, 3) := dk_181 0 21 (dk_at dksX2_init_1 10 rfl rfl)
theorem dX2_init_36 : decode cX2_init 36 = .ok (.aload_n 0, 1) := dk_42 (dk_at dksX2_init_1 13 rfl rfl)
theorem dX2_init_37 : decode cX2_init 37 = .ok (.bipush 12, 2) := dk_16 12 (dk_at dksX2_init_1 14 rfl rfl)
theorem dX2_init_39 : decode cX2_init 39 = .ok (.newarray .int, 2) := dk_188_10 (dk_at dksX2_init_1 16 rfl rfl)
theorem dX2_init_41 : decode cX2_init 41 = .ok (.putfield 24, 3) := dk_181 0 24 (dk_at dksX2_init_1 18 rfl rfl)
theorem dX2_init_44 : decode cX2_init 44 = .ok (.aload_n 0, 1) := dk_42 (dk_at dksX2_init_1 21 rfl rfl)
theorem dX2_init_45 : decode cX2_init 45 = .ok (.new 27, 3) := dk_187 0 27 (dk_at dksX2_init_2 0 rfl rfl)
theorem dX2_init_48 : decode cX2_init 48 = .ok (.dup, 1) := dk_89 (dk_at dksX2_init_2 3 rfl rfl)
theorem dX2_init_49 : decode cX2_init 49 = .ok (.iconst 2, 1) := dk_5 (dk_at dksX2_init_2 4 rfl rfl)
theorem dX2_init_50 : decode cX2_init 50 = .ok (.invokespecial 29, 3) := dk_183 0 29 (dk_at dksX2_init_2 5 rfl rfl)
theorem dX2_init_53 : decode cX2_init 53 = .ok (.putfield 32, 3) := dk_181 0 32 (dk_at dksX2_init_2 8 rfl rfl)
theorem dX2_init_56 : decode cX2_init 56 = .ok (.aload_n 0, 1) := dk_42 (dk_at dksX2_init_2 11 rfl rfl)
theorem dX2_init_57 : decode cX2_init 57 = .ok (.bipush 12, 2) := dk_16 12 (dk_at dksX2_init_2 12 rfl rfl)
theorem dX2_init_59 : decode cX2_init 59 = .ok (.putfield 36, 3) := dk_181 0 36 (dk_at dksX2_init_2 14 rfl rfl)
theorem dX2_init_62 : decode cX2_init 62 = .ok (.return_, 1) := dk_177 (dk_at dksX2_init_2 17 rfl rfl)
abbrev cX2_parts : ByteArray := prog_25_method_2_code
def yX2_parts : MethodName := ⟨RX2, "parts", "(II)V"⟩
def dkwX2_parts_2 : List UInt8 := [180, 0, 40, 4, 96, 181, 0, 40, 177]
abbrev dktX2_parts_2 : List UInt8 := dkwX2_parts_2 ++ []
def dkwX2_parts_1 : List UInt8 := [27, 92, 46, 4, 28, 120, 128, 79, 42, 180, 0, 18, 28, 92, 46, 4, 27, 120, 128, 79, 42, 89]
abbrev dktX2_parts_1 : List UInt8 := dkwX2_parts_1 ++ dktX2_parts_2
def dkwX2_parts_0 : List UInt8 := [42, 180, 0, 21, 42, 180, 0, 40, 27, 79, 42, 180, 0, 24, 42, 180, 0, 40, 28, 79, 42, 180, 0, 18]
abbrev dktX2_parts_0 : List UInt8 := dkwX2_parts_0 ++ dktX2_parts_1
theorem dksX2_parts_0 : cX2_parts.data.toList.drop 0 = dktX2_parts_0 := by decide +kernel
theorem dksX2_parts_1 : cX2_parts.data.toList.drop 24 = dktX2_parts_1 := dk_seg dksX2_parts_0 24 rfl rfl
theorem dksX2_parts_2 : cX2_parts.data.toList.drop 46 = dktX2_parts_2 := dk_seg dksX2_parts_1 22 rfl rfl
theorem dX2_parts_0 : decode cX2_parts 0 = .ok (.aload_n 0, 1) := dk_42 (dk_at dksX2_parts_0 0 rfl rfl)
theorem dX2_parts_1 : decode cX2_parts 1 = .ok (.getfield 21, 3) := dk_180 0 21 (dk_at dksX2_parts_0 1 rfl rfl)
theorem dX2_parts_4 : decode cX2_parts 4 = .ok (.aload_n 0, 1) := dk_42 (dk_at dksX2_parts_0 4 rfl rfl)
theorem dX2_parts_5 : decode cX2_parts 5 = .ok (.getfield 40, 3) := dk_180 0 40 (dk_at dksX2_parts_0 5 rfl rfl)
theorem dX2_parts_8 : decode cX2_parts 8 = .ok (.iload_n 1, 1) := dk_27 (dk_at dksX2_parts_0 8 rfl rfl)
theorem dX2_parts_9 : decode cX2_parts 9 = .ok (.iastore, 1) := dk_79 (dk_at dksX2_parts_0 9 rfl rfl)
theorem dX2_parts_10 : decode cX2_parts 10 = .ok (.aload_n 0, 1) := dk_42 (dk_at dksX2_parts_0 10 rfl rfl)
theorem dX2_parts_11 : decode cX2_parts 11 = .ok (.getfield 24, 3) := dk_180 0 24 (dk_at dksX2_parts_0 11 rfl rfl)
theorem dX2_parts_14 : decode cX2_parts 14 = .ok (.aload_n 0, 1) := dk_42 (dk_at dksX2_parts_0 14 rfl rfl)
theorem dX2_parts_15 : decode cX2_parts 15 = .ok (.getfield 40, 3) := dk_180 0 40 (dk_at dksX2_parts_0 15 rfl rfl)
theorem dX2_parts_18 : decode cX2_parts 18 = .ok (.iload_n 2, 1) := dk_28 (dk_at dksX2_parts_0 18 rfl rfl)
theorem dX2_parts_19 : decode cX2_parts 19 = .ok (.iastore, 1) := dk_79 (dk_at dksX2_parts_0 19 rfl rfl)
theorem dX2_parts_20 : decode cX2_parts 20 = .ok (.aload_n 0, 1) := dk_42 (dk_at dksX2_parts_0 20 rfl rfl)
theorem dX2_parts_21 : decode cX2_parts 21 = .ok (.getfield 18, 3) := dk_180 0 18 (dk_at dksX2_parts_0 21 rfl rfl)
theorem dX2_parts_24 : decode cX2_parts 24 = .ok (.iload_n 1, 1) := dk_27 (dk_at dksX2_parts_1 0 rfl rfl)
theorem dX2_parts_25 : decode cX2_parts 25 = .ok (.dup2, 1) := dk_92 (dk_at dksX2_parts_1 1 rfl rfl)
theorem dX2_parts_26 : decode cX2_parts 26 = .ok (.iaload, 1) := dk_46 (dk_at dksX2_parts_1 2 rfl rfl)
theorem dX2_parts_27 : decode cX2_parts 27 = .ok (.iconst 1, 1) := dk_4 (dk_at dksX2_parts_1 3 rfl rfl)
theorem dX2_parts_28 : decode cX2_parts 28 = .ok (.iload_n 2, 1) := dk_28 (dk_at dksX2_parts_1 4 rfl rfl)
theorem dX2_parts_29 : decode cX2_parts 29 = .ok (.ishl, 1) := dk_120 (dk_at dksX2_parts_1 5 rfl rfl)
theorem dX2_parts_30 : decode cX2_parts 30 = .ok (.ior, 1) := dk_128 (dk_at dksX2_parts_1 6 rfl rfl)
theorem dX2_parts_31 : decode cX2_parts 31 = .ok (.iastore, 1) := dk_79 (dk_at dksX2_parts_1 7 rfl rfl)
theorem dX2_parts_32 : decode cX2_parts 32 = .ok (.aload_n 0, 1) := dk_42 (dk_at dksX2_parts_1 8 rfl rfl)
theorem dX2_parts_33 : decode cX2_parts 33 = .ok (.getfield 18, 3) := dk_180 0 18 (dk_at dksX2_parts_1 9 rfl rfl)
theorem dX2_parts_36 : decode cX2_parts 36 = .ok (.iload_n 2, 1) := dk_28 (dk_at dksX2_parts_1 12 rfl rfl)
theorem dX2_parts_37 : decode cX2_parts 37 = .ok (.dup2, 1) := dk_92 (dk_at dksX2_parts_1 13 rfl rfl)
theorem dX2_parts_38 : decode cX2_parts 38 = .ok (.iaload, 1) := dk_46 (dk_at dksX2_parts_1 14 rfl rfl)
theorem dX2_parts_39 : decode cX2_parts 39 = .ok (.iconst 1, 1) := dk_4 (dk_at dksX2_parts_1 15 rfl rfl)
theorem dX2_parts_40 : decode cX2_parts 40 = .ok (.iload_n 1, 1) := dk_27 (dk_at dksX2_parts_1 16 rfl rfl)
theorem dX2_parts_41 : decode cX2_parts 41 = .ok (.ishl, 1) := dk_120 (dk_at dksX2_parts_1 17 rfl rfl)
theorem dX2_parts_42 : decode cX2_parts 42 = .ok (.ior, 1) := dk_128 (dk_at dksX2_parts_1 18 rfl rfl)
theorem dX2_parts_43 : decode cX2_parts 43 = .ok (.iastore, 1) := dk_79 (dk_at dksX2_parts_1 19 rfl rfl)
theorem dX2_parts_44 : decode cX2_parts 44 = .ok (.aload_n 0, 1) := dk_42 (dk_at dksX2_parts_1 20 rfl rfl)
theorem dX2_parts_45 : decode cX2_parts 45 = .ok (.dup, 1) := dk_89 (dk_at dksX2_parts_1 21 rfl rfl)
theorem dX2_parts_46 : decode cX2_parts 46 = .ok (.getfield 40, 3) := dk_180 0 40 (dk_at dksX2_parts_2 0 rfl rfl)
theorem dX2_parts_49 : decode cX2_parts 49 = .ok (.iconst 1, 1) := dk_4 (dk_at dksX2_parts_2 3 rfl rfl)
theorem dX2_parts_50 : decode cX2_parts 50 = .ok (.iadd, 1) := dk_96 (dk_at dksX2_parts_2 4 rfl rfl)
theorem dX2_parts_51 : decode cX2_parts 51 = .ok (.putfield 40, 3) := dk_181 0 40 (dk_at dksX2_parts_2 5 rfl rfl)
theorem dX2_parts_54 : decode cX2_parts 54 = .ok (.return_, 1) := dk_177 (dk_at dksX2_parts_2 8 rfl rfl)
theorem q100 : (Jvm.Cond.initialized "TunedHouses$Told") ∈ lw_all := lw_g (lw_at lw_m1 2 rfl) rfl
theorem q158 : (Jvm.Cond.instantiable "TunedHouses$Told" (10 : Nat)) ∈ lw_all := lw_g (lw_at lw_m1 60 rfl) rfl
theorem q160 : (Jvm.Cond.instanceMethod ({ cls := "TunedHouses$Told", name := "<init>", desc := "()V" } : Jvm.MethodName)) ∈ lw_all := lw_g (lw_at lw_m1 62 rfl) rfl
theorem q161 : (Jvm.Cond.code ({ cls := "TunedHouses$Told", name := "<init>", desc := "()V" } : Jvm.MethodName) prog_25_method_1_code (1 : Nat) (Option.none : Option Jvm.ClassFile.FieldType)) ∈ lw_all := lw_g (lw_at lw_m1 63 rfl) rfl
theorem q162 : (Jvm.Cond.methodLink "TunedHouses$Told" (3 : Nat) ({ cls := "java/lang/Object", name := "<init>", desc := "()V" } : Jvm.MethodName)) ∈ lw_all := lw_g (lw_at lw_m1 64 rfl) rfl
theorem q163 : (Jvm.Cond.classLink "TunedHouses$Told" (27 : Nat) "java/util/ArrayList") ∈ lw_all := lw_g (lw_at lw_m1 65 rfl) rfl
theorem q165 : (Jvm.Cond.methodLink "TunedHouses$Told" (29 : Nat) ({ cls := "java/util/ArrayList", name := "<init>", desc := "(I)V" } : Jvm.MethodName)) ∈ lw_all := lw_g (lw_at lw_m1 67 rfl) rfl
theorem q506 : (Jvm.Cond.fieldLink "TunedHouses$Told" (9 : Nat) "TunedHouses$Told" "thing" "[I") ∈ lw_all := lw_g (lw_at lw_m2 168 rfl) rfl
theorem q510 : (Jvm.Cond.fieldLink "TunedHouses$Told" (15 : Nat) "TunedHouses$Told" "wish" "[I") ∈ lw_all := lw_g (lw_at lw_m2 172 rfl) rfl
theorem q513 : (Jvm.Cond.fieldLink "TunedHouses$Told" (18 : Nat) "TunedHouses$Told" "through" "[I") ∈ lw_all := lw_g (lw_at lw_m2 175 rfl) rfl
theorem q517 : (Jvm.Cond.fieldLink "TunedHouses$Told" (21 : Nat) "TunedHouses$Told" "one" "[I") ∈ lw_all := lw_g (lw_at lw_m2 179 rfl) rfl
theorem q519 : (Jvm.Cond.fieldLink "TunedHouses$Told" (24 : Nat) "TunedHouses$Told" "other" "[I") ∈ lw_all := lw_g (lw_at lw_m2 181 rfl) rfl
theorem q521 : (Jvm.Cond.fieldLink "TunedHouses$Told" (32 : Nat) "TunedHouses$Told" "pianos" "Ljava/util/ArrayList;") ∈ lw_all := lw_g (lw_at lw_m2 183 rfl) rfl
theorem q529 : (Jvm.Cond.fieldLink "TunedHouses$Told" (40 : Nat) "TunedHouses$Told" "walls" "I") ∈ lw_all := lw_g (lw_at lw_m2 191 rfl) rfl
theorem q532 : (Jvm.Cond.fieldLink "TunedHouses$Told" (36 : Nat) "TunedHouses$Told" "felt" "I") ∈ lw_all := lw_g (lw_at lw_m2 194 rfl) rfl
theorem q536 : (Jvm.Cond.laysFinal "TunedHouses$Told" "TunedHouses$Told" "thing" "[I") ∈ lw_all := lw_g (lw_at lw_m2 198 rfl) rfl
theorem q537 : (Jvm.Cond.soleField "TunedHouses$Told" "thing") ∈ lw_all := lw_g (lw_at lw_m2 199 rfl) rfl
theorem q538 : (Jvm.Cond.laysFinal "TunedHouses$Told" "TunedHouses$Told" "wish" "[I") ∈ lw_all := lw_g (lw_at lw_m2 200 rfl) rfl
theorem q539 : (Jvm.Cond.soleField "TunedHouses$Told" "wish") ∈ lw_all := lw_g (lw_at lw_m2 201 rfl) rfl
theorem q540 : (Jvm.Cond.laysFinal "TunedHouses$Told" "TunedHouses$Told" "through" "[I") ∈ lw_all := lw_g (lw_at lw_m2 202 rfl) rfl
theorem q541 : (Jvm.Cond.soleField "TunedHouses$Told" "through") ∈ lw_all := lw_g (lw_at lw_m2 203 rfl) rfl
theorem q542 : (Jvm.Cond.laysFinal "TunedHouses$Told" "TunedHouses$Told" "one" "[I") ∈ lw_all := lw_g (lw_at lw_m2 204 rfl) rfl
theorem q543 : (Jvm.Cond.soleField "TunedHouses$Told" "one") ∈ lw_all := lw_g (lw_at lw_m2 205 rfl) rfl
theorem q544 : (Jvm.Cond.laysFinal "TunedHouses$Told" "TunedHouses$Told" "other" "[I") ∈ lw_all := lw_g (lw_at lw_m2 206 rfl) rfl
theorem q545 : (Jvm.Cond.soleField "TunedHouses$Told" "other") ∈ lw_all := lw_g (lw_at lw_m2 207 rfl) rfl
theorem q546 : (Jvm.Cond.laysFinal "TunedHouses$Told" "TunedHouses$Told" "pianos" "Ljava/util/ArrayList;") ∈ lw_all := lw_g (lw_at lw_m2 208 rfl) rfl
theorem q547 : (Jvm.Cond.soleField "TunedHouses$Told" "pianos") ∈ lw_all := lw_g (lw_at lw_m2 209 rfl) rfl
theorem q548 : (Jvm.Cond.lays "TunedHouses$Told" "TunedHouses$Told" "houses" "I") ∈ lw_all := lw_g (lw_at lw_m2 210 rfl) rfl
theorem q549 : (Jvm.Cond.soleField "TunedHouses$Told" "houses") ∈ lw_all := lw_g (lw_at lw_m2 211 rfl) rfl
theorem q550 : (Jvm.Cond.lays "TunedHouses$Told" "TunedHouses$Told" "walls" "I") ∈ lw_all := lw_g (lw_at lw_m2 212 rfl) rfl
theorem q551 : (Jvm.Cond.soleField "TunedHouses$Told" "walls") ∈ lw_all := lw_g (lw_at lw_m2 213 rfl) rfl
theorem q552 : (Jvm.Cond.lays "TunedHouses$Told" "TunedHouses$Told" "felt" "I") ∈ lw_all := lw_g (lw_at lw_m2 214 rfl) rfl
theorem q553 : (Jvm.Cond.soleField "TunedHouses$Told" "felt") ∈ lw_all := lw_g (lw_at lw_m2 215 rfl) rfl
theorem q554 : (Jvm.Cond.lays "TunedHouses$Told" "TunedHouses$Told" "clauses" "I") ∈ lw_all := lw_g (lw_at lw_m2 216 rfl) rfl
theorem q555 : (Jvm.Cond.soleField "TunedHouses$Told" "clauses") ∈ lw_all := lw_g (lw_at lw_m2 217 rfl) rfl
theorem q556 : (Jvm.Cond.superclass "TunedHouses$Told" "java/lang/Object") ∈ lw_all := lw_g (lw_at lw_m2 218 rfl) rfl
theorem q1117 : (Jvm.Cond.instanceMethod ({ cls := "TunedHouses$Told", name := "parts", desc := "(II)V" } : Jvm.MethodName)) ∈ lw_all := lw_g (lw_at lw_m5 59 rfl) rfl
theorem q1118 : (Jvm.Cond.selects "TunedHouses$Told" ({ cls := "TunedHouses$Told", name := "parts", desc := "(II)V" } : Jvm.MethodName) ({ cls := "TunedHouses$Told", name := "parts", desc := "(II)V" } : Jvm.MethodName)) ∈ lw_all := lw_g (lw_at lw_m5 60 rfl) rfl
theorem q1119 : (Jvm.Cond.code ({ cls := "TunedHouses$Told", name := "parts", desc := "(II)V" } : Jvm.MethodName) prog_25_method_2_code (3 : Nat) (Option.none : Option Jvm.ClassFile.FieldType)) ∈ lw_all := lw_g (lw_at lw_m5 61 rfl) rfl
theorem q1182 : (Jvm.Cond.selects "TunedHouses$Told" ({ cls := "java/lang/Object", name := "getClass", desc := "()Ljava/lang/Class;" } : Jvm.MethodName) ({ cls := "java/lang/Object", name := "getClass", desc := "()Ljava/lang/Class;" } : Jvm.MethodName)) ∈ lw_all := lw_g (lw_at lw_m5 124 rfl) rfl
theorem q2566 : (Jvm.Cond.castable "TunedHouses$Told" "java/lang/Object") ∈ lw_tbl := lw_at lw_m11 68 rfl
theorem in_X2 : ∀ w ∈ wsX20, w ∈ lw_all := lw_in wsX20 [536, 538, 540, 542, 544, 546, 548, 550, 552, 554] (by decide +kernel) (by decide +kernel)

/-! TunedHouses$Term -/
set_option maxRecDepth 100000
def RX3 : String := "TunedHouses$Term"
abbrev cX3_init : ByteArray := prog_21_method_1_code
def yX3_init : MethodName := ⟨RX3, "<init>", "()V"⟩
theorem dX3_init_0 : decode cX3_init 0 = .ok (.aload_n 0, 1) := by decide +kernel
theorem dX3_init_1 : decode cX3_init 1 = .ok (.invokespecial 1, 3) := by decide +kernel
theorem dX3_init_4 : decode cX3_init 4 = .ok (.return_, 1) := by decide +kernel
theorem q120 : (Jvm.Cond.initialized "TunedHouses$Term") ∈ lw_all := lw_g (lw_at lw_m1 22 rfl) rfl
theorem q568 : (Jvm.Cond.instanceMethod ({ cls := "TunedHouses$Term", name := "<init>", desc := "()V" } : Jvm.MethodName)) ∈ lw_all := lw_g (lw_at lw_m2 230 rfl) rfl
theorem q569 : (Jvm.Cond.code ({ cls := "TunedHouses$Term", name := "<init>", desc := "()V" } : Jvm.MethodName) prog_21_method_1_code (1 : Nat) (Option.none : Option Jvm.ClassFile.FieldType)) ∈ lw_all := lw_g (lw_at lw_m2 231 rfl) rfl
theorem q570 : (Jvm.Cond.methodLink "TunedHouses$Term" (1 : Nat) ({ cls := "java/lang/Object", name := "<init>", desc := "()V" } : Jvm.MethodName)) ∈ lw_all := lw_g (lw_at lw_m2 232 rfl) rfl
theorem q1555 : (Jvm.Cond.declares ({ cls := "TunedHouses$Term", name := "of", desc := "([I)I" } : Jvm.MethodName)) ∈ lw_tbl := lw_at lw_m7 17 rfl
theorem q1556 : (Jvm.Cond.sameMethod "TunedHouses$Term" "TunedHouses$Term" "of" "([I)I") ∈ lw_all := lw_g (lw_at lw_m7 18 rfl) rfl

/-! TunedHouses$Two -/
set_option maxRecDepth 100000
def RX4 : String := "TunedHouses$Two"
abbrev cX4_init : ByteArray := prog_26_method_1_code
def yX4_init : MethodName := ⟨RX4, "<init>", "(LTunedHouses$Term;LTunedHouses$Term;)V"⟩
def dkwX4_init_0 : List UInt8 := [42, 183, 0, 1, 42, 43, 181, 0, 7, 42, 44, 181, 0, 13, 177]
abbrev dktX4_init_0 : List UInt8 := dkwX4_init_0 ++ []
theorem dksX4_init_0 : cX4_init.data.toList.drop 0 = dktX4_init_0 := by decide +kernel
theorem dX4_init_0 : decode cX4_init 0 = .ok (.aload_n 0, 1) := dk_42 (dk_at dksX4_init_0 0 rfl rfl)
theorem dX4_init_1 : decode cX4_init 1 = .ok (.invokespecial 1, 3) := dk_183 0 1 (dk_at dksX4_init_0 1 rfl rfl)
theorem dX4_init_4 : decode cX4_init 4 = .ok (.aload_n 0, 1) := dk_42 (dk_at dksX4_init_0 4 rfl rfl)
theorem dX4_init_5 : decode cX4_init 5 = .ok (.aload_n 1, 1) := dk_43 (dk_at dksX4_init_0 5 rfl rfl)
theorem dX4_init_6 : decode cX4_init 6 = .ok (.putfield 7, 3) := dk_181 0 7 (dk_at dksX4_init_0 6 rfl rfl)
theorem dX4_init_9 : decode cX4_init 9 = .ok (.aload_n 0, 1) := dk_42 (dk_at dksX4_init_0 9 rfl rfl)
theorem dX4_init_10 : decode cX4_init 10 = .ok (.aload_n 2, 1) := dk_44 (dk_at dksX4_init_0 10 rfl rfl)
theorem dX4_init_11 : decode cX4_init 11 = .ok (.putfield 13, 3) := dk_181 0 13 (dk_at dksX4_init_0 11 rfl rfl)
theorem dX4_init_14 : decode cX4_init 14 = .ok (.return_, 1) := dk_177 (dk_at dksX4_init_0 14 rfl rfl)
abbrev cX4_of : ByteArray := prog_26_method_3_code
def yX4_of : MethodName := ⟨RX4, "of", "([I)I"⟩
def dkwX4_of_0 : List UInt8 := [42, 42, 180, 0, 7, 43, 182, 0, 16, 42, 180, 0, 13, 43, 182, 0, 16, 182, 0, 20, 172]
abbrev dktX4_of_0 : List UInt8 := dkwX4_of_0 ++ []
theorem dksX4_of_0 : cX4_of.data.toList.drop 0 = dktX4_of_0 := by decide +kernel
theorem dX4_of_0 : decode cX4_of 0 = .ok (.aload_n 0, 1) := dk_42 (dk_at dksX4_of_0 0 rfl rfl)
theorem dX4_of_1 : decode cX4_of 1 = .ok (.aload_n 0, 1) := dk_42 (dk_at dksX4_of_0 1 rfl rfl)
theorem dX4_of_2 : decode cX4_of 2 = .ok (.getfield 7, 3) := dk_180 0 7 (dk_at dksX4_of_0 2 rfl rfl)
theorem dX4_of_5 : decode cX4_of 5 = .ok (.aload_n 1, 1) := dk_43 (dk_at dksX4_of_0 5 rfl rfl)
theorem dX4_of_6 : decode cX4_of 6 = .ok (.invokevirtual 16, 3) := dk_182 0 16 (dk_at dksX4_of_0 6 rfl rfl)
theorem dX4_of_9 : decode cX4_of 9 = .ok (.aload_n 0, 1) := dk_42 (dk_at dksX4_of_0 9 rfl rfl)
theorem dX4_of_10 : decode cX4_of 10 = .ok (.getfield 13, 3) := dk_180 0 13 (dk_at dksX4_of_0 10 rfl rfl)
theorem dX4_of_13 : decode cX4_of 13 = .ok (.aload_n 1, 1) := dk_43 (dk_at dksX4_of_0 13 rfl rfl)
theorem dX4_of_14 : decode cX4_of 14 = .ok (.invokevirtual 16, 3) := dk_182 0 16 (dk_at dksX4_of_0 14 rfl rfl)
theorem dX4_of_17 : decode cX4_of 17 = .ok (.invokevirtual 20, 3) := dk_182 0 20 (dk_at dksX4_of_0 17 rfl rfl)
theorem dX4_of_20 : decode cX4_of 20 = .ok (.ireturn, 1) := dk_172 (dk_at dksX4_of_0 20 rfl rfl)
theorem q121 : (Jvm.Cond.initialized "TunedHouses$Two") ∈ lw_all := lw_g (lw_at lw_m1 23 rfl) rfl
theorem q579 : (Jvm.Cond.instanceMethod ({ cls := "TunedHouses$Two", name := "<init>", desc := "(LTunedHouses$Term;LTunedHouses$Term;)V" } : Jvm.MethodName)) ∈ lw_all := lw_g (lw_at lw_m3 1 rfl) rfl
theorem q580 : (Jvm.Cond.code ({ cls := "TunedHouses$Two", name := "<init>", desc := "(LTunedHouses$Term;LTunedHouses$Term;)V" } : Jvm.MethodName) prog_26_method_1_code (3 : Nat) (Option.none : Option Jvm.ClassFile.FieldType)) ∈ lw_all := lw_g (lw_at lw_m3 2 rfl) rfl
theorem q581 : (Jvm.Cond.methodLinkNest "TunedHouses$Two" (1 : Nat) ({ cls := "TunedHouses$Term", name := "<init>", desc := "()V" } : Jvm.MethodName) "TunedHouses") ∈ lw_tbl := lw_at lw_m3 3 rfl
theorem q582 : (Jvm.Cond.fieldLink "TunedHouses$Two" (7 : Nat) "TunedHouses$Two" "a" "LTunedHouses$Term;") ∈ lw_all := lw_g (lw_at lw_m3 4 rfl) rfl
theorem q583 : (Jvm.Cond.fieldLink "TunedHouses$Two" (13 : Nat) "TunedHouses$Two" "b" "LTunedHouses$Term;") ∈ lw_all := lw_g (lw_at lw_m3 5 rfl) rfl
theorem q585 : (Jvm.Cond.soleField "TunedHouses$Two" "a") ∈ lw_all := lw_g (lw_at lw_m3 7 rfl) rfl
theorem q587 : (Jvm.Cond.soleField "TunedHouses$Two" "b") ∈ lw_all := lw_g (lw_at lw_m3 9 rfl) rfl
theorem q1558 : (Jvm.Cond.instanceMethod ({ cls := "TunedHouses$Two", name := "of", desc := "([I)I" } : Jvm.MethodName)) ∈ lw_all := lw_g (lw_at lw_m7 20 rfl) rfl
theorem q1559 : (Jvm.Cond.code ({ cls := "TunedHouses$Two", name := "of", desc := "([I)I" } : Jvm.MethodName) prog_26_method_3_code (2 : Nat) (Option.some Jvm.ClassFile.FieldType.int)) ∈ lw_all := lw_g (lw_at lw_m7 21 rfl) rfl
theorem q1560 : (Jvm.Cond.methodLink "TunedHouses$Two" (16 : Nat) ({ cls := "TunedHouses$Term", name := "of", desc := "([I)I" } : Jvm.MethodName)) ∈ lw_all := lw_g (lw_at lw_m7 22 rfl) rfl
theorem q1565 : (Jvm.Cond.methodLink "TunedHouses$Two" (20 : Nat) ({ cls := "TunedHouses$Two", name := "with", desc := "(II)I" } : Jvm.MethodName)) ∈ lw_all := lw_g (lw_at lw_m7 27 rfl) rfl
theorem q1566 : (Jvm.Cond.declares ({ cls := "TunedHouses$Two", name := "with", desc := "(II)I" } : Jvm.MethodName)) ∈ lw_tbl := lw_at lw_m7 28 rfl
theorem q1567 : (Jvm.Cond.sameMethod "TunedHouses$Two" "TunedHouses$Two" "with" "(II)I") ∈ lw_all := lw_g (lw_at lw_m7 29 rfl) rfl

/-! TunedHouses$Minus -/
set_option maxRecDepth 100000
def RX5 : String := "TunedHouses$Minus"
def TX5 : u_T := fun k => match k with
  | 0 => ("TunedHouses$Two", "a", "LTunedHouses$Term;", true)
  | _ => ("TunedHouses$Two", "b", "LTunedHouses$Term;", true)
def tyX5 : Nat → FieldType := fun k => match k with
  | 0 => .object "TunedHouses$Term"
  | _ => .object "TunedHouses$Term"
abbrev wsX50 : List Cond := u_ws RX5 TX5 2
theorem nmX5 : ∀ a, a < 2 → ∀ b, b < 2 → a ≠ b → (TX5 a).2.1 ≠ (TX5 b).2.1 := by decide +kernel
theorem tyX5_ok : ∀ k, k < 2 → parseFieldDescriptor (TX5 k).2.2.1 = some (tyX5 k) := by decide +kernel
abbrev cX5_init : ByteArray := prog_11_method_1_code
def yX5_init : MethodName := ⟨RX5, "<init>", "(LTunedHouses$Term;LTunedHouses$Term;)V"⟩
def dkwX5_init_0 : List UInt8 := [42, 43, 44, 183, 0, 1, 177]
abbrev dktX5_init_0 : List UInt8 := dkwX5_init_0 ++ []
theorem dksX5_init_0 : cX5_init.data.toList.drop 0 = dktX5_init_0 := by decide +kernel
theorem dX5_init_0 : decode cX5_init 0 = .ok (.aload_n 0, 1) := dk_42 (dk_at dksX5_init_0 0 rfl rfl)
theorem dX5_init_1 : decode cX5_init 1 = .ok (.aload_n 1, 1) := dk_43 (dk_at dksX5_init_0 1 rfl rfl)
theorem dX5_init_2 : decode cX5_init 2 = .ok (.aload_n 2, 1) := dk_44 (dk_at dksX5_init_0 2 rfl rfl)
theorem dX5_init_3 : decode cX5_init 3 = .ok (.invokespecial 1, 3) := dk_183 0 1 (dk_at dksX5_init_0 3 rfl rfl)
theorem dX5_init_6 : decode cX5_init 6 = .ok (.return_, 1) := dk_177 (dk_at dksX5_init_0 6 rfl rfl)
abbrev cX5_with : ByteArray := prog_11_method_2_code
def yX5_with : MethodName := ⟨RX5, "with", "(II)I"⟩
def dkwX5_with_0 : List UInt8 := [27, 28, 100, 172]
abbrev dktX5_with_0 : List UInt8 := dkwX5_with_0 ++ []
theorem dksX5_with_0 : cX5_with.data.toList.drop 0 = dktX5_with_0 := by decide +kernel
theorem dX5_with_0 : decode cX5_with 0 = .ok (.iload_n 1, 1) := dk_27 (dk_at dksX5_with_0 0 rfl rfl)
theorem dX5_with_1 : decode cX5_with 1 = .ok (.iload_n 2, 1) := dk_28 (dk_at dksX5_with_0 1 rfl rfl)
theorem dX5_with_2 : decode cX5_with 2 = .ok (.isub, 1) := dk_100 (dk_at dksX5_with_0 2 rfl rfl)
theorem dX5_with_3 : decode cX5_with 3 = .ok (.ireturn, 1) := dk_172 (dk_at dksX5_with_0 3 rfl rfl)
theorem q122 : (Jvm.Cond.initialized "TunedHouses$Minus") ∈ lw_all := lw_g (lw_at lw_m1 24 rfl) rfl
theorem q561 : (Jvm.Cond.instantiable "TunedHouses$Minus" (2 : Nat)) ∈ lw_all := lw_g (lw_at lw_m2 223 rfl) rfl
theorem q576 : (Jvm.Cond.instanceMethod ({ cls := "TunedHouses$Minus", name := "<init>", desc := "(LTunedHouses$Term;LTunedHouses$Term;)V" } : Jvm.MethodName)) ∈ lw_all := lw_g (lw_at lw_m2 238 rfl) rfl
theorem q577 : (Jvm.Cond.code ({ cls := "TunedHouses$Minus", name := "<init>", desc := "(LTunedHouses$Term;LTunedHouses$Term;)V" } : Jvm.MethodName) prog_11_method_1_code (3 : Nat) (Option.none : Option Jvm.ClassFile.FieldType)) ∈ lw_all := lw_g (lw_at lw_m2 239 rfl) rfl
theorem q578 : (Jvm.Cond.methodLink "TunedHouses$Minus" (1 : Nat) ({ cls := "TunedHouses$Two", name := "<init>", desc := "(LTunedHouses$Term;LTunedHouses$Term;)V" } : Jvm.MethodName)) ∈ lw_all := lw_g (lw_at lw_m3 0 rfl) rfl
theorem q584 : (Jvm.Cond.laysFinal "TunedHouses$Minus" "TunedHouses$Two" "a" "LTunedHouses$Term;") ∈ lw_all := lw_g (lw_at lw_m3 6 rfl) rfl
theorem q586 : (Jvm.Cond.laysFinal "TunedHouses$Minus" "TunedHouses$Two" "b" "LTunedHouses$Term;") ∈ lw_all := lw_g (lw_at lw_m3 8 rfl) rfl
theorem q588 : (Jvm.Cond.superclass "TunedHouses$Minus" "TunedHouses$Two") ∈ lw_all := lw_g (lw_at lw_m3 10 rfl) rfl
theorem q1171 : (Jvm.Cond.selects "TunedHouses$Minus" ({ cls := "java/lang/Object", name := "getClass", desc := "()Ljava/lang/Class;" } : Jvm.MethodName) ({ cls := "java/lang/Object", name := "getClass", desc := "()Ljava/lang/Class;" } : Jvm.MethodName)) ∈ lw_all := lw_g (lw_at lw_m5 113 rfl) rfl
theorem q1578 : (Jvm.Cond.selects "TunedHouses$Minus" ({ cls := "TunedHouses$Two", name := "with", desc := "(II)I" } : Jvm.MethodName) ({ cls := "TunedHouses$Minus", name := "with", desc := "(II)I" } : Jvm.MethodName)) ∈ lw_all := lw_g (lw_at lw_m7 40 rfl) rfl
theorem q1579 : (Jvm.Cond.instanceMethod ({ cls := "TunedHouses$Minus", name := "with", desc := "(II)I" } : Jvm.MethodName)) ∈ lw_all := lw_g (lw_at lw_m7 41 rfl) rfl
theorem q1580 : (Jvm.Cond.code ({ cls := "TunedHouses$Minus", name := "with", desc := "(II)I" } : Jvm.MethodName) prog_11_method_2_code (3 : Nat) (Option.some Jvm.ClassFile.FieldType.int)) ∈ lw_all := lw_g (lw_at lw_m7 42 rfl) rfl
theorem q1594 : (Jvm.Cond.selects "TunedHouses$Minus" ({ cls := "TunedHouses$Term", name := "of", desc := "([I)I" } : Jvm.MethodName) ({ cls := "TunedHouses$Two", name := "of", desc := "([I)I" } : Jvm.MethodName)) ∈ lw_all := lw_g (lw_at lw_m7 56 rfl) rfl
theorem q2571 : (Jvm.Cond.castable "TunedHouses$Minus" "java/lang/Object") ∈ lw_tbl := lw_at lw_m11 73 rfl
theorem in_X5 : ∀ w ∈ wsX50, w ∈ lw_all := lw_in wsX50 [584, 586] (by decide +kernel) (by decide +kernel)

/-! TunedHouses$Fact -/
set_option maxRecDepth 100000
def RX6 : String := "TunedHouses$Fact"
def TX6 : u_T := fun k => match k with
  | _ => ("TunedHouses$Fact", "which", "I", true)
def tyX6 : Nat → FieldType := fun k => match k with
  | _ => .int
abbrev wsX60 : List Cond := u_ws RX6 TX6 1
theorem nmX6 : ∀ a, a < 1 → ∀ b, b < 1 → a ≠ b → (TX6 a).2.1 ≠ (TX6 b).2.1 := by decide +kernel
theorem tyX6_ok : ∀ k, k < 1 → parseFieldDescriptor (TX6 k).2.2.1 = some (tyX6 k) := by decide +kernel
abbrev cX6_init : ByteArray := prog_6_method_1_code
def yX6_init : MethodName := ⟨RX6, "<init>", "(I)V"⟩
def dkwX6_init_0 : List UInt8 := [42, 183, 0, 1, 42, 27, 181, 0, 7, 177]
abbrev dktX6_init_0 : List UInt8 := dkwX6_init_0 ++ []
theorem dksX6_init_0 : cX6_init.data.toList.drop 0 = dktX6_init_0 := by decide +kernel
theorem dX6_init_0 : decode cX6_init 0 = .ok (.aload_n 0, 1) := dk_42 (dk_at dksX6_init_0 0 rfl rfl)
theorem dX6_init_1 : decode cX6_init 1 = .ok (.invokespecial 1, 3) := dk_183 0 1 (dk_at dksX6_init_0 1 rfl rfl)
theorem dX6_init_4 : decode cX6_init 4 = .ok (.aload_n 0, 1) := dk_42 (dk_at dksX6_init_0 4 rfl rfl)
theorem dX6_init_5 : decode cX6_init 5 = .ok (.iload_n 1, 1) := dk_27 (dk_at dksX6_init_0 5 rfl rfl)
theorem dX6_init_6 : decode cX6_init 6 = .ok (.putfield 7, 3) := dk_181 0 7 (dk_at dksX6_init_0 6 rfl rfl)
theorem dX6_init_9 : decode cX6_init 9 = .ok (.return_, 1) := dk_177 (dk_at dksX6_init_0 9 rfl rfl)
abbrev cX6_of : ByteArray := prog_6_method_2_code
def yX6_of : MethodName := ⟨RX6, "of", "([I)I"⟩
def dkwX6_of_0 : List UInt8 := [43, 42, 180, 0, 7, 46, 172]
abbrev dktX6_of_0 : List UInt8 := dkwX6_of_0 ++ []
theorem dksX6_of_0 : cX6_of.data.toList.drop 0 = dktX6_of_0 := by decide +kernel
theorem dX6_of_0 : decode cX6_of 0 = .ok (.aload_n 1, 1) := dk_43 (dk_at dksX6_of_0 0 rfl rfl)
theorem dX6_of_1 : decode cX6_of 1 = .ok (.aload_n 0, 1) := dk_42 (dk_at dksX6_of_0 1 rfl rfl)
theorem dX6_of_2 : decode cX6_of 2 = .ok (.getfield 7, 3) := dk_180 0 7 (dk_at dksX6_of_0 2 rfl rfl)
theorem dX6_of_5 : decode cX6_of 5 = .ok (.iaload, 1) := dk_46 (dk_at dksX6_of_0 5 rfl rfl)
theorem dX6_of_6 : decode cX6_of 6 = .ok (.ireturn, 1) := dk_172 (dk_at dksX6_of_0 6 rfl rfl)
theorem q123 : (Jvm.Cond.initialized "TunedHouses$Fact") ∈ lw_all := lw_g (lw_at lw_m1 25 rfl) rfl
theorem q563 : (Jvm.Cond.instantiable "TunedHouses$Fact" (1 : Nat)) ∈ lw_all := lw_g (lw_at lw_m2 225 rfl) rfl
theorem q565 : (Jvm.Cond.instanceMethod ({ cls := "TunedHouses$Fact", name := "<init>", desc := "(I)V" } : Jvm.MethodName)) ∈ lw_all := lw_g (lw_at lw_m2 227 rfl) rfl
theorem q566 : (Jvm.Cond.code ({ cls := "TunedHouses$Fact", name := "<init>", desc := "(I)V" } : Jvm.MethodName) prog_6_method_1_code (2 : Nat) (Option.none : Option Jvm.ClassFile.FieldType)) ∈ lw_all := lw_g (lw_at lw_m2 228 rfl) rfl
theorem q567 : (Jvm.Cond.methodLinkNest "TunedHouses$Fact" (1 : Nat) ({ cls := "TunedHouses$Term", name := "<init>", desc := "()V" } : Jvm.MethodName) "TunedHouses") ∈ lw_tbl := lw_at lw_m2 229 rfl
theorem q571 : (Jvm.Cond.fieldLink "TunedHouses$Fact" (7 : Nat) "TunedHouses$Fact" "which" "I") ∈ lw_all := lw_g (lw_at lw_m2 233 rfl) rfl
theorem q572 : (Jvm.Cond.laysFinal "TunedHouses$Fact" "TunedHouses$Fact" "which" "I") ∈ lw_all := lw_g (lw_at lw_m2 234 rfl) rfl
theorem q573 : (Jvm.Cond.soleField "TunedHouses$Fact" "which") ∈ lw_all := lw_g (lw_at lw_m2 235 rfl) rfl
theorem q574 : (Jvm.Cond.superclass "TunedHouses$Fact" "TunedHouses$Term") ∈ lw_all := lw_g (lw_at lw_m2 236 rfl) rfl
theorem q1166 : (Jvm.Cond.selects "TunedHouses$Fact" ({ cls := "java/lang/Object", name := "getClass", desc := "()Ljava/lang/Class;" } : Jvm.MethodName) ({ cls := "java/lang/Object", name := "getClass", desc := "()Ljava/lang/Class;" } : Jvm.MethodName)) ∈ lw_all := lw_g (lw_at lw_m5 108 rfl) rfl
theorem q1561 : (Jvm.Cond.instanceMethod ({ cls := "TunedHouses$Fact", name := "of", desc := "([I)I" } : Jvm.MethodName)) ∈ lw_all := lw_g (lw_at lw_m7 23 rfl) rfl
theorem q1562 : (Jvm.Cond.code ({ cls := "TunedHouses$Fact", name := "of", desc := "([I)I" } : Jvm.MethodName) prog_6_method_2_code (2 : Nat) (Option.some Jvm.ClassFile.FieldType.int)) ∈ lw_all := lw_g (lw_at lw_m7 24 rfl) rfl
theorem q1591 : (Jvm.Cond.selects "TunedHouses$Fact" ({ cls := "TunedHouses$Term", name := "of", desc := "([I)I" } : Jvm.MethodName) ({ cls := "TunedHouses$Fact", name := "of", desc := "([I)I" } : Jvm.MethodName)) ∈ lw_all := lw_g (lw_at lw_m7 53 rfl) rfl
theorem q2572 : (Jvm.Cond.castable "TunedHouses$Fact" "java/lang/Object") ∈ lw_tbl := lw_at lw_m11 74 rfl
theorem in_X6 : ∀ w ∈ wsX60, w ∈ lw_all := lw_in wsX60 [572] (by decide +kernel) (by decide +kernel)

/-! TunedHouses$Terrace -/
set_option maxRecDepth 100000
def RX7 : String := "TunedHouses$Terrace"
def TX7 : u_T := fun k => match k with
  | 0 => ("TunedHouses$Terrace", "at", "[I", true)
  | 1 => ("TunedHouses$Terrace", "felt", "[I", true)
  | 2 => ("TunedHouses$Terrace", "days", "[I", true)
  | 3 => ("TunedHouses$Terrace", "there", "[I", true)
  | 4 => ("TunedHouses$Terrace", "more", "[I", true)
  | 5 => ("TunedHouses$Terrace", "left", "I", false)
  | 6 => ("TunedHouses$Terrace", "day", "I", false)
  | 7 => ("TunedHouses$Terrace", "steps", "I", false)
  | 8 => ("TunedHouses$Terrace", "done", "I", false)
  | 9 => ("TunedHouses$Terrace", "refused", "I", false)
  | _ => ("TunedHouses$Terrace", "this$0", "LTunedHouses;", true)
def tyX7 : Nat → FieldType := fun k => match k with
  | 0 => .array .int
  | 1 => .array .int
  | 2 => .array .int
  | 3 => .array .int
  | 4 => .array .int
  | 5 => .int
  | 6 => .int
  | 7 => .int
  | 8 => .int
  | 9 => .int
  | _ => .object "TunedHouses"
abbrev wsX70 : List Cond := u_ws RX7 TX7 11
theorem nmX7 : ∀ a, a < 11 → ∀ b, b < 11 → a ≠ b → (TX7 a).2.1 ≠ (TX7 b).2.1 := by decide +kernel
theorem tyX7_ok : ∀ k, k < 11 → parseFieldDescriptor (TX7 k).2.2.1 = some (tyX7 k) := by decide +kernel
abbrev cX7_init : ByteArray := prog_22_method_1_code
def yX7_init : MethodName := ⟨RX7, "<init>", "(LTunedHouses;)V"⟩
def dkwX7_init_2 : List UInt8 := [181, 0, 28, 177]
abbrev dktX7_init_2 : List UInt8 := dkwX7_init_2 ++ []
def dkwX7_init_1 : List UInt8 := [181, 0, 19, 42, 16, 6, 188, 10, 181, 0, 22, 42, 16, 80, 188, 10, 181, 0, 25, 42, 16, 6, 188, 10]
abbrev dktX7_init_1 : List UInt8 := dkwX7_init_1 ++ dktX7_init_2
def dkwX7_init_0 : List UInt8 := [42, 43, 181, 0, 3, 42, 183, 0, 9, 42, 16, 6, 188, 10, 181, 0, 15, 42, 16, 6, 188, 10]
abbrev dktX7_init_0 : List UInt8 := dkwX7_init_0 ++ dktX7_init_1
theorem dksX7_init_0 : cX7_init.data.toList.drop 0 = dktX7_init_0 := by decide +kernel
theorem dksX7_init_1 : cX7_init.data.toList.drop 22 = dktX7_init_1 := dk_seg dksX7_init_0 22 rfl rfl
theorem dksX7_init_2 : cX7_init.data.toList.drop 46 = dktX7_init_2 := dk_seg dksX7_init_1 24 rfl rfl
theorem dX7_init_0 : decode cX7_init 0 = .ok (.aload_n 0, 1) := dk_42 (dk_at dksX7_init_0 0 rfl rfl)
theorem dX7_init_1 : decode cX7_init 1 = .ok (.aload_n 1, 1) := dk_43 (dk_at dksX7_init_0 1 rfl rfl)
theorem dX7_init_2 : decode cX7_init 2 = .ok (.putfield 3, 3) := dk_181 0 3 (dk_at dksX7_init_0 2 rfl rfl)
theorem dX7_init_5 : decode cX7_init 5 = .ok (.aload_n 0, 1) := dk_42 (dk_at dksX7_init_0 5 rfl rfl)
theorem dX7_init_6 : decode cX7_init 6 = .ok (.invokespecial 9, 3) := dk_183 0 9 (dk_at dksX7_init_0 6 rfl rfl)
theorem dX7_init_9 : decode cX7_init 9 = .ok (.aload_n 0, 1) := dk_42 (dk_at dksX7_init_0 9 rfl rfl)
theorem dX7_init_10 : decode cX7_init 10 = .ok (.bipush 6, 2) := dk_16 6 (dk_at dksX7_init_0 10 rfl rfl)
theorem dX7_init_12 : decode cX7_init 12 = .ok (.newarray .int, 2) := dk_188_10 (dk_at dksX7_init_0 12 rfl rfl)
theorem dX7_init_14 : decode cX7_init 14 = .ok (.putfield 15, 3) := dk_181 0 15 (dk_at dksX7_init_0 14 rfl rfl)
theorem dX7_init_17 : decode cX7_init 17 = .ok (.aload_n 0, 1) := dk_42 (dk_at dksX7_init_0 17 rfl rfl)
theorem dX7_init_18 : decode cX7_init 18 = .ok (.bipush 6, 2) := dk_16 6 (dk_at dksX7_init_0 18 rfl rfl)
theorem dX7_init_20 : decode cX7_init 20 = .ok (.newarray .int, 2) := dk_188_10 (dk_at dksX7_init_0 20 rfl rfl)
theorem dX7_init_22 : decode cX7_init 22 = .ok (.putfield 19, 3) := dk_181 0 19 (dk_at dksX7_init_1 0 rfl rfl)
theorem dX7_init_25 : decode cX7_init 25 = .ok (.aload_n 0, 1) := dk_42 (dk_at dksX7_init_1 3 rfl rfl)
theorem dX7_init_26 : decode cX7_init 26 = .ok (.bipush 6, 2) := dk_16 6 (dk_at dksX7_init_1 4 rfl rfl)
theorem dX7_init_28 : decode cX7_init 28 = .ok (.newarray .int, 2) := dk_188_10 (dk_at dksX7_init_1 6 rfl rfl)
theorem dX7_init_30 : decode cX7_init 30 = .ok (.putfield 22, 3) := dk_181 0 22 (dk_at dksX7_init_1 8 rfl rfl)
theorem dX7_init_33 : decode cX7_init 33 = .ok (.aload_n 0, 1) := dk_42 (dk_at dksX7_init_1 11 rfl rfl)
theorem dX7_init_34 : decode cX7_init 34 = .ok (.bipush 80, 2) := dk_16 80 (dk_at dksX7_init_1 12 rfl rfl)
theorem dX7_init_36 : decode cX7_init 36 = .ok (.newarray .int, 2) := dk_188_10 (dk_at dksX7_init_1 14 rfl rfl)
theorem dX7_init_38 : decode cX7_init 38 = .ok (.putfield 25, 3) := dk_181 0 25 (dk_at dksX7_init_1 16 rfl rfl)
theorem dX7_init_41 : decode cX7_init 41 = .ok (.aload_n 0, 1) := dk_42 (dk_at dksX7_init_1 19 rfl rfl)
theorem dX7_init_42 : decode cX7_init 42 = .ok (.bipush 6, 2) := dk_16 6 (dk_at dksX7_init_1 20 rfl rfl)
theorem dX7_init_44 : decode cX7_init 44 = .ok (.newarray .int, 2) := dk_188_10 (dk_at dksX7_init_1 22 rfl rfl)
theorem dX7_init_46 : decode cX7_init 46 = .ok (.putfield 28, 3) := dk_181 0 28 (dk_at dksX7_init_2 0 rfl rfl)
theorem dX7_init_49 : decode cX7_init 49 = .ok (.return_, 1) := dk_177 (dk_at dksX7_init_2 3 rfl rfl)
abbrev cX7_begins : ByteArray := prog_22_method_2_code
def yX7_begins : MethodName := ⟨RX7, "begins", "()LTunedHouses$Terrace;"⟩
def dkwX7_begins_5 : List UInt8 := [3, 181, 0, 49, 42, 176]
abbrev dktX7_begins_5 : List UInt8 := dkwX7_begins_5 ++ []
def dkwX7_begins_4 : List UInt8 := [16, 50, 79, 132, 1, 1, 167, 255, 215, 42, 42, 180, 0, 3, 180, 0, 31, 180, 0, 44, 181, 0, 46, 42]
abbrev dktX7_begins_4 : List UInt8 := dkwX7_begins_4 ++ dktX7_begins_5
def dkwX7_begins_3 : List UInt8 := [162, 0, 33, 42, 180, 0, 25, 16, 10, 27, 104, 42, 180, 0, 3, 180, 0, 31, 180, 0, 41, 27, 46, 96]
abbrev dktX7_begins_3 : List UInt8 := dkwX7_begins_3 ++ dktX7_begins_4
def dkwX7_begins_2 : List UInt8 := [27, 3, 79, 132, 1, 1, 167, 255, 240, 3, 60, 27, 42, 180, 0, 3, 180, 0, 31, 180, 0, 35]
abbrev dktX7_begins_2 : List UInt8 := dkwX7_begins_2 ++ dktX7_begins_3
def dkwX7_begins_1 : List UInt8 := [180, 0, 22, 27, 3, 79, 132, 1, 1, 167, 255, 226, 3, 60, 27, 16, 80, 162, 0, 16, 42, 180, 0, 25]
abbrev dktX7_begins_1 : List UInt8 := dkwX7_begins_1 ++ dktX7_begins_2
def dkwX7_begins_0 : List UInt8 := [3, 60, 27, 16, 6, 162, 0, 30, 42, 180, 0, 15, 27, 2, 79, 42, 180, 0, 19, 27, 3, 79, 42]
abbrev dktX7_begins_0 : List UInt8 := dkwX7_begins_0 ++ dktX7_begins_1
theorem dksX7_begins_0 : cX7_begins.data.toList.drop 0 = dktX7_begins_0 := by decide +kernel
theorem dksX7_begins_1 : cX7_begins.data.toList.drop 23 = dktX7_begins_1 := dk_seg dksX7_begins_0 23 rfl rfl
theorem dksX7_begins_2 : cX7_begins.data.toList.drop 47 = dktX7_begins_2 := dk_seg dksX7_begins_1 24 rfl rfl
theorem dksX7_begins_3 : cX7_begins.data.toList.drop 69 = dktX7_begins_3 := dk_seg dksX7_begins_2 22 rfl rfl
theorem dksX7_begins_4 : cX7_begins.data.toList.drop 93 = dktX7_begins_4 := dk_seg dksX7_begins_3 24 rfl rfl
theorem dksX7_begins_5 : cX7_begins.data.toList.drop 117 = dktX7_begins_5 := dk_seg dksX7_begins_4 24 rfl rfl
theorem dX7_begins_0 : decode cX7_begins 0 = .ok (.iconst 0, 1) := dk_3 (dk_at dksX7_begins_0 0 rfl rfl)
theorem dX7_begins_1 : decode cX7_begins 1 = .ok (.istore_n 1, 1) := dk_60 (dk_at dksX7_begins_0 1 rfl rfl)
theorem dX7_begins_2 : decode cX7_begins 2 = .ok (.iload_n 1, 1) := dk_27 (dk_at dksX7_begins_0 2 rfl rfl)
theorem dX7_begins_3 : decode cX7_begins 3 = .ok (.bipush 6, 2) := dk_16 6 (dk_at dksX7_begins_0 3 rfl rfl)
theorem dX7_begins_5 : decode cX7_begins 5 = .ok (.if_icmp .ge 30, 3) := dk_162 0 30 (dk_at dksX7_begins_0 5 rfl rfl)
theorem dX7_begins_8 : decode cX7_begins 8 = .ok (.aload_n 0, 1) := dk_42 (dk_at dksX7_begins_0 8 rfl rfl)
theorem dX7_begins_9 : decode cX7_begins 9 = .ok (.getfield 15, 3) := dk_180 0 15 (dk_at dksX7_begins_0 9 rfl rfl)
theorem dX7_begins_12 : decode cX7_begins 12 = .ok (.iload_n 1, 1) := dk_27 (dk_at dksX7_begins_0 12 rfl rfl)
theorem dX7_begins_13 : decode cX7_begins 13 = .ok (.iconst (-1), 1) := dk_2 (dk_at dksX7_begins_0 13 rfl rfl)
theorem dX7_begins_14 : decode cX7_begins 14 = .ok (.iastore, 1) := dk_79 (dk_at dksX7_begins_0 14 rfl rfl)
theorem dX7_begins_15 : decode cX7_begins 15 = .ok (.aload_n 0, 1) := dk_42 (dk_at dksX7_begins_0 15 rfl rfl)
theorem dX7_begins_16 : decode cX7_begins 16 = .ok (.getfield 19, 3) := dk_180 0 19 (dk_at dksX7_begins_0 16 rfl rfl)
theorem dX7_begins_19 : decode cX7_begins 19 = .ok (.iload_n 1, 1) := dk_27 (dk_at dksX7_begins_0 19 rfl rfl)
theorem dX7_begins_20 : decode cX7_begins 20 = .ok (.iconst 0, 1) := dk_3 (dk_at dksX7_begins_0 20 rfl rfl)
theorem dX7_begins_21 : decode cX7_begins 21 = .ok (.iastore, 1) := dk_79 (dk_at dksX7_begins_0 21 rfl rfl)
theorem dX7_begins_22 : decode cX7_begins 22 = .ok (.aload_n 0, 1) := dk_42 (dk_at dksX7_begins_0 22 rfl rfl)
theorem dX7_begins_23 : decode cX7_begins 23 = .ok (.getfield 22, 3) := dk_180 0 22 (dk_at dksX7_begins_1 0 rfl rfl)
theorem dX7_begins_26 : decode cX7_begins 26 = .ok (.iload_n 1, 1) := dk_27 (dk_at dksX7_begins_1 3 rfl rfl)
theorem dX7_begins_27 : decode cX7_begins 27 = .ok (.iconst 0, 1) := dk_3 (dk_at dksX7_begins_1 4 rfl rfl)
theorem dX7_begins_28 : decode cX7_begins 28 = .ok (.iastore, 1) := dk_79 (dk_at dksX7_begins_1 5 rfl rfl)
theorem dX7_begins_29 : decode cX7_begins 29 = .ok (.iinc 1 1, 3) := dk_132 1 1 (dk_at dksX7_begins_1 6 rfl rfl)
theorem dX7_begins_32 : decode cX7_begins 32 = .ok (.goto (-30), 3) := dk_167 255 226 (dk_at dksX7_begins_1 9 rfl rfl)
theorem dX7_begins_35 : decode cX7_begins 35 = .ok (.iconst 0, 1) := dk_3 (dk_at dksX7_begins_1 12 rfl rfl)
theorem dX7_begins_36 : decode cX7_begins 36 = .ok (.istore_n 1, 1) := dk_60 (dk_at dksX7_begins_1 13 rfl rfl)
theorem dX7_begins_37 : decode cX7_begins 37 = .ok (.iload_n 1, 1) := dk_27 (dk_at dksX7_begins_1 14 rfl rfl)
theorem dX7_begins_38 : decode cX7_begins 38 = .ok (.bipush 80, 2) := dk_16 80 (dk_at dksX7_begins_1 15 rfl rfl)
theorem dX7_begins_40 : decode cX7_begins 40 = .ok (.if_icmp .ge 16, 3) := dk_162 0 16 (dk_at dksX7_begins_1 17 rfl rfl)
theorem dX7_begins_43 : decode cX7_begins 43 = .ok (.aload_n 0, 1) := dk_42 (dk_at dksX7_begins_1 20 rfl rfl)
theorem dX7_begins_44 : decode cX7_begins 44 = .ok (.getfield 25, 3) := dk_180 0 25 (dk_at dksX7_begins_1 21 rfl rfl)
theorem dX7_begins_47 : decode cX7_begins 47 = .ok (.iload_n 1, 1) := dk_27 (dk_at dksX7_begins_2 0 rfl rfl)
theorem dX7_begins_48 : decode cX7_begins 48 = .ok (.iconst 0, 1) := dk_3 (dk_at dksX7_begins_2 1 rfl rfl)
theorem dX7_begins_49 : decode cX7_begins 49 = .ok (.iastore, 1) := dk_79 (dk_at dksX7_begins_2 2 rfl rfl)
theorem dX7_begins_50 : decode cX7_begins 50 = .ok (.iinc 1 1, 3) := dk_132 1 1 (dk_at dksX7_begins_2 3 rfl rfl)
theorem dX7_begins_53 : decode cX7_begins 53 = .ok (.goto (-16), 3) := dk_167 255 240 (dk_at dksX7_begins_2 6 rfl rfl)
theorem dX7_begins_56 : decode cX7_begins 56 = .ok (.iconst 0, 1) := dk_3 (dk_at dksX7_begins_2 9 rfl rfl)
theorem dX7_begins_57 : decode cX7_begins 57 = .ok (.istore_n 1, 1) := dk_60 (dk_at dksX7_begins_2 10 rfl rfl)
theorem dX7_begins_58 : decode cX7_begins 58 = .ok (.iload_n 1, 1) := dk_27 (dk_at dksX7_begins_2 11 rfl rfl)
theorem dX7_begins_59 : decode cX7_begins 59 = .ok (.aload_n 0, 1) := dk_42 (dk_at dksX7_begins_2 12 rfl rfl)
theorem dX7_begins_60 : decode cX7_begins 60 = .ok (.getfield 3, 3) := dk_180 0 3 (dk_at dksX7_begins_2 13 rfl rfl)
theorem dX7_begins_63 : decode cX7_begins 63 = .ok (.getfield 31, 3) := dk_180 0 31 (dk_at dksX7_begins_2 16 rfl rfl)
theorem dX7_begins_66 : decode cX7_begins 66 = .ok (.getfield 35, 3) := dk_180 0 35 (dk_at dksX7_begins_2 19 rfl rfl)
theorem dX7_begins_69 : decode cX7_begins 69 = .ok (.if_icmp .ge 33, 3) := dk_162 0 33 (dk_at dksX7_begins_3 0 rfl rfl)
theorem dX7_begins_72 : decode cX7_begins 72 = .ok (.aload_n 0, 1) := dk_42 (dk_at dksX7_begins_3 3 rfl rfl)
theorem dX7_begins_73 : decode cX7_begins 73 = .ok (.getfield 25, 3) := dk_180 0 25 (dk_at dksX7_begins_3 4 rfl rfl)
theorem dX7_begins_76 : decode cX7_begins 76 = .ok (.bipush 10, 2) := dk_16 10 (dk_at dksX7_begins_3 7 rfl rfl)
theorem dX7_begins_78 : decode cX7_begins 78 = .ok (.iload_n 1, 1) := dk_27 (dk_at dksX7_begins_3 9 rfl rfl)
theorem dX7_begins_79 : decode cX7_begins 79 = .ok (.imul, 1) := dk_104 (dk_at dksX7_begins_3 10 rfl rfl)
theorem dX7_begins_80 : decode cX7_begins 80 = .ok (.aload_n 0, 1) := dk_42 (dk_at dksX7_begins_3 11 rfl rfl)
theorem dX7_begins_81 : decode cX7_begins 81 = .ok (.getfield 3, 3) := dk_180 0 3 (dk_at dksX7_begins_3 12 rfl rfl)
theorem dX7_begins_84 : decode cX7_begins 84 = .ok (.getfield 31, 3) := dk_180 0 31 (dk_at dksX7_begins_3 15 rfl rfl)
theorem dX7_begins_87 : decode cX7_begins 87 = .ok (.getfield 41, 3) := dk_180 0 41 (dk_at dksX7_begins_3 18 rfl rfl)
theorem dX7_begins_90 : decode cX7_begins 90 = .ok (.iload_n 1, 1) := dk_27 (dk_at dksX7_begins_3 21 rfl rfl)
theorem dX7_begins_91 : decode cX7_begins 91 = .ok (.iaload, 1) := dk_46 (dk_at dksX7_begins_3 22 rfl rfl)
theorem dX7_begins_92 : decode cX7_begins 92 = .ok (.iadd, 1) := dk_96 (dk_at dksX7_begins_3 23 rfl rfl)
theorem dX7_begins_93 : decode cX7_begins 93 = .ok (.bipush 50, 2) := dk_16 50 (dk_at dksX7_begins_4 0 rfl rfl)
theorem dX7_begins_95 : decode cX7_begins 95 = .ok (.iastore, 1) := dk_79 (dk_at dksX7_begins_4 2 rfl rfl)
theorem dX7_begins_96 : decode cX7_begins 96 = .ok (.iinc 1 1, 3) := dk_132 1 1 (dk_at dksX7_begins_4 3 rfl rfl)
theorem dX7_begins_99 : decode cX7_begins 99 = .ok (.goto (-41), 3) := dk_167 255 215 (dk_at dksX7_begins_4 6 rfl rfl)
theorem dX7_begins_102 : decode cX7_begins 102 = .ok (.aload_n 0, 1) := dk_42 (dk_at dksX7_begins_4 9 rfl rfl)
theorem dX7_begins_103 : decode cX7_begins 103 = .ok (.aload_n 0, 1) := dk_42 (dk_at dksX7_begins_4 10 rfl rfl)
theorem dX7_begins_104 : decode cX7_begins 104 = .ok (.getfield 3, 3) := dk_180 0 3 (dk_at dksX7_begins_4 11 rfl rfl)
theorem dX7_begins_107 : decode cX7_begins 107 = .ok (.getfield 31, 3) := dk_180 0 31 (dk_at dksX7_begins_4 14 rfl rfl)
theorem dX7_begins_110 : decode cX7_begins 110 = .ok (.getfield 44, 3) := dk_180 0 44 (dk_at dksX7_begins_4 17 rfl rfl)
theorem dX7_begins_113 : decode cX7_begins 113 = .ok (.putfield 46, 3) := dk_181 0 46 (dk_at dksX7_begins_4 20 rfl rfl)
theorem dX7_begins_116 : decode cX7_begins 116 = .ok (.aload_n 0, 1) := dk_42 (dk_at dksX7_begins_4 23 rfl rfl)
theorem dX7_begins_117 : decode cX7_begins 117 = .ok (.iconst 0, 1) := dk_3 (dk_at dksX7_begins_5 0 rfl rfl)
theorem dX7_begins_118 : decode cX7_begins 118 = .ok (.putfield 49, 3) := dk_181 0 49 (dk_at dksX7_begins_5 1 rfl rfl)
theorem dX7_begins_121 : decode cX7_begins 121 = .ok (.aload_n 0, 1) := dk_42 (dk_at dksX7_begins_5 4 rfl rfl)
theorem dX7_begins_122 : decode cX7_begins 122 = .ok (.areturn, 1) := dk_176 (dk_at dksX7_begins_5 5 rfl rfl)
abbrev cX7_becomes : ByteArray := prog_22_method_3_code
def yX7_becomes : MethodName := ⟨RX7, "becomes", "(LTunedHouses$Terrace;)LTunedHouses$Terrace;"⟩
def dkwX7_becomes_3 : List UInt8 := [180, 0, 49, 181, 0, 49, 42, 176]
abbrev dktX7_becomes_3 : List UInt8 := dkwX7_becomes_3 ++ []
def dkwX7_becomes_2 : List UInt8 := [180, 0, 25, 3, 42, 180, 0, 25, 3, 16, 80, 184, 0, 52, 42, 43, 180, 0, 46, 181, 0, 46, 42, 43]
abbrev dktX7_becomes_2 : List UInt8 := dkwX7_becomes_2 ++ dktX7_becomes_3
def dkwX7_becomes_1 : List UInt8 := [3, 16, 6, 184, 0, 52, 43, 180, 0, 22, 3, 42, 180, 0, 22, 3, 16, 6, 184, 0, 52, 43]
abbrev dktX7_becomes_1 : List UInt8 := dkwX7_becomes_1 ++ dktX7_becomes_2
def dkwX7_becomes_0 : List UInt8 := [43, 180, 0, 15, 3, 42, 180, 0, 15, 3, 16, 6, 184, 0, 52, 43, 180, 0, 19, 3, 42, 180, 0, 19]
abbrev dktX7_becomes_0 : List UInt8 := dkwX7_becomes_0 ++ dktX7_becomes_1
theorem dksX7_becomes_0 : cX7_becomes.data.toList.drop 0 = dktX7_becomes_0 := by decide +kernel
theorem dksX7_becomes_1 : cX7_becomes.data.toList.drop 24 = dktX7_becomes_1 := dk_seg dksX7_becomes_0 24 rfl rfl
theorem dksX7_becomes_2 : cX7_becomes.data.toList.drop 46 = dktX7_becomes_2 := dk_seg dksX7_becomes_1 22 rfl rfl
theorem dksX7_becomes_3 : cX7_becomes.data.toList.drop 70 = dktX7_becomes_3 := dk_seg dksX7_becomes_2 24 rfl rfl
theorem dX7_becomes_0 : decode cX7_becomes 0 = .ok (.aload_n 1, 1) := dk_43 (dk_at dksX7_becomes_0 0 rfl rfl)
theorem dX7_becomes_1 : decode cX7_becomes 1 = .ok (.getfield 15, 3) := dk_180 0 15 (dk_at dksX7_becomes_0 1 rfl rfl)
theorem dX7_becomes_4 : decode cX7_becomes 4 = .ok (.iconst 0, 1) := dk_3 (dk_at dksX7_becomes_0 4 rfl rfl)
theorem dX7_becomes_5 : decode cX7_becomes 5 = .ok (.aload_n 0, 1) := dk_42 (dk_at dksX7_becomes_0 5 rfl rfl)
theorem dX7_becomes_6 : decode cX7_becomes 6 = .ok (.getfield 15, 3) := dk_180 0 15 (dk_at dksX7_becomes_0 6 rfl rfl)
theorem dX7_becomes_9 : decode cX7_becomes 9 = .ok (.iconst 0, 1) := dk_3 (dk_at dksX7_becomes_0 9 rfl rfl)
theorem dX7_becomes_10 : decode cX7_becomes 10 = .ok (.bipush 6, 2) := dk_16 6 (dk_at dksX7_becomes_0 10 rfl rfl)
theorem dX7_becomes_12 : decode cX7_becomes 12 = .ok (.invokestatic 52, 3) := dk_184 0 52 (dk_at dksX7_becomes_0 12 rfl rfl)
theorem dX7_becomes_15 : decode cX7_becomes 15 = .ok (.aload_n 1, 1) := dk_43 (dk_at dksX7_becomes_0 15 rfl rfl)
theorem dX7_becomes_16 : decode cX7_becomes 16 = .ok (.getfield 19, 3) := dk_180 0 19 (dk_at dksX7_becomes_0 16 rfl rfl)
theorem dX7_becomes_19 : decode cX7_becomes 19 = .ok (.iconst 0, 1) := dk_3 (dk_at dksX7_becomes_0 19 rfl rfl)
theorem dX7_becomes_20 : decode cX7_becomes 20 = .ok (.aload_n 0, 1) := dk_42 (dk_at dksX7_becomes_0 20 rfl rfl)
theorem dX7_becomes_21 : decode cX7_becomes 21 = .ok (.getfield 19, 3) := dk_180 0 19 (dk_at dksX7_becomes_0 21 rfl rfl)
theorem dX7_becomes_24 : decode cX7_becomes 24 = .ok (.iconst 0, 1) := dk_3 (dk_at dksX7_becomes_1 0 rfl rfl)
theorem dX7_becomes_25 : decode cX7_becomes 25 = .ok (.bipush 6, 2) := dk_16 6 (dk_at dksX7_becomes_1 1 rfl rfl)
theorem dX7_becomes_27 : decode cX7_becomes 27 = .ok (.invokestatic 52, 3) := dk_184 0 52 (dk_at dksX7_becomes_1 3 rfl rfl)
theorem dX7_becomes_30 : decode cX7_becomes 30 = .ok (.aload_n 1, 1) := dk_43 (dk_at dksX7_becomes_1 6 rfl rfl)
theorem dX7_becomes_31 : decode cX7_becomes 31 = .ok (.getfield 22, 3) := dk_180 0 22 (dk_at dksX7_becomes_1 7 rfl rfl)
theorem dX7_becomes_34 : decode cX7_becomes 34 = .ok (.iconst 0, 1) := dk_3 (dk_at dksX7_becomes_1 10 rfl rfl)
theorem dX7_becomes_35 : decode cX7_becomes 35 = .ok (.aload_n 0, 1) := dk_42 (dk_at dksX7_becomes_1 11 rfl rfl)
theorem dX7_becomes_36 : decode cX7_becomes 36 = .ok (.getfield 22, 3) := dk_180 0 22 (dk_at dksX7_becomes_1 12 rfl rfl)
theorem dX7_becomes_39 : decode cX7_becomes 39 = .ok (.iconst 0, 1) := dk_3 (dk_at dksX7_becomes_1 15 rfl rfl)
theorem dX7_becomes_40 : decode cX7_becomes 40 = .ok (.bipush 6, 2) := dk_16 6 (dk_at dksX7_becomes_1 16 rfl rfl)
theorem dX7_becomes_42 : decode cX7_becomes 42 = .ok (.invokestatic 52, 3) := dk_184 0 52 (dk_at dksX7_becomes_1 18 rfl rfl)
theorem dX7_becomes_45 : decode cX7_becomes 45 = .ok (.aload_n 1, 1) := dk_43 (dk_at dksX7_becomes_1 21 rfl rfl)
theorem dX7_becomes_46 : decode cX7_becomes 46 = .ok (.getfield 25, 3) := dk_180 0 25 (dk_at dksX7_becomes_2 0 rfl rfl)
theorem dX7_becomes_49 : decode cX7_becomes 49 = .ok (.iconst 0, 1) := dk_3 (dk_at dksX7_becomes_2 3 rfl rfl)
theorem dX7_becomes_50 : decode cX7_becomes 50 = .ok (.aload_n 0, 1) := dk_42 (dk_at dksX7_becomes_2 4 rfl rfl)
theorem dX7_becomes_51 : decode cX7_becomes 51 = .ok (.getfield 25, 3) := dk_180 0 25 (dk_at dksX7_becomes_2 5 rfl rfl)
theorem dX7_becomes_54 : decode cX7_becomes 54 = .ok (.iconst 0, 1) := dk_3 (dk_at dksX7_becomes_2 8 rfl rfl)
theorem dX7_becomes_55 : decode cX7_becomes 55 = .ok (.bipush 80, 2) := dk_16 80 (dk_at dksX7_becomes_2 9 rfl rfl)
theorem dX7_becomes_57 : decode cX7_becomes 57 = .ok (.invokestatic 52, 3) := dk_184 0 52 (dk_at dksX7_becomes_2 11 rfl rfl)
theorem dX7_becomes_60 : decode cX7_becomes 60 = .ok (.aload_n 0, 1) := dk_42 (dk_at dksX7_becomes_2 14 rfl rfl)
theorem dX7_becomes_61 : decode cX7_becomes 61 = .ok (.aload_n 1, 1) := dk_43 (dk_at dksX7_becomes_2 15 rfl rfl)
theorem dX7_becomes_62 : decode cX7_becomes 62 = .ok (.getfield 46, 3) := dk_180 0 46 (dk_at dksX7_becomes_2 16 rfl rfl)
theorem dX7_becomes_65 : decode cX7_becomes 65 = .ok (.putfield 46, 3) := dk_181 0 46 (dk_at dksX7_becomes_2 19 rfl rfl)
theorem dX7_becomes_68 : decode cX7_becomes 68 = .ok (.aload_n 0, 1) := dk_42 (dk_at dksX7_becomes_2 22 rfl rfl)
theorem dX7_becomes_69 : decode cX7_becomes 69 = .ok (.aload_n 1, 1) := dk_43 (dk_at dksX7_becomes_2 23 rfl rfl)
theorem dX7_becomes_70 : decode cX7_becomes 70 = .ok (.getfield 49, 3) := dk_180 0 49 (dk_at dksX7_becomes_3 0 rfl rfl)
theorem dX7_becomes_73 : decode cX7_becomes 73 = .ok (.putfield 49, 3) := dk_181 0 49 (dk_at dksX7_becomes_3 3 rfl rfl)
theorem dX7_becomes_76 : decode cX7_becomes 76 = .ok (.aload_n 0, 1) := dk_42 (dk_at dksX7_becomes_3 6 rfl rfl)
theorem dX7_becomes_77 : decode cX7_becomes 77 = .ok (.areturn, 1) := dk_176 (dk_at dksX7_becomes_3 7 rfl rfl)
abbrev cX7_changed : ByteArray := prog_22_method_13_code
def yX7_changed : MethodName := ⟨RX7, "changed", "()I"⟩
def dkwX7_changed_1 : List UInt8 := [180, 0, 41, 182, 0, 114, 2, 130, 126, 172]
abbrev dktX7_changed_1 : List UInt8 := dkwX7_changed_1 ++ []
def dkwX7_changed_0 : List UInt8 := [4, 42, 180, 0, 3, 180, 0, 31, 180, 0, 35, 120, 4, 100, 42, 42, 180, 0, 3, 180, 0, 31]
abbrev dktX7_changed_0 : List UInt8 := dkwX7_changed_0 ++ dktX7_changed_1
theorem dksX7_changed_0 : cX7_changed.data.toList.drop 0 = dktX7_changed_0 := by decide +kernel
theorem dksX7_changed_1 : cX7_changed.data.toList.drop 22 = dktX7_changed_1 := dk_seg dksX7_changed_0 22 rfl rfl
theorem dX7_changed_0 : decode cX7_changed 0 = .ok (.iconst 1, 1) := dk_4 (dk_at dksX7_changed_0 0 rfl rfl)
theorem dX7_changed_1 : decode cX7_changed 1 = .ok (.aload_n 0, 1) := dk_42 (dk_at dksX7_changed_0 1 rfl rfl)
theorem dX7_changed_2 : decode cX7_changed 2 = .ok (.getfield 3, 3) := dk_180 0 3 (dk_at dksX7_changed_0 2 rfl rfl)
theorem dX7_changed_5 : decode cX7_changed 5 = .ok (.getfield 31, 3) := dk_180 0 31 (dk_at dksX7_changed_0 5 rfl rfl)
theorem dX7_changed_8 : decode cX7_changed 8 = .ok (.getfield 35, 3) := dk_180 0 35 (dk_at dksX7_changed_0 8 rfl rfl)
theorem dX7_changed_11 : decode cX7_changed 11 = .ok (.ishl, 1) := dk_120 (dk_at dksX7_changed_0 11 rfl rfl)
theorem dX7_changed_12 : decode cX7_changed 12 = .ok (.iconst 1, 1) := dk_4 (dk_at dksX7_changed_0 12 rfl rfl)
theorem dX7_changed_13 : decode cX7_changed 13 = .ok (.isub, 1) := dk_100 (dk_at dksX7_changed_0 13 rfl rfl)
theorem dX7_changed_14 : decode cX7_changed 14 = .ok (.aload_n 0, 1) := dk_42 (dk_at dksX7_changed_0 14 rfl rfl)
theorem dX7_changed_15 : decode cX7_changed 15 = .ok (.aload_n 0, 1) := dk_42 (dk_at dksX7_changed_0 15 rfl rfl)
theorem dX7_changed_16 : decode cX7_changed 16 = .ok (.getfield 3, 3) := dk_180 0 3 (dk_at dksX7_changed_0 16 rfl rfl)
theorem dX7_changed_19 : decode cX7_changed 19 = .ok (.getfield 31, 3) := dk_180 0 31 (dk_at dksX7_changed_0 19 rfl rfl)
theorem dX7_changed_22 : decode cX7_changed 22 = .ok (.getfield 41, 3) := dk_180 0 41 (dk_at dksX7_changed_1 0 rfl rfl)
theorem dX7_changed_25 : decode cX7_changed 25 = .ok (.invokevirtual 114, 3) := dk_182 0 114 (dk_at dksX7_changed_1 3 rfl rfl)
theorem dX7_changed_28 : decode cX7_changed 28 = .ok (.iconst (-1), 1) := dk_2 (dk_at dksX7_changed_1 6 rfl rfl)
theorem dX7_changed_29 : decode cX7_changed 29 = .ok (.ixor, 1) := dk_130 (dk_at dksX7_changed_1 7 rfl rfl)
theorem dX7_changed_30 : decode cX7_changed 30 = .ok (.iand, 1) := dk_126 (dk_at dksX7_changed_1 8 rfl rfl)
theorem dX7_changed_31 : decode cX7_changed 31 = .ok (.ireturn, 1) := dk_172 (dk_at dksX7_changed_1 9 rfl rfl)
abbrev cX7_thoseThatAre : ByteArray := prog_22_method_12_code
def yX7_thoseThatAre : MethodName := ⟨RX7, "thoseThatAre", "([I)I"⟩
def dkwX7_thoseThatAre_1 : List UInt8 := [43, 29, 46, 160, 0, 9, 4, 29, 120, 167, 0, 4, 3, 128, 61, 132, 3, 1, 167, 255, 218, 28, 172]
abbrev dktX7_thoseThatAre_1 : List UInt8 := dkwX7_thoseThatAre_1 ++ []
def dkwX7_thoseThatAre_0 : List UInt8 := [3, 61, 3, 62, 29, 42, 180, 0, 3, 180, 0, 31, 180, 0, 35, 162, 0, 30, 28, 42, 29, 182, 0, 111]
abbrev dktX7_thoseThatAre_0 : List UInt8 := dkwX7_thoseThatAre_0 ++ dktX7_thoseThatAre_1
theorem dksX7_thoseThatAre_0 : cX7_thoseThatAre.data.toList.drop 0 = dktX7_thoseThatAre_0 := by decide +kernel
theorem dksX7_thoseThatAre_1 : cX7_thoseThatAre.data.toList.drop 24 = dktX7_thoseThatAre_1 := dk_seg dksX7_thoseThatAre_0 24 rfl rfl
theorem dX7_thoseThatAre_0 : decode cX7_thoseThatAre 0 = .ok (.iconst 0, 1) := dk_3 (dk_at dksX7_thoseThatAre_0 0 rfl rfl)
theorem dX7_thoseThatAre_1 : decode cX7_thoseThatAre 1 = .ok (.istore_n 2, 1) := dk_61 (dk_at dksX7_thoseThatAre_0 1 rfl rfl)
theorem dX7_thoseThatAre_2 : decode cX7_thoseThatAre 2 = .ok (.iconst 0, 1) := dk_3 (dk_at dksX7_thoseThatAre_0 2 rfl rfl)
theorem dX7_thoseThatAre_3 : decode cX7_thoseThatAre 3 = .ok (.istore_n 3, 1) := dk_62 (dk_at dksX7_thoseThatAre_0 3 rfl rfl)
theorem dX7_thoseThatAre_4 : decode cX7_thoseThatAre 4 = .ok (.iload_n 3, 1) := dk_29 (dk_at dksX7_thoseThatAre_0 4 rfl rfl)
theorem dX7_thoseThatAre_5 : decode cX7_thoseThatAre 5 = .ok (.aload_n 0, 1) := dk_42 (dk_at dksX7_thoseThatAre_0 5 rfl rfl)
theorem dX7_thoseThatAre_6 : decode cX7_thoseThatAre 6 = .ok (.getfield 3, 3) := dk_180 0 3 (dk_at dksX7_thoseThatAre_0 6 rfl rfl)
theorem dX7_thoseThatAre_9 : decode cX7_thoseThatAre 9 = .ok (.getfield 31, 3) := dk_180 0 31 (dk_at dksX7_thoseThatAre_0 9 rfl rfl)
theorem dX7_thoseThatAre_12 : decode cX7_thoseThatAre 12 = .ok (.getfield 35, 3) := dk_180 0 35 (dk_at dksX7_thoseThatAre_0 12 rfl rfl)
theorem dX7_thoseThatAre_15 : decode cX7_thoseThatAre 15 = .ok (.if_icmp .ge 30, 3) := dk_162 0 30 (dk_at dksX7_thoseThatAre_0 15 rfl rfl)
theorem dX7_thoseThatAre_18 : decode cX7_thoseThatAre 18 = .ok (.iload_n 2, 1) := dk_28 (dk_at dksX7_thoseThatAre_0 18 rfl rfl)
theorem dX7_thoseThatAre_19 : decode cX7_thoseThatAre 19 = .ok (.aload_n 0, 1) := dk_42 (dk_at dksX7_thoseThatAre_0 19 rfl rfl)
theorem dX7_thoseThatAre_20 : decode cX7_thoseThatAre 20 = .ok (.iload_n 3, 1) := dk_29 (dk_at dksX7_thoseThatAre_0 20 rfl rfl)
theorem dX7_thoseThatAre_21 : decode cX7_thoseThatAre 21 = .ok (.invokevirtual 111, 3) := dk_182 0 111 (dk_at dksX7_thoseThatAre_0 21 rfl rfl)
theorem dX7_thoseThatAre_24 : decode cX7_thoseThatAre 24 = .ok (.aload_n 1, 1) := dk_43 (dk_at dksX7_thoseThatAre_1 0 rfl rfl)
theorem dX7_thoseThatAre_25 : decode cX7_thoseThatAre 25 = .ok (.iload_n 3, 1) := dk_29 (dk_at dksX7_thoseThatAre_1 1 rfl rfl)
theorem dX7_thoseThatAre_26 : decode cX7_thoseThatAre 26 = .ok (.iaload, 1) := dk_46 (dk_at dksX7_thoseThatAre_1 2 rfl rfl)
theorem dX7_thoseThatAre_27 : decode cX7_thoseThatAre 27 = .ok (.if_icmp .ne 9, 3) := dk_160 0 9 (dk_at dksX7_thoseThatAre_1 3 rfl rfl)
theorem dX7_thoseThatAre_30 : decode cX7_thoseThatAre 30 = .ok (.iconst 1, 1) := dk_4 (dk_at dksX7_thoseThatAre_1 6 rfl rfl)
theorem dX7_thoseThatAre_31 : decode cX7_thoseThatAre 31 = .ok (.iload_n 3, 1) := dk_29 (dk_at dksX7_thoseThatAre_1 7 rfl rfl)
theorem dX7_thoseThatAre_32 : decode cX7_thoseThatAre 32 = .ok (.ishl, 1) := dk_120 (dk_at dksX7_thoseThatAre_1 8 rfl rfl)
theorem dX7_thoseThatAre_33 : decode cX7_thoseThatAre 33 = .ok (.goto 4, 3) := dk_167 0 4 (dk_at dksX7_thoseThatAre_1 9 rfl rfl)
theorem dX7_thoseThatAre_36 : decode cX7_thoseThatAre 36 = .ok (.iconst 0, 1) := dk_3 (dk_at dksX7_thoseThatAre_1 12 rfl rfl)
theorem dX7_thoseThatAre_37 : decode cX7_thoseThatAre 37 = .ok (.ior, 1) := dk_128 (dk_at dksX7_thoseThatAre_1 13 rfl rfl)
theorem dX7_thoseThatAre_38 : decode cX7_thoseThatAre 38 = .ok (.istore_n 2, 1) := dk_61 (dk_at dksX7_thoseThatAre_1 14 rfl rfl)
theorem dX7_thoseThatAre_39 : decode cX7_thoseThatAre 39 = .ok (.iinc 3 1, 3) := dk_132 3 1 (dk_at dksX7_thoseThatAre_1 15 rfl rfl)
theorem dX7_thoseThatAre_42 : decode cX7_thoseThatAre 42 = .ok (.goto (-38), 3) := dk_167 255 218 (dk_at dksX7_thoseThatAre_1 18 rfl rfl)
theorem dX7_thoseThatAre_45 : decode cX7_thoseThatAre 45 = .ok (.iload_n 2, 1) := dk_28 (dk_at dksX7_thoseThatAre_1 21 rfl rfl)
theorem dX7_thoseThatAre_46 : decode cX7_thoseThatAre 46 = .ok (.ireturn, 1) := dk_172 (dk_at dksX7_thoseThatAre_1 22 rfl rfl)
abbrev cX7_is : ByteArray := prog_22_method_11_code
def yX7_is : MethodName := ⟨RX7, "is", "(I)I"⟩
def dkwX7_is_1 : List UInt8 := [180, 0, 25, 16, 10, 27, 104, 28, 96, 46, 164, 0, 5, 29, 61, 132, 3, 1, 167, 255, 220, 28, 172]
abbrev dktX7_is_1 : List UInt8 := dkwX7_is_1 ++ []
def dkwX7_is_0 : List UInt8 := [3, 61, 4, 62, 29, 16, 10, 162, 0, 36, 42, 180, 0, 25, 16, 10, 27, 104, 29, 96, 46, 42]
abbrev dktX7_is_0 : List UInt8 := dkwX7_is_0 ++ dktX7_is_1
theorem dksX7_is_0 : cX7_is.data.toList.drop 0 = dktX7_is_0 := by decide +kernel
theorem dksX7_is_1 : cX7_is.data.toList.drop 22 = dktX7_is_1 := dk_seg dksX7_is_0 22 rfl rfl
theorem dX7_is_0 : decode cX7_is 0 = .ok (.iconst 0, 1) := dk_3 (dk_at dksX7_is_0 0 rfl rfl)
theorem dX7_is_1 : decode cX7_is 1 = .ok (.istore_n 2, 1) := dk_61 (dk_at dksX7_is_0 1 rfl rfl)
theorem dX7_is_2 : decode cX7_is 2 = .ok (.iconst 1, 1) := dk_4 (dk_at dksX7_is_0 2 rfl rfl)
theorem dX7_is_3 : decode cX7_is 3 = .ok (.istore_n 3, 1) := dk_62 (dk_at dksX7_is_0 3 rfl rfl)
theorem dX7_is_4 : decode cX7_is 4 = .ok (.iload_n 3, 1) := dk_29 (dk_at dksX7_is_0 4 rfl rfl)
theorem dX7_is_5 : decode cX7_is 5 = .ok (.bipush 10, 2) := dk_16 10 (dk_at dksX7_is_0 5 rfl rfl)
theorem dX7_is_7 : decode cX7_is 7 = .ok (.if_icmp .ge 36, 3) := dk_162 0 36 (dk_at dksX7_is_0 7 rfl rfl)
theorem dX7_is_10 : decode cX7_is 10 = .ok (.aload_n 0, 1) := dk_42 (dk_at dksX7_is_0 10 rfl rfl)
theorem dX7_is_11 : decode cX7_is 11 = .ok (.getfield 25, 3) := dk_180 0 25 (dk_at dksX7_is_0 11 rfl rfl)
theorem dX7_is_14 : decode cX7_is 14 = .ok (.bipush 10, 2) := dk_16 10 (dk_at dksX7_is_0 14 rfl rfl)
theorem dX7_is_16 : decode cX7_is 16 = .ok (.iload_n 1, 1) := dk_27 (dk_at dksX7_is_0 16 rfl rfl)
theorem dX7_is_17 : decode cX7_is 17 = .ok (.imul, 1) := dk_104 (dk_at dksX7_is_0 17 rfl rfl)
theorem dX7_is_18 : decode cX7_is 18 = .ok (.iload_n 3, 1) := dk_29 (dk_at dksX7_is_0 18 rfl rfl)
theorem dX7_is_19 : decode cX7_is 19 = .ok (.iadd, 1) := dk_96 (dk_at dksX7_is_0 19 rfl rfl)
theorem dX7_is_20 : decode cX7_is 20 = .ok (.iaload, 1) := dk_46 (dk_at dksX7_is_0 20 rfl rfl)
theorem dX7_is_21 : decode cX7_is 21 = .ok (.aload_n 0, 1) := dk_42 (dk_at dksX7_is_0 21 rfl rfl)
theorem dX7_is_22 : decode cX7_is 22 = .ok (.getfield 25, 3) := dk_180 0 25 (dk_at dksX7_is_1 0 rfl rfl)
theorem dX7_is_25 : decode cX7_is 25 = .ok (.bipush 10, 2) := dk_16 10 (dk_at dksX7_is_1 3 rfl rfl)
theorem dX7_is_27 : decode cX7_is 27 = .ok (.iload_n 1, 1) := dk_27 (dk_at dksX7_is_1 5 rfl rfl)
theorem dX7_is_28 : decode cX7_is 28 = .ok (.imul, 1) := dk_104 (dk_at dksX7_is_1 6 rfl rfl)
theorem dX7_is_29 : decode cX7_is 29 = .ok (.iload_n 2, 1) := dk_28 (dk_at dksX7_is_1 7 rfl rfl)
theorem dX7_is_30 : decode cX7_is 30 = .ok (.iadd, 1) := dk_96 (dk_at dksX7_is_1 8 rfl rfl)
theorem dX7_is_31 : decode cX7_is 31 = .ok (.iaload, 1) := dk_46 (dk_at dksX7_is_1 9 rfl rfl)
theorem dX7_is_32 : decode cX7_is 32 = .ok (.if_icmp .le 5, 3) := dk_164 0 5 (dk_at dksX7_is_1 10 rfl rfl)
theorem dX7_is_35 : decode cX7_is 35 = .ok (.iload_n 3, 1) := dk_29 (dk_at dksX7_is_1 13 rfl rfl)
theorem dX7_is_36 : decode cX7_is 36 = .ok (.istore_n 2, 1) := dk_61 (dk_at dksX7_is_1 14 rfl rfl)
theorem dX7_is_37 : decode cX7_is 37 = .ok (.iinc 3 1, 3) := dk_132 3 1 (dk_at dksX7_is_1 15 rfl rfl)
theorem dX7_is_40 : decode cX7_is 40 = .ok (.goto (-36), 3) := dk_167 255 220 (dk_at dksX7_is_1 18 rfl rfl)
theorem dX7_is_43 : decode cX7_is 43 = .ok (.iload_n 2, 1) := dk_28 (dk_at dksX7_is_1 21 rfl rfl)
theorem dX7_is_44 : decode cX7_is 44 = .ok (.ireturn, 1) := dk_172 (dk_at dksX7_is_1 22 rfl rfl)
abbrev cX7_in : ByteArray := prog_22_method_4_code
def yX7_in : MethodName := ⟨RX7, "in", "(I)I"⟩
def dkwX7_in_1 : List UInt8 := [172, 132, 2, 1, 167, 255, 230, 2, 172]
abbrev dktX7_in_1 : List UInt8 := dkwX7_in_1 ++ []
def dkwX7_in_0 : List UInt8 := [3, 61, 28, 42, 180, 0, 3, 182, 0, 58, 162, 0, 21, 42, 180, 0, 15, 28, 46, 27, 160, 0, 5, 28]
abbrev dktX7_in_0 : List UInt8 := dkwX7_in_0 ++ dktX7_in_1
theorem dksX7_in_0 : cX7_in.data.toList.drop 0 = dktX7_in_0 := by decide +kernel
theorem dksX7_in_1 : cX7_in.data.toList.drop 24 = dktX7_in_1 := dk_seg dksX7_in_0 24 rfl rfl
theorem dX7_in_0 : decode cX7_in 0 = .ok (.iconst 0, 1) := dk_3 (dk_at dksX7_in_0 0 rfl rfl)
theorem dX7_in_1 : decode cX7_in 1 = .ok (.istore_n 2, 1) := dk_61 (dk_at dksX7_in_0 1 rfl rfl)
theorem dX7_in_2 : decode cX7_in 2 = .ok (.iload_n 2, 1) := dk_28 (dk_at dksX7_in_0 2 rfl rfl)
theorem dX7_in_3 : decode cX7_in 3 = .ok (.aload_n 0, 1) := dk_42 (dk_at dksX7_in_0 3 rfl rfl)
theorem dX7_in_4 : decode cX7_in 4 = .ok (.getfield 3, 3) := dk_180 0 3 (dk_at dksX7_in_0 4 rfl rfl)
theorem dX7_in_7 : decode cX7_in 7 = .ok (.invokevirtual 58, 3) := dk_182 0 58 (dk_at dksX7_in_0 7 rfl rfl)
theorem dX7_in_10 : decode cX7_in 10 = .ok (.if_icmp .ge 21, 3) := dk_162 0 21 (dk_at dksX7_in_0 10 rfl rfl)
theorem dX7_in_13 : decode cX7_in 13 = .ok (.aload_n 0, 1) := dk_42 (dk_at dksX7_in_0 13 rfl rfl)
theorem dX7_in_14 : decode cX7_in 14 = .ok (.getfield 15, 3) := dk_180 0 15 (dk_at dksX7_in_0 14 rfl rfl)
theorem dX7_in_17 : decode cX7_in 17 = .ok (.iload_n 2, 1) := dk_28 (dk_at dksX7_in_0 17 rfl rfl)
theorem dX7_in_18 : decode cX7_in 18 = .ok (.iaload, 1) := dk_46 (dk_at dksX7_in_0 18 rfl rfl)
theorem dX7_in_19 : decode cX7_in 19 = .ok (.iload_n 1, 1) := dk_27 (dk_at dksX7_in_0 19 rfl rfl)
theorem dX7_in_20 : decode cX7_in 20 = .ok (.if_icmp .ne 5, 3) := dk_160 0 5 (dk_at dksX7_in_0 20 rfl rfl)
theorem dX7_in_23 : decode cX7_in 23 = .ok (.iload_n 2, 1) := dk_28 (dk_at dksX7_in_0 23 rfl rfl)
theorem dX7_in_24 : decode cX7_in 24 = .ok (.ireturn, 1) := dk_172 (dk_at dksX7_in_1 0 rfl rfl)
theorem dX7_in_25 : decode cX7_in 25 = .ok (.iinc 2 1, 3) := dk_132 2 1 (dk_at dksX7_in_1 1 rfl rfl)
theorem dX7_in_28 : decode cX7_in 28 = .ok (.goto (-26), 3) := dk_167 255 230 (dk_at dksX7_in_1 4 rfl rfl)
theorem dX7_in_31 : decode cX7_in 31 = .ok (.iconst (-1), 1) := dk_2 (dk_at dksX7_in_1 7 rfl rfl)
theorem dX7_in_32 : decode cX7_in 32 = .ok (.ireturn, 1) := dk_172 (dk_at dksX7_in_1 8 rfl rfl)
abbrev cX7_lays : ByteArray := prog_22_method_17_code
def yX7_lays : MethodName := ⟨RX7, "lays", "(II)Z"⟩
def dkwX7_lays_2 : List UInt8 := [180, 0, 19, 27, 28, 79, 4, 172]
abbrev dktX7_lays_2 : List UInt8 := dkwX7_lays_2 ++ []
def dkwX7_lays_1 : List UInt8 := [162, 0, 5, 3, 172, 42, 89, 180, 0, 46, 28, 42, 180, 0, 19, 27, 46, 100, 100, 181, 0, 46, 42]
abbrev dktX7_lays_1 : List UInt8 := dkwX7_lays_1 ++ dktX7_lays_2
def dkwX7_lays_0 : List UInt8 := [42, 180, 0, 19, 27, 46, 28, 159, 0, 18, 42, 180, 0, 46, 28, 42, 180, 0, 19, 27, 46, 100]
abbrev dktX7_lays_0 : List UInt8 := dkwX7_lays_0 ++ dktX7_lays_1
theorem dksX7_lays_0 : cX7_lays.data.toList.drop 0 = dktX7_lays_0 := by decide +kernel
theorem dksX7_lays_1 : cX7_lays.data.toList.drop 22 = dktX7_lays_1 := dk_seg dksX7_lays_0 22 rfl rfl
theorem dksX7_lays_2 : cX7_lays.data.toList.drop 45 = dktX7_lays_2 := dk_seg dksX7_lays_1 23 rfl rfl
theorem dX7_lays_0 : decode cX7_lays 0 = .ok (.aload_n 0, 1) := dk_42 (dk_at dksX7_lays_0 0 rfl rfl)
theorem dX7_lays_1 : decode cX7_lays 1 = .ok (.getfield 19, 3) := dk_180 0 19 (dk_at dksX7_lays_0 1 rfl rfl)
theorem dX7_lays_4 : decode cX7_lays 4 = .ok (.iload_n 1, 1) := dk_27 (dk_at dksX7_lays_0 4 rfl rfl)
theorem dX7_lays_5 : decode cX7_lays 5 = .ok (.iaload, 1) := dk_46 (dk_at dksX7_lays_0 5 rfl rfl)
theorem dX7_lays_6 : decode cX7_lays 6 = .ok (.iload_n 2, 1) := dk_28 (dk_at dksX7_lays_0 6 rfl rfl)
theorem dX7_lays_7 : decode cX7_lays 7 = .ok (.if_icmp .eq 18, 3) := dk_159 0 18 (dk_at dksX7_lays_0 7 rfl rfl)
theorem dX7_lays_10 : decode cX7_lays 10 = .ok (.aload_n 0, 1) := dk_42 (dk_at dksX7_lays_0 10 rfl rfl)
theorem dX7_lays_11 : decode cX7_lays 11 = .ok (.getfield 46, 3) := dk_180 0 46 (dk_at dksX7_lays_0 11 rfl rfl)
theorem dX7_lays_14 : decode cX7_lays 14 = .ok (.iload_n 2, 1) := dk_28 (dk_at dksX7_lays_0 14 rfl rfl)
theorem dX7_lays_15 : decode cX7_lays 15 = .ok (.aload_n 0, 1) := dk_42 (dk_at dksX7_lays_0 15 rfl rfl)
theorem dX7_lays_16 : decode cX7_lays 16 = .ok (.getfield 19, 3) := dk_180 0 19 (dk_at dksX7_lays_0 16 rfl rfl)
theorem dX7_lays_19 : decode cX7_lays 19 = .ok (.iload_n 1, 1) := dk_27 (dk_at dksX7_lays_0 19 rfl rfl)
theorem dX7_lays_20 : decode cX7_lays 20 = .ok (.iaload, 1) := dk_46 (dk_at dksX7_lays_0 20 rfl rfl)
theorem dX7_lays_21 : decode cX7_lays 21 = .ok (.isub, 1) := dk_100 (dk_at dksX7_lays_0 21 rfl rfl)
theorem dX7_lays_22 : decode cX7_lays 22 = .ok (.if_icmp .ge 5, 3) := dk_162 0 5 (dk_at dksX7_lays_1 0 rfl rfl)
theorem dX7_lays_25 : decode cX7_lays 25 = .ok (.iconst 0, 1) := dk_3 (dk_at dksX7_lays_1 3 rfl rfl)
theorem dX7_lays_26 : decode cX7_lays 26 = .ok (.ireturn, 1) := dk_172 (dk_at dksX7_lays_1 4 rfl rfl)
theorem dX7_lays_27 : decode cX7_lays 27 = .ok (.aload_n 0, 1) := dk_42 (dk_at dksX7_lays_1 5 rfl rfl)
theorem dX7_lays_28 : decode cX7_lays 28 = .ok (.dup, 1) := dk_89 (dk_at dksX7_lays_1 6 rfl rfl)
theorem dX7_lays_29 : decode cX7_lays 29 = .ok (.getfield 46, 3) := dk_180 0 46 (dk_at dksX7_lays_1 7 rfl rfl)
theorem dX7_lays_32 : decode cX7_lays 32 = .ok (.iload_n 2, 1) := dk_28 (dk_at dksX7_lays_1 10 rfl rfl)
theorem dX7_lays_33 : decode cX7_lays 33 = .ok (.aload_n 0, 1) := dk_42 (dk_at dksX7_lays_1 11 rfl rfl)
theorem dX7_lays_34 : decode cX7_lays 34 = .ok (.getfield 19, 3) := dk_180 0 19 (dk_at dksX7_lays_1 12 rfl rfl)
theorem dX7_lays_37 : decode cX7_lays 37 = .ok (.iload_n 1, 1) := dk_27 (dk_at dksX7_lays_1 15 rfl rfl)
theorem dX7_lays_38 : decode cX7_lays 38 = .ok (.iaload, 1) := dk_46 (dk_at dksX7_lays_1 16 rfl rfl)
theorem dX7_lays_39 : decode cX7_lays 39 = .ok (.isub, 1) := dk_100 (dk_at dksX7_lays_1 17 rfl rfl)
theorem dX7_lays_40 : decode cX7_lays 40 = .ok (.isub, 1) := dk_100 (dk_at dksX7_lays_1 18 rfl rfl)
theorem dX7_lays_41 : decode cX7_lays 41 = .ok (.putfield 46, 3) := dk_181 0 46 (dk_at dksX7_lays_1 19 rfl rfl)
theorem dX7_lays_44 : decode cX7_lays 44 = .ok (.aload_n 0, 1) := dk_42 (dk_at dksX7_lays_1 22 rfl rfl)
theorem dX7_lays_45 : decode cX7_lays 45 = .ok (.getfield 19, 3) := dk_180 0 19 (dk_at dksX7_lays_2 0 rfl rfl)
theorem dX7_lays_48 : decode cX7_lays 48 = .ok (.iload_n 1, 1) := dk_27 (dk_at dksX7_lays_2 3 rfl rfl)
theorem dX7_lays_49 : decode cX7_lays 49 = .ok (.iload_n 2, 1) := dk_28 (dk_at dksX7_lays_2 4 rfl rfl)
theorem dX7_lays_50 : decode cX7_lays 50 = .ok (.iastore, 1) := dk_79 (dk_at dksX7_lays_2 5 rfl rfl)
theorem dX7_lays_51 : decode cX7_lays 51 = .ok (.iconst 1, 1) := dk_4 (dk_at dksX7_lays_2 6 rfl rfl)
theorem dX7_lays_52 : decode cX7_lays 52 = .ok (.ireturn, 1) := dk_172 (dk_at dksX7_lays_2 7 rfl rfl)
abbrev cX7_day : ByteArray := prog_22_method_18_code
def yX7_day : MethodName := ⟨RX7, "day", "()Z"⟩
def dkwX7_day_0 : List UInt8 := [42, 180, 0, 49, 17, 1, 244, 160, 0, 5, 3, 172, 42, 182, 0, 121, 4, 172]
abbrev dktX7_day_0 : List UInt8 := dkwX7_day_0 ++ []
theorem dksX7_day_0 : cX7_day.data.toList.drop 0 = dktX7_day_0 := by decide +kernel
theorem dX7_day_0 : decode cX7_day 0 = .ok (.aload_n 0, 1) := dk_42 (dk_at dksX7_day_0 0 rfl rfl)
theorem dX7_day_1 : decode cX7_day 1 = .ok (.getfield 49, 3) := dk_180 0 49 (dk_at dksX7_day_0 1 rfl rfl)
theorem dX7_day_4 : decode cX7_day 4 = .ok (.sipush 500, 3) := dk_17 1 244 (dk_at dksX7_day_0 4 rfl rfl)
theorem dX7_day_7 : decode cX7_day 7 = .ok (.if_icmp .ne 5, 3) := dk_160 0 5 (dk_at dksX7_day_0 7 rfl rfl)
theorem dX7_day_10 : decode cX7_day 10 = .ok (.iconst 0, 1) := dk_3 (dk_at dksX7_day_0 10 rfl rfl)
theorem dX7_day_11 : decode cX7_day 11 = .ok (.ireturn, 1) := dk_172 (dk_at dksX7_day_0 11 rfl rfl)
theorem dX7_day_12 : decode cX7_day 12 = .ok (.aload_n 0, 1) := dk_42 (dk_at dksX7_day_0 12 rfl rfl)
theorem dX7_day_13 : decode cX7_day 13 = .ok (.invokevirtual 121, 3) := dk_182 0 121 (dk_at dksX7_day_0 13 rfl rfl)
theorem dX7_day_16 : decode cX7_day 16 = .ok (.iconst 1, 1) := dk_4 (dk_at dksX7_day_0 16 rfl rfl)
theorem dX7_day_17 : decode cX7_day 17 = .ok (.ireturn, 1) := dk_172 (dk_at dksX7_day_0 17 rfl rfl)
abbrev cX7_passes : ByteArray := prog_22_method_19_code
def yX7_passes : MethodName := ⟨RX7, "passes", "()V"⟩
def dkwX7_passes_5 : List UInt8 := [167, 255, 173, 42, 89, 180, 0, 49, 4, 96, 181, 0, 49, 177]
abbrev dktX7_passes_5 : List UInt8 := dkwX7_passes_5 ++ []
def dkwX7_passes_4 : List UInt8 := [180, 0, 28, 27, 46, 96, 184, 0, 127, 79, 42, 180, 0, 22, 27, 92, 46, 4, 96, 79, 132, 1, 1]
abbrev dktX7_passes_4 : List UInt8 := dkwX7_passes_4 ++ dktX7_passes_5
def dkwX7_passes_3 : List UInt8 := [182, 0, 73, 180, 0, 82, 96, 61, 42, 180, 0, 25, 28, 16, 99, 42, 180, 0, 25, 28, 46, 42]
abbrev dktX7_passes_3 : List UInt8 := dkwX7_passes_3 ++ dktX7_passes_4
def dkwX7_passes_2 : List UInt8 := [46, 2, 160, 0, 6, 167, 0, 59, 16, 10, 42, 180, 0, 15, 27, 46, 104, 42, 180, 0, 3, 27]
abbrev dktX7_passes_2 : List UInt8 := dkwX7_passes_2 ++ dktX7_passes_3
def dkwX7_passes_1 : List UInt8 := [132, 1, 1, 167, 255, 231, 3, 60, 27, 42, 180, 0, 3, 182, 0, 58, 162, 0, 78, 42, 180, 0, 15, 27]
abbrev dktX7_passes_1 : List UInt8 := dkwX7_passes_1 ++ dktX7_passes_2
def dkwX7_passes_0 : List UInt8 := [3, 60, 27, 42, 180, 0, 3, 182, 0, 58, 162, 0, 20, 42, 180, 0, 28, 27, 42, 27, 182, 0, 124, 79]
abbrev dktX7_passes_0 : List UInt8 := dkwX7_passes_0 ++ dktX7_passes_1
theorem dksX7_passes_0 : cX7_passes.data.toList.drop 0 = dktX7_passes_0 := by decide +kernel
theorem dksX7_passes_1 : cX7_passes.data.toList.drop 24 = dktX7_passes_1 := dk_seg dksX7_passes_0 24 rfl rfl
theorem dksX7_passes_2 : cX7_passes.data.toList.drop 48 = dktX7_passes_2 := dk_seg dksX7_passes_1 24 rfl rfl
theorem dksX7_passes_3 : cX7_passes.data.toList.drop 70 = dktX7_passes_3 := dk_seg dksX7_passes_2 22 rfl rfl
theorem dksX7_passes_4 : cX7_passes.data.toList.drop 92 = dktX7_passes_4 := dk_seg dksX7_passes_3 22 rfl rfl
theorem dksX7_passes_5 : cX7_passes.data.toList.drop 115 = dktX7_passes_5 := dk_seg dksX7_passes_4 23 rfl rfl
theorem dX7_passes_0 : decode cX7_passes 0 = .ok (.iconst 0, 1) := dk_3 (dk_at dksX7_passes_0 0 rfl rfl)
theorem dX7_passes_1 : decode cX7_passes 1 = .ok (.istore_n 1, 1) := dk_60 (dk_at dksX7_passes_0 1 rfl rfl)
theorem dX7_passes_2 : decode cX7_passes 2 = .ok (.iload_n 1, 1) := dk_27 (dk_at dksX7_passes_0 2 rfl rfl)
theorem dX7_passes_3 : decode cX7_passes 3 = .ok (.aload_n 0, 1) := dk_42 (dk_at dksX7_passes_0 3 rfl rfl)
theorem dX7_passes_4 : decode cX7_passes 4 = .ok (.getfield 3, 3) := dk_180 0 3 (dk_at dksX7_passes_0 4 rfl rfl)
theorem dX7_passes_7 : decode cX7_passes 7 = .ok (.invokevirtual 58, 3) := dk_182 0 58 (dk_at dksX7_passes_0 7 rfl rfl)
theorem dX7_passes_10 : decode cX7_passes 10 = .ok (.if_icmp .ge 20, 3) := dk_162 0 20 (dk_at dksX7_passes_0 10 rfl rfl)
theorem dX7_passes_13 : decode cX7_passes 13 = .ok (.aload_n 0, 1) := dk_42 (dk_at dksX7_passes_0 13 rfl rfl)
theorem dX7_passes_14 : decode cX7_passes 14 = .ok (.getfield 28, 3) := dk_180 0 28 (dk_at dksX7_passes_0 14 rfl rfl)
theorem dX7_passes_17 : decode cX7_passes 17 = .ok (.iload_n 1, 1) := dk_27 (dk_at dksX7_passes_0 17 rfl rfl)
theorem dX7_passes_18 : decode cX7_passes 18 = .ok (.aload_n 0, 1) := dk_42 (dk_at dksX7_passes_0 18 rfl rfl)
theorem dX7_passes_19 : decode cX7_passes 19 = .ok (.iload_n 1, 1) := dk_27 (dk_at dksX7_passes_0 19 rfl rfl)
theorem dX7_passes_20 : decode cX7_passes 20 = .ok (.invokevirtual 124, 3) := dk_182 0 124 (dk_at dksX7_passes_0 20 rfl rfl)
theorem dX7_passes_23 : decode cX7_passes 23 = .ok (.iastore, 1) := dk_79 (dk_at dksX7_passes_0 23 rfl rfl)
theorem dX7_passes_24 : decode cX7_passes 24 = .ok (.iinc 1 1, 3) := dk_132 1 1 (dk_at dksX7_passes_1 0 rfl rfl)
theorem dX7_passes_27 : decode cX7_passes 27 = .ok (.goto (-25), 3) := dk_167 255 231 (dk_at dksX7_passes_1 3 rfl rfl)
theorem dX7_passes_30 : decode cX7_passes 30 = .ok (.iconst 0, 1) := dk_3 (dk_at dksX7_passes_1 6 rfl rfl)
theorem dX7_passes_31 : decode cX7_passes 31 = .ok (.istore_n 1, 1) := dk_60 (dk_at dksX7_passes_1 7 rfl rfl)
theorem dX7_passes_32 : decode cX7_passes 32 = .ok (.iload_n 1, 1) := dk_27 (dk_at dksX7_passes_1 8 rfl rfl)
theorem dX7_passes_33 : decode cX7_passes 33 = .ok (.aload_n 0, 1) := dk_42 (dk_at dksX7_passes_1 9 rfl rfl)
theorem dX7_passes_34 : decode cX7_passes 34 = .ok (.getfield 3, 3) := dk_180 0 3 (dk_at dksX7_passes_1 10 rfl rfl)
theorem dX7_passes_37 : decode cX7_passes 37 = .ok (.invokevirtual 58, 3) := dk_182 0 58 (dk_at dksX7_passes_1 13 rfl rfl)
theorem dX7_passes_40 : decode cX7_passes 40 = .ok (.if_icmp .ge 78, 3) := dk_162 0 78 (dk_at dksX7_passes_1 16 rfl rfl)
theorem dX7_passes_43 : decode cX7_passes 43 = .ok (.aload_n 0, 1) := dk_42 (dk_at dksX7_passes_1 19 rfl rfl)
theorem dX7_passes_44 : decode cX7_passes 44 = .ok (.getfield 15, 3) := dk_180 0 15 (dk_at dksX7_passes_1 20 rfl rfl)
theorem dX7_passes_47 : decode cX7_passes 47 = .ok (.iload_n 1, 1) := dk_27 (dk_at dksX7_passes_1 23 rfl rfl)
theorem dX7_passes_48 : decode cX7_passes 48 = .ok (.iaload, 1) := dk_46 (dk_at dksX7_passes_2 0 rfl rfl)
theorem dX7_passes_49 : decode cX7_passes 49 = .ok (.iconst (-1), 1) := dk_2 (dk_at dksX7_passes_2 1 rfl rfl)
theorem dX7_passes_50 : decode cX7_passes 50 = .ok (.if_icmp .ne 6, 3) := dk_160 0 6 (dk_at dksX7_passes_2 2 rfl rfl)
theorem dX7_passes_53 : decode cX7_passes 53 = .ok (.goto 59, 3) := dk_167 0 59 (dk_at dksX7_passes_2 5 rfl rfl)
theorem dX7_passes_56 : decode cX7_passes 56 = .ok (.bipush 10, 2) := dk_16 10 (dk_at dksX7_passes_2 8 rfl rfl)
theorem dX7_passes_58 : decode cX7_passes 58 = .ok (.aload_n 0, 1) := dk_42 (dk_at dksX7_passes_2 10 rfl rfl)
theorem dX7_passes_59 : decode cX7_passes 59 = .ok (.getfield 15, 3) := dk_180 0 15 (dk_at dksX7_passes_2 11 rfl rfl)
theorem dX7_passes_62 : decode cX7_passes 62 = .ok (.iload_n 1, 1) := dk_27 (dk_at dksX7_passes_2 14 rfl rfl)
theorem dX7_passes_63 : decode cX7_passes 63 = .ok (.iaload, 1) := dk_46 (dk_at dksX7_passes_2 15 rfl rfl)
theorem dX7_passes_64 : decode cX7_passes 64 = .ok (.imul, 1) := dk_104 (dk_at dksX7_passes_2 16 rfl rfl)
theorem dX7_passes_65 : decode cX7_passes 65 = .ok (.aload_n 0, 1) := dk_42 (dk_at dksX7_passes_2 17 rfl rfl)
theorem dX7_passes_66 : decode cX7_passes 66 = .ok (.getfield 3, 3) := dk_180 0 3 (dk_at dksX7_passes_2 18 rfl rfl)
theorem dX7_passes_69 : decode cX7_passes 69 = .ok (.iload_n 1, 1) := dk_27 (dk_at dksX7_passes_2 21 rfl rfl)
theorem dX7_passes_70 : decode cX7_passes 70 = .ok (.invokevirtual 73, 3) := dk_182 0 73 (dk_at dksX7_passes_3 0 rfl rfl)
theorem dX7_passes_73 : decode cX7_passes 73 = .ok (.getfield 82, 3) := dk_180 0 82 (dk_at dksX7_passes_3 3 rfl rfl)
theorem dX7_passes_76 : decode cX7_passes 76 = .ok (.iadd, 1) := dk_96 (dk_at dksX7_passes_3 6 rfl rfl)
theorem dX7_passes_77 : decode cX7_passes 77 = .ok (.istore_n 2, 1) := dk_61 (dk_at dksX7_passes_3 7 rfl rfl)
theorem dX7_passes_78 : decode cX7_passes 78 = .ok (.aload_n 0, 1) := dk_42 (dk_at dksX7_passes_3 8 rfl rfl)
theorem dX7_passes_79 : decode cX7_passes 79 = .ok (.getfield 25, 3) := dk_180 0 25 (dk_at dksX7_passes_3 9 rfl rfl)
theorem dX7_passes_82 : decode cX7_passes 82 = .ok (.iload_n 2, 1) := dk_28 (dk_at dksX7_passes_3 12 rfl rfl)
theorem dX7_passes_83 : decode cX7_passes 83 = .ok (.bipush 99, 2) := dk_16 99 (dk_at dksX7_passes_3 13 rfl rfl)
theorem dX7_passes_85 : decode cX7_passes 85 = .ok (.aload_n 0, 1) := dk_42 (dk_at dksX7_passes_3 15 rfl rfl)
theorem dX7_passes_86 : decode cX7_passes 86 = .ok (.getfield 25, 3) := dk_180 0 25 (dk_at dksX7_passes_3 16 rfl rfl)
theorem dX7_passes_89 : decode cX7_passes 89 = .ok (.iload_n 2, 1) := dk_28 (dk_at dksX7_passes_3 19 rfl rfl)
theorem dX7_passes_90 : decode cX7_passes 90 = .ok (.iaload, 1) := dk_46 (dk_at dksX7_passes_3 20 rfl rfl)
theorem dX7_passes_91 : decode cX7_passes 91 = .ok (.aload_n 0, 1) := dk_42 (dk_at dksX7_passes_3 21 rfl rfl)
theorem dX7_passes_92 : decode cX7_passes 92 = .ok (.getfield 28, 3) := dk_180 0 28 (dk_at dksX7_passes_4 0 rfl rfl)
theorem dX7_passes_95 : decode cX7_passes 95 = .ok (.iload_n 1, 1) := dk_27 (dk_at dksX7_passes_4 3 rfl rfl)
theorem dX7_passes_96 : decode cX7_passes 96 = .ok (.iaload, 1) := dk_46 (dk_at dksX7_passes_4 4 rfl rfl)
theorem dX7_passes_97 : decode cX7_passes 97 = .ok (.iadd, 1) := dk_96 (dk_at dksX7_passes_4 5 rfl rfl)
theorem dX7_passes_98 : decode cX7_passes 98 = .ok (.invokestatic 127, 3) := dk_184 0 127 (dk_at dksX7_passes_4 6 rfl rfl)
theorem dX7_passes_101 : decode cX7_passes 101 = .ok (.iastore, 1) := dk_79 (dk_at dksX7_passes_4 9 rfl rfl)
theorem dX7_passes_102 : decode cX7_passes 102 = .ok (.aload_n 0, 1) := dk_42 (dk_at dksX7_passes_4 10 rfl rfl)
theorem dX7_passes_103 : decode cX7_passes 103 = .ok (.getfield 22, 3) := dk_180 0 22 (dk_at dksX7_passes_4 11 rfl rfl)
theorem dX7_passes_106 : decode cX7_passes 106 = .ok (.iload_n 1, 1) := dk_27 (dk_at dksX7_passes_4 14 rfl rfl)
theorem dX7_passes_107 : decode cX7_passes 107 = .ok (.dup2, 1) := dk_92 (dk_at dksX7_passes_4 15 rfl rfl)
theorem dX7_passes_108 : decode cX7_passes 108 = .ok (.iaload, 1) := dk_46 (dk_at dksX7_passes_4 16 rfl rfl)
theorem dX7_passes_109 : decode cX7_passes 109 = .ok (.iconst 1, 1) := dk_4 (dk_at dksX7_passes_4 17 rfl rfl)
theorem dX7_passes_110 : decode cX7_passes 110 = .ok (.iadd, 1) := dk_96 (dk_at dksX7_passes_4 18 rfl rfl)
theorem dX7_passes_111 : decode cX7_passes 111 = .ok (.iastore, 1) := dk_79 (dk_at dksX7_passes_4 19 rfl rfl)
theorem dX7_passes_112 : decode cX7_passes 112 = .ok (.iinc 1 1, 3) := dk_132 1 1 (dk_at dksX7_passes_4 20 rfl rfl)
theorem dX7_passes_115 : decode cX7_passes 115 = .ok (.goto (-83), 3) := dk_167 255 173 (dk_at dksX7_passes_5 0 rfl rfl)
theorem dX7_passes_118 : decode cX7_passes 118 = .ok (.aload_n 0, 1) := dk_42 (dk_at dksX7_passes_5 3 rfl rfl)
theorem dX7_passes_119 : decode cX7_passes 119 = .ok (.dup, 1) := dk_89 (dk_at dksX7_passes_5 4 rfl rfl)
theorem dX7_passes_120 : decode cX7_passes 120 = .ok (.getfield 49, 3) := dk_180 0 49 (dk_at dksX7_passes_5 5 rfl rfl)
theorem dX7_passes_123 : decode cX7_passes 123 = .ok (.iconst 1, 1) := dk_4 (dk_at dksX7_passes_5 8 rfl rfl)
theorem dX7_passes_124 : decode cX7_passes 124 = .ok (.iadd, 1) := dk_96 (dk_at dksX7_passes_5 9 rfl rfl)
theorem dX7_passes_125 : decode cX7_passes 125 = .ok (.putfield 49, 3) := dk_181 0 49 (dk_at dksX7_passes_5 10 rfl rfl)
theorem dX7_passes_128 : decode cX7_passes 128 = .ok (.return_, 1) := dk_177 (dk_at dksX7_passes_5 13 rfl rfl)
abbrev cX7_brings : ByteArray := prog_22_method_10_code
def yX7_brings : MethodName := ⟨RX7, "brings", "(I)I"⟩
def dkwX7_brings_2 : List UInt8 := [61, 132, 4, 1, 167, 255, 219, 3, 28, 184, 0, 106, 172]
abbrev dktX7_brings_2 : List UInt8 := dkwX7_brings_2 ++ []
def dkwX7_brings_1 : List UInt8 := [162, 0, 31, 28, 29, 21, 4, 184, 0, 65, 153, 0, 12, 42, 21, 4, 182, 0, 100, 167, 0, 4, 3, 100]
abbrev dktX7_brings_1 : List UInt8 := dkwX7_brings_1 ++ dktX7_brings_2
def dkwX7_brings_0 : List UInt8 := [42, 27, 182, 0, 100, 61, 42, 27, 182, 0, 103, 62, 3, 54, 4, 21, 4, 42, 180, 0, 3, 182, 0, 58]
abbrev dktX7_brings_0 : List UInt8 := dkwX7_brings_0 ++ dktX7_brings_1
theorem dksX7_brings_0 : cX7_brings.data.toList.drop 0 = dktX7_brings_0 := by decide +kernel
theorem dksX7_brings_1 : cX7_brings.data.toList.drop 24 = dktX7_brings_1 := dk_seg dksX7_brings_0 24 rfl rfl
theorem dksX7_brings_2 : cX7_brings.data.toList.drop 48 = dktX7_brings_2 := dk_seg dksX7_brings_1 24 rfl rfl
theorem dX7_brings_0 : decode cX7_brings 0 = .ok (.aload_n 0, 1) := dk_42 (dk_at dksX7_brings_0 0 rfl rfl)
theorem dX7_brings_1 : decode cX7_brings 1 = .ok (.iload_n 1, 1) := dk_27 (dk_at dksX7_brings_0 1 rfl rfl)
theorem dX7_brings_2 : decode cX7_brings 2 = .ok (.invokevirtual 100, 3) := dk_182 0 100 (dk_at dksX7_brings_0 2 rfl rfl)
theorem dX7_brings_5 : decode cX7_brings 5 = .ok (.istore_n 2, 1) := dk_61 (dk_at dksX7_brings_0 5 rfl rfl)
theorem dX7_brings_6 : decode cX7_brings 6 = .ok (.aload_n 0, 1) := dk_42 (dk_at dksX7_brings_0 6 rfl rfl)
theorem dX7_brings_7 : decode cX7_brings 7 = .ok (.iload_n 1, 1) := dk_27 (dk_at dksX7_brings_0 7 rfl rfl)
theorem dX7_brings_8 : decode cX7_brings 8 = .ok (.invokevirtual 103, 3) := dk_182 0 103 (dk_at dksX7_brings_0 8 rfl rfl)
theorem dX7_brings_11 : decode cX7_brings 11 = .ok (.istore_n 3, 1) := dk_62 (dk_at dksX7_brings_0 11 rfl rfl)
theorem dX7_brings_12 : decode cX7_brings 12 = .ok (.iconst 0, 1) := dk_3 (dk_at dksX7_brings_0 12 rfl rfl)
theorem dX7_brings_13 : decode cX7_brings 13 = .ok (.istore 4, 2) := dk_54 4 (dk_at dksX7_brings_0 13 rfl rfl)
theorem dX7_brings_15 : decode cX7_brings 15 = .ok (.iload 4, 2) := dk_21 4 (dk_at dksX7_brings_0 15 rfl rfl)
theorem dX7_brings_17 : decode cX7_brings 17 = .ok (.aload_n 0, 1) := dk_42 (dk_at dksX7_brings_0 17 rfl rfl)
theorem dX7_brings_18 : decode cX7_brings 18 = .ok (.getfield 3, 3) := dk_180 0 3 (dk_at dksX7_brings_0 18 rfl rfl)
theorem dX7_brings_21 : decode cX7_brings 21 = .ok (.invokevirtual 58, 3) := dk_182 0 58 (dk_at dksX7_brings_0 21 rfl rfl)
theorem dX7_brings_24 : decode cX7_brings 24 = .ok (.if_icmp .ge 31, 3) := dk_162 0 31 (dk_at dksX7_brings_1 0 rfl rfl)
theorem dX7_brings_27 : decode cX7_brings 27 = .ok (.iload_n 2, 1) := dk_28 (dk_at dksX7_brings_1 3 rfl rfl)
theorem dX7_brings_28 : decode cX7_brings 28 = .ok (.iload_n 3, 1) := dk_29 (dk_at dksX7_brings_1 4 rfl rfl)
theorem dX7_brings_29 : decode cX7_brings 29 = .ok (.iload 4, 2) := dk_21 4 (dk_at dksX7_brings_1 5 rfl rfl)
theorem dX7_brings_31 : decode cX7_brings 31 = .ok (.invokestatic 65, 3) := dk_184 0 65 (dk_at dksX7_brings_1 7 rfl rfl)
theorem dX7_brings_34 : decode cX7_brings 34 = .ok (.ifCond .eq 12, 3) := dk_153 0 12 (dk_at dksX7_brings_1 10 rfl rfl)
theorem dX7_brings_37 : decode cX7_brings 37 = .ok (.aload_n 0, 1) := dk_42 (dk_at dksX7_brings_1 13 rfl rfl)
theorem dX7_brings_38 : decode cX7_brings 38 = .ok (.iload 4, 2) := dk_21 4 (dk_at dksX7_brings_1 14 rfl rfl)
theorem dX7_brings_40 : decode cX7_brings 40 = .ok (.invokevirtual 100, 3) := dk_182 0 100 (dk_at dksX7_brings_1 16 rfl rfl)
theorem dX7_brings_43 : decode cX7_brings 43 = .ok (.goto 4, 3) := dk_167 0 4 (dk_at dksX7_brings_1 19 rfl rfl)
theorem dX7_brings_46 : decode cX7_brings 46 = .ok (.iconst 0, 1) := dk_3 (dk_at dksX7_brings_1 22 rfl rfl)
theorem dX7_brings_47 : decode cX7_brings 47 = .ok (.isub, 1) := dk_100 (dk_at dksX7_brings_1 23 rfl rfl)
theorem dX7_brings_48 : decode cX7_brings 48 = .ok (.istore_n 2, 1) := dk_61 (dk_at dksX7_brings_2 0 rfl rfl)
theorem dX7_brings_49 : decode cX7_brings 49 = .ok (.iinc 4 1, 3) := dk_132 4 1 (dk_at dksX7_brings_2 1 rfl rfl)
theorem dX7_brings_52 : decode cX7_brings 52 = .ok (.goto (-37), 3) := dk_167 255 219 (dk_at dksX7_brings_2 4 rfl rfl)
theorem dX7_brings_55 : decode cX7_brings 55 = .ok (.iconst 0, 1) := dk_3 (dk_at dksX7_brings_2 7 rfl rfl)
theorem dX7_brings_56 : decode cX7_brings 56 = .ok (.iload_n 2, 1) := dk_28 (dk_at dksX7_brings_2 8 rfl rfl)
theorem dX7_brings_57 : decode cX7_brings 57 = .ok (.invokestatic 106, 3) := dk_184 0 106 (dk_at dksX7_brings_2 9 rfl rfl)
theorem dX7_brings_60 : decode cX7_brings 60 = .ok (.ireturn, 1) := dk_172 (dk_at dksX7_brings_2 12 rfl rfl)
abbrev cX7_force : ByteArray := prog_22_method_6_code
def yX7_force : MethodName := ⟨RX7, "force", "(I)I"⟩
def dkwX7_force_0 : List UInt8 := [42, 27, 42, 180, 0, 19, 27, 46, 182, 0, 69, 172]
abbrev dktX7_force_0 : List UInt8 := dkwX7_force_0 ++ []
theorem dksX7_force_0 : cX7_force.data.toList.drop 0 = dktX7_force_0 := by decide +kernel
theorem dX7_force_0 : decode cX7_force 0 = .ok (.aload_n 0, 1) := dk_42 (dk_at dksX7_force_0 0 rfl rfl)
theorem dX7_force_1 : decode cX7_force 1 = .ok (.iload_n 1, 1) := dk_27 (dk_at dksX7_force_0 1 rfl rfl)
theorem dX7_force_2 : decode cX7_force 2 = .ok (.aload_n 0, 1) := dk_42 (dk_at dksX7_force_0 2 rfl rfl)
theorem dX7_force_3 : decode cX7_force 3 = .ok (.getfield 19, 3) := dk_180 0 19 (dk_at dksX7_force_0 3 rfl rfl)
theorem dX7_force_6 : decode cX7_force 6 = .ok (.iload_n 1, 1) := dk_27 (dk_at dksX7_force_0 6 rfl rfl)
theorem dX7_force_7 : decode cX7_force 7 = .ok (.iaload, 1) := dk_46 (dk_at dksX7_force_0 7 rfl rfl)
theorem dX7_force_8 : decode cX7_force 8 = .ok (.invokevirtual 69, 3) := dk_182 0 69 (dk_at dksX7_force_0 8 rfl rfl)
theorem dX7_force_11 : decode cX7_force 11 = .ok (.ireturn, 1) := dk_172 (dk_at dksX7_force_0 11 rfl rfl)
abbrev cX7_forceWith : ByteArray := prog_22_method_7_code
def yX7_forceWith : MethodName := ⟨RX7, "forceWith", "(II)I"⟩
def dkwX7_forceWith_3 : List UInt8 := [180, 0, 49, 182, 0, 93, 172]
abbrev dktX7_forceWith_3 : List UInt8 := dkwX7_forceWith_3 ++ []
def dkwX7_forceWith_2 : List UInt8 := [25, 4, 180, 0, 82, 96, 46, 25, 4, 180, 0, 82, 42, 29, 182, 0, 84, 184, 0, 88, 29, 42]
abbrev dktX7_forceWith_2 : List UInt8 := dkwX7_forceWith_2 ++ dktX7_forceWith_3
def dkwX7_forceWith_1 : List UInt8 := [42, 180, 0, 3, 25, 4, 180, 0, 77, 28, 42, 180, 0, 22, 27, 46, 42, 180, 0, 25, 16, 10, 29, 104]
abbrev dktX7_forceWith_1 : List UInt8 := dkwX7_forceWith_1 ++ dktX7_forceWith_2
def dkwX7_forceWith_0 : List UInt8 := [42, 180, 0, 15, 27, 46, 62, 29, 2, 160, 0, 5, 3, 172, 42, 180, 0, 3, 27, 182, 0, 73, 58, 4]
abbrev dktX7_forceWith_0 : List UInt8 := dkwX7_forceWith_0 ++ dktX7_forceWith_1
theorem dksX7_forceWith_0 : cX7_forceWith.data.toList.drop 0 = dktX7_forceWith_0 := by decide +kernel
theorem dksX7_forceWith_1 : cX7_forceWith.data.toList.drop 24 = dktX7_forceWith_1 := dk_seg dksX7_forceWith_0 24 rfl rfl
theorem dksX7_forceWith_2 : cX7_forceWith.data.toList.drop 48 = dktX7_forceWith_2 := dk_seg dksX7_forceWith_1 24 rfl rfl
theorem dksX7_forceWith_3 : cX7_forceWith.data.toList.drop 70 = dktX7_forceWith_3 := dk_seg dksX7_forceWith_2 22 rfl rfl
theorem dX7_forceWith_0 : decode cX7_forceWith 0 = .ok (.aload_n 0, 1) := dk_42 (dk_at dksX7_forceWith_0 0 rfl rfl)
theorem dX7_forceWith_1 : decode cX7_forceWith 1 = .ok (.getfield 15, 3) := dk_180 0 15 (dk_at dksX7_forceWith_0 1 rfl rfl)
theorem dX7_forceWith_4 : decode cX7_forceWith 4 = .ok (.iload_n 1, 1) := dk_27 (dk_at dksX7_forceWith_0 4 rfl rfl)
theorem dX7_forceWith_5 : decode cX7_forceWith 5 = .ok (.iaload, 1) := dk_46 (dk_at dksX7_forceWith_0 5 rfl rfl)
theorem dX7_forceWith_6 : decode cX7_forceWith 6 = .ok (.istore_n 3, 1) := dk_62 (dk_at dksX7_forceWith_0 6 rfl rfl)
theorem dX7_forceWith_7 : decode cX7_forceWith 7 = .ok (.iload_n 3, 1) := dk_29 (dk_at dksX7_forceWith_0 7 rfl rfl)
theorem dX7_forceWith_8 : decode cX7_forceWith 8 = .ok (.iconst (-1), 1) := dk_2 (dk_at dksX7_forceWith_0 8 rfl rfl)
theorem dX7_forceWith_9 : decode cX7_forceWith 9 = .ok (.if_icmp .ne 5, 3) := dk_160 0 5 (dk_at dksX7_forceWith_0 9 rfl rfl)
theorem dX7_forceWith_12 : decode cX7_forceWith 12 = .ok (.iconst 0, 1) := dk_3 (dk_at dksX7_forceWith_0 12 rfl rfl)
theorem dX7_forceWith_13 : decode cX7_forceWith 13 = .ok (.ireturn, 1) := dk_172 (dk_at dksX7_forceWith_0 13 rfl rfl)
theorem dX7_forceWith_14 : decode cX7_forceWith 14 = .ok (.aload_n 0, 1) := dk_42 (dk_at dksX7_forceWith_0 14 rfl rfl)
theorem dX7_forceWith_15 : decode cX7_forceWith 15 = .ok (.getfield 3, 3) := dk_180 0 3 (dk_at dksX7_forceWith_0 15 rfl rfl)
theorem dX7_forceWith_18 : decode cX7_forceWith 18 = .ok (.iload_n 1, 1) := dk_27 (dk_at dksX7_forceWith_0 18 rfl rfl)
theorem dX7_forceWith_19 : decode cX7_forceWith 19 = .ok (.invokevirtual 73, 3) := dk_182 0 73 (dk_at dksX7_forceWith_0 19 rfl rfl)
theorem dX7_forceWith_22 : decode cX7_forceWith 22 = .ok (.astore 4, 2) := dk_58 4 (dk_at dksX7_forceWith_0 22 rfl rfl)
theorem dX7_forceWith_24 : decode cX7_forceWith 24 = .ok (.aload_n 0, 1) := dk_42 (dk_at dksX7_forceWith_1 0 rfl rfl)
theorem dX7_forceWith_25 : decode cX7_forceWith 25 = .ok (.getfield 3, 3) := dk_180 0 3 (dk_at dksX7_forceWith_1 1 rfl rfl)
theorem dX7_forceWith_28 : decode cX7_forceWith 28 = .ok (.aload 4, 2) := dk_25 4 (dk_at dksX7_forceWith_1 4 rfl rfl)
theorem dX7_forceWith_30 : decode cX7_forceWith 30 = .ok (.getfield 77, 3) := dk_180 0 77 (dk_at dksX7_forceWith_1 6 rfl rfl)
theorem dX7_forceWith_33 : decode cX7_forceWith 33 = .ok (.iload_n 2, 1) := dk_28 (dk_at dksX7_forceWith_1 9 rfl rfl)
theorem dX7_forceWith_34 : decode cX7_forceWith 34 = .ok (.aload_n 0, 1) := dk_42 (dk_at dksX7_forceWith_1 10 rfl rfl)
theorem dX7_forceWith_35 : decode cX7_forceWith 35 = .ok (.getfield 22, 3) := dk_180 0 22 (dk_at dksX7_forceWith_1 11 rfl rfl)
theorem dX7_forceWith_38 : decode cX7_forceWith 38 = .ok (.iload_n 1, 1) := dk_27 (dk_at dksX7_forceWith_1 14 rfl rfl)
theorem dX7_forceWith_39 : decode cX7_forceWith 39 = .ok (.iaload, 1) := dk_46 (dk_at dksX7_forceWith_1 15 rfl rfl)
theorem dX7_forceWith_40 : decode cX7_forceWith 40 = .ok (.aload_n 0, 1) := dk_42 (dk_at dksX7_forceWith_1 16 rfl rfl)
theorem dX7_forceWith_41 : decode cX7_forceWith 41 = .ok (.getfield 25, 3) := dk_180 0 25 (dk_at dksX7_forceWith_1 17 rfl rfl)
theorem dX7_forceWith_44 : decode cX7_forceWith 44 = .ok (.bipush 10, 2) := dk_16 10 (dk_at dksX7_forceWith_1 20 rfl rfl)
theorem dX7_forceWith_46 : decode cX7_forceWith 46 = .ok (.iload_n 3, 1) := dk_29 (dk_at dksX7_forceWith_1 22 rfl rfl)
theorem dX7_forceWith_47 : decode cX7_forceWith 47 = .ok (.imul, 1) := dk_104 (dk_at dksX7_forceWith_1 23 rfl rfl)
theorem dX7_forceWith_48 : decode cX7_forceWith 48 = .ok (.aload 4, 2) := dk_25 4 (dk_at dksX7_forceWith_2 0 rfl rfl)
theorem dX7_forceWith_50 : decode cX7_forceWith 50 = .ok (.getfield 82, 3) := dk_180 0 82 (dk_at dksX7_forceWith_2 2 rfl rfl)
theorem dX7_forceWith_53 : decode cX7_forceWith 53 = .ok (.iadd, 1) := dk_96 (dk_at dksX7_forceWith_2 5 rfl rfl)
theorem dX7_forceWith_54 : decode cX7_forceWith 54 = .ok (.iaload, 1) := dk_46 (dk_at dksX7_forceWith_2 6 rfl rfl)
theorem dX7_forceWith_55 : decode cX7_forceWith 55 = .ok (.aload 4, 2) := dk_25 4 (dk_at dksX7_forceWith_2 7 rfl rfl)
theorem dX7_forceWith_57 : decode cX7_forceWith 57 = .ok (.getfield 82, 3) := dk_180 0 82 (dk_at dksX7_forceWith_2 9 rfl rfl)
theorem dX7_forceWith_60 : decode cX7_forceWith 60 = .ok (.aload_n 0, 1) := dk_42 (dk_at dksX7_forceWith_2 12 rfl rfl)
theorem dX7_forceWith_61 : decode cX7_forceWith 61 = .ok (.iload_n 3, 1) := dk_29 (dk_at dksX7_forceWith_2 13 rfl rfl)
theorem dX7_forceWith_62 : decode cX7_forceWith 62 = .ok (.invokevirtual 84, 3) := dk_182 0 84 (dk_at dksX7_forceWith_2 14 rfl rfl)
theorem dX7_forceWith_65 : decode cX7_forceWith 65 = .ok (.invokestatic 88, 3) := dk_184 0 88 (dk_at dksX7_forceWith_2 17 rfl rfl)
theorem dX7_forceWith_68 : decode cX7_forceWith 68 = .ok (.iload_n 3, 1) := dk_29 (dk_at dksX7_forceWith_2 20 rfl rfl)
theorem dX7_forceWith_69 : decode cX7_forceWith 69 = .ok (.aload_n 0, 1) := dk_42 (dk_at dksX7_forceWith_2 21 rfl rfl)
theorem dX7_forceWith_70 : decode cX7_forceWith 70 = .ok (.getfield 49, 3) := dk_180 0 49 (dk_at dksX7_forceWith_3 0 rfl rfl)
theorem dX7_forceWith_73 : decode cX7_forceWith 73 = .ok (.invokevirtual 93, 3) := dk_182 0 93 (dk_at dksX7_forceWith_3 3 rfl rfl)
theorem dX7_forceWith_76 : decode cX7_forceWith 76 = .ok (.ireturn, 1) := dk_172 (dk_at dksX7_forceWith_3 6 rfl rfl)
abbrev cX7_next : ByteArray := prog_22_method_5_code
def yX7_next : MethodName := ⟨RX7, "next", "(I)I"⟩
def dkwX7_next_2 : List UInt8 := [153, 0, 9, 4, 29, 120, 167, 0, 4, 3, 128, 61, 132, 3, 1, 167, 255, 198, 28, 172]
abbrev dktX7_next_2 : List UInt8 := dkwX7_next_2 ++ []
def dkwX7_next_1 : List UInt8 := [159, 0, 33, 42, 180, 0, 3, 180, 0, 31, 180, 0, 62, 27, 46, 42, 180, 0, 15, 29, 46, 184, 0, 65]
abbrev dktX7_next_1 : List UInt8 := dkwX7_next_1 ++ dktX7_next_2
def dkwX7_next_0 : List UInt8 := [3, 61, 3, 62, 29, 42, 180, 0, 3, 182, 0, 58, 162, 0, 53, 28, 42, 180, 0, 15, 29, 46, 2]
abbrev dktX7_next_0 : List UInt8 := dkwX7_next_0 ++ dktX7_next_1
theorem dksX7_next_0 : cX7_next.data.toList.drop 0 = dktX7_next_0 := by decide +kernel
theorem dksX7_next_1 : cX7_next.data.toList.drop 23 = dktX7_next_1 := dk_seg dksX7_next_0 23 rfl rfl
theorem dksX7_next_2 : cX7_next.data.toList.drop 47 = dktX7_next_2 := dk_seg dksX7_next_1 24 rfl rfl
theorem dX7_next_0 : decode cX7_next 0 = .ok (.iconst 0, 1) := dk_3 (dk_at dksX7_next_0 0 rfl rfl)
theorem dX7_next_1 : decode cX7_next 1 = .ok (.istore_n 2, 1) := dk_61 (dk_at dksX7_next_0 1 rfl rfl)
theorem dX7_next_2 : decode cX7_next 2 = .ok (.iconst 0, 1) := dk_3 (dk_at dksX7_next_0 2 rfl rfl)
theorem dX7_next_3 : decode cX7_next 3 = .ok (.istore_n 3, 1) := dk_62 (dk_at dksX7_next_0 3 rfl rfl)
theorem dX7_next_4 : decode cX7_next 4 = .ok (.iload_n 3, 1) := dk_29 (dk_at dksX7_next_0 4 rfl rfl)
theorem dX7_next_5 : decode cX7_next 5 = .ok (.aload_n 0, 1) := dk_42 (dk_at dksX7_next_0 5 rfl rfl)
theorem dX7_next_6 : decode cX7_next 6 = .ok (.getfield 3, 3) := dk_180 0 3 (dk_at dksX7_next_0 6 rfl rfl)
theorem dX7_next_9 : decode cX7_next 9 = .ok (.invokevirtual 58, 3) := dk_182 0 58 (dk_at dksX7_next_0 9 rfl rfl)
theorem dX7_next_12 : decode cX7_next 12 = .ok (.if_icmp .ge 53, 3) := dk_162 0 53 (dk_at dksX7_next_0 12 rfl rfl)
theorem dX7_next_15 : decode cX7_next 15 = .ok (.iload_n 2, 1) := dk_28 (dk_at dksX7_next_0 15 rfl rfl)
theorem dX7_next_16 : decode cX7_next 16 = .ok (.aload_n 0, 1) := dk_42 (dk_at dksX7_next_0 16 rfl rfl)
theorem dX7_next_17 : decode cX7_next 17 = .ok (.getfield 15, 3) := dk_180 0 15 (dk_at dksX7_next_0 17 rfl rfl)
theorem dX7_next_20 : decode cX7_next 20 = .ok (.iload_n 3, 1) := dk_29 (dk_at dksX7_next_0 20 rfl rfl)
theorem dX7_next_21 : decode cX7_next 21 = .ok (.iaload, 1) := dk_46 (dk_at dksX7_next_0 21 rfl rfl)
theorem dX7_next_22 : decode cX7_next 22 = .ok (.iconst (-1), 1) := dk_2 (dk_at dksX7_next_0 22 rfl rfl)
theorem dX7_next_23 : decode cX7_next 23 = .ok (.if_icmp .eq 33, 3) := dk_159 0 33 (dk_at dksX7_next_1 0 rfl rfl)
theorem dX7_next_26 : decode cX7_next 26 = .ok (.aload_n 0, 1) := dk_42 (dk_at dksX7_next_1 3 rfl rfl)
theorem dX7_next_27 : decode cX7_next 27 = .ok (.getfield 3, 3) := dk_180 0 3 (dk_at dksX7_next_1 4 rfl rfl)
theorem dX7_next_30 : decode cX7_next 30 = .ok (.getfield 31, 3) := dk_180 0 31 (dk_at dksX7_next_1 7 rfl rfl)
theorem dX7_next_33 : decode cX7_next 33 = .ok (.getfield 62, 3) := dk_180 0 62 (dk_at dksX7_next_1 10 rfl rfl)
theorem dX7_next_36 : decode cX7_next 36 = .ok (.iload_n 1, 1) := dk_27 (dk_at dksX7_next_1 13 rfl rfl)
theorem dX7_next_37 : decode cX7_next 37 = .ok (.iaload, 1) := dk_46 (dk_at dksX7_next_1 14 rfl rfl)
theorem dX7_next_38 : decode cX7_next 38 = .ok (.aload_n 0, 1) := dk_42 (dk_at dksX7_next_1 15 rfl rfl)
theorem dX7_next_39 : decode cX7_next 39 = .ok (.getfield 15, 3) := dk_180 0 15 (dk_at dksX7_next_1 16 rfl rfl)
theorem dX7_next_42 : decode cX7_next 42 = .ok (.iload_n 3, 1) := dk_29 (dk_at dksX7_next_1 19 rfl rfl)
theorem dX7_next_43 : decode cX7_next 43 = .ok (.iaload, 1) := dk_46 (dk_at dksX7_next_1 20 rfl rfl)
theorem dX7_next_44 : decode cX7_next 44 = .ok (.invokestatic 65, 3) := dk_184 0 65 (dk_at dksX7_next_1 21 rfl rfl)
theorem dX7_next_47 : decode cX7_next 47 = .ok (.ifCond .eq 9, 3) := dk_153 0 9 (dk_at dksX7_next_2 0 rfl rfl)
theorem dX7_next_50 : decode cX7_next 50 = .ok (.iconst 1, 1) := dk_4 (dk_at dksX7_next_2 3 rfl rfl)
theorem dX7_next_51 : decode cX7_next 51 = .ok (.iload_n 3, 1) := dk_29 (dk_at dksX7_next_2 4 rfl rfl)
theorem dX7_next_52 : decode cX7_next 52 = .ok (.ishl, 1) := dk_120 (dk_at dksX7_next_2 5 rfl rfl)
theorem dX7_next_53 : decode cX7_next 53 = .ok (.goto 4, 3) := dk_167 0 4 (dk_at dksX7_next_2 6 rfl rfl)
theorem dX7_next_56 : decode cX7_next 56 = .ok (.iconst 0, 1) := dk_3 (dk_at dksX7_next_2 9 rfl rfl)
theorem dX7_next_57 : decode cX7_next 57 = .ok (.ior, 1) := dk_128 (dk_at dksX7_next_2 10 rfl rfl)
theorem dX7_next_58 : decode cX7_next 58 = .ok (.istore_n 2, 1) := dk_61 (dk_at dksX7_next_2 11 rfl rfl)
theorem dX7_next_59 : decode cX7_next 59 = .ok (.iinc 3 1, 3) := dk_132 3 1 (dk_at dksX7_next_2 12 rfl rfl)
theorem dX7_next_62 : decode cX7_next 62 = .ok (.goto (-58), 3) := dk_167 255 198 (dk_at dksX7_next_2 15 rfl rfl)
theorem dX7_next_65 : decode cX7_next 65 = .ok (.iload_n 2, 1) := dk_28 (dk_at dksX7_next_2 18 rfl rfl)
theorem dX7_next_66 : decode cX7_next 66 = .ok (.ireturn, 1) := dk_172 (dk_at dksX7_next_2 19 rfl rfl)
abbrev cX7_fights : ByteArray := prog_22_method_8_code
def yX7_fights : MethodName := ⟨RX7, "fights", "(I)I"⟩
def dkwX7_fights_1 : List UInt8 := [182, 0, 97, 172]
abbrev dktX7_fights_1 : List UInt8 := dkwX7_fights_1 ++ []
def dkwX7_fights_0 : List UInt8 := [42, 180, 0, 15, 27, 46, 2, 160, 0, 7, 3, 167, 0, 14, 42, 27, 42, 180, 0, 15, 27, 46]
abbrev dktX7_fights_0 : List UInt8 := dkwX7_fights_0 ++ dktX7_fights_1
theorem dksX7_fights_0 : cX7_fights.data.toList.drop 0 = dktX7_fights_0 := by decide +kernel
theorem dksX7_fights_1 : cX7_fights.data.toList.drop 22 = dktX7_fights_1 := dk_seg dksX7_fights_0 22 rfl rfl
theorem dX7_fights_0 : decode cX7_fights 0 = .ok (.aload_n 0, 1) := dk_42 (dk_at dksX7_fights_0 0 rfl rfl)
theorem dX7_fights_1 : decode cX7_fights 1 = .ok (.getfield 15, 3) := dk_180 0 15 (dk_at dksX7_fights_0 1 rfl rfl)
theorem dX7_fights_4 : decode cX7_fights 4 = .ok (.iload_n 1, 1) := dk_27 (dk_at dksX7_fights_0 4 rfl rfl)
theorem dX7_fights_5 : decode cX7_fights 5 = .ok (.iaload, 1) := dk_46 (dk_at dksX7_fights_0 5 rfl rfl)
theorem dX7_fights_6 : decode cX7_fights 6 = .ok (.iconst (-1), 1) := dk_2 (dk_at dksX7_fights_0 6 rfl rfl)
theorem dX7_fights_7 : decode cX7_fights 7 = .ok (.if_icmp .ne 7, 3) := dk_160 0 7 (dk_at dksX7_fights_0 7 rfl rfl)
theorem dX7_fights_10 : decode cX7_fights 10 = .ok (.iconst 0, 1) := dk_3 (dk_at dksX7_fights_0 10 rfl rfl)
theorem dX7_fights_11 : decode cX7_fights 11 = .ok (.goto 14, 3) := dk_167 0 14 (dk_at dksX7_fights_0 11 rfl rfl)
theorem dX7_fights_14 : decode cX7_fights 14 = .ok (.aload_n 0, 1) := dk_42 (dk_at dksX7_fights_0 14 rfl rfl)
theorem dX7_fights_15 : decode cX7_fights 15 = .ok (.iload_n 1, 1) := dk_27 (dk_at dksX7_fights_0 15 rfl rfl)
theorem dX7_fights_16 : decode cX7_fights 16 = .ok (.aload_n 0, 1) := dk_42 (dk_at dksX7_fights_0 16 rfl rfl)
theorem dX7_fights_17 : decode cX7_fights 17 = .ok (.getfield 15, 3) := dk_180 0 15 (dk_at dksX7_fights_0 17 rfl rfl)
theorem dX7_fights_20 : decode cX7_fights 20 = .ok (.iload_n 1, 1) := dk_27 (dk_at dksX7_fights_0 20 rfl rfl)
theorem dX7_fights_21 : decode cX7_fights 21 = .ok (.iaload, 1) := dk_46 (dk_at dksX7_fights_0 21 rfl rfl)
theorem dX7_fights_22 : decode cX7_fights 22 = .ok (.invokevirtual 97, 3) := dk_182 0 97 (dk_at dksX7_fights_1 0 rfl rfl)
theorem dX7_fights_25 : decode cX7_fights 25 = .ok (.ireturn, 1) := dk_172 (dk_at dksX7_fights_1 3 rfl rfl)
abbrev cX7_fightsAt : ByteArray := prog_22_method_9_code
def yX7_fightsAt : MethodName := ⟨RX7, "fightsAt", "(II)I"⟩
def dkwX7_fightsAt_2 : List UInt8 := [180, 0, 82, 160, 0, 12, 29, 4, 21, 4, 120, 2, 130, 126, 62, 132, 4, 1, 167, 255, 206, 29, 172]
abbrev dktX7_fightsAt_2 : List UInt8 := dkwX7_fightsAt_2 ++ []
def dkwX7_fightsAt_1 : List UInt8 := [162, 0, 44, 42, 180, 0, 3, 21, 4, 182, 0, 73, 180, 0, 82, 42, 180, 0, 3, 27, 182, 0, 73]
abbrev dktX7_fightsAt_1 : List UInt8 := dkwX7_fightsAt_1 ++ dktX7_fightsAt_2
def dkwX7_fightsAt_0 : List UInt8 := [42, 28, 182, 0, 84, 4, 27, 120, 2, 130, 126, 62, 3, 54, 4, 21, 4, 42, 180, 0, 3, 182, 0, 58]
abbrev dktX7_fightsAt_0 : List UInt8 := dkwX7_fightsAt_0 ++ dktX7_fightsAt_1
theorem dksX7_fightsAt_0 : cX7_fightsAt.data.toList.drop 0 = dktX7_fightsAt_0 := by decide +kernel
theorem dksX7_fightsAt_1 : cX7_fightsAt.data.toList.drop 24 = dktX7_fightsAt_1 := dk_seg dksX7_fightsAt_0 24 rfl rfl
theorem dksX7_fightsAt_2 : cX7_fightsAt.data.toList.drop 47 = dktX7_fightsAt_2 := dk_seg dksX7_fightsAt_1 23 rfl rfl
theorem dX7_fightsAt_0 : decode cX7_fightsAt 0 = .ok (.aload_n 0, 1) := dk_42 (dk_at dksX7_fightsAt_0 0 rfl rfl)
theorem dX7_fightsAt_1 : decode cX7_fightsAt 1 = .ok (.iload_n 2, 1) := dk_28 (dk_at dksX7_fightsAt_0 1 rfl rfl)
theorem dX7_fightsAt_2 : decode cX7_fightsAt 2 = .ok (.invokevirtual 84, 3) := dk_182 0 84 (dk_at dksX7_fightsAt_0 2 rfl rfl)
theorem dX7_fightsAt_5 : decode cX7_fightsAt 5 = .ok (.iconst 1, 1) := dk_4 (dk_at dksX7_fightsAt_0 5 rfl rfl)
theorem dX7_fightsAt_6 : decode cX7_fightsAt 6 = .ok (.iload_n 1, 1) := dk_27 (dk_at dksX7_fightsAt_0 6 rfl rfl)
theorem dX7_fightsAt_7 : decode cX7_fightsAt 7 = .ok (.ishl, 1) := dk_120 (dk_at dksX7_fightsAt_0 7 rfl rfl)
theorem dX7_fightsAt_8 : decode cX7_fightsAt 8 = .ok (.iconst (-1), 1) := dk_2 (dk_at dksX7_fightsAt_0 8 rfl rfl)
theorem dX7_fightsAt_9 : decode cX7_fightsAt 9 = .ok (.ixor, 1) := dk_130 (dk_at dksX7_fightsAt_0 9 rfl rfl)
theorem dX7_fightsAt_10 : decode cX7_fightsAt 10 = .ok (.iand, 1) := dk_126 (dk_at dksX7_fightsAt_0 10 rfl rfl)
theorem dX7_fightsAt_11 : decode cX7_fightsAt 11 = .ok (.istore_n 3, 1) := dk_62 (dk_at dksX7_fightsAt_0 11 rfl rfl)
theorem dX7_fightsAt_12 : decode cX7_fightsAt 12 = .ok (.iconst 0, 1) := dk_3 (dk_at dksX7_fightsAt_0 12 rfl rfl)
theorem dX7_fightsAt_13 : decode cX7_fightsAt 13 = .ok (.istore 4, 2) := dk_54 4 (dk_at dksX7_fightsAt_0 13 rfl rfl)
theorem dX7_fightsAt_15 : decode cX7_fightsAt 15 = .ok (.iload 4, 2) := dk_21 4 (dk_at dksX7_fightsAt_0 15 rfl rfl)
theorem dX7_fightsAt_17 : decode cX7_fightsAt 17 = .ok (.aload_n 0, 1) := dk_42 (dk_at dksX7_fightsAt_0 17 rfl rfl)
theorem dX7_fightsAt_18 : decode cX7_fightsAt 18 = .ok (.getfield 3, 3) := dk_180 0 3 (dk_at dksX7_fightsAt_0 18 rfl rfl)
theorem dX7_fightsAt_21 : decode cX7_fightsAt 21 = .ok (.invokevirtual 58, 3) := dk_182 0 58 (dk_at dksX7_fightsAt_0 21 rfl rfl)
theorem dX7_fightsAt_24 : decode cX7_fightsAt 24 = .ok (.if_icmp .ge 44, 3) := dk_162 0 44 (dk_at dksX7_fightsAt_1 0 rfl rfl)
theorem dX7_fightsAt_27 : decode cX7_fightsAt 27 = .ok (.aload_n 0, 1) := dk_42 (dk_at dksX7_fightsAt_1 3 rfl rfl)
theorem dX7_fightsAt_28 : decode cX7_fightsAt 28 = .ok (.getfield 3, 3) := dk_180 0 3 (dk_at dksX7_fightsAt_1 4 rfl rfl)
theorem dX7_fightsAt_31 : decode cX7_fightsAt 31 = .ok (.iload 4, 2) := dk_21 4 (dk_at dksX7_fightsAt_1 7 rfl rfl)
theorem dX7_fightsAt_33 : decode cX7_fightsAt 33 = .ok (.invokevirtual 73, 3) := dk_182 0 73 (dk_at dksX7_fightsAt_1 9 rfl rfl)
theorem dX7_fightsAt_36 : decode cX7_fightsAt 36 = .ok (.getfield 82, 3) := dk_180 0 82 (dk_at dksX7_fightsAt_1 12 rfl rfl)
theorem dX7_fightsAt_39 : decode cX7_fightsAt 39 = .ok (.aload_n 0, 1) := dk_42 (dk_at dksX7_fightsAt_1 15 rfl rfl)
theorem dX7_fightsAt_40 : decode cX7_fightsAt 40 = .ok (.getfield 3, 3) := dk_180 0 3 (dk_at dksX7_fightsAt_1 16 rfl rfl)
theorem dX7_fightsAt_43 : decode cX7_fightsAt 43 = .ok (.iload_n 1, 1) := dk_27 (dk_at dksX7_fightsAt_1 19 rfl rfl)
theorem dX7_fightsAt_44 : decode cX7_fightsAt 44 = .ok (.invokevirtual 73, 3) := dk_182 0 73 (dk_at dksX7_fightsAt_1 20 rfl rfl)
theorem dX7_fightsAt_47 : decode cX7_fightsAt 47 = .ok (.getfield 82, 3) := dk_180 0 82 (dk_at dksX7_fightsAt_2 0 rfl rfl)
theorem dX7_fightsAt_50 : decode cX7_fightsAt 50 = .ok (.if_icmp .ne 12, 3) := dk_160 0 12 (dk_at dksX7_fightsAt_2 3 rfl rfl)
theorem dX7_fightsAt_53 : decode cX7_fightsAt 53 = .ok (.iload_n 3, 1) := dk_29 (dk_at dksX7_fightsAt_2 6 rfl rfl)
theorem dX7_fightsAt_54 : decode cX7_fightsAt 54 = .ok (.iconst 1, 1) := dk_4 (dk_at dksX7_fightsAt_2 7 rfl rfl)
theorem dX7_fightsAt_55 : decode cX7_fightsAt 55 = .ok (.iload 4, 2) := dk_21 4 (dk_at dksX7_fightsAt_2 8 rfl rfl)
theorem dX7_fightsAt_57 : decode cX7_fightsAt 57 = .ok (.ishl, 1) := dk_120 (dk_at dksX7_fightsAt_2 10 rfl rfl)
theorem dX7_fightsAt_58 : decode cX7_fightsAt 58 = .ok (.iconst (-1), 1) := dk_2 (dk_at dksX7_fightsAt_2 11 rfl rfl)
theorem dX7_fightsAt_59 : decode cX7_fightsAt 59 = .ok (.ixor, 1) := dk_130 (dk_at dksX7_fightsAt_2 12 rfl rfl)
theorem dX7_fightsAt_60 : decode cX7_fightsAt 60 = .ok (.iand, 1) := dk_126 (dk_at dksX7_fightsAt_2 13 rfl rfl)
theorem dX7_fightsAt_61 : decode cX7_fightsAt 61 = .ok (.istore_n 3, 1) := dk_62 (dk_at dksX7_fightsAt_2 14 rfl rfl)
theorem dX7_fightsAt_62 : decode cX7_fightsAt 62 = .ok (.iinc 4 1, 3) := dk_132 4 1 (dk_at dksX7_fightsAt_2 15 rfl rfl)
theorem dX7_fightsAt_65 : decode cX7_fightsAt 65 = .ok (.goto (-50), 3) := dk_167 255 206 (dk_at dksX7_fightsAt_2 18 rfl rfl)
theorem dX7_fightsAt_68 : decode cX7_fightsAt 68 = .ok (.iload_n 3, 1) := dk_29 (dk_at dksX7_fightsAt_2 21 rfl rfl)
theorem dX7_fightsAt_69 : decode cX7_fightsAt 69 = .ok (.ireturn, 1) := dk_172 (dk_at dksX7_fightsAt_2 22 rfl rfl)
abbrev cX7_puts : ByteArray := prog_22_method_15_code
def yX7_puts : MethodName := ⟨RX7, "puts", "(II)Z"⟩
def dkwX7_puts_1 : List UInt8 := [79, 4, 172]
abbrev dktX7_puts_1 : List UInt8 := dkwX7_puts_1 ++ []
def dkwX7_puts_0 : List UInt8 := [42, 28, 182, 0, 118, 2, 159, 0, 5, 3, 172, 42, 180, 0, 15, 27, 28, 79, 42, 180, 0, 22, 27, 3]
abbrev dktX7_puts_0 : List UInt8 := dkwX7_puts_0 ++ dktX7_puts_1
theorem dksX7_puts_0 : cX7_puts.data.toList.drop 0 = dktX7_puts_0 := by decide +kernel
theorem dksX7_puts_1 : cX7_puts.data.toList.drop 24 = dktX7_puts_1 := dk_seg dksX7_puts_0 24 rfl rfl
theorem dX7_puts_0 : decode cX7_puts 0 = .ok (.aload_n 0, 1) := dk_42 (dk_at dksX7_puts_0 0 rfl rfl)
theorem dX7_puts_1 : decode cX7_puts 1 = .ok (.iload_n 2, 1) := dk_28 (dk_at dksX7_puts_0 1 rfl rfl)
theorem dX7_puts_2 : decode cX7_puts 2 = .ok (.invokevirtual 118, 3) := dk_182 0 118 (dk_at dksX7_puts_0 2 rfl rfl)
theorem dX7_puts_5 : decode cX7_puts 5 = .ok (.iconst (-1), 1) := dk_2 (dk_at dksX7_puts_0 5 rfl rfl)
theorem dX7_puts_6 : decode cX7_puts 6 = .ok (.if_icmp .eq 5, 3) := dk_159 0 5 (dk_at dksX7_puts_0 6 rfl rfl)
theorem dX7_puts_9 : decode cX7_puts 9 = .ok (.iconst 0, 1) := dk_3 (dk_at dksX7_puts_0 9 rfl rfl)
theorem dX7_puts_10 : decode cX7_puts 10 = .ok (.ireturn, 1) := dk_172 (dk_at dksX7_puts_0 10 rfl rfl)
theorem dX7_puts_11 : decode cX7_puts 11 = .ok (.aload_n 0, 1) := dk_42 (dk_at dksX7_puts_0 11 rfl rfl)
theorem dX7_puts_12 : decode cX7_puts 12 = .ok (.getfield 15, 3) := dk_180 0 15 (dk_at dksX7_puts_0 12 rfl rfl)
theorem dX7_puts_15 : decode cX7_puts 15 = .ok (.iload_n 1, 1) := dk_27 (dk_at dksX7_puts_0 15 rfl rfl)
theorem dX7_puts_16 : decode cX7_puts 16 = .ok (.iload_n 2, 1) := dk_28 (dk_at dksX7_puts_0 16 rfl rfl)
theorem dX7_puts_17 : decode cX7_puts 17 = .ok (.iastore, 1) := dk_79 (dk_at dksX7_puts_0 17 rfl rfl)
theorem dX7_puts_18 : decode cX7_puts 18 = .ok (.aload_n 0, 1) := dk_42 (dk_at dksX7_puts_0 18 rfl rfl)
theorem dX7_puts_19 : decode cX7_puts 19 = .ok (.getfield 22, 3) := dk_180 0 22 (dk_at dksX7_puts_0 19 rfl rfl)
theorem dX7_puts_22 : decode cX7_puts 22 = .ok (.iload_n 1, 1) := dk_27 (dk_at dksX7_puts_0 22 rfl rfl)
theorem dX7_puts_23 : decode cX7_puts 23 = .ok (.iconst 0, 1) := dk_3 (dk_at dksX7_puts_0 23 rfl rfl)
theorem dX7_puts_24 : decode cX7_puts 24 = .ok (.iastore, 1) := dk_79 (dk_at dksX7_puts_1 0 rfl rfl)
theorem dX7_puts_25 : decode cX7_puts 25 = .ok (.iconst 1, 1) := dk_4 (dk_at dksX7_puts_1 1 rfl rfl)
theorem dX7_puts_26 : decode cX7_puts 26 = .ok (.ireturn, 1) := dk_172 (dk_at dksX7_puts_1 2 rfl rfl)
abbrev cX7_takes : ByteArray := prog_22_method_16_code
def yX7_takes : MethodName := ⟨RX7, "takes", "(I)Z"⟩
def dkwX7_takes_1 : List UInt8 := [3, 79, 4, 172]
abbrev dktX7_takes_1 : List UInt8 := dkwX7_takes_1 ++ []
def dkwX7_takes_0 : List UInt8 := [42, 180, 0, 15, 27, 46, 2, 160, 0, 5, 3, 172, 42, 180, 0, 15, 27, 2, 79, 42, 180, 0, 22, 27]
abbrev dktX7_takes_0 : List UInt8 := dkwX7_takes_0 ++ dktX7_takes_1
theorem dksX7_takes_0 : cX7_takes.data.toList.drop 0 = dktX7_takes_0 := by decide +kernel
theorem dksX7_takes_1 : cX7_takes.data.toList.drop 24 = dktX7_takes_1 := dk_seg dksX7_takes_0 24 rfl rfl
theorem dX7_takes_0 : decode cX7_takes 0 = .ok (.aload_n 0, 1) := dk_42 (dk_at dksX7_takes_0 0 rfl rfl)
theorem dX7_takes_1 : decode cX7_takes 1 = .ok (.getfield 15, 3) := dk_180 0 15 (dk_at dksX7_takes_0 1 rfl rfl)
theorem dX7_takes_4 : decode cX7_takes 4 = .ok (.iload_n 1, 1) := dk_27 (dk_at dksX7_takes_0 4 rfl rfl)
theorem dX7_takes_5 : decode cX7_takes 5 = .ok (.iaload, 1) := dk_46 (dk_at dksX7_takes_0 5 rfl rfl)
theorem dX7_takes_6 : decode cX7_takes 6 = .ok (.iconst (-1), 1) := dk_2 (dk_at dksX7_takes_0 6 rfl rfl)
theorem dX7_takes_7 : decode cX7_takes 7 = .ok (.if_icmp .ne 5, 3) := dk_160 0 5 (dk_at dksX7_takes_0 7 rfl rfl)
theorem dX7_takes_10 : decode cX7_takes 10 = .ok (.iconst 0, 1) := dk_3 (dk_at dksX7_takes_0 10 rfl rfl)
theorem dX7_takes_11 : decode cX7_takes 11 = .ok (.ireturn, 1) := dk_172 (dk_at dksX7_takes_0 11 rfl rfl)
theorem dX7_takes_12 : decode cX7_takes 12 = .ok (.aload_n 0, 1) := dk_42 (dk_at dksX7_takes_0 12 rfl rfl)
theorem dX7_takes_13 : decode cX7_takes 13 = .ok (.getfield 15, 3) := dk_180 0 15 (dk_at dksX7_takes_0 13 rfl rfl)
theorem dX7_takes_16 : decode cX7_takes 16 = .ok (.iload_n 1, 1) := dk_27 (dk_at dksX7_takes_0 16 rfl rfl)
theorem dX7_takes_17 : decode cX7_takes 17 = .ok (.iconst (-1), 1) := dk_2 (dk_at dksX7_takes_0 17 rfl rfl)
theorem dX7_takes_18 : decode cX7_takes 18 = .ok (.iastore, 1) := dk_79 (dk_at dksX7_takes_0 18 rfl rfl)
theorem dX7_takes_19 : decode cX7_takes 19 = .ok (.aload_n 0, 1) := dk_42 (dk_at dksX7_takes_0 19 rfl rfl)
theorem dX7_takes_20 : decode cX7_takes 20 = .ok (.getfield 22, 3) := dk_180 0 22 (dk_at dksX7_takes_0 20 rfl rfl)
theorem dX7_takes_23 : decode cX7_takes 23 = .ok (.iload_n 1, 1) := dk_27 (dk_at dksX7_takes_0 23 rfl rfl)
theorem dX7_takes_24 : decode cX7_takes 24 = .ok (.iconst 0, 1) := dk_3 (dk_at dksX7_takes_1 0 rfl rfl)
theorem dX7_takes_25 : decode cX7_takes 25 = .ok (.iastore, 1) := dk_79 (dk_at dksX7_takes_1 1 rfl rfl)
theorem dX7_takes_26 : decode cX7_takes 26 = .ok (.iconst 1, 1) := dk_4 (dk_at dksX7_takes_1 2 rfl rfl)
theorem dX7_takes_27 : decode cX7_takes 27 = .ok (.ireturn, 1) := dk_172 (dk_at dksX7_takes_1 3 rfl rfl)
abbrev cX7_all : ByteArray := prog_22_method_14_code
def yX7_all : MethodName := ⟨RX7, "all", "()I"⟩
def dkwX7_all_1 : List UInt8 := [167, 255, 238, 27, 172]
abbrev dktX7_all_1 : List UInt8 := dkwX7_all_1 ++ []
def dkwX7_all_0 : List UInt8 := [3, 60, 3, 61, 28, 16, 80, 162, 0, 18, 27, 42, 180, 0, 25, 28, 46, 96, 60, 132, 2, 1]
abbrev dktX7_all_0 : List UInt8 := dkwX7_all_0 ++ dktX7_all_1
theorem dksX7_all_0 : cX7_all.data.toList.drop 0 = dktX7_all_0 := by decide +kernel
theorem dksX7_all_1 : cX7_all.data.toList.drop 22 = dktX7_all_1 := dk_seg dksX7_all_0 22 rfl rfl
theorem dX7_all_0 : decode cX7_all 0 = .ok (.iconst 0, 1) := dk_3 (dk_at dksX7_all_0 0 rfl rfl)
theorem dX7_all_1 : decode cX7_all 1 = .ok (.istore_n 1, 1) := dk_60 (dk_at dksX7_all_0 1 rfl rfl)
theorem dX7_all_2 : decode cX7_all 2 = .ok (.iconst 0, 1) := dk_3 (dk_at dksX7_all_0 2 rfl rfl)
theorem dX7_all_3 : decode cX7_all 3 = .ok (.istore_n 2, 1) := dk_61 (dk_at dksX7_all_0 3 rfl rfl)
theorem dX7_all_4 : decode cX7_all 4 = .ok (.iload_n 2, 1) := dk_28 (dk_at dksX7_all_0 4 rfl rfl)
theorem dX7_all_5 : decode cX7_all 5 = .ok (.bipush 80, 2) := dk_16 80 (dk_at dksX7_all_0 5 rfl rfl)
theorem dX7_all_7 : decode cX7_all 7 = .ok (.if_icmp .ge 18, 3) := dk_162 0 18 (dk_at dksX7_all_0 7 rfl rfl)
theorem dX7_all_10 : decode cX7_all 10 = .ok (.iload_n 1, 1) := dk_27 (dk_at dksX7_all_0 10 rfl rfl)
theorem dX7_all_11 : decode cX7_all 11 = .ok (.aload_n 0, 1) := dk_42 (dk_at dksX7_all_0 11 rfl rfl)
theorem dX7_all_12 : decode cX7_all 12 = .ok (.getfield 25, 3) := dk_180 0 25 (dk_at dksX7_all_0 12 rfl rfl)
theorem dX7_all_15 : decode cX7_all 15 = .ok (.iload_n 2, 1) := dk_28 (dk_at dksX7_all_0 15 rfl rfl)
theorem dX7_all_16 : decode cX7_all 16 = .ok (.iaload, 1) := dk_46 (dk_at dksX7_all_0 16 rfl rfl)
theorem dX7_all_17 : decode cX7_all 17 = .ok (.iadd, 1) := dk_96 (dk_at dksX7_all_0 17 rfl rfl)
theorem dX7_all_18 : decode cX7_all 18 = .ok (.istore_n 1, 1) := dk_60 (dk_at dksX7_all_0 18 rfl rfl)
theorem dX7_all_19 : decode cX7_all 19 = .ok (.iinc 2 1, 3) := dk_132 2 1 (dk_at dksX7_all_0 19 rfl rfl)
theorem dX7_all_22 : decode cX7_all 22 = .ok (.goto (-18), 3) := dk_167 255 238 (dk_at dksX7_all_1 0 rfl rfl)
theorem dX7_all_25 : decode cX7_all 25 = .ok (.iload_n 1, 1) := dk_27 (dk_at dksX7_all_1 3 rfl rfl)
theorem dX7_all_26 : decode cX7_all 26 = .ok (.ireturn, 1) := dk_172 (dk_at dksX7_all_1 4 rfl rfl)
theorem q124 : (Jvm.Cond.initialized "TunedHouses$Terrace") ∈ lw_all := lw_g (lw_at lw_m1 26 rfl) rfl
theorem q507 : (Jvm.Cond.fieldLinkNest "TunedHouses$Terrace" (41 : Nat) "TunedHouses$Told" "thing" "[I" "TunedHouses") ∈ lw_tbl := lw_at lw_m2 169 rfl
theorem q514 : (Jvm.Cond.fieldLinkNest "TunedHouses$Terrace" (62 : Nat) "TunedHouses$Told" "through" "[I" "TunedHouses") ∈ lw_tbl := lw_at lw_m2 176 rfl
theorem q525 : (Jvm.Cond.fieldLinkNest "TunedHouses$Terrace" (35 : Nat) "TunedHouses$Told" "houses" "I" "TunedHouses") ∈ lw_tbl := lw_at lw_m2 187 rfl
theorem q533 : (Jvm.Cond.fieldLinkNest "TunedHouses$Terrace" (44 : Nat) "TunedHouses$Told" "felt" "I" "TunedHouses") ∈ lw_tbl := lw_at lw_m2 195 rfl
theorem q590 : (Jvm.Cond.instantiable "TunedHouses$Terrace" (11 : Nat)) ∈ lw_all := lw_g (lw_at lw_m3 12 rfl) rfl
theorem q592 : (Jvm.Cond.instanceMethod ({ cls := "TunedHouses$Terrace", name := "<init>", desc := "(LTunedHouses;)V" } : Jvm.MethodName)) ∈ lw_all := lw_g (lw_at lw_m3 14 rfl) rfl
theorem q593 : (Jvm.Cond.code ({ cls := "TunedHouses$Terrace", name := "<init>", desc := "(LTunedHouses;)V" } : Jvm.MethodName) prog_22_method_1_code (2 : Nat) (Option.none : Option Jvm.ClassFile.FieldType)) ∈ lw_all := lw_g (lw_at lw_m3 15 rfl) rfl
theorem q594 : (Jvm.Cond.methodLink "TunedHouses$Terrace" (9 : Nat) ({ cls := "java/lang/Object", name := "<init>", desc := "()V" } : Jvm.MethodName)) ∈ lw_all := lw_g (lw_at lw_m3 16 rfl) rfl
theorem q595 : (Jvm.Cond.fieldLink "TunedHouses$Terrace" (15 : Nat) "TunedHouses$Terrace" "at" "[I") ∈ lw_all := lw_g (lw_at lw_m3 17 rfl) rfl
theorem q597 : (Jvm.Cond.fieldLink "TunedHouses$Terrace" (19 : Nat) "TunedHouses$Terrace" "felt" "[I") ∈ lw_all := lw_g (lw_at lw_m3 19 rfl) rfl
theorem q599 : (Jvm.Cond.fieldLink "TunedHouses$Terrace" (22 : Nat) "TunedHouses$Terrace" "days" "[I") ∈ lw_all := lw_g (lw_at lw_m3 21 rfl) rfl
theorem q601 : (Jvm.Cond.fieldLink "TunedHouses$Terrace" (25 : Nat) "TunedHouses$Terrace" "there" "[I") ∈ lw_all := lw_g (lw_at lw_m3 23 rfl) rfl
theorem q603 : (Jvm.Cond.fieldLink "TunedHouses$Terrace" (28 : Nat) "TunedHouses$Terrace" "more" "[I") ∈ lw_all := lw_g (lw_at lw_m3 25 rfl) rfl
theorem q604 : (Jvm.Cond.fieldLink "TunedHouses$Terrace" (46 : Nat) "TunedHouses$Terrace" "left" "I") ∈ lw_all := lw_g (lw_at lw_m3 26 rfl) rfl
theorem q606 : (Jvm.Cond.fieldLink "TunedHouses$Terrace" (49 : Nat) "TunedHouses$Terrace" "day" "I") ∈ lw_all := lw_g (lw_at lw_m3 28 rfl) rfl
theorem q615 : (Jvm.Cond.fieldLink "TunedHouses$Terrace" (3 : Nat) "TunedHouses$Terrace" "this$0" "LTunedHouses;") ∈ lw_all := lw_g (lw_at lw_m3 37 rfl) rfl
theorem q616 : (Jvm.Cond.laysFinal "TunedHouses$Terrace" "TunedHouses$Terrace" "at" "[I") ∈ lw_all := lw_g (lw_at lw_m3 38 rfl) rfl
theorem q617 : (Jvm.Cond.soleField "TunedHouses$Terrace" "at") ∈ lw_all := lw_g (lw_at lw_m3 39 rfl) rfl
theorem q618 : (Jvm.Cond.laysFinal "TunedHouses$Terrace" "TunedHouses$Terrace" "felt" "[I") ∈ lw_all := lw_g (lw_at lw_m3 40 rfl) rfl
theorem q619 : (Jvm.Cond.soleField "TunedHouses$Terrace" "felt") ∈ lw_all := lw_g (lw_at lw_m3 41 rfl) rfl
theorem q620 : (Jvm.Cond.laysFinal "TunedHouses$Terrace" "TunedHouses$Terrace" "days" "[I") ∈ lw_all := lw_g (lw_at lw_m3 42 rfl) rfl
theorem q621 : (Jvm.Cond.soleField "TunedHouses$Terrace" "days") ∈ lw_all := lw_g (lw_at lw_m3 43 rfl) rfl
theorem q622 : (Jvm.Cond.laysFinal "TunedHouses$Terrace" "TunedHouses$Terrace" "there" "[I") ∈ lw_all := lw_g (lw_at lw_m3 44 rfl) rfl
theorem q623 : (Jvm.Cond.soleField "TunedHouses$Terrace" "there") ∈ lw_all := lw_g (lw_at lw_m3 45 rfl) rfl
theorem q624 : (Jvm.Cond.laysFinal "TunedHouses$Terrace" "TunedHouses$Terrace" "more" "[I") ∈ lw_all := lw_g (lw_at lw_m3 46 rfl) rfl
theorem q625 : (Jvm.Cond.soleField "TunedHouses$Terrace" "more") ∈ lw_all := lw_g (lw_at lw_m3 47 rfl) rfl
theorem q626 : (Jvm.Cond.lays "TunedHouses$Terrace" "TunedHouses$Terrace" "left" "I") ∈ lw_all := lw_g (lw_at lw_m3 48 rfl) rfl
theorem q627 : (Jvm.Cond.soleField "TunedHouses$Terrace" "left") ∈ lw_all := lw_g (lw_at lw_m3 49 rfl) rfl
theorem q628 : (Jvm.Cond.lays "TunedHouses$Terrace" "TunedHouses$Terrace" "day" "I") ∈ lw_all := lw_g (lw_at lw_m3 50 rfl) rfl
theorem q629 : (Jvm.Cond.soleField "TunedHouses$Terrace" "day") ∈ lw_all := lw_g (lw_at lw_m3 51 rfl) rfl
theorem q630 : (Jvm.Cond.lays "TunedHouses$Terrace" "TunedHouses$Terrace" "steps" "I") ∈ lw_all := lw_g (lw_at lw_m3 52 rfl) rfl
theorem q631 : (Jvm.Cond.soleField "TunedHouses$Terrace" "steps") ∈ lw_all := lw_g (lw_at lw_m3 53 rfl) rfl
theorem q632 : (Jvm.Cond.lays "TunedHouses$Terrace" "TunedHouses$Terrace" "done" "I") ∈ lw_all := lw_g (lw_at lw_m3 54 rfl) rfl
theorem q633 : (Jvm.Cond.soleField "TunedHouses$Terrace" "done") ∈ lw_all := lw_g (lw_at lw_m3 55 rfl) rfl
theorem q634 : (Jvm.Cond.lays "TunedHouses$Terrace" "TunedHouses$Terrace" "refused" "I") ∈ lw_all := lw_g (lw_at lw_m3 56 rfl) rfl
theorem q635 : (Jvm.Cond.soleField "TunedHouses$Terrace" "refused") ∈ lw_all := lw_g (lw_at lw_m3 57 rfl) rfl
theorem q636 : (Jvm.Cond.laysFinal "TunedHouses$Terrace" "TunedHouses$Terrace" "this$0" "LTunedHouses;") ∈ lw_all := lw_g (lw_at lw_m3 58 rfl) rfl
theorem q637 : (Jvm.Cond.soleField "TunedHouses$Terrace" "this$0") ∈ lw_all := lw_g (lw_at lw_m3 59 rfl) rfl
theorem q638 : (Jvm.Cond.superclass "TunedHouses$Terrace" "java/lang/Object") ∈ lw_all := lw_g (lw_at lw_m3 60 rfl) rfl
theorem q646 : (Jvm.Cond.instanceMethod ({ cls := "TunedHouses$Terrace", name := "begins", desc := "()LTunedHouses$Terrace;" } : Jvm.MethodName)) ∈ lw_all := lw_g (lw_at lw_m3 68 rfl) rfl
theorem q647 : (Jvm.Cond.selects "TunedHouses$Terrace" ({ cls := "TunedHouses$Terrace", name := "begins", desc := "()LTunedHouses$Terrace;" } : Jvm.MethodName) ({ cls := "TunedHouses$Terrace", name := "begins", desc := "()LTunedHouses$Terrace;" } : Jvm.MethodName)) ∈ lw_all := lw_g (lw_at lw_m3 69 rfl) rfl
theorem q648 : (Jvm.Cond.code ({ cls := "TunedHouses$Terrace", name := "begins", desc := "()LTunedHouses$Terrace;" } : Jvm.MethodName) prog_22_method_2_code (2 : Nat) (Option.some (Jvm.ClassFile.FieldType.object "TunedHouses$Terrace"))) ∈ lw_all := lw_g (lw_at lw_m3 70 rfl) rfl
theorem q650 : (Jvm.Cond.fieldLinkNest "TunedHouses$Terrace" (31 : Nat) "TunedHouses" "told" "LTunedHouses$Told;" "TunedHouses") ∈ lw_tbl := lw_at lw_m3 72 rfl
theorem q747 : (Jvm.Cond.instanceMethod ({ cls := "TunedHouses$Terrace", name := "becomes", desc := "(LTunedHouses$Terrace;)LTunedHouses$Terrace;" } : Jvm.MethodName)) ∈ lw_all := lw_g (lw_at lw_m3 169 rfl) rfl
theorem q748 : (Jvm.Cond.selects "TunedHouses$Terrace" ({ cls := "TunedHouses$Terrace", name := "becomes", desc := "(LTunedHouses$Terrace;)LTunedHouses$Terrace;" } : Jvm.MethodName) ({ cls := "TunedHouses$Terrace", name := "becomes", desc := "(LTunedHouses$Terrace;)LTunedHouses$Terrace;" } : Jvm.MethodName)) ∈ lw_all := lw_g (lw_at lw_m3 170 rfl) rfl
theorem q749 : (Jvm.Cond.code ({ cls := "TunedHouses$Terrace", name := "becomes", desc := "(LTunedHouses$Terrace;)LTunedHouses$Terrace;" } : Jvm.MethodName) prog_22_method_3_code (2 : Nat) (Option.some (Jvm.ClassFile.FieldType.object "TunedHouses$Terrace"))) ∈ lw_all := lw_g (lw_at lw_m3 171 rfl) rfl
theorem q750 : (Jvm.Cond.methodLink "TunedHouses$Terrace" (52 : Nat) ({ cls := "java/lang/System", name := "arraycopy", desc := "(Ljava/lang/Object;ILjava/lang/Object;II)V" } : Jvm.MethodName)) ∈ lw_all := lw_g (lw_at lw_m3 172 rfl) rfl
theorem q756 : (Jvm.Cond.instanceMethod ({ cls := "TunedHouses$Terrace", name := "changed", desc := "()I" } : Jvm.MethodName)) ∈ lw_all := lw_g (lw_at lw_m3 178 rfl) rfl
theorem q757 : (Jvm.Cond.selects "TunedHouses$Terrace" ({ cls := "TunedHouses$Terrace", name := "changed", desc := "()I" } : Jvm.MethodName) ({ cls := "TunedHouses$Terrace", name := "changed", desc := "()I" } : Jvm.MethodName)) ∈ lw_all := lw_g (lw_at lw_m3 179 rfl) rfl
theorem q758 : (Jvm.Cond.code ({ cls := "TunedHouses$Terrace", name := "changed", desc := "()I" } : Jvm.MethodName) prog_22_method_13_code (1 : Nat) (Option.some Jvm.ClassFile.FieldType.int)) ∈ lw_all := lw_g (lw_at lw_m3 180 rfl) rfl
theorem q759 : (Jvm.Cond.methodLink "TunedHouses$Terrace" (114 : Nat) ({ cls := "TunedHouses$Terrace", name := "thoseThatAre", desc := "([I)I" } : Jvm.MethodName)) ∈ lw_all := lw_g (lw_at lw_m3 181 rfl) rfl
theorem q760 : (Jvm.Cond.instanceMethod ({ cls := "TunedHouses$Terrace", name := "thoseThatAre", desc := "([I)I" } : Jvm.MethodName)) ∈ lw_all := lw_g (lw_at lw_m3 182 rfl) rfl
theorem q761 : (Jvm.Cond.selects "TunedHouses$Terrace" ({ cls := "TunedHouses$Terrace", name := "thoseThatAre", desc := "([I)I" } : Jvm.MethodName) ({ cls := "TunedHouses$Terrace", name := "thoseThatAre", desc := "([I)I" } : Jvm.MethodName)) ∈ lw_all := lw_g (lw_at lw_m3 183 rfl) rfl
theorem q762 : (Jvm.Cond.code ({ cls := "TunedHouses$Terrace", name := "thoseThatAre", desc := "([I)I" } : Jvm.MethodName) prog_22_method_12_code (4 : Nat) (Option.some Jvm.ClassFile.FieldType.int)) ∈ lw_all := lw_g (lw_at lw_m3 184 rfl) rfl
theorem q763 : (Jvm.Cond.methodLink "TunedHouses$Terrace" (111 : Nat) ({ cls := "TunedHouses$Terrace", name := "is", desc := "(I)I" } : Jvm.MethodName)) ∈ lw_all := lw_g (lw_at lw_m3 185 rfl) rfl
theorem q764 : (Jvm.Cond.instanceMethod ({ cls := "TunedHouses$Terrace", name := "is", desc := "(I)I" } : Jvm.MethodName)) ∈ lw_all := lw_g (lw_at lw_m3 186 rfl) rfl
theorem q765 : (Jvm.Cond.selects "TunedHouses$Terrace" ({ cls := "TunedHouses$Terrace", name := "is", desc := "(I)I" } : Jvm.MethodName) ({ cls := "TunedHouses$Terrace", name := "is", desc := "(I)I" } : Jvm.MethodName)) ∈ lw_all := lw_g (lw_at lw_m3 187 rfl) rfl
theorem q766 : (Jvm.Cond.code ({ cls := "TunedHouses$Terrace", name := "is", desc := "(I)I" } : Jvm.MethodName) prog_22_method_11_code (4 : Nat) (Option.some Jvm.ClassFile.FieldType.int)) ∈ lw_all := lw_g (lw_at lw_m3 188 rfl) rfl
theorem q772 : (Jvm.Cond.instanceMethod ({ cls := "TunedHouses$Terrace", name := "in", desc := "(I)I" } : Jvm.MethodName)) ∈ lw_all := lw_g (lw_at lw_m3 194 rfl) rfl
theorem q773 : (Jvm.Cond.selects "TunedHouses$Terrace" ({ cls := "TunedHouses$Terrace", name := "in", desc := "(I)I" } : Jvm.MethodName) ({ cls := "TunedHouses$Terrace", name := "in", desc := "(I)I" } : Jvm.MethodName)) ∈ lw_all := lw_g (lw_at lw_m3 195 rfl) rfl
theorem q774 : (Jvm.Cond.code ({ cls := "TunedHouses$Terrace", name := "in", desc := "(I)I" } : Jvm.MethodName) prog_22_method_4_code (3 : Nat) (Option.some Jvm.ClassFile.FieldType.int)) ∈ lw_all := lw_g (lw_at lw_m3 196 rfl) rfl
theorem q775 : (Jvm.Cond.methodLinkNest "TunedHouses$Terrace" (58 : Nat) ({ cls := "TunedHouses", name := "pianos", desc := "()I" } : Jvm.MethodName) "TunedHouses") ∈ lw_tbl := lw_at lw_m3 197 rfl
theorem q1127 : (Jvm.Cond.fieldLinkNest "TunedHouses$Terrace" (82 : Nat) "TunedHouses$Piano" "thing" "I" "TunedHouses") ∈ lw_tbl := lw_at lw_m5 69 rfl
theorem q1130 : (Jvm.Cond.fieldLinkNest "TunedHouses$Terrace" (77 : Nat) "TunedHouses$Piano" "strong" "I" "TunedHouses") ∈ lw_tbl := lw_at lw_m5 72 rfl
theorem q1179 : (Jvm.Cond.selects "TunedHouses$Terrace" ({ cls := "java/lang/Object", name := "getClass", desc := "()Ljava/lang/Class;" } : Jvm.MethodName) ({ cls := "java/lang/Object", name := "getClass", desc := "()Ljava/lang/Class;" } : Jvm.MethodName)) ∈ lw_all := lw_g (lw_at lw_m5 121 rfl) rfl
theorem q1517 : (Jvm.Cond.instanceMethod ({ cls := "TunedHouses$Terrace", name := "lays", desc := "(II)Z" } : Jvm.MethodName)) ∈ lw_all := lw_g (lw_at lw_m6 219 rfl) rfl
theorem q1518 : (Jvm.Cond.selects "TunedHouses$Terrace" ({ cls := "TunedHouses$Terrace", name := "lays", desc := "(II)Z" } : Jvm.MethodName) ({ cls := "TunedHouses$Terrace", name := "lays", desc := "(II)Z" } : Jvm.MethodName)) ∈ lw_all := lw_g (lw_at lw_m6 220 rfl) rfl
theorem q1519 : (Jvm.Cond.code ({ cls := "TunedHouses$Terrace", name := "lays", desc := "(II)Z" } : Jvm.MethodName) prog_22_method_17_code (3 : Nat) (Option.some Jvm.ClassFile.FieldType.boolean)) ∈ lw_all := lw_g (lw_at lw_m6 221 rfl) rfl
theorem q1524 : (Jvm.Cond.instanceMethod ({ cls := "TunedHouses$Terrace", name := "day", desc := "()Z" } : Jvm.MethodName)) ∈ lw_all := lw_g (lw_at lw_m6 226 rfl) rfl
theorem q1525 : (Jvm.Cond.selects "TunedHouses$Terrace" ({ cls := "TunedHouses$Terrace", name := "day", desc := "()Z" } : Jvm.MethodName) ({ cls := "TunedHouses$Terrace", name := "day", desc := "()Z" } : Jvm.MethodName)) ∈ lw_all := lw_g (lw_at lw_m6 227 rfl) rfl
theorem q1526 : (Jvm.Cond.code ({ cls := "TunedHouses$Terrace", name := "day", desc := "()Z" } : Jvm.MethodName) prog_22_method_18_code (1 : Nat) (Option.some Jvm.ClassFile.FieldType.boolean)) ∈ lw_all := lw_g (lw_at lw_m6 228 rfl) rfl
theorem q1527 : (Jvm.Cond.methodLink "TunedHouses$Terrace" (121 : Nat) ({ cls := "TunedHouses$Terrace", name := "passes", desc := "()V" } : Jvm.MethodName)) ∈ lw_all := lw_g (lw_at lw_m6 229 rfl) rfl
theorem q1528 : (Jvm.Cond.instanceMethod ({ cls := "TunedHouses$Terrace", name := "passes", desc := "()V" } : Jvm.MethodName)) ∈ lw_all := lw_g (lw_at lw_m6 230 rfl) rfl
theorem q1529 : (Jvm.Cond.selects "TunedHouses$Terrace" ({ cls := "TunedHouses$Terrace", name := "passes", desc := "()V" } : Jvm.MethodName) ({ cls := "TunedHouses$Terrace", name := "passes", desc := "()V" } : Jvm.MethodName)) ∈ lw_all := lw_g (lw_at lw_m6 231 rfl) rfl
theorem q1530 : (Jvm.Cond.code ({ cls := "TunedHouses$Terrace", name := "passes", desc := "()V" } : Jvm.MethodName) prog_22_method_19_code (3 : Nat) (Option.none : Option Jvm.ClassFile.FieldType)) ∈ lw_all := lw_g (lw_at lw_m6 232 rfl) rfl
theorem q1531 : (Jvm.Cond.methodLink "TunedHouses$Terrace" (124 : Nat) ({ cls := "TunedHouses$Terrace", name := "brings", desc := "(I)I" } : Jvm.MethodName)) ∈ lw_all := lw_g (lw_at lw_m6 233 rfl) rfl
theorem q1532 : (Jvm.Cond.instanceMethod ({ cls := "TunedHouses$Terrace", name := "brings", desc := "(I)I" } : Jvm.MethodName)) ∈ lw_all := lw_g (lw_at lw_m6 234 rfl) rfl
theorem q1533 : (Jvm.Cond.selects "TunedHouses$Terrace" ({ cls := "TunedHouses$Terrace", name := "brings", desc := "(I)I" } : Jvm.MethodName) ({ cls := "TunedHouses$Terrace", name := "brings", desc := "(I)I" } : Jvm.MethodName)) ∈ lw_all := lw_g (lw_at lw_m6 235 rfl) rfl
theorem q1534 : (Jvm.Cond.code ({ cls := "TunedHouses$Terrace", name := "brings", desc := "(I)I" } : Jvm.MethodName) prog_22_method_10_code (5 : Nat) (Option.some Jvm.ClassFile.FieldType.int)) ∈ lw_all := lw_g (lw_at lw_m6 236 rfl) rfl
theorem q1535 : (Jvm.Cond.methodLink "TunedHouses$Terrace" (100 : Nat) ({ cls := "TunedHouses$Terrace", name := "force", desc := "(I)I" } : Jvm.MethodName)) ∈ lw_all := lw_g (lw_at lw_m6 237 rfl) rfl
theorem q1536 : (Jvm.Cond.instanceMethod ({ cls := "TunedHouses$Terrace", name := "force", desc := "(I)I" } : Jvm.MethodName)) ∈ lw_all := lw_g (lw_at lw_m6 238 rfl) rfl
theorem q1537 : (Jvm.Cond.selects "TunedHouses$Terrace" ({ cls := "TunedHouses$Terrace", name := "force", desc := "(I)I" } : Jvm.MethodName) ({ cls := "TunedHouses$Terrace", name := "force", desc := "(I)I" } : Jvm.MethodName)) ∈ lw_all := lw_g (lw_at lw_m6 239 rfl) rfl
theorem q1538 : (Jvm.Cond.code ({ cls := "TunedHouses$Terrace", name := "force", desc := "(I)I" } : Jvm.MethodName) prog_22_method_6_code (2 : Nat) (Option.some Jvm.ClassFile.FieldType.int)) ∈ lw_all := lw_g (lw_at lw_m7 0 rfl) rfl
theorem q1539 : (Jvm.Cond.methodLink "TunedHouses$Terrace" (69 : Nat) ({ cls := "TunedHouses$Terrace", name := "forceWith", desc := "(II)I" } : Jvm.MethodName)) ∈ lw_all := lw_g (lw_at lw_m7 1 rfl) rfl
theorem q1540 : (Jvm.Cond.instanceMethod ({ cls := "TunedHouses$Terrace", name := "forceWith", desc := "(II)I" } : Jvm.MethodName)) ∈ lw_all := lw_g (lw_at lw_m7 2 rfl) rfl
theorem q1541 : (Jvm.Cond.selects "TunedHouses$Terrace" ({ cls := "TunedHouses$Terrace", name := "forceWith", desc := "(II)I" } : Jvm.MethodName) ({ cls := "TunedHouses$Terrace", name := "forceWith", desc := "(II)I" } : Jvm.MethodName)) ∈ lw_all := lw_g (lw_at lw_m7 3 rfl) rfl
theorem q1542 : (Jvm.Cond.code ({ cls := "TunedHouses$Terrace", name := "forceWith", desc := "(II)I" } : Jvm.MethodName) prog_22_method_7_code (5 : Nat) (Option.some Jvm.ClassFile.FieldType.int)) ∈ lw_all := lw_g (lw_at lw_m7 4 rfl) rfl
theorem q1543 : (Jvm.Cond.methodLinkNest "TunedHouses$Terrace" (73 : Nat) ({ cls := "TunedHouses", name := "pianoOf", desc := "(I)LTunedHouses$Piano;" } : Jvm.MethodName) "TunedHouses") ∈ lw_tbl := lw_at lw_m7 5 rfl
theorem q1544 : (Jvm.Cond.methodLink "TunedHouses$Terrace" (84 : Nat) ({ cls := "TunedHouses$Terrace", name := "next", desc := "(I)I" } : Jvm.MethodName)) ∈ lw_all := lw_g (lw_at lw_m7 6 rfl) rfl
theorem q1545 : (Jvm.Cond.instanceMethod ({ cls := "TunedHouses$Terrace", name := "next", desc := "(I)I" } : Jvm.MethodName)) ∈ lw_all := lw_g (lw_at lw_m7 7 rfl) rfl
theorem q1546 : (Jvm.Cond.selects "TunedHouses$Terrace" ({ cls := "TunedHouses$Terrace", name := "next", desc := "(I)I" } : Jvm.MethodName) ({ cls := "TunedHouses$Terrace", name := "next", desc := "(I)I" } : Jvm.MethodName)) ∈ lw_all := lw_g (lw_at lw_m7 8 rfl) rfl
theorem q1547 : (Jvm.Cond.code ({ cls := "TunedHouses$Terrace", name := "next", desc := "(I)I" } : Jvm.MethodName) prog_22_method_5_code (4 : Nat) (Option.some Jvm.ClassFile.FieldType.int)) ∈ lw_all := lw_g (lw_at lw_m7 9 rfl) rfl
theorem q1548 : (Jvm.Cond.methodLinkNest "TunedHouses$Terrace" (65 : Nat) ({ cls := "TunedHouses", name := "has", desc := "(II)Z" } : Jvm.MethodName) "TunedHouses") ∈ lw_tbl := lw_at lw_m7 10 rfl
theorem q1549 : (Jvm.Cond.methodLink "TunedHouses$Terrace" (88 : Nat) ({ cls := "java/lang/Integer", name := "bitCount", desc := "(I)I" } : Jvm.MethodName)) ∈ lw_all := lw_g (lw_at lw_m7 11 rfl) rfl
theorem q1550 : (Jvm.Cond.methodLinkNest "TunedHouses$Terrace" (93 : Nat) ({ cls := "TunedHouses", name := "forceBy", desc := "(IIIIIIII)I" } : Jvm.MethodName) "TunedHouses") ∈ lw_tbl := lw_at lw_m7 12 rfl
theorem q1601 : (Jvm.Cond.methodLink "TunedHouses$Terrace" (103 : Nat) ({ cls := "TunedHouses$Terrace", name := "fights", desc := "(I)I" } : Jvm.MethodName)) ∈ lw_all := lw_g (lw_at lw_m7 63 rfl) rfl
theorem q1602 : (Jvm.Cond.instanceMethod ({ cls := "TunedHouses$Terrace", name := "fights", desc := "(I)I" } : Jvm.MethodName)) ∈ lw_all := lw_g (lw_at lw_m7 64 rfl) rfl
theorem q1603 : (Jvm.Cond.selects "TunedHouses$Terrace" ({ cls := "TunedHouses$Terrace", name := "fights", desc := "(I)I" } : Jvm.MethodName) ({ cls := "TunedHouses$Terrace", name := "fights", desc := "(I)I" } : Jvm.MethodName)) ∈ lw_all := lw_g (lw_at lw_m7 65 rfl) rfl
theorem q1604 : (Jvm.Cond.code ({ cls := "TunedHouses$Terrace", name := "fights", desc := "(I)I" } : Jvm.MethodName) prog_22_method_8_code (2 : Nat) (Option.some Jvm.ClassFile.FieldType.int)) ∈ lw_all := lw_g (lw_at lw_m7 66 rfl) rfl
theorem q1605 : (Jvm.Cond.methodLink "TunedHouses$Terrace" (97 : Nat) ({ cls := "TunedHouses$Terrace", name := "fightsAt", desc := "(II)I" } : Jvm.MethodName)) ∈ lw_all := lw_g (lw_at lw_m7 67 rfl) rfl
theorem q1606 : (Jvm.Cond.instanceMethod ({ cls := "TunedHouses$Terrace", name := "fightsAt", desc := "(II)I" } : Jvm.MethodName)) ∈ lw_all := lw_g (lw_at lw_m7 68 rfl) rfl
theorem q1607 : (Jvm.Cond.selects "TunedHouses$Terrace" ({ cls := "TunedHouses$Terrace", name := "fightsAt", desc := "(II)I" } : Jvm.MethodName) ({ cls := "TunedHouses$Terrace", name := "fightsAt", desc := "(II)I" } : Jvm.MethodName)) ∈ lw_all := lw_g (lw_at lw_m7 69 rfl) rfl
theorem q1608 : (Jvm.Cond.code ({ cls := "TunedHouses$Terrace", name := "fightsAt", desc := "(II)I" } : Jvm.MethodName) prog_22_method_9_code (5 : Nat) (Option.some Jvm.ClassFile.FieldType.int)) ∈ lw_all := lw_g (lw_at lw_m7 70 rfl) rfl
theorem q1609 : (Jvm.Cond.methodLink "TunedHouses$Terrace" (106 : Nat) ({ cls := "java/lang/Math", name := "max", desc := "(II)I" } : Jvm.MethodName)) ∈ lw_all := lw_g (lw_at lw_m7 71 rfl) rfl
theorem q1610 : (Jvm.Cond.methodLink "TunedHouses$Terrace" (127 : Nat) ({ cls := "java/lang/Math", name := "min", desc := "(II)I" } : Jvm.MethodName)) ∈ lw_all := lw_g (lw_at lw_m7 72 rfl) rfl
theorem q1615 : (Jvm.Cond.instanceMethod ({ cls := "TunedHouses$Terrace", name := "puts", desc := "(II)Z" } : Jvm.MethodName)) ∈ lw_all := lw_g (lw_at lw_m7 77 rfl) rfl
theorem q1616 : (Jvm.Cond.selects "TunedHouses$Terrace" ({ cls := "TunedHouses$Terrace", name := "puts", desc := "(II)Z" } : Jvm.MethodName) ({ cls := "TunedHouses$Terrace", name := "puts", desc := "(II)Z" } : Jvm.MethodName)) ∈ lw_all := lw_g (lw_at lw_m7 78 rfl) rfl
theorem q1617 : (Jvm.Cond.code ({ cls := "TunedHouses$Terrace", name := "puts", desc := "(II)Z" } : Jvm.MethodName) prog_22_method_15_code (3 : Nat) (Option.some Jvm.ClassFile.FieldType.boolean)) ∈ lw_all := lw_g (lw_at lw_m7 79 rfl) rfl
theorem q1618 : (Jvm.Cond.methodLink "TunedHouses$Terrace" (118 : Nat) ({ cls := "TunedHouses$Terrace", name := "in", desc := "(I)I" } : Jvm.MethodName)) ∈ lw_all := lw_g (lw_at lw_m7 80 rfl) rfl
theorem q1623 : (Jvm.Cond.instanceMethod ({ cls := "TunedHouses$Terrace", name := "takes", desc := "(I)Z" } : Jvm.MethodName)) ∈ lw_all := lw_g (lw_at lw_m7 85 rfl) rfl
theorem q1624 : (Jvm.Cond.selects "TunedHouses$Terrace" ({ cls := "TunedHouses$Terrace", name := "takes", desc := "(I)Z" } : Jvm.MethodName) ({ cls := "TunedHouses$Terrace", name := "takes", desc := "(I)Z" } : Jvm.MethodName)) ∈ lw_all := lw_g (lw_at lw_m7 86 rfl) rfl
theorem q1625 : (Jvm.Cond.code ({ cls := "TunedHouses$Terrace", name := "takes", desc := "(I)Z" } : Jvm.MethodName) prog_22_method_16_code (2 : Nat) (Option.some Jvm.ClassFile.FieldType.boolean)) ∈ lw_all := lw_g (lw_at lw_m7 87 rfl) rfl
theorem q1692 : (Jvm.Cond.instanceMethod ({ cls := "TunedHouses$Terrace", name := "all", desc := "()I" } : Jvm.MethodName)) ∈ lw_all := lw_g (lw_at lw_m7 154 rfl) rfl
theorem q1693 : (Jvm.Cond.selects "TunedHouses$Terrace" ({ cls := "TunedHouses$Terrace", name := "all", desc := "()I" } : Jvm.MethodName) ({ cls := "TunedHouses$Terrace", name := "all", desc := "()I" } : Jvm.MethodName)) ∈ lw_all := lw_g (lw_at lw_m7 155 rfl) rfl
theorem q1694 : (Jvm.Cond.code ({ cls := "TunedHouses$Terrace", name := "all", desc := "()I" } : Jvm.MethodName) prog_22_method_14_code (3 : Nat) (Option.some Jvm.ClassFile.FieldType.int)) ∈ lw_all := lw_g (lw_at lw_m7 156 rfl) rfl
theorem q2564 : (Jvm.Cond.castable "TunedHouses$Terrace" "java/lang/Object") ∈ lw_tbl := lw_at lw_m11 66 rfl
theorem in_X7 : ∀ w ∈ wsX70, w ∈ lw_all := lw_in wsX70 [616, 618, 620, 622, 624, 626, 628, 630, 632, 634, 636] (by decide +kernel) (by decide +kernel)

/-! TunedHouses$Reader -/
set_option maxRecDepth 100000
def RX9 : String := "TunedHouses$Reader"
abbrev cX9_init : ByteArray := prog_18_method_1_code
def yX9_init : MethodName := ⟨RX9, "<init>", "([BI)V"⟩
def dkwX9_init_0 : List UInt8 := [42, 183, 0, 3, 42, 43, 181, 0, 9, 42, 28, 181, 0, 15, 177]
abbrev dktX9_init_0 : List UInt8 := dkwX9_init_0 ++ []
theorem dksX9_init_0 : cX9_init.data.toList.drop 0 = dktX9_init_0 := by decide +kernel
theorem dX9_init_0 : decode cX9_init 0 = .ok (.aload_n 0, 1) := dk_42 (dk_at dksX9_init_0 0 rfl rfl)
theorem dX9_init_1 : decode cX9_init 1 = .ok (.invokespecial 3, 3) := dk_183 0 3 (dk_at dksX9_init_0 1 rfl rfl)
theorem dX9_init_4 : decode cX9_init 4 = .ok (.aload_n 0, 1) := dk_42 (dk_at dksX9_init_0 4 rfl rfl)
theorem dX9_init_5 : decode cX9_init 5 = .ok (.aload_n 1, 1) := dk_43 (dk_at dksX9_init_0 5 rfl rfl)
theorem dX9_init_6 : decode cX9_init 6 = .ok (.putfield 9, 3) := dk_181 0 9 (dk_at dksX9_init_0 6 rfl rfl)
theorem dX9_init_9 : decode cX9_init 9 = .ok (.aload_n 0, 1) := dk_42 (dk_at dksX9_init_0 9 rfl rfl)
theorem dX9_init_10 : decode cX9_init 10 = .ok (.iload_n 2, 1) := dk_28 (dk_at dksX9_init_0 10 rfl rfl)
theorem dX9_init_11 : decode cX9_init 11 = .ok (.putfield 15, 3) := dk_181 0 15 (dk_at dksX9_init_0 11 rfl rfl)
theorem dX9_init_14 : decode cX9_init 14 = .ok (.return_, 1) := dk_177 (dk_at dksX9_init_0 14 rfl rfl)
abbrev cX9_sign : ByteArray := prog_18_method_2_code
def yX9_sign : MethodName := ⟨RX9, "sign", "()I"⟩
def dkwX9_sign_2 : List UInt8 := [162, 0, 15, 42, 180, 0, 9, 42, 180, 0, 19, 51, 167, 0, 4, 3, 172]
abbrev dktX9_sign_2 : List UInt8 := dkwX9_sign_2 ++ []
def dkwX9_sign_1 : List UInt8 := [160, 0, 16, 42, 89, 180, 0, 19, 4, 96, 181, 0, 19, 167, 255, 221, 42, 180, 0, 19, 42, 180, 0, 15]
abbrev dktX9_sign_1 : List UInt8 := dkwX9_sign_1 ++ dktX9_sign_2
def dkwX9_sign_0 : List UInt8 := [42, 180, 0, 19, 42, 180, 0, 15, 162, 0, 30, 42, 180, 0, 9, 42, 180, 0, 19, 51, 16, 32]
abbrev dktX9_sign_0 : List UInt8 := dkwX9_sign_0 ++ dktX9_sign_1
theorem dksX9_sign_0 : cX9_sign.data.toList.drop 0 = dktX9_sign_0 := by decide +kernel
theorem dksX9_sign_1 : cX9_sign.data.toList.drop 22 = dktX9_sign_1 := dk_seg dksX9_sign_0 22 rfl rfl
theorem dksX9_sign_2 : cX9_sign.data.toList.drop 46 = dktX9_sign_2 := dk_seg dksX9_sign_1 24 rfl rfl
theorem dX9_sign_0 : decode cX9_sign 0 = .ok (.aload_n 0, 1) := dk_42 (dk_at dksX9_sign_0 0 rfl rfl)
theorem dX9_sign_1 : decode cX9_sign 1 = .ok (.getfield 19, 3) := dk_180 0 19 (dk_at dksX9_sign_0 1 rfl rfl)
theorem dX9_sign_4 : decode cX9_sign 4 = .ok (.aload_n 0, 1) := dk_42 (dk_at dksX9_sign_0 4 rfl rfl)
theorem dX9_sign_5 : decode cX9_sign 5 = .ok (.getfield 15, 3) := dk_180 0 15 (dk_at dksX9_sign_0 5 rfl rfl)
theorem dX9_sign_8 : decode cX9_sign 8 = .ok (.if_icmp .ge 30, 3) := dk_162 0 30 (dk_at dksX9_sign_0 8 rfl rfl)
theorem dX9_sign_11 : decode cX9_sign 11 = .ok (.aload_n 0, 1) := dk_42 (dk_at dksX9_sign_0 11 rfl rfl)
theorem dX9_sign_12 : decode cX9_sign 12 = .ok (.getfield 9, 3) := dk_180 0 9 (dk_at dksX9_sign_0 12 rfl rfl)
theorem dX9_sign_15 : decode cX9_sign 15 = .ok (.aload_n 0, 1) := dk_42 (dk_at dksX9_sign_0 15 rfl rfl)
theorem dX9_sign_16 : decode cX9_sign 16 = .ok (.getfield 19, 3) := dk_180 0 19 (dk_at dksX9_sign_0 16 rfl rfl)
theorem dX9_sign_19 : decode cX9_sign 19 = .ok (.baload, 1) := dk_51 (dk_at dksX9_sign_0 19 rfl rfl)
theorem dX9_sign_20 : decode cX9_sign 20 = .ok (.bipush 32, 2) := dk_16 32 (dk_at dksX9_sign_0 20 rfl rfl)
theorem dX9_sign_22 : decode cX9_sign 22 = .ok (.if_icmp .ne 16, 3) := dk_160 0 16 (dk_at dksX9_sign_1 0 rfl rfl)
theorem dX9_sign_25 : decode cX9_sign 25 = .ok (.aload_n 0, 1) := dk_42 (dk_at dksX9_sign_1 3 rfl rfl)
theorem dX9_sign_26 : decode cX9_sign 26 = .ok (.dup, 1) := dk_89 (dk_at dksX9_sign_1 4 rfl rfl)
theorem dX9_sign_27 : decode cX9_sign 27 = .ok (.getfield 19, 3) := dk_180 0 19 (dk_at dksX9_sign_1 5 rfl rfl)
theorem dX9_sign_30 : decode cX9_sign 30 = .ok (.iconst 1, 1) := dk_4 (dk_at dksX9_sign_1 8 rfl rfl)
theorem dX9_sign_31 : decode cX9_sign 31 = .ok (.iadd, 1) := dk_96 (dk_at dksX9_sign_1 9 rfl rfl)
theorem dX9_sign_32 : decode cX9_sign 32 = .ok (.putfield 19, 3) := dk_181 0 19 (dk_at dksX9_sign_1 10 rfl rfl)
theorem dX9_sign_35 : decode cX9_sign 35 = .ok (.goto (-35), 3) := dk_167 255 221 (dk_at dksX9_sign_1 13 rfl rfl)
theorem dX9_sign_38 : decode cX9_sign 38 = .ok (.aload_n 0, 1) := dk_42 (dk_at dksX9_sign_1 16 rfl rfl)
theorem dX9_sign_39 : decode cX9_sign 39 = .ok (.getfield 19, 3) := dk_180 0 19 (dk_at dksX9_sign_1 17 rfl rfl)
theorem dX9_sign_42 : decode cX9_sign 42 = .ok (.aload_n 0, 1) := dk_42 (dk_at dksX9_sign_1 20 rfl rfl)
theorem dX9_sign_43 : decode cX9_sign 43 = .ok (.getfield 15, 3) := dk_180 0 15 (dk_at dksX9_sign_1 21 rfl rfl)
theorem dX9_sign_46 : decode cX9_sign 46 = .ok (.if_icmp .ge 15, 3) := dk_162 0 15 (dk_at dksX9_sign_2 0 rfl rfl)
theorem dX9_sign_49 : decode cX9_sign 49 = .ok (.aload_n 0, 1) := dk_42 (dk_at dksX9_sign_2 3 rfl rfl)
theorem dX9_sign_50 : decode cX9_sign 50 = .ok (.getfield 9, 3) := dk_180 0 9 (dk_at dksX9_sign_2 4 rfl rfl)
theorem dX9_sign_53 : decode cX9_sign 53 = .ok (.aload_n 0, 1) := dk_42 (dk_at dksX9_sign_2 7 rfl rfl)
theorem dX9_sign_54 : decode cX9_sign 54 = .ok (.getfield 19, 3) := dk_180 0 19 (dk_at dksX9_sign_2 8 rfl rfl)
theorem dX9_sign_57 : decode cX9_sign 57 = .ok (.baload, 1) := dk_51 (dk_at dksX9_sign_2 11 rfl rfl)
theorem dX9_sign_58 : decode cX9_sign 58 = .ok (.goto 4, 3) := dk_167 0 4 (dk_at dksX9_sign_2 12 rfl rfl)
theorem dX9_sign_61 : decode cX9_sign 61 = .ok (.iconst 0, 1) := dk_3 (dk_at dksX9_sign_2 15 rfl rfl)
theorem dX9_sign_62 : decode cX9_sign 62 = .ok (.ireturn, 1) := dk_172 (dk_at dksX9_sign_2 16 rfl rfl)
abbrev cX9_word : ByteArray := prog_18_method_3_code
def yX9_word : MethodName := ⟨RX9, "word", "()Ljava/lang/String;"⟩
def dkwX9_word_3 : List UInt8 := [132, 2, 1, 167, 255, 202, 43, 182, 0, 36, 176]
abbrev dktX9_word_3 : List UInt8 := dkwX9_word_3 ++ []
def dkwX9_word_2 : List UInt8 := [163, 0, 30, 43, 182, 0, 29, 16, 10, 162, 0, 21, 43, 42, 180, 0, 9, 28, 51, 146, 182, 0, 32, 87]
abbrev dktX9_word_2 : List UInt8 := dkwX9_word_2 ++ dktX9_word_3
def dkwX9_word_1 : List UInt8 := [162, 0, 52, 42, 180, 0, 9, 28, 51, 16, 97, 161, 0, 41, 42, 180, 0, 9, 28, 51, 16, 122]
abbrev dktX9_word_1 : List UInt8 := dkwX9_word_1 ++ dktX9_word_2
def dkwX9_word_0 : List UInt8 := [42, 182, 0, 22, 87, 187, 0, 26, 89, 183, 0, 28, 76, 42, 180, 0, 19, 61, 28, 42, 180, 0, 15]
abbrev dktX9_word_0 : List UInt8 := dkwX9_word_0 ++ dktX9_word_1
theorem dksX9_word_0 : cX9_word.data.toList.drop 0 = dktX9_word_0 := by decide +kernel
theorem dksX9_word_1 : cX9_word.data.toList.drop 23 = dktX9_word_1 := dk_seg dksX9_word_0 23 rfl rfl
theorem dksX9_word_2 : cX9_word.data.toList.drop 45 = dktX9_word_2 := dk_seg dksX9_word_1 22 rfl rfl
theorem dksX9_word_3 : cX9_word.data.toList.drop 69 = dktX9_word_3 := dk_seg dksX9_word_2 24 rfl rfl
theorem dX9_word_0 : decode cX9_word 0 = .ok (.aload_n 0, 1) := dk_42 (dk_at dksX9_word_0 0 rfl rfl)
theorem dX9_word_1 : decode cX9_word 1 = .ok (.invokevirtual 22, 3) := dk_182 0 22 (dk_at dksX9_word_0 1 rfl rfl)
theorem dX9_word_4 : decode cX9_word 4 = .ok (.pop, 1) := dk_87 (dk_at dksX9_word_0 4 rfl rfl)
theorem dX9_word_5 : decode cX9_word 5 = .ok (.new 26, 3) := dk_187 0 26 (dk_at dksX9_word_0 5 rfl rfl)
theorem dX9_word_8 : decode cX9_word 8 = .ok (.dup, 1) := dk_89 (dk_at dksX9_word_0 8 rfl rfl)
theorem dX9_word_9 : decode cX9_word 9 = .ok (.invokespecial 28, 3) := dk_183 0 28 (dk_at dksX9_word_0 9 rfl rfl)
theorem dX9_word_12 : decode cX9_word 12 = .ok (.astore_n 1, 1) := dk_76 (dk_at dksX9_word_0 12 rfl rfl)
theorem dX9_word_13 : decode cX9_word 13 = .ok (.aload_n 0, 1) := dk_42 (dk_at dksX9_word_0 13 rfl rfl)
theorem dX9_word_14 : decode cX9_word 14 = .ok (.getfield 19, 3) := dk_180 0 19 (dk_at dksX9_word_0 14 rfl rfl)
theorem dX9_word_17 : decode cX9_word 17 = .ok (.istore_n 2, 1) := dk_61 (dk_at dksX9_word_0 17 rfl rfl)
theorem dX9_word_18 : decode cX9_word 18 = .ok (.iload_n 2, 1) := dk_28 (dk_at dksX9_word_0 18 rfl rfl)
theorem dX9_word_19 : decode cX9_word 19 = .ok (.aload_n 0, 1) := dk_42 (dk_at dksX9_word_0 19 rfl rfl)
theorem dX9_word_20 : decode cX9_word 20 = .ok (.getfield 15, 3) := dk_180 0 15 (dk_at dksX9_word_0 20 rfl rfl)
theorem dX9_word_23 : decode cX9_word 23 = .ok (.if_icmp .ge 52, 3) := dk_162 0 52 (dk_at dksX9_word_1 0 rfl rfl)
theorem dX9_word_26 : decode cX9_word 26 = .ok (.aload_n 0, 1) := dk_42 (dk_at dksX9_word_1 3 rfl rfl)
theorem dX9_word_27 : decode cX9_word 27 = .ok (.getfield 9, 3) := dk_180 0 9 (dk_at dksX9_word_1 4 rfl rfl)
theorem dX9_word_30 : decode cX9_word 30 = .ok (.iload_n 2, 1) := dk_28 (dk_at dksX9_word_1 7 rfl rfl)
theorem dX9_word_31 : decode cX9_word 31 = .ok (.baload, 1) := dk_51 (dk_at dksX9_word_1 8 rfl rfl)
theorem dX9_word_32 : decode cX9_word 32 = .ok (.bipush 97, 2) := dk_16 97 (dk_at dksX9_word_1 9 rfl rfl)
theorem dX9_word_34 : decode cX9_word 34 = .ok (.if_icmp .lt 41, 3) := dk_161 0 41 (dk_at dksX9_word_1 11 rfl rfl)
theorem dX9_word_37 : decode cX9_word 37 = .ok (.aload_n 0, 1) := dk_42 (dk_at dksX9_word_1 14 rfl rfl)
theorem dX9_word_38 : decode cX9_word 38 = .ok (.getfield 9, 3) := dk_180 0 9 (dk_at dksX9_word_1 15 rfl rfl)
theorem dX9_word_41 : decode cX9_word 41 = .ok (.iload_n 2, 1) := dk_28 (dk_at dksX9_word_1 18 rfl rfl)
theorem dX9_word_42 : decode cX9_word 42 = .ok (.baload, 1) := dk_51 (dk_at dksX9_word_1 19 rfl rfl)
theorem dX9_word_43 : decode cX9_word 43 = .ok (.bipush 122, 2) := dk_16 122 (dk_at dksX9_word_1 20 rfl rfl)
theorem dX9_word_45 : decode cX9_word 45 = .ok (.if_icmp .gt 30, 3) := dk_163 0 30 (dk_at dksX9_word_2 0 rfl rfl)
theorem dX9_word_48 : decode cX9_word 48 = .ok (.aload_n 1, 1) := dk_43 (dk_at dksX9_word_2 3 rfl rfl)
theorem dX9_word_49 : decode cX9_word 49 = .ok (.invokevirtual 29, 3) := dk_182 0 29 (dk_at dksX9_word_2 4 rfl rfl)
theorem dX9_word_52 : decode cX9_word 52 = .ok (.bipush 10, 2) := dk_16 10 (dk_at dksX9_word_2 7 rfl rfl)
theorem dX9_word_54 : decode cX9_word 54 = .ok (.if_icmp .ge 21, 3) := dk_162 0 21 (dk_at dksX9_word_2 9 rfl rfl)
theorem dX9_word_57 : decode cX9_word 57 = .ok (.aload_n 1, 1) := dk_43 (dk_at dksX9_word_2 12 rfl rfl)
theorem dX9_word_58 : decode cX9_word 58 = .ok (.aload_n 0, 1) := dk_42 (dk_at dksX9_word_2 13 rfl rfl)
theorem dX9_word_59 : decode cX9_word 59 = .ok (.getfield 9, 3) := dk_180 0 9 (dk_at dksX9_word_2 14 rfl rfl)
theorem dX9_word_62 : decode cX9_word 62 = .ok (.iload_n 2, 1) := dk_28 (dk_at dksX9_word_2 17 rfl rfl)
theorem dX9_word_63 : decode cX9_word 63 = .ok (.baload, 1) := dk_51 (dk_at dksX9_word_2 18 rfl rfl)
theorem dX9_word_64 : decode cX9_word 64 = .ok (.i2c, 1) := dk_146 (dk_at dksX9_word_2 19 rfl rfl)
theorem dX9_word_65 : decode cX9_word 65 = .ok (.invokevirtual 32, 3) := dk_182 0 32 (dk_at dksX9_word_2 20 rfl rfl)
theorem dX9_word_68 : decode cX9_word 68 = .ok (.pop, 1) := dk_87 (dk_at dksX9_word_2 23 rfl rfl)
theorem dX9_word_69 : decode cX9_word 69 = .ok (.iinc 2 1, 3) := dk_132 2 1 (dk_at dksX9_word_3 0 rfl rfl)
theorem dX9_word_72 : decode cX9_word 72 = .ok (.goto (-54), 3) := dk_167 255 202 (dk_at dksX9_word_3 3 rfl rfl)
theorem dX9_word_75 : decode cX9_word 75 = .ok (.aload_n 1, 1) := dk_43 (dk_at dksX9_word_3 6 rfl rfl)
theorem dX9_word_76 : decode cX9_word 76 = .ok (.invokevirtual 36, 3) := dk_182 0 36 (dk_at dksX9_word_3 7 rfl rfl)
theorem dX9_word_79 : decode cX9_word 79 = .ok (.areturn, 1) := dk_176 (dk_at dksX9_word_3 10 rfl rfl)
abbrev cX9_wrong : ByteArray := prog_18_method_4_code
def yX9_wrong : MethodName := ⟨RX9, "wrong", "()LTunedHouses$Wrong;"⟩
def dkwX9_wrong_0 : List UInt8 := [187, 0, 40, 89, 4, 42, 180, 0, 19, 183, 0, 42, 176]
abbrev dktX9_wrong_0 : List UInt8 := dkwX9_wrong_0 ++ []
theorem dksX9_wrong_0 : cX9_wrong.data.toList.drop 0 = dktX9_wrong_0 := by decide +kernel
theorem dX9_wrong_0 : decode cX9_wrong 0 = .ok (.new 40, 3) := dk_187 0 40 (dk_at dksX9_wrong_0 0 rfl rfl)
theorem dX9_wrong_3 : decode cX9_wrong 3 = .ok (.dup, 1) := dk_89 (dk_at dksX9_wrong_0 3 rfl rfl)
theorem dX9_wrong_4 : decode cX9_wrong 4 = .ok (.iconst 1, 1) := dk_4 (dk_at dksX9_wrong_0 4 rfl rfl)
theorem dX9_wrong_5 : decode cX9_wrong 5 = .ok (.aload_n 0, 1) := dk_42 (dk_at dksX9_wrong_0 5 rfl rfl)
theorem dX9_wrong_6 : decode cX9_wrong 6 = .ok (.getfield 19, 3) := dk_180 0 19 (dk_at dksX9_wrong_0 6 rfl rfl)
theorem dX9_wrong_9 : decode cX9_wrong 9 = .ok (.invokespecial 42, 3) := dk_183 0 42 (dk_at dksX9_wrong_0 9 rfl rfl)
theorem dX9_wrong_12 : decode cX9_wrong 12 = .ok (.areturn, 1) := dk_176 (dk_at dksX9_wrong_0 12 rfl rfl)
abbrev cX9_number : ByteArray := prog_18_method_7_code
def yX9_number : MethodName := ⟨RX9, "number", "(II)I"⟩
def dkwX9_number_5 : List UInt8 := [164, 0, 16, 187, 0, 40, 89, 5, 42, 180, 0, 52, 183, 0, 42, 191, 21, 4, 172]
abbrev dktX9_number_5 : List UInt8 := dkwX9_number_5 ++ []
def dkwX9_number_4 : List UInt8 := [54, 4, 42, 89, 180, 0, 19, 4, 96, 181, 0, 19, 167, 255, 182, 21, 4, 27, 161, 0, 9, 21, 4, 28]
abbrev dktX9_number_4 : List UInt8 := dkwX9_number_4 ++ dktX9_number_5
def dkwX9_number_3 : List UInt8 := [16, 10, 21, 4, 104, 42, 180, 0, 9, 42, 180, 0, 19, 51, 96, 16, 48, 100, 18, 55, 184, 0, 56]
abbrev dktX9_number_3 : List UInt8 := dkwX9_number_3 ++ dktX9_number_4
def dkwX9_number_2 : List UInt8 := [42, 180, 0, 19, 51, 16, 48, 161, 0, 55, 42, 180, 0, 9, 42, 180, 0, 19, 51, 16, 57, 163, 0, 41]
abbrev dktX9_number_2 : List UInt8 := dkwX9_number_2 ++ dktX9_number_3
def dkwX9_number_1 : List UInt8 := [180, 0, 19, 181, 0, 52, 3, 54, 4, 42, 180, 0, 19, 42, 180, 0, 15, 162, 0, 69, 42, 180, 0, 9]
abbrev dktX9_number_1 : List UInt8 := dkwX9_number_1 ++ dktX9_number_2
def dkwX9_number_0 : List UInt8 := [42, 182, 0, 22, 62, 29, 16, 48, 161, 0, 9, 29, 16, 57, 164, 0, 8, 42, 182, 0, 45, 191, 42, 42]
abbrev dktX9_number_0 : List UInt8 := dkwX9_number_0 ++ dktX9_number_1
theorem dksX9_number_0 : cX9_number.data.toList.drop 0 = dktX9_number_0 := by decide +kernel
theorem dksX9_number_1 : cX9_number.data.toList.drop 24 = dktX9_number_1 := dk_seg dksX9_number_0 24 rfl rfl
theorem dksX9_number_2 : cX9_number.data.toList.drop 48 = dktX9_number_2 := dk_seg dksX9_number_1 24 rfl rfl
theorem dksX9_number_3 : cX9_number.data.toList.drop 72 = dktX9_number_3 := dk_seg dksX9_number_2 24 rfl rfl
theorem dksX9_number_4 : cX9_number.data.toList.drop 95 = dktX9_number_4 := dk_seg dksX9_number_3 23 rfl rfl
theorem dksX9_number_5 : cX9_number.data.toList.drop 119 = dktX9_number_5 := dk_seg dksX9_number_4 24 rfl rfl
theorem dX9_number_0 : decode cX9_number 0 = .ok (.aload_n 0, 1) := dk_42 (dk_at dksX9_number_0 0 rfl rfl)
theorem dX9_number_1 : decode cX9_number 1 = .ok (.invokevirtual 22, 3) := dk_182 0 22 (dk_at dksX9_number_0 1 rfl rfl)
theorem dX9_number_4 : decode cX9_number 4 = .ok (.istore_n 3, 1) := dk_62 (dk_at dksX9_number_0 4 rfl rfl)
theorem dX9_number_5 : decode cX9_number 5 = .ok (.iload_n 3, 1) := dk_29 (dk_at dksX9_number_0 5 rfl rfl)
theorem dX9_number_6 : decode cX9_number 6 = .ok (.bipush 48, 2) := dk_16 48 (dk_at dksX9_number_0 6 rfl rfl)
theorem dX9_number_8 : decode cX9_number 8 = .ok (.if_icmp .lt 9, 3) := dk_161 0 9 (dk_at dksX9_number_0 8 rfl rfl)
theorem dX9_number_11 : decode cX9_number 11 = .ok (.iload_n 3, 1) := dk_29 (dk_at dksX9_number_0 11 rfl rfl)
theorem dX9_number_12 : decode cX9_number 12 = .ok (.bipush 57, 2) := dk_16 57 (dk_at dksX9_number_0 12 rfl rfl)
theorem dX9_number_14 : decode cX9_number 14 = .ok (.if_icmp .le 8, 3) := dk_164 0 8 (dk_at dksX9_number_0 14 rfl rfl)
theorem dX9_number_17 : decode cX9_number 17 = .ok (.aload_n 0, 1) := dk_42 (dk_at dksX9_number_0 17 rfl rfl)
theorem dX9_number_18 : decode cX9_number 18 = .ok (.invokevirtual 45, 3) := dk_182 0 45 (dk_at dksX9_number_0 18 rfl rfl)
theorem dX9_number_21 : decode cX9_number 21 = .ok (.athrow, 1) := dk_191 (dk_at dksX9_number_0 21 rfl rfl)
theorem dX9_number_22 : decode cX9_number 22 = .ok (.aload_n 0, 1) := dk_42 (dk_at dksX9_number_0 22 rfl rfl)
theorem dX9_number_23 : decode cX9_number 23 = .ok (.aload_n 0, 1) := dk_42 (dk_at dksX9_number_0 23 rfl rfl)
theorem dX9_number_24 : decode cX9_number 24 = .ok (.getfield 19, 3) := dk_180 0 19 (dk_at dksX9_number_1 0 rfl rfl)
theorem dX9_number_27 : decode cX9_number 27 = .ok (.putfield 52, 3) := dk_181 0 52 (dk_at dksX9_number_1 3 rfl rfl)
theorem dX9_number_30 : decode cX9_number 30 = .ok (.iconst 0, 1) := dk_3 (dk_at dksX9_number_1 6 rfl rfl)
theorem dX9_number_31 : decode cX9_number 31 = .ok (.istore 4, 2) := dk_54 4 (dk_at dksX9_number_1 7 rfl rfl)
theorem dX9_number_33 : decode cX9_number 33 = .ok (.aload_n 0, 1) := dk_42 (dk_at dksX9_number_1 9 rfl rfl)
theorem dX9_number_34 : decode cX9_number 34 = .ok (.getfield 19, 3) := dk_180 0 19 (dk_at dksX9_number_1 10 rfl rfl)
theorem dX9_number_37 : decode cX9_number 37 = .ok (.aload_n 0, 1) := dk_42 (dk_at dksX9_number_1 13 rfl rfl)
theorem dX9_number_38 : decode cX9_number 38 = .ok (.getfield 15, 3) := dk_180 0 15 (dk_at dksX9_number_1 14 rfl rfl)
theorem dX9_number_41 : decode cX9_number 41 = .ok (.if_icmp .ge 69, 3) := dk_162 0 69 (dk_at dksX9_number_1 17 rfl rfl)
theorem dX9_number_44 : decode cX9_number 44 = .ok (.aload_n 0, 1) := dk_42 (dk_at dksX9_number_1 20 rfl rfl)
theorem dX9_number_45 : decode cX9_number 45 = .ok (.getfield 9, 3) := dk_180 0 9 (dk_at dksX9_number_1 21 rfl rfl)
theorem dX9_number_48 : decode cX9_number 48 = .ok (.aload_n 0, 1) := dk_42 (dk_at dksX9_number_2 0 rfl rfl)
theorem dX9_number_49 : decode cX9_number 49 = .ok (.getfield 19, 3) := dk_180 0 19 (dk_at dksX9_number_2 1 rfl rfl)
theorem dX9_number_52 : decode cX9_number 52 = .ok (.baload, 1) := dk_51 (dk_at dksX9_number_2 4 rfl rfl)
theorem dX9_number_53 : decode cX9_number 53 = .ok (.bipush 48, 2) := dk_16 48 (dk_at dksX9_number_2 5 rfl rfl)
theorem dX9_number_55 : decode cX9_number 55 = .ok (.if_icmp .lt 55, 3) := dk_161 0 55 (dk_at dksX9_number_2 7 rfl rfl)
theorem dX9_number_58 : decode cX9_number 58 = .ok (.aload_n 0, 1) := dk_42 (dk_at dksX9_number_2 10 rfl rfl)
theorem dX9_number_59 : decode cX9_number 59 = .ok (.getfield 9, 3) := dk_180 0 9 (dk_at dksX9_number_2 11 rfl rfl)
theorem dX9_number_62 : decode cX9_number 62 = .ok (.aload_n 0, 1) := dk_42 (dk_at dksX9_number_2 14 rfl rfl)
theorem dX9_number_63 : decode cX9_number 63 = .ok (.getfield 19, 3) := dk_180 0 19 (dk_at dksX9_number_2 15 rfl rfl)
theorem dX9_number_66 : decode cX9_number 66 = .ok (.baload, 1) := dk_51 (dk_at dksX9_number_2 18 rfl rfl)
theorem dX9_number_67 : decode cX9_number 67 = .ok (.bipush 57, 2) := dk_16 57 (dk_at dksX9_number_2 19 rfl rfl)
theorem dX9_number_69 : decode cX9_number 69 = .ok (.if_icmp .gt 41, 3) := dk_163 0 41 (dk_at dksX9_number_2 21 rfl rfl)
theorem dX9_number_72 : decode cX9_number 72 = .ok (.bipush 10, 2) := dk_16 10 (dk_at dksX9_number_3 0 rfl rfl)
theorem dX9_number_74 : decode cX9_number 74 = .ok (.iload 4, 2) := dk_21 4 (dk_at dksX9_number_3 2 rfl rfl)
theorem dX9_number_76 : decode cX9_number 76 = .ok (.imul, 1) := dk_104 (dk_at dksX9_number_3 4 rfl rfl)
theorem dX9_number_77 : decode cX9_number 77 = .ok (.aload_n 0, 1) := dk_42 (dk_at dksX9_number_3 5 rfl rfl)
theorem dX9_number_78 : decode cX9_number 78 = .ok (.getfield 9, 3) := dk_180 0 9 (dk_at dksX9_number_3 6 rfl rfl)
theorem dX9_number_81 : decode cX9_number 81 = .ok (.aload_n 0, 1) := dk_42 (dk_at dksX9_number_3 9 rfl rfl)
theorem dX9_number_82 : decode cX9_number 82 = .ok (.getfield 19, 3) := dk_180 0 19 (dk_at dksX9_number_3 10 rfl rfl)
theorem dX9_number_85 : decode cX9_number 85 = .ok (.baload, 1) := dk_51 (dk_at dksX9_number_3 13 rfl rfl)
theorem dX9_number_86 : decode cX9_number 86 = .ok (.iadd, 1) := dk_96 (dk_at dksX9_number_3 14 rfl rfl)
theorem dX9_number_87 : decode cX9_number 87 = .ok (.bipush 48, 2) := dk_16 48 (dk_at dksX9_number_3 15 rfl rfl)
theorem dX9_number_89 : decode cX9_number 89 = .ok (.isub, 1) := dk_100 (dk_at dksX9_number_3 17 rfl rfl)
theorem dX9_number_90 : decode cX9_number 90 = .ok (.ldc 55, 2) := dk_18 55 (dk_at dksX9_number_3 18 rfl rfl)
theorem dX9_number_92 : decode cX9_number 92 = .ok (.invokestatic 56, 3) := dk_184 0 56 (dk_at dksX9_number_3 20 rfl rfl)
theorem dX9_number_95 : decode cX9_number 95 = .ok (.istore 4, 2) := dk_54 4 (dk_at dksX9_number_4 0 rfl rfl)
theorem dX9_number_97 : decode cX9_number 97 = .ok (.aload_n 0, 1) := dk_42 (dk_at dksX9_number_4 2 rfl rfl)
theorem dX9_number_98 : decode cX9_number 98 = .ok (.dup, 1) := dk_89 (dk_at dksX9_number_4 3 rfl rfl)
theorem dX9_number_99 : decode cX9_number 99 = .ok (.getfield 19, 3) := dk_180 0 19 (dk_at dksX9_number_4 4 rfl rfl)
theorem dX9_number_102 : decode cX9_number 102 = .ok (.iconst 1, 1) := dk_4 (dk_at dksX9_number_4 7 rfl rfl)
theorem dX9_number_103 : decode cX9_number 103 = .ok (.iadd, 1) := dk_96 (dk_at dksX9_number_4 8 rfl rfl)
theorem dX9_number_104 : decode cX9_number 104 = .ok (.putfield 19, 3) := dk_181 0 19 (dk_at dksX9_number_4 9 rfl rfl)
theorem dX9_number_107 : decode cX9_number 107 = .ok (.goto (-74), 3) := dk_167 255 182 (dk_at dksX9_number_4 12 rfl rfl)
theorem dX9_number_110 : decode cX9_number 110 = .ok (.iload 4, 2) := dk_21 4 (dk_at dksX9_number_4 15 rfl rfl)
theorem dX9_number_112 : decode cX9_number 112 = .ok (.iload_n 1, 1) := dk_27 (dk_at dksX9_number_4 17 rfl rfl)
theorem dX9_number_113 : decode cX9_number 113 = .ok (.if_icmp .lt 9, 3) := dk_161 0 9 (dk_at dksX9_number_4 18 rfl rfl)
theorem dX9_number_116 : decode cX9_number 116 = .ok (.iload 4, 2) := dk_21 4 (dk_at dksX9_number_4 21 rfl rfl)
theorem dX9_number_118 : decode cX9_number 118 = .ok (.iload_n 2, 1) := dk_28 (dk_at dksX9_number_4 23 rfl rfl)
theorem dX9_number_119 : decode cX9_number 119 = .ok (.if_icmp .le 16, 3) := dk_164 0 16 (dk_at dksX9_number_5 0 rfl rfl)
theorem dX9_number_122 : decode cX9_number 122 = .ok (.new 40, 3) := dk_187 0 40 (dk_at dksX9_number_5 3 rfl rfl)
theorem dX9_number_125 : decode cX9_number 125 = .ok (.dup, 1) := dk_89 (dk_at dksX9_number_5 6 rfl rfl)
theorem dX9_number_126 : decode cX9_number 126 = .ok (.iconst 2, 1) := dk_5 (dk_at dksX9_number_5 7 rfl rfl)
theorem dX9_number_127 : decode cX9_number 127 = .ok (.aload_n 0, 1) := dk_42 (dk_at dksX9_number_5 8 rfl rfl)
theorem dX9_number_128 : decode cX9_number 128 = .ok (.getfield 52, 3) := dk_180 0 52 (dk_at dksX9_number_5 9 rfl rfl)
theorem dX9_number_131 : decode cX9_number 131 = .ok (.invokespecial 42, 3) := dk_183 0 42 (dk_at dksX9_number_5 12 rfl rfl)
theorem dX9_number_134 : decode cX9_number 134 = .ok (.athrow, 1) := dk_191 (dk_at dksX9_number_5 15 rfl rfl)
theorem dX9_number_135 : decode cX9_number 135 = .ok (.iload 4, 2) := dk_21 4 (dk_at dksX9_number_5 16 rfl rfl)
theorem dX9_number_137 : decode cX9_number 137 = .ok (.ireturn, 1) := dk_172 (dk_at dksX9_number_5 18 rfl rfl)
abbrev cX9_need : ByteArray := prog_18_method_5_code
def yX9_need : MethodName := ⟨RX9, "need", "(I)V"⟩
def dkwX9_need_0 : List UInt8 := [42, 182, 0, 22, 27, 159, 0, 8, 42, 182, 0, 45, 191, 42, 89, 180, 0, 19, 4, 96, 181, 0, 19, 177]
abbrev dktX9_need_0 : List UInt8 := dkwX9_need_0 ++ []
theorem dksX9_need_0 : cX9_need.data.toList.drop 0 = dktX9_need_0 := by decide +kernel
theorem dX9_need_0 : decode cX9_need 0 = .ok (.aload_n 0, 1) := dk_42 (dk_at dksX9_need_0 0 rfl rfl)
theorem dX9_need_1 : decode cX9_need 1 = .ok (.invokevirtual 22, 3) := dk_182 0 22 (dk_at dksX9_need_0 1 rfl rfl)
theorem dX9_need_4 : decode cX9_need 4 = .ok (.iload_n 1, 1) := dk_27 (dk_at dksX9_need_0 4 rfl rfl)
theorem dX9_need_5 : decode cX9_need 5 = .ok (.if_icmp .eq 8, 3) := dk_159 0 8 (dk_at dksX9_need_0 5 rfl rfl)
theorem dX9_need_8 : decode cX9_need 8 = .ok (.aload_n 0, 1) := dk_42 (dk_at dksX9_need_0 8 rfl rfl)
theorem dX9_need_9 : decode cX9_need 9 = .ok (.invokevirtual 45, 3) := dk_182 0 45 (dk_at dksX9_need_0 9 rfl rfl)
theorem dX9_need_12 : decode cX9_need 12 = .ok (.athrow, 1) := dk_191 (dk_at dksX9_need_0 12 rfl rfl)
theorem dX9_need_13 : decode cX9_need 13 = .ok (.aload_n 0, 1) := dk_42 (dk_at dksX9_need_0 13 rfl rfl)
theorem dX9_need_14 : decode cX9_need 14 = .ok (.dup, 1) := dk_89 (dk_at dksX9_need_0 14 rfl rfl)
theorem dX9_need_15 : decode cX9_need 15 = .ok (.getfield 19, 3) := dk_180 0 19 (dk_at dksX9_need_0 15 rfl rfl)
theorem dX9_need_18 : decode cX9_need 18 = .ok (.iconst 1, 1) := dk_4 (dk_at dksX9_need_0 18 rfl rfl)
theorem dX9_need_19 : decode cX9_need 19 = .ok (.iadd, 1) := dk_96 (dk_at dksX9_need_0 19 rfl rfl)
theorem dX9_need_20 : decode cX9_need 20 = .ok (.putfield 19, 3) := dk_181 0 19 (dk_at dksX9_need_0 20 rfl rfl)
theorem dX9_need_23 : decode cX9_need 23 = .ok (.return_, 1) := dk_177 (dk_at dksX9_need_0 23 rfl rfl)
abbrev cX9_opens : ByteArray := prog_18_method_6_code
def yX9_opens : MethodName := ⟨RX9, "opens", "(I)V"⟩
def dkwX9_opens_1 : List UInt8 := [180, 0, 19, 27, 96, 181, 0, 19, 42, 89, 180, 0, 49, 4, 96, 181, 0, 49, 177]
abbrev dktX9_opens_1 : List UInt8 := dkwX9_opens_1 ++ []
def dkwX9_opens_0 : List UInt8 := [42, 180, 0, 49, 16, 6, 160, 0, 16, 187, 0, 40, 89, 6, 42, 180, 0, 19, 183, 0, 42, 191, 42, 89]
abbrev dktX9_opens_0 : List UInt8 := dkwX9_opens_0 ++ dktX9_opens_1
theorem dksX9_opens_0 : cX9_opens.data.toList.drop 0 = dktX9_opens_0 := by decide +kernel
theorem dksX9_opens_1 : cX9_opens.data.toList.drop 24 = dktX9_opens_1 := dk_seg dksX9_opens_0 24 rfl rfl
theorem dX9_opens_0 : decode cX9_opens 0 = .ok (.aload_n 0, 1) := dk_42 (dk_at dksX9_opens_0 0 rfl rfl)
theorem dX9_opens_1 : decode cX9_opens 1 = .ok (.getfield 49, 3) := dk_180 0 49 (dk_at dksX9_opens_0 1 rfl rfl)
theorem dX9_opens_4 : decode cX9_opens 4 = .ok (.bipush 6, 2) := dk_16 6 (dk_at dksX9_opens_0 4 rfl rfl)
theorem dX9_opens_6 : decode cX9_opens 6 = .ok (.if_icmp .ne 16, 3) := dk_160 0 16 (dk_at dksX9_opens_0 6 rfl rfl)
theorem dX9_opens_9 : decode cX9_opens 9 = .ok (.new 40, 3) := dk_187 0 40 (dk_at dksX9_opens_0 9 rfl rfl)
theorem dX9_opens_12 : decode cX9_opens 12 = .ok (.dup, 1) := dk_89 (dk_at dksX9_opens_0 12 rfl rfl)
theorem dX9_opens_13 : decode cX9_opens 13 = .ok (.iconst 3, 1) := dk_6 (dk_at dksX9_opens_0 13 rfl rfl)
theorem dX9_opens_14 : decode cX9_opens 14 = .ok (.aload_n 0, 1) := dk_42 (dk_at dksX9_opens_0 14 rfl rfl)
theorem dX9_opens_15 : decode cX9_opens 15 = .ok (.getfield 19, 3) := dk_180 0 19 (dk_at dksX9_opens_0 15 rfl rfl)
theorem dX9_opens_18 : decode cX9_opens 18 = .ok (.invokespecial 42, 3) := dk_183 0 42 (dk_at dksX9_opens_0 18 rfl rfl)
theorem dX9_opens_21 : decode cX9_opens 21 = .ok (.athrow, 1) := dk_191 (dk_at dksX9_opens_0 21 rfl rfl)
theorem dX9_opens_22 : decode cX9_opens 22 = .ok (.aload_n 0, 1) := dk_42 (dk_at dksX9_opens_0 22 rfl rfl)
theorem dX9_opens_23 : decode cX9_opens 23 = .ok (.dup, 1) := dk_89 (dk_at dksX9_opens_0 23 rfl rfl)
theorem dX9_opens_24 : decode cX9_opens 24 = .ok (.getfield 19, 3) := dk_180 0 19 (dk_at dksX9_opens_1 0 rfl rfl)
theorem dX9_opens_27 : decode cX9_opens 27 = .ok (.iload_n 1, 1) := dk_27 (dk_at dksX9_opens_1 3 rfl rfl)
theorem dX9_opens_28 : decode cX9_opens 28 = .ok (.iadd, 1) := dk_96 (dk_at dksX9_opens_1 4 rfl rfl)
theorem dX9_opens_29 : decode cX9_opens 29 = .ok (.putfield 19, 3) := dk_181 0 19 (dk_at dksX9_opens_1 5 rfl rfl)
theorem dX9_opens_32 : decode cX9_opens 32 = .ok (.aload_n 0, 1) := dk_42 (dk_at dksX9_opens_1 8 rfl rfl)
theorem dX9_opens_33 : decode cX9_opens 33 = .ok (.dup, 1) := dk_89 (dk_at dksX9_opens_1 9 rfl rfl)
theorem dX9_opens_34 : decode cX9_opens 34 = .ok (.getfield 49, 3) := dk_180 0 49 (dk_at dksX9_opens_1 10 rfl rfl)
theorem dX9_opens_37 : decode cX9_opens 37 = .ok (.iconst 1, 1) := dk_4 (dk_at dksX9_opens_1 13 rfl rfl)
theorem dX9_opens_38 : decode cX9_opens 38 = .ok (.iadd, 1) := dk_96 (dk_at dksX9_opens_1 14 rfl rfl)
theorem dX9_opens_39 : decode cX9_opens 39 = .ok (.putfield 49, 3) := dk_181 0 49 (dk_at dksX9_opens_1 15 rfl rfl)
theorem dX9_opens_42 : decode cX9_opens 42 = .ok (.return_, 1) := dk_177 (dk_at dksX9_opens_1 18 rfl rfl)
theorem q126 : (Jvm.Cond.initialized "TunedHouses$Reader") ∈ lw_all := lw_g (lw_at lw_m1 28 rfl) rfl
theorem q890 : (Jvm.Cond.instanceMethod ({ cls := "TunedHouses$Reader", name := "<init>", desc := "([BI)V" } : Jvm.MethodName)) ∈ lw_all := lw_g (lw_at lw_m4 72 rfl) rfl
theorem q891 : (Jvm.Cond.code ({ cls := "TunedHouses$Reader", name := "<init>", desc := "([BI)V" } : Jvm.MethodName) prog_18_method_1_code (3 : Nat) (Option.none : Option Jvm.ClassFile.FieldType)) ∈ lw_all := lw_g (lw_at lw_m4 73 rfl) rfl
theorem q892 : (Jvm.Cond.methodLink "TunedHouses$Reader" (3 : Nat) ({ cls := "java/lang/Object", name := "<init>", desc := "()V" } : Jvm.MethodName)) ∈ lw_all := lw_g (lw_at lw_m4 74 rfl) rfl
theorem q896 : (Jvm.Cond.fieldLink "TunedHouses$Reader" (9 : Nat) "TunedHouses$Reader" "text" "[B") ∈ lw_all := lw_g (lw_at lw_m4 78 rfl) rfl
theorem q897 : (Jvm.Cond.fieldLink "TunedHouses$Reader" (15 : Nat) "TunedHouses$Reader" "size" "I") ∈ lw_all := lw_g (lw_at lw_m4 79 rfl) rfl
theorem q906 : (Jvm.Cond.fieldLink "TunedHouses$Reader" (19 : Nat) "TunedHouses$Reader" "next" "I") ∈ lw_all := lw_g (lw_at lw_m4 88 rfl) rfl
theorem q919 : (Jvm.Cond.fieldLink "TunedHouses$Reader" (52 : Nat) "TunedHouses$Reader" "from" "I") ∈ lw_all := lw_g (lw_at lw_m4 101 rfl) rfl
theorem q922 : (Jvm.Cond.fieldLink "TunedHouses$Reader" (49 : Nat) "TunedHouses$Reader" "open" "I") ∈ lw_all := lw_g (lw_at lw_m4 104 rfl) rfl
theorem q928 : (Jvm.Cond.soleField "TunedHouses$Reader" "text") ∈ lw_all := lw_g (lw_at lw_m4 110 rfl) rfl
theorem q930 : (Jvm.Cond.soleField "TunedHouses$Reader" "size") ∈ lw_all := lw_g (lw_at lw_m4 112 rfl) rfl
theorem q932 : (Jvm.Cond.soleField "TunedHouses$Reader" "next") ∈ lw_all := lw_g (lw_at lw_m4 114 rfl) rfl
theorem q934 : (Jvm.Cond.soleField "TunedHouses$Reader" "from") ∈ lw_all := lw_g (lw_at lw_m4 116 rfl) rfl
theorem q936 : (Jvm.Cond.soleField "TunedHouses$Reader" "open") ∈ lw_all := lw_g (lw_at lw_m4 118 rfl) rfl
theorem q944 : (Jvm.Cond.declares ({ cls := "TunedHouses$Reader", name := "sign", desc := "()I" } : Jvm.MethodName)) ∈ lw_tbl := lw_at lw_m4 126 rfl
theorem q946 : (Jvm.Cond.instanceMethod ({ cls := "TunedHouses$Reader", name := "sign", desc := "()I" } : Jvm.MethodName)) ∈ lw_all := lw_g (lw_at lw_m4 128 rfl) rfl
theorem q947 : (Jvm.Cond.code ({ cls := "TunedHouses$Reader", name := "sign", desc := "()I" } : Jvm.MethodName) prog_18_method_2_code (1 : Nat) (Option.some Jvm.ClassFile.FieldType.int)) ∈ lw_all := lw_g (lw_at lw_m4 129 rfl) rfl
theorem q950 : (Jvm.Cond.declares ({ cls := "TunedHouses$Reader", name := "word", desc := "()Ljava/lang/String;" } : Jvm.MethodName)) ∈ lw_tbl := lw_at lw_m4 132 rfl
theorem q952 : (Jvm.Cond.instanceMethod ({ cls := "TunedHouses$Reader", name := "word", desc := "()Ljava/lang/String;" } : Jvm.MethodName)) ∈ lw_all := lw_g (lw_at lw_m4 134 rfl) rfl
theorem q953 : (Jvm.Cond.code ({ cls := "TunedHouses$Reader", name := "word", desc := "()Ljava/lang/String;" } : Jvm.MethodName) prog_18_method_3_code (3 : Nat) (Option.some (Jvm.ClassFile.FieldType.object "java/lang/String"))) ∈ lw_all := lw_g (lw_at lw_m4 135 rfl) rfl
theorem q954 : (Jvm.Cond.methodLink "TunedHouses$Reader" (22 : Nat) ({ cls := "TunedHouses$Reader", name := "sign", desc := "()I" } : Jvm.MethodName)) ∈ lw_all := lw_g (lw_at lw_m4 136 rfl) rfl
theorem q955 : (Jvm.Cond.classLink "TunedHouses$Reader" (26 : Nat) "java/lang/StringBuilder") ∈ lw_all := lw_g (lw_at lw_m4 137 rfl) rfl
theorem q956 : (Jvm.Cond.methodLink "TunedHouses$Reader" (28 : Nat) ({ cls := "java/lang/StringBuilder", name := "<init>", desc := "()V" } : Jvm.MethodName)) ∈ lw_all := lw_g (lw_at lw_m4 138 rfl) rfl
theorem q957 : (Jvm.Cond.methodLink "TunedHouses$Reader" (29 : Nat) ({ cls := "java/lang/StringBuilder", name := "length", desc := "()I" } : Jvm.MethodName)) ∈ lw_all := lw_g (lw_at lw_m4 139 rfl) rfl
theorem q958 : (Jvm.Cond.methodLink "TunedHouses$Reader" (32 : Nat) ({ cls := "java/lang/StringBuilder", name := "append", desc := "(C)Ljava/lang/StringBuilder;" } : Jvm.MethodName)) ∈ lw_all := lw_g (lw_at lw_m4 140 rfl) rfl
theorem q978 : (Jvm.Cond.methodLink "TunedHouses$Reader" (36 : Nat) ({ cls := "java/lang/StringBuilder", name := "toString", desc := "()Ljava/lang/String;" } : Jvm.MethodName)) ∈ lw_all := lw_g (lw_at lw_m4 160 rfl) rfl
theorem q1059 : (Jvm.Cond.declares ({ cls := "TunedHouses$Reader", name := "wrong", desc := "()LTunedHouses$Wrong;" } : Jvm.MethodName)) ∈ lw_tbl := lw_at lw_m5 1 rfl
theorem q1061 : (Jvm.Cond.instanceMethod ({ cls := "TunedHouses$Reader", name := "wrong", desc := "()LTunedHouses$Wrong;" } : Jvm.MethodName)) ∈ lw_all := lw_g (lw_at lw_m5 3 rfl) rfl
theorem q1062 : (Jvm.Cond.code ({ cls := "TunedHouses$Reader", name := "wrong", desc := "()LTunedHouses$Wrong;" } : Jvm.MethodName) prog_18_method_4_code (1 : Nat) (Option.some (Jvm.ClassFile.FieldType.object "TunedHouses$Wrong"))) ∈ lw_all := lw_g (lw_at lw_m5 4 rfl) rfl
theorem q1063 : (Jvm.Cond.classLink "TunedHouses$Reader" (40 : Nat) "TunedHouses$Wrong") ∈ lw_all := lw_g (lw_at lw_m5 5 rfl) rfl
theorem q1072 : (Jvm.Cond.methodLink "TunedHouses$Reader" (42 : Nat) ({ cls := "TunedHouses$Wrong", name := "<init>", desc := "(II)V" } : Jvm.MethodName)) ∈ lw_all := lw_g (lw_at lw_m5 14 rfl) rfl
theorem q1105 : (Jvm.Cond.declares ({ cls := "TunedHouses$Reader", name := "number", desc := "(II)I" } : Jvm.MethodName)) ∈ lw_tbl := lw_at lw_m5 47 rfl
theorem q1107 : (Jvm.Cond.instanceMethod ({ cls := "TunedHouses$Reader", name := "number", desc := "(II)I" } : Jvm.MethodName)) ∈ lw_all := lw_g (lw_at lw_m5 49 rfl) rfl
theorem q1108 : (Jvm.Cond.code ({ cls := "TunedHouses$Reader", name := "number", desc := "(II)I" } : Jvm.MethodName) prog_18_method_7_code (5 : Nat) (Option.some Jvm.ClassFile.FieldType.int)) ∈ lw_all := lw_g (lw_at lw_m5 50 rfl) rfl
theorem q1109 : (Jvm.Cond.methodLink "TunedHouses$Reader" (45 : Nat) ({ cls := "TunedHouses$Reader", name := "wrong", desc := "()LTunedHouses$Wrong;" } : Jvm.MethodName)) ∈ lw_all := lw_g (lw_at lw_m5 51 rfl) rfl
theorem q1110 : (Jvm.Cond.constant "TunedHouses$Reader" (55 : Nat) (100000 : Int32)) ∈ lw_all := lw_g (lw_at lw_m5 52 rfl) rfl
theorem q1111 : (Jvm.Cond.methodLink "TunedHouses$Reader" (56 : Nat) ({ cls := "java/lang/Math", name := "min", desc := "(II)I" } : Jvm.MethodName)) ∈ lw_all := lw_g (lw_at lw_m5 53 rfl) rfl
theorem q1201 : (Jvm.Cond.declares ({ cls := "TunedHouses$Reader", name := "need", desc := "(I)V" } : Jvm.MethodName)) ∈ lw_tbl := lw_at lw_m5 143 rfl
theorem q1203 : (Jvm.Cond.instanceMethod ({ cls := "TunedHouses$Reader", name := "need", desc := "(I)V" } : Jvm.MethodName)) ∈ lw_all := lw_g (lw_at lw_m5 145 rfl) rfl
theorem q1204 : (Jvm.Cond.code ({ cls := "TunedHouses$Reader", name := "need", desc := "(I)V" } : Jvm.MethodName) prog_18_method_5_code (2 : Nat) (Option.none : Option Jvm.ClassFile.FieldType)) ∈ lw_all := lw_g (lw_at lw_m5 146 rfl) rfl
theorem q1249 : (Jvm.Cond.declares ({ cls := "TunedHouses$Reader", name := "opens", desc := "(I)V" } : Jvm.MethodName)) ∈ lw_tbl := lw_at lw_m5 191 rfl
theorem q1251 : (Jvm.Cond.instanceMethod ({ cls := "TunedHouses$Reader", name := "opens", desc := "(I)V" } : Jvm.MethodName)) ∈ lw_all := lw_g (lw_at lw_m5 193 rfl) rfl
theorem q1252 : (Jvm.Cond.code ({ cls := "TunedHouses$Reader", name := "opens", desc := "(I)V" } : Jvm.MethodName) prog_18_method_6_code (2 : Nat) (Option.none : Option Jvm.ClassFile.FieldType)) ∈ lw_all := lw_g (lw_at lw_m5 194 rfl) rfl
theorem q2546 : (Jvm.Cond.sameMethod "TunedHouses$Reader" "TunedHouses$Reader" "sign" "()I") ∈ lw_all := lw_g (lw_at lw_m11 48 rfl) rfl
theorem q2553 : (Jvm.Cond.sameMethod "TunedHouses$Reader" "TunedHouses$Reader" "wrong" "()LTunedHouses$Wrong;") ∈ lw_all := lw_g (lw_at lw_m11 55 rfl) rfl

/-! TunedHouses$TerraceReader -/
set_option maxRecDepth 100000
def RX10 : String := "TunedHouses$TerraceReader"
def TX10 : u_T := fun k => match k with
  | 0 => ("TunedHouses$Reader", "text", "[B", true)
  | 1 => ("TunedHouses$Reader", "size", "I", true)
  | 2 => ("TunedHouses$Reader", "next", "I", false)
  | 3 => ("TunedHouses$Reader", "from", "I", false)
  | 4 => ("TunedHouses$Reader", "open", "I", false)
  | _ => ("TunedHouses$TerraceReader", "t", "LTunedHouses$Told;", true)
def tyX10 : Nat → FieldType := fun k => match k with
  | 0 => .array .byte
  | 1 => .int
  | 2 => .int
  | 3 => .int
  | 4 => .int
  | _ => .object "TunedHouses$Told"
abbrev wsX100 : List Cond := u_ws RX10 TX10 6
theorem nmX10 : ∀ a, a < 6 → ∀ b, b < 6 → a ≠ b → (TX10 a).2.1 ≠ (TX10 b).2.1 := by decide +kernel
theorem tyX10_ok : ∀ k, k < 6 → parseFieldDescriptor (TX10 k).2.2.1 = some (tyX10 k) := by decide +kernel
abbrev cX10_init : ByteArray := prog_23_method_1_code
def yX10_init : MethodName := ⟨RX10, "<init>", "([BI)V"⟩
def dkwX10_init_0 : List UInt8 := [42, 43, 28, 183, 0, 3, 42, 187, 0, 9, 89, 183, 0, 11, 181, 0, 14, 177]
abbrev dktX10_init_0 : List UInt8 := dkwX10_init_0 ++ []
theorem dksX10_init_0 : cX10_init.data.toList.drop 0 = dktX10_init_0 := by decide +kernel
theorem dX10_init_0 : decode cX10_init 0 = .ok (.aload_n 0, 1) := dk_42 (dk_at dksX10_init_0 0 rfl rfl)
theorem dX10_init_1 : decode cX10_init 1 = .ok (.aload_n 1, 1) := dk_43 (dk_at dksX10_init_0 1 rfl rfl)
theorem dX10_init_2 : decode cX10_init 2 = .ok (.iload_n 2, 1) := dk_28 (dk_at dksX10_init_0 2 rfl rfl)
theorem dX10_init_3 : decode cX10_init 3 = .ok (.invokespecial 3, 3) := dk_183 0 3 (dk_at dksX10_init_0 3 rfl rfl)
theorem dX10_init_6 : decode cX10_init 6 = .ok (.aload_n 0, 1) := dk_42 (dk_at dksX10_init_0 6 rfl rfl)
theorem dX10_init_7 : decode cX10_init 7 = .ok (.new 9, 3) := dk_187 0 9 (dk_at dksX10_init_0 7 rfl rfl)
theorem dX10_init_10 : decode cX10_init 10 = .ok (.dup, 1) := dk_89 (dk_at dksX10_init_0 10 rfl rfl)
theorem dX10_init_11 : decode cX10_init 11 = .ok (.invokespecial 11, 3) := dk_183 0 11 (dk_at dksX10_init_0 11 rfl rfl)
theorem dX10_init_14 : decode cX10_init 14 = .ok (.putfield 14, 3) := dk_181 0 14 (dk_at dksX10_init_0 14 rfl rfl)
theorem dX10_init_17 : decode cX10_init 17 = .ok (.return_, 1) := dk_177 (dk_at dksX10_init_0 17 rfl rfl)
abbrev cX10_reads : ByteArray := prog_23_method_2_code
def yX10_reads : MethodName := ⟨RX10, "reads", "()LTunedHouses$Told;"⟩
def dkwX10_reads_3 : List UInt8 := [167, 255, 213, 42, 180, 0, 14, 176]
abbrev dktX10_reads_3 : List UInt8 := dkwX10_reads_3 ++ []
def dkwX10_reads_2 : List UInt8 := [42, 16, 59, 182, 0, 43, 42, 180, 0, 14, 89, 180, 0, 47, 4, 96, 181, 0, 47, 42, 182, 0, 24, 87]
abbrev dktX10_reads_2 : List UInt8 := dkwX10_reads_2 ++ dktX10_reads_3
def dkwX10_reads_1 : List UInt8 := [42, 182, 0, 24, 87, 42, 180, 0, 28, 42, 180, 0, 32, 162, 0, 38, 42, 42, 182, 0, 35, 182, 0, 39]
abbrev dktX10_reads_1 : List UInt8 := dkwX10_reads_1 ++ dktX10_reads_2
def dkwX10_reads_0 : List UInt8 := [3, 60, 27, 16, 8, 162, 0, 19, 42, 180, 0, 14, 180, 0, 20, 27, 2, 79, 132, 1, 1, 167, 255, 237]
abbrev dktX10_reads_0 : List UInt8 := dkwX10_reads_0 ++ dktX10_reads_1
theorem dksX10_reads_0 : cX10_reads.data.toList.drop 0 = dktX10_reads_0 := by decide +kernel
theorem dksX10_reads_1 : cX10_reads.data.toList.drop 24 = dktX10_reads_1 := dk_seg dksX10_reads_0 24 rfl rfl
theorem dksX10_reads_2 : cX10_reads.data.toList.drop 48 = dktX10_reads_2 := dk_seg dksX10_reads_1 24 rfl rfl
theorem dksX10_reads_3 : cX10_reads.data.toList.drop 72 = dktX10_reads_3 := dk_seg dksX10_reads_2 24 rfl rfl
theorem dX10_reads_0 : decode cX10_reads 0 = .ok (.iconst 0, 1) := dk_3 (dk_at dksX10_reads_0 0 rfl rfl)
theorem dX10_reads_1 : decode cX10_reads 1 = .ok (.istore_n 1, 1) := dk_60 (dk_at dksX10_reads_0 1 rfl rfl)
theorem dX10_reads_2 : decode cX10_reads 2 = .ok (.iload_n 1, 1) := dk_27 (dk_at dksX10_reads_0 2 rfl rfl)
theorem dX10_reads_3 : decode cX10_reads 3 = .ok (.bipush 8, 2) := dk_16 8 (dk_at dksX10_reads_0 3 rfl rfl)
theorem dX10_reads_5 : decode cX10_reads 5 = .ok (.if_icmp .ge 19, 3) := dk_162 0 19 (dk_at dksX10_reads_0 5 rfl rfl)
theorem dX10_reads_8 : decode cX10_reads 8 = .ok (.aload_n 0, 1) := dk_42 (dk_at dksX10_reads_0 8 rfl rfl)
theorem dX10_reads_9 : decode cX10_reads 9 = .ok (.getfield 14, 3) := dk_180 0 14 (dk_at dksX10_reads_0 9 rfl rfl)
theorem dX10_reads_12 : decode cX10_reads 12 = .ok (.getfield 20, 3) := dk_180 0 20 (dk_at dksX10_reads_0 12 rfl rfl)
theorem dX10_reads_15 : decode cX10_reads 15 = .ok (.iload_n 1, 1) := dk_27 (dk_at dksX10_reads_0 15 rfl rfl)
theorem dX10_reads_16 : decode cX10_reads 16 = .ok (.iconst (-1), 1) := dk_2 (dk_at dksX10_reads_0 16 rfl rfl)
theorem dX10_reads_17 : decode cX10_reads 17 = .ok (.iastore, 1) := dk_79 (dk_at dksX10_reads_0 17 rfl rfl)
theorem dX10_reads_18 : decode cX10_reads 18 = .ok (.iinc 1 1, 3) := dk_132 1 1 (dk_at dksX10_reads_0 18 rfl rfl)
theorem dX10_reads_21 : decode cX10_reads 21 = .ok (.goto (-19), 3) := dk_167 255 237 (dk_at dksX10_reads_0 21 rfl rfl)
theorem dX10_reads_24 : decode cX10_reads 24 = .ok (.aload_n 0, 1) := dk_42 (dk_at dksX10_reads_1 0 rfl rfl)
theorem dX10_reads_25 : decode cX10_reads 25 = .ok (.invokevirtual 24, 3) := dk_182 0 24 (dk_at dksX10_reads_1 1 rfl rfl)
theorem dX10_reads_28 : decode cX10_reads 28 = .ok (.pop, 1) := dk_87 (dk_at dksX10_reads_1 4 rfl rfl)
theorem dX10_reads_29 : decode cX10_reads 29 = .ok (.aload_n 0, 1) := dk_42 (dk_at dksX10_reads_1 5 rfl rfl)
theorem dX10_reads_30 : decode cX10_reads 30 = .ok (.getfield 28, 3) := dk_180 0 28 (dk_at dksX10_reads_1 6 rfl rfl)
theorem dX10_reads_33 : decode cX10_reads 33 = .ok (.aload_n 0, 1) := dk_42 (dk_at dksX10_reads_1 9 rfl rfl)
theorem dX10_reads_34 : decode cX10_reads 34 = .ok (.getfield 32, 3) := dk_180 0 32 (dk_at dksX10_reads_1 10 rfl rfl)
theorem dX10_reads_37 : decode cX10_reads 37 = .ok (.if_icmp .ge 38, 3) := dk_162 0 38 (dk_at dksX10_reads_1 13 rfl rfl)
theorem dX10_reads_40 : decode cX10_reads 40 = .ok (.aload_n 0, 1) := dk_42 (dk_at dksX10_reads_1 16 rfl rfl)
theorem dX10_reads_41 : decode cX10_reads 41 = .ok (.aload_n 0, 1) := dk_42 (dk_at dksX10_reads_1 17 rfl rfl)
theorem dX10_reads_42 : decode cX10_reads 42 = .ok (.invokevirtual 35, 3) := dk_182 0 35 (dk_at dksX10_reads_1 18 rfl rfl)
theorem dX10_reads_45 : decode cX10_reads 45 = .ok (.invokevirtual 39, 3) := dk_182 0 39 (dk_at dksX10_reads_1 21 rfl rfl)
theorem dX10_reads_48 : decode cX10_reads 48 = .ok (.aload_n 0, 1) := dk_42 (dk_at dksX10_reads_2 0 rfl rfl)
theorem dX10_reads_49 : decode cX10_reads 49 = .ok (.bipush 59, 2) := dk_16 59 (dk_at dksX10_reads_2 1 rfl rfl)
theorem dX10_reads_51 : decode cX10_reads 51 = .ok (.invokevirtual 43, 3) := dk_182 0 43 (dk_at dksX10_reads_2 3 rfl rfl)
theorem dX10_reads_54 : decode cX10_reads 54 = .ok (.aload_n 0, 1) := dk_42 (dk_at dksX10_reads_2 6 rfl rfl)
theorem dX10_reads_55 : decode cX10_reads 55 = .ok (.getfield 14, 3) := dk_180 0 14 (dk_at dksX10_reads_2 7 rfl rfl)
theorem dX10_reads_58 : decode cX10_reads 58 = .ok (.dup, 1) := dk_89 (dk_at dksX10_reads_2 10 rfl rfl)
theorem dX10_reads_59 : decode cX10_reads 59 = .ok (.getfield 47, 3) := dk_180 0 47 (dk_at dksX10_reads_2 11 rfl rfl)
theorem dX10_reads_62 : decode cX10_reads 62 = .ok (.iconst 1, 1) := dk_4 (dk_at dksX10_reads_2 14 rfl rfl)
theorem dX10_reads_63 : decode cX10_reads 63 = .ok (.iadd, 1) := dk_96 (dk_at dksX10_reads_2 15 rfl rfl)
theorem dX10_reads_64 : decode cX10_reads 64 = .ok (.putfield 47, 3) := dk_181 0 47 (dk_at dksX10_reads_2 16 rfl rfl)
theorem dX10_reads_67 : decode cX10_reads 67 = .ok (.aload_n 0, 1) := dk_42 (dk_at dksX10_reads_2 19 rfl rfl)
theorem dX10_reads_68 : decode cX10_reads 68 = .ok (.invokevirtual 24, 3) := dk_182 0 24 (dk_at dksX10_reads_2 20 rfl rfl)
theorem dX10_reads_71 : decode cX10_reads 71 = .ok (.pop, 1) := dk_87 (dk_at dksX10_reads_2 23 rfl rfl)
theorem dX10_reads_72 : decode cX10_reads 72 = .ok (.goto (-43), 3) := dk_167 255 213 (dk_at dksX10_reads_3 0 rfl rfl)
theorem dX10_reads_75 : decode cX10_reads 75 = .ok (.aload_n 0, 1) := dk_42 (dk_at dksX10_reads_3 3 rfl rfl)
theorem dX10_reads_76 : decode cX10_reads 76 = .ok (.getfield 14, 3) := dk_180 0 14 (dk_at dksX10_reads_3 4 rfl rfl)
theorem dX10_reads_79 : decode cX10_reads 79 = .ok (.areturn, 1) := dk_176 (dk_at dksX10_reads_3 7 rfl rfl)
abbrev cX10_clause : ByteArray := prog_23_method_6_code
def yX10_clause : MethodName := ⟨RX10, "clause", "(Ljava/lang/String;)V"⟩
def dkwX10_clause_20 : List UInt8 := [21, 4, 42, 182, 0, 105, 79, 177, 42, 180, 0, 14, 42, 3, 16, 40, 182, 0, 79, 181, 0, 124, 177]
abbrev dktX10_clause_20 : List UInt8 := dkwX10_clause_20 ++ []
def dkwX10_clause_19 : List UInt8 := [182, 0, 79, 183, 0, 120, 182, 0, 121, 87, 177, 42, 182, 0, 107, 54, 4, 42, 180, 0, 14, 180, 0, 20]
abbrev dktX10_clause_19 : List UInt8 := dkwX10_clause_19 ++ dktX10_clause_20
def dkwX10_clause_18 : List UInt8 := [177, 42, 182, 0, 105, 54, 4, 42, 180, 0, 14, 180, 0, 71, 187, 0, 118, 89, 21, 4, 42, 4, 16, 9]
abbrev dktX10_clause_18 : List UInt8 := dkwX10_clause_18 ++ dktX10_clause_19
def dkwX10_clause_17 : List UInt8 := [187, 0, 94, 89, 5, 42, 180, 0, 112, 183, 0, 96, 191, 42, 180, 0, 14, 21, 4, 21, 5, 182, 0, 115]
abbrev dktX10_clause_17 : List UInt8 := dkwX10_clause_17 ++ dktX10_clause_18
def dkwX10_clause_16 : List UInt8 := [21, 5, 159, 0, 22, 42, 180, 0, 14, 180, 0, 109, 21, 4, 46, 21, 5, 122, 4, 126, 4, 160, 0, 16]
abbrev dktX10_clause_16 : List UInt8 := dkwX10_clause_16 ++ dktX10_clause_17
def dkwX10_clause_15 : List UInt8 := [180, 0, 65, 4, 96, 181, 0, 65, 177, 42, 182, 0, 107, 54, 4, 42, 182, 0, 107, 54, 5, 21, 4]
abbrev dktX10_clause_15 : List UInt8 := dkwX10_clause_15 ++ dktX10_clause_16
def dkwX10_clause_14 : List UInt8 := [42, 180, 0, 14, 180, 0, 102, 42, 180, 0, 14, 180, 0, 65, 42, 182, 0, 105, 79, 42, 180, 0, 14, 89]
abbrev dktX10_clause_14 : List UInt8 := dkwX10_clause_14 ++ dktX10_clause_15
def dkwX10_clause_13 : List UInt8 := [170, 0, 0, 0, 0, 181, 0, 0, 0, 0, 0, 0, 0, 3, 0, 0, 0, 30, 0, 0, 0, 63, 0, 0, 0, 126, 0, 0, 0, 160]
abbrev dktX10_clause_13 : List UInt8 := dkwX10_clause_13 ++ dktX10_clause_14
def dkwX10_clause_12 : List UInt8 := [153, 0, 5, 6, 62, 29]
abbrev dktX10_clause_12 : List UInt8 := dkwX10_clause_12 ++ dktX10_clause_13
def dkwX10_clause_11 : List UInt8 := [62, 167, 0, 28, 44, 18, 63, 182, 0, 57, 153, 0, 19, 5, 62, 167, 0, 14, 44, 18, 83, 182, 0, 57]
abbrev dktX10_clause_11 : List UInt8 := dkwX10_clause_11 ++ dktX10_clause_12
def dkwX10_clause_10 : List UInt8 := [44, 18, 55, 182, 0, 57, 153, 0, 47, 3, 62, 167, 0, 42, 44, 18, 61, 182, 0, 57, 153, 0, 33, 4]
abbrev dktX10_clause_10 : List UInt8 := dkwX10_clause_10 ++ dktX10_clause_11
def dkwX10_clause_9 : List UInt8 := [171, 0, 0, 0, 0, 95, 0, 0, 0, 4, 0, 55, 145, 202, 0, 0, 0, 56, 0, 55, 176, 167, 0, 0, 0, 84, 5, 237, 199, 32, 0, 0, 0, 42, 6, 91, 125, 73, 0, 0, 0, 70]
abbrev dktX10_clause_9 : List UInt8 := dkwX10_clause_9 ++ dktX10_clause_10
def dkwX10_clause_8 : List UInt8 := [44, 182, 0, 50]
abbrev dktX10_clause_8 : List UInt8 := dkwX10_clause_8 ++ dktX10_clause_9
def dkwX10_clause_7 : List UInt8 := [180, 0, 28, 183, 0, 96, 191, 42, 89, 180, 0, 28, 43, 182, 0, 99, 96, 181, 0, 28, 43, 77, 2, 62]
abbrev dktX10_clause_7 : List UInt8 := dkwX10_clause_7 ++ dktX10_clause_8
def dkwX10_clause_6 : List UInt8 := [167, 0, 8, 42, 182, 0, 86, 191, 42, 43, 182, 0, 90, 153, 0, 16, 187, 0, 94, 89, 6, 42]
abbrev dktX10_clause_6 : List UInt8 := dkwX10_clause_6 ++ dktX10_clause_7
def dkwX10_clause_5 : List UInt8 := [170, 0, 0, 0, 0, 0, 0, 39, 0, 0, 0, 0, 0, 0, 0, 4, 0, 0, 0, 36, 0, 0, 0, 36, 0, 0, 0, 36, 0, 0, 0, 36, 0, 0, 0, 36]
abbrev dktX10_clause_5 : List UInt8 := dkwX10_clause_5 ++ dktX10_clause_6
def dkwX10_clause_4 : List UInt8 := [153, 0, 19, 6, 62, 167, 0, 14, 44, 18, 84, 182, 0, 57, 153, 0, 5, 7, 62, 29]
abbrev dktX10_clause_4 : List UInt8 := dkwX10_clause_4 ++ dktX10_clause_5
def dkwX10_clause_3 : List UInt8 := [62, 167, 0, 42, 44, 18, 63, 182, 0, 57, 153, 0, 33, 5, 62, 167, 0, 28, 44, 18, 83, 182, 0, 57]
abbrev dktX10_clause_3 : List UInt8 := dkwX10_clause_3 ++ dktX10_clause_4
def dkwX10_clause_2 : List UInt8 := [44, 18, 55, 182, 0, 57, 153, 0, 61, 3, 62, 167, 0, 56, 44, 18, 61, 182, 0, 57, 153, 0, 47, 4]
abbrev dktX10_clause_2 : List UInt8 := dkwX10_clause_2 ++ dktX10_clause_3
def dkwX10_clause_1 : List UInt8 := [171, 0, 0, 0, 0, 0, 0, 119, 0, 0, 0, 5, 0, 47, 230, 135, 0, 0, 0, 108, 0, 55, 145, 202, 0, 0, 0, 66, 0, 55, 176, 167, 0, 0, 0, 94, 5, 237, 199, 32, 0, 0, 0, 52, 6, 91, 125, 73, 0, 0, 0, 80]
abbrev dktX10_clause_1 : List UInt8 := dkwX10_clause_1 ++ dktX10_clause_2
def dkwX10_clause_0 : List UInt8 := [43, 77, 2, 62, 44, 182, 0, 50]
abbrev dktX10_clause_0 : List UInt8 := dkwX10_clause_0 ++ dktX10_clause_1
theorem dksX10_clause_0 : cX10_clause.data.toList.drop 0 = dktX10_clause_0 := by decide +kernel
theorem dksX10_clause_1 : cX10_clause.data.toList.drop 8 = dktX10_clause_1 := dk_seg dksX10_clause_0 8 rfl rfl
theorem dksX10_clause_2 : cX10_clause.data.toList.drop 60 = dktX10_clause_2 := dk_seg dksX10_clause_1 52 rfl rfl
theorem dksX10_clause_3 : cX10_clause.data.toList.drop 84 = dktX10_clause_3 := dk_seg dksX10_clause_2 24 rfl rfl
theorem dksX10_clause_4 : cX10_clause.data.toList.drop 108 = dktX10_clause_4 := dk_seg dksX10_clause_3 24 rfl rfl
theorem dksX10_clause_5 : cX10_clause.data.toList.drop 128 = dktX10_clause_5 := dk_seg dksX10_clause_4 20 rfl rfl
theorem dksX10_clause_6 : cX10_clause.data.toList.drop 164 = dktX10_clause_6 := dk_seg dksX10_clause_5 36 rfl rfl
theorem dksX10_clause_7 : cX10_clause.data.toList.drop 186 = dktX10_clause_7 := dk_seg dksX10_clause_6 22 rfl rfl
theorem dksX10_clause_8 : cX10_clause.data.toList.drop 210 = dktX10_clause_8 := dk_seg dksX10_clause_7 24 rfl rfl
theorem dksX10_clause_9 : cX10_clause.data.toList.drop 214 = dktX10_clause_9 := dk_seg dksX10_clause_8 4 rfl rfl
theorem dksX10_clause_10 : cX10_clause.data.toList.drop 256 = dktX10_clause_10 := dk_seg dksX10_clause_9 42 rfl rfl
theorem dksX10_clause_11 : cX10_clause.data.toList.drop 280 = dktX10_clause_11 := dk_seg dksX10_clause_10 24 rfl rfl
theorem dksX10_clause_12 : cX10_clause.data.toList.drop 304 = dktX10_clause_12 := dk_seg dksX10_clause_11 24 rfl rfl
theorem dksX10_clause_13 : cX10_clause.data.toList.drop 310 = dktX10_clause_13 := dk_seg dksX10_clause_12 6 rfl rfl
theorem dksX10_clause_14 : cX10_clause.data.toList.drop 340 = dktX10_clause_14 := dk_seg dksX10_clause_13 30 rfl rfl
theorem dksX10_clause_15 : cX10_clause.data.toList.drop 364 = dktX10_clause_15 := dk_seg dksX10_clause_14 24 rfl rfl
theorem dksX10_clause_16 : cX10_clause.data.toList.drop 387 = dktX10_clause_16 := dk_seg dksX10_clause_15 23 rfl rfl
theorem dksX10_clause_17 : cX10_clause.data.toList.drop 411 = dktX10_clause_17 := dk_seg dksX10_clause_16 24 rfl rfl
theorem dksX10_clause_18 : cX10_clause.data.toList.drop 435 = dktX10_clause_18 := dk_seg dksX10_clause_17 24 rfl rfl
theorem dksX10_clause_19 : cX10_clause.data.toList.drop 459 = dktX10_clause_19 := dk_seg dksX10_clause_18 24 rfl rfl
theorem dksX10_clause_20 : cX10_clause.data.toList.drop 483 = dktX10_clause_20 := dk_seg dksX10_clause_19 24 rfl rfl
theorem dX10_clause_0 : decode cX10_clause 0 = .ok (.aload_n 1, 1) := dk_43 (dk_at dksX10_clause_0 0 rfl rfl)
theorem dX10_clause_1 : decode cX10_clause 1 = .ok (.astore_n 2, 1) := dk_77 (dk_at dksX10_clause_0 1 rfl rfl)
theorem dX10_clause_2 : decode cX10_clause 2 = .ok (.iconst (-1), 1) := dk_2 (dk_at dksX10_clause_0 2 rfl rfl)
theorem dX10_clause_3 : decode cX10_clause 3 = .ok (.istore_n 3, 1) := dk_62 (dk_at dksX10_clause_0 3 rfl rfl)
theorem dX10_clause_4 : decode cX10_clause 4 = .ok (.aload_n 2, 1) := dk_44 (dk_at dksX10_clause_0 4 rfl rfl)
theorem dX10_clause_5 : decode cX10_clause 5 = .ok (.invokevirtual 50, 3) := dk_182 0 50 (dk_at dksX10_clause_0 5 rfl rfl)
theorem dX10_clause_8 : decode cX10_clause 8 = .ok (.lookupswitch 119 #[(3139207, 108), (3641802, 66), (3649703, 94), (99469088, 52), (106659145, 80)], 52) := by decide +kernel
theorem dX10_clause_60 : decode cX10_clause 60 = .ok (.aload_n 2, 1) := dk_44 (dk_at dksX10_clause_2 0 rfl rfl)
theorem dX10_clause_61 : decode cX10_clause 61 = .ok (.ldc 55, 2) := dk_18 55 (dk_at dksX10_clause_2 1 rfl rfl)
theorem dX10_clause_63 : decode cX10_clause 63 = .ok (.invokevirtual 57, 3) := dk_182 0 57 (dk_at dksX10_clause_2 3 rfl rfl)
theorem dX10_clause_66 : decode cX10_clause 66 = .ok (.ifCond .eq 61, 3) := dk_153 0 61 (dk_at dksX10_clause_2 6 rfl rfl)
theorem dX10_clause_69 : decode cX10_clause 69 = .ok (.iconst 0, 1) := dk_3 (dk_at dksX10_clause_2 9 rfl rfl)
theorem dX10_clause_70 : decode cX10_clause 70 = .ok (.istore_n 3, 1) := dk_62 (dk_at dksX10_clause_2 10 rfl rfl)
theorem dX10_clause_71 : decode cX10_clause 71 = .ok (.goto 56, 3) := dk_167 0 56 (dk_at dksX10_clause_2 11 rfl rfl)
theorem dX10_clause_74 : decode cX10_clause 74 = .ok (.aload_n 2, 1) := dk_44 (dk_at dksX10_clause_2 14 rfl rfl)
theorem dX10_clause_75 : decode cX10_clause 75 = .ok (.ldc 61, 2) := dk_18 61 (dk_at dksX10_clause_2 15 rfl rfl)
theorem dX10_clause_77 : decode cX10_clause 77 = .ok (.invokevirtual 57, 3) := dk_182 0 57 (dk_at dksX10_clause_2 17 rfl rfl)
theorem dX10_clause_80 : decode cX10_clause 80 = .ok (.ifCond .eq 47, 3) := dk_153 0 47 (dk_at dksX10_clause_2 20 rfl rfl)
theorem dX10_clause_83 : decode cX10_clause 83 = .ok (.iconst 1, 1) := dk_4 (dk_at dksX10_clause_2 23 rfl rfl)
theorem dX10_clause_84 : decode cX10_clause 84 = .ok (.istore_n 3, 1) := dk_62 (dk_at dksX10_clause_3 0 rfl rfl)
theorem dX10_clause_85 : decode cX10_clause 85 = .ok (.goto 42, 3) := dk_167 0 42 (dk_at dksX10_clause_3 1 rfl rfl)
theorem dX10_clause_88 : decode cX10_clause 88 = .ok (.aload_n 2, 1) := dk_44 (dk_at dksX10_clause_3 4 rfl rfl)
theorem dX10_clause_89 : decode cX10_clause 89 = .ok (.ldc 63, 2) := dk_18 63 (dk_at dksX10_clause_3 5 rfl rfl)
theorem dX10_clause_91 : decode cX10_clause 91 = .ok (.invokevirtual 57, 3) := dk_182 0 57 (dk_at dksX10_clause_3 7 rfl rfl)
theorem dX10_clause_94 : decode cX10_clause 94 = .ok (.ifCond .eq 33, 3) := dk_153 0 33 (dk_at dksX10_clause_3 10 rfl rfl)
theorem dX10_clause_97 : decode cX10_clause 97 = .ok (.iconst 2, 1) := dk_5 (dk_at dksX10_clause_3 13 rfl rfl)
theorem dX10_clause_98 : decode cX10_clause 98 = .ok (.istore_n 3, 1) := dk_62 (dk_at dksX10_clause_3 14 rfl rfl)
theorem dX10_clause_99 : decode cX10_clause 99 = .ok (.goto 28, 3) := dk_167 0 28 (dk_at dksX10_clause_3 15 rfl rfl)
theorem dX10_clause_102 : decode cX10_clause 102 = .ok (.aload_n 2, 1) := dk_44 (dk_at dksX10_clause_3 18 rfl rfl)
theorem dX10_clause_103 : decode cX10_clause 103 = .ok (.ldc 83, 2) := dk_18 83 (dk_at dksX10_clause_3 19 rfl rfl)
theorem dX10_clause_105 : decode cX10_clause 105 = .ok (.invokevirtual 57, 3) := dk_182 0 57 (dk_at dksX10_clause_3 21 rfl rfl)
theorem dX10_clause_108 : decode cX10_clause 108 = .ok (.ifCond .eq 19, 3) := dk_153 0 19 (dk_at dksX10_clause_4 0 rfl rfl)
theorem dX10_clause_111 : decode cX10_clause 111 = .ok (.iconst 3, 1) := dk_6 (dk_at dksX10_clause_4 3 rfl rfl)
theorem dX10_clause_112 : decode cX10_clause 112 = .ok (.istore_n 3, 1) := dk_62 (dk_at dksX10_clause_4 4 rfl rfl)
theorem dX10_clause_113 : decode cX10_clause 113 = .ok (.goto 14, 3) := dk_167 0 14 (dk_at dksX10_clause_4 5 rfl rfl)
theorem dX10_clause_116 : decode cX10_clause 116 = .ok (.aload_n 2, 1) := dk_44 (dk_at dksX10_clause_4 8 rfl rfl)
theorem dX10_clause_117 : decode cX10_clause 117 = .ok (.ldc 84, 2) := dk_18 84 (dk_at dksX10_clause_4 9 rfl rfl)
theorem dX10_clause_119 : decode cX10_clause 119 = .ok (.invokevirtual 57, 3) := dk_182 0 57 (dk_at dksX10_clause_4 11 rfl rfl)
theorem dX10_clause_122 : decode cX10_clause 122 = .ok (.ifCond .eq 5, 3) := dk_153 0 5 (dk_at dksX10_clause_4 14 rfl rfl)
theorem dX10_clause_125 : decode cX10_clause 125 = .ok (.iconst 4, 1) := dk_7 (dk_at dksX10_clause_4 17 rfl rfl)
theorem dX10_clause_126 : decode cX10_clause 126 = .ok (.istore_n 3, 1) := dk_62 (dk_at dksX10_clause_4 18 rfl rfl)
theorem dX10_clause_127 : decode cX10_clause 127 = .ok (.iload_n 3, 1) := dk_29 (dk_at dksX10_clause_4 19 rfl rfl)
theorem dX10_clause_128 : decode cX10_clause 128 = .ok (.tableswitch 39 0 4 #[36, 36, 36, 36, 36], 36) := by decide +kernel
theorem dX10_clause_164 : decode cX10_clause 164 = .ok (.goto 8, 3) := dk_167 0 8 (dk_at dksX10_clause_6 0 rfl rfl)
theorem dX10_clause_167 : decode cX10_clause 167 = .ok (.aload_n 0, 1) := dk_42 (dk_at dksX10_clause_6 3 rfl rfl)
theorem dX10_clause_168 : decode cX10_clause 168 = .ok (.invokevirtual 86, 3) := dk_182 0 86 (dk_at dksX10_clause_6 4 rfl rfl)
theorem dX10_clause_171 : decode cX10_clause 171 = .ok (.athrow, 1) := dk_191 (dk_at dksX10_clause_6 7 rfl rfl)
theorem dX10_clause_172 : decode cX10_clause 172 = .ok (.aload_n 0, 1) := dk_42 (dk_at dksX10_clause_6 8 rfl rfl)
theorem dX10_clause_173 : decode cX10_clause 173 = .ok (.aload_n 1, 1) := dk_43 (dk_at dksX10_clause_6 9 rfl rfl)
theorem dX10_clause_174 : decode cX10_clause 174 = .ok (.invokevirtual 90, 3) := dk_182 0 90 (dk_at dksX10_clause_6 10 rfl rfl)
theorem dX10_clause_177 : decode cX10_clause 177 = .ok (.ifCond .eq 16, 3) := dk_153 0 16 (dk_at dksX10_clause_6 13 rfl rfl)
theorem dX10_clause_180 : decode cX10_clause 180 = .ok (.new 94, 3) := dk_187 0 94 (dk_at dksX10_clause_6 16 rfl rfl)
theorem dX10_clause_183 : decode cX10_clause 183 = .ok (.dup, 1) := dk_89 (dk_at dksX10_clause_6 19 rfl rfl)
theorem dX10_clause_184 : decode cX10_clause 184 = .ok (.iconst 3, 1) := dk_6 (dk_at dksX10_clause_6 20 rfl rfl)
theorem dX10_clause_185 : decode cX10_clause 185 = .ok (.aload_n 0, 1) := dk_42 (dk_at dksX10_clause_6 21 rfl rfl)
theorem dX10_clause_186 : decode cX10_clause 186 = .ok (.getfield 28, 3) := dk_180 0 28 (dk_at dksX10_clause_7 0 rfl rfl)
theorem dX10_clause_189 : decode cX10_clause 189 = .ok (.invokespecial 96, 3) := dk_183 0 96 (dk_at dksX10_clause_7 3 rfl rfl)
theorem dX10_clause_192 : decode cX10_clause 192 = .ok (.athrow, 1) := dk_191 (dk_at dksX10_clause_7 6 rfl rfl)
theorem dX10_clause_193 : decode cX10_clause 193 = .ok (.aload_n 0, 1) := dk_42 (dk_at dksX10_clause_7 7 rfl rfl)
theorem dX10_clause_194 : decode cX10_clause 194 = .ok (.dup, 1) := dk_89 (dk_at dksX10_clause_7 8 rfl rfl)
theorem dX10_clause_195 : decode cX10_clause 195 = .ok (.getfield 28, 3) := dk_180 0 28 (dk_at dksX10_clause_7 9 rfl rfl)
theorem dX10_clause_198 : decode cX10_clause 198 = .ok (.aload_n 1, 1) := dk_43 (dk_at dksX10_clause_7 12 rfl rfl)
theorem dX10_clause_199 : decode cX10_clause 199 = .ok (.invokevirtual 99, 3) := dk_182 0 99 (dk_at dksX10_clause_7 13 rfl rfl)
theorem dX10_clause_202 : decode cX10_clause 202 = .ok (.iadd, 1) := dk_96 (dk_at dksX10_clause_7 16 rfl rfl)
theorem dX10_clause_203 : decode cX10_clause 203 = .ok (.putfield 28, 3) := dk_181 0 28 (dk_at dksX10_clause_7 17 rfl rfl)
theorem dX10_clause_206 : decode cX10_clause 206 = .ok (.aload_n 1, 1) := dk_43 (dk_at dksX10_clause_7 20 rfl rfl)
theorem dX10_clause_207 : decode cX10_clause 207 = .ok (.astore_n 2, 1) := dk_77 (dk_at dksX10_clause_7 21 rfl rfl)
theorem dX10_clause_208 : decode cX10_clause 208 = .ok (.iconst (-1), 1) := dk_2 (dk_at dksX10_clause_7 22 rfl rfl)
theorem dX10_clause_209 : decode cX10_clause 209 = .ok (.istore_n 3, 1) := dk_62 (dk_at dksX10_clause_7 23 rfl rfl)
theorem dX10_clause_210 : decode cX10_clause 210 = .ok (.aload_n 2, 1) := dk_44 (dk_at dksX10_clause_8 0 rfl rfl)
theorem dX10_clause_211 : decode cX10_clause 211 = .ok (.invokevirtual 50, 3) := dk_182 0 50 (dk_at dksX10_clause_8 1 rfl rfl)
theorem dX10_clause_214 : decode cX10_clause 214 = .ok (.lookupswitch 95 #[(3641802, 56), (3649703, 84), (99469088, 42), (106659145, 70)], 42) := by decide +kernel
theorem dX10_clause_256 : decode cX10_clause 256 = .ok (.aload_n 2, 1) := dk_44 (dk_at dksX10_clause_10 0 rfl rfl)
theorem dX10_clause_257 : decode cX10_clause 257 = .ok (.ldc 55, 2) := dk_18 55 (dk_at dksX10_clause_10 1 rfl rfl)
theorem dX10_clause_259 : decode cX10_clause 259 = .ok (.invokevirtual 57, 3) := dk_182 0 57 (dk_at dksX10_clause_10 3 rfl rfl)
theorem dX10_clause_262 : decode cX10_clause 262 = .ok (.ifCond .eq 47, 3) := dk_153 0 47 (dk_at dksX10_clause_10 6 rfl rfl)
theorem dX10_clause_265 : decode cX10_clause 265 = .ok (.iconst 0, 1) := dk_3 (dk_at dksX10_clause_10 9 rfl rfl)
theorem dX10_clause_266 : decode cX10_clause 266 = .ok (.istore_n 3, 1) := dk_62 (dk_at dksX10_clause_10 10 rfl rfl)
theorem dX10_clause_267 : decode cX10_clause 267 = .ok (.goto 42, 3) := dk_167 0 42 (dk_at dksX10_clause_10 11 rfl rfl)
theorem dX10_clause_270 : decode cX10_clause 270 = .ok (.aload_n 2, 1) := dk_44 (dk_at dksX10_clause_10 14 rfl rfl)
theorem dX10_clause_271 : decode cX10_clause 271 = .ok (.ldc 61, 2) := dk_18 61 (dk_at dksX10_clause_10 15 rfl rfl)
theorem dX10_clause_273 : decode cX10_clause 273 = .ok (.invokevirtual 57, 3) := dk_182 0 57 (dk_at dksX10_clause_10 17 rfl rfl)
theorem dX10_clause_276 : decode cX10_clause 276 = .ok (.ifCond .eq 33, 3) := dk_153 0 33 (dk_at dksX10_clause_10 20 rfl rfl)
theorem dX10_clause_279 : decode cX10_clause 279 = .ok (.iconst 1, 1) := dk_4 (dk_at dksX10_clause_10 23 rfl rfl)
theorem dX10_clause_280 : decode cX10_clause 280 = .ok (.istore_n 3, 1) := dk_62 (dk_at dksX10_clause_11 0 rfl rfl)
theorem dX10_clause_281 : decode cX10_clause 281 = .ok (.goto 28, 3) := dk_167 0 28 (dk_at dksX10_clause_11 1 rfl rfl)
theorem dX10_clause_284 : decode cX10_clause 284 = .ok (.aload_n 2, 1) := dk_44 (dk_at dksX10_clause_11 4 rfl rfl)
theorem dX10_clause_285 : decode cX10_clause 285 = .ok (.ldc 63, 2) := dk_18 63 (dk_at dksX10_clause_11 5 rfl rfl)
theorem dX10_clause_287 : decode cX10_clause 287 = .ok (.invokevirtual 57, 3) := dk_182 0 57 (dk_at dksX10_clause_11 7 rfl rfl)
theorem dX10_clause_290 : decode cX10_clause 290 = .ok (.ifCond .eq 19, 3) := dk_153 0 19 (dk_at dksX10_clause_11 10 rfl rfl)
theorem dX10_clause_293 : decode cX10_clause 293 = .ok (.iconst 2, 1) := dk_5 (dk_at dksX10_clause_11 13 rfl rfl)
theorem dX10_clause_294 : decode cX10_clause 294 = .ok (.istore_n 3, 1) := dk_62 (dk_at dksX10_clause_11 14 rfl rfl)
theorem dX10_clause_295 : decode cX10_clause 295 = .ok (.goto 14, 3) := dk_167 0 14 (dk_at dksX10_clause_11 15 rfl rfl)
theorem dX10_clause_298 : decode cX10_clause 298 = .ok (.aload_n 2, 1) := dk_44 (dk_at dksX10_clause_11 18 rfl rfl)
theorem dX10_clause_299 : decode cX10_clause 299 = .ok (.ldc 83, 2) := dk_18 83 (dk_at dksX10_clause_11 19 rfl rfl)
theorem dX10_clause_301 : decode cX10_clause 301 = .ok (.invokevirtual 57, 3) := dk_182 0 57 (dk_at dksX10_clause_11 21 rfl rfl)
theorem dX10_clause_304 : decode cX10_clause 304 = .ok (.ifCond .eq 5, 3) := dk_153 0 5 (dk_at dksX10_clause_12 0 rfl rfl)
theorem dX10_clause_307 : decode cX10_clause 307 = .ok (.iconst 3, 1) := dk_6 (dk_at dksX10_clause_12 3 rfl rfl)
theorem dX10_clause_308 : decode cX10_clause 308 = .ok (.istore_n 3, 1) := dk_62 (dk_at dksX10_clause_12 4 rfl rfl)
theorem dX10_clause_309 : decode cX10_clause 309 = .ok (.iload_n 3, 1) := dk_29 (dk_at dksX10_clause_12 5 rfl rfl)
theorem dX10_clause_310 : decode cX10_clause 310 = .ok (.tableswitch 181 0 3 #[30, 63, 126, 160], 30) := by decide +kernel
theorem dX10_clause_340 : decode cX10_clause 340 = .ok (.aload_n 0, 1) := dk_42 (dk_at dksX10_clause_14 0 rfl rfl)
theorem dX10_clause_341 : decode cX10_clause 341 = .ok (.getfield 14, 3) := dk_180 0 14 (dk_at dksX10_clause_14 1 rfl rfl)
theorem dX10_clause_344 : decode cX10_clause 344 = .ok (.getfield 102, 3) := dk_180 0 102 (dk_at dksX10_clause_14 4 rfl rfl)
theorem dX10_clause_347 : decode cX10_clause 347 = .ok (.aload_n 0, 1) := dk_42 (dk_at dksX10_clause_14 7 rfl rfl)
theorem dX10_clause_348 : decode cX10_clause 348 = .ok (.getfield 14, 3) := dk_180 0 14 (dk_at dksX10_clause_14 8 rfl rfl)
theorem dX10_clause_351 : decode cX10_clause 351 = .ok (.getfield 65, 3) := dk_180 0 65 (dk_at dksX10_clause_14 11 rfl rfl)
theorem dX10_clause_354 : decode cX10_clause 354 = .ok (.aload_n 0, 1) := dk_42 (dk_at dksX10_clause_14 14 rfl rfl)
theorem dX10_clause_355 : decode cX10_clause 355 = .ok (.invokevirtual 105, 3) := dk_182 0 105 (dk_at dksX10_clause_14 15 rfl rfl)
theorem dX10_clause_358 : decode cX10_clause 358 = .ok (.iastore, 1) := dk_79 (dk_at dksX10_clause_14 18 rfl rfl)
theorem dX10_clause_359 : decode cX10_clause 359 = .ok (.aload_n 0, 1) := dk_42 (dk_at dksX10_clause_14 19 rfl rfl)
theorem dX10_clause_360 : decode cX10_clause 360 = .ok (.getfield 14, 3) := dk_180 0 14 (dk_at dksX10_clause_14 20 rfl rfl)
theorem dX10_clause_363 : decode cX10_clause 363 = .ok (.dup, 1) := dk_89 (dk_at dksX10_clause_14 23 rfl rfl)
theorem dX10_clause_364 : decode cX10_clause 364 = .ok (.getfield 65, 3) := dk_180 0 65 (dk_at dksX10_clause_15 0 rfl rfl)
theorem dX10_clause_367 : decode cX10_clause 367 = .ok (.iconst 1, 1) := dk_4 (dk_at dksX10_clause_15 3 rfl rfl)
theorem dX10_clause_368 : decode cX10_clause 368 = .ok (.iadd, 1) := dk_96 (dk_at dksX10_clause_15 4 rfl rfl)
theorem dX10_clause_369 : decode cX10_clause 369 = .ok (.putfield 65, 3) := dk_181 0 65 (dk_at dksX10_clause_15 5 rfl rfl)
theorem dX10_clause_372 : decode cX10_clause 372 = .ok (.return_, 1) := dk_177 (dk_at dksX10_clause_15 8 rfl rfl)
theorem dX10_clause_373 : decode cX10_clause 373 = .ok (.aload_n 0, 1) := dk_42 (dk_at dksX10_clause_15 9 rfl rfl)
theorem dX10_clause_374 : decode cX10_clause 374 = .ok (.invokevirtual 107, 3) := dk_182 0 107 (dk_at dksX10_clause_15 10 rfl rfl)
theorem dX10_clause_377 : decode cX10_clause 377 = .ok (.istore 4, 2) := dk_54 4 (dk_at dksX10_clause_15 13 rfl rfl)
theorem dX10_clause_379 : decode cX10_clause 379 = .ok (.aload_n 0, 1) := dk_42 (dk_at dksX10_clause_15 15 rfl rfl)
theorem dX10_clause_380 : decode cX10_clause 380 = .ok (.invokevirtual 107, 3) := dk_182 0 107 (dk_at dksX10_clause_15 16 rfl rfl)
theorem dX10_clause_383 : decode cX10_clause 383 = .ok (.istore 5, 2) := dk_54 5 (dk_at dksX10_clause_15 19 rfl rfl)
theorem dX10_clause_385 : decode cX10_clause 385 = .ok (.iload 4, 2) := dk_21 4 (dk_at dksX10_clause_15 21 rfl rfl)
theorem dX10_clause_387 : decode cX10_clause 387 = .ok (.iload 5, 2) := dk_21 5 (dk_at dksX10_clause_16 0 rfl rfl)
theorem dX10_clause_389 : decode cX10_clause 389 = .ok (.if_icmp .eq 22, 3) := dk_159 0 22 (dk_at dksX10_clause_16 2 rfl rfl)
theorem dX10_clause_392 : decode cX10_clause 392 = .ok (.aload_n 0, 1) := dk_42 (dk_at dksX10_clause_16 5 rfl rfl)
theorem dX10_clause_393 : decode cX10_clause 393 = .ok (.getfield 14, 3) := dk_180 0 14 (dk_at dksX10_clause_16 6 rfl rfl)
theorem dX10_clause_396 : decode cX10_clause 396 = .ok (.getfield 109, 3) := dk_180 0 109 (dk_at dksX10_clause_16 9 rfl rfl)
theorem dX10_clause_399 : decode cX10_clause 399 = .ok (.iload 4, 2) := dk_21 4 (dk_at dksX10_clause_16 12 rfl rfl)
theorem dX10_clause_401 : decode cX10_clause 401 = .ok (.iaload, 1) := dk_46 (dk_at dksX10_clause_16 14 rfl rfl)
theorem dX10_clause_402 : decode cX10_clause 402 = .ok (.iload 5, 2) := dk_21 5 (dk_at dksX10_clause_16 15 rfl rfl)
theorem dX10_clause_404 : decode cX10_clause 404 = .ok (.ishr, 1) := dk_122 (dk_at dksX10_clause_16 17 rfl rfl)
theorem dX10_clause_405 : decode cX10_clause 405 = .ok (.iconst 1, 1) := dk_4 (dk_at dksX10_clause_16 18 rfl rfl)
theorem dX10_clause_406 : decode cX10_clause 406 = .ok (.iand, 1) := dk_126 (dk_at dksX10_clause_16 19 rfl rfl)
theorem dX10_clause_407 : decode cX10_clause 407 = .ok (.iconst 1, 1) := dk_4 (dk_at dksX10_clause_16 20 rfl rfl)
theorem dX10_clause_408 : decode cX10_clause 408 = .ok (.if_icmp .ne 16, 3) := dk_160 0 16 (dk_at dksX10_clause_16 21 rfl rfl)
theorem dX10_clause_411 : decode cX10_clause 411 = .ok (.new 94, 3) := dk_187 0 94 (dk_at dksX10_clause_17 0 rfl rfl)
theorem dX10_clause_414 : decode cX10_clause 414 = .ok (.dup, 1) := dk_89 (dk_at dksX10_clause_17 3 rfl rfl)
theorem dX10_clause_415 : decode cX10_clause 415 = .ok (.iconst 2, 1) := dk_5 (dk_at dksX10_clause_17 4 rfl rfl)
theorem dX10_clause_416 : decode cX10_clause 416 = .ok (.aload_n 0, 1) := dk_42 (dk_at dksX10_clause_17 5 rfl rfl)
theorem dX10_clause_417 : decode cX10_clause 417 = .ok (.getfield 112, 3) := dk_180 0 112 (dk_at dksX10_clause_17 6 rfl rfl)
theorem dX10_clause_420 : decode cX10_clause 420 = .ok (.invokespecial 96, 3) := dk_183 0 96 (dk_at dksX10_clause_17 9 rfl rfl)
theorem dX10_clause_423 : decode cX10_clause 423 = .ok (.athrow, 1) := dk_191 (dk_at dksX10_clause_17 12 rfl rfl)
theorem dX10_clause_424 : decode cX10_clause 424 = .ok (.aload_n 0, 1) := dk_42 (dk_at dksX10_clause_17 13 rfl rfl)
theorem dX10_clause_425 : decode cX10_clause 425 = .ok (.getfield 14, 3) := dk_180 0 14 (dk_at dksX10_clause_17 14 rfl rfl)
theorem dX10_clause_428 : decode cX10_clause 428 = .ok (.iload 4, 2) := dk_21 4 (dk_at dksX10_clause_17 17 rfl rfl)
theorem dX10_clause_430 : decode cX10_clause 430 = .ok (.iload 5, 2) := dk_21 5 (dk_at dksX10_clause_17 19 rfl rfl)
theorem dX10_clause_432 : decode cX10_clause 432 = .ok (.invokevirtual 115, 3) := dk_182 0 115 (dk_at dksX10_clause_17 21 rfl rfl)
theorem dX10_clause_435 : decode cX10_clause 435 = .ok (.return_, 1) := dk_177 (dk_at dksX10_clause_18 0 rfl rfl)
theorem dX10_clause_436 : decode cX10_clause 436 = .ok (.aload_n 0, 1) := dk_42 (dk_at dksX10_clause_18 1 rfl rfl)
theorem dX10_clause_437 : decode cX10_clause 437 = .ok (.invokevirtual 105, 3) := dk_182 0 105 (dk_at dksX10_clause_18 2 rfl rfl)
theorem dX10_clause_440 : decode cX10_clause 440 = .ok (.istore 4, 2) := dk_54 4 (dk_at dksX10_clause_18 5 rfl rfl)
theorem dX10_clause_442 : decode cX10_clause 442 = .ok (.aload_n 0, 1) := dk_42 (dk_at dksX10_clause_18 7 rfl rfl)
theorem dX10_clause_443 : decode cX10_clause 443 = .ok (.getfield 14, 3) := dk_180 0 14 (dk_at dksX10_clause_18 8 rfl rfl)
theorem dX10_clause_446 : decode cX10_clause 446 = .ok (.getfield 71, 3) := dk_180 0 71 (dk_at dksX10_clause_18 11 rfl rfl)
theorem dX10_clause_449 : decode cX10_clause 449 = .ok (.new 118, 3) := dk_187 0 118 (dk_at dksX10_clause_18 14 rfl rfl)
theorem dX10_clause_452 : decode cX10_clause 452 = .ok (.dup, 1) := dk_89 (dk_at dksX10_clause_18 17 rfl rfl)
theorem dX10_clause_453 : decode cX10_clause 453 = .ok (.iload 4, 2) := dk_21 4 (dk_at dksX10_clause_18 18 rfl rfl)
theorem dX10_clause_455 : decode cX10_clause 455 = .ok (.aload_n 0, 1) := dk_42 (dk_at dksX10_clause_18 20 rfl rfl)
theorem dX10_clause_456 : decode cX10_clause 456 = .ok (.iconst 1, 1) := dk_4 (dk_at dksX10_clause_18 21 rfl rfl)
theorem dX10_clause_457 : decode cX10_clause 457 = .ok (.bipush 9, 2) := dk_16 9 (dk_at dksX10_clause_18 22 rfl rfl)
theorem dX10_clause_459 : decode cX10_clause 459 = .ok (.invokevirtual 79, 3) := dk_182 0 79 (dk_at dksX10_clause_19 0 rfl rfl)
theorem dX10_clause_462 : decode cX10_clause 462 = .ok (.invokespecial 120, 3) := dk_183 0 120 (dk_at dksX10_clause_19 3 rfl rfl)
theorem dX10_clause_465 : decode cX10_clause 465 = .ok (.invokevirtual 121, 3) := dk_182 0 121 (dk_at dksX10_clause_19 6 rfl rfl)
theorem dX10_clause_468 : decode cX10_clause 468 = .ok (.pop, 1) := dk_87 (dk_at dksX10_clause_19 9 rfl rfl)
theorem dX10_clause_469 : decode cX10_clause 469 = .ok (.return_, 1) := dk_177 (dk_at dksX10_clause_19 10 rfl rfl)
theorem dX10_clause_470 : decode cX10_clause 470 = .ok (.aload_n 0, 1) := dk_42 (dk_at dksX10_clause_19 11 rfl rfl)
theorem dX10_clause_471 : decode cX10_clause 471 = .ok (.invokevirtual 107, 3) := dk_182 0 107 (dk_at dksX10_clause_19 12 rfl rfl)
theorem dX10_clause_474 : decode cX10_clause 474 = .ok (.istore 4, 2) := dk_54 4 (dk_at dksX10_clause_19 15 rfl rfl)
theorem dX10_clause_476 : decode cX10_clause 476 = .ok (.aload_n 0, 1) := dk_42 (dk_at dksX10_clause_19 17 rfl rfl)
theorem dX10_clause_477 : decode cX10_clause 477 = .ok (.getfield 14, 3) := dk_180 0 14 (dk_at dksX10_clause_19 18 rfl rfl)
theorem dX10_clause_480 : decode cX10_clause 480 = .ok (.getfield 20, 3) := dk_180 0 20 (dk_at dksX10_clause_19 21 rfl rfl)
theorem dX10_clause_483 : decode cX10_clause 483 = .ok (.iload 4, 2) := dk_21 4 (dk_at dksX10_clause_20 0 rfl rfl)
theorem dX10_clause_485 : decode cX10_clause 485 = .ok (.aload_n 0, 1) := dk_42 (dk_at dksX10_clause_20 2 rfl rfl)
theorem dX10_clause_486 : decode cX10_clause 486 = .ok (.invokevirtual 105, 3) := dk_182 0 105 (dk_at dksX10_clause_20 3 rfl rfl)
theorem dX10_clause_489 : decode cX10_clause 489 = .ok (.iastore, 1) := dk_79 (dk_at dksX10_clause_20 6 rfl rfl)
theorem dX10_clause_490 : decode cX10_clause 490 = .ok (.return_, 1) := dk_177 (dk_at dksX10_clause_20 7 rfl rfl)
theorem dX10_clause_491 : decode cX10_clause 491 = .ok (.aload_n 0, 1) := dk_42 (dk_at dksX10_clause_20 8 rfl rfl)
theorem dX10_clause_492 : decode cX10_clause 492 = .ok (.getfield 14, 3) := dk_180 0 14 (dk_at dksX10_clause_20 9 rfl rfl)
theorem dX10_clause_495 : decode cX10_clause 495 = .ok (.aload_n 0, 1) := dk_42 (dk_at dksX10_clause_20 12 rfl rfl)
theorem dX10_clause_496 : decode cX10_clause 496 = .ok (.iconst 0, 1) := dk_3 (dk_at dksX10_clause_20 13 rfl rfl)
theorem dX10_clause_497 : decode cX10_clause 497 = .ok (.bipush 40, 2) := dk_16 40 (dk_at dksX10_clause_20 14 rfl rfl)
theorem dX10_clause_499 : decode cX10_clause 499 = .ok (.invokevirtual 79, 3) := dk_182 0 79 (dk_at dksX10_clause_20 16 rfl rfl)
theorem dX10_clause_502 : decode cX10_clause 502 = .ok (.putfield 124, 3) := dk_181 0 124 (dk_at dksX10_clause_20 19 rfl rfl)
theorem dX10_clause_505 : decode cX10_clause 505 = .ok (.return_, 1) := dk_177 (dk_at dksX10_clause_20 22 rfl rfl)
abbrev cX10_isFull : ByteArray := prog_23_method_3_code
def yX10_isFull : MethodName := ⟨RX10, "isFull", "(Ljava/lang/String;)Z"⟩
def dkwX10_isFull_7 : List UInt8 := [16, 6, 160, 0, 7, 4, 167, 0, 4, 3, 172, 3, 172]
abbrev dktX10_isFull_7 : List UInt8 := dkwX10_isFull_7 ++ []
def dkwX10_isFull_6 : List UInt8 := [180, 0, 68, 16, 12, 160, 0, 7, 4, 167, 0, 4, 3, 172, 42, 180, 0, 14, 180, 0, 71, 182, 0, 75]
abbrev dktX10_isFull_6 : List UInt8 := dkwX10_isFull_6 ++ dktX10_isFull_7
def dkwX10_isFull_5 : List UInt8 := [42, 180, 0, 14, 180, 0, 65, 16, 8, 160, 0, 7, 4, 167, 0, 4, 3, 172, 42, 180, 0, 14]
abbrev dktX10_isFull_5 : List UInt8 := dkwX10_isFull_5 ++ dktX10_isFull_6
def dkwX10_isFull_4 : List UInt8 := [170, 0, 0, 0, 0, 0, 0, 85, 0, 0, 0, 0, 0, 0, 0, 2, 0, 0, 0, 28, 0, 0, 0, 46, 0, 0, 0, 64]
abbrev dktX10_isFull_4 : List UInt8 := dkwX10_isFull_4 ++ dktX10_isFull_5
def dkwX10_isFull_3 : List UInt8 := [62, 167, 0, 14, 44, 18, 63, 182, 0, 57, 153, 0, 5, 5, 62, 29]
abbrev dktX10_isFull_3 : List UInt8 := dkwX10_isFull_3 ++ dktX10_isFull_4
def dkwX10_isFull_2 : List UInt8 := [44, 18, 55, 182, 0, 57, 153, 0, 33, 3, 62, 167, 0, 28, 44, 18, 61, 182, 0, 57, 153, 0, 19, 4]
abbrev dktX10_isFull_2 : List UInt8 := dkwX10_isFull_2 ++ dktX10_isFull_3
def dkwX10_isFull_1 : List UInt8 := [171, 0, 0, 0, 0, 73, 0, 0, 0, 3, 0, 55, 145, 202, 0, 0, 0, 48, 5, 237, 199, 32, 0, 0, 0, 34, 6, 91, 125, 73, 0, 0, 0, 62]
abbrev dktX10_isFull_1 : List UInt8 := dkwX10_isFull_1 ++ dktX10_isFull_2
def dkwX10_isFull_0 : List UInt8 := [42, 180, 0, 14, 180, 0, 47, 16, 60, 160, 0, 5, 4, 172, 43, 77, 2, 62, 44, 182, 0, 50]
abbrev dktX10_isFull_0 : List UInt8 := dkwX10_isFull_0 ++ dktX10_isFull_1
theorem dksX10_isFull_0 : cX10_isFull.data.toList.drop 0 = dktX10_isFull_0 := by decide +kernel
theorem dksX10_isFull_1 : cX10_isFull.data.toList.drop 22 = dktX10_isFull_1 := dk_seg dksX10_isFull_0 22 rfl rfl
theorem dksX10_isFull_2 : cX10_isFull.data.toList.drop 56 = dktX10_isFull_2 := dk_seg dksX10_isFull_1 34 rfl rfl
theorem dksX10_isFull_3 : cX10_isFull.data.toList.drop 80 = dktX10_isFull_3 := dk_seg dksX10_isFull_2 24 rfl rfl
theorem dksX10_isFull_4 : cX10_isFull.data.toList.drop 96 = dktX10_isFull_4 := dk_seg dksX10_isFull_3 16 rfl rfl
theorem dksX10_isFull_5 : cX10_isFull.data.toList.drop 124 = dktX10_isFull_5 := dk_seg dksX10_isFull_4 28 rfl rfl
theorem dksX10_isFull_6 : cX10_isFull.data.toList.drop 146 = dktX10_isFull_6 := dk_seg dksX10_isFull_5 22 rfl rfl
theorem dksX10_isFull_7 : cX10_isFull.data.toList.drop 170 = dktX10_isFull_7 := dk_seg dksX10_isFull_6 24 rfl rfl
theorem dX10_isFull_0 : decode cX10_isFull 0 = .ok (.aload_n 0, 1) := dk_42 (dk_at dksX10_isFull_0 0 rfl rfl)
theorem dX10_isFull_1 : decode cX10_isFull 1 = .ok (.getfield 14, 3) := dk_180 0 14 (dk_at dksX10_isFull_0 1 rfl rfl)
theorem dX10_isFull_4 : decode cX10_isFull 4 = .ok (.getfield 47, 3) := dk_180 0 47 (dk_at dksX10_isFull_0 4 rfl rfl)
theorem dX10_isFull_7 : decode cX10_isFull 7 = .ok (.bipush 60, 2) := dk_16 60 (dk_at dksX10_isFull_0 7 rfl rfl)
theorem dX10_isFull_9 : decode cX10_isFull 9 = .ok (.if_icmp .ne 5, 3) := dk_160 0 5 (dk_at dksX10_isFull_0 9 rfl rfl)
theorem dX10_isFull_12 : decode cX10_isFull 12 = .ok (.iconst 1, 1) := dk_4 (dk_at dksX10_isFull_0 12 rfl rfl)
theorem dX10_isFull_13 : decode cX10_isFull 13 = .ok (.ireturn, 1) := dk_172 (dk_at dksX10_isFull_0 13 rfl rfl)
theorem dX10_isFull_14 : decode cX10_isFull 14 = .ok (.aload_n 1, 1) := dk_43 (dk_at dksX10_isFull_0 14 rfl rfl)
theorem dX10_isFull_15 : decode cX10_isFull 15 = .ok (.astore_n 2, 1) := dk_77 (dk_at dksX10_isFull_0 15 rfl rfl)
theorem dX10_isFull_16 : decode cX10_isFull 16 = .ok (.iconst (-1), 1) := dk_2 (dk_at dksX10_isFull_0 16 rfl rfl)
theorem dX10_isFull_17 : decode cX10_isFull 17 = .ok (.istore_n 3, 1) := dk_62 (dk_at dksX10_isFull_0 17 rfl rfl)
theorem dX10_isFull_18 : decode cX10_isFull 18 = .ok (.aload_n 2, 1) := dk_44 (dk_at dksX10_isFull_0 18 rfl rfl)
theorem dX10_isFull_19 : decode cX10_isFull 19 = .ok (.invokevirtual 50, 3) := dk_182 0 50 (dk_at dksX10_isFull_0 19 rfl rfl)
theorem dX10_isFull_22 : decode cX10_isFull 22 = .ok (.lookupswitch 73 #[(3641802, 48), (99469088, 34), (106659145, 62)], 34) := by decide +kernel
theorem dX10_isFull_56 : decode cX10_isFull 56 = .ok (.aload_n 2, 1) := dk_44 (dk_at dksX10_isFull_2 0 rfl rfl)
theorem dX10_isFull_57 : decode cX10_isFull 57 = .ok (.ldc 55, 2) := dk_18 55 (dk_at dksX10_isFull_2 1 rfl rfl)
theorem dX10_isFull_59 : decode cX10_isFull 59 = .ok (.invokevirtual 57, 3) := dk_182 0 57 (dk_at dksX10_isFull_2 3 rfl rfl)
theorem dX10_isFull_62 : decode cX10_isFull 62 = .ok (.ifCond .eq 33, 3) := dk_153 0 33 (dk_at dksX10_isFull_2 6 rfl rfl)
theorem dX10_isFull_65 : decode cX10_isFull 65 = .ok (.iconst 0, 1) := dk_3 (dk_at dksX10_isFull_2 9 rfl rfl)
theorem dX10_isFull_66 : decode cX10_isFull 66 = .ok (.istore_n 3, 1) := dk_62 (dk_at dksX10_isFull_2 10 rfl rfl)
theorem dX10_isFull_67 : decode cX10_isFull 67 = .ok (.goto 28, 3) := dk_167 0 28 (dk_at dksX10_isFull_2 11 rfl rfl)
theorem dX10_isFull_70 : decode cX10_isFull 70 = .ok (.aload_n 2, 1) := dk_44 (dk_at dksX10_isFull_2 14 rfl rfl)
theorem dX10_isFull_71 : decode cX10_isFull 71 = .ok (.ldc 61, 2) := dk_18 61 (dk_at dksX10_isFull_2 15 rfl rfl)
theorem dX10_isFull_73 : decode cX10_isFull 73 = .ok (.invokevirtual 57, 3) := dk_182 0 57 (dk_at dksX10_isFull_2 17 rfl rfl)
theorem dX10_isFull_76 : decode cX10_isFull 76 = .ok (.ifCond .eq 19, 3) := dk_153 0 19 (dk_at dksX10_isFull_2 20 rfl rfl)
theorem dX10_isFull_79 : decode cX10_isFull 79 = .ok (.iconst 1, 1) := dk_4 (dk_at dksX10_isFull_2 23 rfl rfl)
theorem dX10_isFull_80 : decode cX10_isFull 80 = .ok (.istore_n 3, 1) := dk_62 (dk_at dksX10_isFull_3 0 rfl rfl)
theorem dX10_isFull_81 : decode cX10_isFull 81 = .ok (.goto 14, 3) := dk_167 0 14 (dk_at dksX10_isFull_3 1 rfl rfl)
theorem dX10_isFull_84 : decode cX10_isFull 84 = .ok (.aload_n 2, 1) := dk_44 (dk_at dksX10_isFull_3 4 rfl rfl)
theorem dX10_isFull_85 : decode cX10_isFull 85 = .ok (.ldc 63, 2) := dk_18 63 (dk_at dksX10_isFull_3 5 rfl rfl)
theorem dX10_isFull_87 : decode cX10_isFull 87 = .ok (.invokevirtual 57, 3) := dk_182 0 57 (dk_at dksX10_isFull_3 7 rfl rfl)
theorem dX10_isFull_90 : decode cX10_isFull 90 = .ok (.ifCond .eq 5, 3) := dk_153 0 5 (dk_at dksX10_isFull_3 10 rfl rfl)
theorem dX10_isFull_93 : decode cX10_isFull 93 = .ok (.iconst 2, 1) := dk_5 (dk_at dksX10_isFull_3 13 rfl rfl)
theorem dX10_isFull_94 : decode cX10_isFull 94 = .ok (.istore_n 3, 1) := dk_62 (dk_at dksX10_isFull_3 14 rfl rfl)
theorem dX10_isFull_95 : decode cX10_isFull 95 = .ok (.iload_n 3, 1) := dk_29 (dk_at dksX10_isFull_3 15 rfl rfl)
theorem dX10_isFull_96 : decode cX10_isFull 96 = .ok (.tableswitch 85 0 2 #[28, 46, 64], 28) := by decide +kernel
theorem dX10_isFull_124 : decode cX10_isFull 124 = .ok (.aload_n 0, 1) := dk_42 (dk_at dksX10_isFull_5 0 rfl rfl)
theorem dX10_isFull_125 : decode cX10_isFull 125 = .ok (.getfield 14, 3) := dk_180 0 14 (dk_at dksX10_isFull_5 1 rfl rfl)
theorem dX10_isFull_128 : decode cX10_isFull 128 = .ok (.getfield 65, 3) := dk_180 0 65 (dk_at dksX10_isFull_5 4 rfl rfl)
theorem dX10_isFull_131 : decode cX10_isFull 131 = .ok (.bipush 8, 2) := dk_16 8 (dk_at dksX10_isFull_5 7 rfl rfl)
theorem dX10_isFull_133 : decode cX10_isFull 133 = .ok (.if_icmp .ne 7, 3) := dk_160 0 7 (dk_at dksX10_isFull_5 9 rfl rfl)
theorem dX10_isFull_136 : decode cX10_isFull 136 = .ok (.iconst 1, 1) := dk_4 (dk_at dksX10_isFull_5 12 rfl rfl)
theorem dX10_isFull_137 : decode cX10_isFull 137 = .ok (.goto 4, 3) := dk_167 0 4 (dk_at dksX10_isFull_5 13 rfl rfl)
theorem dX10_isFull_140 : decode cX10_isFull 140 = .ok (.iconst 0, 1) := dk_3 (dk_at dksX10_isFull_5 16 rfl rfl)
theorem dX10_isFull_141 : decode cX10_isFull 141 = .ok (.ireturn, 1) := dk_172 (dk_at dksX10_isFull_5 17 rfl rfl)
theorem dX10_isFull_142 : decode cX10_isFull 142 = .ok (.aload_n 0, 1) := dk_42 (dk_at dksX10_isFull_5 18 rfl rfl)
theorem dX10_isFull_143 : decode cX10_isFull 143 = .ok (.getfield 14, 3) := dk_180 0 14 (dk_at dksX10_isFull_5 19 rfl rfl)
theorem dX10_isFull_146 : decode cX10_isFull 146 = .ok (.getfield 68, 3) := dk_180 0 68 (dk_at dksX10_isFull_6 0 rfl rfl)
theorem dX10_isFull_149 : decode cX10_isFull 149 = .ok (.bipush 12, 2) := dk_16 12 (dk_at dksX10_isFull_6 3 rfl rfl)
theorem dX10_isFull_151 : decode cX10_isFull 151 = .ok (.if_icmp .ne 7, 3) := dk_160 0 7 (dk_at dksX10_isFull_6 5 rfl rfl)
theorem dX10_isFull_154 : decode cX10_isFull 154 = .ok (.iconst 1, 1) := dk_4 (dk_at dksX10_isFull_6 8 rfl rfl)
theorem dX10_isFull_155 : decode cX10_isFull 155 = .ok (.goto 4, 3) := dk_167 0 4 (dk_at dksX10_isFull_6 9 rfl rfl)
theorem dX10_isFull_158 : decode cX10_isFull 158 = .ok (.iconst 0, 1) := dk_3 (dk_at dksX10_isFull_6 12 rfl rfl)
theorem dX10_isFull_159 : decode cX10_isFull 159 = .ok (.ireturn, 1) := dk_172 (dk_at dksX10_isFull_6 13 rfl rfl)
theorem dX10_isFull_160 : decode cX10_isFull 160 = .ok (.aload_n 0, 1) := dk_42 (dk_at dksX10_isFull_6 14 rfl rfl)
theorem dX10_isFull_161 : decode cX10_isFull 161 = .ok (.getfield 14, 3) := dk_180 0 14 (dk_at dksX10_isFull_6 15 rfl rfl)
theorem dX10_isFull_164 : decode cX10_isFull 164 = .ok (.getfield 71, 3) := dk_180 0 71 (dk_at dksX10_isFull_6 18 rfl rfl)
theorem dX10_isFull_167 : decode cX10_isFull 167 = .ok (.invokevirtual 75, 3) := dk_182 0 75 (dk_at dksX10_isFull_6 21 rfl rfl)
theorem dX10_isFull_170 : decode cX10_isFull 170 = .ok (.bipush 6, 2) := dk_16 6 (dk_at dksX10_isFull_7 0 rfl rfl)
theorem dX10_isFull_172 : decode cX10_isFull 172 = .ok (.if_icmp .ne 7, 3) := dk_160 0 7 (dk_at dksX10_isFull_7 2 rfl rfl)
theorem dX10_isFull_175 : decode cX10_isFull 175 = .ok (.iconst 1, 1) := dk_4 (dk_at dksX10_isFull_7 5 rfl rfl)
theorem dX10_isFull_176 : decode cX10_isFull 176 = .ok (.goto 4, 3) := dk_167 0 4 (dk_at dksX10_isFull_7 6 rfl rfl)
theorem dX10_isFull_179 : decode cX10_isFull 179 = .ok (.iconst 0, 1) := dk_3 (dk_at dksX10_isFull_7 9 rfl rfl)
theorem dX10_isFull_180 : decode cX10_isFull 180 = .ok (.ireturn, 1) := dk_172 (dk_at dksX10_isFull_7 10 rfl rfl)
theorem dX10_isFull_181 : decode cX10_isFull 181 = .ok (.iconst 0, 1) := dk_3 (dk_at dksX10_isFull_7 11 rfl rfl)
theorem dX10_isFull_182 : decode cX10_isFull 182 = .ok (.ireturn, 1) := dk_172 (dk_at dksX10_isFull_7 12 rfl rfl)
abbrev cX10_thing : ByteArray := prog_23_method_5_code
def yX10_thing : MethodName := ⟨RX10, "thing", "()I"⟩
def dkwX10_thing_0 : List UInt8 := [42, 3, 16, 9, 182, 0, 79, 172]
abbrev dktX10_thing_0 : List UInt8 := dkwX10_thing_0 ++ []
theorem dksX10_thing_0 : cX10_thing.data.toList.drop 0 = dktX10_thing_0 := by decide +kernel
theorem dX10_thing_0 : decode cX10_thing 0 = .ok (.aload_n 0, 1) := dk_42 (dk_at dksX10_thing_0 0 rfl rfl)
theorem dX10_thing_1 : decode cX10_thing 1 = .ok (.iconst 0, 1) := dk_3 (dk_at dksX10_thing_0 1 rfl rfl)
theorem dX10_thing_2 : decode cX10_thing 2 = .ok (.bipush 9, 2) := dk_16 9 (dk_at dksX10_thing_0 2 rfl rfl)
theorem dX10_thing_4 : decode cX10_thing 4 = .ok (.invokevirtual 79, 3) := dk_182 0 79 (dk_at dksX10_thing_0 4 rfl rfl)
theorem dX10_thing_7 : decode cX10_thing 7 = .ok (.ireturn, 1) := dk_172 (dk_at dksX10_thing_0 7 rfl rfl)
abbrev cX10_house : ByteArray := prog_23_method_4_code
def yX10_house : MethodName := ⟨RX10, "house", "()I"⟩
def dkwX10_house_0 : List UInt8 := [42, 3, 42, 180, 0, 14, 180, 0, 65, 4, 100, 182, 0, 79, 172]
abbrev dktX10_house_0 : List UInt8 := dkwX10_house_0 ++ []
theorem dksX10_house_0 : cX10_house.data.toList.drop 0 = dktX10_house_0 := by decide +kernel
theorem dX10_house_0 : decode cX10_house 0 = .ok (.aload_n 0, 1) := dk_42 (dk_at dksX10_house_0 0 rfl rfl)
theorem dX10_house_1 : decode cX10_house 1 = .ok (.iconst 0, 1) := dk_3 (dk_at dksX10_house_0 1 rfl rfl)
theorem dX10_house_2 : decode cX10_house 2 = .ok (.aload_n 0, 1) := dk_42 (dk_at dksX10_house_0 2 rfl rfl)
theorem dX10_house_3 : decode cX10_house 3 = .ok (.getfield 14, 3) := dk_180 0 14 (dk_at dksX10_house_0 3 rfl rfl)
theorem dX10_house_6 : decode cX10_house 6 = .ok (.getfield 65, 3) := dk_180 0 65 (dk_at dksX10_house_0 6 rfl rfl)
theorem dX10_house_9 : decode cX10_house 9 = .ok (.iconst 1, 1) := dk_4 (dk_at dksX10_house_0 9 rfl rfl)
theorem dX10_house_10 : decode cX10_house 10 = .ok (.isub, 1) := dk_100 (dk_at dksX10_house_0 10 rfl rfl)
theorem dX10_house_11 : decode cX10_house 11 = .ok (.invokevirtual 79, 3) := dk_182 0 79 (dk_at dksX10_house_0 11 rfl rfl)
theorem dX10_house_14 : decode cX10_house 14 = .ok (.ireturn, 1) := dk_172 (dk_at dksX10_house_0 14 rfl rfl)
theorem q127 : (Jvm.Cond.initialized "TunedHouses$TerraceReader") ∈ lw_all := lw_g (lw_at lw_m1 29 rfl) rfl
theorem q508 : (Jvm.Cond.fieldLinkNest "TunedHouses$TerraceReader" (102 : Nat) "TunedHouses$Told" "thing" "[I" "TunedHouses") ∈ lw_tbl := lw_at lw_m2 170 rfl
theorem q511 : (Jvm.Cond.fieldLinkNest "TunedHouses$TerraceReader" (20 : Nat) "TunedHouses$Told" "wish" "[I" "TunedHouses") ∈ lw_tbl := lw_at lw_m2 173 rfl
theorem q515 : (Jvm.Cond.fieldLinkNest "TunedHouses$TerraceReader" (109 : Nat) "TunedHouses$Told" "through" "[I" "TunedHouses") ∈ lw_tbl := lw_at lw_m2 177 rfl
theorem q523 : (Jvm.Cond.fieldLinkNest "TunedHouses$TerraceReader" (71 : Nat) "TunedHouses$Told" "pianos" "Ljava/util/ArrayList;" "TunedHouses") ∈ lw_tbl := lw_at lw_m2 185 rfl
theorem q526 : (Jvm.Cond.fieldLinkNest "TunedHouses$TerraceReader" (65 : Nat) "TunedHouses$Told" "houses" "I" "TunedHouses") ∈ lw_tbl := lw_at lw_m2 188 rfl
theorem q530 : (Jvm.Cond.fieldLinkNest "TunedHouses$TerraceReader" (68 : Nat) "TunedHouses$Told" "walls" "I" "TunedHouses") ∈ lw_tbl := lw_at lw_m2 192 rfl
theorem q534 : (Jvm.Cond.fieldLinkNest "TunedHouses$TerraceReader" (124 : Nat) "TunedHouses$Told" "felt" "I" "TunedHouses") ∈ lw_tbl := lw_at lw_m2 196 rfl
theorem q535 : (Jvm.Cond.fieldLinkNest "TunedHouses$TerraceReader" (47 : Nat) "TunedHouses$Told" "clauses" "I" "TunedHouses") ∈ lw_tbl := lw_at lw_m2 197 rfl
theorem q885 : (Jvm.Cond.instantiable "TunedHouses$TerraceReader" (6 : Nat)) ∈ lw_all := lw_g (lw_at lw_m4 67 rfl) rfl
theorem q887 : (Jvm.Cond.instanceMethod ({ cls := "TunedHouses$TerraceReader", name := "<init>", desc := "([BI)V" } : Jvm.MethodName)) ∈ lw_all := lw_g (lw_at lw_m4 69 rfl) rfl
theorem q888 : (Jvm.Cond.code ({ cls := "TunedHouses$TerraceReader", name := "<init>", desc := "([BI)V" } : Jvm.MethodName) prog_23_method_1_code (3 : Nat) (Option.none : Option Jvm.ClassFile.FieldType)) ∈ lw_all := lw_g (lw_at lw_m4 70 rfl) rfl
theorem q889 : (Jvm.Cond.methodLink "TunedHouses$TerraceReader" (3 : Nat) ({ cls := "TunedHouses$Reader", name := "<init>", desc := "([BI)V" } : Jvm.MethodName)) ∈ lw_all := lw_g (lw_at lw_m4 71 rfl) rfl
theorem q893 : (Jvm.Cond.classLink "TunedHouses$TerraceReader" (9 : Nat) "TunedHouses$Told") ∈ lw_all := lw_g (lw_at lw_m4 75 rfl) rfl
theorem q894 : (Jvm.Cond.methodLinkNest "TunedHouses$TerraceReader" (11 : Nat) ({ cls := "TunedHouses$Told", name := "<init>", desc := "()V" } : Jvm.MethodName) "TunedHouses") ∈ lw_tbl := lw_at lw_m4 76 rfl
theorem q895 : (Jvm.Cond.fieldLink "TunedHouses$TerraceReader" (14 : Nat) "TunedHouses$TerraceReader" "t" "LTunedHouses$Told;") ∈ lw_all := lw_g (lw_at lw_m4 77 rfl) rfl
theorem q904 : (Jvm.Cond.fieldLink "TunedHouses$TerraceReader" (32 : Nat) "TunedHouses$TerraceReader" "size" "I") ∈ lw_all := lw_g (lw_at lw_m4 86 rfl) rfl
theorem q905 : (Jvm.Cond.sameField "TunedHouses$TerraceReader" "TunedHouses$Reader" "size" "I") ∈ lw_all := lw_g (lw_at lw_m4 87 rfl) rfl
theorem q913 : (Jvm.Cond.fieldLink "TunedHouses$TerraceReader" (28 : Nat) "TunedHouses$TerraceReader" "next" "I") ∈ lw_all := lw_g (lw_at lw_m4 95 rfl) rfl
theorem q914 : (Jvm.Cond.sameField "TunedHouses$TerraceReader" "TunedHouses$Reader" "next" "I") ∈ lw_all := lw_g (lw_at lw_m4 96 rfl) rfl
theorem q917 : (Jvm.Cond.fieldLink "TunedHouses$TerraceReader" (112 : Nat) "TunedHouses$TerraceReader" "from" "I") ∈ lw_all := lw_g (lw_at lw_m4 99 rfl) rfl
theorem q918 : (Jvm.Cond.sameField "TunedHouses$TerraceReader" "TunedHouses$Reader" "from" "I") ∈ lw_all := lw_g (lw_at lw_m4 100 rfl) rfl
theorem q925 : (Jvm.Cond.laysFinal "TunedHouses$TerraceReader" "TunedHouses$TerraceReader" "t" "LTunedHouses$Told;") ∈ lw_all := lw_g (lw_at lw_m4 107 rfl) rfl
theorem q926 : (Jvm.Cond.soleField "TunedHouses$TerraceReader" "t") ∈ lw_all := lw_g (lw_at lw_m4 108 rfl) rfl
theorem q927 : (Jvm.Cond.laysFinal "TunedHouses$TerraceReader" "TunedHouses$Reader" "text" "[B") ∈ lw_all := lw_g (lw_at lw_m4 109 rfl) rfl
theorem q929 : (Jvm.Cond.laysFinal "TunedHouses$TerraceReader" "TunedHouses$Reader" "size" "I") ∈ lw_all := lw_g (lw_at lw_m4 111 rfl) rfl
theorem q931 : (Jvm.Cond.lays "TunedHouses$TerraceReader" "TunedHouses$Reader" "next" "I") ∈ lw_all := lw_g (lw_at lw_m4 113 rfl) rfl
theorem q933 : (Jvm.Cond.lays "TunedHouses$TerraceReader" "TunedHouses$Reader" "from" "I") ∈ lw_all := lw_g (lw_at lw_m4 115 rfl) rfl
theorem q935 : (Jvm.Cond.lays "TunedHouses$TerraceReader" "TunedHouses$Reader" "open" "I") ∈ lw_all := lw_g (lw_at lw_m4 117 rfl) rfl
theorem q937 : (Jvm.Cond.superclass "TunedHouses$TerraceReader" "TunedHouses$Reader") ∈ lw_all := lw_g (lw_at lw_m4 119 rfl) rfl
theorem q939 : (Jvm.Cond.instanceMethod ({ cls := "TunedHouses$TerraceReader", name := "reads", desc := "()LTunedHouses$Told;" } : Jvm.MethodName)) ∈ lw_all := lw_g (lw_at lw_m4 121 rfl) rfl
theorem q940 : (Jvm.Cond.selects "TunedHouses$TerraceReader" ({ cls := "TunedHouses$TerraceReader", name := "reads", desc := "()LTunedHouses$Told;" } : Jvm.MethodName) ({ cls := "TunedHouses$TerraceReader", name := "reads", desc := "()LTunedHouses$Told;" } : Jvm.MethodName)) ∈ lw_all := lw_g (lw_at lw_m4 122 rfl) rfl
theorem q941 : (Jvm.Cond.code ({ cls := "TunedHouses$TerraceReader", name := "reads", desc := "()LTunedHouses$Told;" } : Jvm.MethodName) prog_23_method_2_code (2 : Nat) (Option.some (Jvm.ClassFile.FieldType.object "TunedHouses$Told"))) ∈ lw_all := lw_g (lw_at lw_m4 123 rfl) rfl
theorem q942 : (Jvm.Cond.methodLink "TunedHouses$TerraceReader" (24 : Nat) ({ cls := "TunedHouses$TerraceReader", name := "sign", desc := "()I" } : Jvm.MethodName)) ∈ lw_all := lw_g (lw_at lw_m4 124 rfl) rfl
theorem q943 : (Jvm.Cond.sameMethod "TunedHouses$TerraceReader" "TunedHouses$Reader" "sign" "()I") ∈ lw_all := lw_g (lw_at lw_m4 125 rfl) rfl
theorem q945 : (Jvm.Cond.selects "TunedHouses$TerraceReader" ({ cls := "TunedHouses$TerraceReader", name := "sign", desc := "()I" } : Jvm.MethodName) ({ cls := "TunedHouses$Reader", name := "sign", desc := "()I" } : Jvm.MethodName)) ∈ lw_all := lw_g (lw_at lw_m4 127 rfl) rfl
theorem q948 : (Jvm.Cond.methodLink "TunedHouses$TerraceReader" (35 : Nat) ({ cls := "TunedHouses$TerraceReader", name := "word", desc := "()Ljava/lang/String;" } : Jvm.MethodName)) ∈ lw_all := lw_g (lw_at lw_m4 130 rfl) rfl
theorem q949 : (Jvm.Cond.sameMethod "TunedHouses$TerraceReader" "TunedHouses$Reader" "word" "()Ljava/lang/String;") ∈ lw_all := lw_g (lw_at lw_m4 131 rfl) rfl
theorem q951 : (Jvm.Cond.selects "TunedHouses$TerraceReader" ({ cls := "TunedHouses$TerraceReader", name := "word", desc := "()Ljava/lang/String;" } : Jvm.MethodName) ({ cls := "TunedHouses$Reader", name := "word", desc := "()Ljava/lang/String;" } : Jvm.MethodName)) ∈ lw_all := lw_g (lw_at lw_m4 133 rfl) rfl
theorem q979 : (Jvm.Cond.methodLink "TunedHouses$TerraceReader" (39 : Nat) ({ cls := "TunedHouses$TerraceReader", name := "clause", desc := "(Ljava/lang/String;)V" } : Jvm.MethodName)) ∈ lw_all := lw_g (lw_at lw_m4 161 rfl) rfl
theorem q980 : (Jvm.Cond.privateMethod ({ cls := "TunedHouses$TerraceReader", name := "clause", desc := "(Ljava/lang/String;)V" } : Jvm.MethodName)) ∈ lw_tbl := lw_at lw_m4 162 rfl
theorem q981 : (Jvm.Cond.instanceMethod ({ cls := "TunedHouses$TerraceReader", name := "clause", desc := "(Ljava/lang/String;)V" } : Jvm.MethodName)) ∈ lw_all := lw_g (lw_at lw_m4 163 rfl) rfl
theorem q982 : (Jvm.Cond.code ({ cls := "TunedHouses$TerraceReader", name := "clause", desc := "(Ljava/lang/String;)V" } : Jvm.MethodName) prog_23_method_6_code (6 : Nat) (Option.none : Option Jvm.ClassFile.FieldType)) ∈ lw_all := lw_g (lw_at lw_m4 164 rfl) rfl
theorem q983 : (Jvm.Cond.methodLink "TunedHouses$TerraceReader" (50 : Nat) ({ cls := "java/lang/String", name := "hashCode", desc := "()I" } : Jvm.MethodName)) ∈ lw_all := lw_g (lw_at lw_m4 165 rfl) rfl
theorem q1044 : (Jvm.Cond.stringRef "TunedHouses$TerraceReader" (55 : Nat) "house") ∈ lw_tbl := lw_at lw_m4 226 rfl
theorem q1045 : (Jvm.Cond.methodLink "TunedHouses$TerraceReader" (57 : Nat) ({ cls := "java/lang/String", name := "equals", desc := "(Ljava/lang/Object;)Z" } : Jvm.MethodName)) ∈ lw_all := lw_g (lw_at lw_m4 227 rfl) rfl
theorem q1053 : (Jvm.Cond.stringRef "TunedHouses$TerraceReader" (61 : Nat) "wall") ∈ lw_tbl := lw_at lw_m4 235 rfl
theorem q1054 : (Jvm.Cond.stringRef "TunedHouses$TerraceReader" (63 : Nat) "piano") ∈ lw_tbl := lw_at lw_m4 236 rfl
theorem q1055 : (Jvm.Cond.stringRef "TunedHouses$TerraceReader" (83 : Nat) "wish") ∈ lw_tbl := lw_at lw_m4 237 rfl
theorem q1056 : (Jvm.Cond.stringRef "TunedHouses$TerraceReader" (84 : Nat) "felt") ∈ lw_tbl := lw_at lw_m4 238 rfl
theorem q1057 : (Jvm.Cond.methodLink "TunedHouses$TerraceReader" (86 : Nat) ({ cls := "TunedHouses$TerraceReader", name := "wrong", desc := "()LTunedHouses$Wrong;" } : Jvm.MethodName)) ∈ lw_all := lw_g (lw_at lw_m4 239 rfl) rfl
theorem q1058 : (Jvm.Cond.sameMethod "TunedHouses$TerraceReader" "TunedHouses$Reader" "wrong" "()LTunedHouses$Wrong;") ∈ lw_all := lw_g (lw_at lw_m5 0 rfl) rfl
theorem q1060 : (Jvm.Cond.selects "TunedHouses$TerraceReader" ({ cls := "TunedHouses$TerraceReader", name := "wrong", desc := "()LTunedHouses$Wrong;" } : Jvm.MethodName) ({ cls := "TunedHouses$Reader", name := "wrong", desc := "()LTunedHouses$Wrong;" } : Jvm.MethodName)) ∈ lw_all := lw_g (lw_at lw_m5 2 rfl) rfl
theorem q1091 : (Jvm.Cond.methodLink "TunedHouses$TerraceReader" (90 : Nat) ({ cls := "TunedHouses$TerraceReader", name := "isFull", desc := "(Ljava/lang/String;)Z" } : Jvm.MethodName)) ∈ lw_all := lw_g (lw_at lw_m5 33 rfl) rfl
theorem q1092 : (Jvm.Cond.privateMethod ({ cls := "TunedHouses$TerraceReader", name := "isFull", desc := "(Ljava/lang/String;)Z" } : Jvm.MethodName)) ∈ lw_tbl := lw_at lw_m5 34 rfl
theorem q1093 : (Jvm.Cond.instanceMethod ({ cls := "TunedHouses$TerraceReader", name := "isFull", desc := "(Ljava/lang/String;)Z" } : Jvm.MethodName)) ∈ lw_all := lw_g (lw_at lw_m5 35 rfl) rfl
theorem q1094 : (Jvm.Cond.code ({ cls := "TunedHouses$TerraceReader", name := "isFull", desc := "(Ljava/lang/String;)Z" } : Jvm.MethodName) prog_23_method_3_code (4 : Nat) (Option.some Jvm.ClassFile.FieldType.boolean)) ∈ lw_all := lw_g (lw_at lw_m5 36 rfl) rfl
theorem q1095 : (Jvm.Cond.methodLink "TunedHouses$TerraceReader" (75 : Nat) ({ cls := "java/util/ArrayList", name := "size", desc := "()I" } : Jvm.MethodName)) ∈ lw_all := lw_g (lw_at lw_m5 37 rfl) rfl
theorem q1096 : (Jvm.Cond.classLink "TunedHouses$TerraceReader" (94 : Nat) "TunedHouses$Wrong") ∈ lw_all := lw_g (lw_at lw_m5 38 rfl) rfl
theorem q1097 : (Jvm.Cond.methodLink "TunedHouses$TerraceReader" (96 : Nat) ({ cls := "TunedHouses$Wrong", name := "<init>", desc := "(II)V" } : Jvm.MethodName)) ∈ lw_all := lw_g (lw_at lw_m5 39 rfl) rfl
theorem q1098 : (Jvm.Cond.methodLink "TunedHouses$TerraceReader" (99 : Nat) ({ cls := "java/lang/String", name := "length", desc := "()I" } : Jvm.MethodName)) ∈ lw_all := lw_g (lw_at lw_m5 40 rfl) rfl
theorem q1099 : (Jvm.Cond.methodLink "TunedHouses$TerraceReader" (105 : Nat) ({ cls := "TunedHouses$TerraceReader", name := "thing", desc := "()I" } : Jvm.MethodName)) ∈ lw_all := lw_g (lw_at lw_m5 41 rfl) rfl
theorem q1100 : (Jvm.Cond.privateMethod ({ cls := "TunedHouses$TerraceReader", name := "thing", desc := "()I" } : Jvm.MethodName)) ∈ lw_tbl := lw_at lw_m5 42 rfl
theorem q1101 : (Jvm.Cond.instanceMethod ({ cls := "TunedHouses$TerraceReader", name := "thing", desc := "()I" } : Jvm.MethodName)) ∈ lw_all := lw_g (lw_at lw_m5 43 rfl) rfl
theorem q1102 : (Jvm.Cond.code ({ cls := "TunedHouses$TerraceReader", name := "thing", desc := "()I" } : Jvm.MethodName) prog_23_method_5_code (1 : Nat) (Option.some Jvm.ClassFile.FieldType.int)) ∈ lw_all := lw_g (lw_at lw_m5 44 rfl) rfl
theorem q1103 : (Jvm.Cond.methodLink "TunedHouses$TerraceReader" (79 : Nat) ({ cls := "TunedHouses$TerraceReader", name := "number", desc := "(II)I" } : Jvm.MethodName)) ∈ lw_all := lw_g (lw_at lw_m5 45 rfl) rfl
theorem q1104 : (Jvm.Cond.sameMethod "TunedHouses$TerraceReader" "TunedHouses$Reader" "number" "(II)I") ∈ lw_all := lw_g (lw_at lw_m5 46 rfl) rfl
theorem q1106 : (Jvm.Cond.selects "TunedHouses$TerraceReader" ({ cls := "TunedHouses$TerraceReader", name := "number", desc := "(II)I" } : Jvm.MethodName) ({ cls := "TunedHouses$Reader", name := "number", desc := "(II)I" } : Jvm.MethodName)) ∈ lw_all := lw_g (lw_at lw_m5 48 rfl) rfl
theorem q1112 : (Jvm.Cond.methodLink "TunedHouses$TerraceReader" (107 : Nat) ({ cls := "TunedHouses$TerraceReader", name := "house", desc := "()I" } : Jvm.MethodName)) ∈ lw_all := lw_g (lw_at lw_m5 54 rfl) rfl
theorem q1113 : (Jvm.Cond.privateMethod ({ cls := "TunedHouses$TerraceReader", name := "house", desc := "()I" } : Jvm.MethodName)) ∈ lw_tbl := lw_at lw_m5 55 rfl
theorem q1114 : (Jvm.Cond.instanceMethod ({ cls := "TunedHouses$TerraceReader", name := "house", desc := "()I" } : Jvm.MethodName)) ∈ lw_all := lw_g (lw_at lw_m5 56 rfl) rfl
theorem q1115 : (Jvm.Cond.code ({ cls := "TunedHouses$TerraceReader", name := "house", desc := "()I" } : Jvm.MethodName) prog_23_method_4_code (1 : Nat) (Option.some Jvm.ClassFile.FieldType.int)) ∈ lw_all := lw_g (lw_at lw_m5 57 rfl) rfl
theorem q1116 : (Jvm.Cond.methodLink "TunedHouses$TerraceReader" (115 : Nat) ({ cls := "TunedHouses$Told", name := "parts", desc := "(II)V" } : Jvm.MethodName)) ∈ lw_all := lw_g (lw_at lw_m5 58 rfl) rfl
theorem q1120 : (Jvm.Cond.classLink "TunedHouses$TerraceReader" (118 : Nat) "TunedHouses$Piano") ∈ lw_all := lw_g (lw_at lw_m5 62 rfl) rfl
theorem q1122 : (Jvm.Cond.methodLink "TunedHouses$TerraceReader" (120 : Nat) ({ cls := "TunedHouses$Piano", name := "<init>", desc := "(II)V" } : Jvm.MethodName)) ∈ lw_all := lw_g (lw_at lw_m5 64 rfl) rfl
theorem q1137 : (Jvm.Cond.methodLink "TunedHouses$TerraceReader" (121 : Nat) ({ cls := "java/util/ArrayList", name := "add", desc := "(Ljava/lang/Object;)Z" } : Jvm.MethodName)) ∈ lw_all := lw_g (lw_at lw_m5 79 rfl) rfl
theorem q1180 : (Jvm.Cond.selects "TunedHouses$TerraceReader" ({ cls := "java/lang/Object", name := "getClass", desc := "()Ljava/lang/Class;" } : Jvm.MethodName) ({ cls := "java/lang/Object", name := "getClass", desc := "()Ljava/lang/Class;" } : Jvm.MethodName)) ∈ lw_all := lw_g (lw_at lw_m5 122 rfl) rfl
theorem q1199 : (Jvm.Cond.methodLink "TunedHouses$TerraceReader" (43 : Nat) ({ cls := "TunedHouses$TerraceReader", name := "need", desc := "(I)V" } : Jvm.MethodName)) ∈ lw_all := lw_g (lw_at lw_m5 141 rfl) rfl
theorem q1200 : (Jvm.Cond.sameMethod "TunedHouses$TerraceReader" "TunedHouses$Reader" "need" "(I)V") ∈ lw_all := lw_g (lw_at lw_m5 142 rfl) rfl
theorem q1202 : (Jvm.Cond.selects "TunedHouses$TerraceReader" ({ cls := "TunedHouses$TerraceReader", name := "need", desc := "(I)V" } : Jvm.MethodName) ({ cls := "TunedHouses$Reader", name := "need", desc := "(I)V" } : Jvm.MethodName)) ∈ lw_all := lw_g (lw_at lw_m5 144 rfl) rfl
theorem q2549 : (Jvm.Cond.selects "TunedHouses$TerraceReader" ({ cls := "TunedHouses$Reader", name := "sign", desc := "()I" } : Jvm.MethodName) ({ cls := "TunedHouses$Reader", name := "sign", desc := "()I" } : Jvm.MethodName)) ∈ lw_all := lw_g (lw_at lw_m11 51 rfl) rfl
theorem q2556 : (Jvm.Cond.selects "TunedHouses$TerraceReader" ({ cls := "TunedHouses$Reader", name := "wrong", desc := "()LTunedHouses$Wrong;" } : Jvm.MethodName) ({ cls := "TunedHouses$Reader", name := "wrong", desc := "()LTunedHouses$Wrong;" } : Jvm.MethodName)) ∈ lw_all := lw_g (lw_at lw_m11 58 rfl) rfl
theorem q2574 : (Jvm.Cond.castable "TunedHouses$TerraceReader" "java/lang/Object") ∈ lw_tbl := lw_at lw_m11 76 rfl
theorem in_X10 : ∀ w ∈ wsX100, w ∈ lw_all := lw_in wsX100 [927, 929, 931, 933, 935, 925] (by decide +kernel) (by decide +kernel)

/-! TunedHouses$Wrong -/
set_option maxRecDepth 100000
def RX11 : String := "TunedHouses$Wrong"
def TX11 : u_T := fun k => match k with
  | 0 => ("java/lang/Throwable", "cause", "Ljava/lang/Throwable;", false)
  | 1 => ("java/lang/Throwable", "stackTrace", "[Ljava/lang/StackTraceElement;", false)
  | 2 => ("java/lang/Throwable", "suppressedExceptions", "Ljava/util/List;", false)
  | 3 => ("java/lang/Throwable", "detailMessage", "Ljava/lang/String;", false)
  | 4 => ("java/lang/Throwable", "backtrace", "Ljava/lang/Object;", false)
  | 5 => ("java/lang/Throwable", "depth", "I", false)
  | 6 => ("TunedHouses$Wrong", "kind", "I", true)
  | _ => ("TunedHouses$Wrong", "place", "I", true)
def tyX11 : Nat → FieldType := fun k => match k with
  | 0 => .object "java/lang/Throwable"
  | 1 => .array (.object "java/lang/StackTraceElement")
  | 2 => .object "java/util/List"
  | 3 => .object "java/lang/String"
  | 4 => .object "java/lang/Object"
  | 5 => .int
  | 6 => .int
  | _ => .int
abbrev wsX110 : List Cond := u_ws RX11 TX11 8
theorem nmX11 : ∀ a, a < 8 → ∀ b, b < 8 → a ≠ b → (TX11 a).2.1 ≠ (TX11 b).2.1 := by decide +kernel
theorem tyX11_ok : ∀ k, k < 8 → parseFieldDescriptor (TX11 k).2.2.1 = some (tyX11 k) := by decide +kernel
abbrev cX11_init : ByteArray := prog_28_method_1_code
def yX11_init : MethodName := ⟨RX11, "<init>", "(II)V"⟩
def dkwX11_init_0 : List UInt8 := [42, 1, 1, 3, 3, 183, 0, 1, 42, 27, 181, 0, 7, 42, 28, 181, 0, 13, 177]
abbrev dktX11_init_0 : List UInt8 := dkwX11_init_0 ++ []
theorem dksX11_init_0 : cX11_init.data.toList.drop 0 = dktX11_init_0 := by decide +kernel
theorem dX11_init_0 : decode cX11_init 0 = .ok (.aload_n 0, 1) := dk_42 (dk_at dksX11_init_0 0 rfl rfl)
theorem dX11_init_1 : decode cX11_init 1 = .ok (.aconst_null, 1) := dk_1 (dk_at dksX11_init_0 1 rfl rfl)
theorem dX11_init_2 : decode cX11_init 2 = .ok (.aconst_null, 1) := dk_1 (dk_at dksX11_init_0 2 rfl rfl)
theorem dX11_init_3 : decode cX11_init 3 = .ok (.iconst 0, 1) := dk_3 (dk_at dksX11_init_0 3 rfl rfl)
theorem dX11_init_4 : decode cX11_init 4 = .ok (.iconst 0, 1) := dk_3 (dk_at dksX11_init_0 4 rfl rfl)
theorem dX11_init_5 : decode cX11_init 5 = .ok (.invokespecial 1, 3) := dk_183 0 1 (dk_at dksX11_init_0 5 rfl rfl)
theorem dX11_init_8 : decode cX11_init 8 = .ok (.aload_n 0, 1) := dk_42 (dk_at dksX11_init_0 8 rfl rfl)
theorem dX11_init_9 : decode cX11_init 9 = .ok (.iload_n 1, 1) := dk_27 (dk_at dksX11_init_0 9 rfl rfl)
theorem dX11_init_10 : decode cX11_init 10 = .ok (.putfield 7, 3) := dk_181 0 7 (dk_at dksX11_init_0 10 rfl rfl)
theorem dX11_init_13 : decode cX11_init 13 = .ok (.aload_n 0, 1) := dk_42 (dk_at dksX11_init_0 13 rfl rfl)
theorem dX11_init_14 : decode cX11_init 14 = .ok (.iload_n 2, 1) := dk_28 (dk_at dksX11_init_0 14 rfl rfl)
theorem dX11_init_15 : decode cX11_init 15 = .ok (.putfield 13, 3) := dk_181 0 13 (dk_at dksX11_init_0 15 rfl rfl)
theorem dX11_init_18 : decode cX11_init 18 = .ok (.return_, 1) := dk_177 (dk_at dksX11_init_0 18 rfl rfl)
theorem q128 : (Jvm.Cond.initialized "TunedHouses$Wrong") ∈ lw_all := lw_g (lw_at lw_m1 30 rfl) rfl
theorem q212 : (Jvm.Cond.selects "TunedHouses$Wrong" ({ cls := "java/lang/Throwable", name := "fillInStackTrace", desc := "()Ljava/lang/Throwable;" } : Jvm.MethodName) ({ cls := "java/lang/Throwable", name := "fillInStackTrace", desc := "()Ljava/lang/Throwable;" } : Jvm.MethodName)) ∈ lw_all := lw_g (lw_at lw_m1 114 rfl) rfl
theorem q1064 : (Jvm.Cond.instantiable "TunedHouses$Wrong" (8 : Nat)) ∈ lw_all := lw_g (lw_at lw_m5 6 rfl) rfl
theorem q1065 : (Jvm.Cond.castable "TunedHouses$Wrong" "TunedHouses$Wrong") ∈ lw_tbl := lw_at lw_m5 7 rfl
theorem q1066 : (Jvm.Cond.selects "TunedHouses$Wrong" ({ cls := "java/lang/Throwable", name := "fillInStackTrace", desc := "(I)Ljava/lang/Throwable;" } : Jvm.MethodName) ({ cls := "java/lang/Throwable", name := "fillInStackTrace", desc := "(I)Ljava/lang/Throwable;" } : Jvm.MethodName)) ∈ lw_all := lw_g (lw_at lw_m5 8 rfl) rfl
theorem q1067 : (Jvm.Cond.lays "TunedHouses$Wrong" "java/lang/Throwable" "cause" "Ljava/lang/Throwable;") ∈ lw_all := lw_g (lw_at lw_m5 9 rfl) rfl
theorem q1068 : (Jvm.Cond.lays "TunedHouses$Wrong" "java/lang/Throwable" "stackTrace" "[Ljava/lang/StackTraceElement;") ∈ lw_all := lw_g (lw_at lw_m5 10 rfl) rfl
theorem q1069 : (Jvm.Cond.lays "TunedHouses$Wrong" "java/lang/Throwable" "suppressedExceptions" "Ljava/util/List;") ∈ lw_all := lw_g (lw_at lw_m5 11 rfl) rfl
theorem q1070 : (Jvm.Cond.lays "TunedHouses$Wrong" "java/lang/Throwable" "detailMessage" "Ljava/lang/String;") ∈ lw_all := lw_g (lw_at lw_m5 12 rfl) rfl
theorem q1071 : (Jvm.Cond.lays "TunedHouses$Wrong" "java/lang/Throwable" "backtrace" "Ljava/lang/Object;") ∈ lw_all := lw_g (lw_at lw_m5 13 rfl) rfl
theorem q1073 : (Jvm.Cond.instanceMethod ({ cls := "TunedHouses$Wrong", name := "<init>", desc := "(II)V" } : Jvm.MethodName)) ∈ lw_all := lw_g (lw_at lw_m5 15 rfl) rfl
theorem q1074 : (Jvm.Cond.code ({ cls := "TunedHouses$Wrong", name := "<init>", desc := "(II)V" } : Jvm.MethodName) prog_28_method_1_code (3 : Nat) (Option.none : Option Jvm.ClassFile.FieldType)) ∈ lw_all := lw_g (lw_at lw_m5 16 rfl) rfl
theorem q1075 : (Jvm.Cond.methodLink "TunedHouses$Wrong" (1 : Nat) ({ cls := "java/lang/Exception", name := "<init>", desc := "(Ljava/lang/String;Ljava/lang/Throwable;ZZ)V" } : Jvm.MethodName)) ∈ lw_all := lw_g (lw_at lw_m5 17 rfl) rfl
theorem q1081 : (Jvm.Cond.fieldLink "TunedHouses$Wrong" (7 : Nat) "TunedHouses$Wrong" "kind" "I") ∈ lw_all := lw_g (lw_at lw_m5 23 rfl) rfl
theorem q1083 : (Jvm.Cond.fieldLink "TunedHouses$Wrong" (13 : Nat) "TunedHouses$Wrong" "place" "I") ∈ lw_all := lw_g (lw_at lw_m5 25 rfl) rfl
theorem q1085 : (Jvm.Cond.laysFinal "TunedHouses$Wrong" "TunedHouses$Wrong" "kind" "I") ∈ lw_all := lw_g (lw_at lw_m5 27 rfl) rfl
theorem q1086 : (Jvm.Cond.soleField "TunedHouses$Wrong" "kind") ∈ lw_all := lw_g (lw_at lw_m5 28 rfl) rfl
theorem q1087 : (Jvm.Cond.laysFinal "TunedHouses$Wrong" "TunedHouses$Wrong" "place" "I") ∈ lw_all := lw_g (lw_at lw_m5 29 rfl) rfl
theorem q1088 : (Jvm.Cond.soleField "TunedHouses$Wrong" "place") ∈ lw_all := lw_g (lw_at lw_m5 30 rfl) rfl
theorem q1089 : (Jvm.Cond.lays "TunedHouses$Wrong" "java/lang/Throwable" "depth" "I") ∈ lw_all := lw_g (lw_at lw_m5 31 rfl) rfl
theorem q1090 : (Jvm.Cond.superclass "TunedHouses$Wrong" "java/lang/Exception") ∈ lw_all := lw_g (lw_at lw_m5 32 rfl) rfl
theorem q1184 : (Jvm.Cond.selects "TunedHouses$Wrong" ({ cls := "java/lang/Object", name := "getClass", desc := "()Ljava/lang/Class;" } : Jvm.MethodName) ({ cls := "java/lang/Object", name := "getClass", desc := "()Ljava/lang/Class;" } : Jvm.MethodName)) ∈ lw_all := lw_g (lw_at lw_m5 126 rfl) rfl
theorem q2576 : (Jvm.Cond.castable "TunedHouses$Wrong" "java/lang/Object") ∈ lw_tbl := lw_at lw_m11 78 rfl
theorem in_X11 : ∀ w ∈ wsX110, w ∈ lw_all := lw_in wsX110 [1067, 1068, 1069, 1070, 1071, 1089, 1085, 1087] (by decide +kernel) (by decide +kernel)

/-! TunedHouses$Piano -/
set_option maxRecDepth 100000
def RX12 : String := "TunedHouses$Piano"
def TX12 : u_T := fun k => match k with
  | 0 => ("TunedHouses$Piano", "thing", "I", true)
  | _ => ("TunedHouses$Piano", "strong", "I", true)
def tyX12 : Nat → FieldType := fun k => match k with
  | 0 => .int
  | _ => .int
abbrev wsX120 : List Cond := u_ws RX12 TX12 2
theorem nmX12 : ∀ a, a < 2 → ∀ b, b < 2 → a ≠ b → (TX12 a).2.1 ≠ (TX12 b).2.1 := by decide +kernel
theorem tyX12_ok : ∀ k, k < 2 → parseFieldDescriptor (TX12 k).2.2.1 = some (tyX12 k) := by decide +kernel
abbrev cX12_init : ByteArray := prog_14_method_1_code
def yX12_init : MethodName := ⟨RX12, "<init>", "(II)V"⟩
def dkwX12_init_0 : List UInt8 := [42, 183, 0, 1, 42, 27, 181, 0, 7, 42, 28, 181, 0, 13, 177]
abbrev dktX12_init_0 : List UInt8 := dkwX12_init_0 ++ []
theorem dksX12_init_0 : cX12_init.data.toList.drop 0 = dktX12_init_0 := by decide +kernel
theorem dX12_init_0 : decode cX12_init 0 = .ok (.aload_n 0, 1) := dk_42 (dk_at dksX12_init_0 0 rfl rfl)
theorem dX12_init_1 : decode cX12_init 1 = .ok (.invokespecial 1, 3) := dk_183 0 1 (dk_at dksX12_init_0 1 rfl rfl)
theorem dX12_init_4 : decode cX12_init 4 = .ok (.aload_n 0, 1) := dk_42 (dk_at dksX12_init_0 4 rfl rfl)
theorem dX12_init_5 : decode cX12_init 5 = .ok (.iload_n 1, 1) := dk_27 (dk_at dksX12_init_0 5 rfl rfl)
theorem dX12_init_6 : decode cX12_init 6 = .ok (.putfield 7, 3) := dk_181 0 7 (dk_at dksX12_init_0 6 rfl rfl)
theorem dX12_init_9 : decode cX12_init 9 = .ok (.aload_n 0, 1) := dk_42 (dk_at dksX12_init_0 9 rfl rfl)
theorem dX12_init_10 : decode cX12_init 10 = .ok (.iload_n 2, 1) := dk_28 (dk_at dksX12_init_0 10 rfl rfl)
theorem dX12_init_11 : decode cX12_init 11 = .ok (.putfield 13, 3) := dk_181 0 13 (dk_at dksX12_init_0 11 rfl rfl)
theorem dX12_init_14 : decode cX12_init 14 = .ok (.return_, 1) := dk_177 (dk_at dksX12_init_0 14 rfl rfl)
theorem q129 : (Jvm.Cond.initialized "TunedHouses$Piano") ∈ lw_all := lw_g (lw_at lw_m1 31 rfl) rfl
theorem q1121 : (Jvm.Cond.instantiable "TunedHouses$Piano" (2 : Nat)) ∈ lw_all := lw_g (lw_at lw_m5 63 rfl) rfl
theorem q1123 : (Jvm.Cond.instanceMethod ({ cls := "TunedHouses$Piano", name := "<init>", desc := "(II)V" } : Jvm.MethodName)) ∈ lw_all := lw_g (lw_at lw_m5 65 rfl) rfl
theorem q1124 : (Jvm.Cond.code ({ cls := "TunedHouses$Piano", name := "<init>", desc := "(II)V" } : Jvm.MethodName) prog_14_method_1_code (3 : Nat) (Option.none : Option Jvm.ClassFile.FieldType)) ∈ lw_all := lw_g (lw_at lw_m5 66 rfl) rfl
theorem q1125 : (Jvm.Cond.methodLink "TunedHouses$Piano" (1 : Nat) ({ cls := "java/lang/Object", name := "<init>", desc := "()V" } : Jvm.MethodName)) ∈ lw_all := lw_g (lw_at lw_m5 67 rfl) rfl
theorem q1126 : (Jvm.Cond.fieldLink "TunedHouses$Piano" (7 : Nat) "TunedHouses$Piano" "thing" "I") ∈ lw_all := lw_g (lw_at lw_m5 68 rfl) rfl
theorem q1129 : (Jvm.Cond.fieldLink "TunedHouses$Piano" (13 : Nat) "TunedHouses$Piano" "strong" "I") ∈ lw_all := lw_g (lw_at lw_m5 71 rfl) rfl
theorem q1132 : (Jvm.Cond.laysFinal "TunedHouses$Piano" "TunedHouses$Piano" "thing" "I") ∈ lw_all := lw_g (lw_at lw_m5 74 rfl) rfl
theorem q1133 : (Jvm.Cond.soleField "TunedHouses$Piano" "thing") ∈ lw_all := lw_g (lw_at lw_m5 75 rfl) rfl
theorem q1134 : (Jvm.Cond.laysFinal "TunedHouses$Piano" "TunedHouses$Piano" "strong" "I") ∈ lw_all := lw_g (lw_at lw_m5 76 rfl) rfl
theorem q1135 : (Jvm.Cond.soleField "TunedHouses$Piano" "strong") ∈ lw_all := lw_g (lw_at lw_m5 77 rfl) rfl
theorem q1136 : (Jvm.Cond.superclass "TunedHouses$Piano" "java/lang/Object") ∈ lw_all := lw_g (lw_at lw_m5 78 rfl) rfl
theorem q1174 : (Jvm.Cond.selects "TunedHouses$Piano" ({ cls := "java/lang/Object", name := "getClass", desc := "()Ljava/lang/Class;" } : Jvm.MethodName) ({ cls := "java/lang/Object", name := "getClass", desc := "()Ljava/lang/Class;" } : Jvm.MethodName)) ∈ lw_all := lw_g (lw_at lw_m5 116 rfl) rfl
theorem q2577 : (Jvm.Cond.castable "TunedHouses$Piano" "java/lang/Object") ∈ lw_tbl := lw_at lw_m11 79 rfl
theorem in_X12 : ∀ w ∈ wsX120, w ∈ lw_all := lw_in wsX120 [1132, 1134] (by decide +kernel) (by decide +kernel)

/-! TunedHouses$LawReader -/
set_option maxRecDepth 100000
def RX13 : String := "TunedHouses$LawReader"
def TX13 : u_T := fun k => match k with
  | 0 => ("TunedHouses$Reader", "text", "[B", true)
  | 1 => ("TunedHouses$Reader", "size", "I", true)
  | 2 => ("TunedHouses$Reader", "next", "I", false)
  | 3 => ("TunedHouses$Reader", "from", "I", false)
  | _ => ("TunedHouses$Reader", "open", "I", false)
def tyX13 : Nat → FieldType := fun k => match k with
  | 0 => .array .byte
  | 1 => .int
  | 2 => .int
  | 3 => .int
  | _ => .int
abbrev wsX130 : List Cond := u_ws RX13 TX13 5
theorem nmX13 : ∀ a, a < 5 → ∀ b, b < 5 → a ≠ b → (TX13 a).2.1 ≠ (TX13 b).2.1 := by decide +kernel
theorem tyX13_ok : ∀ k, k < 5 → parseFieldDescriptor (TX13 k).2.2.1 = some (tyX13 k) := by decide +kernel
abbrev cX13_init : ByteArray := prog_7_method_1_code
def yX13_init : MethodName := ⟨RX13, "<init>", "([BI)V"⟩
def dkwX13_init_0 : List UInt8 := [42, 43, 28, 183, 0, 3, 177]
abbrev dktX13_init_0 : List UInt8 := dkwX13_init_0 ++ []
theorem dksX13_init_0 : cX13_init.data.toList.drop 0 = dktX13_init_0 := by decide +kernel
theorem dX13_init_0 : decode cX13_init 0 = .ok (.aload_n 0, 1) := dk_42 (dk_at dksX13_init_0 0 rfl rfl)
theorem dX13_init_1 : decode cX13_init 1 = .ok (.aload_n 1, 1) := dk_43 (dk_at dksX13_init_0 1 rfl rfl)
theorem dX13_init_2 : decode cX13_init 2 = .ok (.iload_n 2, 1) := dk_28 (dk_at dksX13_init_0 2 rfl rfl)
theorem dX13_init_3 : decode cX13_init 3 = .ok (.invokespecial 3, 3) := dk_183 0 3 (dk_at dksX13_init_0 3 rfl rfl)
theorem dX13_init_6 : decode cX13_init 6 = .ok (.return_, 1) := dk_177 (dk_at dksX13_init_0 6 rfl rfl)
abbrev cX13_reads : ByteArray := prog_7_method_2_code
def yX13_reads : MethodName := ⟨RX13, "reads", "()LTunedHouses$Term;"⟩
def dkwX13_reads_1 : List UInt8 := [182, 0, 26, 191, 43, 176]
abbrev dktX13_reads_1 : List UInt8 := dkwX13_reads_1 ++ []
def dkwX13_reads_0 : List UInt8 := [42, 182, 0, 9, 76, 42, 182, 0, 15, 87, 42, 180, 0, 19, 42, 180, 0, 23, 162, 0, 8, 42]
abbrev dktX13_reads_0 : List UInt8 := dkwX13_reads_0 ++ dktX13_reads_1
theorem dksX13_reads_0 : cX13_reads.data.toList.drop 0 = dktX13_reads_0 := by decide +kernel
theorem dksX13_reads_1 : cX13_reads.data.toList.drop 22 = dktX13_reads_1 := dk_seg dksX13_reads_0 22 rfl rfl
theorem dX13_reads_0 : decode cX13_reads 0 = .ok (.aload_n 0, 1) := dk_42 (dk_at dksX13_reads_0 0 rfl rfl)
theorem dX13_reads_1 : decode cX13_reads 1 = .ok (.invokevirtual 9, 3) := dk_182 0 9 (dk_at dksX13_reads_0 1 rfl rfl)
theorem dX13_reads_4 : decode cX13_reads 4 = .ok (.astore_n 1, 1) := dk_76 (dk_at dksX13_reads_0 4 rfl rfl)
theorem dX13_reads_5 : decode cX13_reads 5 = .ok (.aload_n 0, 1) := dk_42 (dk_at dksX13_reads_0 5 rfl rfl)
theorem dX13_reads_6 : decode cX13_reads 6 = .ok (.invokevirtual 15, 3) := dk_182 0 15 (dk_at dksX13_reads_0 6 rfl rfl)
theorem dX13_reads_9 : decode cX13_reads 9 = .ok (.pop, 1) := dk_87 (dk_at dksX13_reads_0 9 rfl rfl)
theorem dX13_reads_10 : decode cX13_reads 10 = .ok (.aload_n 0, 1) := dk_42 (dk_at dksX13_reads_0 10 rfl rfl)
theorem dX13_reads_11 : decode cX13_reads 11 = .ok (.getfield 19, 3) := dk_180 0 19 (dk_at dksX13_reads_0 11 rfl rfl)
theorem dX13_reads_14 : decode cX13_reads 14 = .ok (.aload_n 0, 1) := dk_42 (dk_at dksX13_reads_0 14 rfl rfl)
theorem dX13_reads_15 : decode cX13_reads 15 = .ok (.getfield 23, 3) := dk_180 0 23 (dk_at dksX13_reads_0 15 rfl rfl)
theorem dX13_reads_18 : decode cX13_reads 18 = .ok (.if_icmp .ge 8, 3) := dk_162 0 8 (dk_at dksX13_reads_0 18 rfl rfl)
theorem dX13_reads_21 : decode cX13_reads 21 = .ok (.aload_n 0, 1) := dk_42 (dk_at dksX13_reads_0 21 rfl rfl)
theorem dX13_reads_22 : decode cX13_reads 22 = .ok (.invokevirtual 26, 3) := dk_182 0 26 (dk_at dksX13_reads_1 0 rfl rfl)
theorem dX13_reads_25 : decode cX13_reads 25 = .ok (.athrow, 1) := dk_191 (dk_at dksX13_reads_1 3 rfl rfl)
theorem dX13_reads_26 : decode cX13_reads 26 = .ok (.aload_n 1, 1) := dk_43 (dk_at dksX13_reads_1 4 rfl rfl)
theorem dX13_reads_27 : decode cX13_reads 27 = .ok (.areturn, 1) := dk_176 (dk_at dksX13_reads_1 5 rfl rfl)
abbrev cX13_sum : ByteArray := prog_7_method_3_code
def yX13_sum : MethodName := ⟨RX13, "sum", "()LTunedHouses$Term;"⟩
def dkwX13_sum_3 : List UInt8 := [89, 43, 45, 183, 0, 40, 76, 167, 255, 182, 43, 176]
abbrev dktX13_sum_3 : List UInt8 := dkwX13_sum_3 ++ []
def dkwX13_sum_2 : List UInt8 := [42, 182, 0, 30, 78, 28, 153, 0, 15, 187, 0, 33, 89, 43, 45, 183, 0, 35, 167, 0, 12, 187, 0, 38]
abbrev dktX13_sum_2 : List UInt8 := dkwX13_sum_2 ++ dktX13_sum_3
def dkwX13_sum_1 : List UInt8 := [182, 0, 15, 16, 43, 160, 0, 7, 4, 167, 0, 4, 3, 61, 42, 89, 180, 0, 19, 4, 96, 181, 0, 19]
abbrev dktX13_sum_1 : List UInt8 := dkwX13_sum_1 ++ dktX13_sum_2
def dkwX13_sum_0 : List UInt8 := [42, 182, 0, 30, 76, 42, 182, 0, 15, 16, 43, 159, 0, 12, 42, 182, 0, 15, 16, 45, 160, 0, 62, 42]
abbrev dktX13_sum_0 : List UInt8 := dkwX13_sum_0 ++ dktX13_sum_1
theorem dksX13_sum_0 : cX13_sum.data.toList.drop 0 = dktX13_sum_0 := by decide +kernel
theorem dksX13_sum_1 : cX13_sum.data.toList.drop 24 = dktX13_sum_1 := dk_seg dksX13_sum_0 24 rfl rfl
theorem dksX13_sum_2 : cX13_sum.data.toList.drop 48 = dktX13_sum_2 := dk_seg dksX13_sum_1 24 rfl rfl
theorem dksX13_sum_3 : cX13_sum.data.toList.drop 72 = dktX13_sum_3 := dk_seg dksX13_sum_2 24 rfl rfl
theorem dX13_sum_0 : decode cX13_sum 0 = .ok (.aload_n 0, 1) := dk_42 (dk_at dksX13_sum_0 0 rfl rfl)
theorem dX13_sum_1 : decode cX13_sum 1 = .ok (.invokevirtual 30, 3) := dk_182 0 30 (dk_at dksX13_sum_0 1 rfl rfl)
theorem dX13_sum_4 : decode cX13_sum 4 = .ok (.astore_n 1, 1) := dk_76 (dk_at dksX13_sum_0 4 rfl rfl)
theorem dX13_sum_5 : decode cX13_sum 5 = .ok (.aload_n 0, 1) := dk_42 (dk_at dksX13_sum_0 5 rfl rfl)
theorem dX13_sum_6 : decode cX13_sum 6 = .ok (.invokevirtual 15, 3) := dk_182 0 15 (dk_at dksX13_sum_0 6 rfl rfl)
theorem dX13_sum_9 : decode cX13_sum 9 = .ok (.bipush 43, 2) := dk_16 43 (dk_at dksX13_sum_0 9 rfl rfl)
theorem dX13_sum_11 : decode cX13_sum 11 = .ok (.if_icmp .eq 12, 3) := dk_159 0 12 (dk_at dksX13_sum_0 11 rfl rfl)
theorem dX13_sum_14 : decode cX13_sum 14 = .ok (.aload_n 0, 1) := dk_42 (dk_at dksX13_sum_0 14 rfl rfl)
theorem dX13_sum_15 : decode cX13_sum 15 = .ok (.invokevirtual 15, 3) := dk_182 0 15 (dk_at dksX13_sum_0 15 rfl rfl)
theorem dX13_sum_18 : decode cX13_sum 18 = .ok (.bipush 45, 2) := dk_16 45 (dk_at dksX13_sum_0 18 rfl rfl)
theorem dX13_sum_20 : decode cX13_sum 20 = .ok (.if_icmp .ne 62, 3) := dk_160 0 62 (dk_at dksX13_sum_0 20 rfl rfl)
theorem dX13_sum_23 : decode cX13_sum 23 = .ok (.aload_n 0, 1) := dk_42 (dk_at dksX13_sum_0 23 rfl rfl)
theorem dX13_sum_24 : decode cX13_sum 24 = .ok (.invokevirtual 15, 3) := dk_182 0 15 (dk_at dksX13_sum_1 0 rfl rfl)
theorem dX13_sum_27 : decode cX13_sum 27 = .ok (.bipush 43, 2) := dk_16 43 (dk_at dksX13_sum_1 3 rfl rfl)
theorem dX13_sum_29 : decode cX13_sum 29 = .ok (.if_icmp .ne 7, 3) := dk_160 0 7 (dk_at dksX13_sum_1 5 rfl rfl)
theorem dX13_sum_32 : decode cX13_sum 32 = .ok (.iconst 1, 1) := dk_4 (dk_at dksX13_sum_1 8 rfl rfl)
theorem dX13_sum_33 : decode cX13_sum 33 = .ok (.goto 4, 3) := dk_167 0 4 (dk_at dksX13_sum_1 9 rfl rfl)
theorem dX13_sum_36 : decode cX13_sum 36 = .ok (.iconst 0, 1) := dk_3 (dk_at dksX13_sum_1 12 rfl rfl)
theorem dX13_sum_37 : decode cX13_sum 37 = .ok (.istore_n 2, 1) := dk_61 (dk_at dksX13_sum_1 13 rfl rfl)
theorem dX13_sum_38 : decode cX13_sum 38 = .ok (.aload_n 0, 1) := dk_42 (dk_at dksX13_sum_1 14 rfl rfl)
theorem dX13_sum_39 : decode cX13_sum 39 = .ok (.dup, 1) := dk_89 (dk_at dksX13_sum_1 15 rfl rfl)
theorem dX13_sum_40 : decode cX13_sum 40 = .ok (.getfield 19, 3) := dk_180 0 19 (dk_at dksX13_sum_1 16 rfl rfl)
theorem dX13_sum_43 : decode cX13_sum 43 = .ok (.iconst 1, 1) := dk_4 (dk_at dksX13_sum_1 19 rfl rfl)
theorem dX13_sum_44 : decode cX13_sum 44 = .ok (.iadd, 1) := dk_96 (dk_at dksX13_sum_1 20 rfl rfl)
theorem dX13_sum_45 : decode cX13_sum 45 = .ok (.putfield 19, 3) := dk_181 0 19 (dk_at dksX13_sum_1 21 rfl rfl)
theorem dX13_sum_48 : decode cX13_sum 48 = .ok (.aload_n 0, 1) := dk_42 (dk_at dksX13_sum_2 0 rfl rfl)
theorem dX13_sum_49 : decode cX13_sum 49 = .ok (.invokevirtual 30, 3) := dk_182 0 30 (dk_at dksX13_sum_2 1 rfl rfl)
theorem dX13_sum_52 : decode cX13_sum 52 = .ok (.astore_n 3, 1) := dk_78 (dk_at dksX13_sum_2 4 rfl rfl)
theorem dX13_sum_53 : decode cX13_sum 53 = .ok (.iload_n 2, 1) := dk_28 (dk_at dksX13_sum_2 5 rfl rfl)
theorem dX13_sum_54 : decode cX13_sum 54 = .ok (.ifCond .eq 15, 3) := dk_153 0 15 (dk_at dksX13_sum_2 6 rfl rfl)
theorem dX13_sum_57 : decode cX13_sum 57 = .ok (.new 33, 3) := dk_187 0 33 (dk_at dksX13_sum_2 9 rfl rfl)
theorem dX13_sum_60 : decode cX13_sum 60 = .ok (.dup, 1) := dk_89 (dk_at dksX13_sum_2 12 rfl rfl)
theorem dX13_sum_61 : decode cX13_sum 61 = .ok (.aload_n 1, 1) := dk_43 (dk_at dksX13_sum_2 13 rfl rfl)
theorem dX13_sum_62 : decode cX13_sum 62 = .ok (.aload_n 3, 1) := dk_45 (dk_at dksX13_sum_2 14 rfl rfl)
theorem dX13_sum_63 : decode cX13_sum 63 = .ok (.invokespecial 35, 3) := dk_183 0 35 (dk_at dksX13_sum_2 15 rfl rfl)
theorem dX13_sum_66 : decode cX13_sum 66 = .ok (.goto 12, 3) := dk_167 0 12 (dk_at dksX13_sum_2 18 rfl rfl)
theorem dX13_sum_69 : decode cX13_sum 69 = .ok (.new 38, 3) := dk_187 0 38 (dk_at dksX13_sum_2 21 rfl rfl)
theorem dX13_sum_72 : decode cX13_sum 72 = .ok (.dup, 1) := dk_89 (dk_at dksX13_sum_3 0 rfl rfl)
theorem dX13_sum_73 : decode cX13_sum 73 = .ok (.aload_n 1, 1) := dk_43 (dk_at dksX13_sum_3 1 rfl rfl)
theorem dX13_sum_74 : decode cX13_sum 74 = .ok (.aload_n 3, 1) := dk_45 (dk_at dksX13_sum_3 2 rfl rfl)
theorem dX13_sum_75 : decode cX13_sum 75 = .ok (.invokespecial 40, 3) := dk_183 0 40 (dk_at dksX13_sum_3 3 rfl rfl)
theorem dX13_sum_78 : decode cX13_sum 78 = .ok (.astore_n 1, 1) := dk_76 (dk_at dksX13_sum_3 6 rfl rfl)
theorem dX13_sum_79 : decode cX13_sum 79 = .ok (.goto (-74), 3) := dk_167 255 182 (dk_at dksX13_sum_3 7 rfl rfl)
theorem dX13_sum_82 : decode cX13_sum 82 = .ok (.aload_n 1, 1) := dk_43 (dk_at dksX13_sum_3 10 rfl rfl)
theorem dX13_sum_83 : decode cX13_sum 83 = .ok (.areturn, 1) := dk_176 (dk_at dksX13_sum_3 11 rfl rfl)
abbrev cX13_product : ByteArray := prog_7_method_4_code
def yX13_product : MethodName := ⟨RX13, "product", "()LTunedHouses$Term;"⟩
def dkwX13_product_4 : List UInt8 := [183, 0, 52, 76, 167, 255, 163, 43, 176]
abbrev dktX13_product_4 : List UInt8 := dkwX13_product_4 ++ []
def dkwX13_product_3 : List UInt8 := [16, 47, 160, 0, 15, 187, 0, 47, 89, 43, 45, 183, 0, 49, 167, 0, 12, 187, 0, 50, 89, 43, 45]
abbrev dktX13_product_3 : List UInt8 := dkwX13_product_3 ++ dktX13_product_4
def dkwX13_product_2 : List UInt8 := [182, 0, 41, 78, 28, 16, 42, 160, 0, 15, 187, 0, 44, 89, 43, 45, 183, 0, 46, 167, 0, 30, 28]
abbrev dktX13_product_2 : List UInt8 := dkwX13_product_2 ++ dktX13_product_3
def dkwX13_product_1 : List UInt8 := [182, 0, 15, 16, 37, 160, 0, 72, 42, 182, 0, 15, 61, 42, 89, 180, 0, 19, 4, 96, 181, 0, 19, 42]
abbrev dktX13_product_1 : List UInt8 := dkwX13_product_1 ++ dktX13_product_2
def dkwX13_product_0 : List UInt8 := [42, 182, 0, 41, 76, 42, 182, 0, 15, 16, 42, 159, 0, 21, 42, 182, 0, 15, 16, 47, 159, 0, 12, 42]
abbrev dktX13_product_0 : List UInt8 := dkwX13_product_0 ++ dktX13_product_1
theorem dksX13_product_0 : cX13_product.data.toList.drop 0 = dktX13_product_0 := by decide +kernel
theorem dksX13_product_1 : cX13_product.data.toList.drop 24 = dktX13_product_1 := dk_seg dksX13_product_0 24 rfl rfl
theorem dksX13_product_2 : cX13_product.data.toList.drop 48 = dktX13_product_2 := dk_seg dksX13_product_1 24 rfl rfl
theorem dksX13_product_3 : cX13_product.data.toList.drop 71 = dktX13_product_3 := dk_seg dksX13_product_2 23 rfl rfl
theorem dksX13_product_4 : cX13_product.data.toList.drop 94 = dktX13_product_4 := dk_seg dksX13_product_3 23 rfl rfl
theorem dX13_product_0 : decode cX13_product 0 = .ok (.aload_n 0, 1) := dk_42 (dk_at dksX13_product_0 0 rfl rfl)
theorem dX13_product_1 : decode cX13_product 1 = .ok (.invokevirtual 41, 3) := dk_182 0 41 (dk_at dksX13_product_0 1 rfl rfl)
theorem dX13_product_4 : decode cX13_product 4 = .ok (.astore_n 1, 1) := dk_76 (dk_at dksX13_product_0 4 rfl rfl)
theorem dX13_product_5 : decode cX13_product 5 = .ok (.aload_n 0, 1) := dk_42 (dk_at dksX13_product_0 5 rfl rfl)
theorem dX13_product_6 : decode cX13_product 6 = .ok (.invokevirtual 15, 3) := dk_182 0 15 (dk_at dksX13_product_0 6 rfl rfl)
theorem dX13_product_9 : decode cX13_product 9 = .ok (.bipush 42, 2) := dk_16 42 (dk_at dksX13_product_0 9 rfl rfl)
theorem dX13_product_11 : decode cX13_product 11 = .ok (.if_icmp .eq 21, 3) := dk_159 0 21 (dk_at dksX13_product_0 11 rfl rfl)
theorem dX13_product_14 : decode cX13_product 14 = .ok (.aload_n 0, 1) := dk_42 (dk_at dksX13_product_0 14 rfl rfl)
theorem dX13_product_15 : decode cX13_product 15 = .ok (.invokevirtual 15, 3) := dk_182 0 15 (dk_at dksX13_product_0 15 rfl rfl)
theorem dX13_product_18 : decode cX13_product 18 = .ok (.bipush 47, 2) := dk_16 47 (dk_at dksX13_product_0 18 rfl rfl)
theorem dX13_product_20 : decode cX13_product 20 = .ok (.if_icmp .eq 12, 3) := dk_159 0 12 (dk_at dksX13_product_0 20 rfl rfl)
theorem dX13_product_23 : decode cX13_product 23 = .ok (.aload_n 0, 1) := dk_42 (dk_at dksX13_product_0 23 rfl rfl)
theorem dX13_product_24 : decode cX13_product 24 = .ok (.invokevirtual 15, 3) := dk_182 0 15 (dk_at dksX13_product_1 0 rfl rfl)
theorem dX13_product_27 : decode cX13_product 27 = .ok (.bipush 37, 2) := dk_16 37 (dk_at dksX13_product_1 3 rfl rfl)
theorem dX13_product_29 : decode cX13_product 29 = .ok (.if_icmp .ne 72, 3) := dk_160 0 72 (dk_at dksX13_product_1 5 rfl rfl)
theorem dX13_product_32 : decode cX13_product 32 = .ok (.aload_n 0, 1) := dk_42 (dk_at dksX13_product_1 8 rfl rfl)
theorem dX13_product_33 : decode cX13_product 33 = .ok (.invokevirtual 15, 3) := dk_182 0 15 (dk_at dksX13_product_1 9 rfl rfl)
theorem dX13_product_36 : decode cX13_product 36 = .ok (.istore_n 2, 1) := dk_61 (dk_at dksX13_product_1 12 rfl rfl)
theorem dX13_product_37 : decode cX13_product 37 = .ok (.aload_n 0, 1) := dk_42 (dk_at dksX13_product_1 13 rfl rfl)
theorem dX13_product_38 : decode cX13_product 38 = .ok (.dup, 1) := dk_89 (dk_at dksX13_product_1 14 rfl rfl)
theorem dX13_product_39 : decode cX13_product 39 = .ok (.getfield 19, 3) := dk_180 0 19 (dk_at dksX13_product_1 15 rfl rfl)
theorem dX13_product_42 : decode cX13_product 42 = .ok (.iconst 1, 1) := dk_4 (dk_at dksX13_product_1 18 rfl rfl)
theorem dX13_product_43 : decode cX13_product 43 = .ok (.iadd, 1) := dk_96 (dk_at dksX13_product_1 19 rfl rfl)
theorem dX13_product_44 : decode cX13_product 44 = .ok (.putfield 19, 3) := dk_181 0 19 (dk_at dksX13_product_1 20 rfl rfl)
theorem dX13_product_47 : decode cX13_product 47 = .ok (.aload_n 0, 1) := dk_42 (dk_at dksX13_product_1 23 rfl rfl)
theorem dX13_product_48 : decode cX13_product 48 = .ok (.invokevirtual 41, 3) := dk_182 0 41 (dk_at dksX13_product_2 0 rfl rfl)
theorem dX13_product_51 : decode cX13_product 51 = .ok (.astore_n 3, 1) := dk_78 (dk_at dksX13_product_2 3 rfl rfl)
theorem dX13_product_52 : decode cX13_product 52 = .ok (.iload_n 2, 1) := dk_28 (dk_at dksX13_product_2 4 rfl rfl)
theorem dX13_product_53 : decode cX13_product 53 = .ok (.bipush 42, 2) := dk_16 42 (dk_at dksX13_product_2 5 rfl rfl)
theorem dX13_product_55 : decode cX13_product 55 = .ok (.if_icmp .ne 15, 3) := dk_160 0 15 (dk_at dksX13_product_2 7 rfl rfl)
theorem dX13_product_58 : decode cX13_product 58 = .ok (.new 44, 3) := dk_187 0 44 (dk_at dksX13_product_2 10 rfl rfl)
theorem dX13_product_61 : decode cX13_product 61 = .ok (.dup, 1) := dk_89 (dk_at dksX13_product_2 13 rfl rfl)
theorem dX13_product_62 : decode cX13_product 62 = .ok (.aload_n 1, 1) := dk_43 (dk_at dksX13_product_2 14 rfl rfl)
theorem dX13_product_63 : decode cX13_product 63 = .ok (.aload_n 3, 1) := dk_45 (dk_at dksX13_product_2 15 rfl rfl)
theorem dX13_product_64 : decode cX13_product 64 = .ok (.invokespecial 46, 3) := dk_183 0 46 (dk_at dksX13_product_2 16 rfl rfl)
theorem dX13_product_67 : decode cX13_product 67 = .ok (.goto 30, 3) := dk_167 0 30 (dk_at dksX13_product_2 19 rfl rfl)
theorem dX13_product_70 : decode cX13_product 70 = .ok (.iload_n 2, 1) := dk_28 (dk_at dksX13_product_2 22 rfl rfl)
theorem dX13_product_71 : decode cX13_product 71 = .ok (.bipush 47, 2) := dk_16 47 (dk_at dksX13_product_3 0 rfl rfl)
theorem dX13_product_73 : decode cX13_product 73 = .ok (.if_icmp .ne 15, 3) := dk_160 0 15 (dk_at dksX13_product_3 2 rfl rfl)
theorem dX13_product_76 : decode cX13_product 76 = .ok (.new 47, 3) := dk_187 0 47 (dk_at dksX13_product_3 5 rfl rfl)
theorem dX13_product_79 : decode cX13_product 79 = .ok (.dup, 1) := dk_89 (dk_at dksX13_product_3 8 rfl rfl)
theorem dX13_product_80 : decode cX13_product 80 = .ok (.aload_n 1, 1) := dk_43 (dk_at dksX13_product_3 9 rfl rfl)
theorem dX13_product_81 : decode cX13_product 81 = .ok (.aload_n 3, 1) := dk_45 (dk_at dksX13_product_3 10 rfl rfl)
theorem dX13_product_82 : decode cX13_product 82 = .ok (.invokespecial 49, 3) := dk_183 0 49 (dk_at dksX13_product_3 11 rfl rfl)
theorem dX13_product_85 : decode cX13_product 85 = .ok (.goto 12, 3) := dk_167 0 12 (dk_at dksX13_product_3 14 rfl rfl)
theorem dX13_product_88 : decode cX13_product 88 = .ok (.new 50, 3) := dk_187 0 50 (dk_at dksX13_product_3 17 rfl rfl)
theorem dX13_product_91 : decode cX13_product 91 = .ok (.dup, 1) := dk_89 (dk_at dksX13_product_3 20 rfl rfl)
theorem dX13_product_92 : decode cX13_product 92 = .ok (.aload_n 1, 1) := dk_43 (dk_at dksX13_product_3 21 rfl rfl)
theorem dX13_product_93 : decode cX13_product 93 = .ok (.aload_n 3, 1) := dk_45 (dk_at dksX13_product_3 22 rfl rfl)
theorem dX13_product_94 : decode cX13_product 94 = .ok (.invokespecial 52, 3) := dk_183 0 52 (dk_at dksX13_product_4 0 rfl rfl)
theorem dX13_product_97 : decode cX13_product 97 = .ok (.astore_n 1, 1) := dk_76 (dk_at dksX13_product_4 3 rfl rfl)
theorem dX13_product_98 : decode cX13_product 98 = .ok (.goto (-93), 3) := dk_167 255 163 (dk_at dksX13_product_4 4 rfl rfl)
theorem dX13_product_101 : decode cX13_product 101 = .ok (.aload_n 1, 1) := dk_43 (dk_at dksX13_product_4 7 rfl rfl)
theorem dX13_product_102 : decode cX13_product 102 = .ok (.areturn, 1) := dk_176 (dk_at dksX13_product_4 8 rfl rfl)
abbrev cX13_unit : ByteArray := prog_7_method_5_code
def yX13_unit : MethodName := ⟨RX13, "unit", "()LTunedHouses$Term;"⟩
def dkwX13_unit_15 : List UInt8 := [182, 0, 103, 176, 42, 44, 16, 7, 182, 0, 103, 176, 42, 44, 182, 0, 107, 176, 42, 182, 0, 26, 191]
abbrev dktX13_unit_15 : List UInt8 := dkwX13_unit_15 ++ []
def dkwX13_unit_14 : List UInt8 := [182, 0, 103, 176, 42, 44, 7, 182, 0, 103, 176, 42, 44, 8, 182, 0, 103, 176, 42, 44, 16, 6]
abbrev dktX13_unit_14 : List UInt8 := dkwX13_unit_14 ++ dktX13_unit_15
def dkwX13_unit_13 : List UInt8 := [42, 44, 3, 182, 0, 103, 176, 42, 44, 4, 182, 0, 103, 176, 42, 44, 5, 182, 0, 103, 176, 42, 44, 6]
abbrev dktX13_unit_13 : List UInt8 := dkwX13_unit_13 ++ dktX13_unit_14
def dkwX13_unit_12 : List UInt8 := [170, 0, 0, 0, 0, 0, 119, 0, 0, 0, 0, 0, 0, 0, 9, 0, 0, 0, 55, 0, 0, 0, 62, 0, 0, 0, 69, 0, 0, 0, 76, 0, 0, 0, 83, 0, 0, 0, 90, 0, 0, 0, 97, 0, 0, 0, 105, 0, 0, 0, 113, 0, 0, 0, 113]
abbrev dktX13_unit_12 : List UInt8 := dkwX13_unit_12 ++ dktX13_unit_13
def dkwX13_unit_11 : List UInt8 := [182, 0, 82, 153, 0, 7, 16, 9, 54, 4, 21, 4]
abbrev dktX13_unit_11 : List UInt8 := dkwX13_unit_11 ++ dktX13_unit_12
def dkwX13_unit_10 : List UInt8 := [167, 0, 32, 45, 18, 99, 182, 0, 82, 153, 0, 23, 16, 8, 54, 4, 167, 0, 16, 45, 18, 101]
abbrev dktX13_unit_10 : List UInt8 := dkwX13_unit_10 ++ dktX13_unit_11
def dkwX13_unit_9 : List UInt8 := [153, 0, 55, 16, 6, 54, 4, 167, 0, 48, 45, 18, 97, 182, 0, 82, 153, 0, 39, 16, 7, 54, 4]
abbrev dktX13_unit_9 : List UInt8 := dkwX13_unit_9 ++ dktX13_unit_10
def dkwX13_unit_8 : List UInt8 := [167, 0, 79, 45, 18, 94, 182, 0, 82, 153, 0, 70, 8, 54, 4, 167, 0, 64, 45, 18, 95, 182, 0, 82]
abbrev dktX13_unit_8 : List UInt8 := dkwX13_unit_8 ++ dktX13_unit_9
def dkwX13_unit_7 : List UInt8 := [182, 0, 82, 153, 0, 100, 6, 54, 4, 167, 0, 94, 45, 18, 92, 182, 0, 82, 153, 0, 85, 7, 54, 4]
abbrev dktX13_unit_7 : List UInt8 := dkwX13_unit_7 ++ dktX13_unit_8
def dkwX13_unit_6 : List UInt8 := [4, 54, 4, 167, 0, 124, 45, 18, 88, 182, 0, 82, 153, 0, 115, 5, 54, 4, 167, 0, 109, 45, 18, 90]
abbrev dktX13_unit_6 : List UInt8 := dkwX13_unit_6 ++ dktX13_unit_7
def dkwX13_unit_5 : List UInt8 := [45, 18, 80, 182, 0, 82, 153, 0, 145, 3, 54, 4, 167, 0, 139, 45, 18, 86, 182, 0, 82, 153, 0, 130]
abbrev dktX13_unit_5 : List UInt8 := dkwX13_unit_5 ++ dktX13_unit_6
def dkwX13_unit_4 : List UInt8 := [171, 0, 0, 0, 0, 0, 242, 0, 0, 0, 10, 202, 213, 118, 151, 0, 0, 0, 91, 0, 1, 131, 156, 0, 0, 0, 197, 0, 46, 240, 87, 0, 0, 0, 121, 0, 47, 230, 135, 0, 0, 0, 106, 0, 48, 207, 240, 0, 0, 0, 136, 0, 51, 59, 131, 0, 0, 0, 229, 0, 51, 138, 243, 0, 0, 0, 166, 5, 237, 199, 32, 0, 0, 0, 181, 6, 33, 78, 105, 0, 0, 0, 213, 6, 147, 132, 238, 0, 0, 0, 151]
abbrev dktX13_unit_4 : List UInt8 := dkwX13_unit_4 ++ dktX13_unit_5
def dkwX13_unit_3 : List UInt8 := [44, 78, 2, 54, 4, 45, 182, 0, 75]
abbrev dktX13_unit_3 : List UInt8 := dkwX13_unit_3 ++ dktX13_unit_4
def dkwX13_unit_2 : List UInt8 := [163, 0, 19, 187, 0, 63, 89, 42, 3, 17, 3, 231, 182, 0, 65, 183, 0, 69, 176, 42, 182, 0, 71, 77]
abbrev dktX13_unit_2 : List UInt8 := dkwX13_unit_2 ++ dktX13_unit_3
def dkwX13_unit_1 : List UInt8 := [182, 0, 57, 42, 89, 180, 0, 60, 4, 100, 181, 0, 60, 44, 176, 27, 16, 48, 161, 0, 25, 27, 16, 57]
abbrev dktX13_unit_1 : List UInt8 := dkwX13_unit_1 ++ dktX13_unit_2
def dkwX13_unit_0 : List UInt8 := [42, 182, 0, 15, 60, 27, 16, 40, 160, 0, 31, 42, 4, 182, 0, 53, 42, 182, 0, 9, 77, 42, 16, 41]
abbrev dktX13_unit_0 : List UInt8 := dkwX13_unit_0 ++ dktX13_unit_1
theorem dksX13_unit_0 : cX13_unit.data.toList.drop 0 = dktX13_unit_0 := by decide +kernel
theorem dksX13_unit_1 : cX13_unit.data.toList.drop 24 = dktX13_unit_1 := dk_seg dksX13_unit_0 24 rfl rfl
theorem dksX13_unit_2 : cX13_unit.data.toList.drop 48 = dktX13_unit_2 := dk_seg dksX13_unit_1 24 rfl rfl
theorem dksX13_unit_3 : cX13_unit.data.toList.drop 72 = dktX13_unit_3 := dk_seg dksX13_unit_2 24 rfl rfl
theorem dksX13_unit_4 : cX13_unit.data.toList.drop 81 = dktX13_unit_4 := dk_seg dksX13_unit_3 9 rfl rfl
theorem dksX13_unit_5 : cX13_unit.data.toList.drop 172 = dktX13_unit_5 := dk_seg dksX13_unit_4 91 rfl rfl
theorem dksX13_unit_6 : cX13_unit.data.toList.drop 196 = dktX13_unit_6 := dk_seg dksX13_unit_5 24 rfl rfl
theorem dksX13_unit_7 : cX13_unit.data.toList.drop 220 = dktX13_unit_7 := dk_seg dksX13_unit_6 24 rfl rfl
theorem dksX13_unit_8 : cX13_unit.data.toList.drop 244 = dktX13_unit_8 := dk_seg dksX13_unit_7 24 rfl rfl
theorem dksX13_unit_9 : cX13_unit.data.toList.drop 268 = dktX13_unit_9 := dk_seg dksX13_unit_8 24 rfl rfl
theorem dksX13_unit_10 : cX13_unit.data.toList.drop 291 = dktX13_unit_10 := dk_seg dksX13_unit_9 23 rfl rfl
theorem dksX13_unit_11 : cX13_unit.data.toList.drop 313 = dktX13_unit_11 := dk_seg dksX13_unit_10 22 rfl rfl
theorem dksX13_unit_12 : cX13_unit.data.toList.drop 325 = dktX13_unit_12 := dk_seg dksX13_unit_11 12 rfl rfl
theorem dksX13_unit_13 : cX13_unit.data.toList.drop 380 = dktX13_unit_13 := dk_seg dksX13_unit_12 55 rfl rfl
theorem dksX13_unit_14 : cX13_unit.data.toList.drop 404 = dktX13_unit_14 := dk_seg dksX13_unit_13 24 rfl rfl
theorem dksX13_unit_15 : cX13_unit.data.toList.drop 426 = dktX13_unit_15 := dk_seg dksX13_unit_14 22 rfl rfl
theorem dX13_unit_0 : decode cX13_unit 0 = .ok (.aload_n 0, 1) := dk_42 (dk_at dksX13_unit_0 0 rfl rfl)
theorem dX13_unit_1 : decode cX13_unit 1 = .ok (.invokevirtual 15, 3) := dk_182 0 15 (dk_at dksX13_unit_0 1 rfl rfl)
theorem dX13_unit_4 : decode cX13_unit 4 = .ok (.istore_n 1, 1) := dk_60 (dk_at dksX13_unit_0 4 rfl rfl)
theorem dX13_unit_5 : decode cX13_unit 5 = .ok (.iload_n 1, 1) := dk_27 (dk_at dksX13_unit_0 5 rfl rfl)
theorem dX13_unit_6 : decode cX13_unit 6 = .ok (.bipush 40, 2) := dk_16 40 (dk_at dksX13_unit_0 6 rfl rfl)
theorem dX13_unit_8 : decode cX13_unit 8 = .ok (.if_icmp .ne 31, 3) := dk_160 0 31 (dk_at dksX13_unit_0 8 rfl rfl)
theorem dX13_unit_11 : decode cX13_unit 11 = .ok (.aload_n 0, 1) := dk_42 (dk_at dksX13_unit_0 11 rfl rfl)
theorem dX13_unit_12 : decode cX13_unit 12 = .ok (.iconst 1, 1) := dk_4 (dk_at dksX13_unit_0 12 rfl rfl)
theorem dX13_unit_13 : decode cX13_unit 13 = .ok (.invokevirtual 53, 3) := dk_182 0 53 (dk_at dksX13_unit_0 13 rfl rfl)
theorem dX13_unit_16 : decode cX13_unit 16 = .ok (.aload_n 0, 1) := dk_42 (dk_at dksX13_unit_0 16 rfl rfl)
theorem dX13_unit_17 : decode cX13_unit 17 = .ok (.invokevirtual 9, 3) := dk_182 0 9 (dk_at dksX13_unit_0 17 rfl rfl)
theorem dX13_unit_20 : decode cX13_unit 20 = .ok (.astore_n 2, 1) := dk_77 (dk_at dksX13_unit_0 20 rfl rfl)
theorem dX13_unit_21 : decode cX13_unit 21 = .ok (.aload_n 0, 1) := dk_42 (dk_at dksX13_unit_0 21 rfl rfl)
theorem dX13_unit_22 : decode cX13_unit 22 = .ok (.bipush 41, 2) := dk_16 41 (dk_at dksX13_unit_0 22 rfl rfl)
theorem dX13_unit_24 : decode cX13_unit 24 = .ok (.invokevirtual 57, 3) := dk_182 0 57 (dk_at dksX13_unit_1 0 rfl rfl)
theorem dX13_unit_27 : decode cX13_unit 27 = .ok (.aload_n 0, 1) := dk_42 (dk_at dksX13_unit_1 3 rfl rfl)
theorem dX13_unit_28 : decode cX13_unit 28 = .ok (.dup, 1) := dk_89 (dk_at dksX13_unit_1 4 rfl rfl)
theorem dX13_unit_29 : decode cX13_unit 29 = .ok (.getfield 60, 3) := dk_180 0 60 (dk_at dksX13_unit_1 5 rfl rfl)
theorem dX13_unit_32 : decode cX13_unit 32 = .ok (.iconst 1, 1) := dk_4 (dk_at dksX13_unit_1 8 rfl rfl)
theorem dX13_unit_33 : decode cX13_unit 33 = .ok (.isub, 1) := dk_100 (dk_at dksX13_unit_1 9 rfl rfl)
theorem dX13_unit_34 : decode cX13_unit 34 = .ok (.putfield 60, 3) := dk_181 0 60 (dk_at dksX13_unit_1 10 rfl rfl)
theorem dX13_unit_37 : decode cX13_unit 37 = .ok (.aload_n 2, 1) := dk_44 (dk_at dksX13_unit_1 13 rfl rfl)
theorem dX13_unit_38 : decode cX13_unit 38 = .ok (.areturn, 1) := dk_176 (dk_at dksX13_unit_1 14 rfl rfl)
theorem dX13_unit_39 : decode cX13_unit 39 = .ok (.iload_n 1, 1) := dk_27 (dk_at dksX13_unit_1 15 rfl rfl)
theorem dX13_unit_40 : decode cX13_unit 40 = .ok (.bipush 48, 2) := dk_16 48 (dk_at dksX13_unit_1 16 rfl rfl)
theorem dX13_unit_42 : decode cX13_unit 42 = .ok (.if_icmp .lt 25, 3) := dk_161 0 25 (dk_at dksX13_unit_1 18 rfl rfl)
theorem dX13_unit_45 : decode cX13_unit 45 = .ok (.iload_n 1, 1) := dk_27 (dk_at dksX13_unit_1 21 rfl rfl)
theorem dX13_unit_46 : decode cX13_unit 46 = .ok (.bipush 57, 2) := dk_16 57 (dk_at dksX13_unit_1 22 rfl rfl)
theorem dX13_unit_48 : decode cX13_unit 48 = .ok (.if_icmp .gt 19, 3) := dk_163 0 19 (dk_at dksX13_unit_2 0 rfl rfl)
theorem dX13_unit_51 : decode cX13_unit 51 = .ok (.new 63, 3) := dk_187 0 63 (dk_at dksX13_unit_2 3 rfl rfl)
theorem dX13_unit_54 : decode cX13_unit 54 = .ok (.dup, 1) := dk_89 (dk_at dksX13_unit_2 6 rfl rfl)
theorem dX13_unit_55 : decode cX13_unit 55 = .ok (.aload_n 0, 1) := dk_42 (dk_at dksX13_unit_2 7 rfl rfl)
theorem dX13_unit_56 : decode cX13_unit 56 = .ok (.iconst 0, 1) := dk_3 (dk_at dksX13_unit_2 8 rfl rfl)
theorem dX13_unit_57 : decode cX13_unit 57 = .ok (.sipush 999, 3) := dk_17 3 231 (dk_at dksX13_unit_2 9 rfl rfl)
theorem dX13_unit_60 : decode cX13_unit 60 = .ok (.invokevirtual 65, 3) := dk_182 0 65 (dk_at dksX13_unit_2 12 rfl rfl)
theorem dX13_unit_63 : decode cX13_unit 63 = .ok (.invokespecial 69, 3) := dk_183 0 69 (dk_at dksX13_unit_2 15 rfl rfl)
theorem dX13_unit_66 : decode cX13_unit 66 = .ok (.areturn, 1) := dk_176 (dk_at dksX13_unit_2 18 rfl rfl)
theorem dX13_unit_67 : decode cX13_unit 67 = .ok (.aload_n 0, 1) := dk_42 (dk_at dksX13_unit_2 19 rfl rfl)
theorem dX13_unit_68 : decode cX13_unit 68 = .ok (.invokevirtual 71, 3) := dk_182 0 71 (dk_at dksX13_unit_2 20 rfl rfl)
theorem dX13_unit_71 : decode cX13_unit 71 = .ok (.astore_n 2, 1) := dk_77 (dk_at dksX13_unit_2 23 rfl rfl)
theorem dX13_unit_72 : decode cX13_unit 72 = .ok (.aload_n 2, 1) := dk_44 (dk_at dksX13_unit_3 0 rfl rfl)
theorem dX13_unit_73 : decode cX13_unit 73 = .ok (.astore_n 3, 1) := dk_78 (dk_at dksX13_unit_3 1 rfl rfl)
theorem dX13_unit_74 : decode cX13_unit 74 = .ok (.iconst (-1), 1) := dk_2 (dk_at dksX13_unit_3 2 rfl rfl)
theorem dX13_unit_75 : decode cX13_unit 75 = .ok (.istore 4, 2) := dk_54 4 (dk_at dksX13_unit_3 3 rfl rfl)
theorem dX13_unit_77 : decode cX13_unit 77 = .ok (.aload_n 3, 1) := dk_45 (dk_at dksX13_unit_3 5 rfl rfl)
theorem dX13_unit_78 : decode cX13_unit 78 = .ok (.invokevirtual 75, 3) := dk_182 0 75 (dk_at dksX13_unit_3 6 rfl rfl)
theorem dX13_unit_81 : decode cX13_unit 81 = .ok (.lookupswitch 242 #[(-891980137, 91), (99228, 197), (3076183, 121), (3139207, 106), (3198960, 136), (3357571, 229), (3377907, 166), (99469088, 181), (102846057, 213), (110331118, 151)], 91) := by decide +kernel
theorem dX13_unit_172 : decode cX13_unit 172 = .ok (.aload_n 3, 1) := dk_45 (dk_at dksX13_unit_5 0 rfl rfl)
theorem dX13_unit_173 : decode cX13_unit 173 = .ok (.ldc 80, 2) := dk_18 80 (dk_at dksX13_unit_5 1 rfl rfl)
theorem dX13_unit_175 : decode cX13_unit 175 = .ok (.invokevirtual 82, 3) := dk_182 0 82 (dk_at dksX13_unit_5 3 rfl rfl)
theorem dX13_unit_178 : decode cX13_unit 178 = .ok (.ifCond .eq 145, 3) := dk_153 0 145 (dk_at dksX13_unit_5 6 rfl rfl)
theorem dX13_unit_181 : decode cX13_unit 181 = .ok (.iconst 0, 1) := dk_3 (dk_at dksX13_unit_5 9 rfl rfl)
theorem dX13_unit_182 : decode cX13_unit 182 = .ok (.istore 4, 2) := dk_54 4 (dk_at dksX13_unit_5 10 rfl rfl)
theorem dX13_unit_184 : decode cX13_unit 184 = .ok (.goto 139, 3) := dk_167 0 139 (dk_at dksX13_unit_5 12 rfl rfl)
theorem dX13_unit_187 : decode cX13_unit 187 = .ok (.aload_n 3, 1) := dk_45 (dk_at dksX13_unit_5 15 rfl rfl)
theorem dX13_unit_188 : decode cX13_unit 188 = .ok (.ldc 86, 2) := dk_18 86 (dk_at dksX13_unit_5 16 rfl rfl)
theorem dX13_unit_190 : decode cX13_unit 190 = .ok (.invokevirtual 82, 3) := dk_182 0 82 (dk_at dksX13_unit_5 18 rfl rfl)
theorem dX13_unit_193 : decode cX13_unit 193 = .ok (.ifCond .eq 130, 3) := dk_153 0 130 (dk_at dksX13_unit_5 21 rfl rfl)
theorem dX13_unit_196 : decode cX13_unit 196 = .ok (.iconst 1, 1) := dk_4 (dk_at dksX13_unit_6 0 rfl rfl)
theorem dX13_unit_197 : decode cX13_unit 197 = .ok (.istore 4, 2) := dk_54 4 (dk_at dksX13_unit_6 1 rfl rfl)
theorem dX13_unit_199 : decode cX13_unit 199 = .ok (.goto 124, 3) := dk_167 0 124 (dk_at dksX13_unit_6 3 rfl rfl)
theorem dX13_unit_202 : decode cX13_unit 202 = .ok (.aload_n 3, 1) := dk_45 (dk_at dksX13_unit_6 6 rfl rfl)
theorem dX13_unit_203 : decode cX13_unit 203 = .ok (.ldc 88, 2) := dk_18 88 (dk_at dksX13_unit_6 7 rfl rfl)
theorem dX13_unit_205 : decode cX13_unit 205 = .ok (.invokevirtual 82, 3) := dk_182 0 82 (dk_at dksX13_unit_6 9 rfl rfl)
theorem dX13_unit_208 : decode cX13_unit 208 = .ok (.ifCond .eq 115, 3) := dk_153 0 115 (dk_at dksX13_unit_6 12 rfl rfl)
theorem dX13_unit_211 : decode cX13_unit 211 = .ok (.iconst 2, 1) := dk_5 (dk_at dksX13_unit_6 15 rfl rfl)
theorem dX13_unit_212 : decode cX13_unit 212 = .ok (.istore 4, 2) := dk_54 4 (dk_at dksX13_unit_6 16 rfl rfl)
theorem dX13_unit_214 : decode cX13_unit 214 = .ok (.goto 109, 3) := dk_167 0 109 (dk_at dksX13_unit_6 18 rfl rfl)
theorem dX13_unit_217 : decode cX13_unit 217 = .ok (.aload_n 3, 1) := dk_45 (dk_at dksX13_unit_6 21 rfl rfl)
theorem dX13_unit_218 : decode cX13_unit 218 = .ok (.ldc 90, 2) := dk_18 90 (dk_at dksX13_unit_6 22 rfl rfl)
theorem dX13_unit_220 : decode cX13_unit 220 = .ok (.invokevirtual 82, 3) := dk_182 0 82 (dk_at dksX13_unit_7 0 rfl rfl)
theorem dX13_unit_223 : decode cX13_unit 223 = .ok (.ifCond .eq 100, 3) := dk_153 0 100 (dk_at dksX13_unit_7 3 rfl rfl)
theorem dX13_unit_226 : decode cX13_unit 226 = .ok (.iconst 3, 1) := dk_6 (dk_at dksX13_unit_7 6 rfl rfl)
theorem dX13_unit_227 : decode cX13_unit 227 = .ok (.istore 4, 2) := dk_54 4 (dk_at dksX13_unit_7 7 rfl rfl)
theorem dX13_unit_229 : decode cX13_unit 229 = .ok (.goto 94, 3) := dk_167 0 94 (dk_at dksX13_unit_7 9 rfl rfl)
theorem dX13_unit_232 : decode cX13_unit 232 = .ok (.aload_n 3, 1) := dk_45 (dk_at dksX13_unit_7 12 rfl rfl)
theorem dX13_unit_233 : decode cX13_unit 233 = .ok (.ldc 92, 2) := dk_18 92 (dk_at dksX13_unit_7 13 rfl rfl)
theorem dX13_unit_235 : decode cX13_unit 235 = .ok (.invokevirtual 82, 3) := dk_182 0 82 (dk_at dksX13_unit_7 15 rfl rfl)
theorem dX13_unit_238 : decode cX13_unit 238 = .ok (.ifCond .eq 85, 3) := dk_153 0 85 (dk_at dksX13_unit_7 18 rfl rfl)
theorem dX13_unit_241 : decode cX13_unit 241 = .ok (.iconst 4, 1) := dk_7 (dk_at dksX13_unit_7 21 rfl rfl)
theorem dX13_unit_242 : decode cX13_unit 242 = .ok (.istore 4, 2) := dk_54 4 (dk_at dksX13_unit_7 22 rfl rfl)
theorem dX13_unit_244 : decode cX13_unit 244 = .ok (.goto 79, 3) := dk_167 0 79 (dk_at dksX13_unit_8 0 rfl rfl)
theorem dX13_unit_247 : decode cX13_unit 247 = .ok (.aload_n 3, 1) := dk_45 (dk_at dksX13_unit_8 3 rfl rfl)
theorem dX13_unit_248 : decode cX13_unit 248 = .ok (.ldc 94, 2) := dk_18 94 (dk_at dksX13_unit_8 4 rfl rfl)
theorem dX13_unit_250 : decode cX13_unit 250 = .ok (.invokevirtual 82, 3) := dk_182 0 82 (dk_at dksX13_unit_8 6 rfl rfl)
theorem dX13_unit_253 : decode cX13_unit 253 = .ok (.ifCond .eq 70, 3) := dk_153 0 70 (dk_at dksX13_unit_8 9 rfl rfl)
theorem dX13_unit_256 : decode cX13_unit 256 = .ok (.iconst 5, 1) := dk_8 (dk_at dksX13_unit_8 12 rfl rfl)
theorem dX13_unit_257 : decode cX13_unit 257 = .ok (.istore 4, 2) := dk_54 4 (dk_at dksX13_unit_8 13 rfl rfl)
theorem dX13_unit_259 : decode cX13_unit 259 = .ok (.goto 64, 3) := dk_167 0 64 (dk_at dksX13_unit_8 15 rfl rfl)
theorem dX13_unit_262 : decode cX13_unit 262 = .ok (.aload_n 3, 1) := dk_45 (dk_at dksX13_unit_8 18 rfl rfl)
theorem dX13_unit_263 : decode cX13_unit 263 = .ok (.ldc 95, 2) := dk_18 95 (dk_at dksX13_unit_8 19 rfl rfl)
theorem dX13_unit_265 : decode cX13_unit 265 = .ok (.invokevirtual 82, 3) := dk_182 0 82 (dk_at dksX13_unit_8 21 rfl rfl)
theorem dX13_unit_268 : decode cX13_unit 268 = .ok (.ifCond .eq 55, 3) := dk_153 0 55 (dk_at dksX13_unit_9 0 rfl rfl)
theorem dX13_unit_271 : decode cX13_unit 271 = .ok (.bipush 6, 2) := dk_16 6 (dk_at dksX13_unit_9 3 rfl rfl)
theorem dX13_unit_273 : decode cX13_unit 273 = .ok (.istore 4, 2) := dk_54 4 (dk_at dksX13_unit_9 5 rfl rfl)
theorem dX13_unit_275 : decode cX13_unit 275 = .ok (.goto 48, 3) := dk_167 0 48 (dk_at dksX13_unit_9 7 rfl rfl)
theorem dX13_unit_278 : decode cX13_unit 278 = .ok (.aload_n 3, 1) := dk_45 (dk_at dksX13_unit_9 10 rfl rfl)
theorem dX13_unit_279 : decode cX13_unit 279 = .ok (.ldc 97, 2) := dk_18 97 (dk_at dksX13_unit_9 11 rfl rfl)
theorem dX13_unit_281 : decode cX13_unit 281 = .ok (.invokevirtual 82, 3) := dk_182 0 82 (dk_at dksX13_unit_9 13 rfl rfl)
theorem dX13_unit_284 : decode cX13_unit 284 = .ok (.ifCond .eq 39, 3) := dk_153 0 39 (dk_at dksX13_unit_9 16 rfl rfl)
theorem dX13_unit_287 : decode cX13_unit 287 = .ok (.bipush 7, 2) := dk_16 7 (dk_at dksX13_unit_9 19 rfl rfl)
theorem dX13_unit_289 : decode cX13_unit 289 = .ok (.istore 4, 2) := dk_54 4 (dk_at dksX13_unit_9 21 rfl rfl)
theorem dX13_unit_291 : decode cX13_unit 291 = .ok (.goto 32, 3) := dk_167 0 32 (dk_at dksX13_unit_10 0 rfl rfl)
theorem dX13_unit_294 : decode cX13_unit 294 = .ok (.aload_n 3, 1) := dk_45 (dk_at dksX13_unit_10 3 rfl rfl)
theorem dX13_unit_295 : decode cX13_unit 295 = .ok (.ldc 99, 2) := dk_18 99 (dk_at dksX13_unit_10 4 rfl rfl)
theorem dX13_unit_297 : decode cX13_unit 297 = .ok (.invokevirtual 82, 3) := dk_182 0 82 (dk_at dksX13_unit_10 6 rfl rfl)
theorem dX13_unit_300 : decode cX13_unit 300 = .ok (.ifCond .eq 23, 3) := dk_153 0 23 (dk_at dksX13_unit_10 9 rfl rfl)
theorem dX13_unit_303 : decode cX13_unit 303 = .ok (.bipush 8, 2) := dk_16 8 (dk_at dksX13_unit_10 12 rfl rfl)
theorem dX13_unit_305 : decode cX13_unit 305 = .ok (.istore 4, 2) := dk_54 4 (dk_at dksX13_unit_10 14 rfl rfl)
theorem dX13_unit_307 : decode cX13_unit 307 = .ok (.goto 16, 3) := dk_167 0 16 (dk_at dksX13_unit_10 16 rfl rfl)
theorem dX13_unit_310 : decode cX13_unit 310 = .ok (.aload_n 3, 1) := dk_45 (dk_at dksX13_unit_10 19 rfl rfl)
theorem dX13_unit_311 : decode cX13_unit 311 = .ok (.ldc 101, 2) := dk_18 101 (dk_at dksX13_unit_10 20 rfl rfl)
theorem dX13_unit_313 : decode cX13_unit 313 = .ok (.invokevirtual 82, 3) := dk_182 0 82 (dk_at dksX13_unit_11 0 rfl rfl)
theorem dX13_unit_316 : decode cX13_unit 316 = .ok (.ifCond .eq 7, 3) := dk_153 0 7 (dk_at dksX13_unit_11 3 rfl rfl)
theorem dX13_unit_319 : decode cX13_unit 319 = .ok (.bipush 9, 2) := dk_16 9 (dk_at dksX13_unit_11 6 rfl rfl)
theorem dX13_unit_321 : decode cX13_unit 321 = .ok (.istore 4, 2) := dk_54 4 (dk_at dksX13_unit_11 8 rfl rfl)
theorem dX13_unit_323 : decode cX13_unit 323 = .ok (.iload 4, 2) := dk_21 4 (dk_at dksX13_unit_11 10 rfl rfl)
theorem dX13_unit_325 : decode cX13_unit 325 = .ok (.tableswitch 119 0 9 #[55, 62, 69, 76, 83, 90, 97, 105, 113, 113], 55) := by decide +kernel
theorem dX13_unit_380 : decode cX13_unit 380 = .ok (.aload_n 0, 1) := dk_42 (dk_at dksX13_unit_13 0 rfl rfl)
theorem dX13_unit_381 : decode cX13_unit 381 = .ok (.aload_n 2, 1) := dk_44 (dk_at dksX13_unit_13 1 rfl rfl)
theorem dX13_unit_382 : decode cX13_unit 382 = .ok (.iconst 0, 1) := dk_3 (dk_at dksX13_unit_13 2 rfl rfl)
theorem dX13_unit_383 : decode cX13_unit 383 = .ok (.invokevirtual 103, 3) := dk_182 0 103 (dk_at dksX13_unit_13 3 rfl rfl)
theorem dX13_unit_386 : decode cX13_unit 386 = .ok (.areturn, 1) := dk_176 (dk_at dksX13_unit_13 6 rfl rfl)
theorem dX13_unit_387 : decode cX13_unit 387 = .ok (.aload_n 0, 1) := dk_42 (dk_at dksX13_unit_13 7 rfl rfl)
theorem dX13_unit_388 : decode cX13_unit 388 = .ok (.aload_n 2, 1) := dk_44 (dk_at dksX13_unit_13 8 rfl rfl)
theorem dX13_unit_389 : decode cX13_unit 389 = .ok (.iconst 1, 1) := dk_4 (dk_at dksX13_unit_13 9 rfl rfl)
theorem dX13_unit_390 : decode cX13_unit 390 = .ok (.invokevirtual 103, 3) := dk_182 0 103 (dk_at dksX13_unit_13 10 rfl rfl)
theorem dX13_unit_393 : decode cX13_unit 393 = .ok (.areturn, 1) := dk_176 (dk_at dksX13_unit_13 13 rfl rfl)
theorem dX13_unit_394 : decode cX13_unit 394 = .ok (.aload_n 0, 1) := dk_42 (dk_at dksX13_unit_13 14 rfl rfl)
theorem dX13_unit_395 : decode cX13_unit 395 = .ok (.aload_n 2, 1) := dk_44 (dk_at dksX13_unit_13 15 rfl rfl)
theorem dX13_unit_396 : decode cX13_unit 396 = .ok (.iconst 2, 1) := dk_5 (dk_at dksX13_unit_13 16 rfl rfl)
theorem dX13_unit_397 : decode cX13_unit 397 = .ok (.invokevirtual 103, 3) := dk_182 0 103 (dk_at dksX13_unit_13 17 rfl rfl)
theorem dX13_unit_400 : decode cX13_unit 400 = .ok (.areturn, 1) := dk_176 (dk_at dksX13_unit_13 20 rfl rfl)
theorem dX13_unit_401 : decode cX13_unit 401 = .ok (.aload_n 0, 1) := dk_42 (dk_at dksX13_unit_13 21 rfl rfl)
theorem dX13_unit_402 : decode cX13_unit 402 = .ok (.aload_n 2, 1) := dk_44 (dk_at dksX13_unit_13 22 rfl rfl)
theorem dX13_unit_403 : decode cX13_unit 403 = .ok (.iconst 3, 1) := dk_6 (dk_at dksX13_unit_13 23 rfl rfl)
theorem dX13_unit_404 : decode cX13_unit 404 = .ok (.invokevirtual 103, 3) := dk_182 0 103 (dk_at dksX13_unit_14 0 rfl rfl)
theorem dX13_unit_407 : decode cX13_unit 407 = .ok (.areturn, 1) := dk_176 (dk_at dksX13_unit_14 3 rfl rfl)
theorem dX13_unit_408 : decode cX13_unit 408 = .ok (.aload_n 0, 1) := dk_42 (dk_at dksX13_unit_14 4 rfl rfl)
theorem dX13_unit_409 : decode cX13_unit 409 = .ok (.aload_n 2, 1) := dk_44 (dk_at dksX13_unit_14 5 rfl rfl)
theorem dX13_unit_410 : decode cX13_unit 410 = .ok (.iconst 4, 1) := dk_7 (dk_at dksX13_unit_14 6 rfl rfl)
theorem dX13_unit_411 : decode cX13_unit 411 = .ok (.invokevirtual 103, 3) := dk_182 0 103 (dk_at dksX13_unit_14 7 rfl rfl)
theorem dX13_unit_414 : decode cX13_unit 414 = .ok (.areturn, 1) := dk_176 (dk_at dksX13_unit_14 10 rfl rfl)
theorem dX13_unit_415 : decode cX13_unit 415 = .ok (.aload_n 0, 1) := dk_42 (dk_at dksX13_unit_14 11 rfl rfl)
theorem dX13_unit_416 : decode cX13_unit 416 = .ok (.aload_n 2, 1) := dk_44 (dk_at dksX13_unit_14 12 rfl rfl)
theorem dX13_unit_417 : decode cX13_unit 417 = .ok (.iconst 5, 1) := dk_8 (dk_at dksX13_unit_14 13 rfl rfl)
theorem dX13_unit_418 : decode cX13_unit 418 = .ok (.invokevirtual 103, 3) := dk_182 0 103 (dk_at dksX13_unit_14 14 rfl rfl)
theorem dX13_unit_421 : decode cX13_unit 421 = .ok (.areturn, 1) := dk_176 (dk_at dksX13_unit_14 17 rfl rfl)
theorem dX13_unit_422 : decode cX13_unit 422 = .ok (.aload_n 0, 1) := dk_42 (dk_at dksX13_unit_14 18 rfl rfl)
theorem dX13_unit_423 : decode cX13_unit 423 = .ok (.aload_n 2, 1) := dk_44 (dk_at dksX13_unit_14 19 rfl rfl)
theorem dX13_unit_424 : decode cX13_unit 424 = .ok (.bipush 6, 2) := dk_16 6 (dk_at dksX13_unit_14 20 rfl rfl)
theorem dX13_unit_426 : decode cX13_unit 426 = .ok (.invokevirtual 103, 3) := dk_182 0 103 (dk_at dksX13_unit_15 0 rfl rfl)
theorem dX13_unit_429 : decode cX13_unit 429 = .ok (.areturn, 1) := dk_176 (dk_at dksX13_unit_15 3 rfl rfl)
theorem dX13_unit_430 : decode cX13_unit 430 = .ok (.aload_n 0, 1) := dk_42 (dk_at dksX13_unit_15 4 rfl rfl)
theorem dX13_unit_431 : decode cX13_unit 431 = .ok (.aload_n 2, 1) := dk_44 (dk_at dksX13_unit_15 5 rfl rfl)
theorem dX13_unit_432 : decode cX13_unit 432 = .ok (.bipush 7, 2) := dk_16 7 (dk_at dksX13_unit_15 6 rfl rfl)
theorem dX13_unit_434 : decode cX13_unit 434 = .ok (.invokevirtual 103, 3) := dk_182 0 103 (dk_at dksX13_unit_15 8 rfl rfl)
theorem dX13_unit_437 : decode cX13_unit 437 = .ok (.areturn, 1) := dk_176 (dk_at dksX13_unit_15 11 rfl rfl)
theorem dX13_unit_438 : decode cX13_unit 438 = .ok (.aload_n 0, 1) := dk_42 (dk_at dksX13_unit_15 12 rfl rfl)
theorem dX13_unit_439 : decode cX13_unit 439 = .ok (.aload_n 2, 1) := dk_44 (dk_at dksX13_unit_15 13 rfl rfl)
theorem dX13_unit_440 : decode cX13_unit 440 = .ok (.invokevirtual 107, 3) := dk_182 0 107 (dk_at dksX13_unit_15 14 rfl rfl)
theorem dX13_unit_443 : decode cX13_unit 443 = .ok (.areturn, 1) := dk_176 (dk_at dksX13_unit_15 17 rfl rfl)
theorem dX13_unit_444 : decode cX13_unit 444 = .ok (.aload_n 0, 1) := dk_42 (dk_at dksX13_unit_15 18 rfl rfl)
theorem dX13_unit_445 : decode cX13_unit 445 = .ok (.invokevirtual 26, 3) := dk_182 0 26 (dk_at dksX13_unit_15 19 rfl rfl)
theorem dX13_unit_448 : decode cX13_unit 448 = .ok (.athrow, 1) := dk_191 (dk_at dksX13_unit_15 22 rfl rfl)
abbrev cX13_fact : ByteArray := prog_7_method_6_code
def yX13_fact : MethodName := ⟨RX13, "fact", "(Ljava/lang/String;I)LTunedHouses$Term;"⟩
def dkwX13_fact_0 : List UInt8 := [42, 89, 180, 0, 19, 43, 182, 0, 111, 96, 181, 0, 19, 187, 0, 114, 89, 28, 183, 0, 116, 176]
abbrev dktX13_fact_0 : List UInt8 := dkwX13_fact_0 ++ []
theorem dksX13_fact_0 : cX13_fact.data.toList.drop 0 = dktX13_fact_0 := by decide +kernel
theorem dX13_fact_0 : decode cX13_fact 0 = .ok (.aload_n 0, 1) := dk_42 (dk_at dksX13_fact_0 0 rfl rfl)
theorem dX13_fact_1 : decode cX13_fact 1 = .ok (.dup, 1) := dk_89 (dk_at dksX13_fact_0 1 rfl rfl)
theorem dX13_fact_2 : decode cX13_fact 2 = .ok (.getfield 19, 3) := dk_180 0 19 (dk_at dksX13_fact_0 2 rfl rfl)
theorem dX13_fact_5 : decode cX13_fact 5 = .ok (.aload_n 1, 1) := dk_43 (dk_at dksX13_fact_0 5 rfl rfl)
theorem dX13_fact_6 : decode cX13_fact 6 = .ok (.invokevirtual 111, 3) := dk_182 0 111 (dk_at dksX13_fact_0 6 rfl rfl)
theorem dX13_fact_9 : decode cX13_fact 9 = .ok (.iadd, 1) := dk_96 (dk_at dksX13_fact_0 9 rfl rfl)
theorem dX13_fact_10 : decode cX13_fact 10 = .ok (.putfield 19, 3) := dk_181 0 19 (dk_at dksX13_fact_0 10 rfl rfl)
theorem dX13_fact_13 : decode cX13_fact 13 = .ok (.new 114, 3) := dk_187 0 114 (dk_at dksX13_fact_0 13 rfl rfl)
theorem dX13_fact_16 : decode cX13_fact 16 = .ok (.dup, 1) := dk_89 (dk_at dksX13_fact_0 16 rfl rfl)
theorem dX13_fact_17 : decode cX13_fact 17 = .ok (.iload_n 2, 1) := dk_28 (dk_at dksX13_fact_0 17 rfl rfl)
theorem dX13_fact_18 : decode cX13_fact 18 = .ok (.invokespecial 116, 3) := dk_183 0 116 (dk_at dksX13_fact_0 18 rfl rfl)
theorem dX13_fact_21 : decode cX13_fact 21 = .ok (.areturn, 1) := dk_176 (dk_at dksX13_fact_0 21 rfl rfl)
abbrev cX13_two : ByteArray := prog_7_method_7_code
def yX13_two : MethodName := ⟨RX13, "two", "(Ljava/lang/String;)LTunedHouses$Term;"⟩
def dkwX13_two_3 : List UInt8 := [89, 44, 45, 183, 0, 122, 176]
abbrev dktX13_two_3 : List UInt8 := dkwX13_two_3 ++ []
def dkwX13_two_2 : List UInt8 := [43, 18, 99, 182, 0, 82, 153, 0, 15, 187, 0, 117, 89, 44, 45, 183, 0, 119, 167, 0, 12, 187, 0, 120]
abbrev dktX13_two_2 : List UInt8 := dkwX13_two_2 ++ dktX13_two_3
def dkwX13_two_1 : List UInt8 := [182, 0, 57, 42, 182, 0, 9, 78, 42, 16, 93, 182, 0, 57, 42, 89, 180, 0, 60, 4, 100, 181, 0, 60]
abbrev dktX13_two_1 : List UInt8 := dkwX13_two_1 ++ dktX13_two_2
def dkwX13_two_0 : List UInt8 := [42, 43, 182, 0, 111, 182, 0, 53, 42, 16, 91, 182, 0, 57, 42, 182, 0, 9, 77, 42, 16, 44]
abbrev dktX13_two_0 : List UInt8 := dkwX13_two_0 ++ dktX13_two_1
theorem dksX13_two_0 : cX13_two.data.toList.drop 0 = dktX13_two_0 := by decide +kernel
theorem dksX13_two_1 : cX13_two.data.toList.drop 22 = dktX13_two_1 := dk_seg dksX13_two_0 22 rfl rfl
theorem dksX13_two_2 : cX13_two.data.toList.drop 46 = dktX13_two_2 := dk_seg dksX13_two_1 24 rfl rfl
theorem dksX13_two_3 : cX13_two.data.toList.drop 70 = dktX13_two_3 := dk_seg dksX13_two_2 24 rfl rfl
theorem dX13_two_0 : decode cX13_two 0 = .ok (.aload_n 0, 1) := dk_42 (dk_at dksX13_two_0 0 rfl rfl)
theorem dX13_two_1 : decode cX13_two 1 = .ok (.aload_n 1, 1) := dk_43 (dk_at dksX13_two_0 1 rfl rfl)
theorem dX13_two_2 : decode cX13_two 2 = .ok (.invokevirtual 111, 3) := dk_182 0 111 (dk_at dksX13_two_0 2 rfl rfl)
theorem dX13_two_5 : decode cX13_two 5 = .ok (.invokevirtual 53, 3) := dk_182 0 53 (dk_at dksX13_two_0 5 rfl rfl)
theorem dX13_two_8 : decode cX13_two 8 = .ok (.aload_n 0, 1) := dk_42 (dk_at dksX13_two_0 8 rfl rfl)
theorem dX13_two_9 : decode cX13_two 9 = .ok (.bipush 91, 2) := dk_16 91 (dk_at dksX13_two_0 9 rfl rfl)
theorem dX13_two_11 : decode cX13_two 11 = .ok (.invokevirtual 57, 3) := dk_182 0 57 (dk_at dksX13_two_0 11 rfl rfl)
theorem dX13_two_14 : decode cX13_two 14 = .ok (.aload_n 0, 1) := dk_42 (dk_at dksX13_two_0 14 rfl rfl)
theorem dX13_two_15 : decode cX13_two 15 = .ok (.invokevirtual 9, 3) := dk_182 0 9 (dk_at dksX13_two_0 15 rfl rfl)
theorem dX13_two_18 : decode cX13_two 18 = .ok (.astore_n 2, 1) := dk_77 (dk_at dksX13_two_0 18 rfl rfl)
theorem dX13_two_19 : decode cX13_two 19 = .ok (.aload_n 0, 1) := dk_42 (dk_at dksX13_two_0 19 rfl rfl)
theorem dX13_two_20 : decode cX13_two 20 = .ok (.bipush 44, 2) := dk_16 44 (dk_at dksX13_two_0 20 rfl rfl)
theorem dX13_two_22 : decode cX13_two 22 = .ok (.invokevirtual 57, 3) := dk_182 0 57 (dk_at dksX13_two_1 0 rfl rfl)
theorem dX13_two_25 : decode cX13_two 25 = .ok (.aload_n 0, 1) := dk_42 (dk_at dksX13_two_1 3 rfl rfl)
theorem dX13_two_26 : decode cX13_two 26 = .ok (.invokevirtual 9, 3) := dk_182 0 9 (dk_at dksX13_two_1 4 rfl rfl)
theorem dX13_two_29 : decode cX13_two 29 = .ok (.astore_n 3, 1) := dk_78 (dk_at dksX13_two_1 7 rfl rfl)
theorem dX13_two_30 : decode cX13_two 30 = .ok (.aload_n 0, 1) := dk_42 (dk_at dksX13_two_1 8 rfl rfl)
theorem dX13_two_31 : decode cX13_two 31 = .ok (.bipush 93, 2) := dk_16 93 (dk_at dksX13_two_1 9 rfl rfl)
theorem dX13_two_33 : decode cX13_two 33 = .ok (.invokevirtual 57, 3) := dk_182 0 57 (dk_at dksX13_two_1 11 rfl rfl)
theorem dX13_two_36 : decode cX13_two 36 = .ok (.aload_n 0, 1) := dk_42 (dk_at dksX13_two_1 14 rfl rfl)
theorem dX13_two_37 : decode cX13_two 37 = .ok (.dup, 1) := dk_89 (dk_at dksX13_two_1 15 rfl rfl)
theorem dX13_two_38 : decode cX13_two 38 = .ok (.getfield 60, 3) := dk_180 0 60 (dk_at dksX13_two_1 16 rfl rfl)
theorem dX13_two_41 : decode cX13_two 41 = .ok (.iconst 1, 1) := dk_4 (dk_at dksX13_two_1 19 rfl rfl)
theorem dX13_two_42 : decode cX13_two 42 = .ok (.isub, 1) := dk_100 (dk_at dksX13_two_1 20 rfl rfl)
theorem dX13_two_43 : decode cX13_two 43 = .ok (.putfield 60, 3) := dk_181 0 60 (dk_at dksX13_two_1 21 rfl rfl)
theorem dX13_two_46 : decode cX13_two 46 = .ok (.aload_n 1, 1) := dk_43 (dk_at dksX13_two_2 0 rfl rfl)
theorem dX13_two_47 : decode cX13_two 47 = .ok (.ldc 99, 2) := dk_18 99 (dk_at dksX13_two_2 1 rfl rfl)
theorem dX13_two_49 : decode cX13_two 49 = .ok (.invokevirtual 82, 3) := dk_182 0 82 (dk_at dksX13_two_2 3 rfl rfl)
theorem dX13_two_52 : decode cX13_two 52 = .ok (.ifCond .eq 15, 3) := dk_153 0 15 (dk_at dksX13_two_2 6 rfl rfl)
theorem dX13_two_55 : decode cX13_two 55 = .ok (.new 117, 3) := dk_187 0 117 (dk_at dksX13_two_2 9 rfl rfl)
theorem dX13_two_58 : decode cX13_two 58 = .ok (.dup, 1) := dk_89 (dk_at dksX13_two_2 12 rfl rfl)
theorem dX13_two_59 : decode cX13_two 59 = .ok (.aload_n 2, 1) := dk_44 (dk_at dksX13_two_2 13 rfl rfl)
theorem dX13_two_60 : decode cX13_two 60 = .ok (.aload_n 3, 1) := dk_45 (dk_at dksX13_two_2 14 rfl rfl)
theorem dX13_two_61 : decode cX13_two 61 = .ok (.invokespecial 119, 3) := dk_183 0 119 (dk_at dksX13_two_2 15 rfl rfl)
theorem dX13_two_64 : decode cX13_two 64 = .ok (.goto 12, 3) := dk_167 0 12 (dk_at dksX13_two_2 18 rfl rfl)
theorem dX13_two_67 : decode cX13_two 67 = .ok (.new 120, 3) := dk_187 0 120 (dk_at dksX13_two_2 21 rfl rfl)
theorem dX13_two_70 : decode cX13_two 70 = .ok (.dup, 1) := dk_89 (dk_at dksX13_two_3 0 rfl rfl)
theorem dX13_two_71 : decode cX13_two 71 = .ok (.aload_n 2, 1) := dk_44 (dk_at dksX13_two_3 1 rfl rfl)
theorem dX13_two_72 : decode cX13_two 72 = .ok (.aload_n 3, 1) := dk_45 (dk_at dksX13_two_3 2 rfl rfl)
theorem dX13_two_73 : decode cX13_two 73 = .ok (.invokespecial 122, 3) := dk_183 0 122 (dk_at dksX13_two_3 3 rfl rfl)
theorem dX13_two_76 : decode cX13_two 76 = .ok (.areturn, 1) := dk_176 (dk_at dksX13_two_3 6 rfl rfl)
theorem q130 : (Jvm.Cond.initialized "TunedHouses$LawReader") ∈ lw_all := lw_g (lw_at lw_m1 32 rfl) rfl
theorem q898 : (Jvm.Cond.fieldLink "TunedHouses$LawReader" (23 : Nat) "TunedHouses$LawReader" "size" "I") ∈ lw_all := lw_g (lw_at lw_m4 80 rfl) rfl
theorem q899 : (Jvm.Cond.sameField "TunedHouses$LawReader" "TunedHouses$Reader" "size" "I") ∈ lw_all := lw_g (lw_at lw_m4 81 rfl) rfl
theorem q907 : (Jvm.Cond.fieldLink "TunedHouses$LawReader" (19 : Nat) "TunedHouses$LawReader" "next" "I") ∈ lw_all := lw_g (lw_at lw_m4 89 rfl) rfl
theorem q908 : (Jvm.Cond.sameField "TunedHouses$LawReader" "TunedHouses$Reader" "next" "I") ∈ lw_all := lw_g (lw_at lw_m4 90 rfl) rfl
theorem q920 : (Jvm.Cond.fieldLink "TunedHouses$LawReader" (60 : Nat) "TunedHouses$LawReader" "open" "I") ∈ lw_all := lw_g (lw_at lw_m4 102 rfl) rfl
theorem q921 : (Jvm.Cond.sameField "TunedHouses$LawReader" "TunedHouses$Reader" "open" "I") ∈ lw_all := lw_g (lw_at lw_m4 103 rfl) rfl
theorem q1167 : (Jvm.Cond.selects "TunedHouses$LawReader" ({ cls := "java/lang/Object", name := "getClass", desc := "()Ljava/lang/Class;" } : Jvm.MethodName) ({ cls := "java/lang/Object", name := "getClass", desc := "()Ljava/lang/Class;" } : Jvm.MethodName)) ∈ lw_all := lw_g (lw_at lw_m5 109 rfl) rfl
theorem q1217 : (Jvm.Cond.instantiable "TunedHouses$LawReader" (5 : Nat)) ∈ lw_all := lw_g (lw_at lw_m5 159 rfl) rfl
theorem q1219 : (Jvm.Cond.instanceMethod ({ cls := "TunedHouses$LawReader", name := "<init>", desc := "([BI)V" } : Jvm.MethodName)) ∈ lw_all := lw_g (lw_at lw_m5 161 rfl) rfl
theorem q1220 : (Jvm.Cond.code ({ cls := "TunedHouses$LawReader", name := "<init>", desc := "([BI)V" } : Jvm.MethodName) prog_7_method_1_code (3 : Nat) (Option.none : Option Jvm.ClassFile.FieldType)) ∈ lw_all := lw_g (lw_at lw_m5 162 rfl) rfl
theorem q1221 : (Jvm.Cond.methodLink "TunedHouses$LawReader" (3 : Nat) ({ cls := "TunedHouses$Reader", name := "<init>", desc := "([BI)V" } : Jvm.MethodName)) ∈ lw_all := lw_g (lw_at lw_m5 163 rfl) rfl
theorem q1222 : (Jvm.Cond.laysFinal "TunedHouses$LawReader" "TunedHouses$Reader" "text" "[B") ∈ lw_all := lw_g (lw_at lw_m5 164 rfl) rfl
theorem q1223 : (Jvm.Cond.laysFinal "TunedHouses$LawReader" "TunedHouses$Reader" "size" "I") ∈ lw_all := lw_g (lw_at lw_m5 165 rfl) rfl
theorem q1224 : (Jvm.Cond.lays "TunedHouses$LawReader" "TunedHouses$Reader" "next" "I") ∈ lw_all := lw_g (lw_at lw_m5 166 rfl) rfl
theorem q1225 : (Jvm.Cond.lays "TunedHouses$LawReader" "TunedHouses$Reader" "from" "I") ∈ lw_all := lw_g (lw_at lw_m5 167 rfl) rfl
theorem q1226 : (Jvm.Cond.lays "TunedHouses$LawReader" "TunedHouses$Reader" "open" "I") ∈ lw_all := lw_g (lw_at lw_m5 168 rfl) rfl
theorem q1227 : (Jvm.Cond.superclass "TunedHouses$LawReader" "TunedHouses$Reader") ∈ lw_all := lw_g (lw_at lw_m5 169 rfl) rfl
theorem q1229 : (Jvm.Cond.instanceMethod ({ cls := "TunedHouses$LawReader", name := "reads", desc := "()LTunedHouses$Term;" } : Jvm.MethodName)) ∈ lw_all := lw_g (lw_at lw_m5 171 rfl) rfl
theorem q1230 : (Jvm.Cond.selects "TunedHouses$LawReader" ({ cls := "TunedHouses$LawReader", name := "reads", desc := "()LTunedHouses$Term;" } : Jvm.MethodName) ({ cls := "TunedHouses$LawReader", name := "reads", desc := "()LTunedHouses$Term;" } : Jvm.MethodName)) ∈ lw_all := lw_g (lw_at lw_m5 172 rfl) rfl
theorem q1231 : (Jvm.Cond.code ({ cls := "TunedHouses$LawReader", name := "reads", desc := "()LTunedHouses$Term;" } : Jvm.MethodName) prog_7_method_2_code (2 : Nat) (Option.some (Jvm.ClassFile.FieldType.object "TunedHouses$Term"))) ∈ lw_all := lw_g (lw_at lw_m5 173 rfl) rfl
theorem q1232 : (Jvm.Cond.methodLink "TunedHouses$LawReader" (9 : Nat) ({ cls := "TunedHouses$LawReader", name := "sum", desc := "()LTunedHouses$Term;" } : Jvm.MethodName)) ∈ lw_all := lw_g (lw_at lw_m5 174 rfl) rfl
theorem q1233 : (Jvm.Cond.privateMethod ({ cls := "TunedHouses$LawReader", name := "sum", desc := "()LTunedHouses$Term;" } : Jvm.MethodName)) ∈ lw_tbl := lw_at lw_m5 175 rfl
theorem q1234 : (Jvm.Cond.instanceMethod ({ cls := "TunedHouses$LawReader", name := "sum", desc := "()LTunedHouses$Term;" } : Jvm.MethodName)) ∈ lw_all := lw_g (lw_at lw_m5 176 rfl) rfl
theorem q1235 : (Jvm.Cond.code ({ cls := "TunedHouses$LawReader", name := "sum", desc := "()LTunedHouses$Term;" } : Jvm.MethodName) prog_7_method_3_code (4 : Nat) (Option.some (Jvm.ClassFile.FieldType.object "TunedHouses$Term"))) ∈ lw_all := lw_g (lw_at lw_m5 177 rfl) rfl
theorem q1236 : (Jvm.Cond.methodLink "TunedHouses$LawReader" (30 : Nat) ({ cls := "TunedHouses$LawReader", name := "product", desc := "()LTunedHouses$Term;" } : Jvm.MethodName)) ∈ lw_all := lw_g (lw_at lw_m5 178 rfl) rfl
theorem q1237 : (Jvm.Cond.privateMethod ({ cls := "TunedHouses$LawReader", name := "product", desc := "()LTunedHouses$Term;" } : Jvm.MethodName)) ∈ lw_tbl := lw_at lw_m5 179 rfl
theorem q1238 : (Jvm.Cond.instanceMethod ({ cls := "TunedHouses$LawReader", name := "product", desc := "()LTunedHouses$Term;" } : Jvm.MethodName)) ∈ lw_all := lw_g (lw_at lw_m5 180 rfl) rfl
theorem q1239 : (Jvm.Cond.code ({ cls := "TunedHouses$LawReader", name := "product", desc := "()LTunedHouses$Term;" } : Jvm.MethodName) prog_7_method_4_code (4 : Nat) (Option.some (Jvm.ClassFile.FieldType.object "TunedHouses$Term"))) ∈ lw_all := lw_g (lw_at lw_m5 181 rfl) rfl
theorem q1240 : (Jvm.Cond.methodLink "TunedHouses$LawReader" (41 : Nat) ({ cls := "TunedHouses$LawReader", name := "unit", desc := "()LTunedHouses$Term;" } : Jvm.MethodName)) ∈ lw_all := lw_g (lw_at lw_m5 182 rfl) rfl
theorem q1241 : (Jvm.Cond.privateMethod ({ cls := "TunedHouses$LawReader", name := "unit", desc := "()LTunedHouses$Term;" } : Jvm.MethodName)) ∈ lw_tbl := lw_at lw_m5 183 rfl
theorem q1242 : (Jvm.Cond.instanceMethod ({ cls := "TunedHouses$LawReader", name := "unit", desc := "()LTunedHouses$Term;" } : Jvm.MethodName)) ∈ lw_all := lw_g (lw_at lw_m5 184 rfl) rfl
theorem q1243 : (Jvm.Cond.code ({ cls := "TunedHouses$LawReader", name := "unit", desc := "()LTunedHouses$Term;" } : Jvm.MethodName) prog_7_method_5_code (5 : Nat) (Option.some (Jvm.ClassFile.FieldType.object "TunedHouses$Term"))) ∈ lw_all := lw_g (lw_at lw_m5 185 rfl) rfl
theorem q1244 : (Jvm.Cond.methodLink "TunedHouses$LawReader" (15 : Nat) ({ cls := "TunedHouses$LawReader", name := "sign", desc := "()I" } : Jvm.MethodName)) ∈ lw_all := lw_g (lw_at lw_m5 186 rfl) rfl
theorem q1245 : (Jvm.Cond.sameMethod "TunedHouses$LawReader" "TunedHouses$Reader" "sign" "()I") ∈ lw_all := lw_g (lw_at lw_m5 187 rfl) rfl
theorem q1246 : (Jvm.Cond.selects "TunedHouses$LawReader" ({ cls := "TunedHouses$LawReader", name := "sign", desc := "()I" } : Jvm.MethodName) ({ cls := "TunedHouses$Reader", name := "sign", desc := "()I" } : Jvm.MethodName)) ∈ lw_all := lw_g (lw_at lw_m5 188 rfl) rfl
theorem q1247 : (Jvm.Cond.methodLink "TunedHouses$LawReader" (53 : Nat) ({ cls := "TunedHouses$LawReader", name := "opens", desc := "(I)V" } : Jvm.MethodName)) ∈ lw_all := lw_g (lw_at lw_m5 189 rfl) rfl
theorem q1248 : (Jvm.Cond.sameMethod "TunedHouses$LawReader" "TunedHouses$Reader" "opens" "(I)V") ∈ lw_all := lw_g (lw_at lw_m5 190 rfl) rfl
theorem q1250 : (Jvm.Cond.selects "TunedHouses$LawReader" ({ cls := "TunedHouses$LawReader", name := "opens", desc := "(I)V" } : Jvm.MethodName) ({ cls := "TunedHouses$Reader", name := "opens", desc := "(I)V" } : Jvm.MethodName)) ∈ lw_all := lw_g (lw_at lw_m5 192 rfl) rfl
theorem q1253 : (Jvm.Cond.methodLink "TunedHouses$LawReader" (57 : Nat) ({ cls := "TunedHouses$LawReader", name := "need", desc := "(I)V" } : Jvm.MethodName)) ∈ lw_all := lw_g (lw_at lw_m5 195 rfl) rfl
theorem q1254 : (Jvm.Cond.sameMethod "TunedHouses$LawReader" "TunedHouses$Reader" "need" "(I)V") ∈ lw_all := lw_g (lw_at lw_m5 196 rfl) rfl
theorem q1255 : (Jvm.Cond.selects "TunedHouses$LawReader" ({ cls := "TunedHouses$LawReader", name := "need", desc := "(I)V" } : Jvm.MethodName) ({ cls := "TunedHouses$Reader", name := "need", desc := "(I)V" } : Jvm.MethodName)) ∈ lw_all := lw_g (lw_at lw_m5 197 rfl) rfl
theorem q1256 : (Jvm.Cond.classLink "TunedHouses$LawReader" (63 : Nat) "TunedHouses$Plain") ∈ lw_all := lw_g (lw_at lw_m5 198 rfl) rfl
theorem q1258 : (Jvm.Cond.methodLink "TunedHouses$LawReader" (65 : Nat) ({ cls := "TunedHouses$LawReader", name := "number", desc := "(II)I" } : Jvm.MethodName)) ∈ lw_all := lw_g (lw_at lw_m5 200 rfl) rfl
theorem q1259 : (Jvm.Cond.sameMethod "TunedHouses$LawReader" "TunedHouses$Reader" "number" "(II)I") ∈ lw_all := lw_g (lw_at lw_m5 201 rfl) rfl
theorem q1260 : (Jvm.Cond.selects "TunedHouses$LawReader" ({ cls := "TunedHouses$LawReader", name := "number", desc := "(II)I" } : Jvm.MethodName) ({ cls := "TunedHouses$Reader", name := "number", desc := "(II)I" } : Jvm.MethodName)) ∈ lw_all := lw_g (lw_at lw_m5 202 rfl) rfl
theorem q1261 : (Jvm.Cond.methodLink "TunedHouses$LawReader" (69 : Nat) ({ cls := "TunedHouses$Plain", name := "<init>", desc := "(I)V" } : Jvm.MethodName)) ∈ lw_all := lw_g (lw_at lw_m5 203 rfl) rfl
theorem q1269 : (Jvm.Cond.methodLink "TunedHouses$LawReader" (71 : Nat) ({ cls := "TunedHouses$LawReader", name := "word", desc := "()Ljava/lang/String;" } : Jvm.MethodName)) ∈ lw_all := lw_g (lw_at lw_m5 211 rfl) rfl
theorem q1270 : (Jvm.Cond.sameMethod "TunedHouses$LawReader" "TunedHouses$Reader" "word" "()Ljava/lang/String;") ∈ lw_all := lw_g (lw_at lw_m5 212 rfl) rfl
theorem q1271 : (Jvm.Cond.selects "TunedHouses$LawReader" ({ cls := "TunedHouses$LawReader", name := "word", desc := "()Ljava/lang/String;" } : Jvm.MethodName) ({ cls := "TunedHouses$Reader", name := "word", desc := "()Ljava/lang/String;" } : Jvm.MethodName)) ∈ lw_all := lw_g (lw_at lw_m5 213 rfl) rfl
theorem q1272 : (Jvm.Cond.methodLink "TunedHouses$LawReader" (75 : Nat) ({ cls := "java/lang/String", name := "hashCode", desc := "()I" } : Jvm.MethodName)) ∈ lw_all := lw_g (lw_at lw_m5 214 rfl) rfl
theorem q1273 : (Jvm.Cond.stringRef "TunedHouses$LawReader" (80 : Nat) "strong") ∈ lw_tbl := lw_at lw_m5 215 rfl
theorem q1274 : (Jvm.Cond.methodLink "TunedHouses$LawReader" (82 : Nat) ({ cls := "java/lang/String", name := "equals", desc := "(Ljava/lang/Object;)Z" } : Jvm.MethodName)) ∈ lw_all := lw_g (lw_at lw_m5 216 rfl) rfl
theorem q1275 : (Jvm.Cond.stringRef "TunedHouses$LawReader" (86 : Nat) "felt") ∈ lw_tbl := lw_at lw_m5 217 rfl
theorem q1276 : (Jvm.Cond.stringRef "TunedHouses$LawReader" (88 : Nat) "days") ∈ lw_tbl := lw_at lw_m5 218 rfl
theorem q1277 : (Jvm.Cond.stringRef "TunedHouses$LawReader" (90 : Nat) "here") ∈ lw_tbl := lw_at lw_m5 219 rfl
theorem q1278 : (Jvm.Cond.stringRef "TunedHouses$LawReader" (92 : Nat) "thing") ∈ lw_tbl := lw_at lw_m5 220 rfl
theorem q1279 : (Jvm.Cond.stringRef "TunedHouses$LawReader" (94 : Nat) "next") ∈ lw_tbl := lw_at lw_m5 221 rfl
theorem q1280 : (Jvm.Cond.stringRef "TunedHouses$LawReader" (95 : Nat) "house") ∈ lw_tbl := lw_at lw_m5 222 rfl
theorem q1281 : (Jvm.Cond.stringRef "TunedHouses$LawReader" (97 : Nat) "day") ∈ lw_tbl := lw_at lw_m5 223 rfl
theorem q1282 : (Jvm.Cond.stringRef "TunedHouses$LawReader" (99 : Nat) "least") ∈ lw_tbl := lw_at lw_m5 224 rfl
theorem q1283 : (Jvm.Cond.stringRef "TunedHouses$LawReader" (101 : Nat) "most") ∈ lw_tbl := lw_at lw_m5 225 rfl
theorem q1284 : (Jvm.Cond.methodLink "TunedHouses$LawReader" (103 : Nat) ({ cls := "TunedHouses$LawReader", name := "fact", desc := "(Ljava/lang/String;I)LTunedHouses$Term;" } : Jvm.MethodName)) ∈ lw_all := lw_g (lw_at lw_m5 226 rfl) rfl
theorem q1285 : (Jvm.Cond.privateMethod ({ cls := "TunedHouses$LawReader", name := "fact", desc := "(Ljava/lang/String;I)LTunedHouses$Term;" } : Jvm.MethodName)) ∈ lw_tbl := lw_at lw_m5 227 rfl
theorem q1286 : (Jvm.Cond.instanceMethod ({ cls := "TunedHouses$LawReader", name := "fact", desc := "(Ljava/lang/String;I)LTunedHouses$Term;" } : Jvm.MethodName)) ∈ lw_all := lw_g (lw_at lw_m5 228 rfl) rfl
theorem q1287 : (Jvm.Cond.code ({ cls := "TunedHouses$LawReader", name := "fact", desc := "(Ljava/lang/String;I)LTunedHouses$Term;" } : Jvm.MethodName) prog_7_method_6_code (3 : Nat) (Option.some (Jvm.ClassFile.FieldType.object "TunedHouses$Term"))) ∈ lw_all := lw_g (lw_at lw_m5 229 rfl) rfl
theorem q1288 : (Jvm.Cond.methodLink "TunedHouses$LawReader" (111 : Nat) ({ cls := "java/lang/String", name := "length", desc := "()I" } : Jvm.MethodName)) ∈ lw_all := lw_g (lw_at lw_m5 230 rfl) rfl
theorem q1289 : (Jvm.Cond.classLink "TunedHouses$LawReader" (114 : Nat) "TunedHouses$Fact") ∈ lw_all := lw_g (lw_at lw_m5 231 rfl) rfl
theorem q1290 : (Jvm.Cond.methodLink "TunedHouses$LawReader" (116 : Nat) ({ cls := "TunedHouses$Fact", name := "<init>", desc := "(I)V" } : Jvm.MethodName)) ∈ lw_all := lw_g (lw_at lw_m5 232 rfl) rfl
theorem q1291 : (Jvm.Cond.methodLink "TunedHouses$LawReader" (107 : Nat) ({ cls := "TunedHouses$LawReader", name := "two", desc := "(Ljava/lang/String;)LTunedHouses$Term;" } : Jvm.MethodName)) ∈ lw_all := lw_g (lw_at lw_m5 233 rfl) rfl
theorem q1292 : (Jvm.Cond.privateMethod ({ cls := "TunedHouses$LawReader", name := "two", desc := "(Ljava/lang/String;)LTunedHouses$Term;" } : Jvm.MethodName)) ∈ lw_tbl := lw_at lw_m5 234 rfl
theorem q1293 : (Jvm.Cond.instanceMethod ({ cls := "TunedHouses$LawReader", name := "two", desc := "(Ljava/lang/String;)LTunedHouses$Term;" } : Jvm.MethodName)) ∈ lw_all := lw_g (lw_at lw_m5 235 rfl) rfl
theorem q1294 : (Jvm.Cond.code ({ cls := "TunedHouses$LawReader", name := "two", desc := "(Ljava/lang/String;)LTunedHouses$Term;" } : Jvm.MethodName) prog_7_method_7_code (4 : Nat) (Option.some (Jvm.ClassFile.FieldType.object "TunedHouses$Term"))) ∈ lw_all := lw_g (lw_at lw_m5 236 rfl) rfl
theorem q1295 : (Jvm.Cond.classLink "TunedHouses$LawReader" (117 : Nat) "TunedHouses$Least") ∈ lw_all := lw_g (lw_at lw_m5 237 rfl) rfl
theorem q1297 : (Jvm.Cond.methodLink "TunedHouses$LawReader" (119 : Nat) ({ cls := "TunedHouses$Least", name := "<init>", desc := "(LTunedHouses$Term;LTunedHouses$Term;)V" } : Jvm.MethodName)) ∈ lw_all := lw_g (lw_at lw_m5 239 rfl) rfl
theorem q1304 : (Jvm.Cond.classLink "TunedHouses$LawReader" (120 : Nat) "TunedHouses$Most") ∈ lw_all := lw_g (lw_at lw_m6 6 rfl) rfl
theorem q1306 : (Jvm.Cond.methodLink "TunedHouses$LawReader" (122 : Nat) ({ cls := "TunedHouses$Most", name := "<init>", desc := "(LTunedHouses$Term;LTunedHouses$Term;)V" } : Jvm.MethodName)) ∈ lw_all := lw_g (lw_at lw_m6 8 rfl) rfl
theorem q1313 : (Jvm.Cond.methodLink "TunedHouses$LawReader" (26 : Nat) ({ cls := "TunedHouses$LawReader", name := "wrong", desc := "()LTunedHouses$Wrong;" } : Jvm.MethodName)) ∈ lw_all := lw_g (lw_at lw_m6 15 rfl) rfl
theorem q1314 : (Jvm.Cond.sameMethod "TunedHouses$LawReader" "TunedHouses$Reader" "wrong" "()LTunedHouses$Wrong;") ∈ lw_all := lw_g (lw_at lw_m6 16 rfl) rfl
theorem q1315 : (Jvm.Cond.selects "TunedHouses$LawReader" ({ cls := "TunedHouses$LawReader", name := "wrong", desc := "()LTunedHouses$Wrong;" } : Jvm.MethodName) ({ cls := "TunedHouses$Reader", name := "wrong", desc := "()LTunedHouses$Wrong;" } : Jvm.MethodName)) ∈ lw_all := lw_g (lw_at lw_m6 17 rfl) rfl
theorem q1316 : (Jvm.Cond.classLink "TunedHouses$LawReader" (44 : Nat) "TunedHouses$Times") ∈ lw_all := lw_g (lw_at lw_m6 18 rfl) rfl
theorem q1318 : (Jvm.Cond.methodLink "TunedHouses$LawReader" (46 : Nat) ({ cls := "TunedHouses$Times", name := "<init>", desc := "(LTunedHouses$Term;LTunedHouses$Term;)V" } : Jvm.MethodName)) ∈ lw_all := lw_g (lw_at lw_m6 20 rfl) rfl
theorem q1325 : (Jvm.Cond.classLink "TunedHouses$LawReader" (47 : Nat) "TunedHouses$By") ∈ lw_all := lw_g (lw_at lw_m6 27 rfl) rfl
theorem q1327 : (Jvm.Cond.methodLink "TunedHouses$LawReader" (49 : Nat) ({ cls := "TunedHouses$By", name := "<init>", desc := "(LTunedHouses$Term;LTunedHouses$Term;)V" } : Jvm.MethodName)) ∈ lw_all := lw_g (lw_at lw_m6 29 rfl) rfl
theorem q1334 : (Jvm.Cond.classLink "TunedHouses$LawReader" (50 : Nat) "TunedHouses$Leaves") ∈ lw_all := lw_g (lw_at lw_m6 36 rfl) rfl
theorem q1336 : (Jvm.Cond.methodLink "TunedHouses$LawReader" (52 : Nat) ({ cls := "TunedHouses$Leaves", name := "<init>", desc := "(LTunedHouses$Term;LTunedHouses$Term;)V" } : Jvm.MethodName)) ∈ lw_all := lw_g (lw_at lw_m6 38 rfl) rfl
theorem q1343 : (Jvm.Cond.classLink "TunedHouses$LawReader" (33 : Nat) "TunedHouses$Plus") ∈ lw_all := lw_g (lw_at lw_m6 45 rfl) rfl
theorem q1345 : (Jvm.Cond.methodLink "TunedHouses$LawReader" (35 : Nat) ({ cls := "TunedHouses$Plus", name := "<init>", desc := "(LTunedHouses$Term;LTunedHouses$Term;)V" } : Jvm.MethodName)) ∈ lw_all := lw_g (lw_at lw_m6 47 rfl) rfl
theorem q1352 : (Jvm.Cond.classLink "TunedHouses$LawReader" (38 : Nat) "TunedHouses$Minus") ∈ lw_all := lw_g (lw_at lw_m6 54 rfl) rfl
theorem q1353 : (Jvm.Cond.methodLink "TunedHouses$LawReader" (40 : Nat) ({ cls := "TunedHouses$Minus", name := "<init>", desc := "(LTunedHouses$Term;LTunedHouses$Term;)V" } : Jvm.MethodName)) ∈ lw_all := lw_g (lw_at lw_m6 55 rfl) rfl
theorem q2548 : (Jvm.Cond.selects "TunedHouses$LawReader" ({ cls := "TunedHouses$Reader", name := "sign", desc := "()I" } : Jvm.MethodName) ({ cls := "TunedHouses$Reader", name := "sign", desc := "()I" } : Jvm.MethodName)) ∈ lw_all := lw_g (lw_at lw_m11 50 rfl) rfl
theorem q2555 : (Jvm.Cond.selects "TunedHouses$LawReader" ({ cls := "TunedHouses$Reader", name := "wrong", desc := "()LTunedHouses$Wrong;" } : Jvm.MethodName) ({ cls := "TunedHouses$Reader", name := "wrong", desc := "()LTunedHouses$Wrong;" } : Jvm.MethodName)) ∈ lw_all := lw_g (lw_at lw_m11 57 rfl) rfl
theorem q2578 : (Jvm.Cond.castable "TunedHouses$LawReader" "java/lang/Object") ∈ lw_tbl := lw_at lw_m11 80 rfl
theorem in_X13 : ∀ w ∈ wsX130, w ∈ lw_all := lw_in wsX130 [1222, 1223, 1224, 1225, 1226] (by decide +kernel) (by decide +kernel)

/-! TunedHouses$Plain -/
set_option maxRecDepth 100000
def RX14 : String := "TunedHouses$Plain"
def TX14 : u_T := fun k => match k with
  | _ => ("TunedHouses$Plain", "n", "I", true)
def tyX14 : Nat → FieldType := fun k => match k with
  | _ => .int
abbrev wsX140 : List Cond := u_ws RX14 TX14 1
theorem nmX14 : ∀ a, a < 1 → ∀ b, b < 1 → a ≠ b → (TX14 a).2.1 ≠ (TX14 b).2.1 := by decide +kernel
theorem tyX14_ok : ∀ k, k < 1 → parseFieldDescriptor (TX14 k).2.2.1 = some (tyX14 k) := by decide +kernel
abbrev cX14_init : ByteArray := prog_15_method_1_code
def yX14_init : MethodName := ⟨RX14, "<init>", "(I)V"⟩
def dkwX14_init_0 : List UInt8 := [42, 183, 0, 1, 42, 27, 181, 0, 7, 177]
abbrev dktX14_init_0 : List UInt8 := dkwX14_init_0 ++ []
theorem dksX14_init_0 : cX14_init.data.toList.drop 0 = dktX14_init_0 := by decide +kernel
theorem dX14_init_0 : decode cX14_init 0 = .ok (.aload_n 0, 1) := dk_42 (dk_at dksX14_init_0 0 rfl rfl)
theorem dX14_init_1 : decode cX14_init 1 = .ok (.invokespecial 1, 3) := dk_183 0 1 (dk_at dksX14_init_0 1 rfl rfl)
theorem dX14_init_4 : decode cX14_init 4 = .ok (.aload_n 0, 1) := dk_42 (dk_at dksX14_init_0 4 rfl rfl)
theorem dX14_init_5 : decode cX14_init 5 = .ok (.iload_n 1, 1) := dk_27 (dk_at dksX14_init_0 5 rfl rfl)
theorem dX14_init_6 : decode cX14_init 6 = .ok (.putfield 7, 3) := dk_181 0 7 (dk_at dksX14_init_0 6 rfl rfl)
theorem dX14_init_9 : decode cX14_init 9 = .ok (.return_, 1) := dk_177 (dk_at dksX14_init_0 9 rfl rfl)
abbrev cX14_of : ByteArray := prog_15_method_2_code
def yX14_of : MethodName := ⟨RX14, "of", "([I)I"⟩
theorem dX14_of_0 : decode cX14_of 0 = .ok (.aload_n 0, 1) := by decide +kernel
theorem dX14_of_1 : decode cX14_of 1 = .ok (.getfield 7, 3) := by decide +kernel
theorem dX14_of_4 : decode cX14_of 4 = .ok (.ireturn, 1) := by decide +kernel
theorem q131 : (Jvm.Cond.initialized "TunedHouses$Plain") ∈ lw_all := lw_g (lw_at lw_m1 33 rfl) rfl
theorem q1175 : (Jvm.Cond.selects "TunedHouses$Plain" ({ cls := "java/lang/Object", name := "getClass", desc := "()Ljava/lang/Class;" } : Jvm.MethodName) ({ cls := "java/lang/Object", name := "getClass", desc := "()Ljava/lang/Class;" } : Jvm.MethodName)) ∈ lw_all := lw_g (lw_at lw_m5 117 rfl) rfl
theorem q1257 : (Jvm.Cond.instantiable "TunedHouses$Plain" (1 : Nat)) ∈ lw_all := lw_g (lw_at lw_m5 199 rfl) rfl
theorem q1262 : (Jvm.Cond.instanceMethod ({ cls := "TunedHouses$Plain", name := "<init>", desc := "(I)V" } : Jvm.MethodName)) ∈ lw_all := lw_g (lw_at lw_m5 204 rfl) rfl
theorem q1263 : (Jvm.Cond.code ({ cls := "TunedHouses$Plain", name := "<init>", desc := "(I)V" } : Jvm.MethodName) prog_15_method_1_code (2 : Nat) (Option.none : Option Jvm.ClassFile.FieldType)) ∈ lw_all := lw_g (lw_at lw_m5 205 rfl) rfl
theorem q1264 : (Jvm.Cond.methodLinkNest "TunedHouses$Plain" (1 : Nat) ({ cls := "TunedHouses$Term", name := "<init>", desc := "()V" } : Jvm.MethodName) "TunedHouses") ∈ lw_tbl := lw_at lw_m5 206 rfl
theorem q1265 : (Jvm.Cond.fieldLink "TunedHouses$Plain" (7 : Nat) "TunedHouses$Plain" "n" "I") ∈ lw_all := lw_g (lw_at lw_m5 207 rfl) rfl
theorem q1266 : (Jvm.Cond.laysFinal "TunedHouses$Plain" "TunedHouses$Plain" "n" "I") ∈ lw_all := lw_g (lw_at lw_m5 208 rfl) rfl
theorem q1267 : (Jvm.Cond.soleField "TunedHouses$Plain" "n") ∈ lw_all := lw_g (lw_at lw_m5 209 rfl) rfl
theorem q1268 : (Jvm.Cond.superclass "TunedHouses$Plain" "TunedHouses$Term") ∈ lw_all := lw_g (lw_at lw_m5 210 rfl) rfl
theorem q1563 : (Jvm.Cond.instanceMethod ({ cls := "TunedHouses$Plain", name := "of", desc := "([I)I" } : Jvm.MethodName)) ∈ lw_all := lw_g (lw_at lw_m7 25 rfl) rfl
theorem q1564 : (Jvm.Cond.code ({ cls := "TunedHouses$Plain", name := "of", desc := "([I)I" } : Jvm.MethodName) prog_15_method_2_code (2 : Nat) (Option.some Jvm.ClassFile.FieldType.int)) ∈ lw_all := lw_g (lw_at lw_m7 26 rfl) rfl
theorem q1596 : (Jvm.Cond.selects "TunedHouses$Plain" ({ cls := "TunedHouses$Term", name := "of", desc := "([I)I" } : Jvm.MethodName) ({ cls := "TunedHouses$Plain", name := "of", desc := "([I)I" } : Jvm.MethodName)) ∈ lw_all := lw_g (lw_at lw_m7 58 rfl) rfl
theorem q2579 : (Jvm.Cond.castable "TunedHouses$Plain" "java/lang/Object") ∈ lw_tbl := lw_at lw_m11 81 rfl
theorem in_X14 : ∀ w ∈ wsX140, w ∈ lw_all := lw_in wsX140 [1266] (by decide +kernel) (by decide +kernel)

/-! TunedHouses$Least -/
set_option maxRecDepth 100000
def RX15 : String := "TunedHouses$Least"
def TX15 : u_T := fun k => match k with
  | 0 => ("TunedHouses$Two", "a", "LTunedHouses$Term;", true)
  | _ => ("TunedHouses$Two", "b", "LTunedHouses$Term;", true)
def tyX15 : Nat → FieldType := fun k => match k with
  | 0 => .object "TunedHouses$Term"
  | _ => .object "TunedHouses$Term"
abbrev wsX150 : List Cond := u_ws RX15 TX15 2
theorem nmX15 : ∀ a, a < 2 → ∀ b, b < 2 → a ≠ b → (TX15 a).2.1 ≠ (TX15 b).2.1 := by decide +kernel
theorem tyX15_ok : ∀ k, k < 2 → parseFieldDescriptor (TX15 k).2.2.1 = some (tyX15 k) := by decide +kernel
abbrev cX15_init : ByteArray := prog_9_method_1_code
def yX15_init : MethodName := ⟨RX15, "<init>", "(LTunedHouses$Term;LTunedHouses$Term;)V"⟩
def dkwX15_init_0 : List UInt8 := [42, 43, 44, 183, 0, 1, 177]
abbrev dktX15_init_0 : List UInt8 := dkwX15_init_0 ++ []
theorem dksX15_init_0 : cX15_init.data.toList.drop 0 = dktX15_init_0 := by decide +kernel
theorem dX15_init_0 : decode cX15_init 0 = .ok (.aload_n 0, 1) := dk_42 (dk_at dksX15_init_0 0 rfl rfl)
theorem dX15_init_1 : decode cX15_init 1 = .ok (.aload_n 1, 1) := dk_43 (dk_at dksX15_init_0 1 rfl rfl)
theorem dX15_init_2 : decode cX15_init 2 = .ok (.aload_n 2, 1) := dk_44 (dk_at dksX15_init_0 2 rfl rfl)
theorem dX15_init_3 : decode cX15_init 3 = .ok (.invokespecial 1, 3) := dk_183 0 1 (dk_at dksX15_init_0 3 rfl rfl)
theorem dX15_init_6 : decode cX15_init 6 = .ok (.return_, 1) := dk_177 (dk_at dksX15_init_0 6 rfl rfl)
abbrev cX15_with : ByteArray := prog_9_method_2_code
def yX15_with : MethodName := ⟨RX15, "with", "(II)I"⟩
def dkwX15_with_0 : List UInt8 := [27, 28, 184, 0, 7, 172]
abbrev dktX15_with_0 : List UInt8 := dkwX15_with_0 ++ []
theorem dksX15_with_0 : cX15_with.data.toList.drop 0 = dktX15_with_0 := by decide +kernel
theorem dX15_with_0 : decode cX15_with 0 = .ok (.iload_n 1, 1) := dk_27 (dk_at dksX15_with_0 0 rfl rfl)
theorem dX15_with_1 : decode cX15_with 1 = .ok (.iload_n 2, 1) := dk_28 (dk_at dksX15_with_0 1 rfl rfl)
theorem dX15_with_2 : decode cX15_with 2 = .ok (.invokestatic 7, 3) := dk_184 0 7 (dk_at dksX15_with_0 2 rfl rfl)
theorem dX15_with_5 : decode cX15_with 5 = .ok (.ireturn, 1) := dk_172 (dk_at dksX15_with_0 5 rfl rfl)
theorem q132 : (Jvm.Cond.initialized "TunedHouses$Least") ∈ lw_all := lw_g (lw_at lw_m1 34 rfl) rfl
theorem q1169 : (Jvm.Cond.selects "TunedHouses$Least" ({ cls := "java/lang/Object", name := "getClass", desc := "()Ljava/lang/Class;" } : Jvm.MethodName) ({ cls := "java/lang/Object", name := "getClass", desc := "()Ljava/lang/Class;" } : Jvm.MethodName)) ∈ lw_all := lw_g (lw_at lw_m5 111 rfl) rfl
theorem q1296 : (Jvm.Cond.instantiable "TunedHouses$Least" (2 : Nat)) ∈ lw_all := lw_g (lw_at lw_m5 238 rfl) rfl
theorem q1298 : (Jvm.Cond.instanceMethod ({ cls := "TunedHouses$Least", name := "<init>", desc := "(LTunedHouses$Term;LTunedHouses$Term;)V" } : Jvm.MethodName)) ∈ lw_all := lw_g (lw_at lw_m6 0 rfl) rfl
theorem q1299 : (Jvm.Cond.code ({ cls := "TunedHouses$Least", name := "<init>", desc := "(LTunedHouses$Term;LTunedHouses$Term;)V" } : Jvm.MethodName) prog_9_method_1_code (3 : Nat) (Option.none : Option Jvm.ClassFile.FieldType)) ∈ lw_all := lw_g (lw_at lw_m6 1 rfl) rfl
theorem q1300 : (Jvm.Cond.methodLink "TunedHouses$Least" (1 : Nat) ({ cls := "TunedHouses$Two", name := "<init>", desc := "(LTunedHouses$Term;LTunedHouses$Term;)V" } : Jvm.MethodName)) ∈ lw_all := lw_g (lw_at lw_m6 2 rfl) rfl
theorem q1301 : (Jvm.Cond.laysFinal "TunedHouses$Least" "TunedHouses$Two" "a" "LTunedHouses$Term;") ∈ lw_all := lw_g (lw_at lw_m6 3 rfl) rfl
theorem q1302 : (Jvm.Cond.laysFinal "TunedHouses$Least" "TunedHouses$Two" "b" "LTunedHouses$Term;") ∈ lw_all := lw_g (lw_at lw_m6 4 rfl) rfl
theorem q1303 : (Jvm.Cond.superclass "TunedHouses$Least" "TunedHouses$Two") ∈ lw_all := lw_g (lw_at lw_m6 5 rfl) rfl
theorem q1571 : (Jvm.Cond.selects "TunedHouses$Least" ({ cls := "TunedHouses$Two", name := "with", desc := "(II)I" } : Jvm.MethodName) ({ cls := "TunedHouses$Least", name := "with", desc := "(II)I" } : Jvm.MethodName)) ∈ lw_all := lw_g (lw_at lw_m7 33 rfl) rfl
theorem q1572 : (Jvm.Cond.instanceMethod ({ cls := "TunedHouses$Least", name := "with", desc := "(II)I" } : Jvm.MethodName)) ∈ lw_all := lw_g (lw_at lw_m7 34 rfl) rfl
theorem q1573 : (Jvm.Cond.code ({ cls := "TunedHouses$Least", name := "with", desc := "(II)I" } : Jvm.MethodName) prog_9_method_2_code (3 : Nat) (Option.some Jvm.ClassFile.FieldType.int)) ∈ lw_all := lw_g (lw_at lw_m7 35 rfl) rfl
theorem q1574 : (Jvm.Cond.methodLink "TunedHouses$Least" (7 : Nat) ({ cls := "java/lang/Math", name := "min", desc := "(II)I" } : Jvm.MethodName)) ∈ lw_all := lw_g (lw_at lw_m7 36 rfl) rfl
theorem q1592 : (Jvm.Cond.selects "TunedHouses$Least" ({ cls := "TunedHouses$Term", name := "of", desc := "([I)I" } : Jvm.MethodName) ({ cls := "TunedHouses$Two", name := "of", desc := "([I)I" } : Jvm.MethodName)) ∈ lw_all := lw_g (lw_at lw_m7 54 rfl) rfl
theorem q2580 : (Jvm.Cond.castable "TunedHouses$Least" "java/lang/Object") ∈ lw_tbl := lw_at lw_m11 82 rfl
theorem in_X15 : ∀ w ∈ wsX150, w ∈ lw_all := lw_in wsX150 [1301, 1302] (by decide +kernel) (by decide +kernel)

/-! TunedHouses$Most -/
set_option maxRecDepth 100000
def RX16 : String := "TunedHouses$Most"
def TX16 : u_T := fun k => match k with
  | 0 => ("TunedHouses$Two", "a", "LTunedHouses$Term;", true)
  | _ => ("TunedHouses$Two", "b", "LTunedHouses$Term;", true)
def tyX16 : Nat → FieldType := fun k => match k with
  | 0 => .object "TunedHouses$Term"
  | _ => .object "TunedHouses$Term"
abbrev wsX160 : List Cond := u_ws RX16 TX16 2
theorem nmX16 : ∀ a, a < 2 → ∀ b, b < 2 → a ≠ b → (TX16 a).2.1 ≠ (TX16 b).2.1 := by decide +kernel
theorem tyX16_ok : ∀ k, k < 2 → parseFieldDescriptor (TX16 k).2.2.1 = some (tyX16 k) := by decide +kernel
abbrev cX16_init : ByteArray := prog_12_method_1_code
def yX16_init : MethodName := ⟨RX16, "<init>", "(LTunedHouses$Term;LTunedHouses$Term;)V"⟩
def dkwX16_init_0 : List UInt8 := [42, 43, 44, 183, 0, 1, 177]
abbrev dktX16_init_0 : List UInt8 := dkwX16_init_0 ++ []
theorem dksX16_init_0 : cX16_init.data.toList.drop 0 = dktX16_init_0 := by decide +kernel
theorem dX16_init_0 : decode cX16_init 0 = .ok (.aload_n 0, 1) := dk_42 (dk_at dksX16_init_0 0 rfl rfl)
theorem dX16_init_1 : decode cX16_init 1 = .ok (.aload_n 1, 1) := dk_43 (dk_at dksX16_init_0 1 rfl rfl)
theorem dX16_init_2 : decode cX16_init 2 = .ok (.aload_n 2, 1) := dk_44 (dk_at dksX16_init_0 2 rfl rfl)
theorem dX16_init_3 : decode cX16_init 3 = .ok (.invokespecial 1, 3) := dk_183 0 1 (dk_at dksX16_init_0 3 rfl rfl)
theorem dX16_init_6 : decode cX16_init 6 = .ok (.return_, 1) := dk_177 (dk_at dksX16_init_0 6 rfl rfl)
abbrev cX16_with : ByteArray := prog_12_method_2_code
def yX16_with : MethodName := ⟨RX16, "with", "(II)I"⟩
def dkwX16_with_0 : List UInt8 := [27, 28, 184, 0, 7, 172]
abbrev dktX16_with_0 : List UInt8 := dkwX16_with_0 ++ []
theorem dksX16_with_0 : cX16_with.data.toList.drop 0 = dktX16_with_0 := by decide +kernel
theorem dX16_with_0 : decode cX16_with 0 = .ok (.iload_n 1, 1) := dk_27 (dk_at dksX16_with_0 0 rfl rfl)
theorem dX16_with_1 : decode cX16_with 1 = .ok (.iload_n 2, 1) := dk_28 (dk_at dksX16_with_0 1 rfl rfl)
theorem dX16_with_2 : decode cX16_with 2 = .ok (.invokestatic 7, 3) := dk_184 0 7 (dk_at dksX16_with_0 2 rfl rfl)
theorem dX16_with_5 : decode cX16_with 5 = .ok (.ireturn, 1) := dk_172 (dk_at dksX16_with_0 5 rfl rfl)
theorem q133 : (Jvm.Cond.initialized "TunedHouses$Most") ∈ lw_all := lw_g (lw_at lw_m1 35 rfl) rfl
theorem q1172 : (Jvm.Cond.selects "TunedHouses$Most" ({ cls := "java/lang/Object", name := "getClass", desc := "()Ljava/lang/Class;" } : Jvm.MethodName) ({ cls := "java/lang/Object", name := "getClass", desc := "()Ljava/lang/Class;" } : Jvm.MethodName)) ∈ lw_all := lw_g (lw_at lw_m5 114 rfl) rfl
theorem q1305 : (Jvm.Cond.instantiable "TunedHouses$Most" (2 : Nat)) ∈ lw_all := lw_g (lw_at lw_m6 7 rfl) rfl
theorem q1307 : (Jvm.Cond.instanceMethod ({ cls := "TunedHouses$Most", name := "<init>", desc := "(LTunedHouses$Term;LTunedHouses$Term;)V" } : Jvm.MethodName)) ∈ lw_all := lw_g (lw_at lw_m6 9 rfl) rfl
theorem q1308 : (Jvm.Cond.code ({ cls := "TunedHouses$Most", name := "<init>", desc := "(LTunedHouses$Term;LTunedHouses$Term;)V" } : Jvm.MethodName) prog_12_method_1_code (3 : Nat) (Option.none : Option Jvm.ClassFile.FieldType)) ∈ lw_all := lw_g (lw_at lw_m6 10 rfl) rfl
theorem q1309 : (Jvm.Cond.methodLink "TunedHouses$Most" (1 : Nat) ({ cls := "TunedHouses$Two", name := "<init>", desc := "(LTunedHouses$Term;LTunedHouses$Term;)V" } : Jvm.MethodName)) ∈ lw_all := lw_g (lw_at lw_m6 11 rfl) rfl
theorem q1310 : (Jvm.Cond.laysFinal "TunedHouses$Most" "TunedHouses$Two" "a" "LTunedHouses$Term;") ∈ lw_all := lw_g (lw_at lw_m6 12 rfl) rfl
theorem q1311 : (Jvm.Cond.laysFinal "TunedHouses$Most" "TunedHouses$Two" "b" "LTunedHouses$Term;") ∈ lw_all := lw_g (lw_at lw_m6 13 rfl) rfl
theorem q1312 : (Jvm.Cond.superclass "TunedHouses$Most" "TunedHouses$Two") ∈ lw_all := lw_g (lw_at lw_m6 14 rfl) rfl
theorem q1581 : (Jvm.Cond.selects "TunedHouses$Most" ({ cls := "TunedHouses$Two", name := "with", desc := "(II)I" } : Jvm.MethodName) ({ cls := "TunedHouses$Most", name := "with", desc := "(II)I" } : Jvm.MethodName)) ∈ lw_all := lw_g (lw_at lw_m7 43 rfl) rfl
theorem q1582 : (Jvm.Cond.instanceMethod ({ cls := "TunedHouses$Most", name := "with", desc := "(II)I" } : Jvm.MethodName)) ∈ lw_all := lw_g (lw_at lw_m7 44 rfl) rfl
theorem q1583 : (Jvm.Cond.code ({ cls := "TunedHouses$Most", name := "with", desc := "(II)I" } : Jvm.MethodName) prog_12_method_2_code (3 : Nat) (Option.some Jvm.ClassFile.FieldType.int)) ∈ lw_all := lw_g (lw_at lw_m7 45 rfl) rfl
theorem q1584 : (Jvm.Cond.methodLink "TunedHouses$Most" (7 : Nat) ({ cls := "java/lang/Math", name := "max", desc := "(II)I" } : Jvm.MethodName)) ∈ lw_all := lw_g (lw_at lw_m7 46 rfl) rfl
theorem q1595 : (Jvm.Cond.selects "TunedHouses$Most" ({ cls := "TunedHouses$Term", name := "of", desc := "([I)I" } : Jvm.MethodName) ({ cls := "TunedHouses$Two", name := "of", desc := "([I)I" } : Jvm.MethodName)) ∈ lw_all := lw_g (lw_at lw_m7 57 rfl) rfl
theorem q2581 : (Jvm.Cond.castable "TunedHouses$Most" "java/lang/Object") ∈ lw_tbl := lw_at lw_m11 83 rfl
theorem in_X16 : ∀ w ∈ wsX160, w ∈ lw_all := lw_in wsX160 [1310, 1311] (by decide +kernel) (by decide +kernel)

/-! TunedHouses$Times -/
set_option maxRecDepth 100000
def RX17 : String := "TunedHouses$Times"
def TX17 : u_T := fun k => match k with
  | 0 => ("TunedHouses$Two", "a", "LTunedHouses$Term;", true)
  | _ => ("TunedHouses$Two", "b", "LTunedHouses$Term;", true)
def tyX17 : Nat → FieldType := fun k => match k with
  | 0 => .object "TunedHouses$Term"
  | _ => .object "TunedHouses$Term"
abbrev wsX170 : List Cond := u_ws RX17 TX17 2
theorem nmX17 : ∀ a, a < 2 → ∀ b, b < 2 → a ≠ b → (TX17 a).2.1 ≠ (TX17 b).2.1 := by decide +kernel
theorem tyX17_ok : ∀ k, k < 2 → parseFieldDescriptor (TX17 k).2.2.1 = some (tyX17 k) := by decide +kernel
abbrev cX17_init : ByteArray := prog_24_method_1_code
def yX17_init : MethodName := ⟨RX17, "<init>", "(LTunedHouses$Term;LTunedHouses$Term;)V"⟩
def dkwX17_init_0 : List UInt8 := [42, 43, 44, 183, 0, 1, 177]
abbrev dktX17_init_0 : List UInt8 := dkwX17_init_0 ++ []
theorem dksX17_init_0 : cX17_init.data.toList.drop 0 = dktX17_init_0 := by decide +kernel
theorem dX17_init_0 : decode cX17_init 0 = .ok (.aload_n 0, 1) := dk_42 (dk_at dksX17_init_0 0 rfl rfl)
theorem dX17_init_1 : decode cX17_init 1 = .ok (.aload_n 1, 1) := dk_43 (dk_at dksX17_init_0 1 rfl rfl)
theorem dX17_init_2 : decode cX17_init 2 = .ok (.aload_n 2, 1) := dk_44 (dk_at dksX17_init_0 2 rfl rfl)
theorem dX17_init_3 : decode cX17_init 3 = .ok (.invokespecial 1, 3) := dk_183 0 1 (dk_at dksX17_init_0 3 rfl rfl)
theorem dX17_init_6 : decode cX17_init 6 = .ok (.return_, 1) := dk_177 (dk_at dksX17_init_0 6 rfl rfl)
abbrev cX17_with : ByteArray := prog_24_method_2_code
def yX17_with : MethodName := ⟨RX17, "with", "(II)I"⟩
def dkwX17_with_0 : List UInt8 := [27, 28, 104, 172]
abbrev dktX17_with_0 : List UInt8 := dkwX17_with_0 ++ []
theorem dksX17_with_0 : cX17_with.data.toList.drop 0 = dktX17_with_0 := by decide +kernel
theorem dX17_with_0 : decode cX17_with 0 = .ok (.iload_n 1, 1) := dk_27 (dk_at dksX17_with_0 0 rfl rfl)
theorem dX17_with_1 : decode cX17_with 1 = .ok (.iload_n 2, 1) := dk_28 (dk_at dksX17_with_0 1 rfl rfl)
theorem dX17_with_2 : decode cX17_with 2 = .ok (.imul, 1) := dk_104 (dk_at dksX17_with_0 2 rfl rfl)
theorem dX17_with_3 : decode cX17_with 3 = .ok (.ireturn, 1) := dk_172 (dk_at dksX17_with_0 3 rfl rfl)
theorem q134 : (Jvm.Cond.initialized "TunedHouses$Times") ∈ lw_all := lw_g (lw_at lw_m1 36 rfl) rfl
theorem q1181 : (Jvm.Cond.selects "TunedHouses$Times" ({ cls := "java/lang/Object", name := "getClass", desc := "()Ljava/lang/Class;" } : Jvm.MethodName) ({ cls := "java/lang/Object", name := "getClass", desc := "()Ljava/lang/Class;" } : Jvm.MethodName)) ∈ lw_all := lw_g (lw_at lw_m5 123 rfl) rfl
theorem q1317 : (Jvm.Cond.instantiable "TunedHouses$Times" (2 : Nat)) ∈ lw_all := lw_g (lw_at lw_m6 19 rfl) rfl
theorem q1319 : (Jvm.Cond.instanceMethod ({ cls := "TunedHouses$Times", name := "<init>", desc := "(LTunedHouses$Term;LTunedHouses$Term;)V" } : Jvm.MethodName)) ∈ lw_all := lw_g (lw_at lw_m6 21 rfl) rfl
theorem q1320 : (Jvm.Cond.code ({ cls := "TunedHouses$Times", name := "<init>", desc := "(LTunedHouses$Term;LTunedHouses$Term;)V" } : Jvm.MethodName) prog_24_method_1_code (3 : Nat) (Option.none : Option Jvm.ClassFile.FieldType)) ∈ lw_all := lw_g (lw_at lw_m6 22 rfl) rfl
theorem q1321 : (Jvm.Cond.methodLink "TunedHouses$Times" (1 : Nat) ({ cls := "TunedHouses$Two", name := "<init>", desc := "(LTunedHouses$Term;LTunedHouses$Term;)V" } : Jvm.MethodName)) ∈ lw_all := lw_g (lw_at lw_m6 23 rfl) rfl
theorem q1322 : (Jvm.Cond.laysFinal "TunedHouses$Times" "TunedHouses$Two" "a" "LTunedHouses$Term;") ∈ lw_all := lw_g (lw_at lw_m6 24 rfl) rfl
theorem q1323 : (Jvm.Cond.laysFinal "TunedHouses$Times" "TunedHouses$Two" "b" "LTunedHouses$Term;") ∈ lw_all := lw_g (lw_at lw_m6 25 rfl) rfl
theorem q1324 : (Jvm.Cond.superclass "TunedHouses$Times" "TunedHouses$Two") ∈ lw_all := lw_g (lw_at lw_m6 26 rfl) rfl
theorem q1588 : (Jvm.Cond.selects "TunedHouses$Times" ({ cls := "TunedHouses$Two", name := "with", desc := "(II)I" } : Jvm.MethodName) ({ cls := "TunedHouses$Times", name := "with", desc := "(II)I" } : Jvm.MethodName)) ∈ lw_all := lw_g (lw_at lw_m7 50 rfl) rfl
theorem q1589 : (Jvm.Cond.instanceMethod ({ cls := "TunedHouses$Times", name := "with", desc := "(II)I" } : Jvm.MethodName)) ∈ lw_all := lw_g (lw_at lw_m7 51 rfl) rfl
theorem q1590 : (Jvm.Cond.code ({ cls := "TunedHouses$Times", name := "with", desc := "(II)I" } : Jvm.MethodName) prog_24_method_2_code (3 : Nat) (Option.some Jvm.ClassFile.FieldType.int)) ∈ lw_all := lw_g (lw_at lw_m7 52 rfl) rfl
theorem q1598 : (Jvm.Cond.selects "TunedHouses$Times" ({ cls := "TunedHouses$Term", name := "of", desc := "([I)I" } : Jvm.MethodName) ({ cls := "TunedHouses$Two", name := "of", desc := "([I)I" } : Jvm.MethodName)) ∈ lw_all := lw_g (lw_at lw_m7 60 rfl) rfl
theorem q2582 : (Jvm.Cond.castable "TunedHouses$Times" "java/lang/Object") ∈ lw_tbl := lw_at lw_m11 84 rfl
theorem in_X17 : ∀ w ∈ wsX170, w ∈ lw_all := lw_in wsX170 [1322, 1323] (by decide +kernel) (by decide +kernel)

/-! TunedHouses$By -/
set_option maxRecDepth 100000
def RX18 : String := "TunedHouses$By"
def TX18 : u_T := fun k => match k with
  | 0 => ("TunedHouses$Two", "a", "LTunedHouses$Term;", true)
  | _ => ("TunedHouses$Two", "b", "LTunedHouses$Term;", true)
def tyX18 : Nat → FieldType := fun k => match k with
  | 0 => .object "TunedHouses$Term"
  | _ => .object "TunedHouses$Term"
abbrev wsX180 : List Cond := u_ws RX18 TX18 2
theorem nmX18 : ∀ a, a < 2 → ∀ b, b < 2 → a ≠ b → (TX18 a).2.1 ≠ (TX18 b).2.1 := by decide +kernel
theorem tyX18_ok : ∀ k, k < 2 → parseFieldDescriptor (TX18 k).2.2.1 = some (tyX18 k) := by decide +kernel
abbrev cX18_init : ByteArray := prog_5_method_1_code
def yX18_init : MethodName := ⟨RX18, "<init>", "(LTunedHouses$Term;LTunedHouses$Term;)V"⟩
def dkwX18_init_0 : List UInt8 := [42, 43, 44, 183, 0, 1, 177]
abbrev dktX18_init_0 : List UInt8 := dkwX18_init_0 ++ []
theorem dksX18_init_0 : cX18_init.data.toList.drop 0 = dktX18_init_0 := by decide +kernel
theorem dX18_init_0 : decode cX18_init 0 = .ok (.aload_n 0, 1) := dk_42 (dk_at dksX18_init_0 0 rfl rfl)
theorem dX18_init_1 : decode cX18_init 1 = .ok (.aload_n 1, 1) := dk_43 (dk_at dksX18_init_0 1 rfl rfl)
theorem dX18_init_2 : decode cX18_init 2 = .ok (.aload_n 2, 1) := dk_44 (dk_at dksX18_init_0 2 rfl rfl)
theorem dX18_init_3 : decode cX18_init 3 = .ok (.invokespecial 1, 3) := dk_183 0 1 (dk_at dksX18_init_0 3 rfl rfl)
theorem dX18_init_6 : decode cX18_init 6 = .ok (.return_, 1) := dk_177 (dk_at dksX18_init_0 6 rfl rfl)
abbrev cX18_with : ByteArray := prog_5_method_2_code
def yX18_with : MethodName := ⟨RX18, "with", "(II)I"⟩
def dkwX18_with_0 : List UInt8 := [28, 154, 0, 7, 3, 167, 0, 6, 27, 28, 108, 172]
abbrev dktX18_with_0 : List UInt8 := dkwX18_with_0 ++ []
theorem dksX18_with_0 : cX18_with.data.toList.drop 0 = dktX18_with_0 := by decide +kernel
theorem dX18_with_0 : decode cX18_with 0 = .ok (.iload_n 2, 1) := dk_28 (dk_at dksX18_with_0 0 rfl rfl)
theorem dX18_with_1 : decode cX18_with 1 = .ok (.ifCond .ne 7, 3) := dk_154 0 7 (dk_at dksX18_with_0 1 rfl rfl)
theorem dX18_with_4 : decode cX18_with 4 = .ok (.iconst 0, 1) := dk_3 (dk_at dksX18_with_0 4 rfl rfl)
theorem dX18_with_5 : decode cX18_with 5 = .ok (.goto 6, 3) := dk_167 0 6 (dk_at dksX18_with_0 5 rfl rfl)
theorem dX18_with_8 : decode cX18_with 8 = .ok (.iload_n 1, 1) := dk_27 (dk_at dksX18_with_0 8 rfl rfl)
theorem dX18_with_9 : decode cX18_with 9 = .ok (.iload_n 2, 1) := dk_28 (dk_at dksX18_with_0 9 rfl rfl)
theorem dX18_with_10 : decode cX18_with 10 = .ok (.idiv, 1) := dk_108 (dk_at dksX18_with_0 10 rfl rfl)
theorem dX18_with_11 : decode cX18_with 11 = .ok (.ireturn, 1) := dk_172 (dk_at dksX18_with_0 11 rfl rfl)
theorem q135 : (Jvm.Cond.initialized "TunedHouses$By") ∈ lw_all := lw_g (lw_at lw_m1 37 rfl) rfl
theorem q1165 : (Jvm.Cond.selects "TunedHouses$By" ({ cls := "java/lang/Object", name := "getClass", desc := "()Ljava/lang/Class;" } : Jvm.MethodName) ({ cls := "java/lang/Object", name := "getClass", desc := "()Ljava/lang/Class;" } : Jvm.MethodName)) ∈ lw_all := lw_g (lw_at lw_m5 107 rfl) rfl
theorem q1326 : (Jvm.Cond.instantiable "TunedHouses$By" (2 : Nat)) ∈ lw_all := lw_g (lw_at lw_m6 28 rfl) rfl
theorem q1328 : (Jvm.Cond.instanceMethod ({ cls := "TunedHouses$By", name := "<init>", desc := "(LTunedHouses$Term;LTunedHouses$Term;)V" } : Jvm.MethodName)) ∈ lw_all := lw_g (lw_at lw_m6 30 rfl) rfl
theorem q1329 : (Jvm.Cond.code ({ cls := "TunedHouses$By", name := "<init>", desc := "(LTunedHouses$Term;LTunedHouses$Term;)V" } : Jvm.MethodName) prog_5_method_1_code (3 : Nat) (Option.none : Option Jvm.ClassFile.FieldType)) ∈ lw_all := lw_g (lw_at lw_m6 31 rfl) rfl
theorem q1330 : (Jvm.Cond.methodLink "TunedHouses$By" (1 : Nat) ({ cls := "TunedHouses$Two", name := "<init>", desc := "(LTunedHouses$Term;LTunedHouses$Term;)V" } : Jvm.MethodName)) ∈ lw_all := lw_g (lw_at lw_m6 32 rfl) rfl
theorem q1331 : (Jvm.Cond.laysFinal "TunedHouses$By" "TunedHouses$Two" "a" "LTunedHouses$Term;") ∈ lw_all := lw_g (lw_at lw_m6 33 rfl) rfl
theorem q1332 : (Jvm.Cond.laysFinal "TunedHouses$By" "TunedHouses$Two" "b" "LTunedHouses$Term;") ∈ lw_all := lw_g (lw_at lw_m6 34 rfl) rfl
theorem q1333 : (Jvm.Cond.superclass "TunedHouses$By" "TunedHouses$Two") ∈ lw_all := lw_g (lw_at lw_m6 35 rfl) rfl
theorem q1557 : (Jvm.Cond.selects "TunedHouses$By" ({ cls := "TunedHouses$Term", name := "of", desc := "([I)I" } : Jvm.MethodName) ({ cls := "TunedHouses$Two", name := "of", desc := "([I)I" } : Jvm.MethodName)) ∈ lw_all := lw_g (lw_at lw_m7 19 rfl) rfl
theorem q1568 : (Jvm.Cond.selects "TunedHouses$By" ({ cls := "TunedHouses$Two", name := "with", desc := "(II)I" } : Jvm.MethodName) ({ cls := "TunedHouses$By", name := "with", desc := "(II)I" } : Jvm.MethodName)) ∈ lw_all := lw_g (lw_at lw_m7 30 rfl) rfl
theorem q1569 : (Jvm.Cond.instanceMethod ({ cls := "TunedHouses$By", name := "with", desc := "(II)I" } : Jvm.MethodName)) ∈ lw_all := lw_g (lw_at lw_m7 31 rfl) rfl
theorem q1570 : (Jvm.Cond.code ({ cls := "TunedHouses$By", name := "with", desc := "(II)I" } : Jvm.MethodName) prog_5_method_2_code (3 : Nat) (Option.some Jvm.ClassFile.FieldType.int)) ∈ lw_all := lw_g (lw_at lw_m7 32 rfl) rfl
theorem q2583 : (Jvm.Cond.castable "TunedHouses$By" "java/lang/Object") ∈ lw_tbl := lw_at lw_m11 85 rfl
theorem in_X18 : ∀ w ∈ wsX180, w ∈ lw_all := lw_in wsX180 [1331, 1332] (by decide +kernel) (by decide +kernel)

/-! TunedHouses$Leaves -/
set_option maxRecDepth 100000
def RX19 : String := "TunedHouses$Leaves"
def TX19 : u_T := fun k => match k with
  | 0 => ("TunedHouses$Two", "a", "LTunedHouses$Term;", true)
  | _ => ("TunedHouses$Two", "b", "LTunedHouses$Term;", true)
def tyX19 : Nat → FieldType := fun k => match k with
  | 0 => .object "TunedHouses$Term"
  | _ => .object "TunedHouses$Term"
abbrev wsX190 : List Cond := u_ws RX19 TX19 2
theorem nmX19 : ∀ a, a < 2 → ∀ b, b < 2 → a ≠ b → (TX19 a).2.1 ≠ (TX19 b).2.1 := by decide +kernel
theorem tyX19_ok : ∀ k, k < 2 → parseFieldDescriptor (TX19 k).2.2.1 = some (tyX19 k) := by decide +kernel
abbrev cX19_init : ByteArray := prog_10_method_1_code
def yX19_init : MethodName := ⟨RX19, "<init>", "(LTunedHouses$Term;LTunedHouses$Term;)V"⟩
def dkwX19_init_0 : List UInt8 := [42, 43, 44, 183, 0, 1, 177]
abbrev dktX19_init_0 : List UInt8 := dkwX19_init_0 ++ []
theorem dksX19_init_0 : cX19_init.data.toList.drop 0 = dktX19_init_0 := by decide +kernel
theorem dX19_init_0 : decode cX19_init 0 = .ok (.aload_n 0, 1) := dk_42 (dk_at dksX19_init_0 0 rfl rfl)
theorem dX19_init_1 : decode cX19_init 1 = .ok (.aload_n 1, 1) := dk_43 (dk_at dksX19_init_0 1 rfl rfl)
theorem dX19_init_2 : decode cX19_init 2 = .ok (.aload_n 2, 1) := dk_44 (dk_at dksX19_init_0 2 rfl rfl)
theorem dX19_init_3 : decode cX19_init 3 = .ok (.invokespecial 1, 3) := dk_183 0 1 (dk_at dksX19_init_0 3 rfl rfl)
theorem dX19_init_6 : decode cX19_init 6 = .ok (.return_, 1) := dk_177 (dk_at dksX19_init_0 6 rfl rfl)
abbrev cX19_with : ByteArray := prog_10_method_2_code
def yX19_with : MethodName := ⟨RX19, "with", "(II)I"⟩
def dkwX19_with_0 : List UInt8 := [28, 154, 0, 7, 3, 167, 0, 6, 27, 28, 112, 172]
abbrev dktX19_with_0 : List UInt8 := dkwX19_with_0 ++ []
theorem dksX19_with_0 : cX19_with.data.toList.drop 0 = dktX19_with_0 := by decide +kernel
theorem dX19_with_0 : decode cX19_with 0 = .ok (.iload_n 2, 1) := dk_28 (dk_at dksX19_with_0 0 rfl rfl)
theorem dX19_with_1 : decode cX19_with 1 = .ok (.ifCond .ne 7, 3) := dk_154 0 7 (dk_at dksX19_with_0 1 rfl rfl)
theorem dX19_with_4 : decode cX19_with 4 = .ok (.iconst 0, 1) := dk_3 (dk_at dksX19_with_0 4 rfl rfl)
theorem dX19_with_5 : decode cX19_with 5 = .ok (.goto 6, 3) := dk_167 0 6 (dk_at dksX19_with_0 5 rfl rfl)
theorem dX19_with_8 : decode cX19_with 8 = .ok (.iload_n 1, 1) := dk_27 (dk_at dksX19_with_0 8 rfl rfl)
theorem dX19_with_9 : decode cX19_with 9 = .ok (.iload_n 2, 1) := dk_28 (dk_at dksX19_with_0 9 rfl rfl)
theorem dX19_with_10 : decode cX19_with 10 = .ok (.irem, 1) := dk_112 (dk_at dksX19_with_0 10 rfl rfl)
theorem dX19_with_11 : decode cX19_with 11 = .ok (.ireturn, 1) := dk_172 (dk_at dksX19_with_0 11 rfl rfl)
theorem q136 : (Jvm.Cond.initialized "TunedHouses$Leaves") ∈ lw_all := lw_g (lw_at lw_m1 38 rfl) rfl
theorem q1170 : (Jvm.Cond.selects "TunedHouses$Leaves" ({ cls := "java/lang/Object", name := "getClass", desc := "()Ljava/lang/Class;" } : Jvm.MethodName) ({ cls := "java/lang/Object", name := "getClass", desc := "()Ljava/lang/Class;" } : Jvm.MethodName)) ∈ lw_all := lw_g (lw_at lw_m5 112 rfl) rfl
theorem q1335 : (Jvm.Cond.instantiable "TunedHouses$Leaves" (2 : Nat)) ∈ lw_all := lw_g (lw_at lw_m6 37 rfl) rfl
theorem q1337 : (Jvm.Cond.instanceMethod ({ cls := "TunedHouses$Leaves", name := "<init>", desc := "(LTunedHouses$Term;LTunedHouses$Term;)V" } : Jvm.MethodName)) ∈ lw_all := lw_g (lw_at lw_m6 39 rfl) rfl
theorem q1338 : (Jvm.Cond.code ({ cls := "TunedHouses$Leaves", name := "<init>", desc := "(LTunedHouses$Term;LTunedHouses$Term;)V" } : Jvm.MethodName) prog_10_method_1_code (3 : Nat) (Option.none : Option Jvm.ClassFile.FieldType)) ∈ lw_all := lw_g (lw_at lw_m6 40 rfl) rfl
theorem q1339 : (Jvm.Cond.methodLink "TunedHouses$Leaves" (1 : Nat) ({ cls := "TunedHouses$Two", name := "<init>", desc := "(LTunedHouses$Term;LTunedHouses$Term;)V" } : Jvm.MethodName)) ∈ lw_all := lw_g (lw_at lw_m6 41 rfl) rfl
theorem q1340 : (Jvm.Cond.laysFinal "TunedHouses$Leaves" "TunedHouses$Two" "a" "LTunedHouses$Term;") ∈ lw_all := lw_g (lw_at lw_m6 42 rfl) rfl
theorem q1341 : (Jvm.Cond.laysFinal "TunedHouses$Leaves" "TunedHouses$Two" "b" "LTunedHouses$Term;") ∈ lw_all := lw_g (lw_at lw_m6 43 rfl) rfl
theorem q1342 : (Jvm.Cond.superclass "TunedHouses$Leaves" "TunedHouses$Two") ∈ lw_all := lw_g (lw_at lw_m6 44 rfl) rfl
theorem q1575 : (Jvm.Cond.selects "TunedHouses$Leaves" ({ cls := "TunedHouses$Two", name := "with", desc := "(II)I" } : Jvm.MethodName) ({ cls := "TunedHouses$Leaves", name := "with", desc := "(II)I" } : Jvm.MethodName)) ∈ lw_all := lw_g (lw_at lw_m7 37 rfl) rfl
theorem q1576 : (Jvm.Cond.instanceMethod ({ cls := "TunedHouses$Leaves", name := "with", desc := "(II)I" } : Jvm.MethodName)) ∈ lw_all := lw_g (lw_at lw_m7 38 rfl) rfl
theorem q1577 : (Jvm.Cond.code ({ cls := "TunedHouses$Leaves", name := "with", desc := "(II)I" } : Jvm.MethodName) prog_10_method_2_code (3 : Nat) (Option.some Jvm.ClassFile.FieldType.int)) ∈ lw_all := lw_g (lw_at lw_m7 39 rfl) rfl
theorem q1593 : (Jvm.Cond.selects "TunedHouses$Leaves" ({ cls := "TunedHouses$Term", name := "of", desc := "([I)I" } : Jvm.MethodName) ({ cls := "TunedHouses$Two", name := "of", desc := "([I)I" } : Jvm.MethodName)) ∈ lw_all := lw_g (lw_at lw_m7 55 rfl) rfl
theorem q2584 : (Jvm.Cond.castable "TunedHouses$Leaves" "java/lang/Object") ∈ lw_tbl := lw_at lw_m11 86 rfl
theorem in_X19 : ∀ w ∈ wsX190, w ∈ lw_all := lw_in wsX190 [1340, 1341] (by decide +kernel) (by decide +kernel)

/-! TunedHouses$Plus -/
set_option maxRecDepth 100000
def RX20 : String := "TunedHouses$Plus"
def TX20 : u_T := fun k => match k with
  | 0 => ("TunedHouses$Two", "a", "LTunedHouses$Term;", true)
  | _ => ("TunedHouses$Two", "b", "LTunedHouses$Term;", true)
def tyX20 : Nat → FieldType := fun k => match k with
  | 0 => .object "TunedHouses$Term"
  | _ => .object "TunedHouses$Term"
abbrev wsX200 : List Cond := u_ws RX20 TX20 2
theorem nmX20 : ∀ a, a < 2 → ∀ b, b < 2 → a ≠ b → (TX20 a).2.1 ≠ (TX20 b).2.1 := by decide +kernel
theorem tyX20_ok : ∀ k, k < 2 → parseFieldDescriptor (TX20 k).2.2.1 = some (tyX20 k) := by decide +kernel
abbrev cX20_init : ByteArray := prog_16_method_1_code
def yX20_init : MethodName := ⟨RX20, "<init>", "(LTunedHouses$Term;LTunedHouses$Term;)V"⟩
def dkwX20_init_0 : List UInt8 := [42, 43, 44, 183, 0, 1, 177]
abbrev dktX20_init_0 : List UInt8 := dkwX20_init_0 ++ []
theorem dksX20_init_0 : cX20_init.data.toList.drop 0 = dktX20_init_0 := by decide +kernel
theorem dX20_init_0 : decode cX20_init 0 = .ok (.aload_n 0, 1) := dk_42 (dk_at dksX20_init_0 0 rfl rfl)
theorem dX20_init_1 : decode cX20_init 1 = .ok (.aload_n 1, 1) := dk_43 (dk_at dksX20_init_0 1 rfl rfl)
theorem dX20_init_2 : decode cX20_init 2 = .ok (.aload_n 2, 1) := dk_44 (dk_at dksX20_init_0 2 rfl rfl)
theorem dX20_init_3 : decode cX20_init 3 = .ok (.invokespecial 1, 3) := dk_183 0 1 (dk_at dksX20_init_0 3 rfl rfl)
theorem dX20_init_6 : decode cX20_init 6 = .ok (.return_, 1) := dk_177 (dk_at dksX20_init_0 6 rfl rfl)
abbrev cX20_with : ByteArray := prog_16_method_2_code
def yX20_with : MethodName := ⟨RX20, "with", "(II)I"⟩
def dkwX20_with_0 : List UInt8 := [27, 28, 96, 172]
abbrev dktX20_with_0 : List UInt8 := dkwX20_with_0 ++ []
theorem dksX20_with_0 : cX20_with.data.toList.drop 0 = dktX20_with_0 := by decide +kernel
theorem dX20_with_0 : decode cX20_with 0 = .ok (.iload_n 1, 1) := dk_27 (dk_at dksX20_with_0 0 rfl rfl)
theorem dX20_with_1 : decode cX20_with 1 = .ok (.iload_n 2, 1) := dk_28 (dk_at dksX20_with_0 1 rfl rfl)
theorem dX20_with_2 : decode cX20_with 2 = .ok (.iadd, 1) := dk_96 (dk_at dksX20_with_0 2 rfl rfl)
theorem dX20_with_3 : decode cX20_with 3 = .ok (.ireturn, 1) := dk_172 (dk_at dksX20_with_0 3 rfl rfl)
theorem q137 : (Jvm.Cond.initialized "TunedHouses$Plus") ∈ lw_all := lw_g (lw_at lw_m1 39 rfl) rfl
theorem q1176 : (Jvm.Cond.selects "TunedHouses$Plus" ({ cls := "java/lang/Object", name := "getClass", desc := "()Ljava/lang/Class;" } : Jvm.MethodName) ({ cls := "java/lang/Object", name := "getClass", desc := "()Ljava/lang/Class;" } : Jvm.MethodName)) ∈ lw_all := lw_g (lw_at lw_m5 118 rfl) rfl
theorem q1344 : (Jvm.Cond.instantiable "TunedHouses$Plus" (2 : Nat)) ∈ lw_all := lw_g (lw_at lw_m6 46 rfl) rfl
theorem q1346 : (Jvm.Cond.instanceMethod ({ cls := "TunedHouses$Plus", name := "<init>", desc := "(LTunedHouses$Term;LTunedHouses$Term;)V" } : Jvm.MethodName)) ∈ lw_all := lw_g (lw_at lw_m6 48 rfl) rfl
theorem q1347 : (Jvm.Cond.code ({ cls := "TunedHouses$Plus", name := "<init>", desc := "(LTunedHouses$Term;LTunedHouses$Term;)V" } : Jvm.MethodName) prog_16_method_1_code (3 : Nat) (Option.none : Option Jvm.ClassFile.FieldType)) ∈ lw_all := lw_g (lw_at lw_m6 49 rfl) rfl
theorem q1348 : (Jvm.Cond.methodLink "TunedHouses$Plus" (1 : Nat) ({ cls := "TunedHouses$Two", name := "<init>", desc := "(LTunedHouses$Term;LTunedHouses$Term;)V" } : Jvm.MethodName)) ∈ lw_all := lw_g (lw_at lw_m6 50 rfl) rfl
theorem q1349 : (Jvm.Cond.laysFinal "TunedHouses$Plus" "TunedHouses$Two" "a" "LTunedHouses$Term;") ∈ lw_all := lw_g (lw_at lw_m6 51 rfl) rfl
theorem q1350 : (Jvm.Cond.laysFinal "TunedHouses$Plus" "TunedHouses$Two" "b" "LTunedHouses$Term;") ∈ lw_all := lw_g (lw_at lw_m6 52 rfl) rfl
theorem q1351 : (Jvm.Cond.superclass "TunedHouses$Plus" "TunedHouses$Two") ∈ lw_all := lw_g (lw_at lw_m6 53 rfl) rfl
theorem q1585 : (Jvm.Cond.selects "TunedHouses$Plus" ({ cls := "TunedHouses$Two", name := "with", desc := "(II)I" } : Jvm.MethodName) ({ cls := "TunedHouses$Plus", name := "with", desc := "(II)I" } : Jvm.MethodName)) ∈ lw_all := lw_g (lw_at lw_m7 47 rfl) rfl
theorem q1586 : (Jvm.Cond.instanceMethod ({ cls := "TunedHouses$Plus", name := "with", desc := "(II)I" } : Jvm.MethodName)) ∈ lw_all := lw_g (lw_at lw_m7 48 rfl) rfl
theorem q1587 : (Jvm.Cond.code ({ cls := "TunedHouses$Plus", name := "with", desc := "(II)I" } : Jvm.MethodName) prog_16_method_2_code (3 : Nat) (Option.some Jvm.ClassFile.FieldType.int)) ∈ lw_all := lw_g (lw_at lw_m7 49 rfl) rfl
theorem q1597 : (Jvm.Cond.selects "TunedHouses$Plus" ({ cls := "TunedHouses$Term", name := "of", desc := "([I)I" } : Jvm.MethodName) ({ cls := "TunedHouses$Two", name := "of", desc := "([I)I" } : Jvm.MethodName)) ∈ lw_all := lw_g (lw_at lw_m7 59 rfl) rfl
theorem q2585 : (Jvm.Cond.castable "TunedHouses$Plus" "java/lang/Object") ∈ lw_tbl := lw_at lw_m11 87 rfl
theorem in_X20 : ∀ w ∈ wsX200, w ∈ lw_all := lw_in wsX200 [1349, 1350] (by decide +kernel) (by decide +kernel)

/-! TunedHouses$WorkReader -/
set_option maxRecDepth 100000
def RX21 : String := "TunedHouses$WorkReader"
def TX21 : u_T := fun k => match k with
  | 0 => ("TunedHouses$Reader", "text", "[B", true)
  | 1 => ("TunedHouses$Reader", "size", "I", true)
  | 2 => ("TunedHouses$Reader", "next", "I", false)
  | 3 => ("TunedHouses$Reader", "from", "I", false)
  | 4 => ("TunedHouses$Reader", "open", "I", false)
  | _ => ("TunedHouses$WorkReader", "t", "LTunedHouses$Told;", true)
def tyX21 : Nat → FieldType := fun k => match k with
  | 0 => .array .byte
  | 1 => .int
  | 2 => .int
  | 3 => .int
  | 4 => .int
  | _ => .object "TunedHouses$Told"
abbrev wsX210 : List Cond := u_ws RX21 TX21 6
theorem nmX21 : ∀ a, a < 6 → ∀ b, b < 6 → a ≠ b → (TX21 a).2.1 ≠ (TX21 b).2.1 := by decide +kernel
theorem tyX21_ok : ∀ k, k < 6 → parseFieldDescriptor (TX21 k).2.2.1 = some (tyX21 k) := by decide +kernel
abbrev cX21_init : ByteArray := prog_27_method_1_code
def yX21_init : MethodName := ⟨RX21, "<init>", "([BILTunedHouses$Told;)V"⟩
def dkwX21_init_0 : List UInt8 := [42, 43, 28, 183, 0, 3, 42, 45, 181, 0, 9, 177]
abbrev dktX21_init_0 : List UInt8 := dkwX21_init_0 ++ []
theorem dksX21_init_0 : cX21_init.data.toList.drop 0 = dktX21_init_0 := by decide +kernel
theorem dX21_init_0 : decode cX21_init 0 = .ok (.aload_n 0, 1) := dk_42 (dk_at dksX21_init_0 0 rfl rfl)
theorem dX21_init_1 : decode cX21_init 1 = .ok (.aload_n 1, 1) := dk_43 (dk_at dksX21_init_0 1 rfl rfl)
theorem dX21_init_2 : decode cX21_init 2 = .ok (.iload_n 2, 1) := dk_28 (dk_at dksX21_init_0 2 rfl rfl)
theorem dX21_init_3 : decode cX21_init 3 = .ok (.invokespecial 3, 3) := dk_183 0 3 (dk_at dksX21_init_0 3 rfl rfl)
theorem dX21_init_6 : decode cX21_init 6 = .ok (.aload_n 0, 1) := dk_42 (dk_at dksX21_init_0 6 rfl rfl)
theorem dX21_init_7 : decode cX21_init 7 = .ok (.aload_n 3, 1) := dk_45 (dk_at dksX21_init_0 7 rfl rfl)
theorem dX21_init_8 : decode cX21_init 8 = .ok (.putfield 9, 3) := dk_181 0 9 (dk_at dksX21_init_0 8 rfl rfl)
theorem dX21_init_11 : decode cX21_init 11 = .ok (.return_, 1) := dk_177 (dk_at dksX21_init_0 11 rfl rfl)
abbrev cX21_reads : ByteArray := prog_27_method_2_code
def yX21_reads : MethodName := ⟨RX21, "reads", "()Ljava/util/ArrayList;"⟩
def dkwX21_reads_1 : List UInt8 := [162, 0, 20, 43, 42, 182, 0, 31, 182, 0, 35, 87, 42, 182, 0, 20, 87, 167, 255, 231, 43, 176]
abbrev dktX21_reads_1 : List UInt8 := dkwX21_reads_1 ++ []
def dkwX21_reads_0 : List UInt8 := [187, 0, 15, 89, 5, 183, 0, 17, 76, 42, 182, 0, 20, 87, 42, 180, 0, 24, 42, 180, 0, 28]
abbrev dktX21_reads_0 : List UInt8 := dkwX21_reads_0 ++ dktX21_reads_1
theorem dksX21_reads_0 : cX21_reads.data.toList.drop 0 = dktX21_reads_0 := by decide +kernel
theorem dksX21_reads_1 : cX21_reads.data.toList.drop 22 = dktX21_reads_1 := dk_seg dksX21_reads_0 22 rfl rfl
theorem dX21_reads_0 : decode cX21_reads 0 = .ok (.new 15, 3) := dk_187 0 15 (dk_at dksX21_reads_0 0 rfl rfl)
theorem dX21_reads_3 : decode cX21_reads 3 = .ok (.dup, 1) := dk_89 (dk_at dksX21_reads_0 3 rfl rfl)
theorem dX21_reads_4 : decode cX21_reads 4 = .ok (.iconst 2, 1) := dk_5 (dk_at dksX21_reads_0 4 rfl rfl)
theorem dX21_reads_5 : decode cX21_reads 5 = .ok (.invokespecial 17, 3) := dk_183 0 17 (dk_at dksX21_reads_0 5 rfl rfl)
theorem dX21_reads_8 : decode cX21_reads 8 = .ok (.astore_n 1, 1) := dk_76 (dk_at dksX21_reads_0 8 rfl rfl)
theorem dX21_reads_9 : decode cX21_reads 9 = .ok (.aload_n 0, 1) := dk_42 (dk_at dksX21_reads_0 9 rfl rfl)
theorem dX21_reads_10 : decode cX21_reads 10 = .ok (.invokevirtual 20, 3) := dk_182 0 20 (dk_at dksX21_reads_0 10 rfl rfl)
theorem dX21_reads_13 : decode cX21_reads 13 = .ok (.pop, 1) := dk_87 (dk_at dksX21_reads_0 13 rfl rfl)
theorem dX21_reads_14 : decode cX21_reads 14 = .ok (.aload_n 0, 1) := dk_42 (dk_at dksX21_reads_0 14 rfl rfl)
theorem dX21_reads_15 : decode cX21_reads 15 = .ok (.getfield 24, 3) := dk_180 0 24 (dk_at dksX21_reads_0 15 rfl rfl)
theorem dX21_reads_18 : decode cX21_reads 18 = .ok (.aload_n 0, 1) := dk_42 (dk_at dksX21_reads_0 18 rfl rfl)
theorem dX21_reads_19 : decode cX21_reads 19 = .ok (.getfield 28, 3) := dk_180 0 28 (dk_at dksX21_reads_0 19 rfl rfl)
theorem dX21_reads_22 : decode cX21_reads 22 = .ok (.if_icmp .ge 20, 3) := dk_162 0 20 (dk_at dksX21_reads_1 0 rfl rfl)
theorem dX21_reads_25 : decode cX21_reads 25 = .ok (.aload_n 1, 1) := dk_43 (dk_at dksX21_reads_1 3 rfl rfl)
theorem dX21_reads_26 : decode cX21_reads 26 = .ok (.aload_n 0, 1) := dk_42 (dk_at dksX21_reads_1 4 rfl rfl)
theorem dX21_reads_27 : decode cX21_reads 27 = .ok (.invokevirtual 31, 3) := dk_182 0 31 (dk_at dksX21_reads_1 5 rfl rfl)
theorem dX21_reads_30 : decode cX21_reads 30 = .ok (.invokevirtual 35, 3) := dk_182 0 35 (dk_at dksX21_reads_1 8 rfl rfl)
theorem dX21_reads_33 : decode cX21_reads 33 = .ok (.pop, 1) := dk_87 (dk_at dksX21_reads_1 11 rfl rfl)
theorem dX21_reads_34 : decode cX21_reads 34 = .ok (.aload_n 0, 1) := dk_42 (dk_at dksX21_reads_1 12 rfl rfl)
theorem dX21_reads_35 : decode cX21_reads 35 = .ok (.invokevirtual 20, 3) := dk_182 0 20 (dk_at dksX21_reads_1 13 rfl rfl)
theorem dX21_reads_38 : decode cX21_reads 38 = .ok (.pop, 1) := dk_87 (dk_at dksX21_reads_1 16 rfl rfl)
theorem dX21_reads_39 : decode cX21_reads 39 = .ok (.goto (-25), 3) := dk_167 255 231 (dk_at dksX21_reads_1 17 rfl rfl)
theorem dX21_reads_42 : decode cX21_reads 42 = .ok (.aload_n 1, 1) := dk_43 (dk_at dksX21_reads_1 20 rfl rfl)
theorem dX21_reads_43 : decode cX21_reads 43 = .ok (.areturn, 1) := dk_176 (dk_at dksX21_reads_1 21 rfl rfl)
abbrev cX21_step : ByteArray := prog_27_method_4_code
def yX21_step : MethodName := ⟨RX21, "step", "()LTunedHouses$Step;"⟩
def dkwX21_step_8 : List UInt8 := [182, 0, 80, 77, 167, 0, 8, 42, 182, 0, 82, 191, 42, 16, 59, 182, 0, 86, 44, 176]
abbrev dktX21_step_8 : List UInt8 := dkwX21_step_8 ++ []
def dkwX21_step_7 : List UInt8 := [42, 89, 180, 0, 24, 43, 182, 0, 73, 96, 181, 0, 24, 42, 43, 182, 0, 76, 77, 167, 0, 16, 42]
abbrev dktX21_step_7 : List UInt8 := dkwX21_step_7 ++ dktX21_step_8
def dkwX21_step_6 : List UInt8 := [170, 0, 0, 0, 0, 64, 0, 0, 0, 0, 0, 0, 0, 4, 0, 0, 0, 34, 0, 0, 0, 34, 0, 0, 0, 34, 0, 0, 0, 34, 0, 0, 0, 56]
abbrev dktX21_step_6 : List UInt8 := dkwX21_step_6 ++ dktX21_step_7
def dkwX21_step_5 : List UInt8 := [21, 4]
abbrev dktX21_step_5 : List UInt8 := dkwX21_step_5 ++ dktX21_step_6
def dkwX21_step_4 : List UInt8 := [182, 0, 62, 153, 0, 21, 6, 54, 4, 167, 0, 15, 45, 18, 71, 182, 0, 62, 153, 0, 6, 7, 54, 4]
abbrev dktX21_step_4 : List UInt8 := dkwX21_step_4 ++ dktX21_step_5
def dkwX21_step_3 : List UInt8 := [4, 54, 4, 167, 0, 45, 45, 18, 67, 182, 0, 62, 153, 0, 36, 5, 54, 4, 167, 0, 30, 45, 18, 69]
abbrev dktX21_step_3 : List UInt8 := dkwX21_step_3 ++ dktX21_step_4
def dkwX21_step_2 : List UInt8 := [45, 18, 60, 182, 0, 62, 153, 0, 66, 3, 54, 4, 167, 0, 60, 45, 18, 65, 182, 0, 62, 153, 0, 51]
abbrev dktX21_step_2 : List UInt8 := dkwX21_step_2 ++ dktX21_step_3
def dkwX21_step_1 : List UInt8 := [171, 0, 0, 0, 0, 122, 0, 0, 0, 5, 0, 1, 131, 156, 0, 0, 0, 95, 0, 1, 161, 164, 0, 0, 0, 80, 0, 1, 179, 15, 0, 0, 0, 50, 0, 54, 52, 135, 0, 0, 0, 65, 5, 135, 51, 96, 0, 0, 0, 110]
abbrev dktX21_step_1 : List UInt8 := dkwX21_step_1 ++ dktX21_step_2
def dkwX21_step_0 : List UInt8 := [42, 182, 0, 51, 76, 43, 78, 2, 54, 4, 45, 182, 0, 55]
abbrev dktX21_step_0 : List UInt8 := dkwX21_step_0 ++ dktX21_step_1
theorem dksX21_step_0 : cX21_step.data.toList.drop 0 = dktX21_step_0 := by decide +kernel
theorem dksX21_step_1 : cX21_step.data.toList.drop 14 = dktX21_step_1 := dk_seg dksX21_step_0 14 rfl rfl
theorem dksX21_step_2 : cX21_step.data.toList.drop 64 = dktX21_step_2 := dk_seg dksX21_step_1 50 rfl rfl
theorem dksX21_step_3 : cX21_step.data.toList.drop 88 = dktX21_step_3 := dk_seg dksX21_step_2 24 rfl rfl
theorem dksX21_step_4 : cX21_step.data.toList.drop 112 = dktX21_step_4 := dk_seg dksX21_step_3 24 rfl rfl
theorem dksX21_step_5 : cX21_step.data.toList.drop 136 = dktX21_step_5 := dk_seg dksX21_step_4 24 rfl rfl
theorem dksX21_step_6 : cX21_step.data.toList.drop 138 = dktX21_step_6 := dk_seg dksX21_step_5 2 rfl rfl
theorem dksX21_step_7 : cX21_step.data.toList.drop 172 = dktX21_step_7 := dk_seg dksX21_step_6 34 rfl rfl
theorem dksX21_step_8 : cX21_step.data.toList.drop 195 = dktX21_step_8 := dk_seg dksX21_step_7 23 rfl rfl
theorem dX21_step_0 : decode cX21_step 0 = .ok (.aload_n 0, 1) := dk_42 (dk_at dksX21_step_0 0 rfl rfl)
theorem dX21_step_1 : decode cX21_step 1 = .ok (.invokevirtual 51, 3) := dk_182 0 51 (dk_at dksX21_step_0 1 rfl rfl)
theorem dX21_step_4 : decode cX21_step 4 = .ok (.astore_n 1, 1) := dk_76 (dk_at dksX21_step_0 4 rfl rfl)
theorem dX21_step_5 : decode cX21_step 5 = .ok (.aload_n 1, 1) := dk_43 (dk_at dksX21_step_0 5 rfl rfl)
theorem dX21_step_6 : decode cX21_step 6 = .ok (.astore_n 3, 1) := dk_78 (dk_at dksX21_step_0 6 rfl rfl)
theorem dX21_step_7 : decode cX21_step 7 = .ok (.iconst (-1), 1) := dk_2 (dk_at dksX21_step_0 7 rfl rfl)
theorem dX21_step_8 : decode cX21_step 8 = .ok (.istore 4, 2) := dk_54 4 (dk_at dksX21_step_0 8 rfl rfl)
theorem dX21_step_10 : decode cX21_step 10 = .ok (.aload_n 3, 1) := dk_45 (dk_at dksX21_step_0 10 rfl rfl)
theorem dX21_step_11 : decode cX21_step 11 = .ok (.invokevirtual 55, 3) := dk_182 0 55 (dk_at dksX21_step_0 11 rfl rfl)
theorem dX21_step_14 : decode cX21_step 14 = .ok (.lookupswitch 122 #[(99228, 95), (106916, 80), (111375, 50), (3552391, 65), (92746592, 110)], 50) := by decide +kernel
theorem dX21_step_64 : decode cX21_step 64 = .ok (.aload_n 3, 1) := dk_45 (dk_at dksX21_step_2 0 rfl rfl)
theorem dX21_step_65 : decode cX21_step 65 = .ok (.ldc 60, 2) := dk_18 60 (dk_at dksX21_step_2 1 rfl rfl)
theorem dX21_step_67 : decode cX21_step 67 = .ok (.invokevirtual 62, 3) := dk_182 0 62 (dk_at dksX21_step_2 3 rfl rfl)
theorem dX21_step_70 : decode cX21_step 70 = .ok (.ifCond .eq 66, 3) := dk_153 0 66 (dk_at dksX21_step_2 6 rfl rfl)
theorem dX21_step_73 : decode cX21_step 73 = .ok (.iconst 0, 1) := dk_3 (dk_at dksX21_step_2 9 rfl rfl)
theorem dX21_step_74 : decode cX21_step 74 = .ok (.istore 4, 2) := dk_54 4 (dk_at dksX21_step_2 10 rfl rfl)
theorem dX21_step_76 : decode cX21_step 76 = .ok (.goto 60, 3) := dk_167 0 60 (dk_at dksX21_step_2 12 rfl rfl)
theorem dX21_step_79 : decode cX21_step 79 = .ok (.aload_n 3, 1) := dk_45 (dk_at dksX21_step_2 15 rfl rfl)
theorem dX21_step_80 : decode cX21_step 80 = .ok (.ldc 65, 2) := dk_18 65 (dk_at dksX21_step_2 16 rfl rfl)
theorem dX21_step_82 : decode cX21_step 82 = .ok (.invokevirtual 62, 3) := dk_182 0 62 (dk_at dksX21_step_2 18 rfl rfl)
theorem dX21_step_85 : decode cX21_step 85 = .ok (.ifCond .eq 51, 3) := dk_153 0 51 (dk_at dksX21_step_2 21 rfl rfl)
theorem dX21_step_88 : decode cX21_step 88 = .ok (.iconst 1, 1) := dk_4 (dk_at dksX21_step_3 0 rfl rfl)
theorem dX21_step_89 : decode cX21_step 89 = .ok (.istore 4, 2) := dk_54 4 (dk_at dksX21_step_3 1 rfl rfl)
theorem dX21_step_91 : decode cX21_step 91 = .ok (.goto 45, 3) := dk_167 0 45 (dk_at dksX21_step_3 3 rfl rfl)
theorem dX21_step_94 : decode cX21_step 94 = .ok (.aload_n 3, 1) := dk_45 (dk_at dksX21_step_3 6 rfl rfl)
theorem dX21_step_95 : decode cX21_step 95 = .ok (.ldc 67, 2) := dk_18 67 (dk_at dksX21_step_3 7 rfl rfl)
theorem dX21_step_97 : decode cX21_step 97 = .ok (.invokevirtual 62, 3) := dk_182 0 62 (dk_at dksX21_step_3 9 rfl rfl)
theorem dX21_step_100 : decode cX21_step 100 = .ok (.ifCond .eq 36, 3) := dk_153 0 36 (dk_at dksX21_step_3 12 rfl rfl)
theorem dX21_step_103 : decode cX21_step 103 = .ok (.iconst 2, 1) := dk_5 (dk_at dksX21_step_3 15 rfl rfl)
theorem dX21_step_104 : decode cX21_step 104 = .ok (.istore 4, 2) := dk_54 4 (dk_at dksX21_step_3 16 rfl rfl)
theorem dX21_step_106 : decode cX21_step 106 = .ok (.goto 30, 3) := dk_167 0 30 (dk_at dksX21_step_3 18 rfl rfl)
theorem dX21_step_109 : decode cX21_step 109 = .ok (.aload_n 3, 1) := dk_45 (dk_at dksX21_step_3 21 rfl rfl)
theorem dX21_step_110 : decode cX21_step 110 = .ok (.ldc 69, 2) := dk_18 69 (dk_at dksX21_step_3 22 rfl rfl)
theorem dX21_step_112 : decode cX21_step 112 = .ok (.invokevirtual 62, 3) := dk_182 0 62 (dk_at dksX21_step_4 0 rfl rfl)
theorem dX21_step_115 : decode cX21_step 115 = .ok (.ifCond .eq 21, 3) := dk_153 0 21 (dk_at dksX21_step_4 3 rfl rfl)
theorem dX21_step_118 : decode cX21_step 118 = .ok (.iconst 3, 1) := dk_6 (dk_at dksX21_step_4 6 rfl rfl)
theorem dX21_step_119 : decode cX21_step 119 = .ok (.istore 4, 2) := dk_54 4 (dk_at dksX21_step_4 7 rfl rfl)
theorem dX21_step_121 : decode cX21_step 121 = .ok (.goto 15, 3) := dk_167 0 15 (dk_at dksX21_step_4 9 rfl rfl)
theorem dX21_step_124 : decode cX21_step 124 = .ok (.aload_n 3, 1) := dk_45 (dk_at dksX21_step_4 12 rfl rfl)
theorem dX21_step_125 : decode cX21_step 125 = .ok (.ldc 71, 2) := dk_18 71 (dk_at dksX21_step_4 13 rfl rfl)
theorem dX21_step_127 : decode cX21_step 127 = .ok (.invokevirtual 62, 3) := dk_182 0 62 (dk_at dksX21_step_4 15 rfl rfl)
theorem dX21_step_130 : decode cX21_step 130 = .ok (.ifCond .eq 6, 3) := dk_153 0 6 (dk_at dksX21_step_4 18 rfl rfl)
theorem dX21_step_133 : decode cX21_step 133 = .ok (.iconst 4, 1) := dk_7 (dk_at dksX21_step_4 21 rfl rfl)
theorem dX21_step_134 : decode cX21_step 134 = .ok (.istore 4, 2) := dk_54 4 (dk_at dksX21_step_4 22 rfl rfl)
theorem dX21_step_136 : decode cX21_step 136 = .ok (.iload 4, 2) := dk_21 4 (dk_at dksX21_step_5 0 rfl rfl)
theorem dX21_step_138 : decode cX21_step 138 = .ok (.tableswitch 64 0 4 #[34, 34, 34, 34, 56], 34) := by decide +kernel
theorem dX21_step_172 : decode cX21_step 172 = .ok (.aload_n 0, 1) := dk_42 (dk_at dksX21_step_7 0 rfl rfl)
theorem dX21_step_173 : decode cX21_step 173 = .ok (.dup, 1) := dk_89 (dk_at dksX21_step_7 1 rfl rfl)
theorem dX21_step_174 : decode cX21_step 174 = .ok (.getfield 24, 3) := dk_180 0 24 (dk_at dksX21_step_7 2 rfl rfl)
theorem dX21_step_177 : decode cX21_step 177 = .ok (.aload_n 1, 1) := dk_43 (dk_at dksX21_step_7 5 rfl rfl)
theorem dX21_step_178 : decode cX21_step 178 = .ok (.invokevirtual 73, 3) := dk_182 0 73 (dk_at dksX21_step_7 6 rfl rfl)
theorem dX21_step_181 : decode cX21_step 181 = .ok (.iadd, 1) := dk_96 (dk_at dksX21_step_7 9 rfl rfl)
theorem dX21_step_182 : decode cX21_step 182 = .ok (.putfield 24, 3) := dk_181 0 24 (dk_at dksX21_step_7 10 rfl rfl)
theorem dX21_step_185 : decode cX21_step 185 = .ok (.aload_n 0, 1) := dk_42 (dk_at dksX21_step_7 13 rfl rfl)
theorem dX21_step_186 : decode cX21_step 186 = .ok (.aload_n 1, 1) := dk_43 (dk_at dksX21_step_7 14 rfl rfl)
theorem dX21_step_187 : decode cX21_step 187 = .ok (.invokevirtual 76, 3) := dk_182 0 76 (dk_at dksX21_step_7 15 rfl rfl)
theorem dX21_step_190 : decode cX21_step 190 = .ok (.astore_n 2, 1) := dk_77 (dk_at dksX21_step_7 18 rfl rfl)
theorem dX21_step_191 : decode cX21_step 191 = .ok (.goto 16, 3) := dk_167 0 16 (dk_at dksX21_step_7 19 rfl rfl)
theorem dX21_step_194 : decode cX21_step 194 = .ok (.aload_n 0, 1) := dk_42 (dk_at dksX21_step_7 22 rfl rfl)
theorem dX21_step_195 : decode cX21_step 195 = .ok (.invokevirtual 80, 3) := dk_182 0 80 (dk_at dksX21_step_8 0 rfl rfl)
theorem dX21_step_198 : decode cX21_step 198 = .ok (.astore_n 2, 1) := dk_77 (dk_at dksX21_step_8 3 rfl rfl)
theorem dX21_step_199 : decode cX21_step 199 = .ok (.goto 8, 3) := dk_167 0 8 (dk_at dksX21_step_8 4 rfl rfl)
theorem dX21_step_202 : decode cX21_step 202 = .ok (.aload_n 0, 1) := dk_42 (dk_at dksX21_step_8 7 rfl rfl)
theorem dX21_step_203 : decode cX21_step 203 = .ok (.invokevirtual 82, 3) := dk_182 0 82 (dk_at dksX21_step_8 8 rfl rfl)
theorem dX21_step_206 : decode cX21_step 206 = .ok (.athrow, 1) := dk_191 (dk_at dksX21_step_8 11 rfl rfl)
theorem dX21_step_207 : decode cX21_step 207 = .ok (.aload_n 0, 1) := dk_42 (dk_at dksX21_step_8 12 rfl rfl)
theorem dX21_step_208 : decode cX21_step 208 = .ok (.bipush 59, 2) := dk_16 59 (dk_at dksX21_step_8 13 rfl rfl)
theorem dX21_step_210 : decode cX21_step 210 = .ok (.invokevirtual 86, 3) := dk_182 0 86 (dk_at dksX21_step_8 15 rfl rfl)
theorem dX21_step_213 : decode cX21_step 213 = .ok (.aload_n 2, 1) := dk_44 (dk_at dksX21_step_8 18 rfl rfl)
theorem dX21_step_214 : decode cX21_step 214 = .ok (.areturn, 1) := dk_176 (dk_at dksX21_step_8 19 rfl rfl)
abbrev cX21_act : ByteArray := prog_27_method_5_code
def yX21_act : MethodName := ⟨RX21, "act", "(Ljava/lang/String;)LTunedHouses$Step;"⟩
def dkwX21_act_8 : List UInt8 := [183, 0, 108, 176]
abbrev dktX21_act_8 : List UInt8 := dkwX21_act_8 ++ []
def dkwX21_act_7 : List UInt8 := [54, 4, 187, 0, 103, 89, 21, 4, 42, 3, 16, 9, 182, 0, 47, 183, 0, 105, 176, 187, 0, 106, 89]
abbrev dktX21_act_7 : List UInt8 := dkwX21_act_7 ++ dktX21_act_8
def dkwX21_act_6 : List UInt8 := [182, 0, 47, 183, 0, 97, 176, 187, 0, 100, 89, 42, 182, 0, 89, 183, 0, 102, 176, 42, 182, 0, 89]
abbrev dktX21_act_6 : List UInt8 := dkwX21_act_6 ++ dktX21_act_7
def dkwX21_act_5 : List UInt8 := [42, 182, 0, 89, 54, 4, 187, 0, 92, 89, 21, 4, 42, 3, 42, 180, 0, 9, 180, 0, 94, 4, 100]
abbrev dktX21_act_5 : List UInt8 := dkwX21_act_5 ++ dktX21_act_6
def dkwX21_act_4 : List UInt8 := [170, 0, 0, 0, 0, 0, 0, 93, 0, 0, 0, 0, 0, 0, 0, 2, 0, 0, 0, 28, 0, 0, 0, 58, 0, 0, 0, 70]
abbrev dktX21_act_4 : List UInt8 := dkwX21_act_4 ++ dktX21_act_5
def dkwX21_act_3 : List UInt8 := [62, 167, 0, 14, 44, 18, 67, 182, 0, 62, 153, 0, 5, 5, 62, 29]
abbrev dktX21_act_3 : List UInt8 := dkwX21_act_3 ++ dktX21_act_4
def dkwX21_act_2 : List UInt8 := [44, 18, 60, 182, 0, 62, 153, 0, 33, 3, 62, 167, 0, 28, 44, 18, 65, 182, 0, 62, 153, 0, 19, 4]
abbrev dktX21_act_2 : List UInt8 := dkwX21_act_2 ++ dktX21_act_3
def dkwX21_act_1 : List UInt8 := [171, 0, 0, 0, 0, 0, 0, 75, 0, 0, 0, 3, 0, 1, 161, 164, 0, 0, 0, 64, 0, 1, 179, 15, 0, 0, 0, 36, 0, 54, 52, 135, 0, 0, 0, 50]
abbrev dktX21_act_1 : List UInt8 := dkwX21_act_1 ++ dktX21_act_2
def dkwX21_act_0 : List UInt8 := [43, 77, 2, 62, 44, 182, 0, 55]
abbrev dktX21_act_0 : List UInt8 := dkwX21_act_0 ++ dktX21_act_1
theorem dksX21_act_0 : cX21_act.data.toList.drop 0 = dktX21_act_0 := by decide +kernel
theorem dksX21_act_1 : cX21_act.data.toList.drop 8 = dktX21_act_1 := dk_seg dksX21_act_0 8 rfl rfl
theorem dksX21_act_2 : cX21_act.data.toList.drop 44 = dktX21_act_2 := dk_seg dksX21_act_1 36 rfl rfl
theorem dksX21_act_3 : cX21_act.data.toList.drop 68 = dktX21_act_3 := dk_seg dksX21_act_2 24 rfl rfl
theorem dksX21_act_4 : cX21_act.data.toList.drop 84 = dktX21_act_4 := dk_seg dksX21_act_3 16 rfl rfl
theorem dksX21_act_5 : cX21_act.data.toList.drop 112 = dktX21_act_5 := dk_seg dksX21_act_4 28 rfl rfl
theorem dksX21_act_6 : cX21_act.data.toList.drop 135 = dktX21_act_6 := dk_seg dksX21_act_5 23 rfl rfl
theorem dksX21_act_7 : cX21_act.data.toList.drop 158 = dktX21_act_7 := dk_seg dksX21_act_6 23 rfl rfl
theorem dksX21_act_8 : cX21_act.data.toList.drop 181 = dktX21_act_8 := dk_seg dksX21_act_7 23 rfl rfl
theorem dX21_act_0 : decode cX21_act 0 = .ok (.aload_n 1, 1) := dk_43 (dk_at dksX21_act_0 0 rfl rfl)
theorem dX21_act_1 : decode cX21_act 1 = .ok (.astore_n 2, 1) := dk_77 (dk_at dksX21_act_0 1 rfl rfl)
theorem dX21_act_2 : decode cX21_act 2 = .ok (.iconst (-1), 1) := dk_2 (dk_at dksX21_act_0 2 rfl rfl)
theorem dX21_act_3 : decode cX21_act 3 = .ok (.istore_n 3, 1) := dk_62 (dk_at dksX21_act_0 3 rfl rfl)
theorem dX21_act_4 : decode cX21_act 4 = .ok (.aload_n 2, 1) := dk_44 (dk_at dksX21_act_0 4 rfl rfl)
theorem dX21_act_5 : decode cX21_act 5 = .ok (.invokevirtual 55, 3) := dk_182 0 55 (dk_at dksX21_act_0 5 rfl rfl)
theorem dX21_act_8 : decode cX21_act 8 = .ok (.lookupswitch 75 #[(106916, 64), (111375, 36), (3552391, 50)], 36) := by decide +kernel
theorem dX21_act_44 : decode cX21_act 44 = .ok (.aload_n 2, 1) := dk_44 (dk_at dksX21_act_2 0 rfl rfl)
theorem dX21_act_45 : decode cX21_act 45 = .ok (.ldc 60, 2) := dk_18 60 (dk_at dksX21_act_2 1 rfl rfl)
theorem dX21_act_47 : decode cX21_act 47 = .ok (.invokevirtual 62, 3) := dk_182 0 62 (dk_at dksX21_act_2 3 rfl rfl)
theorem dX21_act_50 : decode cX21_act 50 = .ok (.ifCond .eq 33, 3) := dk_153 0 33 (dk_at dksX21_act_2 6 rfl rfl)
theorem dX21_act_53 : decode cX21_act 53 = .ok (.iconst 0, 1) := dk_3 (dk_at dksX21_act_2 9 rfl rfl)
theorem dX21_act_54 : decode cX21_act 54 = .ok (.istore_n 3, 1) := dk_62 (dk_at dksX21_act_2 10 rfl rfl)
theorem dX21_act_55 : decode cX21_act 55 = .ok (.goto 28, 3) := dk_167 0 28 (dk_at dksX21_act_2 11 rfl rfl)
theorem dX21_act_58 : decode cX21_act 58 = .ok (.aload_n 2, 1) := dk_44 (dk_at dksX21_act_2 14 rfl rfl)
theorem dX21_act_59 : decode cX21_act 59 = .ok (.ldc 65, 2) := dk_18 65 (dk_at dksX21_act_2 15 rfl rfl)
theorem dX21_act_61 : decode cX21_act 61 = .ok (.invokevirtual 62, 3) := dk_182 0 62 (dk_at dksX21_act_2 17 rfl rfl)
theorem dX21_act_64 : decode cX21_act 64 = .ok (.ifCond .eq 19, 3) := dk_153 0 19 (dk_at dksX21_act_2 20 rfl rfl)
theorem dX21_act_67 : decode cX21_act 67 = .ok (.iconst 1, 1) := dk_4 (dk_at dksX21_act_2 23 rfl rfl)
theorem dX21_act_68 : decode cX21_act 68 = .ok (.istore_n 3, 1) := dk_62 (dk_at dksX21_act_3 0 rfl rfl)
theorem dX21_act_69 : decode cX21_act 69 = .ok (.goto 14, 3) := dk_167 0 14 (dk_at dksX21_act_3 1 rfl rfl)
theorem dX21_act_72 : decode cX21_act 72 = .ok (.aload_n 2, 1) := dk_44 (dk_at dksX21_act_3 4 rfl rfl)
theorem dX21_act_73 : decode cX21_act 73 = .ok (.ldc 67, 2) := dk_18 67 (dk_at dksX21_act_3 5 rfl rfl)
theorem dX21_act_75 : decode cX21_act 75 = .ok (.invokevirtual 62, 3) := dk_182 0 62 (dk_at dksX21_act_3 7 rfl rfl)
theorem dX21_act_78 : decode cX21_act 78 = .ok (.ifCond .eq 5, 3) := dk_153 0 5 (dk_at dksX21_act_3 10 rfl rfl)
theorem dX21_act_81 : decode cX21_act 81 = .ok (.iconst 2, 1) := dk_5 (dk_at dksX21_act_3 13 rfl rfl)
theorem dX21_act_82 : decode cX21_act 82 = .ok (.istore_n 3, 1) := dk_62 (dk_at dksX21_act_3 14 rfl rfl)
theorem dX21_act_83 : decode cX21_act 83 = .ok (.iload_n 3, 1) := dk_29 (dk_at dksX21_act_3 15 rfl rfl)
theorem dX21_act_84 : decode cX21_act 84 = .ok (.tableswitch 93 0 2 #[28, 58, 70], 28) := by decide +kernel
theorem dX21_act_112 : decode cX21_act 112 = .ok (.aload_n 0, 1) := dk_42 (dk_at dksX21_act_5 0 rfl rfl)
theorem dX21_act_113 : decode cX21_act 113 = .ok (.invokevirtual 89, 3) := dk_182 0 89 (dk_at dksX21_act_5 1 rfl rfl)
theorem dX21_act_116 : decode cX21_act 116 = .ok (.istore 4, 2) := dk_54 4 (dk_at dksX21_act_5 4 rfl rfl)
theorem dX21_act_118 : decode cX21_act 118 = .ok (.new 92, 3) := dk_187 0 92 (dk_at dksX21_act_5 6 rfl rfl)
theorem dX21_act_121 : decode cX21_act 121 = .ok (.dup, 1) := dk_89 (dk_at dksX21_act_5 9 rfl rfl)
theorem dX21_act_122 : decode cX21_act 122 = .ok (.iload 4, 2) := dk_21 4 (dk_at dksX21_act_5 10 rfl rfl)
theorem dX21_act_124 : decode cX21_act 124 = .ok (.aload_n 0, 1) := dk_42 (dk_at dksX21_act_5 12 rfl rfl)
theorem dX21_act_125 : decode cX21_act 125 = .ok (.iconst 0, 1) := dk_3 (dk_at dksX21_act_5 13 rfl rfl)
theorem dX21_act_126 : decode cX21_act 126 = .ok (.aload_n 0, 1) := dk_42 (dk_at dksX21_act_5 14 rfl rfl)
theorem dX21_act_127 : decode cX21_act 127 = .ok (.getfield 9, 3) := dk_180 0 9 (dk_at dksX21_act_5 15 rfl rfl)
theorem dX21_act_130 : decode cX21_act 130 = .ok (.getfield 94, 3) := dk_180 0 94 (dk_at dksX21_act_5 18 rfl rfl)
theorem dX21_act_133 : decode cX21_act 133 = .ok (.iconst 1, 1) := dk_4 (dk_at dksX21_act_5 21 rfl rfl)
theorem dX21_act_134 : decode cX21_act 134 = .ok (.isub, 1) := dk_100 (dk_at dksX21_act_5 22 rfl rfl)
theorem dX21_act_135 : decode cX21_act 135 = .ok (.invokevirtual 47, 3) := dk_182 0 47 (dk_at dksX21_act_6 0 rfl rfl)
theorem dX21_act_138 : decode cX21_act 138 = .ok (.invokespecial 97, 3) := dk_183 0 97 (dk_at dksX21_act_6 3 rfl rfl)
theorem dX21_act_141 : decode cX21_act 141 = .ok (.areturn, 1) := dk_176 (dk_at dksX21_act_6 6 rfl rfl)
theorem dX21_act_142 : decode cX21_act 142 = .ok (.new 100, 3) := dk_187 0 100 (dk_at dksX21_act_6 7 rfl rfl)
theorem dX21_act_145 : decode cX21_act 145 = .ok (.dup, 1) := dk_89 (dk_at dksX21_act_6 10 rfl rfl)
theorem dX21_act_146 : decode cX21_act 146 = .ok (.aload_n 0, 1) := dk_42 (dk_at dksX21_act_6 11 rfl rfl)
theorem dX21_act_147 : decode cX21_act 147 = .ok (.invokevirtual 89, 3) := dk_182 0 89 (dk_at dksX21_act_6 12 rfl rfl)
theorem dX21_act_150 : decode cX21_act 150 = .ok (.invokespecial 102, 3) := dk_183 0 102 (dk_at dksX21_act_6 15 rfl rfl)
theorem dX21_act_153 : decode cX21_act 153 = .ok (.areturn, 1) := dk_176 (dk_at dksX21_act_6 18 rfl rfl)
theorem dX21_act_154 : decode cX21_act 154 = .ok (.aload_n 0, 1) := dk_42 (dk_at dksX21_act_6 19 rfl rfl)
theorem dX21_act_155 : decode cX21_act 155 = .ok (.invokevirtual 89, 3) := dk_182 0 89 (dk_at dksX21_act_6 20 rfl rfl)
theorem dX21_act_158 : decode cX21_act 158 = .ok (.istore 4, 2) := dk_54 4 (dk_at dksX21_act_7 0 rfl rfl)
theorem dX21_act_160 : decode cX21_act 160 = .ok (.new 103, 3) := dk_187 0 103 (dk_at dksX21_act_7 2 rfl rfl)
theorem dX21_act_163 : decode cX21_act 163 = .ok (.dup, 1) := dk_89 (dk_at dksX21_act_7 5 rfl rfl)
theorem dX21_act_164 : decode cX21_act 164 = .ok (.iload 4, 2) := dk_21 4 (dk_at dksX21_act_7 6 rfl rfl)
theorem dX21_act_166 : decode cX21_act 166 = .ok (.aload_n 0, 1) := dk_42 (dk_at dksX21_act_7 8 rfl rfl)
theorem dX21_act_167 : decode cX21_act 167 = .ok (.iconst 0, 1) := dk_3 (dk_at dksX21_act_7 9 rfl rfl)
theorem dX21_act_168 : decode cX21_act 168 = .ok (.bipush 9, 2) := dk_16 9 (dk_at dksX21_act_7 10 rfl rfl)
theorem dX21_act_170 : decode cX21_act 170 = .ok (.invokevirtual 47, 3) := dk_182 0 47 (dk_at dksX21_act_7 12 rfl rfl)
theorem dX21_act_173 : decode cX21_act 173 = .ok (.invokespecial 105, 3) := dk_183 0 105 (dk_at dksX21_act_7 15 rfl rfl)
theorem dX21_act_176 : decode cX21_act 176 = .ok (.areturn, 1) := dk_176 (dk_at dksX21_act_7 18 rfl rfl)
theorem dX21_act_177 : decode cX21_act 177 = .ok (.new 106, 3) := dk_187 0 106 (dk_at dksX21_act_7 19 rfl rfl)
theorem dX21_act_180 : decode cX21_act 180 = .ok (.dup, 1) := dk_89 (dk_at dksX21_act_7 22 rfl rfl)
theorem dX21_act_181 : decode cX21_act 181 = .ok (.invokespecial 108, 3) := dk_183 0 108 (dk_at dksX21_act_8 0 rfl rfl)
theorem dX21_act_184 : decode cX21_act 184 = .ok (.areturn, 1) := dk_176 (dk_at dksX21_act_8 3 rfl rfl)
abbrev cX21_piano : ByteArray := prog_27_method_3_code
def yX21_piano : MethodName := ⟨RX21, "piano", "()I"⟩
def dkwX21_piano_0 : List UInt8 := [42, 3, 42, 180, 0, 9, 180, 0, 39, 182, 0, 45, 4, 100, 182, 0, 47, 172]
abbrev dktX21_piano_0 : List UInt8 := dkwX21_piano_0 ++ []
theorem dksX21_piano_0 : cX21_piano.data.toList.drop 0 = dktX21_piano_0 := by decide +kernel
theorem dX21_piano_0 : decode cX21_piano 0 = .ok (.aload_n 0, 1) := dk_42 (dk_at dksX21_piano_0 0 rfl rfl)
theorem dX21_piano_1 : decode cX21_piano 1 = .ok (.iconst 0, 1) := dk_3 (dk_at dksX21_piano_0 1 rfl rfl)
theorem dX21_piano_2 : decode cX21_piano 2 = .ok (.aload_n 0, 1) := dk_42 (dk_at dksX21_piano_0 2 rfl rfl)
theorem dX21_piano_3 : decode cX21_piano 3 = .ok (.getfield 9, 3) := dk_180 0 9 (dk_at dksX21_piano_0 3 rfl rfl)
theorem dX21_piano_6 : decode cX21_piano 6 = .ok (.getfield 39, 3) := dk_180 0 39 (dk_at dksX21_piano_0 6 rfl rfl)
theorem dX21_piano_9 : decode cX21_piano 9 = .ok (.invokevirtual 45, 3) := dk_182 0 45 (dk_at dksX21_piano_0 9 rfl rfl)
theorem dX21_piano_12 : decode cX21_piano 12 = .ok (.iconst 1, 1) := dk_4 (dk_at dksX21_piano_0 12 rfl rfl)
theorem dX21_piano_13 : decode cX21_piano 13 = .ok (.isub, 1) := dk_100 (dk_at dksX21_piano_0 13 rfl rfl)
theorem dX21_piano_14 : decode cX21_piano 14 = .ok (.invokevirtual 47, 3) := dk_182 0 47 (dk_at dksX21_piano_0 14 rfl rfl)
theorem dX21_piano_17 : decode cX21_piano 17 = .ok (.ireturn, 1) := dk_172 (dk_at dksX21_piano_0 17 rfl rfl)
abbrev cX21_again : ByteArray := prog_27_method_6_code
def yX21_again : MethodName := ⟨RX21, "again", "()LTunedHouses$Step;"⟩
def dkwX21_again_3 : List UInt8 := [176]
abbrev dktX21_again_3 : List UInt8 := dkwX21_again_3 ++ []
def dkwX21_again_2 : List UInt8 := [167, 255, 235, 42, 89, 180, 0, 24, 4, 96, 181, 0, 24, 42, 89, 180, 0, 120, 4, 100, 181, 0, 120, 43]
abbrev dktX21_again_2 : List UInt8 := dkwX21_again_2 ++ dktX21_again_3
def dkwX21_again_1 : List UInt8 := [182, 0, 86, 42, 182, 0, 20, 16, 93, 159, 0, 18, 43, 180, 0, 117, 42, 182, 0, 31, 182, 0, 35, 87]
abbrev dktX21_again_1 : List UInt8 := dkwX21_again_1 ++ dktX21_again_2
def dkwX21_again_0 : List UInt8 := [42, 8, 182, 0, 111, 187, 0, 114, 89, 42, 3, 16, 60, 182, 0, 47, 183, 0, 116, 76, 42, 16, 91]
abbrev dktX21_again_0 : List UInt8 := dkwX21_again_0 ++ dktX21_again_1
theorem dksX21_again_0 : cX21_again.data.toList.drop 0 = dktX21_again_0 := by decide +kernel
theorem dksX21_again_1 : cX21_again.data.toList.drop 23 = dktX21_again_1 := dk_seg dksX21_again_0 23 rfl rfl
theorem dksX21_again_2 : cX21_again.data.toList.drop 47 = dktX21_again_2 := dk_seg dksX21_again_1 24 rfl rfl
theorem dksX21_again_3 : cX21_again.data.toList.drop 71 = dktX21_again_3 := dk_seg dksX21_again_2 24 rfl rfl
theorem dX21_again_0 : decode cX21_again 0 = .ok (.aload_n 0, 1) := dk_42 (dk_at dksX21_again_0 0 rfl rfl)
theorem dX21_again_1 : decode cX21_again 1 = .ok (.iconst 5, 1) := dk_8 (dk_at dksX21_again_0 1 rfl rfl)
theorem dX21_again_2 : decode cX21_again 2 = .ok (.invokevirtual 111, 3) := dk_182 0 111 (dk_at dksX21_again_0 2 rfl rfl)
theorem dX21_again_5 : decode cX21_again 5 = .ok (.new 114, 3) := dk_187 0 114 (dk_at dksX21_again_0 5 rfl rfl)
theorem dX21_again_8 : decode cX21_again 8 = .ok (.dup, 1) := dk_89 (dk_at dksX21_again_0 8 rfl rfl)
theorem dX21_again_9 : decode cX21_again 9 = .ok (.aload_n 0, 1) := dk_42 (dk_at dksX21_again_0 9 rfl rfl)
theorem dX21_again_10 : decode cX21_again 10 = .ok (.iconst 0, 1) := dk_3 (dk_at dksX21_again_0 10 rfl rfl)
theorem dX21_again_11 : decode cX21_again 11 = .ok (.bipush 60, 2) := dk_16 60 (dk_at dksX21_again_0 11 rfl rfl)
theorem dX21_again_13 : decode cX21_again 13 = .ok (.invokevirtual 47, 3) := dk_182 0 47 (dk_at dksX21_again_0 13 rfl rfl)
theorem dX21_again_16 : decode cX21_again 16 = .ok (.invokespecial 116, 3) := dk_183 0 116 (dk_at dksX21_again_0 16 rfl rfl)
theorem dX21_again_19 : decode cX21_again 19 = .ok (.astore_n 1, 1) := dk_76 (dk_at dksX21_again_0 19 rfl rfl)
theorem dX21_again_20 : decode cX21_again 20 = .ok (.aload_n 0, 1) := dk_42 (dk_at dksX21_again_0 20 rfl rfl)
theorem dX21_again_21 : decode cX21_again 21 = .ok (.bipush 91, 2) := dk_16 91 (dk_at dksX21_again_0 21 rfl rfl)
theorem dX21_again_23 : decode cX21_again 23 = .ok (.invokevirtual 86, 3) := dk_182 0 86 (dk_at dksX21_again_1 0 rfl rfl)
theorem dX21_again_26 : decode cX21_again 26 = .ok (.aload_n 0, 1) := dk_42 (dk_at dksX21_again_1 3 rfl rfl)
theorem dX21_again_27 : decode cX21_again 27 = .ok (.invokevirtual 20, 3) := dk_182 0 20 (dk_at dksX21_again_1 4 rfl rfl)
theorem dX21_again_30 : decode cX21_again 30 = .ok (.bipush 93, 2) := dk_16 93 (dk_at dksX21_again_1 7 rfl rfl)
theorem dX21_again_32 : decode cX21_again 32 = .ok (.if_icmp .eq 18, 3) := dk_159 0 18 (dk_at dksX21_again_1 9 rfl rfl)
theorem dX21_again_35 : decode cX21_again 35 = .ok (.aload_n 1, 1) := dk_43 (dk_at dksX21_again_1 12 rfl rfl)
theorem dX21_again_36 : decode cX21_again 36 = .ok (.getfield 117, 3) := dk_180 0 117 (dk_at dksX21_again_1 13 rfl rfl)
theorem dX21_again_39 : decode cX21_again 39 = .ok (.aload_n 0, 1) := dk_42 (dk_at dksX21_again_1 16 rfl rfl)
theorem dX21_again_40 : decode cX21_again 40 = .ok (.invokevirtual 31, 3) := dk_182 0 31 (dk_at dksX21_again_1 17 rfl rfl)
theorem dX21_again_43 : decode cX21_again 43 = .ok (.invokevirtual 35, 3) := dk_182 0 35 (dk_at dksX21_again_1 20 rfl rfl)
theorem dX21_again_46 : decode cX21_again 46 = .ok (.pop, 1) := dk_87 (dk_at dksX21_again_1 23 rfl rfl)
theorem dX21_again_47 : decode cX21_again 47 = .ok (.goto (-21), 3) := dk_167 255 235 (dk_at dksX21_again_2 0 rfl rfl)
theorem dX21_again_50 : decode cX21_again 50 = .ok (.aload_n 0, 1) := dk_42 (dk_at dksX21_again_2 3 rfl rfl)
theorem dX21_again_51 : decode cX21_again 51 = .ok (.dup, 1) := dk_89 (dk_at dksX21_again_2 4 rfl rfl)
theorem dX21_again_52 : decode cX21_again 52 = .ok (.getfield 24, 3) := dk_180 0 24 (dk_at dksX21_again_2 5 rfl rfl)
theorem dX21_again_55 : decode cX21_again 55 = .ok (.iconst 1, 1) := dk_4 (dk_at dksX21_again_2 8 rfl rfl)
theorem dX21_again_56 : decode cX21_again 56 = .ok (.iadd, 1) := dk_96 (dk_at dksX21_again_2 9 rfl rfl)
theorem dX21_again_57 : decode cX21_again 57 = .ok (.putfield 24, 3) := dk_181 0 24 (dk_at dksX21_again_2 10 rfl rfl)
theorem dX21_again_60 : decode cX21_again 60 = .ok (.aload_n 0, 1) := dk_42 (dk_at dksX21_again_2 13 rfl rfl)
theorem dX21_again_61 : decode cX21_again 61 = .ok (.dup, 1) := dk_89 (dk_at dksX21_again_2 14 rfl rfl)
theorem dX21_again_62 : decode cX21_again 62 = .ok (.getfield 120, 3) := dk_180 0 120 (dk_at dksX21_again_2 15 rfl rfl)
theorem dX21_again_65 : decode cX21_again 65 = .ok (.iconst 1, 1) := dk_4 (dk_at dksX21_again_2 18 rfl rfl)
theorem dX21_again_66 : decode cX21_again 66 = .ok (.isub, 1) := dk_100 (dk_at dksX21_again_2 19 rfl rfl)
theorem dX21_again_67 : decode cX21_again 67 = .ok (.putfield 120, 3) := dk_181 0 120 (dk_at dksX21_again_2 20 rfl rfl)
theorem dX21_again_70 : decode cX21_again 70 = .ok (.aload_n 1, 1) := dk_43 (dk_at dksX21_again_2 23 rfl rfl)
theorem dX21_again_71 : decode cX21_again 71 = .ok (.areturn, 1) := dk_176 (dk_at dksX21_again_3 0 rfl rfl)
theorem q138 : (Jvm.Cond.initialized "TunedHouses$WorkReader") ∈ lw_all := lw_g (lw_at lw_m1 40 rfl) rfl
theorem q522 : (Jvm.Cond.fieldLinkNest "TunedHouses$WorkReader" (39 : Nat) "TunedHouses$Told" "pianos" "Ljava/util/ArrayList;" "TunedHouses") ∈ lw_tbl := lw_at lw_m2 184 rfl
theorem q527 : (Jvm.Cond.fieldLinkNest "TunedHouses$WorkReader" (94 : Nat) "TunedHouses$Told" "houses" "I" "TunedHouses") ∈ lw_tbl := lw_at lw_m2 189 rfl
theorem q900 : (Jvm.Cond.fieldLink "TunedHouses$WorkReader" (28 : Nat) "TunedHouses$WorkReader" "size" "I") ∈ lw_all := lw_g (lw_at lw_m4 82 rfl) rfl
theorem q901 : (Jvm.Cond.sameField "TunedHouses$WorkReader" "TunedHouses$Reader" "size" "I") ∈ lw_all := lw_g (lw_at lw_m4 83 rfl) rfl
theorem q909 : (Jvm.Cond.fieldLink "TunedHouses$WorkReader" (24 : Nat) "TunedHouses$WorkReader" "next" "I") ∈ lw_all := lw_g (lw_at lw_m4 91 rfl) rfl
theorem q910 : (Jvm.Cond.sameField "TunedHouses$WorkReader" "TunedHouses$Reader" "next" "I") ∈ lw_all := lw_g (lw_at lw_m4 92 rfl) rfl
theorem q923 : (Jvm.Cond.fieldLink "TunedHouses$WorkReader" (120 : Nat) "TunedHouses$WorkReader" "open" "I") ∈ lw_all := lw_g (lw_at lw_m4 105 rfl) rfl
theorem q924 : (Jvm.Cond.sameField "TunedHouses$WorkReader" "TunedHouses$Reader" "open" "I") ∈ lw_all := lw_g (lw_at lw_m4 106 rfl) rfl
theorem q1183 : (Jvm.Cond.selects "TunedHouses$WorkReader" ({ cls := "java/lang/Object", name := "getClass", desc := "()Ljava/lang/Class;" } : Jvm.MethodName) ({ cls := "java/lang/Object", name := "getClass", desc := "()Ljava/lang/Class;" } : Jvm.MethodName)) ∈ lw_all := lw_g (lw_at lw_m5 125 rfl) rfl
theorem q1362 : (Jvm.Cond.instantiable "TunedHouses$WorkReader" (6 : Nat)) ∈ lw_all := lw_g (lw_at lw_m6 64 rfl) rfl
theorem q1364 : (Jvm.Cond.instanceMethod ({ cls := "TunedHouses$WorkReader", name := "<init>", desc := "([BILTunedHouses$Told;)V" } : Jvm.MethodName)) ∈ lw_all := lw_g (lw_at lw_m6 66 rfl) rfl
theorem q1365 : (Jvm.Cond.code ({ cls := "TunedHouses$WorkReader", name := "<init>", desc := "([BILTunedHouses$Told;)V" } : Jvm.MethodName) prog_27_method_1_code (4 : Nat) (Option.none : Option Jvm.ClassFile.FieldType)) ∈ lw_all := lw_g (lw_at lw_m6 67 rfl) rfl
theorem q1366 : (Jvm.Cond.methodLink "TunedHouses$WorkReader" (3 : Nat) ({ cls := "TunedHouses$Reader", name := "<init>", desc := "([BI)V" } : Jvm.MethodName)) ∈ lw_all := lw_g (lw_at lw_m6 68 rfl) rfl
theorem q1367 : (Jvm.Cond.fieldLink "TunedHouses$WorkReader" (9 : Nat) "TunedHouses$WorkReader" "t" "LTunedHouses$Told;") ∈ lw_all := lw_g (lw_at lw_m6 69 rfl) rfl
theorem q1368 : (Jvm.Cond.laysFinal "TunedHouses$WorkReader" "TunedHouses$WorkReader" "t" "LTunedHouses$Told;") ∈ lw_all := lw_g (lw_at lw_m6 70 rfl) rfl
theorem q1369 : (Jvm.Cond.soleField "TunedHouses$WorkReader" "t") ∈ lw_all := lw_g (lw_at lw_m6 71 rfl) rfl
theorem q1370 : (Jvm.Cond.laysFinal "TunedHouses$WorkReader" "TunedHouses$Reader" "text" "[B") ∈ lw_all := lw_g (lw_at lw_m6 72 rfl) rfl
theorem q1371 : (Jvm.Cond.laysFinal "TunedHouses$WorkReader" "TunedHouses$Reader" "size" "I") ∈ lw_all := lw_g (lw_at lw_m6 73 rfl) rfl
theorem q1372 : (Jvm.Cond.lays "TunedHouses$WorkReader" "TunedHouses$Reader" "next" "I") ∈ lw_all := lw_g (lw_at lw_m6 74 rfl) rfl
theorem q1373 : (Jvm.Cond.lays "TunedHouses$WorkReader" "TunedHouses$Reader" "from" "I") ∈ lw_all := lw_g (lw_at lw_m6 75 rfl) rfl
theorem q1374 : (Jvm.Cond.lays "TunedHouses$WorkReader" "TunedHouses$Reader" "open" "I") ∈ lw_all := lw_g (lw_at lw_m6 76 rfl) rfl
theorem q1375 : (Jvm.Cond.superclass "TunedHouses$WorkReader" "TunedHouses$Reader") ∈ lw_all := lw_g (lw_at lw_m6 77 rfl) rfl
theorem q1377 : (Jvm.Cond.instanceMethod ({ cls := "TunedHouses$WorkReader", name := "reads", desc := "()Ljava/util/ArrayList;" } : Jvm.MethodName)) ∈ lw_all := lw_g (lw_at lw_m6 79 rfl) rfl
theorem q1378 : (Jvm.Cond.selects "TunedHouses$WorkReader" ({ cls := "TunedHouses$WorkReader", name := "reads", desc := "()Ljava/util/ArrayList;" } : Jvm.MethodName) ({ cls := "TunedHouses$WorkReader", name := "reads", desc := "()Ljava/util/ArrayList;" } : Jvm.MethodName)) ∈ lw_all := lw_g (lw_at lw_m6 80 rfl) rfl
theorem q1379 : (Jvm.Cond.code ({ cls := "TunedHouses$WorkReader", name := "reads", desc := "()Ljava/util/ArrayList;" } : Jvm.MethodName) prog_27_method_2_code (2 : Nat) (Option.some (Jvm.ClassFile.FieldType.object "java/util/ArrayList"))) ∈ lw_all := lw_g (lw_at lw_m6 81 rfl) rfl
theorem q1380 : (Jvm.Cond.classLink "TunedHouses$WorkReader" (15 : Nat) "java/util/ArrayList") ∈ lw_all := lw_g (lw_at lw_m6 82 rfl) rfl
theorem q1381 : (Jvm.Cond.methodLink "TunedHouses$WorkReader" (17 : Nat) ({ cls := "java/util/ArrayList", name := "<init>", desc := "(I)V" } : Jvm.MethodName)) ∈ lw_all := lw_g (lw_at lw_m6 83 rfl) rfl
theorem q1382 : (Jvm.Cond.methodLink "TunedHouses$WorkReader" (20 : Nat) ({ cls := "TunedHouses$WorkReader", name := "sign", desc := "()I" } : Jvm.MethodName)) ∈ lw_all := lw_g (lw_at lw_m6 84 rfl) rfl
theorem q1383 : (Jvm.Cond.sameMethod "TunedHouses$WorkReader" "TunedHouses$Reader" "sign" "()I") ∈ lw_all := lw_g (lw_at lw_m6 85 rfl) rfl
theorem q1384 : (Jvm.Cond.selects "TunedHouses$WorkReader" ({ cls := "TunedHouses$WorkReader", name := "sign", desc := "()I" } : Jvm.MethodName) ({ cls := "TunedHouses$Reader", name := "sign", desc := "()I" } : Jvm.MethodName)) ∈ lw_all := lw_g (lw_at lw_m6 86 rfl) rfl
theorem q1385 : (Jvm.Cond.methodLink "TunedHouses$WorkReader" (31 : Nat) ({ cls := "TunedHouses$WorkReader", name := "step", desc := "()LTunedHouses$Step;" } : Jvm.MethodName)) ∈ lw_all := lw_g (lw_at lw_m6 87 rfl) rfl
theorem q1386 : (Jvm.Cond.privateMethod ({ cls := "TunedHouses$WorkReader", name := "step", desc := "()LTunedHouses$Step;" } : Jvm.MethodName)) ∈ lw_tbl := lw_at lw_m6 88 rfl
theorem q1387 : (Jvm.Cond.instanceMethod ({ cls := "TunedHouses$WorkReader", name := "step", desc := "()LTunedHouses$Step;" } : Jvm.MethodName)) ∈ lw_all := lw_g (lw_at lw_m6 89 rfl) rfl
theorem q1388 : (Jvm.Cond.code ({ cls := "TunedHouses$WorkReader", name := "step", desc := "()LTunedHouses$Step;" } : Jvm.MethodName) prog_27_method_4_code (5 : Nat) (Option.some (Jvm.ClassFile.FieldType.object "TunedHouses$Step"))) ∈ lw_all := lw_g (lw_at lw_m6 90 rfl) rfl
theorem q1389 : (Jvm.Cond.methodLink "TunedHouses$WorkReader" (51 : Nat) ({ cls := "TunedHouses$WorkReader", name := "word", desc := "()Ljava/lang/String;" } : Jvm.MethodName)) ∈ lw_all := lw_g (lw_at lw_m6 91 rfl) rfl
theorem q1390 : (Jvm.Cond.sameMethod "TunedHouses$WorkReader" "TunedHouses$Reader" "word" "()Ljava/lang/String;") ∈ lw_all := lw_g (lw_at lw_m6 92 rfl) rfl
theorem q1391 : (Jvm.Cond.selects "TunedHouses$WorkReader" ({ cls := "TunedHouses$WorkReader", name := "word", desc := "()Ljava/lang/String;" } : Jvm.MethodName) ({ cls := "TunedHouses$Reader", name := "word", desc := "()Ljava/lang/String;" } : Jvm.MethodName)) ∈ lw_all := lw_g (lw_at lw_m6 93 rfl) rfl
theorem q1392 : (Jvm.Cond.methodLink "TunedHouses$WorkReader" (55 : Nat) ({ cls := "java/lang/String", name := "hashCode", desc := "()I" } : Jvm.MethodName)) ∈ lw_all := lw_g (lw_at lw_m6 94 rfl) rfl
theorem q1393 : (Jvm.Cond.stringRef "TunedHouses$WorkReader" (60 : Nat) "put") ∈ lw_tbl := lw_at lw_m6 95 rfl
theorem q1394 : (Jvm.Cond.methodLink "TunedHouses$WorkReader" (62 : Nat) ({ cls := "java/lang/String", name := "equals", desc := "(Ljava/lang/Object;)Z" } : Jvm.MethodName)) ∈ lw_all := lw_g (lw_at lw_m6 96 rfl) rfl
theorem q1395 : (Jvm.Cond.stringRef "TunedHouses$WorkReader" (65 : Nat) "take") ∈ lw_tbl := lw_at lw_m6 97 rfl
theorem q1396 : (Jvm.Cond.stringRef "TunedHouses$WorkReader" (67 : Nat) "lay") ∈ lw_tbl := lw_at lw_m6 98 rfl
theorem q1397 : (Jvm.Cond.stringRef "TunedHouses$WorkReader" (69 : Nat) "day") ∈ lw_tbl := lw_at lw_m6 99 rfl
theorem q1398 : (Jvm.Cond.stringRef "TunedHouses$WorkReader" (71 : Nat) "again") ∈ lw_tbl := lw_at lw_m6 100 rfl
theorem q1399 : (Jvm.Cond.methodLink "TunedHouses$WorkReader" (73 : Nat) ({ cls := "java/lang/String", name := "length", desc := "()I" } : Jvm.MethodName)) ∈ lw_all := lw_g (lw_at lw_m6 101 rfl) rfl
theorem q1400 : (Jvm.Cond.methodLink "TunedHouses$WorkReader" (76 : Nat) ({ cls := "TunedHouses$WorkReader", name := "act", desc := "(Ljava/lang/String;)LTunedHouses$Step;" } : Jvm.MethodName)) ∈ lw_all := lw_g (lw_at lw_m6 102 rfl) rfl
theorem q1401 : (Jvm.Cond.privateMethod ({ cls := "TunedHouses$WorkReader", name := "act", desc := "(Ljava/lang/String;)LTunedHouses$Step;" } : Jvm.MethodName)) ∈ lw_tbl := lw_at lw_m6 103 rfl
theorem q1402 : (Jvm.Cond.instanceMethod ({ cls := "TunedHouses$WorkReader", name := "act", desc := "(Ljava/lang/String;)LTunedHouses$Step;" } : Jvm.MethodName)) ∈ lw_all := lw_g (lw_at lw_m6 104 rfl) rfl
theorem q1403 : (Jvm.Cond.code ({ cls := "TunedHouses$WorkReader", name := "act", desc := "(Ljava/lang/String;)LTunedHouses$Step;" } : Jvm.MethodName) prog_27_method_5_code (5 : Nat) (Option.some (Jvm.ClassFile.FieldType.object "TunedHouses$Step"))) ∈ lw_all := lw_g (lw_at lw_m6 105 rfl) rfl
theorem q1404 : (Jvm.Cond.methodLink "TunedHouses$WorkReader" (89 : Nat) ({ cls := "TunedHouses$WorkReader", name := "piano", desc := "()I" } : Jvm.MethodName)) ∈ lw_all := lw_g (lw_at lw_m6 106 rfl) rfl
theorem q1405 : (Jvm.Cond.privateMethod ({ cls := "TunedHouses$WorkReader", name := "piano", desc := "()I" } : Jvm.MethodName)) ∈ lw_tbl := lw_at lw_m6 107 rfl
theorem q1406 : (Jvm.Cond.instanceMethod ({ cls := "TunedHouses$WorkReader", name := "piano", desc := "()I" } : Jvm.MethodName)) ∈ lw_all := lw_g (lw_at lw_m6 108 rfl) rfl
theorem q1407 : (Jvm.Cond.code ({ cls := "TunedHouses$WorkReader", name := "piano", desc := "()I" } : Jvm.MethodName) prog_27_method_3_code (1 : Nat) (Option.some Jvm.ClassFile.FieldType.int)) ∈ lw_all := lw_g (lw_at lw_m6 109 rfl) rfl
theorem q1408 : (Jvm.Cond.methodLink "TunedHouses$WorkReader" (45 : Nat) ({ cls := "java/util/ArrayList", name := "size", desc := "()I" } : Jvm.MethodName)) ∈ lw_all := lw_g (lw_at lw_m6 110 rfl) rfl
theorem q1409 : (Jvm.Cond.methodLink "TunedHouses$WorkReader" (47 : Nat) ({ cls := "TunedHouses$WorkReader", name := "number", desc := "(II)I" } : Jvm.MethodName)) ∈ lw_all := lw_g (lw_at lw_m6 111 rfl) rfl
theorem q1410 : (Jvm.Cond.sameMethod "TunedHouses$WorkReader" "TunedHouses$Reader" "number" "(II)I") ∈ lw_all := lw_g (lw_at lw_m6 112 rfl) rfl
theorem q1411 : (Jvm.Cond.selects "TunedHouses$WorkReader" ({ cls := "TunedHouses$WorkReader", name := "number", desc := "(II)I" } : Jvm.MethodName) ({ cls := "TunedHouses$Reader", name := "number", desc := "(II)I" } : Jvm.MethodName)) ∈ lw_all := lw_g (lw_at lw_m6 113 rfl) rfl
theorem q1412 : (Jvm.Cond.classLink "TunedHouses$WorkReader" (92 : Nat) "TunedHouses$Puts") ∈ lw_all := lw_g (lw_at lw_m6 114 rfl) rfl
theorem q1414 : (Jvm.Cond.methodLink "TunedHouses$WorkReader" (97 : Nat) ({ cls := "TunedHouses$Puts", name := "<init>", desc := "(II)V" } : Jvm.MethodName)) ∈ lw_all := lw_g (lw_at lw_m6 116 rfl) rfl
theorem q1431 : (Jvm.Cond.classLink "TunedHouses$WorkReader" (100 : Nat) "TunedHouses$Takes") ∈ lw_all := lw_g (lw_at lw_m6 133 rfl) rfl
theorem q1433 : (Jvm.Cond.methodLink "TunedHouses$WorkReader" (102 : Nat) ({ cls := "TunedHouses$Takes", name := "<init>", desc := "(I)V" } : Jvm.MethodName)) ∈ lw_all := lw_g (lw_at lw_m6 135 rfl) rfl
theorem q1441 : (Jvm.Cond.classLink "TunedHouses$WorkReader" (103 : Nat) "TunedHouses$Lays") ∈ lw_all := lw_g (lw_at lw_m6 143 rfl) rfl
theorem q1443 : (Jvm.Cond.methodLink "TunedHouses$WorkReader" (105 : Nat) ({ cls := "TunedHouses$Lays", name := "<init>", desc := "(II)V" } : Jvm.MethodName)) ∈ lw_all := lw_g (lw_at lw_m6 145 rfl) rfl
theorem q1454 : (Jvm.Cond.classLink "TunedHouses$WorkReader" (106 : Nat) "TunedHouses$Passes") ∈ lw_all := lw_g (lw_at lw_m6 156 rfl) rfl
theorem q1456 : (Jvm.Cond.methodLinkNest "TunedHouses$WorkReader" (108 : Nat) ({ cls := "TunedHouses$Passes", name := "<init>", desc := "()V" } : Jvm.MethodName) "TunedHouses") ∈ lw_tbl := lw_at lw_m6 158 rfl
theorem q1461 : (Jvm.Cond.methodLink "TunedHouses$WorkReader" (80 : Nat) ({ cls := "TunedHouses$WorkReader", name := "again", desc := "()LTunedHouses$Step;" } : Jvm.MethodName)) ∈ lw_all := lw_g (lw_at lw_m6 163 rfl) rfl
theorem q1462 : (Jvm.Cond.privateMethod ({ cls := "TunedHouses$WorkReader", name := "again", desc := "()LTunedHouses$Step;" } : Jvm.MethodName)) ∈ lw_tbl := lw_at lw_m6 164 rfl
theorem q1463 : (Jvm.Cond.instanceMethod ({ cls := "TunedHouses$WorkReader", name := "again", desc := "()LTunedHouses$Step;" } : Jvm.MethodName)) ∈ lw_all := lw_g (lw_at lw_m6 165 rfl) rfl
theorem q1464 : (Jvm.Cond.code ({ cls := "TunedHouses$WorkReader", name := "again", desc := "()LTunedHouses$Step;" } : Jvm.MethodName) prog_27_method_6_code (2 : Nat) (Option.some (Jvm.ClassFile.FieldType.object "TunedHouses$Step"))) ∈ lw_all := lw_g (lw_at lw_m6 166 rfl) rfl
theorem q1465 : (Jvm.Cond.methodLink "TunedHouses$WorkReader" (111 : Nat) ({ cls := "TunedHouses$WorkReader", name := "opens", desc := "(I)V" } : Jvm.MethodName)) ∈ lw_all := lw_g (lw_at lw_m6 167 rfl) rfl
theorem q1466 : (Jvm.Cond.sameMethod "TunedHouses$WorkReader" "TunedHouses$Reader" "opens" "(I)V") ∈ lw_all := lw_g (lw_at lw_m6 168 rfl) rfl
theorem q1467 : (Jvm.Cond.selects "TunedHouses$WorkReader" ({ cls := "TunedHouses$WorkReader", name := "opens", desc := "(I)V" } : Jvm.MethodName) ({ cls := "TunedHouses$Reader", name := "opens", desc := "(I)V" } : Jvm.MethodName)) ∈ lw_all := lw_g (lw_at lw_m6 169 rfl) rfl
theorem q1468 : (Jvm.Cond.classLink "TunedHouses$WorkReader" (114 : Nat) "TunedHouses$Again") ∈ lw_all := lw_g (lw_at lw_m6 170 rfl) rfl
theorem q1470 : (Jvm.Cond.methodLink "TunedHouses$WorkReader" (116 : Nat) ({ cls := "TunedHouses$Again", name := "<init>", desc := "(I)V" } : Jvm.MethodName)) ∈ lw_all := lw_g (lw_at lw_m6 172 rfl) rfl
theorem q1478 : (Jvm.Cond.fieldLinkNest "TunedHouses$WorkReader" (117 : Nat) "TunedHouses$Again" "steps" "Ljava/util/ArrayList;" "TunedHouses") ∈ lw_tbl := lw_at lw_m6 180 rfl
theorem q1484 : (Jvm.Cond.methodLink "TunedHouses$WorkReader" (86 : Nat) ({ cls := "TunedHouses$WorkReader", name := "need", desc := "(I)V" } : Jvm.MethodName)) ∈ lw_all := lw_g (lw_at lw_m6 186 rfl) rfl
theorem q1485 : (Jvm.Cond.sameMethod "TunedHouses$WorkReader" "TunedHouses$Reader" "need" "(I)V") ∈ lw_all := lw_g (lw_at lw_m6 187 rfl) rfl
theorem q1486 : (Jvm.Cond.selects "TunedHouses$WorkReader" ({ cls := "TunedHouses$WorkReader", name := "need", desc := "(I)V" } : Jvm.MethodName) ({ cls := "TunedHouses$Reader", name := "need", desc := "(I)V" } : Jvm.MethodName)) ∈ lw_all := lw_g (lw_at lw_m6 188 rfl) rfl
theorem q1487 : (Jvm.Cond.methodLink "TunedHouses$WorkReader" (35 : Nat) ({ cls := "java/util/ArrayList", name := "add", desc := "(Ljava/lang/Object;)Z" } : Jvm.MethodName)) ∈ lw_all := lw_g (lw_at lw_m6 189 rfl) rfl
theorem q1488 : (Jvm.Cond.methodLink "TunedHouses$WorkReader" (82 : Nat) ({ cls := "TunedHouses$WorkReader", name := "wrong", desc := "()LTunedHouses$Wrong;" } : Jvm.MethodName)) ∈ lw_all := lw_g (lw_at lw_m6 190 rfl) rfl
theorem q1489 : (Jvm.Cond.sameMethod "TunedHouses$WorkReader" "TunedHouses$Reader" "wrong" "()LTunedHouses$Wrong;") ∈ lw_all := lw_g (lw_at lw_m6 191 rfl) rfl
theorem q1490 : (Jvm.Cond.selects "TunedHouses$WorkReader" ({ cls := "TunedHouses$WorkReader", name := "wrong", desc := "()LTunedHouses$Wrong;" } : Jvm.MethodName) ({ cls := "TunedHouses$Reader", name := "wrong", desc := "()LTunedHouses$Wrong;" } : Jvm.MethodName)) ∈ lw_all := lw_g (lw_at lw_m6 192 rfl) rfl
theorem q2550 : (Jvm.Cond.selects "TunedHouses$WorkReader" ({ cls := "TunedHouses$Reader", name := "sign", desc := "()I" } : Jvm.MethodName) ({ cls := "TunedHouses$Reader", name := "sign", desc := "()I" } : Jvm.MethodName)) ∈ lw_all := lw_g (lw_at lw_m11 52 rfl) rfl
theorem q2557 : (Jvm.Cond.selects "TunedHouses$WorkReader" ({ cls := "TunedHouses$Reader", name := "wrong", desc := "()LTunedHouses$Wrong;" } : Jvm.MethodName) ({ cls := "TunedHouses$Reader", name := "wrong", desc := "()LTunedHouses$Wrong;" } : Jvm.MethodName)) ∈ lw_all := lw_g (lw_at lw_m11 59 rfl) rfl
theorem q2586 : (Jvm.Cond.castable "TunedHouses$WorkReader" "java/lang/Object") ∈ lw_tbl := lw_at lw_m11 88 rfl
theorem in_X21 : ∀ w ∈ wsX210, w ∈ lw_all := lw_in wsX210 [1370, 1371, 1372, 1373, 1374, 1368] (by decide +kernel) (by decide +kernel)

/-! TunedHouses$Step -/
set_option maxRecDepth 100000
def RX22 : String := "TunedHouses$Step"
abbrev cX22_init : ByteArray := prog_19_method_1_code
def yX22_init : MethodName := ⟨RX22, "<init>", "()V"⟩
theorem dX22_init_0 : decode cX22_init 0 = .ok (.aload_n 0, 1) := by decide +kernel
theorem dX22_init_1 : decode cX22_init 1 = .ok (.invokespecial 3, 3) := by decide +kernel
theorem dX22_init_4 : decode cX22_init 4 = .ok (.return_, 1) := by decide +kernel
abbrev cX22_may : ByteArray := prog_19_method_3_code
def yX22_may : MethodName := ⟨RX22, "may", "(LTunedHouses$Terrace;)Z"⟩
def dkwX22_may_0 : List UInt8 := [42, 180, 0, 9, 17, 0, 200, 160, 0, 5, 3, 172, 42, 89, 180, 0, 9, 4, 96, 181, 0, 9, 4, 172]
abbrev dktX22_may_0 : List UInt8 := dkwX22_may_0 ++ []
theorem dksX22_may_0 : cX22_may.data.toList.drop 0 = dktX22_may_0 := by decide +kernel
theorem dX22_may_0 : decode cX22_may 0 = .ok (.aload_n 0, 1) := dk_42 (dk_at dksX22_may_0 0 rfl rfl)
theorem dX22_may_1 : decode cX22_may 1 = .ok (.getfield 9, 3) := dk_180 0 9 (dk_at dksX22_may_0 1 rfl rfl)
theorem dX22_may_4 : decode cX22_may 4 = .ok (.sipush 200, 3) := dk_17 0 200 (dk_at dksX22_may_0 4 rfl rfl)
theorem dX22_may_7 : decode cX22_may 7 = .ok (.if_icmp .ne 5, 3) := dk_160 0 5 (dk_at dksX22_may_0 7 rfl rfl)
theorem dX22_may_10 : decode cX22_may 10 = .ok (.iconst 0, 1) := dk_3 (dk_at dksX22_may_0 10 rfl rfl)
theorem dX22_may_11 : decode cX22_may 11 = .ok (.ireturn, 1) := dk_172 (dk_at dksX22_may_0 11 rfl rfl)
theorem dX22_may_12 : decode cX22_may 12 = .ok (.aload_n 0, 1) := dk_42 (dk_at dksX22_may_0 12 rfl rfl)
theorem dX22_may_13 : decode cX22_may 13 = .ok (.dup, 1) := dk_89 (dk_at dksX22_may_0 13 rfl rfl)
theorem dX22_may_14 : decode cX22_may 14 = .ok (.getfield 9, 3) := dk_180 0 9 (dk_at dksX22_may_0 14 rfl rfl)
theorem dX22_may_17 : decode cX22_may 17 = .ok (.iconst 1, 1) := dk_4 (dk_at dksX22_may_0 17 rfl rfl)
theorem dX22_may_18 : decode cX22_may 18 = .ok (.iadd, 1) := dk_96 (dk_at dksX22_may_0 18 rfl rfl)
theorem dX22_may_19 : decode cX22_may 19 = .ok (.putfield 9, 3) := dk_181 0 9 (dk_at dksX22_may_0 19 rfl rfl)
theorem dX22_may_22 : decode cX22_may 22 = .ok (.iconst 1, 1) := dk_4 (dk_at dksX22_may_0 22 rfl rfl)
theorem dX22_may_23 : decode cX22_may 23 = .ok (.ireturn, 1) := dk_172 (dk_at dksX22_may_0 23 rfl rfl)
theorem q139 : (Jvm.Cond.initialized "TunedHouses$Step") ∈ lw_all := lw_g (lw_at lw_m1 41 rfl) rfl
theorem q609 : (Jvm.Cond.fieldLinkNest "TunedHouses$Step" (9 : Nat) "TunedHouses$Terrace" "steps" "I" "TunedHouses") ∈ lw_tbl := lw_at lw_m3 31 rfl
theorem q1421 : (Jvm.Cond.instanceMethod ({ cls := "TunedHouses$Step", name := "<init>", desc := "()V" } : Jvm.MethodName)) ∈ lw_all := lw_g (lw_at lw_m6 123 rfl) rfl
theorem q1422 : (Jvm.Cond.code ({ cls := "TunedHouses$Step", name := "<init>", desc := "()V" } : Jvm.MethodName) prog_19_method_1_code (1 : Nat) (Option.none : Option Jvm.ClassFile.FieldType)) ∈ lw_all := lw_g (lw_at lw_m6 124 rfl) rfl
theorem q1423 : (Jvm.Cond.methodLink "TunedHouses$Step" (3 : Nat) ({ cls := "java/lang/Object", name := "<init>", desc := "()V" } : Jvm.MethodName)) ∈ lw_all := lw_g (lw_at lw_m6 125 rfl) rfl
theorem q1493 : (Jvm.Cond.declares ({ cls := "TunedHouses$Step", name := "goes", desc := "(LTunedHouses$Terrace;)V" } : Jvm.MethodName)) ∈ lw_tbl := lw_at lw_m6 195 rfl
theorem q1494 : (Jvm.Cond.sameMethod "TunedHouses$Step" "TunedHouses$Step" "goes" "(LTunedHouses$Terrace;)V") ∈ lw_all := lw_g (lw_at lw_m6 196 rfl) rfl
theorem q1500 : (Jvm.Cond.static ({ cls := "TunedHouses$Step", name := "may", desc := "(LTunedHouses$Terrace;)Z" } : Jvm.MethodName)) ∈ lw_all := lw_g (lw_at lw_m6 202 rfl) rfl
theorem q1501 : (Jvm.Cond.code ({ cls := "TunedHouses$Step", name := "may", desc := "(LTunedHouses$Terrace;)Z" } : Jvm.MethodName) prog_19_method_3_code (1 : Nat) (Option.some Jvm.ClassFile.FieldType.boolean)) ∈ lw_all := lw_g (lw_at lw_m6 203 rfl) rfl

/-! TunedHouses$Act -/
set_option maxRecDepth 100000
def RX23 : String := "TunedHouses$Act"
abbrev cX23_init : ByteArray := prog_2_method_1_code
def yX23_init : MethodName := ⟨RX23, "<init>", "()V"⟩
theorem dX23_init_0 : decode cX23_init 0 = .ok (.aload_n 0, 1) := by decide +kernel
theorem dX23_init_1 : decode cX23_init 1 = .ok (.invokespecial 1, 3) := by decide +kernel
theorem dX23_init_4 : decode cX23_init 4 = .ok (.return_, 1) := by decide +kernel
abbrev cX23_goes : ByteArray := prog_2_method_3_code
def yX23_goes : MethodName := ⟨RX23, "goes", "(LTunedHouses$Terrace;)V"⟩
def dkwX23_goes_2 : List UInt8 := [181, 0, 22, 177]
abbrev dktX23_goes_2 : List UInt8 := dkwX23_goes_2 ++ []
def dkwX23_goes_1 : List UInt8 := [167, 0, 4, 3, 96, 181, 0, 16, 43, 89, 180, 0, 22, 28, 153, 0, 7, 3, 167, 0, 4, 4, 96]
abbrev dktX23_goes_1 : List UInt8 := dkwX23_goes_1 ++ dktX23_goes_2
def dkwX23_goes_0 : List UInt8 := [43, 184, 0, 7, 154, 0, 4, 177, 42, 43, 182, 0, 13, 61, 43, 89, 180, 0, 16, 28, 153, 0, 7, 4]
abbrev dktX23_goes_0 : List UInt8 := dkwX23_goes_0 ++ dktX23_goes_1
theorem dksX23_goes_0 : cX23_goes.data.toList.drop 0 = dktX23_goes_0 := by decide +kernel
theorem dksX23_goes_1 : cX23_goes.data.toList.drop 24 = dktX23_goes_1 := dk_seg dksX23_goes_0 24 rfl rfl
theorem dksX23_goes_2 : cX23_goes.data.toList.drop 47 = dktX23_goes_2 := dk_seg dksX23_goes_1 23 rfl rfl
theorem dX23_goes_0 : decode cX23_goes 0 = .ok (.aload_n 1, 1) := dk_43 (dk_at dksX23_goes_0 0 rfl rfl)
theorem dX23_goes_1 : decode cX23_goes 1 = .ok (.invokestatic 7, 3) := dk_184 0 7 (dk_at dksX23_goes_0 1 rfl rfl)
theorem dX23_goes_4 : decode cX23_goes 4 = .ok (.ifCond .ne 4, 3) := dk_154 0 4 (dk_at dksX23_goes_0 4 rfl rfl)
theorem dX23_goes_7 : decode cX23_goes 7 = .ok (.return_, 1) := dk_177 (dk_at dksX23_goes_0 7 rfl rfl)
theorem dX23_goes_8 : decode cX23_goes 8 = .ok (.aload_n 0, 1) := dk_42 (dk_at dksX23_goes_0 8 rfl rfl)
theorem dX23_goes_9 : decode cX23_goes 9 = .ok (.aload_n 1, 1) := dk_43 (dk_at dksX23_goes_0 9 rfl rfl)
theorem dX23_goes_10 : decode cX23_goes 10 = .ok (.invokevirtual 13, 3) := dk_182 0 13 (dk_at dksX23_goes_0 10 rfl rfl)
theorem dX23_goes_13 : decode cX23_goes 13 = .ok (.istore_n 2, 1) := dk_61 (dk_at dksX23_goes_0 13 rfl rfl)
theorem dX23_goes_14 : decode cX23_goes 14 = .ok (.aload_n 1, 1) := dk_43 (dk_at dksX23_goes_0 14 rfl rfl)
theorem dX23_goes_15 : decode cX23_goes 15 = .ok (.dup, 1) := dk_89 (dk_at dksX23_goes_0 15 rfl rfl)
theorem dX23_goes_16 : decode cX23_goes 16 = .ok (.getfield 16, 3) := dk_180 0 16 (dk_at dksX23_goes_0 16 rfl rfl)
theorem dX23_goes_19 : decode cX23_goes 19 = .ok (.iload_n 2, 1) := dk_28 (dk_at dksX23_goes_0 19 rfl rfl)
theorem dX23_goes_20 : decode cX23_goes 20 = .ok (.ifCond .eq 7, 3) := dk_153 0 7 (dk_at dksX23_goes_0 20 rfl rfl)
theorem dX23_goes_23 : decode cX23_goes 23 = .ok (.iconst 1, 1) := dk_4 (dk_at dksX23_goes_0 23 rfl rfl)
theorem dX23_goes_24 : decode cX23_goes 24 = .ok (.goto 4, 3) := dk_167 0 4 (dk_at dksX23_goes_1 0 rfl rfl)
theorem dX23_goes_27 : decode cX23_goes 27 = .ok (.iconst 0, 1) := dk_3 (dk_at dksX23_goes_1 3 rfl rfl)
theorem dX23_goes_28 : decode cX23_goes 28 = .ok (.iadd, 1) := dk_96 (dk_at dksX23_goes_1 4 rfl rfl)
theorem dX23_goes_29 : decode cX23_goes 29 = .ok (.putfield 16, 3) := dk_181 0 16 (dk_at dksX23_goes_1 5 rfl rfl)
theorem dX23_goes_32 : decode cX23_goes 32 = .ok (.aload_n 1, 1) := dk_43 (dk_at dksX23_goes_1 8 rfl rfl)
theorem dX23_goes_33 : decode cX23_goes 33 = .ok (.dup, 1) := dk_89 (dk_at dksX23_goes_1 9 rfl rfl)
theorem dX23_goes_34 : decode cX23_goes 34 = .ok (.getfield 22, 3) := dk_180 0 22 (dk_at dksX23_goes_1 10 rfl rfl)
theorem dX23_goes_37 : decode cX23_goes 37 = .ok (.iload_n 2, 1) := dk_28 (dk_at dksX23_goes_1 13 rfl rfl)
theorem dX23_goes_38 : decode cX23_goes 38 = .ok (.ifCond .eq 7, 3) := dk_153 0 7 (dk_at dksX23_goes_1 14 rfl rfl)
theorem dX23_goes_41 : decode cX23_goes 41 = .ok (.iconst 0, 1) := dk_3 (dk_at dksX23_goes_1 17 rfl rfl)
theorem dX23_goes_42 : decode cX23_goes 42 = .ok (.goto 4, 3) := dk_167 0 4 (dk_at dksX23_goes_1 18 rfl rfl)
theorem dX23_goes_45 : decode cX23_goes 45 = .ok (.iconst 1, 1) := dk_4 (dk_at dksX23_goes_1 21 rfl rfl)
theorem dX23_goes_46 : decode cX23_goes 46 = .ok (.iadd, 1) := dk_96 (dk_at dksX23_goes_1 22 rfl rfl)
theorem dX23_goes_47 : decode cX23_goes 47 = .ok (.putfield 22, 3) := dk_181 0 22 (dk_at dksX23_goes_2 0 rfl rfl)
theorem dX23_goes_50 : decode cX23_goes 50 = .ok (.return_, 1) := dk_177 (dk_at dksX23_goes_2 3 rfl rfl)
theorem q140 : (Jvm.Cond.initialized "TunedHouses$Act") ∈ lw_all := lw_g (lw_at lw_m1 42 rfl) rfl
theorem q611 : (Jvm.Cond.fieldLinkNest "TunedHouses$Act" (16 : Nat) "TunedHouses$Terrace" "done" "I" "TunedHouses") ∈ lw_tbl := lw_at lw_m3 33 rfl
theorem q613 : (Jvm.Cond.fieldLinkNest "TunedHouses$Act" (22 : Nat) "TunedHouses$Terrace" "refused" "I" "TunedHouses") ∈ lw_tbl := lw_at lw_m3 35 rfl
theorem q1418 : (Jvm.Cond.instanceMethod ({ cls := "TunedHouses$Act", name := "<init>", desc := "()V" } : Jvm.MethodName)) ∈ lw_all := lw_g (lw_at lw_m6 120 rfl) rfl
theorem q1419 : (Jvm.Cond.code ({ cls := "TunedHouses$Act", name := "<init>", desc := "()V" } : Jvm.MethodName) prog_2_method_1_code (1 : Nat) (Option.none : Option Jvm.ClassFile.FieldType)) ∈ lw_all := lw_g (lw_at lw_m6 121 rfl) rfl
theorem q1420 : (Jvm.Cond.methodLinkNest "TunedHouses$Act" (1 : Nat) ({ cls := "TunedHouses$Step", name := "<init>", desc := "()V" } : Jvm.MethodName) "TunedHouses") ∈ lw_tbl := lw_at lw_m6 122 rfl
theorem q1506 : (Jvm.Cond.instanceMethod ({ cls := "TunedHouses$Act", name := "goes", desc := "(LTunedHouses$Terrace;)V" } : Jvm.MethodName)) ∈ lw_all := lw_g (lw_at lw_m6 208 rfl) rfl
theorem q1507 : (Jvm.Cond.code ({ cls := "TunedHouses$Act", name := "goes", desc := "(LTunedHouses$Terrace;)V" } : Jvm.MethodName) prog_2_method_3_code (3 : Nat) (Option.none : Option Jvm.ClassFile.FieldType)) ∈ lw_all := lw_g (lw_at lw_m6 209 rfl) rfl
theorem q1508 : (Jvm.Cond.methodLink "TunedHouses$Act" (7 : Nat) ({ cls := "TunedHouses$Act", name := "may", desc := "(LTunedHouses$Terrace;)Z" } : Jvm.MethodName)) ∈ lw_all := lw_g (lw_at lw_m6 210 rfl) rfl
theorem q1509 : (Jvm.Cond.sameMethod "TunedHouses$Act" "TunedHouses$Step" "may" "(LTunedHouses$Terrace;)Z") ∈ lw_all := lw_g (lw_at lw_m6 211 rfl) rfl
theorem q1510 : (Jvm.Cond.methodLink "TunedHouses$Act" (13 : Nat) ({ cls := "TunedHouses$Act", name := "isDone", desc := "(LTunedHouses$Terrace;)Z" } : Jvm.MethodName)) ∈ lw_all := lw_g (lw_at lw_m6 212 rfl) rfl
theorem q1511 : (Jvm.Cond.declares ({ cls := "TunedHouses$Act", name := "isDone", desc := "(LTunedHouses$Terrace;)Z" } : Jvm.MethodName)) ∈ lw_tbl := lw_at lw_m6 213 rfl
theorem q1512 : (Jvm.Cond.sameMethod "TunedHouses$Act" "TunedHouses$Act" "isDone" "(LTunedHouses$Terrace;)Z") ∈ lw_all := lw_g (lw_at lw_m6 214 rfl) rfl

/-! TunedHouses$Puts -/
set_option maxRecDepth 100000
def RX24 : String := "TunedHouses$Puts"
def TX24 : u_T := fun k => match k with
  | 0 => ("TunedHouses$Puts", "piano", "I", true)
  | _ => ("TunedHouses$Puts", "house", "I", true)
def tyX24 : Nat → FieldType := fun k => match k with
  | 0 => .int
  | _ => .int
abbrev wsX240 : List Cond := u_ws RX24 TX24 2
theorem nmX24 : ∀ a, a < 2 → ∀ b, b < 2 → a ≠ b → (TX24 a).2.1 ≠ (TX24 b).2.1 := by decide +kernel
theorem tyX24_ok : ∀ k, k < 2 → parseFieldDescriptor (TX24 k).2.2.1 = some (tyX24 k) := by decide +kernel
abbrev cX24_init : ByteArray := prog_17_method_1_code
def yX24_init : MethodName := ⟨RX24, "<init>", "(II)V"⟩
def dkwX24_init_0 : List UInt8 := [42, 183, 0, 1, 42, 27, 181, 0, 7, 42, 28, 181, 0, 13, 177]
abbrev dktX24_init_0 : List UInt8 := dkwX24_init_0 ++ []
theorem dksX24_init_0 : cX24_init.data.toList.drop 0 = dktX24_init_0 := by decide +kernel
theorem dX24_init_0 : decode cX24_init 0 = .ok (.aload_n 0, 1) := dk_42 (dk_at dksX24_init_0 0 rfl rfl)
theorem dX24_init_1 : decode cX24_init 1 = .ok (.invokespecial 1, 3) := dk_183 0 1 (dk_at dksX24_init_0 1 rfl rfl)
theorem dX24_init_4 : decode cX24_init 4 = .ok (.aload_n 0, 1) := dk_42 (dk_at dksX24_init_0 4 rfl rfl)
theorem dX24_init_5 : decode cX24_init 5 = .ok (.iload_n 1, 1) := dk_27 (dk_at dksX24_init_0 5 rfl rfl)
theorem dX24_init_6 : decode cX24_init 6 = .ok (.putfield 7, 3) := dk_181 0 7 (dk_at dksX24_init_0 6 rfl rfl)
theorem dX24_init_9 : decode cX24_init 9 = .ok (.aload_n 0, 1) := dk_42 (dk_at dksX24_init_0 9 rfl rfl)
theorem dX24_init_10 : decode cX24_init 10 = .ok (.iload_n 2, 1) := dk_28 (dk_at dksX24_init_0 10 rfl rfl)
theorem dX24_init_11 : decode cX24_init 11 = .ok (.putfield 13, 3) := dk_181 0 13 (dk_at dksX24_init_0 11 rfl rfl)
theorem dX24_init_14 : decode cX24_init 14 = .ok (.return_, 1) := dk_177 (dk_at dksX24_init_0 14 rfl rfl)
abbrev cX24_isDone : ByteArray := prog_17_method_2_code
def yX24_isDone : MethodName := ⟨RX24, "isDone", "(LTunedHouses$Terrace;)Z"⟩
def dkwX24_isDone_0 : List UInt8 := [43, 42, 180, 0, 7, 42, 180, 0, 13, 182, 0, 16, 172]
abbrev dktX24_isDone_0 : List UInt8 := dkwX24_isDone_0 ++ []
theorem dksX24_isDone_0 : cX24_isDone.data.toList.drop 0 = dktX24_isDone_0 := by decide +kernel
theorem dX24_isDone_0 : decode cX24_isDone 0 = .ok (.aload_n 1, 1) := dk_43 (dk_at dksX24_isDone_0 0 rfl rfl)
theorem dX24_isDone_1 : decode cX24_isDone 1 = .ok (.aload_n 0, 1) := dk_42 (dk_at dksX24_isDone_0 1 rfl rfl)
theorem dX24_isDone_2 : decode cX24_isDone 2 = .ok (.getfield 7, 3) := dk_180 0 7 (dk_at dksX24_isDone_0 2 rfl rfl)
theorem dX24_isDone_5 : decode cX24_isDone 5 = .ok (.aload_n 0, 1) := dk_42 (dk_at dksX24_isDone_0 5 rfl rfl)
theorem dX24_isDone_6 : decode cX24_isDone 6 = .ok (.getfield 13, 3) := dk_180 0 13 (dk_at dksX24_isDone_0 6 rfl rfl)
theorem dX24_isDone_9 : decode cX24_isDone 9 = .ok (.invokevirtual 16, 3) := dk_182 0 16 (dk_at dksX24_isDone_0 9 rfl rfl)
theorem dX24_isDone_12 : decode cX24_isDone 12 = .ok (.ireturn, 1) := dk_172 (dk_at dksX24_isDone_0 12 rfl rfl)
theorem q141 : (Jvm.Cond.initialized "TunedHouses$Puts") ∈ lw_all := lw_g (lw_at lw_m1 43 rfl) rfl
theorem q1177 : (Jvm.Cond.selects "TunedHouses$Puts" ({ cls := "java/lang/Object", name := "getClass", desc := "()Ljava/lang/Class;" } : Jvm.MethodName) ({ cls := "java/lang/Object", name := "getClass", desc := "()Ljava/lang/Class;" } : Jvm.MethodName)) ∈ lw_all := lw_g (lw_at lw_m5 119 rfl) rfl
theorem q1413 : (Jvm.Cond.instantiable "TunedHouses$Puts" (2 : Nat)) ∈ lw_all := lw_g (lw_at lw_m6 115 rfl) rfl
theorem q1415 : (Jvm.Cond.instanceMethod ({ cls := "TunedHouses$Puts", name := "<init>", desc := "(II)V" } : Jvm.MethodName)) ∈ lw_all := lw_g (lw_at lw_m6 117 rfl) rfl
theorem q1416 : (Jvm.Cond.code ({ cls := "TunedHouses$Puts", name := "<init>", desc := "(II)V" } : Jvm.MethodName) prog_17_method_1_code (3 : Nat) (Option.none : Option Jvm.ClassFile.FieldType)) ∈ lw_all := lw_g (lw_at lw_m6 118 rfl) rfl
theorem q1417 : (Jvm.Cond.methodLinkNest "TunedHouses$Puts" (1 : Nat) ({ cls := "TunedHouses$Act", name := "<init>", desc := "()V" } : Jvm.MethodName) "TunedHouses") ∈ lw_tbl := lw_at lw_m6 119 rfl
theorem q1424 : (Jvm.Cond.fieldLink "TunedHouses$Puts" (7 : Nat) "TunedHouses$Puts" "piano" "I") ∈ lw_all := lw_g (lw_at lw_m6 126 rfl) rfl
theorem q1425 : (Jvm.Cond.fieldLink "TunedHouses$Puts" (13 : Nat) "TunedHouses$Puts" "house" "I") ∈ lw_all := lw_g (lw_at lw_m6 127 rfl) rfl
theorem q1426 : (Jvm.Cond.laysFinal "TunedHouses$Puts" "TunedHouses$Puts" "piano" "I") ∈ lw_all := lw_g (lw_at lw_m6 128 rfl) rfl
theorem q1427 : (Jvm.Cond.soleField "TunedHouses$Puts" "piano") ∈ lw_all := lw_g (lw_at lw_m6 129 rfl) rfl
theorem q1428 : (Jvm.Cond.laysFinal "TunedHouses$Puts" "TunedHouses$Puts" "house" "I") ∈ lw_all := lw_g (lw_at lw_m6 130 rfl) rfl
theorem q1429 : (Jvm.Cond.soleField "TunedHouses$Puts" "house") ∈ lw_all := lw_g (lw_at lw_m6 131 rfl) rfl
theorem q1430 : (Jvm.Cond.superclass "TunedHouses$Puts" "TunedHouses$Act") ∈ lw_all := lw_g (lw_at lw_m6 132 rfl) rfl
theorem q1611 : (Jvm.Cond.selects "TunedHouses$Puts" ({ cls := "TunedHouses$Act", name := "isDone", desc := "(LTunedHouses$Terrace;)Z" } : Jvm.MethodName) ({ cls := "TunedHouses$Puts", name := "isDone", desc := "(LTunedHouses$Terrace;)Z" } : Jvm.MethodName)) ∈ lw_all := lw_g (lw_at lw_m7 73 rfl) rfl
theorem q1612 : (Jvm.Cond.instanceMethod ({ cls := "TunedHouses$Puts", name := "isDone", desc := "(LTunedHouses$Terrace;)Z" } : Jvm.MethodName)) ∈ lw_all := lw_g (lw_at lw_m7 74 rfl) rfl
theorem q1613 : (Jvm.Cond.code ({ cls := "TunedHouses$Puts", name := "isDone", desc := "(LTunedHouses$Terrace;)Z" } : Jvm.MethodName) prog_17_method_2_code (2 : Nat) (Option.some Jvm.ClassFile.FieldType.boolean)) ∈ lw_all := lw_g (lw_at lw_m7 75 rfl) rfl
theorem q1614 : (Jvm.Cond.methodLink "TunedHouses$Puts" (16 : Nat) ({ cls := "TunedHouses$Terrace", name := "puts", desc := "(II)Z" } : Jvm.MethodName)) ∈ lw_all := lw_g (lw_at lw_m7 76 rfl) rfl
theorem q1628 : (Jvm.Cond.selects "TunedHouses$Puts" ({ cls := "TunedHouses$Step", name := "goes", desc := "(LTunedHouses$Terrace;)V" } : Jvm.MethodName) ({ cls := "TunedHouses$Act", name := "goes", desc := "(LTunedHouses$Terrace;)V" } : Jvm.MethodName)) ∈ lw_all := lw_g (lw_at lw_m7 90 rfl) rfl
theorem q2562 : (Jvm.Cond.castable "TunedHouses$Puts" "TunedHouses$Step") ∈ lw_tbl := lw_at lw_m11 64 rfl
theorem q2587 : (Jvm.Cond.castable "TunedHouses$Puts" "java/lang/Object") ∈ lw_tbl := lw_at lw_m11 89 rfl
theorem in_X24 : ∀ w ∈ wsX240, w ∈ lw_all := lw_in wsX240 [1426, 1428] (by decide +kernel) (by decide +kernel)

/-! TunedHouses$Takes -/
set_option maxRecDepth 100000
def RX25 : String := "TunedHouses$Takes"
def TX25 : u_T := fun k => match k with
  | _ => ("TunedHouses$Takes", "piano", "I", true)
def tyX25 : Nat → FieldType := fun k => match k with
  | _ => .int
abbrev wsX250 : List Cond := u_ws RX25 TX25 1
theorem nmX25 : ∀ a, a < 1 → ∀ b, b < 1 → a ≠ b → (TX25 a).2.1 ≠ (TX25 b).2.1 := by decide +kernel
theorem tyX25_ok : ∀ k, k < 1 → parseFieldDescriptor (TX25 k).2.2.1 = some (tyX25 k) := by decide +kernel
abbrev cX25_init : ByteArray := prog_20_method_1_code
def yX25_init : MethodName := ⟨RX25, "<init>", "(I)V"⟩
def dkwX25_init_0 : List UInt8 := [42, 183, 0, 1, 42, 27, 181, 0, 7, 177]
abbrev dktX25_init_0 : List UInt8 := dkwX25_init_0 ++ []
theorem dksX25_init_0 : cX25_init.data.toList.drop 0 = dktX25_init_0 := by decide +kernel
theorem dX25_init_0 : decode cX25_init 0 = .ok (.aload_n 0, 1) := dk_42 (dk_at dksX25_init_0 0 rfl rfl)
theorem dX25_init_1 : decode cX25_init 1 = .ok (.invokespecial 1, 3) := dk_183 0 1 (dk_at dksX25_init_0 1 rfl rfl)
theorem dX25_init_4 : decode cX25_init 4 = .ok (.aload_n 0, 1) := dk_42 (dk_at dksX25_init_0 4 rfl rfl)
theorem dX25_init_5 : decode cX25_init 5 = .ok (.iload_n 1, 1) := dk_27 (dk_at dksX25_init_0 5 rfl rfl)
theorem dX25_init_6 : decode cX25_init 6 = .ok (.putfield 7, 3) := dk_181 0 7 (dk_at dksX25_init_0 6 rfl rfl)
theorem dX25_init_9 : decode cX25_init 9 = .ok (.return_, 1) := dk_177 (dk_at dksX25_init_0 9 rfl rfl)
abbrev cX25_isDone : ByteArray := prog_20_method_2_code
def yX25_isDone : MethodName := ⟨RX25, "isDone", "(LTunedHouses$Terrace;)Z"⟩
def dkwX25_isDone_0 : List UInt8 := [43, 42, 180, 0, 7, 182, 0, 13, 172]
abbrev dktX25_isDone_0 : List UInt8 := dkwX25_isDone_0 ++ []
theorem dksX25_isDone_0 : cX25_isDone.data.toList.drop 0 = dktX25_isDone_0 := by decide +kernel
theorem dX25_isDone_0 : decode cX25_isDone 0 = .ok (.aload_n 1, 1) := dk_43 (dk_at dksX25_isDone_0 0 rfl rfl)
theorem dX25_isDone_1 : decode cX25_isDone 1 = .ok (.aload_n 0, 1) := dk_42 (dk_at dksX25_isDone_0 1 rfl rfl)
theorem dX25_isDone_2 : decode cX25_isDone 2 = .ok (.getfield 7, 3) := dk_180 0 7 (dk_at dksX25_isDone_0 2 rfl rfl)
theorem dX25_isDone_5 : decode cX25_isDone 5 = .ok (.invokevirtual 13, 3) := dk_182 0 13 (dk_at dksX25_isDone_0 5 rfl rfl)
theorem dX25_isDone_8 : decode cX25_isDone 8 = .ok (.ireturn, 1) := dk_172 (dk_at dksX25_isDone_0 8 rfl rfl)
theorem q142 : (Jvm.Cond.initialized "TunedHouses$Takes") ∈ lw_all := lw_g (lw_at lw_m1 44 rfl) rfl
theorem q1178 : (Jvm.Cond.selects "TunedHouses$Takes" ({ cls := "java/lang/Object", name := "getClass", desc := "()Ljava/lang/Class;" } : Jvm.MethodName) ({ cls := "java/lang/Object", name := "getClass", desc := "()Ljava/lang/Class;" } : Jvm.MethodName)) ∈ lw_all := lw_g (lw_at lw_m5 120 rfl) rfl
theorem q1432 : (Jvm.Cond.instantiable "TunedHouses$Takes" (1 : Nat)) ∈ lw_all := lw_g (lw_at lw_m6 134 rfl) rfl
theorem q1434 : (Jvm.Cond.instanceMethod ({ cls := "TunedHouses$Takes", name := "<init>", desc := "(I)V" } : Jvm.MethodName)) ∈ lw_all := lw_g (lw_at lw_m6 136 rfl) rfl
theorem q1435 : (Jvm.Cond.code ({ cls := "TunedHouses$Takes", name := "<init>", desc := "(I)V" } : Jvm.MethodName) prog_20_method_1_code (2 : Nat) (Option.none : Option Jvm.ClassFile.FieldType)) ∈ lw_all := lw_g (lw_at lw_m6 137 rfl) rfl
theorem q1436 : (Jvm.Cond.methodLinkNest "TunedHouses$Takes" (1 : Nat) ({ cls := "TunedHouses$Act", name := "<init>", desc := "()V" } : Jvm.MethodName) "TunedHouses") ∈ lw_tbl := lw_at lw_m6 138 rfl
theorem q1437 : (Jvm.Cond.fieldLink "TunedHouses$Takes" (7 : Nat) "TunedHouses$Takes" "piano" "I") ∈ lw_all := lw_g (lw_at lw_m6 139 rfl) rfl
theorem q1438 : (Jvm.Cond.laysFinal "TunedHouses$Takes" "TunedHouses$Takes" "piano" "I") ∈ lw_all := lw_g (lw_at lw_m6 140 rfl) rfl
theorem q1439 : (Jvm.Cond.soleField "TunedHouses$Takes" "piano") ∈ lw_all := lw_g (lw_at lw_m6 141 rfl) rfl
theorem q1440 : (Jvm.Cond.superclass "TunedHouses$Takes" "TunedHouses$Act") ∈ lw_all := lw_g (lw_at lw_m6 142 rfl) rfl
theorem q1619 : (Jvm.Cond.selects "TunedHouses$Takes" ({ cls := "TunedHouses$Act", name := "isDone", desc := "(LTunedHouses$Terrace;)Z" } : Jvm.MethodName) ({ cls := "TunedHouses$Takes", name := "isDone", desc := "(LTunedHouses$Terrace;)Z" } : Jvm.MethodName)) ∈ lw_all := lw_g (lw_at lw_m7 81 rfl) rfl
theorem q1620 : (Jvm.Cond.instanceMethod ({ cls := "TunedHouses$Takes", name := "isDone", desc := "(LTunedHouses$Terrace;)Z" } : Jvm.MethodName)) ∈ lw_all := lw_g (lw_at lw_m7 82 rfl) rfl
theorem q1621 : (Jvm.Cond.code ({ cls := "TunedHouses$Takes", name := "isDone", desc := "(LTunedHouses$Terrace;)Z" } : Jvm.MethodName) prog_20_method_2_code (2 : Nat) (Option.some Jvm.ClassFile.FieldType.boolean)) ∈ lw_all := lw_g (lw_at lw_m7 83 rfl) rfl
theorem q1622 : (Jvm.Cond.methodLink "TunedHouses$Takes" (13 : Nat) ({ cls := "TunedHouses$Terrace", name := "takes", desc := "(I)Z" } : Jvm.MethodName)) ∈ lw_all := lw_g (lw_at lw_m7 84 rfl) rfl
theorem q1629 : (Jvm.Cond.selects "TunedHouses$Takes" ({ cls := "TunedHouses$Step", name := "goes", desc := "(LTunedHouses$Terrace;)V" } : Jvm.MethodName) ({ cls := "TunedHouses$Act", name := "goes", desc := "(LTunedHouses$Terrace;)V" } : Jvm.MethodName)) ∈ lw_all := lw_g (lw_at lw_m7 91 rfl) rfl
theorem q2563 : (Jvm.Cond.castable "TunedHouses$Takes" "TunedHouses$Step") ∈ lw_tbl := lw_at lw_m11 65 rfl
theorem q2588 : (Jvm.Cond.castable "TunedHouses$Takes" "java/lang/Object") ∈ lw_tbl := lw_at lw_m11 90 rfl
theorem in_X25 : ∀ w ∈ wsX250, w ∈ lw_all := lw_in wsX250 [1438] (by decide +kernel) (by decide +kernel)

/-! TunedHouses$Lays -/
set_option maxRecDepth 100000
def RX26 : String := "TunedHouses$Lays"
def TX26 : u_T := fun k => match k with
  | 0 => ("TunedHouses$Lays", "piano", "I", true)
  | _ => ("TunedHouses$Lays", "sheets", "I", true)
def tyX26 : Nat → FieldType := fun k => match k with
  | 0 => .int
  | _ => .int
abbrev wsX260 : List Cond := u_ws RX26 TX26 2
theorem nmX26 : ∀ a, a < 2 → ∀ b, b < 2 → a ≠ b → (TX26 a).2.1 ≠ (TX26 b).2.1 := by decide +kernel
theorem tyX26_ok : ∀ k, k < 2 → parseFieldDescriptor (TX26 k).2.2.1 = some (tyX26 k) := by decide +kernel
abbrev cX26_init : ByteArray := prog_8_method_1_code
def yX26_init : MethodName := ⟨RX26, "<init>", "(II)V"⟩
def dkwX26_init_0 : List UInt8 := [42, 183, 0, 1, 42, 27, 181, 0, 7, 42, 28, 181, 0, 13, 177]
abbrev dktX26_init_0 : List UInt8 := dkwX26_init_0 ++ []
theorem dksX26_init_0 : cX26_init.data.toList.drop 0 = dktX26_init_0 := by decide +kernel
theorem dX26_init_0 : decode cX26_init 0 = .ok (.aload_n 0, 1) := dk_42 (dk_at dksX26_init_0 0 rfl rfl)
theorem dX26_init_1 : decode cX26_init 1 = .ok (.invokespecial 1, 3) := dk_183 0 1 (dk_at dksX26_init_0 1 rfl rfl)
theorem dX26_init_4 : decode cX26_init 4 = .ok (.aload_n 0, 1) := dk_42 (dk_at dksX26_init_0 4 rfl rfl)
theorem dX26_init_5 : decode cX26_init 5 = .ok (.iload_n 1, 1) := dk_27 (dk_at dksX26_init_0 5 rfl rfl)
theorem dX26_init_6 : decode cX26_init 6 = .ok (.putfield 7, 3) := dk_181 0 7 (dk_at dksX26_init_0 6 rfl rfl)
theorem dX26_init_9 : decode cX26_init 9 = .ok (.aload_n 0, 1) := dk_42 (dk_at dksX26_init_0 9 rfl rfl)
theorem dX26_init_10 : decode cX26_init 10 = .ok (.iload_n 2, 1) := dk_28 (dk_at dksX26_init_0 10 rfl rfl)
theorem dX26_init_11 : decode cX26_init 11 = .ok (.putfield 13, 3) := dk_181 0 13 (dk_at dksX26_init_0 11 rfl rfl)
theorem dX26_init_14 : decode cX26_init 14 = .ok (.return_, 1) := dk_177 (dk_at dksX26_init_0 14 rfl rfl)
abbrev cX26_isDone : ByteArray := prog_8_method_2_code
def yX26_isDone : MethodName := ⟨RX26, "isDone", "(LTunedHouses$Terrace;)Z"⟩
def dkwX26_isDone_0 : List UInt8 := [43, 42, 180, 0, 7, 42, 180, 0, 13, 182, 0, 16, 172]
abbrev dktX26_isDone_0 : List UInt8 := dkwX26_isDone_0 ++ []
theorem dksX26_isDone_0 : cX26_isDone.data.toList.drop 0 = dktX26_isDone_0 := by decide +kernel
theorem dX26_isDone_0 : decode cX26_isDone 0 = .ok (.aload_n 1, 1) := dk_43 (dk_at dksX26_isDone_0 0 rfl rfl)
theorem dX26_isDone_1 : decode cX26_isDone 1 = .ok (.aload_n 0, 1) := dk_42 (dk_at dksX26_isDone_0 1 rfl rfl)
theorem dX26_isDone_2 : decode cX26_isDone 2 = .ok (.getfield 7, 3) := dk_180 0 7 (dk_at dksX26_isDone_0 2 rfl rfl)
theorem dX26_isDone_5 : decode cX26_isDone 5 = .ok (.aload_n 0, 1) := dk_42 (dk_at dksX26_isDone_0 5 rfl rfl)
theorem dX26_isDone_6 : decode cX26_isDone 6 = .ok (.getfield 13, 3) := dk_180 0 13 (dk_at dksX26_isDone_0 6 rfl rfl)
theorem dX26_isDone_9 : decode cX26_isDone 9 = .ok (.invokevirtual 16, 3) := dk_182 0 16 (dk_at dksX26_isDone_0 9 rfl rfl)
theorem dX26_isDone_12 : decode cX26_isDone 12 = .ok (.ireturn, 1) := dk_172 (dk_at dksX26_isDone_0 12 rfl rfl)
theorem q143 : (Jvm.Cond.initialized "TunedHouses$Lays") ∈ lw_all := lw_g (lw_at lw_m1 45 rfl) rfl
theorem q1168 : (Jvm.Cond.selects "TunedHouses$Lays" ({ cls := "java/lang/Object", name := "getClass", desc := "()Ljava/lang/Class;" } : Jvm.MethodName) ({ cls := "java/lang/Object", name := "getClass", desc := "()Ljava/lang/Class;" } : Jvm.MethodName)) ∈ lw_all := lw_g (lw_at lw_m5 110 rfl) rfl
theorem q1442 : (Jvm.Cond.instantiable "TunedHouses$Lays" (2 : Nat)) ∈ lw_all := lw_g (lw_at lw_m6 144 rfl) rfl
theorem q1444 : (Jvm.Cond.instanceMethod ({ cls := "TunedHouses$Lays", name := "<init>", desc := "(II)V" } : Jvm.MethodName)) ∈ lw_all := lw_g (lw_at lw_m6 146 rfl) rfl
theorem q1445 : (Jvm.Cond.code ({ cls := "TunedHouses$Lays", name := "<init>", desc := "(II)V" } : Jvm.MethodName) prog_8_method_1_code (3 : Nat) (Option.none : Option Jvm.ClassFile.FieldType)) ∈ lw_all := lw_g (lw_at lw_m6 147 rfl) rfl
theorem q1446 : (Jvm.Cond.methodLinkNest "TunedHouses$Lays" (1 : Nat) ({ cls := "TunedHouses$Act", name := "<init>", desc := "()V" } : Jvm.MethodName) "TunedHouses") ∈ lw_tbl := lw_at lw_m6 148 rfl
theorem q1447 : (Jvm.Cond.fieldLink "TunedHouses$Lays" (7 : Nat) "TunedHouses$Lays" "piano" "I") ∈ lw_all := lw_g (lw_at lw_m6 149 rfl) rfl
theorem q1448 : (Jvm.Cond.fieldLink "TunedHouses$Lays" (13 : Nat) "TunedHouses$Lays" "sheets" "I") ∈ lw_all := lw_g (lw_at lw_m6 150 rfl) rfl
theorem q1449 : (Jvm.Cond.laysFinal "TunedHouses$Lays" "TunedHouses$Lays" "piano" "I") ∈ lw_all := lw_g (lw_at lw_m6 151 rfl) rfl
theorem q1450 : (Jvm.Cond.soleField "TunedHouses$Lays" "piano") ∈ lw_all := lw_g (lw_at lw_m6 152 rfl) rfl
theorem q1451 : (Jvm.Cond.laysFinal "TunedHouses$Lays" "TunedHouses$Lays" "sheets" "I") ∈ lw_all := lw_g (lw_at lw_m6 153 rfl) rfl
theorem q1452 : (Jvm.Cond.soleField "TunedHouses$Lays" "sheets") ∈ lw_all := lw_g (lw_at lw_m6 154 rfl) rfl
theorem q1453 : (Jvm.Cond.superclass "TunedHouses$Lays" "TunedHouses$Act") ∈ lw_all := lw_g (lw_at lw_m6 155 rfl) rfl
theorem q1513 : (Jvm.Cond.selects "TunedHouses$Lays" ({ cls := "TunedHouses$Act", name := "isDone", desc := "(LTunedHouses$Terrace;)Z" } : Jvm.MethodName) ({ cls := "TunedHouses$Lays", name := "isDone", desc := "(LTunedHouses$Terrace;)Z" } : Jvm.MethodName)) ∈ lw_all := lw_g (lw_at lw_m6 215 rfl) rfl
theorem q1514 : (Jvm.Cond.instanceMethod ({ cls := "TunedHouses$Lays", name := "isDone", desc := "(LTunedHouses$Terrace;)Z" } : Jvm.MethodName)) ∈ lw_all := lw_g (lw_at lw_m6 216 rfl) rfl
theorem q1515 : (Jvm.Cond.code ({ cls := "TunedHouses$Lays", name := "isDone", desc := "(LTunedHouses$Terrace;)Z" } : Jvm.MethodName) prog_8_method_2_code (2 : Nat) (Option.some Jvm.ClassFile.FieldType.boolean)) ∈ lw_all := lw_g (lw_at lw_m6 217 rfl) rfl
theorem q1516 : (Jvm.Cond.methodLink "TunedHouses$Lays" (16 : Nat) ({ cls := "TunedHouses$Terrace", name := "lays", desc := "(II)Z" } : Jvm.MethodName)) ∈ lw_all := lw_g (lw_at lw_m6 218 rfl) rfl
theorem q1626 : (Jvm.Cond.selects "TunedHouses$Lays" ({ cls := "TunedHouses$Step", name := "goes", desc := "(LTunedHouses$Terrace;)V" } : Jvm.MethodName) ({ cls := "TunedHouses$Act", name := "goes", desc := "(LTunedHouses$Terrace;)V" } : Jvm.MethodName)) ∈ lw_all := lw_g (lw_at lw_m7 88 rfl) rfl
theorem q2560 : (Jvm.Cond.castable "TunedHouses$Lays" "TunedHouses$Step") ∈ lw_tbl := lw_at lw_m11 62 rfl
theorem q2589 : (Jvm.Cond.castable "TunedHouses$Lays" "java/lang/Object") ∈ lw_tbl := lw_at lw_m11 91 rfl
theorem in_X26 : ∀ w ∈ wsX260, w ∈ lw_all := lw_in wsX260 [1449, 1451] (by decide +kernel) (by decide +kernel)

/-! TunedHouses$Passes -/
set_option maxRecDepth 100000
def RX27 : String := "TunedHouses$Passes"
abbrev cX27_init : ByteArray := prog_13_method_1_code
def yX27_init : MethodName := ⟨RX27, "<init>", "()V"⟩
theorem dX27_init_0 : decode cX27_init 0 = .ok (.aload_n 0, 1) := by decide +kernel
theorem dX27_init_1 : decode cX27_init 1 = .ok (.invokespecial 1, 3) := by decide +kernel
theorem dX27_init_4 : decode cX27_init 4 = .ok (.return_, 1) := by decide +kernel
abbrev cX27_isDone : ByteArray := prog_13_method_2_code
def yX27_isDone : MethodName := ⟨RX27, "isDone", "(LTunedHouses$Terrace;)Z"⟩
theorem dX27_isDone_0 : decode cX27_isDone 0 = .ok (.aload_n 1, 1) := by decide +kernel
theorem dX27_isDone_1 : decode cX27_isDone 1 = .ok (.invokevirtual 7, 3) := by decide +kernel
theorem dX27_isDone_4 : decode cX27_isDone 4 = .ok (.ireturn, 1) := by decide +kernel
theorem q144 : (Jvm.Cond.initialized "TunedHouses$Passes") ∈ lw_all := lw_g (lw_at lw_m1 46 rfl) rfl
theorem q1173 : (Jvm.Cond.selects "TunedHouses$Passes" ({ cls := "java/lang/Object", name := "getClass", desc := "()Ljava/lang/Class;" } : Jvm.MethodName) ({ cls := "java/lang/Object", name := "getClass", desc := "()Ljava/lang/Class;" } : Jvm.MethodName)) ∈ lw_all := lw_g (lw_at lw_m5 115 rfl) rfl
theorem q1455 : (Jvm.Cond.instantiable "TunedHouses$Passes" (0 : Nat)) ∈ lw_all := lw_g (lw_at lw_m6 157 rfl) rfl
theorem q1457 : (Jvm.Cond.instanceMethod ({ cls := "TunedHouses$Passes", name := "<init>", desc := "()V" } : Jvm.MethodName)) ∈ lw_all := lw_g (lw_at lw_m6 159 rfl) rfl
theorem q1458 : (Jvm.Cond.code ({ cls := "TunedHouses$Passes", name := "<init>", desc := "()V" } : Jvm.MethodName) prog_13_method_1_code (1 : Nat) (Option.none : Option Jvm.ClassFile.FieldType)) ∈ lw_all := lw_g (lw_at lw_m6 160 rfl) rfl
theorem q1459 : (Jvm.Cond.methodLinkNest "TunedHouses$Passes" (1 : Nat) ({ cls := "TunedHouses$Act", name := "<init>", desc := "()V" } : Jvm.MethodName) "TunedHouses") ∈ lw_tbl := lw_at lw_m6 161 rfl
theorem q1460 : (Jvm.Cond.superclass "TunedHouses$Passes" "TunedHouses$Act") ∈ lw_all := lw_g (lw_at lw_m6 162 rfl) rfl
theorem q1520 : (Jvm.Cond.selects "TunedHouses$Passes" ({ cls := "TunedHouses$Act", name := "isDone", desc := "(LTunedHouses$Terrace;)Z" } : Jvm.MethodName) ({ cls := "TunedHouses$Passes", name := "isDone", desc := "(LTunedHouses$Terrace;)Z" } : Jvm.MethodName)) ∈ lw_all := lw_g (lw_at lw_m6 222 rfl) rfl
theorem q1521 : (Jvm.Cond.instanceMethod ({ cls := "TunedHouses$Passes", name := "isDone", desc := "(LTunedHouses$Terrace;)Z" } : Jvm.MethodName)) ∈ lw_all := lw_g (lw_at lw_m6 223 rfl) rfl
theorem q1522 : (Jvm.Cond.code ({ cls := "TunedHouses$Passes", name := "isDone", desc := "(LTunedHouses$Terrace;)Z" } : Jvm.MethodName) prog_13_method_2_code (2 : Nat) (Option.some Jvm.ClassFile.FieldType.boolean)) ∈ lw_all := lw_g (lw_at lw_m6 224 rfl) rfl
theorem q1523 : (Jvm.Cond.methodLink "TunedHouses$Passes" (7 : Nat) ({ cls := "TunedHouses$Terrace", name := "day", desc := "()Z" } : Jvm.MethodName)) ∈ lw_all := lw_g (lw_at lw_m6 225 rfl) rfl
theorem q1627 : (Jvm.Cond.selects "TunedHouses$Passes" ({ cls := "TunedHouses$Step", name := "goes", desc := "(LTunedHouses$Terrace;)V" } : Jvm.MethodName) ({ cls := "TunedHouses$Act", name := "goes", desc := "(LTunedHouses$Terrace;)V" } : Jvm.MethodName)) ∈ lw_all := lw_g (lw_at lw_m7 89 rfl) rfl
theorem q2561 : (Jvm.Cond.castable "TunedHouses$Passes" "TunedHouses$Step") ∈ lw_tbl := lw_at lw_m11 63 rfl
theorem q2590 : (Jvm.Cond.castable "TunedHouses$Passes" "java/lang/Object") ∈ lw_tbl := lw_at lw_m11 92 rfl

/-! TunedHouses$Again -/
set_option maxRecDepth 100000
def RX28 : String := "TunedHouses$Again"
def TX28 : u_T := fun k => match k with
  | 0 => ("TunedHouses$Again", "times", "I", true)
  | _ => ("TunedHouses$Again", "steps", "Ljava/util/ArrayList;", true)
def tyX28 : Nat → FieldType := fun k => match k with
  | 0 => .int
  | _ => .object "java/util/ArrayList"
abbrev wsX280 : List Cond := u_ws RX28 TX28 2
theorem nmX28 : ∀ a, a < 2 → ∀ b, b < 2 → a ≠ b → (TX28 a).2.1 ≠ (TX28 b).2.1 := by decide +kernel
theorem tyX28_ok : ∀ k, k < 2 → parseFieldDescriptor (TX28 k).2.2.1 = some (tyX28 k) := by decide +kernel
abbrev cX28_init : ByteArray := prog_3_method_1_code
def yX28_init : MethodName := ⟨RX28, "<init>", "(I)V"⟩
def dkwX28_init_0 : List UInt8 := [42, 183, 0, 3, 42, 187, 0, 9, 89, 4, 183, 0, 11, 181, 0, 14, 42, 27, 181, 0, 20, 177]
abbrev dktX28_init_0 : List UInt8 := dkwX28_init_0 ++ []
theorem dksX28_init_0 : cX28_init.data.toList.drop 0 = dktX28_init_0 := by decide +kernel
theorem dX28_init_0 : decode cX28_init 0 = .ok (.aload_n 0, 1) := dk_42 (dk_at dksX28_init_0 0 rfl rfl)
theorem dX28_init_1 : decode cX28_init 1 = .ok (.invokespecial 3, 3) := dk_183 0 3 (dk_at dksX28_init_0 1 rfl rfl)
theorem dX28_init_4 : decode cX28_init 4 = .ok (.aload_n 0, 1) := dk_42 (dk_at dksX28_init_0 4 rfl rfl)
theorem dX28_init_5 : decode cX28_init 5 = .ok (.new 9, 3) := dk_187 0 9 (dk_at dksX28_init_0 5 rfl rfl)
theorem dX28_init_8 : decode cX28_init 8 = .ok (.dup, 1) := dk_89 (dk_at dksX28_init_0 8 rfl rfl)
theorem dX28_init_9 : decode cX28_init 9 = .ok (.iconst 1, 1) := dk_4 (dk_at dksX28_init_0 9 rfl rfl)
theorem dX28_init_10 : decode cX28_init 10 = .ok (.invokespecial 11, 3) := dk_183 0 11 (dk_at dksX28_init_0 10 rfl rfl)
theorem dX28_init_13 : decode cX28_init 13 = .ok (.putfield 14, 3) := dk_181 0 14 (dk_at dksX28_init_0 13 rfl rfl)
theorem dX28_init_16 : decode cX28_init 16 = .ok (.aload_n 0, 1) := dk_42 (dk_at dksX28_init_0 16 rfl rfl)
theorem dX28_init_17 : decode cX28_init 17 = .ok (.iload_n 1, 1) := dk_27 (dk_at dksX28_init_0 17 rfl rfl)
theorem dX28_init_18 : decode cX28_init 18 = .ok (.putfield 20, 3) := dk_181 0 20 (dk_at dksX28_init_0 18 rfl rfl)
theorem dX28_init_21 : decode cX28_init 21 = .ok (.return_, 1) := dk_177 (dk_at dksX28_init_0 21 rfl rfl)
abbrev cX28_goes : ByteArray := prog_3_method_2_code
def yX28_goes : MethodName := ⟨RX28, "goes", "(LTunedHouses$Terrace;)V"⟩
def dkwX28_goes_2 : List UInt8 := [182, 0, 36, 192, 0, 4, 43, 182, 0, 40, 132, 3, 1, 167, 255, 227, 132, 2, 1, 167, 255, 201, 177]
abbrev dktX28_goes_2 : List UInt8 := dkwX28_goes_2 ++ []
def dkwX28_goes_1 : List UInt8 := [17, 0, 200, 162, 0, 43, 3, 62, 29, 42, 180, 0, 14, 182, 0, 32, 162, 0, 24, 42, 180, 0, 14, 29]
abbrev dktX28_goes_1 : List UInt8 := dkwX28_goes_1 ++ dktX28_goes_2
def dkwX28_goes_0 : List UInt8 := [43, 184, 0, 24, 154, 0, 4, 177, 3, 61, 28, 42, 180, 0, 20, 162, 0, 53, 43, 180, 0, 28]
abbrev dktX28_goes_0 : List UInt8 := dkwX28_goes_0 ++ dktX28_goes_1
theorem dksX28_goes_0 : cX28_goes.data.toList.drop 0 = dktX28_goes_0 := by decide +kernel
theorem dksX28_goes_1 : cX28_goes.data.toList.drop 22 = dktX28_goes_1 := dk_seg dksX28_goes_0 22 rfl rfl
theorem dksX28_goes_2 : cX28_goes.data.toList.drop 46 = dktX28_goes_2 := dk_seg dksX28_goes_1 24 rfl rfl
theorem dX28_goes_0 : decode cX28_goes 0 = .ok (.aload_n 1, 1) := dk_43 (dk_at dksX28_goes_0 0 rfl rfl)
theorem dX28_goes_1 : decode cX28_goes 1 = .ok (.invokestatic 24, 3) := dk_184 0 24 (dk_at dksX28_goes_0 1 rfl rfl)
theorem dX28_goes_4 : decode cX28_goes 4 = .ok (.ifCond .ne 4, 3) := dk_154 0 4 (dk_at dksX28_goes_0 4 rfl rfl)
theorem dX28_goes_7 : decode cX28_goes 7 = .ok (.return_, 1) := dk_177 (dk_at dksX28_goes_0 7 rfl rfl)
theorem dX28_goes_8 : decode cX28_goes 8 = .ok (.iconst 0, 1) := dk_3 (dk_at dksX28_goes_0 8 rfl rfl)
theorem dX28_goes_9 : decode cX28_goes 9 = .ok (.istore_n 2, 1) := dk_61 (dk_at dksX28_goes_0 9 rfl rfl)
theorem dX28_goes_10 : decode cX28_goes 10 = .ok (.iload_n 2, 1) := dk_28 (dk_at dksX28_goes_0 10 rfl rfl)
theorem dX28_goes_11 : decode cX28_goes 11 = .ok (.aload_n 0, 1) := dk_42 (dk_at dksX28_goes_0 11 rfl rfl)
theorem dX28_goes_12 : decode cX28_goes 12 = .ok (.getfield 20, 3) := dk_180 0 20 (dk_at dksX28_goes_0 12 rfl rfl)
theorem dX28_goes_15 : decode cX28_goes 15 = .ok (.if_icmp .ge 53, 3) := dk_162 0 53 (dk_at dksX28_goes_0 15 rfl rfl)
theorem dX28_goes_18 : decode cX28_goes 18 = .ok (.aload_n 1, 1) := dk_43 (dk_at dksX28_goes_0 18 rfl rfl)
theorem dX28_goes_19 : decode cX28_goes 19 = .ok (.getfield 28, 3) := dk_180 0 28 (dk_at dksX28_goes_0 19 rfl rfl)
theorem dX28_goes_22 : decode cX28_goes 22 = .ok (.sipush 200, 3) := dk_17 0 200 (dk_at dksX28_goes_1 0 rfl rfl)
theorem dX28_goes_25 : decode cX28_goes 25 = .ok (.if_icmp .ge 43, 3) := dk_162 0 43 (dk_at dksX28_goes_1 3 rfl rfl)
theorem dX28_goes_28 : decode cX28_goes 28 = .ok (.iconst 0, 1) := dk_3 (dk_at dksX28_goes_1 6 rfl rfl)
theorem dX28_goes_29 : decode cX28_goes 29 = .ok (.istore_n 3, 1) := dk_62 (dk_at dksX28_goes_1 7 rfl rfl)
theorem dX28_goes_30 : decode cX28_goes 30 = .ok (.iload_n 3, 1) := dk_29 (dk_at dksX28_goes_1 8 rfl rfl)
theorem dX28_goes_31 : decode cX28_goes 31 = .ok (.aload_n 0, 1) := dk_42 (dk_at dksX28_goes_1 9 rfl rfl)
theorem dX28_goes_32 : decode cX28_goes 32 = .ok (.getfield 14, 3) := dk_180 0 14 (dk_at dksX28_goes_1 10 rfl rfl)
theorem dX28_goes_35 : decode cX28_goes 35 = .ok (.invokevirtual 32, 3) := dk_182 0 32 (dk_at dksX28_goes_1 13 rfl rfl)
theorem dX28_goes_38 : decode cX28_goes 38 = .ok (.if_icmp .ge 24, 3) := dk_162 0 24 (dk_at dksX28_goes_1 16 rfl rfl)
theorem dX28_goes_41 : decode cX28_goes 41 = .ok (.aload_n 0, 1) := dk_42 (dk_at dksX28_goes_1 19 rfl rfl)
theorem dX28_goes_42 : decode cX28_goes 42 = .ok (.getfield 14, 3) := dk_180 0 14 (dk_at dksX28_goes_1 20 rfl rfl)
theorem dX28_goes_45 : decode cX28_goes 45 = .ok (.iload_n 3, 1) := dk_29 (dk_at dksX28_goes_1 23 rfl rfl)
theorem dX28_goes_46 : decode cX28_goes 46 = .ok (.invokevirtual 36, 3) := dk_182 0 36 (dk_at dksX28_goes_2 0 rfl rfl)
theorem dX28_goes_49 : decode cX28_goes 49 = .ok (.checkcast 4, 3) := dk_192 0 4 (dk_at dksX28_goes_2 3 rfl rfl)
theorem dX28_goes_52 : decode cX28_goes 52 = .ok (.aload_n 1, 1) := dk_43 (dk_at dksX28_goes_2 6 rfl rfl)
theorem dX28_goes_53 : decode cX28_goes 53 = .ok (.invokevirtual 40, 3) := dk_182 0 40 (dk_at dksX28_goes_2 7 rfl rfl)
theorem dX28_goes_56 : decode cX28_goes 56 = .ok (.iinc 3 1, 3) := dk_132 3 1 (dk_at dksX28_goes_2 10 rfl rfl)
theorem dX28_goes_59 : decode cX28_goes 59 = .ok (.goto (-29), 3) := dk_167 255 227 (dk_at dksX28_goes_2 13 rfl rfl)
theorem dX28_goes_62 : decode cX28_goes 62 = .ok (.iinc 2 1, 3) := dk_132 2 1 (dk_at dksX28_goes_2 16 rfl rfl)
theorem dX28_goes_65 : decode cX28_goes 65 = .ok (.goto (-55), 3) := dk_167 255 201 (dk_at dksX28_goes_2 19 rfl rfl)
theorem dX28_goes_68 : decode cX28_goes 68 = .ok (.return_, 1) := dk_177 (dk_at dksX28_goes_2 22 rfl rfl)
theorem q145 : (Jvm.Cond.initialized "TunedHouses$Again") ∈ lw_all := lw_g (lw_at lw_m1 47 rfl) rfl
theorem q608 : (Jvm.Cond.fieldLinkNest "TunedHouses$Again" (28 : Nat) "TunedHouses$Terrace" "steps" "I" "TunedHouses") ∈ lw_tbl := lw_at lw_m3 30 rfl
theorem q1163 : (Jvm.Cond.selects "TunedHouses$Again" ({ cls := "java/lang/Object", name := "getClass", desc := "()Ljava/lang/Class;" } : Jvm.MethodName) ({ cls := "java/lang/Object", name := "getClass", desc := "()Ljava/lang/Class;" } : Jvm.MethodName)) ∈ lw_all := lw_g (lw_at lw_m5 105 rfl) rfl
theorem q1469 : (Jvm.Cond.instantiable "TunedHouses$Again" (2 : Nat)) ∈ lw_all := lw_g (lw_at lw_m6 171 rfl) rfl
theorem q1471 : (Jvm.Cond.instanceMethod ({ cls := "TunedHouses$Again", name := "<init>", desc := "(I)V" } : Jvm.MethodName)) ∈ lw_all := lw_g (lw_at lw_m6 173 rfl) rfl
theorem q1472 : (Jvm.Cond.code ({ cls := "TunedHouses$Again", name := "<init>", desc := "(I)V" } : Jvm.MethodName) prog_3_method_1_code (2 : Nat) (Option.none : Option Jvm.ClassFile.FieldType)) ∈ lw_all := lw_g (lw_at lw_m6 174 rfl) rfl
theorem q1473 : (Jvm.Cond.methodLinkNest "TunedHouses$Again" (3 : Nat) ({ cls := "TunedHouses$Step", name := "<init>", desc := "()V" } : Jvm.MethodName) "TunedHouses") ∈ lw_tbl := lw_at lw_m6 175 rfl
theorem q1474 : (Jvm.Cond.classLink "TunedHouses$Again" (9 : Nat) "java/util/ArrayList") ∈ lw_all := lw_g (lw_at lw_m6 176 rfl) rfl
theorem q1475 : (Jvm.Cond.methodLink "TunedHouses$Again" (11 : Nat) ({ cls := "java/util/ArrayList", name := "<init>", desc := "(I)V" } : Jvm.MethodName)) ∈ lw_all := lw_g (lw_at lw_m6 177 rfl) rfl
theorem q1476 : (Jvm.Cond.fieldLink "TunedHouses$Again" (20 : Nat) "TunedHouses$Again" "times" "I") ∈ lw_all := lw_g (lw_at lw_m6 178 rfl) rfl
theorem q1477 : (Jvm.Cond.fieldLink "TunedHouses$Again" (14 : Nat) "TunedHouses$Again" "steps" "Ljava/util/ArrayList;") ∈ lw_all := lw_g (lw_at lw_m6 179 rfl) rfl
theorem q1479 : (Jvm.Cond.laysFinal "TunedHouses$Again" "TunedHouses$Again" "times" "I") ∈ lw_all := lw_g (lw_at lw_m6 181 rfl) rfl
theorem q1480 : (Jvm.Cond.soleField "TunedHouses$Again" "times") ∈ lw_all := lw_g (lw_at lw_m6 182 rfl) rfl
theorem q1481 : (Jvm.Cond.laysFinal "TunedHouses$Again" "TunedHouses$Again" "steps" "Ljava/util/ArrayList;") ∈ lw_all := lw_g (lw_at lw_m6 183 rfl) rfl
theorem q1482 : (Jvm.Cond.soleField "TunedHouses$Again" "steps") ∈ lw_all := lw_g (lw_at lw_m6 184 rfl) rfl
theorem q1483 : (Jvm.Cond.superclass "TunedHouses$Again" "TunedHouses$Step") ∈ lw_all := lw_g (lw_at lw_m6 185 rfl) rfl
theorem q1495 : (Jvm.Cond.selects "TunedHouses$Again" ({ cls := "TunedHouses$Step", name := "goes", desc := "(LTunedHouses$Terrace;)V" } : Jvm.MethodName) ({ cls := "TunedHouses$Again", name := "goes", desc := "(LTunedHouses$Terrace;)V" } : Jvm.MethodName)) ∈ lw_all := lw_g (lw_at lw_m6 197 rfl) rfl
theorem q1496 : (Jvm.Cond.instanceMethod ({ cls := "TunedHouses$Again", name := "goes", desc := "(LTunedHouses$Terrace;)V" } : Jvm.MethodName)) ∈ lw_all := lw_g (lw_at lw_m6 198 rfl) rfl
theorem q1497 : (Jvm.Cond.code ({ cls := "TunedHouses$Again", name := "goes", desc := "(LTunedHouses$Terrace;)V" } : Jvm.MethodName) prog_3_method_2_code (4 : Nat) (Option.none : Option Jvm.ClassFile.FieldType)) ∈ lw_all := lw_g (lw_at lw_m6 199 rfl) rfl
theorem q1498 : (Jvm.Cond.methodLink "TunedHouses$Again" (24 : Nat) ({ cls := "TunedHouses$Again", name := "may", desc := "(LTunedHouses$Terrace;)Z" } : Jvm.MethodName)) ∈ lw_all := lw_g (lw_at lw_m6 200 rfl) rfl
theorem q1499 : (Jvm.Cond.sameMethod "TunedHouses$Again" "TunedHouses$Step" "may" "(LTunedHouses$Terrace;)Z") ∈ lw_all := lw_g (lw_at lw_m6 201 rfl) rfl
theorem q1502 : (Jvm.Cond.methodLink "TunedHouses$Again" (32 : Nat) ({ cls := "java/util/ArrayList", name := "size", desc := "()I" } : Jvm.MethodName)) ∈ lw_all := lw_g (lw_at lw_m6 204 rfl) rfl
theorem q1503 : (Jvm.Cond.methodLink "TunedHouses$Again" (36 : Nat) ({ cls := "java/util/ArrayList", name := "get", desc := "(I)Ljava/lang/Object;" } : Jvm.MethodName)) ∈ lw_all := lw_g (lw_at lw_m6 205 rfl) rfl
theorem q1504 : (Jvm.Cond.classLink "TunedHouses$Again" (4 : Nat) "TunedHouses$Step") ∈ lw_all := lw_g (lw_at lw_m6 206 rfl) rfl
theorem q1505 : (Jvm.Cond.methodLink "TunedHouses$Again" (40 : Nat) ({ cls := "TunedHouses$Step", name := "goes", desc := "(LTunedHouses$Terrace;)V" } : Jvm.MethodName)) ∈ lw_all := lw_g (lw_at lw_m6 207 rfl) rfl
theorem q2559 : (Jvm.Cond.castable "TunedHouses$Again" "TunedHouses$Step") ∈ lw_tbl := lw_at lw_m11 61 rfl
theorem q2591 : (Jvm.Cond.castable "TunedHouses$Again" "java/lang/Object") ∈ lw_tbl := lw_at lw_m11 93 rfl
theorem in_X28 : ∀ w ∈ wsX280, w ∈ lw_all := lw_in wsX280 [1479, 1481] (by decide +kernel) (by decide +kernel)

/-! TunedHouses$BookReader -/
set_option maxRecDepth 100000
def RX29 : String := "TunedHouses$BookReader"
def TX29 : u_T := fun k => match k with
  | 0 => ("TunedHouses$Reader", "text", "[B", true)
  | 1 => ("TunedHouses$Reader", "size", "I", true)
  | 2 => ("TunedHouses$Reader", "next", "I", false)
  | 3 => ("TunedHouses$Reader", "from", "I", false)
  | 4 => ("TunedHouses$Reader", "open", "I", false)
  | 5 => ("TunedHouses$BookReader", "read", "[I", true)
  | _ => ("TunedHouses$BookReader", "many", "I", false)
def tyX29 : Nat → FieldType := fun k => match k with
  | 0 => .array .byte
  | 1 => .int
  | 2 => .int
  | 3 => .int
  | 4 => .int
  | 5 => .array .int
  | _ => .int
abbrev wsX290 : List Cond := u_ws RX29 TX29 7
theorem nmX29 : ∀ a, a < 7 → ∀ b, b < 7 → a ≠ b → (TX29 a).2.1 ≠ (TX29 b).2.1 := by decide +kernel
theorem tyX29_ok : ∀ k, k < 7 → parseFieldDescriptor (TX29 k).2.2.1 = some (tyX29 k) := by decide +kernel
abbrev cX29_init : ByteArray := prog_4_method_1_code
def yX29_init : MethodName := ⟨RX29, "<init>", "([BI)V"⟩
def dkwX29_init_0 : List UInt8 := [42, 43, 28, 183, 0, 3, 42, 16, 61, 188, 10, 181, 0, 9, 177]
abbrev dktX29_init_0 : List UInt8 := dkwX29_init_0 ++ []
theorem dksX29_init_0 : cX29_init.data.toList.drop 0 = dktX29_init_0 := by decide +kernel
theorem dX29_init_0 : decode cX29_init 0 = .ok (.aload_n 0, 1) := dk_42 (dk_at dksX29_init_0 0 rfl rfl)
theorem dX29_init_1 : decode cX29_init 1 = .ok (.aload_n 1, 1) := dk_43 (dk_at dksX29_init_0 1 rfl rfl)
theorem dX29_init_2 : decode cX29_init 2 = .ok (.iload_n 2, 1) := dk_28 (dk_at dksX29_init_0 2 rfl rfl)
theorem dX29_init_3 : decode cX29_init 3 = .ok (.invokespecial 3, 3) := dk_183 0 3 (dk_at dksX29_init_0 3 rfl rfl)
theorem dX29_init_6 : decode cX29_init 6 = .ok (.aload_n 0, 1) := dk_42 (dk_at dksX29_init_0 6 rfl rfl)
theorem dX29_init_7 : decode cX29_init 7 = .ok (.bipush 61, 2) := dk_16 61 (dk_at dksX29_init_0 7 rfl rfl)
theorem dX29_init_9 : decode cX29_init 9 = .ok (.newarray .int, 2) := dk_188_10 (dk_at dksX29_init_0 9 rfl rfl)
theorem dX29_init_11 : decode cX29_init 11 = .ok (.putfield 9, 3) := dk_181 0 9 (dk_at dksX29_init_0 11 rfl rfl)
theorem dX29_init_14 : decode cX29_init 14 = .ok (.return_, 1) := dk_177 (dk_at dksX29_init_0 14 rfl rfl)
abbrev cX29_reads : ByteArray := prog_4_method_2_code
def yX29_reads : MethodName := ⟨RX29, "reads", "()[I"⟩
def dkwX29_reads_5 : List UInt8 := [96, 181, 0, 38, 42, 182, 0, 15, 87, 167, 255, 158, 42, 180, 0, 9, 176]
abbrev dktX29_reads_5 : List UInt8 := dkwX29_reads_5 ++ []
def dkwX29_reads_4 : List UInt8 := [180, 0, 9, 27, 42, 3, 16, 99, 182, 0, 26, 79, 42, 16, 59, 182, 0, 41, 42, 89, 180, 0, 38, 4]
abbrev dktX29_reads_4 : List UInt8 := dkwX29_reads_4 ++ dktX29_reads_5
def dkwX29_reads_3 : List UInt8 := [180, 0, 38, 16, 6, 160, 0, 16, 187, 0, 30, 89, 6, 42, 180, 0, 32, 183, 0, 35, 191, 42]
abbrev dktX29_reads_3 : List UInt8 := dkwX29_reads_3 ++ dktX29_reads_4
def dkwX29_reads_2 : List UInt8 := [180, 0, 9, 27, 46, 2, 159, 0, 16, 187, 0, 30, 89, 5, 42, 180, 0, 32, 183, 0, 35, 191, 42]
abbrev dktX29_reads_2 : List UInt8 := dkwX29_reads_2 ++ dktX29_reads_3
def dkwX29_reads_1 : List UInt8 := [182, 0, 15, 87, 42, 180, 0, 19, 42, 180, 0, 23, 162, 0, 93, 42, 3, 16, 60, 182, 0, 26, 60, 42]
abbrev dktX29_reads_1 : List UInt8 := dkwX29_reads_1 ++ dktX29_reads_2
def dkwX29_reads_0 : List UInt8 := [3, 60, 27, 16, 61, 162, 0, 16, 42, 180, 0, 9, 27, 2, 79, 132, 1, 1, 167, 255, 240, 42]
abbrev dktX29_reads_0 : List UInt8 := dkwX29_reads_0 ++ dktX29_reads_1
theorem dksX29_reads_0 : cX29_reads.data.toList.drop 0 = dktX29_reads_0 := by decide +kernel
theorem dksX29_reads_1 : cX29_reads.data.toList.drop 22 = dktX29_reads_1 := dk_seg dksX29_reads_0 22 rfl rfl
theorem dksX29_reads_2 : cX29_reads.data.toList.drop 46 = dktX29_reads_2 := dk_seg dksX29_reads_1 24 rfl rfl
theorem dksX29_reads_3 : cX29_reads.data.toList.drop 69 = dktX29_reads_3 := dk_seg dksX29_reads_2 23 rfl rfl
theorem dksX29_reads_4 : cX29_reads.data.toList.drop 91 = dktX29_reads_4 := dk_seg dksX29_reads_3 22 rfl rfl
theorem dksX29_reads_5 : cX29_reads.data.toList.drop 115 = dktX29_reads_5 := dk_seg dksX29_reads_4 24 rfl rfl
theorem dX29_reads_0 : decode cX29_reads 0 = .ok (.iconst 0, 1) := dk_3 (dk_at dksX29_reads_0 0 rfl rfl)
theorem dX29_reads_1 : decode cX29_reads 1 = .ok (.istore_n 1, 1) := dk_60 (dk_at dksX29_reads_0 1 rfl rfl)
theorem dX29_reads_2 : decode cX29_reads 2 = .ok (.iload_n 1, 1) := dk_27 (dk_at dksX29_reads_0 2 rfl rfl)
theorem dX29_reads_3 : decode cX29_reads 3 = .ok (.bipush 61, 2) := dk_16 61 (dk_at dksX29_reads_0 3 rfl rfl)
theorem dX29_reads_5 : decode cX29_reads 5 = .ok (.if_icmp .ge 16, 3) := dk_162 0 16 (dk_at dksX29_reads_0 5 rfl rfl)
theorem dX29_reads_8 : decode cX29_reads 8 = .ok (.aload_n 0, 1) := dk_42 (dk_at dksX29_reads_0 8 rfl rfl)
theorem dX29_reads_9 : decode cX29_reads 9 = .ok (.getfield 9, 3) := dk_180 0 9 (dk_at dksX29_reads_0 9 rfl rfl)
theorem dX29_reads_12 : decode cX29_reads 12 = .ok (.iload_n 1, 1) := dk_27 (dk_at dksX29_reads_0 12 rfl rfl)
theorem dX29_reads_13 : decode cX29_reads 13 = .ok (.iconst (-1), 1) := dk_2 (dk_at dksX29_reads_0 13 rfl rfl)
theorem dX29_reads_14 : decode cX29_reads 14 = .ok (.iastore, 1) := dk_79 (dk_at dksX29_reads_0 14 rfl rfl)
theorem dX29_reads_15 : decode cX29_reads 15 = .ok (.iinc 1 1, 3) := dk_132 1 1 (dk_at dksX29_reads_0 15 rfl rfl)
theorem dX29_reads_18 : decode cX29_reads 18 = .ok (.goto (-16), 3) := dk_167 255 240 (dk_at dksX29_reads_0 18 rfl rfl)
theorem dX29_reads_21 : decode cX29_reads 21 = .ok (.aload_n 0, 1) := dk_42 (dk_at dksX29_reads_0 21 rfl rfl)
theorem dX29_reads_22 : decode cX29_reads 22 = .ok (.invokevirtual 15, 3) := dk_182 0 15 (dk_at dksX29_reads_1 0 rfl rfl)
theorem dX29_reads_25 : decode cX29_reads 25 = .ok (.pop, 1) := dk_87 (dk_at dksX29_reads_1 3 rfl rfl)
theorem dX29_reads_26 : decode cX29_reads 26 = .ok (.aload_n 0, 1) := dk_42 (dk_at dksX29_reads_1 4 rfl rfl)
theorem dX29_reads_27 : decode cX29_reads 27 = .ok (.getfield 19, 3) := dk_180 0 19 (dk_at dksX29_reads_1 5 rfl rfl)
theorem dX29_reads_30 : decode cX29_reads 30 = .ok (.aload_n 0, 1) := dk_42 (dk_at dksX29_reads_1 8 rfl rfl)
theorem dX29_reads_31 : decode cX29_reads 31 = .ok (.getfield 23, 3) := dk_180 0 23 (dk_at dksX29_reads_1 9 rfl rfl)
theorem dX29_reads_34 : decode cX29_reads 34 = .ok (.if_icmp .ge 93, 3) := dk_162 0 93 (dk_at dksX29_reads_1 12 rfl rfl)
theorem dX29_reads_37 : decode cX29_reads 37 = .ok (.aload_n 0, 1) := dk_42 (dk_at dksX29_reads_1 15 rfl rfl)
theorem dX29_reads_38 : decode cX29_reads 38 = .ok (.iconst 0, 1) := dk_3 (dk_at dksX29_reads_1 16 rfl rfl)
theorem dX29_reads_39 : decode cX29_reads 39 = .ok (.bipush 60, 2) := dk_16 60 (dk_at dksX29_reads_1 17 rfl rfl)
theorem dX29_reads_41 : decode cX29_reads 41 = .ok (.invokevirtual 26, 3) := dk_182 0 26 (dk_at dksX29_reads_1 19 rfl rfl)
theorem dX29_reads_44 : decode cX29_reads 44 = .ok (.istore_n 1, 1) := dk_60 (dk_at dksX29_reads_1 22 rfl rfl)
theorem dX29_reads_45 : decode cX29_reads 45 = .ok (.aload_n 0, 1) := dk_42 (dk_at dksX29_reads_1 23 rfl rfl)
theorem dX29_reads_46 : decode cX29_reads 46 = .ok (.getfield 9, 3) := dk_180 0 9 (dk_at dksX29_reads_2 0 rfl rfl)
theorem dX29_reads_49 : decode cX29_reads 49 = .ok (.iload_n 1, 1) := dk_27 (dk_at dksX29_reads_2 3 rfl rfl)
theorem dX29_reads_50 : decode cX29_reads 50 = .ok (.iaload, 1) := dk_46 (dk_at dksX29_reads_2 4 rfl rfl)
theorem dX29_reads_51 : decode cX29_reads 51 = .ok (.iconst (-1), 1) := dk_2 (dk_at dksX29_reads_2 5 rfl rfl)
theorem dX29_reads_52 : decode cX29_reads 52 = .ok (.if_icmp .eq 16, 3) := dk_159 0 16 (dk_at dksX29_reads_2 6 rfl rfl)
theorem dX29_reads_55 : decode cX29_reads 55 = .ok (.new 30, 3) := dk_187 0 30 (dk_at dksX29_reads_2 9 rfl rfl)
theorem dX29_reads_58 : decode cX29_reads 58 = .ok (.dup, 1) := dk_89 (dk_at dksX29_reads_2 12 rfl rfl)
theorem dX29_reads_59 : decode cX29_reads 59 = .ok (.iconst 2, 1) := dk_5 (dk_at dksX29_reads_2 13 rfl rfl)
theorem dX29_reads_60 : decode cX29_reads 60 = .ok (.aload_n 0, 1) := dk_42 (dk_at dksX29_reads_2 14 rfl rfl)
theorem dX29_reads_61 : decode cX29_reads 61 = .ok (.getfield 32, 3) := dk_180 0 32 (dk_at dksX29_reads_2 15 rfl rfl)
theorem dX29_reads_64 : decode cX29_reads 64 = .ok (.invokespecial 35, 3) := dk_183 0 35 (dk_at dksX29_reads_2 18 rfl rfl)
theorem dX29_reads_67 : decode cX29_reads 67 = .ok (.athrow, 1) := dk_191 (dk_at dksX29_reads_2 21 rfl rfl)
theorem dX29_reads_68 : decode cX29_reads 68 = .ok (.aload_n 0, 1) := dk_42 (dk_at dksX29_reads_2 22 rfl rfl)
theorem dX29_reads_69 : decode cX29_reads 69 = .ok (.getfield 38, 3) := dk_180 0 38 (dk_at dksX29_reads_3 0 rfl rfl)
theorem dX29_reads_72 : decode cX29_reads 72 = .ok (.bipush 6, 2) := dk_16 6 (dk_at dksX29_reads_3 3 rfl rfl)
theorem dX29_reads_74 : decode cX29_reads 74 = .ok (.if_icmp .ne 16, 3) := dk_160 0 16 (dk_at dksX29_reads_3 5 rfl rfl)
theorem dX29_reads_77 : decode cX29_reads 77 = .ok (.new 30, 3) := dk_187 0 30 (dk_at dksX29_reads_3 8 rfl rfl)
theorem dX29_reads_80 : decode cX29_reads 80 = .ok (.dup, 1) := dk_89 (dk_at dksX29_reads_3 11 rfl rfl)
theorem dX29_reads_81 : decode cX29_reads 81 = .ok (.iconst 3, 1) := dk_6 (dk_at dksX29_reads_3 12 rfl rfl)
theorem dX29_reads_82 : decode cX29_reads 82 = .ok (.aload_n 0, 1) := dk_42 (dk_at dksX29_reads_3 13 rfl rfl)
theorem dX29_reads_83 : decode cX29_reads 83 = .ok (.getfield 32, 3) := dk_180 0 32 (dk_at dksX29_reads_3 14 rfl rfl)
theorem dX29_reads_86 : decode cX29_reads 86 = .ok (.invokespecial 35, 3) := dk_183 0 35 (dk_at dksX29_reads_3 17 rfl rfl)
theorem dX29_reads_89 : decode cX29_reads 89 = .ok (.athrow, 1) := dk_191 (dk_at dksX29_reads_3 20 rfl rfl)
theorem dX29_reads_90 : decode cX29_reads 90 = .ok (.aload_n 0, 1) := dk_42 (dk_at dksX29_reads_3 21 rfl rfl)
theorem dX29_reads_91 : decode cX29_reads 91 = .ok (.getfield 9, 3) := dk_180 0 9 (dk_at dksX29_reads_4 0 rfl rfl)
theorem dX29_reads_94 : decode cX29_reads 94 = .ok (.iload_n 1, 1) := dk_27 (dk_at dksX29_reads_4 3 rfl rfl)
theorem dX29_reads_95 : decode cX29_reads 95 = .ok (.aload_n 0, 1) := dk_42 (dk_at dksX29_reads_4 4 rfl rfl)
theorem dX29_reads_96 : decode cX29_reads 96 = .ok (.iconst 0, 1) := dk_3 (dk_at dksX29_reads_4 5 rfl rfl)
theorem dX29_reads_97 : decode cX29_reads 97 = .ok (.bipush 99, 2) := dk_16 99 (dk_at dksX29_reads_4 6 rfl rfl)
theorem dX29_reads_99 : decode cX29_reads 99 = .ok (.invokevirtual 26, 3) := dk_182 0 26 (dk_at dksX29_reads_4 8 rfl rfl)
theorem dX29_reads_102 : decode cX29_reads 102 = .ok (.iastore, 1) := dk_79 (dk_at dksX29_reads_4 11 rfl rfl)
theorem dX29_reads_103 : decode cX29_reads 103 = .ok (.aload_n 0, 1) := dk_42 (dk_at dksX29_reads_4 12 rfl rfl)
theorem dX29_reads_104 : decode cX29_reads 104 = .ok (.bipush 59, 2) := dk_16 59 (dk_at dksX29_reads_4 13 rfl rfl)
theorem dX29_reads_106 : decode cX29_reads 106 = .ok (.invokevirtual 41, 3) := dk_182 0 41 (dk_at dksX29_reads_4 15 rfl rfl)
theorem dX29_reads_109 : decode cX29_reads 109 = .ok (.aload_n 0, 1) := dk_42 (dk_at dksX29_reads_4 18 rfl rfl)
theorem dX29_reads_110 : decode cX29_reads 110 = .ok (.dup, 1) := dk_89 (dk_at dksX29_reads_4 19 rfl rfl)
theorem dX29_reads_111 : decode cX29_reads 111 = .ok (.getfield 38, 3) := dk_180 0 38 (dk_at dksX29_reads_4 20 rfl rfl)
theorem dX29_reads_114 : decode cX29_reads 114 = .ok (.iconst 1, 1) := dk_4 (dk_at dksX29_reads_4 23 rfl rfl)
theorem dX29_reads_115 : decode cX29_reads 115 = .ok (.iadd, 1) := dk_96 (dk_at dksX29_reads_5 0 rfl rfl)
theorem dX29_reads_116 : decode cX29_reads 116 = .ok (.putfield 38, 3) := dk_181 0 38 (dk_at dksX29_reads_5 1 rfl rfl)
theorem dX29_reads_119 : decode cX29_reads 119 = .ok (.aload_n 0, 1) := dk_42 (dk_at dksX29_reads_5 4 rfl rfl)
theorem dX29_reads_120 : decode cX29_reads 120 = .ok (.invokevirtual 15, 3) := dk_182 0 15 (dk_at dksX29_reads_5 5 rfl rfl)
theorem dX29_reads_123 : decode cX29_reads 123 = .ok (.pop, 1) := dk_87 (dk_at dksX29_reads_5 8 rfl rfl)
theorem dX29_reads_124 : decode cX29_reads 124 = .ok (.goto (-98), 3) := dk_167 255 158 (dk_at dksX29_reads_5 9 rfl rfl)
theorem dX29_reads_127 : decode cX29_reads 127 = .ok (.aload_n 0, 1) := dk_42 (dk_at dksX29_reads_5 12 rfl rfl)
theorem dX29_reads_128 : decode cX29_reads 128 = .ok (.getfield 9, 3) := dk_180 0 9 (dk_at dksX29_reads_5 13 rfl rfl)
theorem dX29_reads_131 : decode cX29_reads 131 = .ok (.areturn, 1) := dk_176 (dk_at dksX29_reads_5 16 rfl rfl)
theorem q147 : (Jvm.Cond.initialized "TunedHouses$BookReader") ∈ lw_all := lw_g (lw_at lw_m1 49 rfl) rfl
theorem q902 : (Jvm.Cond.fieldLink "TunedHouses$BookReader" (23 : Nat) "TunedHouses$BookReader" "size" "I") ∈ lw_all := lw_g (lw_at lw_m4 84 rfl) rfl
theorem q903 : (Jvm.Cond.sameField "TunedHouses$BookReader" "TunedHouses$Reader" "size" "I") ∈ lw_all := lw_g (lw_at lw_m4 85 rfl) rfl
theorem q911 : (Jvm.Cond.fieldLink "TunedHouses$BookReader" (19 : Nat) "TunedHouses$BookReader" "next" "I") ∈ lw_all := lw_g (lw_at lw_m4 93 rfl) rfl
theorem q912 : (Jvm.Cond.sameField "TunedHouses$BookReader" "TunedHouses$Reader" "next" "I") ∈ lw_all := lw_g (lw_at lw_m4 94 rfl) rfl
theorem q915 : (Jvm.Cond.fieldLink "TunedHouses$BookReader" (32 : Nat) "TunedHouses$BookReader" "from" "I") ∈ lw_all := lw_g (lw_at lw_m4 97 rfl) rfl
theorem q916 : (Jvm.Cond.sameField "TunedHouses$BookReader" "TunedHouses$Reader" "from" "I") ∈ lw_all := lw_g (lw_at lw_m4 98 rfl) rfl
theorem q1164 : (Jvm.Cond.selects "TunedHouses$BookReader" ({ cls := "java/lang/Object", name := "getClass", desc := "()Ljava/lang/Class;" } : Jvm.MethodName) ({ cls := "java/lang/Object", name := "getClass", desc := "()Ljava/lang/Class;" } : Jvm.MethodName)) ∈ lw_all := lw_g (lw_at lw_m5 106 rfl) rfl
theorem q1638 : (Jvm.Cond.instantiable "TunedHouses$BookReader" (7 : Nat)) ∈ lw_all := lw_g (lw_at lw_m7 100 rfl) rfl
theorem q1640 : (Jvm.Cond.instanceMethod ({ cls := "TunedHouses$BookReader", name := "<init>", desc := "([BI)V" } : Jvm.MethodName)) ∈ lw_all := lw_g (lw_at lw_m7 102 rfl) rfl
theorem q1641 : (Jvm.Cond.code ({ cls := "TunedHouses$BookReader", name := "<init>", desc := "([BI)V" } : Jvm.MethodName) prog_4_method_1_code (3 : Nat) (Option.none : Option Jvm.ClassFile.FieldType)) ∈ lw_all := lw_g (lw_at lw_m7 103 rfl) rfl
theorem q1642 : (Jvm.Cond.methodLink "TunedHouses$BookReader" (3 : Nat) ({ cls := "TunedHouses$Reader", name := "<init>", desc := "([BI)V" } : Jvm.MethodName)) ∈ lw_all := lw_g (lw_at lw_m7 104 rfl) rfl
theorem q1643 : (Jvm.Cond.fieldLink "TunedHouses$BookReader" (9 : Nat) "TunedHouses$BookReader" "read" "[I") ∈ lw_all := lw_g (lw_at lw_m7 105 rfl) rfl
theorem q1644 : (Jvm.Cond.fieldLink "TunedHouses$BookReader" (38 : Nat) "TunedHouses$BookReader" "many" "I") ∈ lw_all := lw_g (lw_at lw_m7 106 rfl) rfl
theorem q1646 : (Jvm.Cond.laysFinal "TunedHouses$BookReader" "TunedHouses$BookReader" "read" "[I") ∈ lw_all := lw_g (lw_at lw_m7 108 rfl) rfl
theorem q1647 : (Jvm.Cond.soleField "TunedHouses$BookReader" "read") ∈ lw_all := lw_g (lw_at lw_m7 109 rfl) rfl
theorem q1648 : (Jvm.Cond.lays "TunedHouses$BookReader" "TunedHouses$BookReader" "many" "I") ∈ lw_all := lw_g (lw_at lw_m7 110 rfl) rfl
theorem q1649 : (Jvm.Cond.soleField "TunedHouses$BookReader" "many") ∈ lw_all := lw_g (lw_at lw_m7 111 rfl) rfl
theorem q1650 : (Jvm.Cond.laysFinal "TunedHouses$BookReader" "TunedHouses$Reader" "text" "[B") ∈ lw_all := lw_g (lw_at lw_m7 112 rfl) rfl
theorem q1651 : (Jvm.Cond.laysFinal "TunedHouses$BookReader" "TunedHouses$Reader" "size" "I") ∈ lw_all := lw_g (lw_at lw_m7 113 rfl) rfl
theorem q1652 : (Jvm.Cond.lays "TunedHouses$BookReader" "TunedHouses$Reader" "next" "I") ∈ lw_all := lw_g (lw_at lw_m7 114 rfl) rfl
theorem q1653 : (Jvm.Cond.lays "TunedHouses$BookReader" "TunedHouses$Reader" "from" "I") ∈ lw_all := lw_g (lw_at lw_m7 115 rfl) rfl
theorem q1654 : (Jvm.Cond.lays "TunedHouses$BookReader" "TunedHouses$Reader" "open" "I") ∈ lw_all := lw_g (lw_at lw_m7 116 rfl) rfl
theorem q1655 : (Jvm.Cond.superclass "TunedHouses$BookReader" "TunedHouses$Reader") ∈ lw_all := lw_g (lw_at lw_m7 117 rfl) rfl
theorem q1657 : (Jvm.Cond.instanceMethod ({ cls := "TunedHouses$BookReader", name := "reads", desc := "()[I" } : Jvm.MethodName)) ∈ lw_all := lw_g (lw_at lw_m7 119 rfl) rfl
theorem q1658 : (Jvm.Cond.selects "TunedHouses$BookReader" ({ cls := "TunedHouses$BookReader", name := "reads", desc := "()[I" } : Jvm.MethodName) ({ cls := "TunedHouses$BookReader", name := "reads", desc := "()[I" } : Jvm.MethodName)) ∈ lw_all := lw_g (lw_at lw_m7 120 rfl) rfl
theorem q1659 : (Jvm.Cond.code ({ cls := "TunedHouses$BookReader", name := "reads", desc := "()[I" } : Jvm.MethodName) prog_4_method_2_code (2 : Nat) (Option.some (Jvm.ClassFile.FieldType.array Jvm.ClassFile.FieldType.int))) ∈ lw_all := lw_g (lw_at lw_m7 121 rfl) rfl
theorem q1660 : (Jvm.Cond.methodLink "TunedHouses$BookReader" (15 : Nat) ({ cls := "TunedHouses$BookReader", name := "sign", desc := "()I" } : Jvm.MethodName)) ∈ lw_all := lw_g (lw_at lw_m7 122 rfl) rfl
theorem q1661 : (Jvm.Cond.sameMethod "TunedHouses$BookReader" "TunedHouses$Reader" "sign" "()I") ∈ lw_all := lw_g (lw_at lw_m7 123 rfl) rfl
theorem q1662 : (Jvm.Cond.selects "TunedHouses$BookReader" ({ cls := "TunedHouses$BookReader", name := "sign", desc := "()I" } : Jvm.MethodName) ({ cls := "TunedHouses$Reader", name := "sign", desc := "()I" } : Jvm.MethodName)) ∈ lw_all := lw_g (lw_at lw_m7 124 rfl) rfl
theorem q1663 : (Jvm.Cond.methodLink "TunedHouses$BookReader" (26 : Nat) ({ cls := "TunedHouses$BookReader", name := "number", desc := "(II)I" } : Jvm.MethodName)) ∈ lw_all := lw_g (lw_at lw_m7 125 rfl) rfl
theorem q1664 : (Jvm.Cond.sameMethod "TunedHouses$BookReader" "TunedHouses$Reader" "number" "(II)I") ∈ lw_all := lw_g (lw_at lw_m7 126 rfl) rfl
theorem q1665 : (Jvm.Cond.selects "TunedHouses$BookReader" ({ cls := "TunedHouses$BookReader", name := "number", desc := "(II)I" } : Jvm.MethodName) ({ cls := "TunedHouses$Reader", name := "number", desc := "(II)I" } : Jvm.MethodName)) ∈ lw_all := lw_g (lw_at lw_m7 127 rfl) rfl
theorem q1666 : (Jvm.Cond.classLink "TunedHouses$BookReader" (30 : Nat) "TunedHouses$Wrong") ∈ lw_all := lw_g (lw_at lw_m7 128 rfl) rfl
theorem q1667 : (Jvm.Cond.methodLink "TunedHouses$BookReader" (35 : Nat) ({ cls := "TunedHouses$Wrong", name := "<init>", desc := "(II)V" } : Jvm.MethodName)) ∈ lw_all := lw_g (lw_at lw_m7 129 rfl) rfl
theorem q1668 : (Jvm.Cond.methodLink "TunedHouses$BookReader" (41 : Nat) ({ cls := "TunedHouses$BookReader", name := "need", desc := "(I)V" } : Jvm.MethodName)) ∈ lw_all := lw_g (lw_at lw_m7 130 rfl) rfl
theorem q1669 : (Jvm.Cond.sameMethod "TunedHouses$BookReader" "TunedHouses$Reader" "need" "(I)V") ∈ lw_all := lw_g (lw_at lw_m7 131 rfl) rfl
theorem q1670 : (Jvm.Cond.selects "TunedHouses$BookReader" ({ cls := "TunedHouses$BookReader", name := "need", desc := "(I)V" } : Jvm.MethodName) ({ cls := "TunedHouses$Reader", name := "need", desc := "(I)V" } : Jvm.MethodName)) ∈ lw_all := lw_g (lw_at lw_m7 132 rfl) rfl
theorem q2547 : (Jvm.Cond.selects "TunedHouses$BookReader" ({ cls := "TunedHouses$Reader", name := "sign", desc := "()I" } : Jvm.MethodName) ({ cls := "TunedHouses$Reader", name := "sign", desc := "()I" } : Jvm.MethodName)) ∈ lw_all := lw_g (lw_at lw_m11 49 rfl) rfl
theorem q2554 : (Jvm.Cond.selects "TunedHouses$BookReader" ({ cls := "TunedHouses$Reader", name := "wrong", desc := "()LTunedHouses$Wrong;" } : Jvm.MethodName) ({ cls := "TunedHouses$Reader", name := "wrong", desc := "()LTunedHouses$Wrong;" } : Jvm.MethodName)) ∈ lw_all := lw_g (lw_at lw_m11 56 rfl) rfl
theorem q2592 : (Jvm.Cond.castable "TunedHouses$BookReader" "java/lang/Object") ∈ lw_tbl := lw_at lw_m11 94 rfl
theorem in_X29 : ∀ w ∈ wsX290, w ∈ lw_all := lw_in wsX290 [1650, 1651, 1652, 1653, 1654, 1646, 1648] (by decide +kernel) (by decide +kernel)
