/-! HornHousesLaw -/
set_option maxRecDepth 100000
def RX0 : String := "HornHousesLaw"
abbrev cX0_town : ByteArray := method_3_code
def yX0_town : MethodName := ⟨RX0, "town", "(LHornHouses;I[J)I"⟩
def dkwX0_town_0 : List UInt8 := [44, 3, 42, 27, 182, 0, 7, 133, 80, 167, 0, 6, 78, 4, 172, 3, 172]
abbrev dktX0_town_0 : List UInt8 := dkwX0_town_0 ++ []
theorem dksX0_town_0 : cX0_town.data.toList.drop 0 = dktX0_town_0 := by decide +kernel
theorem dX0_town_0 : decode cX0_town 0 = .ok (.aload_n 2, 1) := dk_44 (dk_at dksX0_town_0 0 rfl rfl)
theorem dX0_town_1 : decode cX0_town 1 = .ok (.iconst 0, 1) := dk_3 (dk_at dksX0_town_0 1 rfl rfl)
theorem dX0_town_2 : decode cX0_town 2 = .ok (.aload_n 0, 1) := dk_42 (dk_at dksX0_town_0 2 rfl rfl)
theorem dX0_town_3 : decode cX0_town 3 = .ok (.iload_n 1, 1) := dk_27 (dk_at dksX0_town_0 3 rfl rfl)
theorem dX0_town_4 : decode cX0_town 4 = .ok (.invokevirtual 7, 3) := dk_182 0 7 (dk_at dksX0_town_0 4 rfl rfl)
theorem dX0_town_7 : decode cX0_town 7 = .ok (.i2l, 1) := dk_133 (dk_at dksX0_town_0 7 rfl rfl)
theorem dX0_town_8 : decode cX0_town 8 = .ok (.lastore, 1) := dk_80 (dk_at dksX0_town_0 8 rfl rfl)
theorem dX0_town_9 : decode cX0_town 9 = .ok (.goto 6, 3) := dk_167 0 6 (dk_at dksX0_town_0 9 rfl rfl)
theorem dX0_town_12 : decode cX0_town 12 = .ok (.astore_n 3, 1) := dk_78 (dk_at dksX0_town_0 12 rfl rfl)
theorem dX0_town_13 : decode cX0_town 13 = .ok (.iconst 1, 1) := dk_4 (dk_at dksX0_town_0 13 rfl rfl)
theorem dX0_town_14 : decode cX0_town 14 = .ok (.ireturn, 1) := dk_172 (dk_at dksX0_town_0 14 rfl rfl)
theorem dX0_town_15 : decode cX0_town 15 = .ok (.iconst 0, 1) := dk_3 (dk_at dksX0_town_0 15 rfl rfl)
theorem dX0_town_16 : decode cX0_town 16 = .ok (.ireturn, 1) := dk_172 (dk_at dksX0_town_0 16 rfl rfl)
abbrev cX0_count : ByteArray := method_4_code
def yX0_count : MethodName := ⟨RX0, "count", "(LHornHouses;I[J)I"⟩
def dkwX0_count_0 : List UInt8 := [44, 3, 42, 27, 182, 0, 15, 133, 80, 167, 0, 6, 78, 4, 172, 3, 172]
abbrev dktX0_count_0 : List UInt8 := dkwX0_count_0 ++ []
theorem dksX0_count_0 : cX0_count.data.toList.drop 0 = dktX0_count_0 := by decide +kernel
theorem dX0_count_0 : decode cX0_count 0 = .ok (.aload_n 2, 1) := dk_44 (dk_at dksX0_count_0 0 rfl rfl)
theorem dX0_count_1 : decode cX0_count 1 = .ok (.iconst 0, 1) := dk_3 (dk_at dksX0_count_0 1 rfl rfl)
theorem dX0_count_2 : decode cX0_count 2 = .ok (.aload_n 0, 1) := dk_42 (dk_at dksX0_count_0 2 rfl rfl)
theorem dX0_count_3 : decode cX0_count 3 = .ok (.iload_n 1, 1) := dk_27 (dk_at dksX0_count_0 3 rfl rfl)
theorem dX0_count_4 : decode cX0_count 4 = .ok (.invokevirtual 15, 3) := dk_182 0 15 (dk_at dksX0_count_0 4 rfl rfl)
theorem dX0_count_7 : decode cX0_count 7 = .ok (.i2l, 1) := dk_133 (dk_at dksX0_count_0 7 rfl rfl)
theorem dX0_count_8 : decode cX0_count 8 = .ok (.lastore, 1) := dk_80 (dk_at dksX0_count_0 8 rfl rfl)
theorem dX0_count_9 : decode cX0_count 9 = .ok (.goto 6, 3) := dk_167 0 6 (dk_at dksX0_count_0 9 rfl rfl)
theorem dX0_count_12 : decode cX0_count 12 = .ok (.astore_n 3, 1) := dk_78 (dk_at dksX0_count_0 12 rfl rfl)
theorem dX0_count_13 : decode cX0_count 13 = .ok (.iconst 1, 1) := dk_4 (dk_at dksX0_count_0 13 rfl rfl)
theorem dX0_count_14 : decode cX0_count 14 = .ok (.ireturn, 1) := dk_172 (dk_at dksX0_count_0 14 rfl rfl)
theorem dX0_count_15 : decode cX0_count 15 = .ok (.iconst 0, 1) := dk_3 (dk_at dksX0_count_0 15 rfl rfl)
theorem dX0_count_16 : decode cX0_count 16 = .ok (.ireturn, 1) := dk_172 (dk_at dksX0_count_0 16 rfl rfl)
abbrev cX0_house : ByteArray := method_5_code
def yX0_house : MethodName := ⟨RX0, "house", "(LHornHouses;II[J)I"⟩
def dkwX0_house_0 : List UInt8 := [45, 3, 42, 27, 28, 182, 0, 20, 133, 80, 167, 0, 7, 58, 4, 4, 172, 3, 172]
abbrev dktX0_house_0 : List UInt8 := dkwX0_house_0 ++ []
theorem dksX0_house_0 : cX0_house.data.toList.drop 0 = dktX0_house_0 := by decide +kernel
theorem dX0_house_0 : decode cX0_house 0 = .ok (.aload_n 3, 1) := dk_45 (dk_at dksX0_house_0 0 rfl rfl)
theorem dX0_house_1 : decode cX0_house 1 = .ok (.iconst 0, 1) := dk_3 (dk_at dksX0_house_0 1 rfl rfl)
theorem dX0_house_2 : decode cX0_house 2 = .ok (.aload_n 0, 1) := dk_42 (dk_at dksX0_house_0 2 rfl rfl)
theorem dX0_house_3 : decode cX0_house 3 = .ok (.iload_n 1, 1) := dk_27 (dk_at dksX0_house_0 3 rfl rfl)
theorem dX0_house_4 : decode cX0_house 4 = .ok (.iload_n 2, 1) := dk_28 (dk_at dksX0_house_0 4 rfl rfl)
theorem dX0_house_5 : decode cX0_house 5 = .ok (.invokevirtual 20, 3) := dk_182 0 20 (dk_at dksX0_house_0 5 rfl rfl)
theorem dX0_house_8 : decode cX0_house 8 = .ok (.i2l, 1) := dk_133 (dk_at dksX0_house_0 8 rfl rfl)
theorem dX0_house_9 : decode cX0_house 9 = .ok (.lastore, 1) := dk_80 (dk_at dksX0_house_0 9 rfl rfl)
theorem dX0_house_10 : decode cX0_house 10 = .ok (.goto 7, 3) := dk_167 0 7 (dk_at dksX0_house_0 10 rfl rfl)
theorem dX0_house_13 : decode cX0_house 13 = .ok (.astore 4, 2) := dk_58 4 (dk_at dksX0_house_0 13 rfl rfl)
theorem dX0_house_15 : decode cX0_house 15 = .ok (.iconst 1, 1) := dk_4 (dk_at dksX0_house_0 15 rfl rfl)
theorem dX0_house_16 : decode cX0_house 16 = .ok (.ireturn, 1) := dk_172 (dk_at dksX0_house_0 16 rfl rfl)
theorem dX0_house_17 : decode cX0_house 17 = .ok (.iconst 0, 1) := dk_3 (dk_at dksX0_house_0 17 rfl rfl)
theorem dX0_house_18 : decode cX0_house 18 = .ok (.ireturn, 1) := dk_172 (dk_at dksX0_house_0 18 rfl rfl)
abbrev cX0_person : ByteArray := method_6_code
def yX0_person : MethodName := ⟨RX0, "person", "(LHornHouses;II[J)I"⟩
def dkwX0_person_0 : List UInt8 := [45, 3, 42, 27, 28, 182, 0, 24, 133, 80, 167, 0, 7, 58, 4, 4, 172, 3, 172]
abbrev dktX0_person_0 : List UInt8 := dkwX0_person_0 ++ []
theorem dksX0_person_0 : cX0_person.data.toList.drop 0 = dktX0_person_0 := by decide +kernel
theorem dX0_person_0 : decode cX0_person 0 = .ok (.aload_n 3, 1) := dk_45 (dk_at dksX0_person_0 0 rfl rfl)
theorem dX0_person_1 : decode cX0_person 1 = .ok (.iconst 0, 1) := dk_3 (dk_at dksX0_person_0 1 rfl rfl)
theorem dX0_person_2 : decode cX0_person 2 = .ok (.aload_n 0, 1) := dk_42 (dk_at dksX0_person_0 2 rfl rfl)
theorem dX0_person_3 : decode cX0_person 3 = .ok (.iload_n 1, 1) := dk_27 (dk_at dksX0_person_0 3 rfl rfl)
theorem dX0_person_4 : decode cX0_person 4 = .ok (.iload_n 2, 1) := dk_28 (dk_at dksX0_person_0 4 rfl rfl)
theorem dX0_person_5 : decode cX0_person 5 = .ok (.invokevirtual 24, 3) := dk_182 0 24 (dk_at dksX0_person_0 5 rfl rfl)
theorem dX0_person_8 : decode cX0_person 8 = .ok (.i2l, 1) := dk_133 (dk_at dksX0_person_0 8 rfl rfl)
theorem dX0_person_9 : decode cX0_person 9 = .ok (.lastore, 1) := dk_80 (dk_at dksX0_person_0 9 rfl rfl)
theorem dX0_person_10 : decode cX0_person 10 = .ok (.goto 7, 3) := dk_167 0 7 (dk_at dksX0_person_0 10 rfl rfl)
theorem dX0_person_13 : decode cX0_person 13 = .ok (.astore 4, 2) := dk_58 4 (dk_at dksX0_person_0 13 rfl rfl)
theorem dX0_person_15 : decode cX0_person 15 = .ok (.iconst 1, 1) := dk_4 (dk_at dksX0_person_0 15 rfl rfl)
theorem dX0_person_16 : decode cX0_person 16 = .ok (.ireturn, 1) := dk_172 (dk_at dksX0_person_0 16 rfl rfl)
theorem dX0_person_17 : decode cX0_person 17 = .ok (.iconst 0, 1) := dk_3 (dk_at dksX0_person_0 17 rfl rfl)
theorem dX0_person_18 : decode cX0_person 18 = .ok (.ireturn, 1) := dk_172 (dk_at dksX0_person_0 18 rfl rfl)
abbrev cX0_eases : ByteArray := method_7_code
def yX0_eases : MethodName := ⟨RX0, "eases", "(LHornHouses;II[J)I"⟩
def dkwX0_eases_0 : List UInt8 := [45, 3, 42, 27, 28, 182, 0, 27, 133, 80, 167, 0, 7, 58, 4, 4, 172, 3, 172]
abbrev dktX0_eases_0 : List UInt8 := dkwX0_eases_0 ++ []
theorem dksX0_eases_0 : cX0_eases.data.toList.drop 0 = dktX0_eases_0 := by decide +kernel
theorem dX0_eases_0 : decode cX0_eases 0 = .ok (.aload_n 3, 1) := dk_45 (dk_at dksX0_eases_0 0 rfl rfl)
theorem dX0_eases_1 : decode cX0_eases 1 = .ok (.iconst 0, 1) := dk_3 (dk_at dksX0_eases_0 1 rfl rfl)
theorem dX0_eases_2 : decode cX0_eases 2 = .ok (.aload_n 0, 1) := dk_42 (dk_at dksX0_eases_0 2 rfl rfl)
theorem dX0_eases_3 : decode cX0_eases 3 = .ok (.iload_n 1, 1) := dk_27 (dk_at dksX0_eases_0 3 rfl rfl)
theorem dX0_eases_4 : decode cX0_eases 4 = .ok (.iload_n 2, 1) := dk_28 (dk_at dksX0_eases_0 4 rfl rfl)
theorem dX0_eases_5 : decode cX0_eases 5 = .ok (.invokevirtual 27, 3) := dk_182 0 27 (dk_at dksX0_eases_0 5 rfl rfl)
theorem dX0_eases_8 : decode cX0_eases 8 = .ok (.i2l, 1) := dk_133 (dk_at dksX0_eases_0 8 rfl rfl)
theorem dX0_eases_9 : decode cX0_eases 9 = .ok (.lastore, 1) := dk_80 (dk_at dksX0_eases_0 9 rfl rfl)
theorem dX0_eases_10 : decode cX0_eases 10 = .ok (.goto 7, 3) := dk_167 0 7 (dk_at dksX0_eases_0 10 rfl rfl)
theorem dX0_eases_13 : decode cX0_eases 13 = .ok (.astore 4, 2) := dk_58 4 (dk_at dksX0_eases_0 13 rfl rfl)
theorem dX0_eases_15 : decode cX0_eases 15 = .ok (.iconst 1, 1) := dk_4 (dk_at dksX0_eases_0 15 rfl rfl)
theorem dX0_eases_16 : decode cX0_eases 16 = .ok (.ireturn, 1) := dk_172 (dk_at dksX0_eases_0 16 rfl rfl)
theorem dX0_eases_17 : decode cX0_eases 17 = .ok (.iconst 0, 1) := dk_3 (dk_at dksX0_eases_0 17 rfl rfl)
theorem dX0_eases_18 : decode cX0_eases 18 = .ok (.ireturn, 1) := dk_172 (dk_at dksX0_eases_0 18 rfl rfl)
abbrev cX0_putIn : ByteArray := method_8_code
def yX0_putIn : MethodName := ⟨RX0, "putIn", "(LHornHouses;II[J)I"⟩
def dkwX0_putIn_0 : List UInt8 := [45, 3, 42, 27, 28, 182, 0, 30, 133, 80, 167, 0, 7, 58, 4, 4, 172, 3, 172]
abbrev dktX0_putIn_0 : List UInt8 := dkwX0_putIn_0 ++ []
theorem dksX0_putIn_0 : cX0_putIn.data.toList.drop 0 = dktX0_putIn_0 := by decide +kernel
theorem dX0_putIn_0 : decode cX0_putIn 0 = .ok (.aload_n 3, 1) := dk_45 (dk_at dksX0_putIn_0 0 rfl rfl)
theorem dX0_putIn_1 : decode cX0_putIn 1 = .ok (.iconst 0, 1) := dk_3 (dk_at dksX0_putIn_0 1 rfl rfl)
theorem dX0_putIn_2 : decode cX0_putIn 2 = .ok (.aload_n 0, 1) := dk_42 (dk_at dksX0_putIn_0 2 rfl rfl)
theorem dX0_putIn_3 : decode cX0_putIn 3 = .ok (.iload_n 1, 1) := dk_27 (dk_at dksX0_putIn_0 3 rfl rfl)
theorem dX0_putIn_4 : decode cX0_putIn 4 = .ok (.iload_n 2, 1) := dk_28 (dk_at dksX0_putIn_0 4 rfl rfl)
theorem dX0_putIn_5 : decode cX0_putIn 5 = .ok (.invokevirtual 30, 3) := dk_182 0 30 (dk_at dksX0_putIn_0 5 rfl rfl)
theorem dX0_putIn_8 : decode cX0_putIn 8 = .ok (.i2l, 1) := dk_133 (dk_at dksX0_putIn_0 8 rfl rfl)
theorem dX0_putIn_9 : decode cX0_putIn 9 = .ok (.lastore, 1) := dk_80 (dk_at dksX0_putIn_0 9 rfl rfl)
theorem dX0_putIn_10 : decode cX0_putIn 10 = .ok (.goto 7, 3) := dk_167 0 7 (dk_at dksX0_putIn_0 10 rfl rfl)
theorem dX0_putIn_13 : decode cX0_putIn 13 = .ok (.astore 4, 2) := dk_58 4 (dk_at dksX0_putIn_0 13 rfl rfl)
theorem dX0_putIn_15 : decode cX0_putIn 15 = .ok (.iconst 1, 1) := dk_4 (dk_at dksX0_putIn_0 15 rfl rfl)
theorem dX0_putIn_16 : decode cX0_putIn 16 = .ok (.ireturn, 1) := dk_172 (dk_at dksX0_putIn_0 16 rfl rfl)
theorem dX0_putIn_17 : decode cX0_putIn 17 = .ok (.iconst 0, 1) := dk_3 (dk_at dksX0_putIn_0 17 rfl rfl)
theorem dX0_putIn_18 : decode cX0_putIn 18 = .ok (.ireturn, 1) := dk_172 (dk_at dksX0_putIn_0 18 rfl rfl)
abbrev cX0_out : ByteArray := method_9_code
def yX0_out : MethodName := ⟨RX0, "out", "(LHornHouses;I[J)I"⟩
def dkwX0_out_0 : List UInt8 := [44, 3, 42, 27, 182, 0, 33, 133, 80, 167, 0, 6, 78, 4, 172, 3, 172]
abbrev dktX0_out_0 : List UInt8 := dkwX0_out_0 ++ []
theorem dksX0_out_0 : cX0_out.data.toList.drop 0 = dktX0_out_0 := by decide +kernel
theorem dX0_out_0 : decode cX0_out 0 = .ok (.aload_n 2, 1) := dk_44 (dk_at dksX0_out_0 0 rfl rfl)
theorem dX0_out_1 : decode cX0_out 1 = .ok (.iconst 0, 1) := dk_3 (dk_at dksX0_out_0 1 rfl rfl)
theorem dX0_out_2 : decode cX0_out 2 = .ok (.aload_n 0, 1) := dk_42 (dk_at dksX0_out_0 2 rfl rfl)
theorem dX0_out_3 : decode cX0_out 3 = .ok (.iload_n 1, 1) := dk_27 (dk_at dksX0_out_0 3 rfl rfl)
theorem dX0_out_4 : decode cX0_out 4 = .ok (.invokevirtual 33, 3) := dk_182 0 33 (dk_at dksX0_out_0 4 rfl rfl)
theorem dX0_out_7 : decode cX0_out 7 = .ok (.i2l, 1) := dk_133 (dk_at dksX0_out_0 7 rfl rfl)
theorem dX0_out_8 : decode cX0_out 8 = .ok (.lastore, 1) := dk_80 (dk_at dksX0_out_0 8 rfl rfl)
theorem dX0_out_9 : decode cX0_out 9 = .ok (.goto 6, 3) := dk_167 0 6 (dk_at dksX0_out_0 9 rfl rfl)
theorem dX0_out_12 : decode cX0_out 12 = .ok (.astore_n 3, 1) := dk_78 (dk_at dksX0_out_0 12 rfl rfl)
theorem dX0_out_13 : decode cX0_out 13 = .ok (.iconst 1, 1) := dk_4 (dk_at dksX0_out_0 13 rfl rfl)
theorem dX0_out_14 : decode cX0_out 14 = .ok (.ireturn, 1) := dk_172 (dk_at dksX0_out_0 14 rfl rfl)
theorem dX0_out_15 : decode cX0_out 15 = .ok (.iconst 0, 1) := dk_3 (dk_at dksX0_out_0 15 rfl rfl)
theorem dX0_out_16 : decode cX0_out 16 = .ok (.ireturn, 1) := dk_172 (dk_at dksX0_out_0 16 rfl rfl)
abbrev cX0_stuff : ByteArray := method_10_code
def yX0_stuff : MethodName := ⟨RX0, "stuff", "(LHornHouses;II[J)I"⟩
def dkwX0_stuff_0 : List UInt8 := [45, 3, 42, 27, 28, 182, 0, 36, 133, 80, 167, 0, 7, 58, 4, 4, 172, 3, 172]
abbrev dktX0_stuff_0 : List UInt8 := dkwX0_stuff_0 ++ []
theorem dksX0_stuff_0 : cX0_stuff.data.toList.drop 0 = dktX0_stuff_0 := by decide +kernel
theorem dX0_stuff_0 : decode cX0_stuff 0 = .ok (.aload_n 3, 1) := dk_45 (dk_at dksX0_stuff_0 0 rfl rfl)
theorem dX0_stuff_1 : decode cX0_stuff 1 = .ok (.iconst 0, 1) := dk_3 (dk_at dksX0_stuff_0 1 rfl rfl)
theorem dX0_stuff_2 : decode cX0_stuff 2 = .ok (.aload_n 0, 1) := dk_42 (dk_at dksX0_stuff_0 2 rfl rfl)
theorem dX0_stuff_3 : decode cX0_stuff 3 = .ok (.iload_n 1, 1) := dk_27 (dk_at dksX0_stuff_0 3 rfl rfl)
theorem dX0_stuff_4 : decode cX0_stuff 4 = .ok (.iload_n 2, 1) := dk_28 (dk_at dksX0_stuff_0 4 rfl rfl)
theorem dX0_stuff_5 : decode cX0_stuff 5 = .ok (.invokevirtual 36, 3) := dk_182 0 36 (dk_at dksX0_stuff_0 5 rfl rfl)
theorem dX0_stuff_8 : decode cX0_stuff 8 = .ok (.i2l, 1) := dk_133 (dk_at dksX0_stuff_0 8 rfl rfl)
theorem dX0_stuff_9 : decode cX0_stuff 9 = .ok (.lastore, 1) := dk_80 (dk_at dksX0_stuff_0 9 rfl rfl)
theorem dX0_stuff_10 : decode cX0_stuff 10 = .ok (.goto 7, 3) := dk_167 0 7 (dk_at dksX0_stuff_0 10 rfl rfl)
theorem dX0_stuff_13 : decode cX0_stuff 13 = .ok (.astore 4, 2) := dk_58 4 (dk_at dksX0_stuff_0 13 rfl rfl)
theorem dX0_stuff_15 : decode cX0_stuff 15 = .ok (.iconst 1, 1) := dk_4 (dk_at dksX0_stuff_0 15 rfl rfl)
theorem dX0_stuff_16 : decode cX0_stuff 16 = .ok (.ireturn, 1) := dk_172 (dk_at dksX0_stuff_0 16 rfl rfl)
theorem dX0_stuff_17 : decode cX0_stuff 17 = .ok (.iconst 0, 1) := dk_3 (dk_at dksX0_stuff_0 17 rfl rfl)
theorem dX0_stuff_18 : decode cX0_stuff 18 = .ok (.ireturn, 1) := dk_172 (dk_at dksX0_stuff_0 18 rfl rfl)
abbrev cX0_change : ByteArray := method_11_code
def yX0_change : MethodName := ⟨RX0, "change", "(LHornHouses;II[J)I"⟩
def dkwX0_change_1 : List UInt8 := [3, 172]
abbrev dktX0_change_1 : List UInt8 := dkwX0_change_1 ++ []
def dkwX0_change_0 : List UInt8 := [45, 3, 42, 27, 28, 182, 0, 39, 153, 0, 7, 10, 167, 0, 4, 9, 80, 167, 0, 7, 58, 4, 4, 172]
abbrev dktX0_change_0 : List UInt8 := dkwX0_change_0 ++ dktX0_change_1
theorem dksX0_change_0 : cX0_change.data.toList.drop 0 = dktX0_change_0 := by decide +kernel
theorem dksX0_change_1 : cX0_change.data.toList.drop 24 = dktX0_change_1 := dk_seg dksX0_change_0 24 rfl rfl
theorem dX0_change_0 : decode cX0_change 0 = .ok (.aload_n 3, 1) := dk_45 (dk_at dksX0_change_0 0 rfl rfl)
theorem dX0_change_1 : decode cX0_change 1 = .ok (.iconst 0, 1) := dk_3 (dk_at dksX0_change_0 1 rfl rfl)
theorem dX0_change_2 : decode cX0_change 2 = .ok (.aload_n 0, 1) := dk_42 (dk_at dksX0_change_0 2 rfl rfl)
theorem dX0_change_3 : decode cX0_change 3 = .ok (.iload_n 1, 1) := dk_27 (dk_at dksX0_change_0 3 rfl rfl)
theorem dX0_change_4 : decode cX0_change 4 = .ok (.iload_n 2, 1) := dk_28 (dk_at dksX0_change_0 4 rfl rfl)
theorem dX0_change_5 : decode cX0_change 5 = .ok (.invokevirtual 39, 3) := dk_182 0 39 (dk_at dksX0_change_0 5 rfl rfl)
theorem dX0_change_8 : decode cX0_change 8 = .ok (.ifCond .eq 7, 3) := dk_153 0 7 (dk_at dksX0_change_0 8 rfl rfl)
theorem dX0_change_11 : decode cX0_change 11 = .ok (.lconst 1, 1) := dk_10 (dk_at dksX0_change_0 11 rfl rfl)
theorem dX0_change_12 : decode cX0_change 12 = .ok (.goto 4, 3) := dk_167 0 4 (dk_at dksX0_change_0 12 rfl rfl)
theorem dX0_change_15 : decode cX0_change 15 = .ok (.lconst 0, 1) := dk_9 (dk_at dksX0_change_0 15 rfl rfl)
theorem dX0_change_16 : decode cX0_change 16 = .ok (.lastore, 1) := dk_80 (dk_at dksX0_change_0 16 rfl rfl)
theorem dX0_change_17 : decode cX0_change 17 = .ok (.goto 7, 3) := dk_167 0 7 (dk_at dksX0_change_0 17 rfl rfl)
theorem dX0_change_20 : decode cX0_change 20 = .ok (.astore 4, 2) := dk_58 4 (dk_at dksX0_change_0 20 rfl rfl)
theorem dX0_change_22 : decode cX0_change 22 = .ok (.iconst 1, 1) := dk_4 (dk_at dksX0_change_0 22 rfl rfl)
theorem dX0_change_23 : decode cX0_change 23 = .ok (.ireturn, 1) := dk_172 (dk_at dksX0_change_0 23 rfl rfl)
theorem dX0_change_24 : decode cX0_change 24 = .ok (.iconst 0, 1) := dk_3 (dk_at dksX0_change_1 0 rfl rfl)
theorem dX0_change_25 : decode cX0_change 25 = .ok (.ireturn, 1) := dk_172 (dk_at dksX0_change_1 1 rfl rfl)
abbrev cX0_then : ByteArray := method_12_code
def yX0_then : MethodName := ⟨RX0, "then", "(LHornHouses;III[J)I"⟩
def dkwX0_then_1 : List UInt8 := [172]
abbrev dktX0_then_1 : List UInt8 := dkwX0_then_1 ++ []
def dkwX0_then_0 : List UInt8 := [25, 4, 3, 42, 27, 28, 29, 182, 0, 43, 133, 80, 167, 0, 11, 58, 5, 4, 172, 58, 5, 5, 172, 3]
abbrev dktX0_then_0 : List UInt8 := dkwX0_then_0 ++ dktX0_then_1
theorem dksX0_then_0 : cX0_then.data.toList.drop 0 = dktX0_then_0 := by decide +kernel
theorem dksX0_then_1 : cX0_then.data.toList.drop 24 = dktX0_then_1 := dk_seg dksX0_then_0 24 rfl rfl
theorem dX0_then_0 : decode cX0_then 0 = .ok (.aload 4, 2) := dk_25 4 (dk_at dksX0_then_0 0 rfl rfl)
theorem dX0_then_2 : decode cX0_then 2 = .ok (.iconst 0, 1) := dk_3 (dk_at dksX0_then_0 2 rfl rfl)
theorem dX0_then_3 : decode cX0_then 3 = .ok (.aload_n 0, 1) := dk_42 (dk_at dksX0_then_0 3 rfl rfl)
theorem dX0_then_4 : decode cX0_then 4 = .ok (.iload_n 1, 1) := dk_27 (dk_at dksX0_then_0 4 rfl rfl)
theorem dX0_then_5 : decode cX0_then 5 = .ok (.iload_n 2, 1) := dk_28 (dk_at dksX0_then_0 5 rfl rfl)
theorem dX0_then_6 : decode cX0_then 6 = .ok (.iload_n 3, 1) := dk_29 (dk_at dksX0_then_0 6 rfl rfl)
theorem dX0_then_7 : decode cX0_then 7 = .ok (.invokevirtual 43, 3) := dk_182 0 43 (dk_at dksX0_then_0 7 rfl rfl)
theorem dX0_then_10 : decode cX0_then 10 = .ok (.i2l, 1) := dk_133 (dk_at dksX0_then_0 10 rfl rfl)
theorem dX0_then_11 : decode cX0_then 11 = .ok (.lastore, 1) := dk_80 (dk_at dksX0_then_0 11 rfl rfl)
theorem dX0_then_12 : decode cX0_then 12 = .ok (.goto 11, 3) := dk_167 0 11 (dk_at dksX0_then_0 12 rfl rfl)
theorem dX0_then_15 : decode cX0_then 15 = .ok (.astore 5, 2) := dk_58 5 (dk_at dksX0_then_0 15 rfl rfl)
theorem dX0_then_17 : decode cX0_then 17 = .ok (.iconst 1, 1) := dk_4 (dk_at dksX0_then_0 17 rfl rfl)
theorem dX0_then_18 : decode cX0_then 18 = .ok (.ireturn, 1) := dk_172 (dk_at dksX0_then_0 18 rfl rfl)
theorem dX0_then_19 : decode cX0_then 19 = .ok (.astore 5, 2) := dk_58 5 (dk_at dksX0_then_0 19 rfl rfl)
theorem dX0_then_21 : decode cX0_then 21 = .ok (.iconst 2, 1) := dk_5 (dk_at dksX0_then_0 21 rfl rfl)
theorem dX0_then_22 : decode cX0_then 22 = .ok (.ireturn, 1) := dk_172 (dk_at dksX0_then_0 22 rfl rfl)
theorem dX0_then_23 : decode cX0_then 23 = .ok (.iconst 0, 1) := dk_3 (dk_at dksX0_then_0 23 rfl rfl)
theorem dX0_then_24 : decode cX0_then 24 = .ok (.ireturn, 1) := dk_172 (dk_at dksX0_then_1 0 rfl rfl)
abbrev cX0_worn : ByteArray := method_13_code
def yX0_worn : MethodName := ⟨RX0, "worn", "(LHornHouses;II[J)I"⟩
def dkwX0_worn_0 : List UInt8 := [45, 3, 42, 27, 28, 182, 0, 47, 133, 80, 167, 0, 11, 58, 4, 4, 172, 58, 4, 5, 172, 3, 172]
abbrev dktX0_worn_0 : List UInt8 := dkwX0_worn_0 ++ []
theorem dksX0_worn_0 : cX0_worn.data.toList.drop 0 = dktX0_worn_0 := by decide +kernel
theorem dX0_worn_0 : decode cX0_worn 0 = .ok (.aload_n 3, 1) := dk_45 (dk_at dksX0_worn_0 0 rfl rfl)
theorem dX0_worn_1 : decode cX0_worn 1 = .ok (.iconst 0, 1) := dk_3 (dk_at dksX0_worn_0 1 rfl rfl)
theorem dX0_worn_2 : decode cX0_worn 2 = .ok (.aload_n 0, 1) := dk_42 (dk_at dksX0_worn_0 2 rfl rfl)
theorem dX0_worn_3 : decode cX0_worn 3 = .ok (.iload_n 1, 1) := dk_27 (dk_at dksX0_worn_0 3 rfl rfl)
theorem dX0_worn_4 : decode cX0_worn 4 = .ok (.iload_n 2, 1) := dk_28 (dk_at dksX0_worn_0 4 rfl rfl)
theorem dX0_worn_5 : decode cX0_worn 5 = .ok (.invokevirtual 47, 3) := dk_182 0 47 (dk_at dksX0_worn_0 5 rfl rfl)
theorem dX0_worn_8 : decode cX0_worn 8 = .ok (.i2l, 1) := dk_133 (dk_at dksX0_worn_0 8 rfl rfl)
theorem dX0_worn_9 : decode cX0_worn 9 = .ok (.lastore, 1) := dk_80 (dk_at dksX0_worn_0 9 rfl rfl)
theorem dX0_worn_10 : decode cX0_worn 10 = .ok (.goto 11, 3) := dk_167 0 11 (dk_at dksX0_worn_0 10 rfl rfl)
theorem dX0_worn_13 : decode cX0_worn 13 = .ok (.astore 4, 2) := dk_58 4 (dk_at dksX0_worn_0 13 rfl rfl)
theorem dX0_worn_15 : decode cX0_worn 15 = .ok (.iconst 1, 1) := dk_4 (dk_at dksX0_worn_0 15 rfl rfl)
theorem dX0_worn_16 : decode cX0_worn 16 = .ok (.ireturn, 1) := dk_172 (dk_at dksX0_worn_0 16 rfl rfl)
theorem dX0_worn_17 : decode cX0_worn 17 = .ok (.astore 4, 2) := dk_58 4 (dk_at dksX0_worn_0 17 rfl rfl)
theorem dX0_worn_19 : decode cX0_worn 19 = .ok (.iconst 2, 1) := dk_5 (dk_at dksX0_worn_0 19 rfl rfl)
theorem dX0_worn_20 : decode cX0_worn 20 = .ok (.ireturn, 1) := dk_172 (dk_at dksX0_worn_0 20 rfl rfl)
theorem dX0_worn_21 : decode cX0_worn 21 = .ok (.iconst 0, 1) := dk_3 (dk_at dksX0_worn_0 21 rfl rfl)
theorem dX0_worn_22 : decode cX0_worn 22 = .ok (.ireturn, 1) := dk_172 (dk_at dksX0_worn_0 22 rfl rfl)
abbrev cX0_burst : ByteArray := method_14_code
def yX0_burst : MethodName := ⟨RX0, "burst", "(LHornHouses;I[J)I"⟩
def dkwX0_burst_0 : List UInt8 := [44, 3, 42, 27, 182, 0, 50, 133, 80, 167, 0, 6, 78, 4, 172, 3, 172]
abbrev dktX0_burst_0 : List UInt8 := dkwX0_burst_0 ++ []
theorem dksX0_burst_0 : cX0_burst.data.toList.drop 0 = dktX0_burst_0 := by decide +kernel
theorem dX0_burst_0 : decode cX0_burst 0 = .ok (.aload_n 2, 1) := dk_44 (dk_at dksX0_burst_0 0 rfl rfl)
theorem dX0_burst_1 : decode cX0_burst 1 = .ok (.iconst 0, 1) := dk_3 (dk_at dksX0_burst_0 1 rfl rfl)
theorem dX0_burst_2 : decode cX0_burst 2 = .ok (.aload_n 0, 1) := dk_42 (dk_at dksX0_burst_0 2 rfl rfl)
theorem dX0_burst_3 : decode cX0_burst 3 = .ok (.iload_n 1, 1) := dk_27 (dk_at dksX0_burst_0 3 rfl rfl)
theorem dX0_burst_4 : decode cX0_burst 4 = .ok (.invokevirtual 50, 3) := dk_182 0 50 (dk_at dksX0_burst_0 4 rfl rfl)
theorem dX0_burst_7 : decode cX0_burst 7 = .ok (.i2l, 1) := dk_133 (dk_at dksX0_burst_0 7 rfl rfl)
theorem dX0_burst_8 : decode cX0_burst 8 = .ok (.lastore, 1) := dk_80 (dk_at dksX0_burst_0 8 rfl rfl)
theorem dX0_burst_9 : decode cX0_burst 9 = .ok (.goto 6, 3) := dk_167 0 6 (dk_at dksX0_burst_0 9 rfl rfl)
theorem dX0_burst_12 : decode cX0_burst 12 = .ok (.astore_n 3, 1) := dk_78 (dk_at dksX0_burst_0 12 rfl rfl)
theorem dX0_burst_13 : decode cX0_burst 13 = .ok (.iconst 1, 1) := dk_4 (dk_at dksX0_burst_0 13 rfl rfl)
theorem dX0_burst_14 : decode cX0_burst 14 = .ok (.ireturn, 1) := dk_172 (dk_at dksX0_burst_0 14 rfl rfl)
theorem dX0_burst_15 : decode cX0_burst 15 = .ok (.iconst 0, 1) := dk_3 (dk_at dksX0_burst_0 15 rfl rfl)
theorem dX0_burst_16 : decode cX0_burst 16 = .ok (.ireturn, 1) := dk_172 (dk_at dksX0_burst_0 16 rfl rfl)
abbrev cX0_wriggles : ByteArray := method_15_code
def yX0_wriggles : MethodName := ⟨RX0, "wriggles", "(LHornHouses;I[J)I"⟩
def dkwX0_wriggles_0 : List UInt8 := [44, 3, 42, 27, 182, 0, 53, 133, 80, 167, 0, 6, 78, 4, 172, 3, 172]
abbrev dktX0_wriggles_0 : List UInt8 := dkwX0_wriggles_0 ++ []
theorem dksX0_wriggles_0 : cX0_wriggles.data.toList.drop 0 = dktX0_wriggles_0 := by decide +kernel
theorem dX0_wriggles_0 : decode cX0_wriggles 0 = .ok (.aload_n 2, 1) := dk_44 (dk_at dksX0_wriggles_0 0 rfl rfl)
theorem dX0_wriggles_1 : decode cX0_wriggles 1 = .ok (.iconst 0, 1) := dk_3 (dk_at dksX0_wriggles_0 1 rfl rfl)
theorem dX0_wriggles_2 : decode cX0_wriggles 2 = .ok (.aload_n 0, 1) := dk_42 (dk_at dksX0_wriggles_0 2 rfl rfl)
theorem dX0_wriggles_3 : decode cX0_wriggles 3 = .ok (.iload_n 1, 1) := dk_27 (dk_at dksX0_wriggles_0 3 rfl rfl)
theorem dX0_wriggles_4 : decode cX0_wriggles 4 = .ok (.invokevirtual 53, 3) := dk_182 0 53 (dk_at dksX0_wriggles_0 4 rfl rfl)
theorem dX0_wriggles_7 : decode cX0_wriggles 7 = .ok (.i2l, 1) := dk_133 (dk_at dksX0_wriggles_0 7 rfl rfl)
theorem dX0_wriggles_8 : decode cX0_wriggles 8 = .ok (.lastore, 1) := dk_80 (dk_at dksX0_wriggles_0 8 rfl rfl)
theorem dX0_wriggles_9 : decode cX0_wriggles 9 = .ok (.goto 6, 3) := dk_167 0 6 (dk_at dksX0_wriggles_0 9 rfl rfl)
theorem dX0_wriggles_12 : decode cX0_wriggles 12 = .ok (.astore_n 3, 1) := dk_78 (dk_at dksX0_wriggles_0 12 rfl rfl)
theorem dX0_wriggles_13 : decode cX0_wriggles 13 = .ok (.iconst 1, 1) := dk_4 (dk_at dksX0_wriggles_0 13 rfl rfl)
theorem dX0_wriggles_14 : decode cX0_wriggles 14 = .ok (.ireturn, 1) := dk_172 (dk_at dksX0_wriggles_0 14 rfl rfl)
theorem dX0_wriggles_15 : decode cX0_wriggles 15 = .ok (.iconst 0, 1) := dk_3 (dk_at dksX0_wriggles_0 15 rfl rfl)
theorem dX0_wriggles_16 : decode cX0_wriggles 16 = .ok (.ireturn, 1) := dk_172 (dk_at dksX0_wriggles_0 16 rfl rfl)
abbrev cX0_barefoot : ByteArray := method_16_code
def yX0_barefoot : MethodName := ⟨RX0, "barefoot", "(LHornHouses;I[J)I"⟩
def dkwX0_barefoot_0 : List UInt8 := [44, 3, 42, 27, 182, 0, 56, 133, 80, 167, 0, 6, 78, 4, 172, 3, 172]
abbrev dktX0_barefoot_0 : List UInt8 := dkwX0_barefoot_0 ++ []
theorem dksX0_barefoot_0 : cX0_barefoot.data.toList.drop 0 = dktX0_barefoot_0 := by decide +kernel
theorem dX0_barefoot_0 : decode cX0_barefoot 0 = .ok (.aload_n 2, 1) := dk_44 (dk_at dksX0_barefoot_0 0 rfl rfl)
theorem dX0_barefoot_1 : decode cX0_barefoot 1 = .ok (.iconst 0, 1) := dk_3 (dk_at dksX0_barefoot_0 1 rfl rfl)
theorem dX0_barefoot_2 : decode cX0_barefoot 2 = .ok (.aload_n 0, 1) := dk_42 (dk_at dksX0_barefoot_0 2 rfl rfl)
theorem dX0_barefoot_3 : decode cX0_barefoot 3 = .ok (.iload_n 1, 1) := dk_27 (dk_at dksX0_barefoot_0 3 rfl rfl)
theorem dX0_barefoot_4 : decode cX0_barefoot 4 = .ok (.invokevirtual 56, 3) := dk_182 0 56 (dk_at dksX0_barefoot_0 4 rfl rfl)
theorem dX0_barefoot_7 : decode cX0_barefoot 7 = .ok (.i2l, 1) := dk_133 (dk_at dksX0_barefoot_0 7 rfl rfl)
theorem dX0_barefoot_8 : decode cX0_barefoot 8 = .ok (.lastore, 1) := dk_80 (dk_at dksX0_barefoot_0 8 rfl rfl)
theorem dX0_barefoot_9 : decode cX0_barefoot 9 = .ok (.goto 6, 3) := dk_167 0 6 (dk_at dksX0_barefoot_0 9 rfl rfl)
theorem dX0_barefoot_12 : decode cX0_barefoot 12 = .ok (.astore_n 3, 1) := dk_78 (dk_at dksX0_barefoot_0 12 rfl rfl)
theorem dX0_barefoot_13 : decode cX0_barefoot 13 = .ok (.iconst 1, 1) := dk_4 (dk_at dksX0_barefoot_0 13 rfl rfl)
theorem dX0_barefoot_14 : decode cX0_barefoot 14 = .ok (.ireturn, 1) := dk_172 (dk_at dksX0_barefoot_0 14 rfl rfl)
theorem dX0_barefoot_15 : decode cX0_barefoot 15 = .ok (.iconst 0, 1) := dk_3 (dk_at dksX0_barefoot_0 15 rfl rfl)
theorem dX0_barefoot_16 : decode cX0_barefoot 16 = .ok (.ireturn, 1) := dk_172 (dk_at dksX0_barefoot_0 16 rfl rfl)
abbrev cX0_last : ByteArray := method_17_code
def yX0_last : MethodName := ⟨RX0, "last", "(LHornHouses;I[J)I"⟩
def dkwX0_last_0 : List UInt8 := [44, 3, 42, 27, 182, 0, 59, 133, 80, 167, 0, 6, 78, 4, 172, 3, 172]
abbrev dktX0_last_0 : List UInt8 := dkwX0_last_0 ++ []
theorem dksX0_last_0 : cX0_last.data.toList.drop 0 = dktX0_last_0 := by decide +kernel
theorem dX0_last_0 : decode cX0_last 0 = .ok (.aload_n 2, 1) := dk_44 (dk_at dksX0_last_0 0 rfl rfl)
theorem dX0_last_1 : decode cX0_last 1 = .ok (.iconst 0, 1) := dk_3 (dk_at dksX0_last_0 1 rfl rfl)
theorem dX0_last_2 : decode cX0_last 2 = .ok (.aload_n 0, 1) := dk_42 (dk_at dksX0_last_0 2 rfl rfl)
theorem dX0_last_3 : decode cX0_last 3 = .ok (.iload_n 1, 1) := dk_27 (dk_at dksX0_last_0 3 rfl rfl)
theorem dX0_last_4 : decode cX0_last 4 = .ok (.invokevirtual 59, 3) := dk_182 0 59 (dk_at dksX0_last_0 4 rfl rfl)
theorem dX0_last_7 : decode cX0_last 7 = .ok (.i2l, 1) := dk_133 (dk_at dksX0_last_0 7 rfl rfl)
theorem dX0_last_8 : decode cX0_last 8 = .ok (.lastore, 1) := dk_80 (dk_at dksX0_last_0 8 rfl rfl)
theorem dX0_last_9 : decode cX0_last 9 = .ok (.goto 6, 3) := dk_167 0 6 (dk_at dksX0_last_0 9 rfl rfl)
theorem dX0_last_12 : decode cX0_last 12 = .ok (.astore_n 3, 1) := dk_78 (dk_at dksX0_last_0 12 rfl rfl)
theorem dX0_last_13 : decode cX0_last 13 = .ok (.iconst 1, 1) := dk_4 (dk_at dksX0_last_0 13 rfl rfl)
theorem dX0_last_14 : decode cX0_last 14 = .ok (.ireturn, 1) := dk_172 (dk_at dksX0_last_0 14 rfl rfl)
theorem dX0_last_15 : decode cX0_last 15 = .ok (.iconst 0, 1) := dk_3 (dk_at dksX0_last_0 15 rfl rfl)
theorem dX0_last_16 : decode cX0_last 16 = .ok (.ireturn, 1) := dk_172 (dk_at dksX0_last_0 16 rfl rfl)
abbrev cX0_goes : ByteArray := method_18_code
def yX0_goes : MethodName := ⟨RX0, "goes", "(LHornHouses;I[J)I"⟩
def dkwX0_goes_0 : List UInt8 := [44, 3, 42, 27, 182, 0, 62, 133, 80, 167, 0, 6, 78, 4, 172, 3, 172]
abbrev dktX0_goes_0 : List UInt8 := dkwX0_goes_0 ++ []
theorem dksX0_goes_0 : cX0_goes.data.toList.drop 0 = dktX0_goes_0 := by decide +kernel
theorem dX0_goes_0 : decode cX0_goes 0 = .ok (.aload_n 2, 1) := dk_44 (dk_at dksX0_goes_0 0 rfl rfl)
theorem dX0_goes_1 : decode cX0_goes 1 = .ok (.iconst 0, 1) := dk_3 (dk_at dksX0_goes_0 1 rfl rfl)
theorem dX0_goes_2 : decode cX0_goes 2 = .ok (.aload_n 0, 1) := dk_42 (dk_at dksX0_goes_0 2 rfl rfl)
theorem dX0_goes_3 : decode cX0_goes 3 = .ok (.iload_n 1, 1) := dk_27 (dk_at dksX0_goes_0 3 rfl rfl)
theorem dX0_goes_4 : decode cX0_goes 4 = .ok (.invokevirtual 62, 3) := dk_182 0 62 (dk_at dksX0_goes_0 4 rfl rfl)
theorem dX0_goes_7 : decode cX0_goes 7 = .ok (.i2l, 1) := dk_133 (dk_at dksX0_goes_0 7 rfl rfl)
theorem dX0_goes_8 : decode cX0_goes 8 = .ok (.lastore, 1) := dk_80 (dk_at dksX0_goes_0 8 rfl rfl)
theorem dX0_goes_9 : decode cX0_goes 9 = .ok (.goto 6, 3) := dk_167 0 6 (dk_at dksX0_goes_0 9 rfl rfl)
theorem dX0_goes_12 : decode cX0_goes 12 = .ok (.astore_n 3, 1) := dk_78 (dk_at dksX0_goes_0 12 rfl rfl)
theorem dX0_goes_13 : decode cX0_goes 13 = .ok (.iconst 1, 1) := dk_4 (dk_at dksX0_goes_0 13 rfl rfl)
theorem dX0_goes_14 : decode cX0_goes 14 = .ok (.ireturn, 1) := dk_172 (dk_at dksX0_goes_0 14 rfl rfl)
theorem dX0_goes_15 : decode cX0_goes 15 = .ok (.iconst 0, 1) := dk_3 (dk_at dksX0_goes_0 15 rfl rfl)
theorem dX0_goes_16 : decode cX0_goes 16 = .ok (.ireturn, 1) := dk_172 (dk_at dksX0_goes_0 16 rfl rfl)
abbrev cX0_match : ByteArray := method_19_code
def yX0_match : MethodName := ⟨RX0, "match", "(LHornHouses;I[J)I"⟩
def dkwX0_match_0 : List UInt8 := [44, 3, 42, 27, 182, 0, 65, 133, 80, 167, 0, 6, 78, 4, 172, 3, 172]
abbrev dktX0_match_0 : List UInt8 := dkwX0_match_0 ++ []
theorem dksX0_match_0 : cX0_match.data.toList.drop 0 = dktX0_match_0 := by decide +kernel
theorem dX0_match_0 : decode cX0_match 0 = .ok (.aload_n 2, 1) := dk_44 (dk_at dksX0_match_0 0 rfl rfl)
theorem dX0_match_1 : decode cX0_match 1 = .ok (.iconst 0, 1) := dk_3 (dk_at dksX0_match_0 1 rfl rfl)
theorem dX0_match_2 : decode cX0_match 2 = .ok (.aload_n 0, 1) := dk_42 (dk_at dksX0_match_0 2 rfl rfl)
theorem dX0_match_3 : decode cX0_match 3 = .ok (.iload_n 1, 1) := dk_27 (dk_at dksX0_match_0 3 rfl rfl)
theorem dX0_match_4 : decode cX0_match 4 = .ok (.invokevirtual 65, 3) := dk_182 0 65 (dk_at dksX0_match_0 4 rfl rfl)
theorem dX0_match_7 : decode cX0_match 7 = .ok (.i2l, 1) := dk_133 (dk_at dksX0_match_0 7 rfl rfl)
theorem dX0_match_8 : decode cX0_match 8 = .ok (.lastore, 1) := dk_80 (dk_at dksX0_match_0 8 rfl rfl)
theorem dX0_match_9 : decode cX0_match 9 = .ok (.goto 6, 3) := dk_167 0 6 (dk_at dksX0_match_0 9 rfl rfl)
theorem dX0_match_12 : decode cX0_match 12 = .ok (.astore_n 3, 1) := dk_78 (dk_at dksX0_match_0 12 rfl rfl)
theorem dX0_match_13 : decode cX0_match 13 = .ok (.iconst 1, 1) := dk_4 (dk_at dksX0_match_0 13 rfl rfl)
theorem dX0_match_14 : decode cX0_match 14 = .ok (.ireturn, 1) := dk_172 (dk_at dksX0_match_0 14 rfl rfl)
theorem dX0_match_15 : decode cX0_match 15 = .ok (.iconst 0, 1) := dk_3 (dk_at dksX0_match_0 15 rfl rfl)
theorem dX0_match_16 : decode cX0_match 16 = .ok (.ireturn, 1) := dk_172 (dk_at dksX0_match_0 16 rfl rfl)
abbrev cX0_matched : ByteArray := method_20_code
def yX0_matched : MethodName := ⟨RX0, "matched", "(LHornHouses;I[J)I"⟩
def dkwX0_matched_0 : List UInt8 := [44, 3, 42, 27, 182, 0, 68, 133, 80, 167, 0, 6, 78, 4, 172, 3, 172]
abbrev dktX0_matched_0 : List UInt8 := dkwX0_matched_0 ++ []
theorem dksX0_matched_0 : cX0_matched.data.toList.drop 0 = dktX0_matched_0 := by decide +kernel
theorem dX0_matched_0 : decode cX0_matched 0 = .ok (.aload_n 2, 1) := dk_44 (dk_at dksX0_matched_0 0 rfl rfl)
theorem dX0_matched_1 : decode cX0_matched 1 = .ok (.iconst 0, 1) := dk_3 (dk_at dksX0_matched_0 1 rfl rfl)
theorem dX0_matched_2 : decode cX0_matched 2 = .ok (.aload_n 0, 1) := dk_42 (dk_at dksX0_matched_0 2 rfl rfl)
theorem dX0_matched_3 : decode cX0_matched 3 = .ok (.iload_n 1, 1) := dk_27 (dk_at dksX0_matched_0 3 rfl rfl)
theorem dX0_matched_4 : decode cX0_matched 4 = .ok (.invokevirtual 68, 3) := dk_182 0 68 (dk_at dksX0_matched_0 4 rfl rfl)
theorem dX0_matched_7 : decode cX0_matched 7 = .ok (.i2l, 1) := dk_133 (dk_at dksX0_matched_0 7 rfl rfl)
theorem dX0_matched_8 : decode cX0_matched 8 = .ok (.lastore, 1) := dk_80 (dk_at dksX0_matched_0 8 rfl rfl)
theorem dX0_matched_9 : decode cX0_matched 9 = .ok (.goto 6, 3) := dk_167 0 6 (dk_at dksX0_matched_0 9 rfl rfl)
theorem dX0_matched_12 : decode cX0_matched 12 = .ok (.astore_n 3, 1) := dk_78 (dk_at dksX0_matched_0 12 rfl rfl)
theorem dX0_matched_13 : decode cX0_matched 13 = .ok (.iconst 1, 1) := dk_4 (dk_at dksX0_matched_0 13 rfl rfl)
theorem dX0_matched_14 : decode cX0_matched 14 = .ok (.ireturn, 1) := dk_172 (dk_at dksX0_matched_0 14 rfl rfl)
theorem dX0_matched_15 : decode cX0_matched 15 = .ok (.iconst 0, 1) := dk_3 (dk_at dksX0_matched_0 15 rfl rfl)
theorem dX0_matched_16 : decode cX0_matched 16 = .ok (.ireturn, 1) := dk_172 (dk_at dksX0_matched_0 16 rfl rfl)
abbrev cX0_trade : ByteArray := method_21_code
def yX0_trade : MethodName := ⟨RX0, "trade", "(LHornHouses;I[J)I"⟩
def dkwX0_trade_0 : List UInt8 := [44, 3, 42, 27, 182, 0, 71, 133, 80, 167, 0, 6, 78, 4, 172, 3, 172]
abbrev dktX0_trade_0 : List UInt8 := dkwX0_trade_0 ++ []
theorem dksX0_trade_0 : cX0_trade.data.toList.drop 0 = dktX0_trade_0 := by decide +kernel
theorem dX0_trade_0 : decode cX0_trade 0 = .ok (.aload_n 2, 1) := dk_44 (dk_at dksX0_trade_0 0 rfl rfl)
theorem dX0_trade_1 : decode cX0_trade 1 = .ok (.iconst 0, 1) := dk_3 (dk_at dksX0_trade_0 1 rfl rfl)
theorem dX0_trade_2 : decode cX0_trade 2 = .ok (.aload_n 0, 1) := dk_42 (dk_at dksX0_trade_0 2 rfl rfl)
theorem dX0_trade_3 : decode cX0_trade 3 = .ok (.iload_n 1, 1) := dk_27 (dk_at dksX0_trade_0 3 rfl rfl)
theorem dX0_trade_4 : decode cX0_trade 4 = .ok (.invokevirtual 71, 3) := dk_182 0 71 (dk_at dksX0_trade_0 4 rfl rfl)
theorem dX0_trade_7 : decode cX0_trade 7 = .ok (.i2l, 1) := dk_133 (dk_at dksX0_trade_0 7 rfl rfl)
theorem dX0_trade_8 : decode cX0_trade 8 = .ok (.lastore, 1) := dk_80 (dk_at dksX0_trade_0 8 rfl rfl)
theorem dX0_trade_9 : decode cX0_trade 9 = .ok (.goto 6, 3) := dk_167 0 6 (dk_at dksX0_trade_0 9 rfl rfl)
theorem dX0_trade_12 : decode cX0_trade 12 = .ok (.astore_n 3, 1) := dk_78 (dk_at dksX0_trade_0 12 rfl rfl)
theorem dX0_trade_13 : decode cX0_trade 13 = .ok (.iconst 1, 1) := dk_4 (dk_at dksX0_trade_0 13 rfl rfl)
theorem dX0_trade_14 : decode cX0_trade 14 = .ok (.ireturn, 1) := dk_172 (dk_at dksX0_trade_0 14 rfl rfl)
theorem dX0_trade_15 : decode cX0_trade 15 = .ok (.iconst 0, 1) := dk_3 (dk_at dksX0_trade_0 15 rfl rfl)
theorem dX0_trade_16 : decode cX0_trade 16 = .ok (.ireturn, 1) := dk_172 (dk_at dksX0_trade_0 16 rfl rfl)
abbrev cX0_toStuff : ByteArray := method_22_code
def yX0_toStuff : MethodName := ⟨RX0, "toStuff", "(LHornHouses;II[J)I"⟩
def dkwX0_toStuff_0 : List UInt8 := [45, 3, 42, 27, 28, 182, 0, 74, 133, 80, 167, 0, 7, 58, 4, 4, 172, 3, 172]
abbrev dktX0_toStuff_0 : List UInt8 := dkwX0_toStuff_0 ++ []
theorem dksX0_toStuff_0 : cX0_toStuff.data.toList.drop 0 = dktX0_toStuff_0 := by decide +kernel
theorem dX0_toStuff_0 : decode cX0_toStuff 0 = .ok (.aload_n 3, 1) := dk_45 (dk_at dksX0_toStuff_0 0 rfl rfl)
theorem dX0_toStuff_1 : decode cX0_toStuff 1 = .ok (.iconst 0, 1) := dk_3 (dk_at dksX0_toStuff_0 1 rfl rfl)
theorem dX0_toStuff_2 : decode cX0_toStuff 2 = .ok (.aload_n 0, 1) := dk_42 (dk_at dksX0_toStuff_0 2 rfl rfl)
theorem dX0_toStuff_3 : decode cX0_toStuff 3 = .ok (.iload_n 1, 1) := dk_27 (dk_at dksX0_toStuff_0 3 rfl rfl)
theorem dX0_toStuff_4 : decode cX0_toStuff 4 = .ok (.iload_n 2, 1) := dk_28 (dk_at dksX0_toStuff_0 4 rfl rfl)
theorem dX0_toStuff_5 : decode cX0_toStuff 5 = .ok (.invokevirtual 74, 3) := dk_182 0 74 (dk_at dksX0_toStuff_0 5 rfl rfl)
theorem dX0_toStuff_8 : decode cX0_toStuff 8 = .ok (.i2l, 1) := dk_133 (dk_at dksX0_toStuff_0 8 rfl rfl)
theorem dX0_toStuff_9 : decode cX0_toStuff 9 = .ok (.lastore, 1) := dk_80 (dk_at dksX0_toStuff_0 9 rfl rfl)
theorem dX0_toStuff_10 : decode cX0_toStuff 10 = .ok (.goto 7, 3) := dk_167 0 7 (dk_at dksX0_toStuff_0 10 rfl rfl)
theorem dX0_toStuff_13 : decode cX0_toStuff 13 = .ok (.astore 4, 2) := dk_58 4 (dk_at dksX0_toStuff_0 13 rfl rfl)
theorem dX0_toStuff_15 : decode cX0_toStuff 15 = .ok (.iconst 1, 1) := dk_4 (dk_at dksX0_toStuff_0 15 rfl rfl)
theorem dX0_toStuff_16 : decode cX0_toStuff 16 = .ok (.ireturn, 1) := dk_172 (dk_at dksX0_toStuff_0 16 rfl rfl)
theorem dX0_toStuff_17 : decode cX0_toStuff 17 = .ok (.iconst 0, 1) := dk_3 (dk_at dksX0_toStuff_0 17 rfl rfl)
theorem dX0_toStuff_18 : decode cX0_toStuff 18 = .ok (.ireturn, 1) := dk_172 (dk_at dksX0_toStuff_0 18 rfl rfl)
abbrev cX0_toWait : ByteArray := method_23_code
def yX0_toWait : MethodName := ⟨RX0, "toWait", "(LHornHouses;II[J)I"⟩
def dkwX0_toWait_0 : List UInt8 := [45, 3, 42, 27, 28, 182, 0, 77, 133, 80, 167, 0, 7, 58, 4, 4, 172, 3, 172]
abbrev dktX0_toWait_0 : List UInt8 := dkwX0_toWait_0 ++ []
theorem dksX0_toWait_0 : cX0_toWait.data.toList.drop 0 = dktX0_toWait_0 := by decide +kernel
theorem dX0_toWait_0 : decode cX0_toWait 0 = .ok (.aload_n 3, 1) := dk_45 (dk_at dksX0_toWait_0 0 rfl rfl)
theorem dX0_toWait_1 : decode cX0_toWait 1 = .ok (.iconst 0, 1) := dk_3 (dk_at dksX0_toWait_0 1 rfl rfl)
theorem dX0_toWait_2 : decode cX0_toWait 2 = .ok (.aload_n 0, 1) := dk_42 (dk_at dksX0_toWait_0 2 rfl rfl)
theorem dX0_toWait_3 : decode cX0_toWait 3 = .ok (.iload_n 1, 1) := dk_27 (dk_at dksX0_toWait_0 3 rfl rfl)
theorem dX0_toWait_4 : decode cX0_toWait 4 = .ok (.iload_n 2, 1) := dk_28 (dk_at dksX0_toWait_0 4 rfl rfl)
theorem dX0_toWait_5 : decode cX0_toWait 5 = .ok (.invokevirtual 77, 3) := dk_182 0 77 (dk_at dksX0_toWait_0 5 rfl rfl)
theorem dX0_toWait_8 : decode cX0_toWait 8 = .ok (.i2l, 1) := dk_133 (dk_at dksX0_toWait_0 8 rfl rfl)
theorem dX0_toWait_9 : decode cX0_toWait 9 = .ok (.lastore, 1) := dk_80 (dk_at dksX0_toWait_0 9 rfl rfl)
theorem dX0_toWait_10 : decode cX0_toWait 10 = .ok (.goto 7, 3) := dk_167 0 7 (dk_at dksX0_toWait_0 10 rfl rfl)
theorem dX0_toWait_13 : decode cX0_toWait 13 = .ok (.astore 4, 2) := dk_58 4 (dk_at dksX0_toWait_0 13 rfl rfl)
theorem dX0_toWait_15 : decode cX0_toWait 15 = .ok (.iconst 1, 1) := dk_4 (dk_at dksX0_toWait_0 15 rfl rfl)
theorem dX0_toWait_16 : decode cX0_toWait 16 = .ok (.ireturn, 1) := dk_172 (dk_at dksX0_toWait_0 16 rfl rfl)
theorem dX0_toWait_17 : decode cX0_toWait 17 = .ok (.iconst 0, 1) := dk_3 (dk_at dksX0_toWait_0 17 rfl rfl)
theorem dX0_toWait_18 : decode cX0_toWait 18 = .ok (.ireturn, 1) := dk_172 (dk_at dksX0_toWait_0 18 rfl rfl)
abbrev cX0_round : ByteArray := method_24_code
def yX0_round : MethodName := ⟨RX0, "round", "(LHornHouses;I[J)I"⟩
def dkwX0_round_0 : List UInt8 := [44, 3, 42, 27, 182, 0, 80, 133, 80, 167, 0, 6, 78, 4, 172, 3, 172]
abbrev dktX0_round_0 : List UInt8 := dkwX0_round_0 ++ []
theorem dksX0_round_0 : cX0_round.data.toList.drop 0 = dktX0_round_0 := by decide +kernel
theorem dX0_round_0 : decode cX0_round 0 = .ok (.aload_n 2, 1) := dk_44 (dk_at dksX0_round_0 0 rfl rfl)
theorem dX0_round_1 : decode cX0_round 1 = .ok (.iconst 0, 1) := dk_3 (dk_at dksX0_round_0 1 rfl rfl)
theorem dX0_round_2 : decode cX0_round 2 = .ok (.aload_n 0, 1) := dk_42 (dk_at dksX0_round_0 2 rfl rfl)
theorem dX0_round_3 : decode cX0_round 3 = .ok (.iload_n 1, 1) := dk_27 (dk_at dksX0_round_0 3 rfl rfl)
theorem dX0_round_4 : decode cX0_round 4 = .ok (.invokevirtual 80, 3) := dk_182 0 80 (dk_at dksX0_round_0 4 rfl rfl)
theorem dX0_round_7 : decode cX0_round 7 = .ok (.i2l, 1) := dk_133 (dk_at dksX0_round_0 7 rfl rfl)
theorem dX0_round_8 : decode cX0_round 8 = .ok (.lastore, 1) := dk_80 (dk_at dksX0_round_0 8 rfl rfl)
theorem dX0_round_9 : decode cX0_round 9 = .ok (.goto 6, 3) := dk_167 0 6 (dk_at dksX0_round_0 9 rfl rfl)
theorem dX0_round_12 : decode cX0_round 12 = .ok (.astore_n 3, 1) := dk_78 (dk_at dksX0_round_0 12 rfl rfl)
theorem dX0_round_13 : decode cX0_round 13 = .ok (.iconst 1, 1) := dk_4 (dk_at dksX0_round_0 13 rfl rfl)
theorem dX0_round_14 : decode cX0_round 14 = .ok (.ireturn, 1) := dk_172 (dk_at dksX0_round_0 14 rfl rfl)
theorem dX0_round_15 : decode cX0_round 15 = .ok (.iconst 0, 1) := dk_3 (dk_at dksX0_round_0 15 rfl rfl)
theorem dX0_round_16 : decode cX0_round 16 = .ok (.ireturn, 1) := dk_172 (dk_at dksX0_round_0 16 rfl rfl)
abbrev cX0_see : ByteArray := method_25_code
def yX0_see : MethodName := ⟨RX0, "see", "(LHornHouses;III[J)I"⟩
def dkwX0_see_0 : List UInt8 := [25, 4, 3, 42, 27, 28, 29, 182, 0, 83, 133, 80, 167, 0, 7, 58, 5, 4, 172, 3, 172]
abbrev dktX0_see_0 : List UInt8 := dkwX0_see_0 ++ []
theorem dksX0_see_0 : cX0_see.data.toList.drop 0 = dktX0_see_0 := by decide +kernel
theorem dX0_see_0 : decode cX0_see 0 = .ok (.aload 4, 2) := dk_25 4 (dk_at dksX0_see_0 0 rfl rfl)
theorem dX0_see_2 : decode cX0_see 2 = .ok (.iconst 0, 1) := dk_3 (dk_at dksX0_see_0 2 rfl rfl)
theorem dX0_see_3 : decode cX0_see 3 = .ok (.aload_n 0, 1) := dk_42 (dk_at dksX0_see_0 3 rfl rfl)
theorem dX0_see_4 : decode cX0_see 4 = .ok (.iload_n 1, 1) := dk_27 (dk_at dksX0_see_0 4 rfl rfl)
theorem dX0_see_5 : decode cX0_see 5 = .ok (.iload_n 2, 1) := dk_28 (dk_at dksX0_see_0 5 rfl rfl)
theorem dX0_see_6 : decode cX0_see 6 = .ok (.iload_n 3, 1) := dk_29 (dk_at dksX0_see_0 6 rfl rfl)
theorem dX0_see_7 : decode cX0_see 7 = .ok (.invokevirtual 83, 3) := dk_182 0 83 (dk_at dksX0_see_0 7 rfl rfl)
theorem dX0_see_10 : decode cX0_see 10 = .ok (.i2l, 1) := dk_133 (dk_at dksX0_see_0 10 rfl rfl)
theorem dX0_see_11 : decode cX0_see 11 = .ok (.lastore, 1) := dk_80 (dk_at dksX0_see_0 11 rfl rfl)
theorem dX0_see_12 : decode cX0_see 12 = .ok (.goto 7, 3) := dk_167 0 7 (dk_at dksX0_see_0 12 rfl rfl)
theorem dX0_see_15 : decode cX0_see 15 = .ok (.astore 5, 2) := dk_58 5 (dk_at dksX0_see_0 15 rfl rfl)
theorem dX0_see_17 : decode cX0_see 17 = .ok (.iconst 1, 1) := dk_4 (dk_at dksX0_see_0 17 rfl rfl)
theorem dX0_see_18 : decode cX0_see 18 = .ok (.ireturn, 1) := dk_172 (dk_at dksX0_see_0 18 rfl rfl)
theorem dX0_see_19 : decode cX0_see 19 = .ok (.iconst 0, 1) := dk_3 (dk_at dksX0_see_0 19 rfl rfl)
theorem dX0_see_20 : decode cX0_see 20 = .ok (.ireturn, 1) := dk_172 (dk_at dksX0_see_0 20 rfl rfl)
abbrev cX0_large : ByteArray := method_26_code
def yX0_large : MethodName := ⟨RX0, "large", "(LHornHouses;I[J)I"⟩
def dkwX0_large_0 : List UInt8 := [44, 3, 42, 27, 182, 0, 86, 133, 80, 167, 0, 6, 78, 4, 172, 3, 172]
abbrev dktX0_large_0 : List UInt8 := dkwX0_large_0 ++ []
theorem dksX0_large_0 : cX0_large.data.toList.drop 0 = dktX0_large_0 := by decide +kernel
theorem dX0_large_0 : decode cX0_large 0 = .ok (.aload_n 2, 1) := dk_44 (dk_at dksX0_large_0 0 rfl rfl)
theorem dX0_large_1 : decode cX0_large 1 = .ok (.iconst 0, 1) := dk_3 (dk_at dksX0_large_0 1 rfl rfl)
theorem dX0_large_2 : decode cX0_large 2 = .ok (.aload_n 0, 1) := dk_42 (dk_at dksX0_large_0 2 rfl rfl)
theorem dX0_large_3 : decode cX0_large 3 = .ok (.iload_n 1, 1) := dk_27 (dk_at dksX0_large_0 3 rfl rfl)
theorem dX0_large_4 : decode cX0_large 4 = .ok (.invokevirtual 86, 3) := dk_182 0 86 (dk_at dksX0_large_0 4 rfl rfl)
theorem dX0_large_7 : decode cX0_large 7 = .ok (.i2l, 1) := dk_133 (dk_at dksX0_large_0 7 rfl rfl)
theorem dX0_large_8 : decode cX0_large 8 = .ok (.lastore, 1) := dk_80 (dk_at dksX0_large_0 8 rfl rfl)
theorem dX0_large_9 : decode cX0_large 9 = .ok (.goto 6, 3) := dk_167 0 6 (dk_at dksX0_large_0 9 rfl rfl)
theorem dX0_large_12 : decode cX0_large 12 = .ok (.astore_n 3, 1) := dk_78 (dk_at dksX0_large_0 12 rfl rfl)
theorem dX0_large_13 : decode cX0_large 13 = .ok (.iconst 1, 1) := dk_4 (dk_at dksX0_large_0 13 rfl rfl)
theorem dX0_large_14 : decode cX0_large 14 = .ok (.ireturn, 1) := dk_172 (dk_at dksX0_large_0 14 rfl rfl)
theorem dX0_large_15 : decode cX0_large 15 = .ok (.iconst 0, 1) := dk_3 (dk_at dksX0_large_0 15 rfl rfl)
theorem dX0_large_16 : decode cX0_large 16 = .ok (.ireturn, 1) := dk_172 (dk_at dksX0_large_0 16 rfl rfl)
abbrev cX0_next : ByteArray := method_27_code
def yX0_next : MethodName := ⟨RX0, "next", "(LHornHouses;I[J)I"⟩
def dkwX0_next_0 : List UInt8 := [44, 3, 42, 27, 182, 0, 89, 133, 80, 167, 0, 6, 78, 4, 172, 3, 172]
abbrev dktX0_next_0 : List UInt8 := dkwX0_next_0 ++ []
theorem dksX0_next_0 : cX0_next.data.toList.drop 0 = dktX0_next_0 := by decide +kernel
theorem dX0_next_0 : decode cX0_next 0 = .ok (.aload_n 2, 1) := dk_44 (dk_at dksX0_next_0 0 rfl rfl)
theorem dX0_next_1 : decode cX0_next 1 = .ok (.iconst 0, 1) := dk_3 (dk_at dksX0_next_0 1 rfl rfl)
theorem dX0_next_2 : decode cX0_next 2 = .ok (.aload_n 0, 1) := dk_42 (dk_at dksX0_next_0 2 rfl rfl)
theorem dX0_next_3 : decode cX0_next 3 = .ok (.iload_n 1, 1) := dk_27 (dk_at dksX0_next_0 3 rfl rfl)
theorem dX0_next_4 : decode cX0_next 4 = .ok (.invokevirtual 89, 3) := dk_182 0 89 (dk_at dksX0_next_0 4 rfl rfl)
theorem dX0_next_7 : decode cX0_next 7 = .ok (.i2l, 1) := dk_133 (dk_at dksX0_next_0 7 rfl rfl)
theorem dX0_next_8 : decode cX0_next 8 = .ok (.lastore, 1) := dk_80 (dk_at dksX0_next_0 8 rfl rfl)
theorem dX0_next_9 : decode cX0_next 9 = .ok (.goto 6, 3) := dk_167 0 6 (dk_at dksX0_next_0 9 rfl rfl)
theorem dX0_next_12 : decode cX0_next 12 = .ok (.astore_n 3, 1) := dk_78 (dk_at dksX0_next_0 12 rfl rfl)
theorem dX0_next_13 : decode cX0_next 13 = .ok (.iconst 1, 1) := dk_4 (dk_at dksX0_next_0 13 rfl rfl)
theorem dX0_next_14 : decode cX0_next 14 = .ok (.ireturn, 1) := dk_172 (dk_at dksX0_next_0 14 rfl rfl)
theorem dX0_next_15 : decode cX0_next 15 = .ok (.iconst 0, 1) := dk_3 (dk_at dksX0_next_0 15 rfl rfl)
theorem dX0_next_16 : decode cX0_next 16 = .ok (.ireturn, 1) := dk_172 (dk_at dksX0_next_0 16 rfl rfl)
abbrev cX0_byDamp : ByteArray := method_28_code
def yX0_byDamp : MethodName := ⟨RX0, "byDamp", "(LHornHouses;III[J)I"⟩
def dkwX0_byDamp_1 : List UInt8 := [172]
abbrev dktX0_byDamp_1 : List UInt8 := dkwX0_byDamp_1 ++ []
def dkwX0_byDamp_0 : List UInt8 := [25, 4, 3, 42, 27, 28, 29, 182, 0, 92, 133, 80, 167, 0, 11, 58, 5, 4, 172, 58, 5, 5, 172, 3]
abbrev dktX0_byDamp_0 : List UInt8 := dkwX0_byDamp_0 ++ dktX0_byDamp_1
theorem dksX0_byDamp_0 : cX0_byDamp.data.toList.drop 0 = dktX0_byDamp_0 := by decide +kernel
theorem dksX0_byDamp_1 : cX0_byDamp.data.toList.drop 24 = dktX0_byDamp_1 := dk_seg dksX0_byDamp_0 24 rfl rfl
theorem dX0_byDamp_0 : decode cX0_byDamp 0 = .ok (.aload 4, 2) := dk_25 4 (dk_at dksX0_byDamp_0 0 rfl rfl)
theorem dX0_byDamp_2 : decode cX0_byDamp 2 = .ok (.iconst 0, 1) := dk_3 (dk_at dksX0_byDamp_0 2 rfl rfl)
theorem dX0_byDamp_3 : decode cX0_byDamp 3 = .ok (.aload_n 0, 1) := dk_42 (dk_at dksX0_byDamp_0 3 rfl rfl)
theorem dX0_byDamp_4 : decode cX0_byDamp 4 = .ok (.iload_n 1, 1) := dk_27 (dk_at dksX0_byDamp_0 4 rfl rfl)
theorem dX0_byDamp_5 : decode cX0_byDamp 5 = .ok (.iload_n 2, 1) := dk_28 (dk_at dksX0_byDamp_0 5 rfl rfl)
theorem dX0_byDamp_6 : decode cX0_byDamp 6 = .ok (.iload_n 3, 1) := dk_29 (dk_at dksX0_byDamp_0 6 rfl rfl)
theorem dX0_byDamp_7 : decode cX0_byDamp 7 = .ok (.invokevirtual 92, 3) := dk_182 0 92 (dk_at dksX0_byDamp_0 7 rfl rfl)
theorem dX0_byDamp_10 : decode cX0_byDamp 10 = .ok (.i2l, 1) := dk_133 (dk_at dksX0_byDamp_0 10 rfl rfl)
theorem dX0_byDamp_11 : decode cX0_byDamp 11 = .ok (.lastore, 1) := dk_80 (dk_at dksX0_byDamp_0 11 rfl rfl)
theorem dX0_byDamp_12 : decode cX0_byDamp 12 = .ok (.goto 11, 3) := dk_167 0 11 (dk_at dksX0_byDamp_0 12 rfl rfl)
theorem dX0_byDamp_15 : decode cX0_byDamp 15 = .ok (.astore 5, 2) := dk_58 5 (dk_at dksX0_byDamp_0 15 rfl rfl)
theorem dX0_byDamp_17 : decode cX0_byDamp 17 = .ok (.iconst 1, 1) := dk_4 (dk_at dksX0_byDamp_0 17 rfl rfl)
theorem dX0_byDamp_18 : decode cX0_byDamp 18 = .ok (.ireturn, 1) := dk_172 (dk_at dksX0_byDamp_0 18 rfl rfl)
theorem dX0_byDamp_19 : decode cX0_byDamp 19 = .ok (.astore 5, 2) := dk_58 5 (dk_at dksX0_byDamp_0 19 rfl rfl)
theorem dX0_byDamp_21 : decode cX0_byDamp 21 = .ok (.iconst 2, 1) := dk_5 (dk_at dksX0_byDamp_0 21 rfl rfl)
theorem dX0_byDamp_22 : decode cX0_byDamp 22 = .ok (.ireturn, 1) := dk_172 (dk_at dksX0_byDamp_0 22 rfl rfl)
theorem dX0_byDamp_23 : decode cX0_byDamp 23 = .ok (.iconst 0, 1) := dk_3 (dk_at dksX0_byDamp_0 23 rfl rfl)
theorem dX0_byDamp_24 : decode cX0_byDamp 24 = .ok (.ireturn, 1) := dk_172 (dk_at dksX0_byDamp_1 0 rfl rfl)
abbrev cX0_game : ByteArray := method_29_code
def yX0_game : MethodName := ⟨RX0, "game", "(LHornHouses;IIII[J)I"⟩
def dkwX0_game_1 : List UInt8 := [172, 3, 172]
abbrev dktX0_game_1 : List UInt8 := dkwX0_game_1 ++ []
def dkwX0_game_0 : List UInt8 := [25, 5, 3, 42, 27, 28, 29, 21, 4, 182, 0, 95, 133, 80, 167, 0, 11, 58, 6, 4, 172, 58, 6, 5]
abbrev dktX0_game_0 : List UInt8 := dkwX0_game_0 ++ dktX0_game_1
theorem dksX0_game_0 : cX0_game.data.toList.drop 0 = dktX0_game_0 := by decide +kernel
theorem dksX0_game_1 : cX0_game.data.toList.drop 24 = dktX0_game_1 := dk_seg dksX0_game_0 24 rfl rfl
theorem dX0_game_0 : decode cX0_game 0 = .ok (.aload 5, 2) := dk_25 5 (dk_at dksX0_game_0 0 rfl rfl)
theorem dX0_game_2 : decode cX0_game 2 = .ok (.iconst 0, 1) := dk_3 (dk_at dksX0_game_0 2 rfl rfl)
theorem dX0_game_3 : decode cX0_game 3 = .ok (.aload_n 0, 1) := dk_42 (dk_at dksX0_game_0 3 rfl rfl)
theorem dX0_game_4 : decode cX0_game 4 = .ok (.iload_n 1, 1) := dk_27 (dk_at dksX0_game_0 4 rfl rfl)
theorem dX0_game_5 : decode cX0_game 5 = .ok (.iload_n 2, 1) := dk_28 (dk_at dksX0_game_0 5 rfl rfl)
theorem dX0_game_6 : decode cX0_game 6 = .ok (.iload_n 3, 1) := dk_29 (dk_at dksX0_game_0 6 rfl rfl)
theorem dX0_game_7 : decode cX0_game 7 = .ok (.iload 4, 2) := dk_21 4 (dk_at dksX0_game_0 7 rfl rfl)
theorem dX0_game_9 : decode cX0_game 9 = .ok (.invokevirtual 95, 3) := dk_182 0 95 (dk_at dksX0_game_0 9 rfl rfl)
theorem dX0_game_12 : decode cX0_game 12 = .ok (.i2l, 1) := dk_133 (dk_at dksX0_game_0 12 rfl rfl)
theorem dX0_game_13 : decode cX0_game 13 = .ok (.lastore, 1) := dk_80 (dk_at dksX0_game_0 13 rfl rfl)
theorem dX0_game_14 : decode cX0_game 14 = .ok (.goto 11, 3) := dk_167 0 11 (dk_at dksX0_game_0 14 rfl rfl)
theorem dX0_game_17 : decode cX0_game 17 = .ok (.astore 6, 2) := dk_58 6 (dk_at dksX0_game_0 17 rfl rfl)
theorem dX0_game_19 : decode cX0_game 19 = .ok (.iconst 1, 1) := dk_4 (dk_at dksX0_game_0 19 rfl rfl)
theorem dX0_game_20 : decode cX0_game 20 = .ok (.ireturn, 1) := dk_172 (dk_at dksX0_game_0 20 rfl rfl)
theorem dX0_game_21 : decode cX0_game 21 = .ok (.astore 6, 2) := dk_58 6 (dk_at dksX0_game_0 21 rfl rfl)
theorem dX0_game_23 : decode cX0_game 23 = .ok (.iconst 2, 1) := dk_5 (dk_at dksX0_game_0 23 rfl rfl)
theorem dX0_game_24 : decode cX0_game 24 = .ok (.ireturn, 1) := dk_172 (dk_at dksX0_game_1 0 rfl rfl)
theorem dX0_game_25 : decode cX0_game 25 = .ok (.iconst 0, 1) := dk_3 (dk_at dksX0_game_1 1 rfl rfl)
theorem dX0_game_26 : decode cX0_game 26 = .ok (.ireturn, 1) := dk_172 (dk_at dksX0_game_1 2 rfl rfl)
abbrev cX0_years : ByteArray := method_30_code
def yX0_years : MethodName := ⟨RX0, "years", "(LHornHouses;III[J)I"⟩
def dkwX0_years_1 : List UInt8 := [172]
abbrev dktX0_years_1 : List UInt8 := dkwX0_years_1 ++ []
def dkwX0_years_0 : List UInt8 := [25, 4, 3, 42, 27, 28, 29, 182, 0, 99, 133, 80, 167, 0, 11, 58, 5, 4, 172, 58, 5, 5, 172, 3]
abbrev dktX0_years_0 : List UInt8 := dkwX0_years_0 ++ dktX0_years_1
theorem dksX0_years_0 : cX0_years.data.toList.drop 0 = dktX0_years_0 := by decide +kernel
theorem dksX0_years_1 : cX0_years.data.toList.drop 24 = dktX0_years_1 := dk_seg dksX0_years_0 24 rfl rfl
theorem dX0_years_0 : decode cX0_years 0 = .ok (.aload 4, 2) := dk_25 4 (dk_at dksX0_years_0 0 rfl rfl)
theorem dX0_years_2 : decode cX0_years 2 = .ok (.iconst 0, 1) := dk_3 (dk_at dksX0_years_0 2 rfl rfl)
theorem dX0_years_3 : decode cX0_years 3 = .ok (.aload_n 0, 1) := dk_42 (dk_at dksX0_years_0 3 rfl rfl)
theorem dX0_years_4 : decode cX0_years 4 = .ok (.iload_n 1, 1) := dk_27 (dk_at dksX0_years_0 4 rfl rfl)
theorem dX0_years_5 : decode cX0_years 5 = .ok (.iload_n 2, 1) := dk_28 (dk_at dksX0_years_0 5 rfl rfl)
theorem dX0_years_6 : decode cX0_years 6 = .ok (.iload_n 3, 1) := dk_29 (dk_at dksX0_years_0 6 rfl rfl)
theorem dX0_years_7 : decode cX0_years 7 = .ok (.invokevirtual 99, 3) := dk_182 0 99 (dk_at dksX0_years_0 7 rfl rfl)
theorem dX0_years_10 : decode cX0_years 10 = .ok (.i2l, 1) := dk_133 (dk_at dksX0_years_0 10 rfl rfl)
theorem dX0_years_11 : decode cX0_years 11 = .ok (.lastore, 1) := dk_80 (dk_at dksX0_years_0 11 rfl rfl)
theorem dX0_years_12 : decode cX0_years 12 = .ok (.goto 11, 3) := dk_167 0 11 (dk_at dksX0_years_0 12 rfl rfl)
theorem dX0_years_15 : decode cX0_years 15 = .ok (.astore 5, 2) := dk_58 5 (dk_at dksX0_years_0 15 rfl rfl)
theorem dX0_years_17 : decode cX0_years 17 = .ok (.iconst 1, 1) := dk_4 (dk_at dksX0_years_0 17 rfl rfl)
theorem dX0_years_18 : decode cX0_years 18 = .ok (.ireturn, 1) := dk_172 (dk_at dksX0_years_0 18 rfl rfl)
theorem dX0_years_19 : decode cX0_years 19 = .ok (.astore 5, 2) := dk_58 5 (dk_at dksX0_years_0 19 rfl rfl)
theorem dX0_years_21 : decode cX0_years 21 = .ok (.iconst 2, 1) := dk_5 (dk_at dksX0_years_0 21 rfl rfl)
theorem dX0_years_22 : decode cX0_years 22 = .ok (.ireturn, 1) := dk_172 (dk_at dksX0_years_0 22 rfl rfl)
theorem dX0_years_23 : decode cX0_years 23 = .ok (.iconst 0, 1) := dk_3 (dk_at dksX0_years_0 23 rfl rfl)
theorem dX0_years_24 : decode cX0_years 24 = .ok (.ireturn, 1) := dk_172 (dk_at dksX0_years_1 0 rfl rfl)
abbrev cX0_heirs : ByteArray := method_31_code
def yX0_heirs : MethodName := ⟨RX0, "heirs", "(LHornHouses;I[J)I"⟩
def dkwX0_heirs_0 : List UInt8 := [44, 3, 42, 27, 182, 0, 102, 133, 80, 167, 0, 6, 78, 4, 172, 3, 172]
abbrev dktX0_heirs_0 : List UInt8 := dkwX0_heirs_0 ++ []
theorem dksX0_heirs_0 : cX0_heirs.data.toList.drop 0 = dktX0_heirs_0 := by decide +kernel
theorem dX0_heirs_0 : decode cX0_heirs 0 = .ok (.aload_n 2, 1) := dk_44 (dk_at dksX0_heirs_0 0 rfl rfl)
theorem dX0_heirs_1 : decode cX0_heirs 1 = .ok (.iconst 0, 1) := dk_3 (dk_at dksX0_heirs_0 1 rfl rfl)
theorem dX0_heirs_2 : decode cX0_heirs 2 = .ok (.aload_n 0, 1) := dk_42 (dk_at dksX0_heirs_0 2 rfl rfl)
theorem dX0_heirs_3 : decode cX0_heirs 3 = .ok (.iload_n 1, 1) := dk_27 (dk_at dksX0_heirs_0 3 rfl rfl)
theorem dX0_heirs_4 : decode cX0_heirs 4 = .ok (.invokevirtual 102, 3) := dk_182 0 102 (dk_at dksX0_heirs_0 4 rfl rfl)
theorem dX0_heirs_7 : decode cX0_heirs 7 = .ok (.i2l, 1) := dk_133 (dk_at dksX0_heirs_0 7 rfl rfl)
theorem dX0_heirs_8 : decode cX0_heirs 8 = .ok (.lastore, 1) := dk_80 (dk_at dksX0_heirs_0 8 rfl rfl)
theorem dX0_heirs_9 : decode cX0_heirs 9 = .ok (.goto 6, 3) := dk_167 0 6 (dk_at dksX0_heirs_0 9 rfl rfl)
theorem dX0_heirs_12 : decode cX0_heirs 12 = .ok (.astore_n 3, 1) := dk_78 (dk_at dksX0_heirs_0 12 rfl rfl)
theorem dX0_heirs_13 : decode cX0_heirs 13 = .ok (.iconst 1, 1) := dk_4 (dk_at dksX0_heirs_0 13 rfl rfl)
theorem dX0_heirs_14 : decode cX0_heirs 14 = .ok (.ireturn, 1) := dk_172 (dk_at dksX0_heirs_0 14 rfl rfl)
theorem dX0_heirs_15 : decode cX0_heirs 15 = .ok (.iconst 0, 1) := dk_3 (dk_at dksX0_heirs_0 15 rfl rfl)
theorem dX0_heirs_16 : decode cX0_heirs 16 = .ok (.ireturn, 1) := dk_172 (dk_at dksX0_heirs_0 16 rfl rfl)
abbrev cX0_toGrow : ByteArray := method_32_code
def yX0_toGrow : MethodName := ⟨RX0, "toGrow", "(LHornHouses;II[J)I"⟩
def dkwX0_toGrow_0 : List UInt8 := [45, 3, 42, 27, 28, 182, 0, 105, 133, 80, 167, 0, 7, 58, 4, 4, 172, 3, 172]
abbrev dktX0_toGrow_0 : List UInt8 := dkwX0_toGrow_0 ++ []
theorem dksX0_toGrow_0 : cX0_toGrow.data.toList.drop 0 = dktX0_toGrow_0 := by decide +kernel
theorem dX0_toGrow_0 : decode cX0_toGrow 0 = .ok (.aload_n 3, 1) := dk_45 (dk_at dksX0_toGrow_0 0 rfl rfl)
theorem dX0_toGrow_1 : decode cX0_toGrow 1 = .ok (.iconst 0, 1) := dk_3 (dk_at dksX0_toGrow_0 1 rfl rfl)
theorem dX0_toGrow_2 : decode cX0_toGrow 2 = .ok (.aload_n 0, 1) := dk_42 (dk_at dksX0_toGrow_0 2 rfl rfl)
theorem dX0_toGrow_3 : decode cX0_toGrow 3 = .ok (.iload_n 1, 1) := dk_27 (dk_at dksX0_toGrow_0 3 rfl rfl)
theorem dX0_toGrow_4 : decode cX0_toGrow 4 = .ok (.iload_n 2, 1) := dk_28 (dk_at dksX0_toGrow_0 4 rfl rfl)
theorem dX0_toGrow_5 : decode cX0_toGrow 5 = .ok (.invokevirtual 105, 3) := dk_182 0 105 (dk_at dksX0_toGrow_0 5 rfl rfl)
theorem dX0_toGrow_8 : decode cX0_toGrow 8 = .ok (.i2l, 1) := dk_133 (dk_at dksX0_toGrow_0 8 rfl rfl)
theorem dX0_toGrow_9 : decode cX0_toGrow 9 = .ok (.lastore, 1) := dk_80 (dk_at dksX0_toGrow_0 9 rfl rfl)
theorem dX0_toGrow_10 : decode cX0_toGrow 10 = .ok (.goto 7, 3) := dk_167 0 7 (dk_at dksX0_toGrow_0 10 rfl rfl)
theorem dX0_toGrow_13 : decode cX0_toGrow 13 = .ok (.astore 4, 2) := dk_58 4 (dk_at dksX0_toGrow_0 13 rfl rfl)
theorem dX0_toGrow_15 : decode cX0_toGrow 15 = .ok (.iconst 1, 1) := dk_4 (dk_at dksX0_toGrow_0 15 rfl rfl)
theorem dX0_toGrow_16 : decode cX0_toGrow 16 = .ok (.ireturn, 1) := dk_172 (dk_at dksX0_toGrow_0 16 rfl rfl)
theorem dX0_toGrow_17 : decode cX0_toGrow 17 = .ok (.iconst 0, 1) := dk_3 (dk_at dksX0_toGrow_0 17 rfl rfl)
theorem dX0_toGrow_18 : decode cX0_toGrow 18 = .ok (.ireturn, 1) := dk_172 (dk_at dksX0_toGrow_0 18 rfl rfl)
abbrev cX0_paid : ByteArray := method_33_code
def yX0_paid : MethodName := ⟨RX0, "paid", "(LHornHouses;I[J)I"⟩
def dkwX0_paid_0 : List UInt8 := [44, 3, 42, 27, 182, 0, 108, 133, 80, 167, 0, 6, 78, 4, 172, 3, 172]
abbrev dktX0_paid_0 : List UInt8 := dkwX0_paid_0 ++ []
theorem dksX0_paid_0 : cX0_paid.data.toList.drop 0 = dktX0_paid_0 := by decide +kernel
theorem dX0_paid_0 : decode cX0_paid 0 = .ok (.aload_n 2, 1) := dk_44 (dk_at dksX0_paid_0 0 rfl rfl)
theorem dX0_paid_1 : decode cX0_paid 1 = .ok (.iconst 0, 1) := dk_3 (dk_at dksX0_paid_0 1 rfl rfl)
theorem dX0_paid_2 : decode cX0_paid 2 = .ok (.aload_n 0, 1) := dk_42 (dk_at dksX0_paid_0 2 rfl rfl)
theorem dX0_paid_3 : decode cX0_paid 3 = .ok (.iload_n 1, 1) := dk_27 (dk_at dksX0_paid_0 3 rfl rfl)
theorem dX0_paid_4 : decode cX0_paid 4 = .ok (.invokevirtual 108, 3) := dk_182 0 108 (dk_at dksX0_paid_0 4 rfl rfl)
theorem dX0_paid_7 : decode cX0_paid 7 = .ok (.i2l, 1) := dk_133 (dk_at dksX0_paid_0 7 rfl rfl)
theorem dX0_paid_8 : decode cX0_paid 8 = .ok (.lastore, 1) := dk_80 (dk_at dksX0_paid_0 8 rfl rfl)
theorem dX0_paid_9 : decode cX0_paid 9 = .ok (.goto 6, 3) := dk_167 0 6 (dk_at dksX0_paid_0 9 rfl rfl)
theorem dX0_paid_12 : decode cX0_paid 12 = .ok (.astore_n 3, 1) := dk_78 (dk_at dksX0_paid_0 12 rfl rfl)
theorem dX0_paid_13 : decode cX0_paid 13 = .ok (.iconst 1, 1) := dk_4 (dk_at dksX0_paid_0 13 rfl rfl)
theorem dX0_paid_14 : decode cX0_paid 14 = .ok (.ireturn, 1) := dk_172 (dk_at dksX0_paid_0 14 rfl rfl)
theorem dX0_paid_15 : decode cX0_paid 15 = .ok (.iconst 0, 1) := dk_3 (dk_at dksX0_paid_0 15 rfl rfl)
theorem dX0_paid_16 : decode cX0_paid 16 = .ok (.ireturn, 1) := dk_172 (dk_at dksX0_paid_0 16 rfl rfl)
abbrev cX0_wornest : ByteArray := method_34_code
def yX0_wornest : MethodName := ⟨RX0, "wornest", "(LHornHouses;I[J)I"⟩
def dkwX0_wornest_0 : List UInt8 := [44, 3, 42, 27, 182, 0, 111, 133, 80, 167, 0, 6, 78, 4, 172, 3, 172]
abbrev dktX0_wornest_0 : List UInt8 := dkwX0_wornest_0 ++ []
theorem dksX0_wornest_0 : cX0_wornest.data.toList.drop 0 = dktX0_wornest_0 := by decide +kernel
theorem dX0_wornest_0 : decode cX0_wornest 0 = .ok (.aload_n 2, 1) := dk_44 (dk_at dksX0_wornest_0 0 rfl rfl)
theorem dX0_wornest_1 : decode cX0_wornest 1 = .ok (.iconst 0, 1) := dk_3 (dk_at dksX0_wornest_0 1 rfl rfl)
theorem dX0_wornest_2 : decode cX0_wornest 2 = .ok (.aload_n 0, 1) := dk_42 (dk_at dksX0_wornest_0 2 rfl rfl)
theorem dX0_wornest_3 : decode cX0_wornest 3 = .ok (.iload_n 1, 1) := dk_27 (dk_at dksX0_wornest_0 3 rfl rfl)
theorem dX0_wornest_4 : decode cX0_wornest 4 = .ok (.invokevirtual 111, 3) := dk_182 0 111 (dk_at dksX0_wornest_0 4 rfl rfl)
theorem dX0_wornest_7 : decode cX0_wornest 7 = .ok (.i2l, 1) := dk_133 (dk_at dksX0_wornest_0 7 rfl rfl)
theorem dX0_wornest_8 : decode cX0_wornest 8 = .ok (.lastore, 1) := dk_80 (dk_at dksX0_wornest_0 8 rfl rfl)
theorem dX0_wornest_9 : decode cX0_wornest 9 = .ok (.goto 6, 3) := dk_167 0 6 (dk_at dksX0_wornest_0 9 rfl rfl)
theorem dX0_wornest_12 : decode cX0_wornest 12 = .ok (.astore_n 3, 1) := dk_78 (dk_at dksX0_wornest_0 12 rfl rfl)
theorem dX0_wornest_13 : decode cX0_wornest 13 = .ok (.iconst 1, 1) := dk_4 (dk_at dksX0_wornest_0 13 rfl rfl)
theorem dX0_wornest_14 : decode cX0_wornest 14 = .ok (.ireturn, 1) := dk_172 (dk_at dksX0_wornest_0 14 rfl rfl)
theorem dX0_wornest_15 : decode cX0_wornest 15 = .ok (.iconst 0, 1) := dk_3 (dk_at dksX0_wornest_0 15 rfl rfl)
theorem dX0_wornest_16 : decode cX0_wornest 16 = .ok (.ireturn, 1) := dk_172 (dk_at dksX0_wornest_0 16 rfl rfl)
abbrev cX0_dampest : ByteArray := method_35_code
def yX0_dampest : MethodName := ⟨RX0, "dampest", "(LHornHouses;I[J)I"⟩
def dkwX0_dampest_0 : List UInt8 := [44, 3, 42, 27, 182, 0, 114, 133, 80, 167, 0, 6, 78, 4, 172, 3, 172]
abbrev dktX0_dampest_0 : List UInt8 := dkwX0_dampest_0 ++ []
theorem dksX0_dampest_0 : cX0_dampest.data.toList.drop 0 = dktX0_dampest_0 := by decide +kernel
theorem dX0_dampest_0 : decode cX0_dampest 0 = .ok (.aload_n 2, 1) := dk_44 (dk_at dksX0_dampest_0 0 rfl rfl)
theorem dX0_dampest_1 : decode cX0_dampest 1 = .ok (.iconst 0, 1) := dk_3 (dk_at dksX0_dampest_0 1 rfl rfl)
theorem dX0_dampest_2 : decode cX0_dampest 2 = .ok (.aload_n 0, 1) := dk_42 (dk_at dksX0_dampest_0 2 rfl rfl)
theorem dX0_dampest_3 : decode cX0_dampest 3 = .ok (.iload_n 1, 1) := dk_27 (dk_at dksX0_dampest_0 3 rfl rfl)
theorem dX0_dampest_4 : decode cX0_dampest 4 = .ok (.invokevirtual 114, 3) := dk_182 0 114 (dk_at dksX0_dampest_0 4 rfl rfl)
theorem dX0_dampest_7 : decode cX0_dampest 7 = .ok (.i2l, 1) := dk_133 (dk_at dksX0_dampest_0 7 rfl rfl)
theorem dX0_dampest_8 : decode cX0_dampest 8 = .ok (.lastore, 1) := dk_80 (dk_at dksX0_dampest_0 8 rfl rfl)
theorem dX0_dampest_9 : decode cX0_dampest 9 = .ok (.goto 6, 3) := dk_167 0 6 (dk_at dksX0_dampest_0 9 rfl rfl)
theorem dX0_dampest_12 : decode cX0_dampest 12 = .ok (.astore_n 3, 1) := dk_78 (dk_at dksX0_dampest_0 12 rfl rfl)
theorem dX0_dampest_13 : decode cX0_dampest 13 = .ok (.iconst 1, 1) := dk_4 (dk_at dksX0_dampest_0 13 rfl rfl)
theorem dX0_dampest_14 : decode cX0_dampest 14 = .ok (.ireturn, 1) := dk_172 (dk_at dksX0_dampest_0 14 rfl rfl)
theorem dX0_dampest_15 : decode cX0_dampest 15 = .ok (.iconst 0, 1) := dk_3 (dk_at dksX0_dampest_0 15 rfl rfl)
theorem dX0_dampest_16 : decode cX0_dampest 16 = .ok (.ireturn, 1) := dk_172 (dk_at dksX0_dampest_0 16 rfl rfl)
abbrev cX0_kept : ByteArray := method_36_code
def yX0_kept : MethodName := ⟨RX0, "kept", "(LHornHouses;I[J)I"⟩
def dkwX0_kept_0 : List UInt8 := [44, 3, 42, 27, 182, 0, 117, 133, 80, 167, 0, 6, 78, 4, 172, 3, 172]
abbrev dktX0_kept_0 : List UInt8 := dkwX0_kept_0 ++ []
theorem dksX0_kept_0 : cX0_kept.data.toList.drop 0 = dktX0_kept_0 := by decide +kernel
theorem dX0_kept_0 : decode cX0_kept 0 = .ok (.aload_n 2, 1) := dk_44 (dk_at dksX0_kept_0 0 rfl rfl)
theorem dX0_kept_1 : decode cX0_kept 1 = .ok (.iconst 0, 1) := dk_3 (dk_at dksX0_kept_0 1 rfl rfl)
theorem dX0_kept_2 : decode cX0_kept 2 = .ok (.aload_n 0, 1) := dk_42 (dk_at dksX0_kept_0 2 rfl rfl)
theorem dX0_kept_3 : decode cX0_kept 3 = .ok (.iload_n 1, 1) := dk_27 (dk_at dksX0_kept_0 3 rfl rfl)
theorem dX0_kept_4 : decode cX0_kept 4 = .ok (.invokevirtual 117, 3) := dk_182 0 117 (dk_at dksX0_kept_0 4 rfl rfl)
theorem dX0_kept_7 : decode cX0_kept 7 = .ok (.i2l, 1) := dk_133 (dk_at dksX0_kept_0 7 rfl rfl)
theorem dX0_kept_8 : decode cX0_kept 8 = .ok (.lastore, 1) := dk_80 (dk_at dksX0_kept_0 8 rfl rfl)
theorem dX0_kept_9 : decode cX0_kept 9 = .ok (.goto 6, 3) := dk_167 0 6 (dk_at dksX0_kept_0 9 rfl rfl)
theorem dX0_kept_12 : decode cX0_kept 12 = .ok (.astore_n 3, 1) := dk_78 (dk_at dksX0_kept_0 12 rfl rfl)
theorem dX0_kept_13 : decode cX0_kept 13 = .ok (.iconst 1, 1) := dk_4 (dk_at dksX0_kept_0 13 rfl rfl)
theorem dX0_kept_14 : decode cX0_kept 14 = .ok (.ireturn, 1) := dk_172 (dk_at dksX0_kept_0 14 rfl rfl)
theorem dX0_kept_15 : decode cX0_kept 15 = .ok (.iconst 0, 1) := dk_3 (dk_at dksX0_kept_0 15 rfl rfl)
theorem dX0_kept_16 : decode cX0_kept 16 = .ok (.ireturn, 1) := dk_172 (dk_at dksX0_kept_0 16 rfl rfl)
abbrev cX0_sorest : ByteArray := method_37_code
def yX0_sorest : MethodName := ⟨RX0, "sorest", "(LHornHouses;I[J)I"⟩
def dkwX0_sorest_0 : List UInt8 := [44, 3, 42, 27, 182, 0, 120, 133, 80, 167, 0, 6, 78, 4, 172, 3, 172]
abbrev dktX0_sorest_0 : List UInt8 := dkwX0_sorest_0 ++ []
theorem dksX0_sorest_0 : cX0_sorest.data.toList.drop 0 = dktX0_sorest_0 := by decide +kernel
theorem dX0_sorest_0 : decode cX0_sorest 0 = .ok (.aload_n 2, 1) := dk_44 (dk_at dksX0_sorest_0 0 rfl rfl)
theorem dX0_sorest_1 : decode cX0_sorest 1 = .ok (.iconst 0, 1) := dk_3 (dk_at dksX0_sorest_0 1 rfl rfl)
theorem dX0_sorest_2 : decode cX0_sorest 2 = .ok (.aload_n 0, 1) := dk_42 (dk_at dksX0_sorest_0 2 rfl rfl)
theorem dX0_sorest_3 : decode cX0_sorest 3 = .ok (.iload_n 1, 1) := dk_27 (dk_at dksX0_sorest_0 3 rfl rfl)
theorem dX0_sorest_4 : decode cX0_sorest 4 = .ok (.invokevirtual 120, 3) := dk_182 0 120 (dk_at dksX0_sorest_0 4 rfl rfl)
theorem dX0_sorest_7 : decode cX0_sorest 7 = .ok (.i2l, 1) := dk_133 (dk_at dksX0_sorest_0 7 rfl rfl)
theorem dX0_sorest_8 : decode cX0_sorest 8 = .ok (.lastore, 1) := dk_80 (dk_at dksX0_sorest_0 8 rfl rfl)
theorem dX0_sorest_9 : decode cX0_sorest 9 = .ok (.goto 6, 3) := dk_167 0 6 (dk_at dksX0_sorest_0 9 rfl rfl)
theorem dX0_sorest_12 : decode cX0_sorest 12 = .ok (.astore_n 3, 1) := dk_78 (dk_at dksX0_sorest_0 12 rfl rfl)
theorem dX0_sorest_13 : decode cX0_sorest 13 = .ok (.iconst 1, 1) := dk_4 (dk_at dksX0_sorest_0 13 rfl rfl)
theorem dX0_sorest_14 : decode cX0_sorest 14 = .ok (.ireturn, 1) := dk_172 (dk_at dksX0_sorest_0 14 rfl rfl)
theorem dX0_sorest_15 : decode cX0_sorest 15 = .ok (.iconst 0, 1) := dk_3 (dk_at dksX0_sorest_0 15 rfl rfl)
theorem dX0_sorest_16 : decode cX0_sorest 16 = .ok (.ireturn, 1) := dk_172 (dk_at dksX0_sorest_0 16 rfl rfl)
abbrev cX0_eased : ByteArray := method_38_code
def yX0_eased : MethodName := ⟨RX0, "eased", "(LHornHouses;III[J)I"⟩
def dkwX0_eased_1 : List UInt8 := [172]
abbrev dktX0_eased_1 : List UInt8 := dkwX0_eased_1 ++ []
def dkwX0_eased_0 : List UInt8 := [25, 4, 3, 42, 27, 28, 29, 182, 0, 123, 133, 80, 167, 0, 11, 58, 5, 4, 172, 58, 5, 5, 172, 3]
abbrev dktX0_eased_0 : List UInt8 := dkwX0_eased_0 ++ dktX0_eased_1
theorem dksX0_eased_0 : cX0_eased.data.toList.drop 0 = dktX0_eased_0 := by decide +kernel
theorem dksX0_eased_1 : cX0_eased.data.toList.drop 24 = dktX0_eased_1 := dk_seg dksX0_eased_0 24 rfl rfl
theorem dX0_eased_0 : decode cX0_eased 0 = .ok (.aload 4, 2) := dk_25 4 (dk_at dksX0_eased_0 0 rfl rfl)
theorem dX0_eased_2 : decode cX0_eased 2 = .ok (.iconst 0, 1) := dk_3 (dk_at dksX0_eased_0 2 rfl rfl)
theorem dX0_eased_3 : decode cX0_eased 3 = .ok (.aload_n 0, 1) := dk_42 (dk_at dksX0_eased_0 3 rfl rfl)
theorem dX0_eased_4 : decode cX0_eased 4 = .ok (.iload_n 1, 1) := dk_27 (dk_at dksX0_eased_0 4 rfl rfl)
theorem dX0_eased_5 : decode cX0_eased 5 = .ok (.iload_n 2, 1) := dk_28 (dk_at dksX0_eased_0 5 rfl rfl)
theorem dX0_eased_6 : decode cX0_eased 6 = .ok (.iload_n 3, 1) := dk_29 (dk_at dksX0_eased_0 6 rfl rfl)
theorem dX0_eased_7 : decode cX0_eased 7 = .ok (.invokevirtual 123, 3) := dk_182 0 123 (dk_at dksX0_eased_0 7 rfl rfl)
theorem dX0_eased_10 : decode cX0_eased 10 = .ok (.i2l, 1) := dk_133 (dk_at dksX0_eased_0 10 rfl rfl)
theorem dX0_eased_11 : decode cX0_eased 11 = .ok (.lastore, 1) := dk_80 (dk_at dksX0_eased_0 11 rfl rfl)
theorem dX0_eased_12 : decode cX0_eased 12 = .ok (.goto 11, 3) := dk_167 0 11 (dk_at dksX0_eased_0 12 rfl rfl)
theorem dX0_eased_15 : decode cX0_eased 15 = .ok (.astore 5, 2) := dk_58 5 (dk_at dksX0_eased_0 15 rfl rfl)
theorem dX0_eased_17 : decode cX0_eased 17 = .ok (.iconst 1, 1) := dk_4 (dk_at dksX0_eased_0 17 rfl rfl)
theorem dX0_eased_18 : decode cX0_eased 18 = .ok (.ireturn, 1) := dk_172 (dk_at dksX0_eased_0 18 rfl rfl)
theorem dX0_eased_19 : decode cX0_eased 19 = .ok (.astore 5, 2) := dk_58 5 (dk_at dksX0_eased_0 19 rfl rfl)
theorem dX0_eased_21 : decode cX0_eased 21 = .ok (.iconst 2, 1) := dk_5 (dk_at dksX0_eased_0 21 rfl rfl)
theorem dX0_eased_22 : decode cX0_eased 22 = .ok (.ireturn, 1) := dk_172 (dk_at dksX0_eased_0 22 rfl rfl)
theorem dX0_eased_23 : decode cX0_eased 23 = .ok (.iconst 0, 1) := dk_3 (dk_at dksX0_eased_0 23 rfl rfl)
theorem dX0_eased_24 : decode cX0_eased 24 = .ok (.ireturn, 1) := dk_172 (dk_at dksX0_eased_1 0 rfl rfl)
abbrev cX0_free : ByteArray := method_39_code
def yX0_free : MethodName := ⟨RX0, "free", "(LHornHouses;I[J)I"⟩
def dkwX0_free_0 : List UInt8 := [44, 3, 42, 27, 182, 0, 126, 133, 80, 167, 0, 6, 78, 4, 172, 3, 172]
abbrev dktX0_free_0 : List UInt8 := dkwX0_free_0 ++ []
theorem dksX0_free_0 : cX0_free.data.toList.drop 0 = dktX0_free_0 := by decide +kernel
theorem dX0_free_0 : decode cX0_free 0 = .ok (.aload_n 2, 1) := dk_44 (dk_at dksX0_free_0 0 rfl rfl)
theorem dX0_free_1 : decode cX0_free 1 = .ok (.iconst 0, 1) := dk_3 (dk_at dksX0_free_0 1 rfl rfl)
theorem dX0_free_2 : decode cX0_free 2 = .ok (.aload_n 0, 1) := dk_42 (dk_at dksX0_free_0 2 rfl rfl)
theorem dX0_free_3 : decode cX0_free 3 = .ok (.iload_n 1, 1) := dk_27 (dk_at dksX0_free_0 3 rfl rfl)
theorem dX0_free_4 : decode cX0_free 4 = .ok (.invokevirtual 126, 3) := dk_182 0 126 (dk_at dksX0_free_0 4 rfl rfl)
theorem dX0_free_7 : decode cX0_free 7 = .ok (.i2l, 1) := dk_133 (dk_at dksX0_free_0 7 rfl rfl)
theorem dX0_free_8 : decode cX0_free 8 = .ok (.lastore, 1) := dk_80 (dk_at dksX0_free_0 8 rfl rfl)
theorem dX0_free_9 : decode cX0_free 9 = .ok (.goto 6, 3) := dk_167 0 6 (dk_at dksX0_free_0 9 rfl rfl)
theorem dX0_free_12 : decode cX0_free 12 = .ok (.astore_n 3, 1) := dk_78 (dk_at dksX0_free_0 12 rfl rfl)
theorem dX0_free_13 : decode cX0_free 13 = .ok (.iconst 1, 1) := dk_4 (dk_at dksX0_free_0 13 rfl rfl)
theorem dX0_free_14 : decode cX0_free 14 = .ok (.ireturn, 1) := dk_172 (dk_at dksX0_free_0 14 rfl rfl)
theorem dX0_free_15 : decode cX0_free 15 = .ok (.iconst 0, 1) := dk_3 (dk_at dksX0_free_0 15 rfl rfl)
theorem dX0_free_16 : decode cX0_free 16 = .ok (.ireturn, 1) := dk_172 (dk_at dksX0_free_0 16 rfl rfl)
abbrev cX0_larger : ByteArray := method_40_code
def yX0_larger : MethodName := ⟨RX0, "larger", "(LHornHouses;I[J)I"⟩
def dkwX0_larger_0 : List UInt8 := [44, 3, 42, 27, 182, 0, 129, 133, 80, 167, 0, 6, 78, 4, 172, 3, 172]
abbrev dktX0_larger_0 : List UInt8 := dkwX0_larger_0 ++ []
theorem dksX0_larger_0 : cX0_larger.data.toList.drop 0 = dktX0_larger_0 := by decide +kernel
theorem dX0_larger_0 : decode cX0_larger 0 = .ok (.aload_n 2, 1) := dk_44 (dk_at dksX0_larger_0 0 rfl rfl)
theorem dX0_larger_1 : decode cX0_larger 1 = .ok (.iconst 0, 1) := dk_3 (dk_at dksX0_larger_0 1 rfl rfl)
theorem dX0_larger_2 : decode cX0_larger 2 = .ok (.aload_n 0, 1) := dk_42 (dk_at dksX0_larger_0 2 rfl rfl)
theorem dX0_larger_3 : decode cX0_larger 3 = .ok (.iload_n 1, 1) := dk_27 (dk_at dksX0_larger_0 3 rfl rfl)
theorem dX0_larger_4 : decode cX0_larger 4 = .ok (.invokevirtual 129, 3) := dk_182 0 129 (dk_at dksX0_larger_0 4 rfl rfl)
theorem dX0_larger_7 : decode cX0_larger 7 = .ok (.i2l, 1) := dk_133 (dk_at dksX0_larger_0 7 rfl rfl)
theorem dX0_larger_8 : decode cX0_larger 8 = .ok (.lastore, 1) := dk_80 (dk_at dksX0_larger_0 8 rfl rfl)
theorem dX0_larger_9 : decode cX0_larger 9 = .ok (.goto 6, 3) := dk_167 0 6 (dk_at dksX0_larger_0 9 rfl rfl)
theorem dX0_larger_12 : decode cX0_larger 12 = .ok (.astore_n 3, 1) := dk_78 (dk_at dksX0_larger_0 12 rfl rfl)
theorem dX0_larger_13 : decode cX0_larger 13 = .ok (.iconst 1, 1) := dk_4 (dk_at dksX0_larger_0 13 rfl rfl)
theorem dX0_larger_14 : decode cX0_larger 14 = .ok (.ireturn, 1) := dk_172 (dk_at dksX0_larger_0 14 rfl rfl)
theorem dX0_larger_15 : decode cX0_larger 15 = .ok (.iconst 0, 1) := dk_3 (dk_at dksX0_larger_0 15 rfl rfl)
theorem dX0_larger_16 : decode cX0_larger 16 = .ok (.ireturn, 1) := dk_172 (dk_at dksX0_larger_0 16 rfl rfl)
abbrev cX0_wide : ByteArray := method_41_code
def yX0_wide : MethodName := ⟨RX0, "wide", "(LHornHouses;I[J)I"⟩
def dkwX0_wide_0 : List UInt8 := [44, 3, 42, 27, 182, 0, 132, 133, 80, 167, 0, 6, 78, 4, 172, 3, 172]
abbrev dktX0_wide_0 : List UInt8 := dkwX0_wide_0 ++ []
theorem dksX0_wide_0 : cX0_wide.data.toList.drop 0 = dktX0_wide_0 := by decide +kernel
theorem dX0_wide_0 : decode cX0_wide 0 = .ok (.aload_n 2, 1) := dk_44 (dk_at dksX0_wide_0 0 rfl rfl)
theorem dX0_wide_1 : decode cX0_wide 1 = .ok (.iconst 0, 1) := dk_3 (dk_at dksX0_wide_0 1 rfl rfl)
theorem dX0_wide_2 : decode cX0_wide 2 = .ok (.aload_n 0, 1) := dk_42 (dk_at dksX0_wide_0 2 rfl rfl)
theorem dX0_wide_3 : decode cX0_wide 3 = .ok (.iload_n 1, 1) := dk_27 (dk_at dksX0_wide_0 3 rfl rfl)
theorem dX0_wide_4 : decode cX0_wide 4 = .ok (.invokevirtual 132, 3) := dk_182 0 132 (dk_at dksX0_wide_0 4 rfl rfl)
theorem dX0_wide_7 : decode cX0_wide 7 = .ok (.i2l, 1) := dk_133 (dk_at dksX0_wide_0 7 rfl rfl)
theorem dX0_wide_8 : decode cX0_wide 8 = .ok (.lastore, 1) := dk_80 (dk_at dksX0_wide_0 8 rfl rfl)
theorem dX0_wide_9 : decode cX0_wide 9 = .ok (.goto 6, 3) := dk_167 0 6 (dk_at dksX0_wide_0 9 rfl rfl)
theorem dX0_wide_12 : decode cX0_wide 12 = .ok (.astore_n 3, 1) := dk_78 (dk_at dksX0_wide_0 12 rfl rfl)
theorem dX0_wide_13 : decode cX0_wide 13 = .ok (.iconst 1, 1) := dk_4 (dk_at dksX0_wide_0 13 rfl rfl)
theorem dX0_wide_14 : decode cX0_wide 14 = .ok (.ireturn, 1) := dk_172 (dk_at dksX0_wide_0 14 rfl rfl)
theorem dX0_wide_15 : decode cX0_wide 15 = .ok (.iconst 0, 1) := dk_3 (dk_at dksX0_wide_0 15 rfl rfl)
theorem dX0_wide_16 : decode cX0_wide 16 = .ok (.ireturn, 1) := dk_172 (dk_at dksX0_wide_0 16 rfl rfl)
abbrev cX0_endures : ByteArray := method_42_code
def yX0_endures : MethodName := ⟨RX0, "endures", "(LHornHouses;II[J)I"⟩
def dkwX0_endures_0 : List UInt8 := [45, 3, 42, 27, 28, 182, 0, 135, 133, 80, 167, 0, 7, 58, 4, 4, 172, 3, 172]
abbrev dktX0_endures_0 : List UInt8 := dkwX0_endures_0 ++ []
theorem dksX0_endures_0 : cX0_endures.data.toList.drop 0 = dktX0_endures_0 := by decide +kernel
theorem dX0_endures_0 : decode cX0_endures 0 = .ok (.aload_n 3, 1) := dk_45 (dk_at dksX0_endures_0 0 rfl rfl)
theorem dX0_endures_1 : decode cX0_endures 1 = .ok (.iconst 0, 1) := dk_3 (dk_at dksX0_endures_0 1 rfl rfl)
theorem dX0_endures_2 : decode cX0_endures 2 = .ok (.aload_n 0, 1) := dk_42 (dk_at dksX0_endures_0 2 rfl rfl)
theorem dX0_endures_3 : decode cX0_endures 3 = .ok (.iload_n 1, 1) := dk_27 (dk_at dksX0_endures_0 3 rfl rfl)
theorem dX0_endures_4 : decode cX0_endures 4 = .ok (.iload_n 2, 1) := dk_28 (dk_at dksX0_endures_0 4 rfl rfl)
theorem dX0_endures_5 : decode cX0_endures 5 = .ok (.invokevirtual 135, 3) := dk_182 0 135 (dk_at dksX0_endures_0 5 rfl rfl)
theorem dX0_endures_8 : decode cX0_endures 8 = .ok (.i2l, 1) := dk_133 (dk_at dksX0_endures_0 8 rfl rfl)
theorem dX0_endures_9 : decode cX0_endures 9 = .ok (.lastore, 1) := dk_80 (dk_at dksX0_endures_0 9 rfl rfl)
theorem dX0_endures_10 : decode cX0_endures 10 = .ok (.goto 7, 3) := dk_167 0 7 (dk_at dksX0_endures_0 10 rfl rfl)
theorem dX0_endures_13 : decode cX0_endures 13 = .ok (.astore 4, 2) := dk_58 4 (dk_at dksX0_endures_0 13 rfl rfl)
theorem dX0_endures_15 : decode cX0_endures 15 = .ok (.iconst 1, 1) := dk_4 (dk_at dksX0_endures_0 15 rfl rfl)
theorem dX0_endures_16 : decode cX0_endures 16 = .ok (.ireturn, 1) := dk_172 (dk_at dksX0_endures_0 16 rfl rfl)
theorem dX0_endures_17 : decode cX0_endures 17 = .ok (.iconst 0, 1) := dk_3 (dk_at dksX0_endures_0 17 rfl rfl)
theorem dX0_endures_18 : decode cX0_endures 18 = .ok (.ireturn, 1) := dk_172 (dk_at dksX0_endures_0 18 rfl rfl)
abbrev cX0_ringed : ByteArray := method_43_code
def yX0_ringed : MethodName := ⟨RX0, "ringed", "(LHornHouses;I[J)I"⟩
def dkwX0_ringed_0 : List UInt8 := [44, 3, 42, 27, 182, 0, 138, 133, 80, 167, 0, 6, 78, 4, 172, 3, 172]
abbrev dktX0_ringed_0 : List UInt8 := dkwX0_ringed_0 ++ []
theorem dksX0_ringed_0 : cX0_ringed.data.toList.drop 0 = dktX0_ringed_0 := by decide +kernel
theorem dX0_ringed_0 : decode cX0_ringed 0 = .ok (.aload_n 2, 1) := dk_44 (dk_at dksX0_ringed_0 0 rfl rfl)
theorem dX0_ringed_1 : decode cX0_ringed 1 = .ok (.iconst 0, 1) := dk_3 (dk_at dksX0_ringed_0 1 rfl rfl)
theorem dX0_ringed_2 : decode cX0_ringed 2 = .ok (.aload_n 0, 1) := dk_42 (dk_at dksX0_ringed_0 2 rfl rfl)
theorem dX0_ringed_3 : decode cX0_ringed 3 = .ok (.iload_n 1, 1) := dk_27 (dk_at dksX0_ringed_0 3 rfl rfl)
theorem dX0_ringed_4 : decode cX0_ringed 4 = .ok (.invokevirtual 138, 3) := dk_182 0 138 (dk_at dksX0_ringed_0 4 rfl rfl)
theorem dX0_ringed_7 : decode cX0_ringed 7 = .ok (.i2l, 1) := dk_133 (dk_at dksX0_ringed_0 7 rfl rfl)
theorem dX0_ringed_8 : decode cX0_ringed 8 = .ok (.lastore, 1) := dk_80 (dk_at dksX0_ringed_0 8 rfl rfl)
theorem dX0_ringed_9 : decode cX0_ringed 9 = .ok (.goto 6, 3) := dk_167 0 6 (dk_at dksX0_ringed_0 9 rfl rfl)
theorem dX0_ringed_12 : decode cX0_ringed 12 = .ok (.astore_n 3, 1) := dk_78 (dk_at dksX0_ringed_0 12 rfl rfl)
theorem dX0_ringed_13 : decode cX0_ringed 13 = .ok (.iconst 1, 1) := dk_4 (dk_at dksX0_ringed_0 13 rfl rfl)
theorem dX0_ringed_14 : decode cX0_ringed 14 = .ok (.ireturn, 1) := dk_172 (dk_at dksX0_ringed_0 14 rfl rfl)
theorem dX0_ringed_15 : decode cX0_ringed 15 = .ok (.iconst 0, 1) := dk_3 (dk_at dksX0_ringed_0 15 rfl rfl)
theorem dX0_ringed_16 : decode cX0_ringed 16 = .ok (.ireturn, 1) := dk_172 (dk_at dksX0_ringed_0 16 rfl rfl)
theorem q121 : (Jvm.Cond.initialized "HornHousesLaw") ∈ lw_all := lw_g (lw_at lw_m1 0 rfl) rfl
theorem q155 : (Jvm.Cond.classLink "HornHousesLaw" (8 : Nat) "HornHouses") ∈ lw_all := lw_g (lw_at lw_m1 34 rfl) rfl
theorem q157 : (Jvm.Cond.methodLink "HornHousesLaw" (141 : Nat) ({ cls := "HornHouses", name := "<init>", desc := "()V" } : Jvm.MethodName)) ∈ lw_all := lw_g (lw_at lw_m1 36 rfl) rfl
theorem q324 : (Jvm.Cond.methodLink "HornHousesLaw" (145 : Nat) ({ cls := "HornHouses", name := "feed", desc := "(IIIII)I" } : Jvm.MethodName)) ∈ lw_all := lw_g (lw_at lw_m1 203 rfl) rfl
theorem q328 : (Jvm.Cond.methodLink "HornHousesLaw" (160 : Nat) ({ cls := "HornHouses", name := "fault", desc := "()I" } : Jvm.MethodName)) ∈ lw_all := lw_g (lw_at lw_m1 207 rfl) rfl
theorem q332 : (Jvm.Cond.methodLink "HornHousesLaw" (177 : Nat) ({ cls := "HornHouses", name := "days", desc := "(I)I" } : Jvm.MethodName)) ∈ lw_all := lw_g (lw_at lw_m1 211 rfl) rfl
theorem q600 : (Jvm.Cond.methodLink "HornHousesLaw" (193 : Nat) ({ cls := "HornHouses", name := "letIn", desc := "()I" } : Jvm.MethodName)) ∈ lw_all := lw_g (lw_at lw_m2 239 rfl) rfl
theorem q605 : (Jvm.Cond.methodLink "HornHousesLaw" (197 : Nat) ({ cls := "HornHouses", name := "undo", desc := "()I" } : Jvm.MethodName)) ∈ lw_all := lw_g (lw_at lw_m3 4 rfl) rfl
theorem q611 : (Jvm.Cond.methodLink "HornHousesLaw" (244 : Nat) ({ cls := "HornHouses", name := "forget", desc := "()V" } : Jvm.MethodName)) ∈ lw_all := lw_g (lw_at lw_m3 10 rfl) rfl
theorem q615 : (Jvm.Cond.methodLink "HornHousesLaw" (303 : Nat) ({ cls := "HornHouses", name := "image", desc := "()V" } : Jvm.MethodName)) ∈ lw_all := lw_g (lw_at lw_m3 14 rfl) rfl
theorem q643 : (Jvm.Cond.methodLink "HornHousesLaw" (307 : Nat) ({ cls := "HornHouses", name := "restore", desc := "()Z" } : Jvm.MethodName)) ∈ lw_all := lw_g (lw_at lw_m3 42 rfl) rfl
theorem q647 : (Jvm.Cond.methodLink "HornHousesLaw" (150 : Nat) ({ cls := "HornHousesLaw", name := "town", desc := "(LHornHouses;I[J)I" } : Jvm.MethodName)) ∈ lw_all := lw_g (lw_at lw_m3 46 rfl) rfl
theorem q648 : (Jvm.Cond.static ({ cls := "HornHousesLaw", name := "town", desc := "(LHornHouses;I[J)I" } : Jvm.MethodName)) ∈ lw_all := lw_g (lw_at lw_m3 47 rfl) rfl
theorem q649 : (Jvm.Cond.codeWith ({ cls := "HornHousesLaw", name := "town", desc := "(LHornHouses;I[J)I" } : Jvm.MethodName) method_3_code (4 : Nat) (Option.some Jvm.ClassFile.FieldType.int) [((0 : Nat), (9 : Nat), (12 : Nat), (13 : Nat))]) ∈ lw_all := lw_g (lw_at lw_m3 48 rfl) rfl
theorem q650 : (Jvm.Cond.classLink "HornHousesLaw" (13 : Nat) "java/lang/IllegalArgumentException") ∈ lw_all := lw_g (lw_at lw_m3 49 rfl) rfl
theorem q651 : (Jvm.Cond.methodLink "HornHousesLaw" (7 : Nat) ({ cls := "HornHouses", name := "town", desc := "(I)I" } : Jvm.MethodName)) ∈ lw_all := lw_g (lw_at lw_m3 50 rfl) rfl
theorem q1179 : (Jvm.Cond.methodLink "HornHousesLaw" (164 : Nat) ({ cls := "HornHousesLaw", name := "count", desc := "(LHornHouses;I[J)I" } : Jvm.MethodName)) ∈ lw_all := lw_g (lw_at lw_m5 98 rfl) rfl
theorem q1180 : (Jvm.Cond.static ({ cls := "HornHousesLaw", name := "count", desc := "(LHornHouses;I[J)I" } : Jvm.MethodName)) ∈ lw_all := lw_g (lw_at lw_m5 99 rfl) rfl
theorem q1181 : (Jvm.Cond.codeWith ({ cls := "HornHousesLaw", name := "count", desc := "(LHornHouses;I[J)I" } : Jvm.MethodName) method_4_code (4 : Nat) (Option.some Jvm.ClassFile.FieldType.int) [((0 : Nat), (9 : Nat), (12 : Nat), (18 : Nat))]) ∈ lw_all := lw_g (lw_at lw_m5 100 rfl) rfl
theorem q1182 : (Jvm.Cond.classLink "HornHousesLaw" (18 : Nat) "java/util/NoSuchElementException") ∈ lw_all := lw_g (lw_at lw_m5 101 rfl) rfl
theorem q1183 : (Jvm.Cond.methodLink "HornHousesLaw" (15 : Nat) ({ cls := "HornHouses", name := "count", desc := "(I)I" } : Jvm.MethodName)) ∈ lw_all := lw_g (lw_at lw_m5 102 rfl) rfl
theorem q1258 : (Jvm.Cond.methodLink "HornHousesLaw" (167 : Nat) ({ cls := "HornHousesLaw", name := "house", desc := "(LHornHouses;II[J)I" } : Jvm.MethodName)) ∈ lw_all := lw_g (lw_at lw_m5 177 rfl) rfl
theorem q1259 : (Jvm.Cond.static ({ cls := "HornHousesLaw", name := "house", desc := "(LHornHouses;II[J)I" } : Jvm.MethodName)) ∈ lw_all := lw_g (lw_at lw_m5 178 rfl) rfl
theorem q1260 : (Jvm.Cond.codeWith ({ cls := "HornHousesLaw", name := "house", desc := "(LHornHouses;II[J)I" } : Jvm.MethodName) method_5_code (5 : Nat) (Option.some Jvm.ClassFile.FieldType.int) [((0 : Nat), (10 : Nat), (13 : Nat), (18 : Nat))]) ∈ lw_all := lw_g (lw_at lw_m5 179 rfl) rfl
theorem q1261 : (Jvm.Cond.methodLink "HornHousesLaw" (20 : Nat) ({ cls := "HornHouses", name := "house", desc := "(II)I" } : Jvm.MethodName)) ∈ lw_all := lw_g (lw_at lw_m5 180 rfl) rfl
theorem q1289 : (Jvm.Cond.methodLink "HornHousesLaw" (171 : Nat) ({ cls := "HornHousesLaw", name := "person", desc := "(LHornHouses;II[J)I" } : Jvm.MethodName)) ∈ lw_all := lw_g (lw_at lw_m5 208 rfl) rfl
theorem q1290 : (Jvm.Cond.static ({ cls := "HornHousesLaw", name := "person", desc := "(LHornHouses;II[J)I" } : Jvm.MethodName)) ∈ lw_all := lw_g (lw_at lw_m5 209 rfl) rfl
theorem q1291 : (Jvm.Cond.codeWith ({ cls := "HornHousesLaw", name := "person", desc := "(LHornHouses;II[J)I" } : Jvm.MethodName) method_6_code (5 : Nat) (Option.some Jvm.ClassFile.FieldType.int) [((0 : Nat), (10 : Nat), (13 : Nat), (18 : Nat))]) ∈ lw_all := lw_g (lw_at lw_m5 210 rfl) rfl
theorem q1292 : (Jvm.Cond.methodLink "HornHousesLaw" (24 : Nat) ({ cls := "HornHouses", name := "person", desc := "(II)I" } : Jvm.MethodName)) ∈ lw_all := lw_g (lw_at lw_m5 211 rfl) rfl
theorem q1303 : (Jvm.Cond.methodLink "HornHousesLaw" (174 : Nat) ({ cls := "HornHousesLaw", name := "eases", desc := "(LHornHouses;II[J)I" } : Jvm.MethodName)) ∈ lw_all := lw_g (lw_at lw_m5 222 rfl) rfl
theorem q1304 : (Jvm.Cond.static ({ cls := "HornHousesLaw", name := "eases", desc := "(LHornHouses;II[J)I" } : Jvm.MethodName)) ∈ lw_all := lw_g (lw_at lw_m5 223 rfl) rfl
theorem q1305 : (Jvm.Cond.codeWith ({ cls := "HornHousesLaw", name := "eases", desc := "(LHornHouses;II[J)I" } : Jvm.MethodName) method_7_code (5 : Nat) (Option.some Jvm.ClassFile.FieldType.int) [((0 : Nat), (10 : Nat), (13 : Nat), (18 : Nat))]) ∈ lw_all := lw_g (lw_at lw_m5 224 rfl) rfl
theorem q1306 : (Jvm.Cond.methodLink "HornHousesLaw" (27 : Nat) ({ cls := "HornHouses", name := "eases", desc := "(II)I" } : Jvm.MethodName)) ∈ lw_all := lw_g (lw_at lw_m5 225 rfl) rfl
theorem q1311 : (Jvm.Cond.methodLink "HornHousesLaw" (181 : Nat) ({ cls := "HornHousesLaw", name := "putIn", desc := "(LHornHouses;II[J)I" } : Jvm.MethodName)) ∈ lw_all := lw_g (lw_at lw_m5 230 rfl) rfl
theorem q1312 : (Jvm.Cond.static ({ cls := "HornHousesLaw", name := "putIn", desc := "(LHornHouses;II[J)I" } : Jvm.MethodName)) ∈ lw_all := lw_g (lw_at lw_m5 231 rfl) rfl
theorem q1313 : (Jvm.Cond.codeWith ({ cls := "HornHousesLaw", name := "putIn", desc := "(LHornHouses;II[J)I" } : Jvm.MethodName) method_8_code (5 : Nat) (Option.some Jvm.ClassFile.FieldType.int) [((0 : Nat), (10 : Nat), (13 : Nat), (18 : Nat))]) ∈ lw_all := lw_g (lw_at lw_m5 232 rfl) rfl
theorem q1314 : (Jvm.Cond.methodLink "HornHousesLaw" (30 : Nat) ({ cls := "HornHouses", name := "putIn", desc := "(II)I" } : Jvm.MethodName)) ∈ lw_all := lw_g (lw_at lw_m5 233 rfl) rfl
theorem q1323 : (Jvm.Cond.methodLink "HornHousesLaw" (184 : Nat) ({ cls := "HornHousesLaw", name := "out", desc := "(LHornHouses;I[J)I" } : Jvm.MethodName)) ∈ lw_all := lw_g (lw_at lw_m6 2 rfl) rfl
theorem q1324 : (Jvm.Cond.static ({ cls := "HornHousesLaw", name := "out", desc := "(LHornHouses;I[J)I" } : Jvm.MethodName)) ∈ lw_all := lw_g (lw_at lw_m6 3 rfl) rfl
theorem q1325 : (Jvm.Cond.codeWith ({ cls := "HornHousesLaw", name := "out", desc := "(LHornHouses;I[J)I" } : Jvm.MethodName) method_9_code (4 : Nat) (Option.some Jvm.ClassFile.FieldType.int) [((0 : Nat), (9 : Nat), (12 : Nat), (18 : Nat))]) ∈ lw_all := lw_g (lw_at lw_m6 4 rfl) rfl
theorem q1326 : (Jvm.Cond.methodLink "HornHousesLaw" (33 : Nat) ({ cls := "HornHouses", name := "out", desc := "(I)I" } : Jvm.MethodName)) ∈ lw_all := lw_g (lw_at lw_m6 5 rfl) rfl
theorem q1330 : (Jvm.Cond.methodLink "HornHousesLaw" (187 : Nat) ({ cls := "HornHousesLaw", name := "stuff", desc := "(LHornHouses;II[J)I" } : Jvm.MethodName)) ∈ lw_all := lw_g (lw_at lw_m6 9 rfl) rfl
theorem q1331 : (Jvm.Cond.static ({ cls := "HornHousesLaw", name := "stuff", desc := "(LHornHouses;II[J)I" } : Jvm.MethodName)) ∈ lw_all := lw_g (lw_at lw_m6 10 rfl) rfl
theorem q1332 : (Jvm.Cond.codeWith ({ cls := "HornHousesLaw", name := "stuff", desc := "(LHornHouses;II[J)I" } : Jvm.MethodName) method_10_code (5 : Nat) (Option.some Jvm.ClassFile.FieldType.int) [((0 : Nat), (10 : Nat), (13 : Nat), (18 : Nat))]) ∈ lw_all := lw_g (lw_at lw_m6 11 rfl) rfl
theorem q1333 : (Jvm.Cond.methodLink "HornHousesLaw" (36 : Nat) ({ cls := "HornHouses", name := "stuff", desc := "(II)I" } : Jvm.MethodName)) ∈ lw_all := lw_g (lw_at lw_m6 12 rfl) rfl
theorem q1337 : (Jvm.Cond.methodLink "HornHousesLaw" (190 : Nat) ({ cls := "HornHousesLaw", name := "change", desc := "(LHornHouses;II[J)I" } : Jvm.MethodName)) ∈ lw_all := lw_g (lw_at lw_m6 16 rfl) rfl
theorem q1338 : (Jvm.Cond.static ({ cls := "HornHousesLaw", name := "change", desc := "(LHornHouses;II[J)I" } : Jvm.MethodName)) ∈ lw_all := lw_g (lw_at lw_m6 17 rfl) rfl
theorem q1339 : (Jvm.Cond.codeWith ({ cls := "HornHousesLaw", name := "change", desc := "(LHornHouses;II[J)I" } : Jvm.MethodName) method_11_code (5 : Nat) (Option.some Jvm.ClassFile.FieldType.int) [((0 : Nat), (17 : Nat), (20 : Nat), (18 : Nat))]) ∈ lw_all := lw_g (lw_at lw_m6 18 rfl) rfl
theorem q1340 : (Jvm.Cond.methodLink "HornHousesLaw" (39 : Nat) ({ cls := "HornHouses", name := "change", desc := "(II)Z" } : Jvm.MethodName)) ∈ lw_all := lw_g (lw_at lw_m6 19 rfl) rfl
theorem q1344 : (Jvm.Cond.methodLink "HornHousesLaw" (201 : Nat) ({ cls := "HornHousesLaw", name := "then", desc := "(LHornHouses;III[J)I" } : Jvm.MethodName)) ∈ lw_all := lw_g (lw_at lw_m6 23 rfl) rfl
theorem q1345 : (Jvm.Cond.static ({ cls := "HornHousesLaw", name := "then", desc := "(LHornHouses;III[J)I" } : Jvm.MethodName)) ∈ lw_all := lw_g (lw_at lw_m6 24 rfl) rfl
theorem q1346 : (Jvm.Cond.codeWith ({ cls := "HornHousesLaw", name := "then", desc := "(LHornHouses;III[J)I" } : Jvm.MethodName) method_12_code (6 : Nat) (Option.some Jvm.ClassFile.FieldType.int) [((0 : Nat), (12 : Nat), (15 : Nat), (18 : Nat)), ((0 : Nat), (12 : Nat), (19 : Nat), (13 : Nat))]) ∈ lw_all := lw_g (lw_at lw_m6 25 rfl) rfl
theorem q1347 : (Jvm.Cond.methodLink "HornHousesLaw" (43 : Nat) ({ cls := "HornHouses", name := "then", desc := "(III)I" } : Jvm.MethodName)) ∈ lw_all := lw_g (lw_at lw_m6 26 rfl) rfl
theorem q1356 : (Jvm.Cond.methodLink "HornHousesLaw" (205 : Nat) ({ cls := "HornHousesLaw", name := "worn", desc := "(LHornHouses;II[J)I" } : Jvm.MethodName)) ∈ lw_all := lw_g (lw_at lw_m6 35 rfl) rfl
theorem q1357 : (Jvm.Cond.static ({ cls := "HornHousesLaw", name := "worn", desc := "(LHornHouses;II[J)I" } : Jvm.MethodName)) ∈ lw_all := lw_g (lw_at lw_m6 36 rfl) rfl
theorem q1358 : (Jvm.Cond.codeWith ({ cls := "HornHousesLaw", name := "worn", desc := "(LHornHouses;II[J)I" } : Jvm.MethodName) method_13_code (5 : Nat) (Option.some Jvm.ClassFile.FieldType.int) [((0 : Nat), (10 : Nat), (13 : Nat), (18 : Nat)), ((0 : Nat), (10 : Nat), (17 : Nat), (13 : Nat))]) ∈ lw_all := lw_g (lw_at lw_m6 37 rfl) rfl
theorem q1359 : (Jvm.Cond.methodLink "HornHousesLaw" (47 : Nat) ({ cls := "HornHouses", name := "worn", desc := "(II)I" } : Jvm.MethodName)) ∈ lw_all := lw_g (lw_at lw_m6 38 rfl) rfl
theorem q1363 : (Jvm.Cond.methodLink "HornHousesLaw" (208 : Nat) ({ cls := "HornHousesLaw", name := "burst", desc := "(LHornHouses;I[J)I" } : Jvm.MethodName)) ∈ lw_all := lw_g (lw_at lw_m6 42 rfl) rfl
theorem q1364 : (Jvm.Cond.static ({ cls := "HornHousesLaw", name := "burst", desc := "(LHornHouses;I[J)I" } : Jvm.MethodName)) ∈ lw_all := lw_g (lw_at lw_m6 43 rfl) rfl
theorem q1365 : (Jvm.Cond.codeWith ({ cls := "HornHousesLaw", name := "burst", desc := "(LHornHouses;I[J)I" } : Jvm.MethodName) method_14_code (4 : Nat) (Option.some Jvm.ClassFile.FieldType.int) [((0 : Nat), (9 : Nat), (12 : Nat), (18 : Nat))]) ∈ lw_all := lw_g (lw_at lw_m6 44 rfl) rfl
theorem q1366 : (Jvm.Cond.methodLink "HornHousesLaw" (50 : Nat) ({ cls := "HornHouses", name := "burst", desc := "(I)I" } : Jvm.MethodName)) ∈ lw_all := lw_g (lw_at lw_m6 45 rfl) rfl
theorem q1375 : (Jvm.Cond.methodLink "HornHousesLaw" (211 : Nat) ({ cls := "HornHousesLaw", name := "wriggles", desc := "(LHornHouses;I[J)I" } : Jvm.MethodName)) ∈ lw_all := lw_g (lw_at lw_m6 54 rfl) rfl
theorem q1376 : (Jvm.Cond.static ({ cls := "HornHousesLaw", name := "wriggles", desc := "(LHornHouses;I[J)I" } : Jvm.MethodName)) ∈ lw_all := lw_g (lw_at lw_m6 55 rfl) rfl
theorem q1377 : (Jvm.Cond.codeWith ({ cls := "HornHousesLaw", name := "wriggles", desc := "(LHornHouses;I[J)I" } : Jvm.MethodName) method_15_code (4 : Nat) (Option.some Jvm.ClassFile.FieldType.int) [((0 : Nat), (9 : Nat), (12 : Nat), (18 : Nat))]) ∈ lw_all := lw_g (lw_at lw_m6 56 rfl) rfl
theorem q1378 : (Jvm.Cond.methodLink "HornHousesLaw" (53 : Nat) ({ cls := "HornHouses", name := "wriggles", desc := "(I)I" } : Jvm.MethodName)) ∈ lw_all := lw_g (lw_at lw_m6 57 rfl) rfl
theorem q1382 : (Jvm.Cond.methodLink "HornHousesLaw" (214 : Nat) ({ cls := "HornHousesLaw", name := "barefoot", desc := "(LHornHouses;I[J)I" } : Jvm.MethodName)) ∈ lw_all := lw_g (lw_at lw_m6 61 rfl) rfl
theorem q1383 : (Jvm.Cond.static ({ cls := "HornHousesLaw", name := "barefoot", desc := "(LHornHouses;I[J)I" } : Jvm.MethodName)) ∈ lw_all := lw_g (lw_at lw_m6 62 rfl) rfl
theorem q1384 : (Jvm.Cond.codeWith ({ cls := "HornHousesLaw", name := "barefoot", desc := "(LHornHouses;I[J)I" } : Jvm.MethodName) method_16_code (4 : Nat) (Option.some Jvm.ClassFile.FieldType.int) [((0 : Nat), (9 : Nat), (12 : Nat), (13 : Nat))]) ∈ lw_all := lw_g (lw_at lw_m6 63 rfl) rfl
theorem q1385 : (Jvm.Cond.methodLink "HornHousesLaw" (56 : Nat) ({ cls := "HornHouses", name := "barefoot", desc := "(I)I" } : Jvm.MethodName)) ∈ lw_all := lw_g (lw_at lw_m6 64 rfl) rfl
theorem q1389 : (Jvm.Cond.methodLink "HornHousesLaw" (217 : Nat) ({ cls := "HornHousesLaw", name := "last", desc := "(LHornHouses;I[J)I" } : Jvm.MethodName)) ∈ lw_all := lw_g (lw_at lw_m6 68 rfl) rfl
theorem q1390 : (Jvm.Cond.static ({ cls := "HornHousesLaw", name := "last", desc := "(LHornHouses;I[J)I" } : Jvm.MethodName)) ∈ lw_all := lw_g (lw_at lw_m6 69 rfl) rfl
theorem q1391 : (Jvm.Cond.codeWith ({ cls := "HornHousesLaw", name := "last", desc := "(LHornHouses;I[J)I" } : Jvm.MethodName) method_17_code (4 : Nat) (Option.some Jvm.ClassFile.FieldType.int) [((0 : Nat), (9 : Nat), (12 : Nat), (18 : Nat))]) ∈ lw_all := lw_g (lw_at lw_m6 70 rfl) rfl
theorem q1392 : (Jvm.Cond.methodLink "HornHousesLaw" (59 : Nat) ({ cls := "HornHouses", name := "last", desc := "(I)I" } : Jvm.MethodName)) ∈ lw_all := lw_g (lw_at lw_m6 71 rfl) rfl
theorem q1397 : (Jvm.Cond.methodLink "HornHousesLaw" (220 : Nat) ({ cls := "HornHousesLaw", name := "goes", desc := "(LHornHouses;I[J)I" } : Jvm.MethodName)) ∈ lw_all := lw_g (lw_at lw_m6 76 rfl) rfl
theorem q1398 : (Jvm.Cond.static ({ cls := "HornHousesLaw", name := "goes", desc := "(LHornHouses;I[J)I" } : Jvm.MethodName)) ∈ lw_all := lw_g (lw_at lw_m6 77 rfl) rfl
theorem q1399 : (Jvm.Cond.codeWith ({ cls := "HornHousesLaw", name := "goes", desc := "(LHornHouses;I[J)I" } : Jvm.MethodName) method_18_code (4 : Nat) (Option.some Jvm.ClassFile.FieldType.int) [((0 : Nat), (9 : Nat), (12 : Nat), (18 : Nat))]) ∈ lw_all := lw_g (lw_at lw_m6 78 rfl) rfl
theorem q1400 : (Jvm.Cond.methodLink "HornHousesLaw" (62 : Nat) ({ cls := "HornHouses", name := "goes", desc := "(I)I" } : Jvm.MethodName)) ∈ lw_all := lw_g (lw_at lw_m6 79 rfl) rfl
theorem q1404 : (Jvm.Cond.methodLink "HornHousesLaw" (223 : Nat) ({ cls := "HornHousesLaw", name := "match", desc := "(LHornHouses;I[J)I" } : Jvm.MethodName)) ∈ lw_all := lw_g (lw_at lw_m6 83 rfl) rfl
theorem q1405 : (Jvm.Cond.static ({ cls := "HornHousesLaw", name := "match", desc := "(LHornHouses;I[J)I" } : Jvm.MethodName)) ∈ lw_all := lw_g (lw_at lw_m6 84 rfl) rfl
theorem q1406 : (Jvm.Cond.codeWith ({ cls := "HornHousesLaw", name := "match", desc := "(LHornHouses;I[J)I" } : Jvm.MethodName) method_19_code (4 : Nat) (Option.some Jvm.ClassFile.FieldType.int) [((0 : Nat), (9 : Nat), (12 : Nat), (18 : Nat))]) ∈ lw_all := lw_g (lw_at lw_m6 85 rfl) rfl
theorem q1407 : (Jvm.Cond.methodLink "HornHousesLaw" (65 : Nat) ({ cls := "HornHouses", name := "match", desc := "(I)I" } : Jvm.MethodName)) ∈ lw_all := lw_g (lw_at lw_m6 86 rfl) rfl
theorem q1411 : (Jvm.Cond.methodLink "HornHousesLaw" (226 : Nat) ({ cls := "HornHousesLaw", name := "matched", desc := "(LHornHouses;I[J)I" } : Jvm.MethodName)) ∈ lw_all := lw_g (lw_at lw_m6 90 rfl) rfl
theorem q1412 : (Jvm.Cond.static ({ cls := "HornHousesLaw", name := "matched", desc := "(LHornHouses;I[J)I" } : Jvm.MethodName)) ∈ lw_all := lw_g (lw_at lw_m6 91 rfl) rfl
theorem q1413 : (Jvm.Cond.codeWith ({ cls := "HornHousesLaw", name := "matched", desc := "(LHornHouses;I[J)I" } : Jvm.MethodName) method_20_code (4 : Nat) (Option.some Jvm.ClassFile.FieldType.int) [((0 : Nat), (9 : Nat), (12 : Nat), (18 : Nat))]) ∈ lw_all := lw_g (lw_at lw_m6 92 rfl) rfl
theorem q1414 : (Jvm.Cond.methodLink "HornHousesLaw" (68 : Nat) ({ cls := "HornHouses", name := "matched", desc := "(I)I" } : Jvm.MethodName)) ∈ lw_all := lw_g (lw_at lw_m6 93 rfl) rfl
theorem q1418 : (Jvm.Cond.methodLink "HornHousesLaw" (229 : Nat) ({ cls := "HornHousesLaw", name := "trade", desc := "(LHornHouses;I[J)I" } : Jvm.MethodName)) ∈ lw_all := lw_g (lw_at lw_m6 97 rfl) rfl
theorem q1419 : (Jvm.Cond.static ({ cls := "HornHousesLaw", name := "trade", desc := "(LHornHouses;I[J)I" } : Jvm.MethodName)) ∈ lw_all := lw_g (lw_at lw_m6 98 rfl) rfl
theorem q1420 : (Jvm.Cond.codeWith ({ cls := "HornHousesLaw", name := "trade", desc := "(LHornHouses;I[J)I" } : Jvm.MethodName) method_21_code (4 : Nat) (Option.some Jvm.ClassFile.FieldType.int) [((0 : Nat), (9 : Nat), (12 : Nat), (18 : Nat))]) ∈ lw_all := lw_g (lw_at lw_m6 99 rfl) rfl
theorem q1421 : (Jvm.Cond.methodLink "HornHousesLaw" (71 : Nat) ({ cls := "HornHouses", name := "trade", desc := "(I)I" } : Jvm.MethodName)) ∈ lw_all := lw_g (lw_at lw_m6 100 rfl) rfl
theorem q1437 : (Jvm.Cond.methodLink "HornHousesLaw" (232 : Nat) ({ cls := "HornHousesLaw", name := "toStuff", desc := "(LHornHouses;II[J)I" } : Jvm.MethodName)) ∈ lw_all := lw_g (lw_at lw_m6 116 rfl) rfl
theorem q1438 : (Jvm.Cond.static ({ cls := "HornHousesLaw", name := "toStuff", desc := "(LHornHouses;II[J)I" } : Jvm.MethodName)) ∈ lw_all := lw_g (lw_at lw_m6 117 rfl) rfl
theorem q1439 : (Jvm.Cond.codeWith ({ cls := "HornHousesLaw", name := "toStuff", desc := "(LHornHouses;II[J)I" } : Jvm.MethodName) method_22_code (5 : Nat) (Option.some Jvm.ClassFile.FieldType.int) [((0 : Nat), (10 : Nat), (13 : Nat), (18 : Nat))]) ∈ lw_all := lw_g (lw_at lw_m6 118 rfl) rfl
theorem q1440 : (Jvm.Cond.methodLink "HornHousesLaw" (74 : Nat) ({ cls := "HornHouses", name := "toStuff", desc := "(II)I" } : Jvm.MethodName)) ∈ lw_all := lw_g (lw_at lw_m6 119 rfl) rfl
theorem q1444 : (Jvm.Cond.methodLink "HornHousesLaw" (235 : Nat) ({ cls := "HornHousesLaw", name := "toWait", desc := "(LHornHouses;II[J)I" } : Jvm.MethodName)) ∈ lw_all := lw_g (lw_at lw_m6 123 rfl) rfl
theorem q1445 : (Jvm.Cond.static ({ cls := "HornHousesLaw", name := "toWait", desc := "(LHornHouses;II[J)I" } : Jvm.MethodName)) ∈ lw_all := lw_g (lw_at lw_m6 124 rfl) rfl
theorem q1446 : (Jvm.Cond.codeWith ({ cls := "HornHousesLaw", name := "toWait", desc := "(LHornHouses;II[J)I" } : Jvm.MethodName) method_23_code (5 : Nat) (Option.some Jvm.ClassFile.FieldType.int) [((0 : Nat), (10 : Nat), (13 : Nat), (18 : Nat))]) ∈ lw_all := lw_g (lw_at lw_m6 125 rfl) rfl
theorem q1447 : (Jvm.Cond.methodLink "HornHousesLaw" (77 : Nat) ({ cls := "HornHouses", name := "toWait", desc := "(II)I" } : Jvm.MethodName)) ∈ lw_all := lw_g (lw_at lw_m6 126 rfl) rfl
theorem q1451 : (Jvm.Cond.methodLink "HornHousesLaw" (238 : Nat) ({ cls := "HornHousesLaw", name := "round", desc := "(LHornHouses;I[J)I" } : Jvm.MethodName)) ∈ lw_all := lw_g (lw_at lw_m6 130 rfl) rfl
theorem q1452 : (Jvm.Cond.static ({ cls := "HornHousesLaw", name := "round", desc := "(LHornHouses;I[J)I" } : Jvm.MethodName)) ∈ lw_all := lw_g (lw_at lw_m6 131 rfl) rfl
theorem q1453 : (Jvm.Cond.codeWith ({ cls := "HornHousesLaw", name := "round", desc := "(LHornHouses;I[J)I" } : Jvm.MethodName) method_24_code (4 : Nat) (Option.some Jvm.ClassFile.FieldType.int) [((0 : Nat), (9 : Nat), (12 : Nat), (13 : Nat))]) ∈ lw_all := lw_g (lw_at lw_m6 132 rfl) rfl
theorem q1454 : (Jvm.Cond.methodLink "HornHousesLaw" (80 : Nat) ({ cls := "HornHouses", name := "round", desc := "(I)I" } : Jvm.MethodName)) ∈ lw_all := lw_g (lw_at lw_m6 133 rfl) rfl
theorem q1458 : (Jvm.Cond.methodLink "HornHousesLaw" (241 : Nat) ({ cls := "HornHousesLaw", name := "see", desc := "(LHornHouses;III[J)I" } : Jvm.MethodName)) ∈ lw_all := lw_g (lw_at lw_m6 137 rfl) rfl
theorem q1459 : (Jvm.Cond.static ({ cls := "HornHousesLaw", name := "see", desc := "(LHornHouses;III[J)I" } : Jvm.MethodName)) ∈ lw_all := lw_g (lw_at lw_m6 138 rfl) rfl
theorem q1460 : (Jvm.Cond.codeWith ({ cls := "HornHousesLaw", name := "see", desc := "(LHornHouses;III[J)I" } : Jvm.MethodName) method_25_code (6 : Nat) (Option.some Jvm.ClassFile.FieldType.int) [((0 : Nat), (12 : Nat), (15 : Nat), (18 : Nat))]) ∈ lw_all := lw_g (lw_at lw_m6 139 rfl) rfl
theorem q1461 : (Jvm.Cond.methodLink "HornHousesLaw" (83 : Nat) ({ cls := "HornHouses", name := "see", desc := "(III)I" } : Jvm.MethodName)) ∈ lw_all := lw_g (lw_at lw_m6 140 rfl) rfl
theorem q1465 : (Jvm.Cond.methodLink "HornHousesLaw" (248 : Nat) ({ cls := "HornHousesLaw", name := "large", desc := "(LHornHouses;I[J)I" } : Jvm.MethodName)) ∈ lw_all := lw_g (lw_at lw_m6 144 rfl) rfl
theorem q1466 : (Jvm.Cond.static ({ cls := "HornHousesLaw", name := "large", desc := "(LHornHouses;I[J)I" } : Jvm.MethodName)) ∈ lw_all := lw_g (lw_at lw_m6 145 rfl) rfl
theorem q1467 : (Jvm.Cond.codeWith ({ cls := "HornHousesLaw", name := "large", desc := "(LHornHouses;I[J)I" } : Jvm.MethodName) method_26_code (4 : Nat) (Option.some Jvm.ClassFile.FieldType.int) [((0 : Nat), (9 : Nat), (12 : Nat), (18 : Nat))]) ∈ lw_all := lw_g (lw_at lw_m6 146 rfl) rfl
theorem q1468 : (Jvm.Cond.methodLink "HornHousesLaw" (86 : Nat) ({ cls := "HornHouses", name := "large", desc := "(I)I" } : Jvm.MethodName)) ∈ lw_all := lw_g (lw_at lw_m6 147 rfl) rfl
theorem q1482 : (Jvm.Cond.methodLink "HornHousesLaw" (251 : Nat) ({ cls := "HornHousesLaw", name := "next", desc := "(LHornHouses;I[J)I" } : Jvm.MethodName)) ∈ lw_all := lw_g (lw_at lw_m6 161 rfl) rfl
theorem q1483 : (Jvm.Cond.static ({ cls := "HornHousesLaw", name := "next", desc := "(LHornHouses;I[J)I" } : Jvm.MethodName)) ∈ lw_all := lw_g (lw_at lw_m6 162 rfl) rfl
theorem q1484 : (Jvm.Cond.codeWith ({ cls := "HornHousesLaw", name := "next", desc := "(LHornHouses;I[J)I" } : Jvm.MethodName) method_27_code (4 : Nat) (Option.some Jvm.ClassFile.FieldType.int) [((0 : Nat), (9 : Nat), (12 : Nat), (18 : Nat))]) ∈ lw_all := lw_g (lw_at lw_m6 163 rfl) rfl
theorem q1485 : (Jvm.Cond.methodLink "HornHousesLaw" (89 : Nat) ({ cls := "HornHouses", name := "next", desc := "(I)I" } : Jvm.MethodName)) ∈ lw_all := lw_g (lw_at lw_m6 164 rfl) rfl
theorem q1489 : (Jvm.Cond.methodLink "HornHousesLaw" (254 : Nat) ({ cls := "HornHousesLaw", name := "byDamp", desc := "(LHornHouses;III[J)I" } : Jvm.MethodName)) ∈ lw_all := lw_g (lw_at lw_m6 168 rfl) rfl
theorem q1490 : (Jvm.Cond.static ({ cls := "HornHousesLaw", name := "byDamp", desc := "(LHornHouses;III[J)I" } : Jvm.MethodName)) ∈ lw_all := lw_g (lw_at lw_m6 169 rfl) rfl
theorem q1491 : (Jvm.Cond.codeWith ({ cls := "HornHousesLaw", name := "byDamp", desc := "(LHornHouses;III[J)I" } : Jvm.MethodName) method_28_code (6 : Nat) (Option.some Jvm.ClassFile.FieldType.int) [((0 : Nat), (12 : Nat), (15 : Nat), (18 : Nat)), ((0 : Nat), (12 : Nat), (19 : Nat), (13 : Nat))]) ∈ lw_all := lw_g (lw_at lw_m6 170 rfl) rfl
theorem q1492 : (Jvm.Cond.methodLink "HornHousesLaw" (92 : Nat) ({ cls := "HornHouses", name := "byDamp", desc := "(III)I" } : Jvm.MethodName)) ∈ lw_all := lw_g (lw_at lw_m6 171 rfl) rfl
theorem q1496 : (Jvm.Cond.methodLink "HornHousesLaw" (257 : Nat) ({ cls := "HornHousesLaw", name := "game", desc := "(LHornHouses;IIII[J)I" } : Jvm.MethodName)) ∈ lw_all := lw_g (lw_at lw_m6 175 rfl) rfl
theorem q1497 : (Jvm.Cond.static ({ cls := "HornHousesLaw", name := "game", desc := "(LHornHouses;IIII[J)I" } : Jvm.MethodName)) ∈ lw_all := lw_g (lw_at lw_m6 176 rfl) rfl
theorem q1498 : (Jvm.Cond.codeWith ({ cls := "HornHousesLaw", name := "game", desc := "(LHornHouses;IIII[J)I" } : Jvm.MethodName) method_29_code (7 : Nat) (Option.some Jvm.ClassFile.FieldType.int) [((0 : Nat), (14 : Nat), (17 : Nat), (18 : Nat)), ((0 : Nat), (14 : Nat), (21 : Nat), (13 : Nat))]) ∈ lw_all := lw_g (lw_at lw_m6 177 rfl) rfl
theorem q1499 : (Jvm.Cond.methodLink "HornHousesLaw" (95 : Nat) ({ cls := "HornHouses", name := "game", desc := "(IIII)I" } : Jvm.MethodName)) ∈ lw_all := lw_g (lw_at lw_m6 178 rfl) rfl
theorem q1511 : (Jvm.Cond.methodLink "HornHousesLaw" (261 : Nat) ({ cls := "HornHousesLaw", name := "years", desc := "(LHornHouses;III[J)I" } : Jvm.MethodName)) ∈ lw_all := lw_g (lw_at lw_m6 190 rfl) rfl
theorem q1512 : (Jvm.Cond.static ({ cls := "HornHousesLaw", name := "years", desc := "(LHornHouses;III[J)I" } : Jvm.MethodName)) ∈ lw_all := lw_g (lw_at lw_m6 191 rfl) rfl
theorem q1513 : (Jvm.Cond.codeWith ({ cls := "HornHousesLaw", name := "years", desc := "(LHornHouses;III[J)I" } : Jvm.MethodName) method_30_code (6 : Nat) (Option.some Jvm.ClassFile.FieldType.int) [((0 : Nat), (12 : Nat), (15 : Nat), (18 : Nat)), ((0 : Nat), (12 : Nat), (19 : Nat), (13 : Nat))]) ∈ lw_all := lw_g (lw_at lw_m6 192 rfl) rfl
theorem q1514 : (Jvm.Cond.methodLink "HornHousesLaw" (99 : Nat) ({ cls := "HornHouses", name := "years", desc := "(III)I" } : Jvm.MethodName)) ∈ lw_all := lw_g (lw_at lw_m6 193 rfl) rfl
theorem q1533 : (Jvm.Cond.methodLink "HornHousesLaw" (264 : Nat) ({ cls := "HornHousesLaw", name := "heirs", desc := "(LHornHouses;I[J)I" } : Jvm.MethodName)) ∈ lw_all := lw_g (lw_at lw_m6 212 rfl) rfl
theorem q1534 : (Jvm.Cond.static ({ cls := "HornHousesLaw", name := "heirs", desc := "(LHornHouses;I[J)I" } : Jvm.MethodName)) ∈ lw_all := lw_g (lw_at lw_m6 213 rfl) rfl
theorem q1535 : (Jvm.Cond.codeWith ({ cls := "HornHousesLaw", name := "heirs", desc := "(LHornHouses;I[J)I" } : Jvm.MethodName) method_31_code (4 : Nat) (Option.some Jvm.ClassFile.FieldType.int) [((0 : Nat), (9 : Nat), (12 : Nat), (18 : Nat))]) ∈ lw_all := lw_g (lw_at lw_m6 214 rfl) rfl
theorem q1536 : (Jvm.Cond.methodLink "HornHousesLaw" (102 : Nat) ({ cls := "HornHouses", name := "heirs", desc := "(I)I" } : Jvm.MethodName)) ∈ lw_all := lw_g (lw_at lw_m6 215 rfl) rfl
theorem q1540 : (Jvm.Cond.methodLink "HornHousesLaw" (267 : Nat) ({ cls := "HornHousesLaw", name := "toGrow", desc := "(LHornHouses;II[J)I" } : Jvm.MethodName)) ∈ lw_all := lw_g (lw_at lw_m6 219 rfl) rfl
theorem q1541 : (Jvm.Cond.static ({ cls := "HornHousesLaw", name := "toGrow", desc := "(LHornHouses;II[J)I" } : Jvm.MethodName)) ∈ lw_all := lw_g (lw_at lw_m6 220 rfl) rfl
theorem q1542 : (Jvm.Cond.codeWith ({ cls := "HornHousesLaw", name := "toGrow", desc := "(LHornHouses;II[J)I" } : Jvm.MethodName) method_32_code (5 : Nat) (Option.some Jvm.ClassFile.FieldType.int) [((0 : Nat), (10 : Nat), (13 : Nat), (18 : Nat))]) ∈ lw_all := lw_g (lw_at lw_m6 221 rfl) rfl
theorem q1543 : (Jvm.Cond.methodLink "HornHousesLaw" (105 : Nat) ({ cls := "HornHouses", name := "toGrow", desc := "(II)I" } : Jvm.MethodName)) ∈ lw_all := lw_g (lw_at lw_m6 222 rfl) rfl
theorem q1547 : (Jvm.Cond.methodLink "HornHousesLaw" (270 : Nat) ({ cls := "HornHousesLaw", name := "paid", desc := "(LHornHouses;I[J)I" } : Jvm.MethodName)) ∈ lw_all := lw_g (lw_at lw_m6 226 rfl) rfl
theorem q1548 : (Jvm.Cond.static ({ cls := "HornHousesLaw", name := "paid", desc := "(LHornHouses;I[J)I" } : Jvm.MethodName)) ∈ lw_all := lw_g (lw_at lw_m6 227 rfl) rfl
theorem q1549 : (Jvm.Cond.codeWith ({ cls := "HornHousesLaw", name := "paid", desc := "(LHornHouses;I[J)I" } : Jvm.MethodName) method_33_code (4 : Nat) (Option.some Jvm.ClassFile.FieldType.int) [((0 : Nat), (9 : Nat), (12 : Nat), (13 : Nat))]) ∈ lw_all := lw_g (lw_at lw_m6 228 rfl) rfl
theorem q1550 : (Jvm.Cond.methodLink "HornHousesLaw" (108 : Nat) ({ cls := "HornHouses", name := "paid", desc := "(I)I" } : Jvm.MethodName)) ∈ lw_all := lw_g (lw_at lw_m6 229 rfl) rfl
theorem q1554 : (Jvm.Cond.methodLink "HornHousesLaw" (273 : Nat) ({ cls := "HornHousesLaw", name := "wornest", desc := "(LHornHouses;I[J)I" } : Jvm.MethodName)) ∈ lw_all := lw_g (lw_at lw_m6 233 rfl) rfl
theorem q1555 : (Jvm.Cond.static ({ cls := "HornHousesLaw", name := "wornest", desc := "(LHornHouses;I[J)I" } : Jvm.MethodName)) ∈ lw_all := lw_g (lw_at lw_m6 234 rfl) rfl
theorem q1556 : (Jvm.Cond.codeWith ({ cls := "HornHousesLaw", name := "wornest", desc := "(LHornHouses;I[J)I" } : Jvm.MethodName) method_34_code (4 : Nat) (Option.some Jvm.ClassFile.FieldType.int) [((0 : Nat), (9 : Nat), (12 : Nat), (13 : Nat))]) ∈ lw_all := lw_g (lw_at lw_m6 235 rfl) rfl
theorem q1557 : (Jvm.Cond.methodLink "HornHousesLaw" (111 : Nat) ({ cls := "HornHouses", name := "wornest", desc := "(I)I" } : Jvm.MethodName)) ∈ lw_all := lw_g (lw_at lw_m6 236 rfl) rfl
theorem q1561 : (Jvm.Cond.methodLink "HornHousesLaw" (276 : Nat) ({ cls := "HornHousesLaw", name := "dampest", desc := "(LHornHouses;I[J)I" } : Jvm.MethodName)) ∈ lw_all := lw_g (lw_at lw_m7 0 rfl) rfl
theorem q1562 : (Jvm.Cond.static ({ cls := "HornHousesLaw", name := "dampest", desc := "(LHornHouses;I[J)I" } : Jvm.MethodName)) ∈ lw_all := lw_g (lw_at lw_m7 1 rfl) rfl
theorem q1563 : (Jvm.Cond.codeWith ({ cls := "HornHousesLaw", name := "dampest", desc := "(LHornHouses;I[J)I" } : Jvm.MethodName) method_35_code (4 : Nat) (Option.some Jvm.ClassFile.FieldType.int) [((0 : Nat), (9 : Nat), (12 : Nat), (13 : Nat))]) ∈ lw_all := lw_g (lw_at lw_m7 2 rfl) rfl
theorem q1564 : (Jvm.Cond.methodLink "HornHousesLaw" (114 : Nat) ({ cls := "HornHouses", name := "dampest", desc := "(I)I" } : Jvm.MethodName)) ∈ lw_all := lw_g (lw_at lw_m7 3 rfl) rfl
theorem q1568 : (Jvm.Cond.methodLink "HornHousesLaw" (279 : Nat) ({ cls := "HornHousesLaw", name := "kept", desc := "(LHornHouses;I[J)I" } : Jvm.MethodName)) ∈ lw_all := lw_g (lw_at lw_m7 7 rfl) rfl
theorem q1569 : (Jvm.Cond.static ({ cls := "HornHousesLaw", name := "kept", desc := "(LHornHouses;I[J)I" } : Jvm.MethodName)) ∈ lw_all := lw_g (lw_at lw_m7 8 rfl) rfl
theorem q1570 : (Jvm.Cond.codeWith ({ cls := "HornHousesLaw", name := "kept", desc := "(LHornHouses;I[J)I" } : Jvm.MethodName) method_36_code (4 : Nat) (Option.some Jvm.ClassFile.FieldType.int) [((0 : Nat), (9 : Nat), (12 : Nat), (13 : Nat))]) ∈ lw_all := lw_g (lw_at lw_m7 9 rfl) rfl
theorem q1571 : (Jvm.Cond.methodLink "HornHousesLaw" (117 : Nat) ({ cls := "HornHouses", name := "kept", desc := "(I)I" } : Jvm.MethodName)) ∈ lw_all := lw_g (lw_at lw_m7 10 rfl) rfl
theorem q1575 : (Jvm.Cond.methodLink "HornHousesLaw" (282 : Nat) ({ cls := "HornHousesLaw", name := "sorest", desc := "(LHornHouses;I[J)I" } : Jvm.MethodName)) ∈ lw_all := lw_g (lw_at lw_m7 14 rfl) rfl
theorem q1576 : (Jvm.Cond.static ({ cls := "HornHousesLaw", name := "sorest", desc := "(LHornHouses;I[J)I" } : Jvm.MethodName)) ∈ lw_all := lw_g (lw_at lw_m7 15 rfl) rfl
theorem q1577 : (Jvm.Cond.codeWith ({ cls := "HornHousesLaw", name := "sorest", desc := "(LHornHouses;I[J)I" } : Jvm.MethodName) method_37_code (4 : Nat) (Option.some Jvm.ClassFile.FieldType.int) [((0 : Nat), (9 : Nat), (12 : Nat), (13 : Nat))]) ∈ lw_all := lw_g (lw_at lw_m7 16 rfl) rfl
theorem q1578 : (Jvm.Cond.methodLink "HornHousesLaw" (120 : Nat) ({ cls := "HornHouses", name := "sorest", desc := "(I)I" } : Jvm.MethodName)) ∈ lw_all := lw_g (lw_at lw_m7 17 rfl) rfl
theorem q1582 : (Jvm.Cond.methodLink "HornHousesLaw" (285 : Nat) ({ cls := "HornHousesLaw", name := "eased", desc := "(LHornHouses;III[J)I" } : Jvm.MethodName)) ∈ lw_all := lw_g (lw_at lw_m7 21 rfl) rfl
theorem q1583 : (Jvm.Cond.static ({ cls := "HornHousesLaw", name := "eased", desc := "(LHornHouses;III[J)I" } : Jvm.MethodName)) ∈ lw_all := lw_g (lw_at lw_m7 22 rfl) rfl
theorem q1584 : (Jvm.Cond.codeWith ({ cls := "HornHousesLaw", name := "eased", desc := "(LHornHouses;III[J)I" } : Jvm.MethodName) method_38_code (6 : Nat) (Option.some Jvm.ClassFile.FieldType.int) [((0 : Nat), (12 : Nat), (15 : Nat), (18 : Nat)), ((0 : Nat), (12 : Nat), (19 : Nat), (13 : Nat))]) ∈ lw_all := lw_g (lw_at lw_m7 23 rfl) rfl
theorem q1585 : (Jvm.Cond.methodLink "HornHousesLaw" (123 : Nat) ({ cls := "HornHouses", name := "eased", desc := "(III)I" } : Jvm.MethodName)) ∈ lw_all := lw_g (lw_at lw_m7 24 rfl) rfl
theorem q1589 : (Jvm.Cond.methodLink "HornHousesLaw" (288 : Nat) ({ cls := "HornHousesLaw", name := "free", desc := "(LHornHouses;I[J)I" } : Jvm.MethodName)) ∈ lw_all := lw_g (lw_at lw_m7 28 rfl) rfl
theorem q1590 : (Jvm.Cond.static ({ cls := "HornHousesLaw", name := "free", desc := "(LHornHouses;I[J)I" } : Jvm.MethodName)) ∈ lw_all := lw_g (lw_at lw_m7 29 rfl) rfl
theorem q1591 : (Jvm.Cond.codeWith ({ cls := "HornHousesLaw", name := "free", desc := "(LHornHouses;I[J)I" } : Jvm.MethodName) method_39_code (4 : Nat) (Option.some Jvm.ClassFile.FieldType.int) [((0 : Nat), (9 : Nat), (12 : Nat), (18 : Nat))]) ∈ lw_all := lw_g (lw_at lw_m7 30 rfl) rfl
theorem q1592 : (Jvm.Cond.methodLink "HornHousesLaw" (126 : Nat) ({ cls := "HornHouses", name := "free", desc := "(I)I" } : Jvm.MethodName)) ∈ lw_all := lw_g (lw_at lw_m7 31 rfl) rfl
theorem q1596 : (Jvm.Cond.methodLink "HornHousesLaw" (291 : Nat) ({ cls := "HornHousesLaw", name := "larger", desc := "(LHornHouses;I[J)I" } : Jvm.MethodName)) ∈ lw_all := lw_g (lw_at lw_m7 35 rfl) rfl
theorem q1597 : (Jvm.Cond.static ({ cls := "HornHousesLaw", name := "larger", desc := "(LHornHouses;I[J)I" } : Jvm.MethodName)) ∈ lw_all := lw_g (lw_at lw_m7 36 rfl) rfl
theorem q1598 : (Jvm.Cond.codeWith ({ cls := "HornHousesLaw", name := "larger", desc := "(LHornHouses;I[J)I" } : Jvm.MethodName) method_40_code (4 : Nat) (Option.some Jvm.ClassFile.FieldType.int) [((0 : Nat), (9 : Nat), (12 : Nat), (18 : Nat))]) ∈ lw_all := lw_g (lw_at lw_m7 37 rfl) rfl
theorem q1599 : (Jvm.Cond.methodLink "HornHousesLaw" (129 : Nat) ({ cls := "HornHouses", name := "larger", desc := "(I)I" } : Jvm.MethodName)) ∈ lw_all := lw_g (lw_at lw_m7 38 rfl) rfl
theorem q1603 : (Jvm.Cond.methodLink "HornHousesLaw" (294 : Nat) ({ cls := "HornHousesLaw", name := "wide", desc := "(LHornHouses;I[J)I" } : Jvm.MethodName)) ∈ lw_all := lw_g (lw_at lw_m7 42 rfl) rfl
theorem q1604 : (Jvm.Cond.static ({ cls := "HornHousesLaw", name := "wide", desc := "(LHornHouses;I[J)I" } : Jvm.MethodName)) ∈ lw_all := lw_g (lw_at lw_m7 43 rfl) rfl
theorem q1605 : (Jvm.Cond.codeWith ({ cls := "HornHousesLaw", name := "wide", desc := "(LHornHouses;I[J)I" } : Jvm.MethodName) method_41_code (4 : Nat) (Option.some Jvm.ClassFile.FieldType.int) [((0 : Nat), (9 : Nat), (12 : Nat), (13 : Nat))]) ∈ lw_all := lw_g (lw_at lw_m7 44 rfl) rfl
theorem q1606 : (Jvm.Cond.methodLink "HornHousesLaw" (132 : Nat) ({ cls := "HornHouses", name := "wide", desc := "(I)I" } : Jvm.MethodName)) ∈ lw_all := lw_g (lw_at lw_m7 45 rfl) rfl
theorem q1610 : (Jvm.Cond.methodLink "HornHousesLaw" (297 : Nat) ({ cls := "HornHousesLaw", name := "endures", desc := "(LHornHouses;II[J)I" } : Jvm.MethodName)) ∈ lw_all := lw_g (lw_at lw_m7 49 rfl) rfl
theorem q1611 : (Jvm.Cond.static ({ cls := "HornHousesLaw", name := "endures", desc := "(LHornHouses;II[J)I" } : Jvm.MethodName)) ∈ lw_all := lw_g (lw_at lw_m7 50 rfl) rfl
theorem q1612 : (Jvm.Cond.codeWith ({ cls := "HornHousesLaw", name := "endures", desc := "(LHornHouses;II[J)I" } : Jvm.MethodName) method_42_code (5 : Nat) (Option.some Jvm.ClassFile.FieldType.int) [((0 : Nat), (10 : Nat), (13 : Nat), (18 : Nat))]) ∈ lw_all := lw_g (lw_at lw_m7 51 rfl) rfl
theorem q1613 : (Jvm.Cond.methodLink "HornHousesLaw" (135 : Nat) ({ cls := "HornHouses", name := "endures", desc := "(II)I" } : Jvm.MethodName)) ∈ lw_all := lw_g (lw_at lw_m7 52 rfl) rfl
theorem q1617 : (Jvm.Cond.methodLink "HornHousesLaw" (300 : Nat) ({ cls := "HornHousesLaw", name := "ringed", desc := "(LHornHouses;I[J)I" } : Jvm.MethodName)) ∈ lw_all := lw_g (lw_at lw_m7 56 rfl) rfl
theorem q1618 : (Jvm.Cond.static ({ cls := "HornHousesLaw", name := "ringed", desc := "(LHornHouses;I[J)I" } : Jvm.MethodName)) ∈ lw_all := lw_g (lw_at lw_m7 57 rfl) rfl
theorem q1619 : (Jvm.Cond.codeWith ({ cls := "HornHousesLaw", name := "ringed", desc := "(LHornHouses;I[J)I" } : Jvm.MethodName) method_43_code (4 : Nat) (Option.some Jvm.ClassFile.FieldType.int) [((0 : Nat), (9 : Nat), (12 : Nat), (18 : Nat))]) ∈ lw_all := lw_g (lw_at lw_m7 58 rfl) rfl
theorem q1620 : (Jvm.Cond.methodLink "HornHousesLaw" (138 : Nat) ({ cls := "HornHouses", name := "ringed", desc := "(I)I" } : Jvm.MethodName)) ∈ lw_all := lw_g (lw_at lw_m7 59 rfl) rfl
theorem q1624 : (Jvm.Cond.classLink "HornHousesLaw" (142 : Nat) "HornHousesModel") ∈ lw_all := lw_g (lw_at lw_m7 63 rfl) rfl
theorem q1626 : (Jvm.Cond.methodLink "HornHousesLaw" (144 : Nat) ({ cls := "HornHousesModel", name := "<init>", desc := "()V" } : Jvm.MethodName)) ∈ lw_all := lw_g (lw_at lw_m7 65 rfl) rfl
theorem q1818 : (Jvm.Cond.methodLink "HornHousesLaw" (156 : Nat) ({ cls := "HornHousesModel", name := "thrown", desc := "()I" } : Jvm.MethodName)) ∈ lw_all := lw_g (lw_at lw_m8 17 rfl) rfl
theorem q1822 : (Jvm.Cond.methodLink "HornHousesLaw" (149 : Nat) ({ cls := "HornHousesModel", name := "feed", desc := "(IIIII)I" } : Jvm.MethodName)) ∈ lw_all := lw_g (lw_at lw_m8 21 rfl) rfl
theorem q1830 : (Jvm.Cond.methodLink "HornHousesLaw" (155 : Nat) ({ cls := "HornHousesModel", name := "town", desc := "(I)I" } : Jvm.MethodName)) ∈ lw_all := lw_g (lw_at lw_m8 29 rfl) rfl
theorem q1949 : (Jvm.Cond.methodLink "HornHousesLaw" (163 : Nat) ({ cls := "HornHousesModel", name := "fault", desc := "()I" } : Jvm.MethodName)) ∈ lw_all := lw_g (lw_at lw_m8 148 rfl) rfl
theorem q1953 : (Jvm.Cond.methodLink "HornHousesLaw" (200 : Nat) ({ cls := "HornHousesModel", name := "undo", desc := "()I" } : Jvm.MethodName)) ∈ lw_all := lw_g (lw_at lw_m8 152 rfl) rfl
theorem q1957 : (Jvm.Cond.methodLink "HornHousesLaw" (166 : Nat) ({ cls := "HornHousesModel", name := "count", desc := "(I)I" } : Jvm.MethodName)) ∈ lw_all := lw_g (lw_at lw_m8 156 rfl) rfl
theorem q2046 : (Jvm.Cond.methodLink "HornHousesLaw" (170 : Nat) ({ cls := "HornHousesModel", name := "house", desc := "(II)I" } : Jvm.MethodName)) ∈ lw_all := lw_g (lw_at lw_m9 5 rfl) rfl
theorem q2069 : (Jvm.Cond.methodLink "HornHousesLaw" (173 : Nat) ({ cls := "HornHousesModel", name := "person", desc := "(II)I" } : Jvm.MethodName)) ∈ lw_all := lw_g (lw_at lw_m9 28 rfl) rfl
theorem q2077 : (Jvm.Cond.methodLink "HornHousesLaw" (176 : Nat) ({ cls := "HornHousesModel", name := "eases", desc := "(II)I" } : Jvm.MethodName)) ∈ lw_all := lw_g (lw_at lw_m9 36 rfl) rfl
theorem q2081 : (Jvm.Cond.methodLink "HornHousesLaw" (180 : Nat) ({ cls := "HornHousesModel", name := "days", desc := "(I)I" } : Jvm.MethodName)) ∈ lw_all := lw_g (lw_at lw_m9 40 rfl) rfl
theorem q2101 : (Jvm.Cond.methodLink "HornHousesLaw" (183 : Nat) ({ cls := "HornHousesModel", name := "putIn", desc := "(II)I" } : Jvm.MethodName)) ∈ lw_all := lw_g (lw_at lw_m9 60 rfl) rfl
theorem q2105 : (Jvm.Cond.methodLink "HornHousesLaw" (186 : Nat) ({ cls := "HornHousesModel", name := "out", desc := "(I)I" } : Jvm.MethodName)) ∈ lw_all := lw_g (lw_at lw_m9 64 rfl) rfl
theorem q2109 : (Jvm.Cond.methodLink "HornHousesLaw" (189 : Nat) ({ cls := "HornHousesModel", name := "stuff", desc := "(II)I" } : Jvm.MethodName)) ∈ lw_all := lw_g (lw_at lw_m9 68 rfl) rfl
theorem q2113 : (Jvm.Cond.methodLink "HornHousesLaw" (192 : Nat) ({ cls := "HornHousesModel", name := "change", desc := "(II)Z" } : Jvm.MethodName)) ∈ lw_all := lw_g (lw_at lw_m9 72 rfl) rfl
theorem q2117 : (Jvm.Cond.methodLink "HornHousesLaw" (196 : Nat) ({ cls := "HornHousesModel", name := "letIn", desc := "()I" } : Jvm.MethodName)) ∈ lw_all := lw_g (lw_at lw_m9 76 rfl) rfl
theorem q2121 : (Jvm.Cond.methodLink "HornHousesLaw" (204 : Nat) ({ cls := "HornHousesModel", name := "then", desc := "(III)I" } : Jvm.MethodName)) ∈ lw_all := lw_g (lw_at lw_m9 80 rfl) rfl
theorem q2141 : (Jvm.Cond.methodLink "HornHousesLaw" (207 : Nat) ({ cls := "HornHousesModel", name := "worn", desc := "(II)I" } : Jvm.MethodName)) ∈ lw_all := lw_g (lw_at lw_m9 100 rfl) rfl
theorem q2145 : (Jvm.Cond.methodLink "HornHousesLaw" (210 : Nat) ({ cls := "HornHousesModel", name := "burst", desc := "(I)I" } : Jvm.MethodName)) ∈ lw_all := lw_g (lw_at lw_m9 104 rfl) rfl
theorem q2153 : (Jvm.Cond.methodLink "HornHousesLaw" (213 : Nat) ({ cls := "HornHousesModel", name := "wriggles", desc := "(I)I" } : Jvm.MethodName)) ∈ lw_all := lw_g (lw_at lw_m9 112 rfl) rfl
theorem q2157 : (Jvm.Cond.methodLink "HornHousesLaw" (216 : Nat) ({ cls := "HornHousesModel", name := "barefoot", desc := "(I)I" } : Jvm.MethodName)) ∈ lw_all := lw_g (lw_at lw_m9 116 rfl) rfl
theorem q2161 : (Jvm.Cond.methodLink "HornHousesLaw" (219 : Nat) ({ cls := "HornHousesModel", name := "last", desc := "(I)I" } : Jvm.MethodName)) ∈ lw_all := lw_g (lw_at lw_m9 120 rfl) rfl
theorem q2165 : (Jvm.Cond.methodLink "HornHousesLaw" (222 : Nat) ({ cls := "HornHousesModel", name := "goes", desc := "(I)I" } : Jvm.MethodName)) ∈ lw_all := lw_g (lw_at lw_m9 124 rfl) rfl
theorem q2169 : (Jvm.Cond.methodLink "HornHousesLaw" (266 : Nat) ({ cls := "HornHousesModel", name := "heirs", desc := "(I)I" } : Jvm.MethodName)) ∈ lw_all := lw_g (lw_at lw_m9 128 rfl) rfl
theorem q2173 : (Jvm.Cond.methodLink "HornHousesLaw" (225 : Nat) ({ cls := "HornHousesModel", name := "match", desc := "(I)I" } : Jvm.MethodName)) ∈ lw_all := lw_g (lw_at lw_m9 132 rfl) rfl
theorem q2177 : (Jvm.Cond.methodLink "HornHousesLaw" (228 : Nat) ({ cls := "HornHousesModel", name := "matched", desc := "(I)I" } : Jvm.MethodName)) ∈ lw_all := lw_g (lw_at lw_m9 136 rfl) rfl
theorem q2181 : (Jvm.Cond.methodLink "HornHousesLaw" (231 : Nat) ({ cls := "HornHousesModel", name := "trade", desc := "(I)I" } : Jvm.MethodName)) ∈ lw_all := lw_g (lw_at lw_m9 140 rfl) rfl
theorem q2197 : (Jvm.Cond.methodLink "HornHousesLaw" (302 : Nat) ({ cls := "HornHousesModel", name := "ringed", desc := "(I)I" } : Jvm.MethodName)) ∈ lw_all := lw_g (lw_at lw_m9 156 rfl) rfl
theorem q2201 : (Jvm.Cond.methodLink "HornHousesLaw" (234 : Nat) ({ cls := "HornHousesModel", name := "toStuff", desc := "(II)I" } : Jvm.MethodName)) ∈ lw_all := lw_g (lw_at lw_m9 160 rfl) rfl
theorem q2205 : (Jvm.Cond.methodLink "HornHousesLaw" (237 : Nat) ({ cls := "HornHousesModel", name := "toWait", desc := "(II)I" } : Jvm.MethodName)) ∈ lw_all := lw_g (lw_at lw_m9 164 rfl) rfl
theorem q2209 : (Jvm.Cond.methodLink "HornHousesLaw" (240 : Nat) ({ cls := "HornHousesModel", name := "round", desc := "(I)I" } : Jvm.MethodName)) ∈ lw_all := lw_g (lw_at lw_m9 168 rfl) rfl
theorem q2213 : (Jvm.Cond.methodLink "HornHousesLaw" (243 : Nat) ({ cls := "HornHousesModel", name := "see", desc := "(III)I" } : Jvm.MethodName)) ∈ lw_all := lw_g (lw_at lw_m9 172 rfl) rfl
theorem q2217 : (Jvm.Cond.methodLink "HornHousesLaw" (247 : Nat) ({ cls := "HornHousesModel", name := "forget", desc := "()V" } : Jvm.MethodName)) ∈ lw_all := lw_g (lw_at lw_m9 176 rfl) rfl
theorem q2221 : (Jvm.Cond.methodLink "HornHousesLaw" (250 : Nat) ({ cls := "HornHousesModel", name := "large", desc := "(I)I" } : Jvm.MethodName)) ∈ lw_all := lw_g (lw_at lw_m9 180 rfl) rfl
theorem q2233 : (Jvm.Cond.methodLink "HornHousesLaw" (253 : Nat) ({ cls := "HornHousesModel", name := "next", desc := "(I)I" } : Jvm.MethodName)) ∈ lw_all := lw_g (lw_at lw_m9 192 rfl) rfl
theorem q2237 : (Jvm.Cond.methodLink "HornHousesLaw" (256 : Nat) ({ cls := "HornHousesModel", name := "byDamp", desc := "(III)I" } : Jvm.MethodName)) ∈ lw_all := lw_g (lw_at lw_m9 196 rfl) rfl
theorem q2241 : (Jvm.Cond.methodLink "HornHousesLaw" (260 : Nat) ({ cls := "HornHousesModel", name := "game", desc := "(IIII)I" } : Jvm.MethodName)) ∈ lw_all := lw_g (lw_at lw_m9 200 rfl) rfl
theorem q2249 : (Jvm.Cond.methodLink "HornHousesLaw" (263 : Nat) ({ cls := "HornHousesModel", name := "years", desc := "(III)I" } : Jvm.MethodName)) ∈ lw_all := lw_g (lw_at lw_m9 208 rfl) rfl
theorem q2265 : (Jvm.Cond.methodLink "HornHousesLaw" (269 : Nat) ({ cls := "HornHousesModel", name := "toGrow", desc := "(II)I" } : Jvm.MethodName)) ∈ lw_all := lw_g (lw_at lw_m9 224 rfl) rfl
theorem q2269 : (Jvm.Cond.methodLink "HornHousesLaw" (272 : Nat) ({ cls := "HornHousesModel", name := "paid", desc := "(I)I" } : Jvm.MethodName)) ∈ lw_all := lw_g (lw_at lw_m9 228 rfl) rfl
theorem q2273 : (Jvm.Cond.methodLink "HornHousesLaw" (275 : Nat) ({ cls := "HornHousesModel", name := "wornest", desc := "(I)I" } : Jvm.MethodName)) ∈ lw_all := lw_g (lw_at lw_m9 232 rfl) rfl
theorem q2277 : (Jvm.Cond.methodLink "HornHousesLaw" (278 : Nat) ({ cls := "HornHousesModel", name := "dampest", desc := "(I)I" } : Jvm.MethodName)) ∈ lw_all := lw_g (lw_at lw_m9 236 rfl) rfl
theorem q2281 : (Jvm.Cond.methodLink "HornHousesLaw" (281 : Nat) ({ cls := "HornHousesModel", name := "kept", desc := "(I)I" } : Jvm.MethodName)) ∈ lw_all := lw_g (lw_at lw_m10 0 rfl) rfl
theorem q2285 : (Jvm.Cond.methodLink "HornHousesLaw" (284 : Nat) ({ cls := "HornHousesModel", name := "sorest", desc := "(I)I" } : Jvm.MethodName)) ∈ lw_all := lw_g (lw_at lw_m10 4 rfl) rfl
theorem q2289 : (Jvm.Cond.methodLink "HornHousesLaw" (287 : Nat) ({ cls := "HornHousesModel", name := "eased", desc := "(III)I" } : Jvm.MethodName)) ∈ lw_all := lw_g (lw_at lw_m10 8 rfl) rfl
theorem q2293 : (Jvm.Cond.methodLink "HornHousesLaw" (290 : Nat) ({ cls := "HornHousesModel", name := "free", desc := "(I)I" } : Jvm.MethodName)) ∈ lw_all := lw_g (lw_at lw_m10 12 rfl) rfl
theorem q2297 : (Jvm.Cond.methodLink "HornHousesLaw" (293 : Nat) ({ cls := "HornHousesModel", name := "larger", desc := "(I)I" } : Jvm.MethodName)) ∈ lw_all := lw_g (lw_at lw_m10 16 rfl) rfl
theorem q2301 : (Jvm.Cond.methodLink "HornHousesLaw" (296 : Nat) ({ cls := "HornHousesModel", name := "wide", desc := "(I)I" } : Jvm.MethodName)) ∈ lw_all := lw_g (lw_at lw_m10 20 rfl) rfl
theorem q2305 : (Jvm.Cond.methodLink "HornHousesLaw" (299 : Nat) ({ cls := "HornHousesModel", name := "endures", desc := "(II)I" } : Jvm.MethodName)) ∈ lw_all := lw_g (lw_at lw_m10 24 rfl) rfl
theorem q2309 : (Jvm.Cond.methodLink "HornHousesLaw" (306 : Nat) ({ cls := "HornHousesModel", name := "image", desc := "()V" } : Jvm.MethodName)) ∈ lw_all := lw_g (lw_at lw_m10 28 rfl) rfl
theorem q2313 : (Jvm.Cond.methodLink "HornHousesLaw" (311 : Nat) ({ cls := "HornHousesModel", name := "restore", desc := "()Z" } : Jvm.MethodName)) ∈ lw_all := lw_g (lw_at lw_m10 32 rfl) rfl
/-! the law's own entry -/
set_option maxRecDepth 100000
abbrev cL_law : ByteArray := code
def dkwL_law_121 : List UInt8 := [159, 0, 5, 3, 172, 132, 4, 6, 167, 244, 77, 4, 172]
abbrev dktL_law_121 : List UInt8 := dkwL_law_121 ++ []
def dkwL_law_120 : List UInt8 := [167, 0, 27, 43, 182, 1, 47, 44, 182, 1, 50, 167, 0, 16, 43, 182, 1, 51, 44, 182, 1, 55]
abbrev dktL_law_120 : List UInt8 := dkwL_law_120 ++ dktL_law_121
def dkwL_law_119 : List UInt8 := [21, 5, 159, 0, 5, 3, 172, 21, 5, 154, 0, 15, 45, 3, 47, 21, 6, 133, 148, 153, 0, 5, 3, 172]
abbrev dktL_law_119 : List UInt8 := dkwL_law_119 ++ dktL_law_120
def dkwL_law_118 : List UInt8 := [46, 45, 184, 1, 44, 54, 5, 44, 42, 21, 4, 4, 96, 46, 182, 1, 46, 54, 6, 44, 182, 0, 156]
abbrev dktL_law_118 : List UInt8 := dkwL_law_118 ++ dktL_law_119
def dkwL_law_117 : List UInt8 := [154, 0, 15, 45, 3, 47, 21, 6, 133, 148, 153, 0, 5, 3, 172, 167, 0, 83, 43, 42, 21, 4, 4, 96]
abbrev dktL_law_117 : List UInt8 := dkwL_law_117 ++ dktL_law_118
def dkwL_law_116 : List UInt8 := [42, 21, 4, 5, 96, 46, 182, 1, 43, 54, 6, 44, 182, 0, 156, 21, 5, 159, 0, 5, 3, 172, 21, 5]
abbrev dktL_law_116 : List UInt8 := dkwL_law_116 ++ dktL_law_117
def dkwL_law_115 : List UInt8 := [21, 4, 4, 96, 46, 42, 21, 4, 5, 96, 46, 45, 184, 1, 41, 54, 5, 44, 42, 21, 4, 4, 96, 46]
abbrev dktL_law_115 : List UInt8 := dkwL_law_115 ++ dktL_law_116
def dkwL_law_114 : List UInt8 := [172, 21, 5, 154, 0, 15, 45, 3, 47, 21, 6, 133, 148, 153, 0, 5, 3, 172, 167, 0, 151, 43, 42]
abbrev dktL_law_114 : List UInt8 := dkwL_law_114 ++ dktL_law_115
def dkwL_law_113 : List UInt8 := [54, 5, 44, 42, 21, 4, 4, 96, 46, 182, 1, 40, 54, 6, 44, 182, 0, 156, 21, 5, 159, 0, 5, 3]
abbrev dktL_law_113 : List UInt8 := dkwL_law_113 ++ dktL_law_114
def dkwL_law_112 : List UInt8 := [21, 6, 133, 148, 153, 0, 5, 3, 172, 167, 0, 207, 43, 42, 21, 4, 4, 96, 46, 45, 184, 1, 38]
abbrev dktL_law_112 : List UInt8 := dkwL_law_112 ++ dktL_law_113
def dkwL_law_111 : List UInt8 := [182, 1, 37, 54, 6, 44, 182, 0, 156, 21, 5, 159, 0, 5, 3, 172, 21, 5, 154, 0, 15, 45, 3, 47]
abbrev dktL_law_111 : List UInt8 := dkwL_law_111 ++ dktL_law_112
def dkwL_law_110 : List UInt8 := [167, 1, 7, 43, 42, 21, 4, 4, 96, 46, 45, 184, 1, 35, 54, 5, 44, 42, 21, 4, 4, 96, 46]
abbrev dktL_law_110 : List UInt8 := dkwL_law_110 ++ dktL_law_111
def dkwL_law_109 : List UInt8 := [21, 5, 159, 0, 5, 3, 172, 21, 5, 154, 0, 15, 45, 3, 47, 21, 6, 133, 148, 153, 0, 5, 3, 172]
abbrev dktL_law_109 : List UInt8 := dkwL_law_109 ++ dktL_law_110
def dkwL_law_108 : List UInt8 := [46, 45, 184, 1, 32, 54, 5, 44, 42, 21, 4, 4, 96, 46, 182, 1, 34, 54, 6, 44, 182, 0, 156]
abbrev dktL_law_108 : List UInt8 := dkwL_law_108 ++ dktL_law_109
def dkwL_law_107 : List UInt8 := [154, 0, 15, 45, 3, 47, 21, 6, 133, 148, 153, 0, 5, 3, 172, 167, 1, 63, 43, 42, 21, 4, 4, 96]
abbrev dktL_law_107 : List UInt8 := dkwL_law_107 ++ dktL_law_108
def dkwL_law_106 : List UInt8 := [21, 4, 6, 96, 46, 182, 1, 31, 54, 6, 44, 182, 0, 156, 21, 5, 159, 0, 5, 3, 172, 21, 5]
abbrev dktL_law_106 : List UInt8 := dkwL_law_106 ++ dktL_law_107
def dkwL_law_105 : List UInt8 := [6, 96, 46, 45, 184, 1, 29, 54, 5, 44, 42, 21, 4, 4, 96, 46, 42, 21, 4, 5, 96, 46, 42]
abbrev dktL_law_105 : List UInt8 := dkwL_law_105 ++ dktL_law_106
def dkwL_law_104 : List UInt8 := [153, 0, 5, 3, 172, 167, 1, 143, 43, 42, 21, 4, 4, 96, 46, 42, 21, 4, 5, 96, 46, 42, 21, 4]
abbrev dktL_law_104 : List UInt8 := dkwL_law_104 ++ dktL_law_105
def dkwL_law_103 : List UInt8 := [182, 0, 156, 21, 5, 159, 0, 5, 3, 172, 21, 5, 154, 0, 15, 45, 3, 47, 21, 6, 133, 148]
abbrev dktL_law_103 : List UInt8 := dkwL_law_103 ++ dktL_law_104
def dkwL_law_102 : List UInt8 := [21, 4, 4, 96, 46, 45, 184, 1, 26, 54, 5, 44, 42, 21, 4, 4, 96, 46, 182, 1, 28, 54, 6, 44]
abbrev dktL_law_102 : List UInt8 := dkwL_law_102 ++ dktL_law_103
def dkwL_law_101 : List UInt8 := [172, 21, 5, 154, 0, 15, 45, 3, 47, 21, 6, 133, 148, 153, 0, 5, 3, 172, 167, 1, 199, 43, 42]
abbrev dktL_law_101 : List UInt8 := dkwL_law_101 ++ dktL_law_102
def dkwL_law_100 : List UInt8 := [54, 5, 44, 42, 21, 4, 4, 96, 46, 182, 1, 25, 54, 6, 44, 182, 0, 156, 21, 5, 159, 0, 5, 3]
abbrev dktL_law_100 : List UInt8 := dkwL_law_100 ++ dktL_law_101
def dkwL_law_99 : List UInt8 := [21, 6, 133, 148, 153, 0, 5, 3, 172, 167, 1, 255, 43, 42, 21, 4, 4, 96, 46, 45, 184, 1, 23]
abbrev dktL_law_99 : List UInt8 := dkwL_law_99 ++ dktL_law_100
def dkwL_law_98 : List UInt8 := [182, 1, 22, 54, 6, 44, 182, 0, 156, 21, 5, 159, 0, 5, 3, 172, 21, 5, 154, 0, 15, 45, 3, 47]
abbrev dktL_law_98 : List UInt8 := dkwL_law_98 ++ dktL_law_99
def dkwL_law_97 : List UInt8 := [167, 2, 55, 43, 42, 21, 4, 4, 96, 46, 45, 184, 1, 20, 54, 5, 44, 42, 21, 4, 4, 96, 46]
abbrev dktL_law_97 : List UInt8 := dkwL_law_97 ++ dktL_law_98
def dkwL_law_96 : List UInt8 := [21, 5, 159, 0, 5, 3, 172, 21, 5, 154, 0, 15, 45, 3, 47, 21, 6, 133, 148, 153, 0, 5, 3, 172]
abbrev dktL_law_96 : List UInt8 := dkwL_law_96 ++ dktL_law_97
def dkwL_law_95 : List UInt8 := [46, 45, 184, 1, 17, 54, 5, 44, 42, 21, 4, 4, 96, 46, 182, 1, 19, 54, 6, 44, 182, 0, 156]
abbrev dktL_law_95 : List UInt8 := dkwL_law_95 ++ dktL_law_96
def dkwL_law_94 : List UInt8 := [154, 0, 15, 45, 3, 47, 21, 6, 133, 148, 153, 0, 5, 3, 172, 167, 2, 111, 43, 42, 21, 4, 4, 96]
abbrev dktL_law_94 : List UInt8 := dkwL_law_94 ++ dktL_law_95
def dkwL_law_93 : List UInt8 := [21, 4, 4, 96, 46, 182, 1, 16, 54, 6, 44, 182, 0, 156, 21, 5, 159, 0, 5, 3, 172, 21, 5]
abbrev dktL_law_93 : List UInt8 := dkwL_law_93 ++ dktL_law_94
def dkwL_law_92 : List UInt8 := [148, 153, 0, 5, 3, 172, 167, 2, 167, 43, 42, 21, 4, 4, 96, 46, 45, 184, 1, 14, 54, 5, 44, 42]
abbrev dktL_law_92 : List UInt8 := dkwL_law_92 ++ dktL_law_93
def dkwL_law_91 : List UInt8 := [54, 6, 44, 182, 0, 156, 21, 5, 159, 0, 5, 3, 172, 21, 5, 154, 0, 15, 45, 3, 47, 21, 6, 133]
abbrev dktL_law_91 : List UInt8 := dkwL_law_91 ++ dktL_law_92
def dkwL_law_90 : List UInt8 := [46, 45, 184, 1, 11, 54, 5, 44, 42, 21, 4, 4, 96, 46, 42, 21, 4, 5, 96, 46, 182, 1, 13]
abbrev dktL_law_90 : List UInt8 := dkwL_law_90 ++ dktL_law_91
def dkwL_law_89 : List UInt8 := [21, 6, 133, 148, 153, 0, 5, 3, 172, 167, 2, 235, 43, 42, 21, 4, 4, 96, 46, 42, 21, 4, 5, 96]
abbrev dktL_law_89 : List UInt8 := dkwL_law_89 ++ dktL_law_90
def dkwL_law_88 : List UInt8 := [182, 1, 10, 54, 6, 44, 182, 0, 156, 21, 5, 159, 0, 5, 3, 172, 21, 5, 154, 0, 15, 45, 3, 47]
abbrev dktL_law_88 : List UInt8 := dkwL_law_88 ++ dktL_law_89
def dkwL_law_87 : List UInt8 := [167, 3, 35, 43, 42, 21, 4, 4, 96, 46, 45, 184, 1, 8, 54, 5, 44, 42, 21, 4, 4, 96, 46]
abbrev dktL_law_87 : List UInt8 := dkwL_law_87 ++ dktL_law_88
def dkwL_law_86 : List UInt8 := [21, 5, 159, 0, 5, 3, 172, 21, 5, 154, 0, 15, 45, 3, 47, 21, 6, 133, 148, 153, 0, 5, 3, 172]
abbrev dktL_law_86 : List UInt8 := dkwL_law_86 ++ dktL_law_87
def dkwL_law_85 : List UInt8 := [96, 46, 42, 21, 4, 5, 96, 46, 42, 21, 4, 6, 96, 46, 182, 1, 7, 54, 6, 44, 182, 0, 156]
abbrev dktL_law_85 : List UInt8 := dkwL_law_85 ++ dktL_law_86
def dkwL_law_84 : List UInt8 := [46, 42, 21, 4, 5, 96, 46, 42, 21, 4, 6, 96, 46, 45, 184, 1, 5, 54, 5, 44, 42, 21, 4, 4]
abbrev dktL_law_84 : List UInt8 := dkwL_law_84 ++ dktL_law_85
def dkwL_law_83 : List UInt8 := [154, 0, 15, 45, 3, 47, 21, 6, 133, 148, 153, 0, 5, 3, 172, 167, 3, 115, 43, 42, 21, 4, 4, 96]
abbrev dktL_law_83 : List UInt8 := dkwL_law_83 ++ dktL_law_84
def dkwL_law_82 : List UInt8 := [42, 21, 4, 7, 96, 46, 182, 1, 4, 54, 6, 44, 182, 0, 156, 21, 5, 159, 0, 5, 3, 172, 21, 5]
abbrev dktL_law_82 : List UInt8 := dkwL_law_82 ++ dktL_law_83
def dkwL_law_81 : List UInt8 := [184, 1, 1, 54, 5, 44, 42, 21, 4, 4, 96, 46, 42, 21, 4, 5, 96, 46, 42, 21, 4, 6, 96, 46]
abbrev dktL_law_81 : List UInt8 := dkwL_law_81 ++ dktL_law_82
def dkwL_law_80 : List UInt8 := [4, 96, 46, 42, 21, 4, 5, 96, 46, 42, 21, 4, 6, 96, 46, 42, 21, 4, 7, 96, 46, 45]
abbrev dktL_law_80 : List UInt8 := dkwL_law_80 ++ dktL_law_81
def dkwL_law_79 : List UInt8 := [21, 5, 154, 0, 15, 45, 3, 47, 21, 6, 133, 148, 153, 0, 5, 3, 172, 167, 3, 207, 43, 42, 21, 4]
abbrev dktL_law_79 : List UInt8 := dkwL_law_79 ++ dktL_law_80
def dkwL_law_78 : List UInt8 := [96, 46, 42, 21, 4, 6, 96, 46, 182, 1, 0, 54, 6, 44, 182, 0, 156, 21, 5, 159, 0, 5, 3, 172]
abbrev dktL_law_78 : List UInt8 := dkwL_law_78 ++ dktL_law_79
def dkwL_law_77 : List UInt8 := [46, 42, 21, 4, 6, 96, 46, 45, 184, 0, 254, 54, 5, 44, 42, 21, 4, 4, 96, 46, 42, 21, 4, 5]
abbrev dktL_law_77 : List UInt8 := dkwL_law_77 ++ dktL_law_78
def dkwL_law_76 : List UInt8 := [21, 6, 133, 148, 153, 0, 5, 3, 172, 167, 4, 31, 43, 42, 21, 4, 4, 96, 46, 42, 21, 4, 5, 96]
abbrev dktL_law_76 : List UInt8 := dkwL_law_76 ++ dktL_law_77
def dkwL_law_75 : List UInt8 := [182, 0, 253, 54, 6, 44, 182, 0, 156, 21, 5, 159, 0, 5, 3, 172, 21, 5, 154, 0, 15, 45, 3, 47]
abbrev dktL_law_75 : List UInt8 := dkwL_law_75 ++ dktL_law_76
def dkwL_law_74 : List UInt8 := [167, 4, 87, 43, 42, 21, 4, 4, 96, 46, 45, 184, 0, 251, 54, 5, 44, 42, 21, 4, 4, 96, 46]
abbrev dktL_law_74 : List UInt8 := dkwL_law_74 ++ dktL_law_75
def dkwL_law_73 : List UInt8 := [159, 0, 5, 3, 172, 21, 5, 154, 0, 15, 45, 3, 47, 21, 6, 133, 148, 153, 0, 5, 3, 172]
abbrev dktL_law_73 : List UInt8 := dkwL_law_73 ++ dktL_law_74
def dkwL_law_72 : List UInt8 := [184, 0, 248, 54, 5, 44, 42, 21, 4, 4, 96, 46, 182, 0, 250, 54, 6, 44, 182, 0, 156, 21, 5]
abbrev dktL_law_72 : List UInt8 := dkwL_law_72 ++ dktL_law_73
def dkwL_law_71 : List UInt8 := [167, 4, 154, 43, 182, 0, 244, 44, 182, 0, 247, 167, 4, 143, 43, 42, 21, 4, 4, 96, 46, 45]
abbrev dktL_law_71 : List UInt8 := dkwL_law_71 ++ dktL_law_72
def dkwL_law_70 : List UInt8 := [21, 5, 159, 0, 5, 3, 172, 21, 5, 154, 0, 15, 45, 3, 47, 21, 6, 133, 148, 153, 0, 5, 3, 172]
abbrev dktL_law_70 : List UInt8 := dkwL_law_70 ++ dktL_law_71
def dkwL_law_69 : List UInt8 := [96, 46, 42, 21, 4, 5, 96, 46, 42, 21, 4, 6, 96, 46, 182, 0, 243, 54, 6, 44, 182, 0, 156]
abbrev dktL_law_69 : List UInt8 := dkwL_law_69 ++ dktL_law_70
def dkwL_law_68 : List UInt8 := [46, 42, 21, 4, 5, 96, 46, 42, 21, 4, 6, 96, 46, 45, 184, 0, 241, 54, 5, 44, 42, 21, 4, 4]
abbrev dktL_law_68 : List UInt8 := dkwL_law_68 ++ dktL_law_69
def dkwL_law_67 : List UInt8 := [154, 0, 15, 45, 3, 47, 21, 6, 133, 148, 153, 0, 5, 3, 172, 167, 4, 234, 43, 42, 21, 4, 4, 96]
abbrev dktL_law_67 : List UInt8 := dkwL_law_67 ++ dktL_law_68
def dkwL_law_66 : List UInt8 := [21, 4, 4, 96, 46, 182, 0, 240, 54, 6, 44, 182, 0, 156, 21, 5, 159, 0, 5, 3, 172, 21, 5]
abbrev dktL_law_66 : List UInt8 := dkwL_law_66 ++ dktL_law_67
def dkwL_law_65 : List UInt8 := [153, 0, 5, 3, 172, 167, 5, 34, 43, 42, 21, 4, 4, 96, 46, 45, 184, 0, 238, 54, 5, 44, 42]
abbrev dktL_law_65 : List UInt8 := dkwL_law_65 ++ dktL_law_66
def dkwL_law_64 : List UInt8 := [182, 0, 156, 21, 5, 159, 0, 5, 3, 172, 21, 5, 154, 0, 15, 45, 3, 47, 21, 6, 133, 148]
abbrev dktL_law_64 : List UInt8 := dkwL_law_64 ++ dktL_law_65
def dkwL_law_63 : List UInt8 := [184, 0, 235, 54, 5, 44, 42, 21, 4, 4, 96, 46, 42, 21, 4, 5, 96, 46, 182, 0, 237, 54, 6, 44]
abbrev dktL_law_63 : List UInt8 := dkwL_law_63 ++ dktL_law_64
def dkwL_law_62 : List UInt8 := [148, 153, 0, 5, 3, 172, 167, 5, 102, 43, 42, 21, 4, 4, 96, 46, 42, 21, 4, 5, 96, 46, 45]
abbrev dktL_law_62 : List UInt8 := dkwL_law_62 ++ dktL_law_63
def dkwL_law_61 : List UInt8 := [54, 6, 44, 182, 0, 156, 21, 5, 159, 0, 5, 3, 172, 21, 5, 154, 0, 15, 45, 3, 47, 21, 6, 133]
abbrev dktL_law_61 : List UInt8 := dkwL_law_61 ++ dktL_law_62
def dkwL_law_60 : List UInt8 := [46, 45, 184, 0, 232, 54, 5, 44, 42, 21, 4, 4, 96, 46, 42, 21, 4, 5, 96, 46, 182, 0, 234]
abbrev dktL_law_60 : List UInt8 := dkwL_law_60 ++ dktL_law_61
def dkwL_law_59 : List UInt8 := [21, 6, 133, 148, 153, 0, 5, 3, 172, 167, 5, 170, 43, 42, 21, 4, 4, 96, 46, 42, 21, 4, 5, 96]
abbrev dktL_law_59 : List UInt8 := dkwL_law_59 ++ dktL_law_60
def dkwL_law_58 : List UInt8 := [182, 0, 231, 54, 6, 44, 182, 0, 156, 21, 5, 159, 0, 5, 3, 172, 21, 5, 154, 0, 15, 45, 3, 47]
abbrev dktL_law_58 : List UInt8 := dkwL_law_58 ++ dktL_law_59
def dkwL_law_57 : List UInt8 := [167, 5, 226, 43, 42, 21, 4, 4, 96, 46, 45, 184, 0, 229, 54, 5, 44, 42, 21, 4, 4, 96, 46]
abbrev dktL_law_57 : List UInt8 := dkwL_law_57 ++ dktL_law_58
def dkwL_law_56 : List UInt8 := [21, 5, 159, 0, 5, 3, 172, 21, 5, 154, 0, 15, 45, 3, 47, 21, 6, 133, 148, 153, 0, 5, 3, 172]
abbrev dktL_law_56 : List UInt8 := dkwL_law_56 ++ dktL_law_57
def dkwL_law_55 : List UInt8 := [46, 45, 184, 0, 226, 54, 5, 44, 42, 21, 4, 4, 96, 46, 182, 0, 228, 54, 6, 44, 182, 0, 156]
abbrev dktL_law_55 : List UInt8 := dkwL_law_55 ++ dktL_law_56
def dkwL_law_54 : List UInt8 := [154, 0, 15, 45, 3, 47, 21, 6, 133, 148, 153, 0, 5, 3, 172, 167, 6, 26, 43, 42, 21, 4, 4, 96]
abbrev dktL_law_54 : List UInt8 := dkwL_law_54 ++ dktL_law_55
def dkwL_law_53 : List UInt8 := [21, 4, 4, 96, 46, 182, 0, 225, 54, 6, 44, 182, 0, 156, 21, 5, 159, 0, 5, 3, 172, 21, 5]
abbrev dktL_law_53 : List UInt8 := dkwL_law_53 ++ dktL_law_54
def dkwL_law_52 : List UInt8 := [153, 0, 5, 3, 172, 167, 6, 82, 43, 42, 21, 4, 4, 96, 46, 45, 184, 0, 223, 54, 5, 44, 42]
abbrev dktL_law_52 : List UInt8 := dkwL_law_52 ++ dktL_law_53
def dkwL_law_51 : List UInt8 := [182, 0, 156, 21, 5, 159, 0, 5, 3, 172, 21, 5, 154, 0, 15, 45, 3, 47, 21, 6, 133, 148]
abbrev dktL_law_51 : List UInt8 := dkwL_law_51 ++ dktL_law_52
def dkwL_law_50 : List UInt8 := [21, 4, 4, 96, 46, 45, 184, 0, 220, 54, 5, 44, 42, 21, 4, 4, 96, 46, 182, 0, 222, 54, 6, 44]
abbrev dktL_law_50 : List UInt8 := dkwL_law_50 ++ dktL_law_51
def dkwL_law_49 : List UInt8 := [172, 21, 5, 154, 0, 15, 45, 3, 47, 21, 6, 133, 148, 153, 0, 5, 3, 172, 167, 6, 138, 43, 42]
abbrev dktL_law_49 : List UInt8 := dkwL_law_49 ++ dktL_law_50
def dkwL_law_48 : List UInt8 := [54, 5, 44, 42, 21, 4, 4, 96, 46, 182, 0, 219, 54, 6, 44, 182, 0, 156, 21, 5, 159, 0, 5, 3]
abbrev dktL_law_48 : List UInt8 := dkwL_law_48 ++ dktL_law_49
def dkwL_law_47 : List UInt8 := [21, 6, 133, 148, 153, 0, 5, 3, 172, 167, 6, 194, 43, 42, 21, 4, 4, 96, 46, 45, 184, 0, 217]
abbrev dktL_law_47 : List UInt8 := dkwL_law_47 ++ dktL_law_48
def dkwL_law_46 : List UInt8 := [182, 0, 216, 54, 6, 44, 182, 0, 156, 21, 5, 159, 0, 5, 3, 172, 21, 5, 154, 0, 15, 45, 3, 47]
abbrev dktL_law_46 : List UInt8 := dkwL_law_46 ++ dktL_law_47
def dkwL_law_45 : List UInt8 := [167, 6, 250, 43, 42, 21, 4, 4, 96, 46, 45, 184, 0, 214, 54, 5, 44, 42, 21, 4, 4, 96, 46]
abbrev dktL_law_45 : List UInt8 := dkwL_law_45 ++ dktL_law_46
def dkwL_law_44 : List UInt8 := [21, 5, 159, 0, 5, 3, 172, 21, 5, 154, 0, 15, 45, 3, 47, 21, 6, 133, 148, 153, 0, 5, 3, 172]
abbrev dktL_law_44 : List UInt8 := dkwL_law_44 ++ dktL_law_45
def dkwL_law_43 : List UInt8 := [46, 45, 184, 0, 211, 54, 5, 44, 42, 21, 4, 4, 96, 46, 182, 0, 213, 54, 6, 44, 182, 0, 156]
abbrev dktL_law_43 : List UInt8 := dkwL_law_43 ++ dktL_law_44
def dkwL_law_42 : List UInt8 := [154, 0, 15, 45, 3, 47, 21, 6, 133, 148, 153, 0, 5, 3, 172, 167, 7, 50, 43, 42, 21, 4, 4, 96]
abbrev dktL_law_42 : List UInt8 := dkwL_law_42 ++ dktL_law_43
def dkwL_law_41 : List UInt8 := [21, 4, 4, 96, 46, 182, 0, 210, 54, 6, 44, 182, 0, 156, 21, 5, 159, 0, 5, 3, 172, 21, 5]
abbrev dktL_law_41 : List UInt8 := dkwL_law_41 ++ dktL_law_42
def dkwL_law_40 : List UInt8 := [153, 0, 5, 3, 172, 167, 7, 106, 43, 42, 21, 4, 4, 96, 46, 45, 184, 0, 208, 54, 5, 44, 42]
abbrev dktL_law_40 : List UInt8 := dkwL_law_40 ++ dktL_law_41
def dkwL_law_39 : List UInt8 := [182, 0, 156, 21, 5, 159, 0, 5, 3, 172, 21, 5, 154, 0, 15, 45, 3, 47, 21, 6, 133, 148]
abbrev dktL_law_39 : List UInt8 := dkwL_law_39 ++ dktL_law_40
def dkwL_law_38 : List UInt8 := [184, 0, 205, 54, 5, 44, 42, 21, 4, 4, 96, 46, 42, 21, 4, 5, 96, 46, 182, 0, 207, 54, 6, 44]
abbrev dktL_law_38 : List UInt8 := dkwL_law_38 ++ dktL_law_39
def dkwL_law_37 : List UInt8 := [153, 0, 5, 3, 172, 167, 7, 174, 43, 42, 21, 4, 4, 96, 46, 42, 21, 4, 5, 96, 46, 45]
abbrev dktL_law_37 : List UInt8 := dkwL_law_37 ++ dktL_law_38
def dkwL_law_36 : List UInt8 := [182, 0, 156, 21, 5, 159, 0, 5, 3, 172, 21, 5, 154, 0, 15, 45, 3, 47, 21, 6, 133, 148]
abbrev dktL_law_36 : List UInt8 := dkwL_law_36 ++ dktL_law_37
def dkwL_law_35 : List UInt8 := [42, 21, 4, 4, 96, 46, 42, 21, 4, 5, 96, 46, 42, 21, 4, 6, 96, 46, 182, 0, 204, 54, 6, 44]
abbrev dktL_law_35 : List UInt8 := dkwL_law_35 ++ dktL_law_36
def dkwL_law_34 : List UInt8 := [21, 4, 4, 96, 46, 42, 21, 4, 5, 96, 46, 42, 21, 4, 6, 96, 46, 45, 184, 0, 201, 54, 5, 44]
abbrev dktL_law_34 : List UInt8 := dkwL_law_34 ++ dktL_law_35
def dkwL_law_33 : List UInt8 := [182, 0, 196, 159, 8, 13, 3, 172, 43, 182, 0, 197, 44, 182, 0, 200, 159, 8, 0, 3, 172, 43, 42]
abbrev dktL_law_33 : List UInt8 := dkwL_law_33 ++ dktL_law_34
def dkwL_law_32 : List UInt8 := [21, 6, 153, 0, 7, 10, 167, 0, 4, 9, 148, 153, 0, 5, 3, 172, 167, 8, 24, 43, 182, 0, 193, 44]
abbrev dktL_law_32 : List UInt8 := dkwL_law_32 ++ dktL_law_33
def dkwL_law_31 : List UInt8 := [182, 0, 192, 54, 6, 44, 182, 0, 156, 21, 5, 159, 0, 5, 3, 172, 21, 5, 154, 0, 22, 45, 3, 47]
abbrev dktL_law_31 : List UInt8 := dkwL_law_31 ++ dktL_law_32
def dkwL_law_30 : List UInt8 := [5, 96, 46, 45, 184, 0, 190, 54, 5, 44, 42, 21, 4, 4, 96, 46, 42, 21, 4, 5, 96, 46]
abbrev dktL_law_30 : List UInt8 := dkwL_law_30 ++ dktL_law_31
def dkwL_law_29 : List UInt8 := [3, 47, 21, 6, 133, 148, 153, 0, 5, 3, 172, 167, 8, 99, 43, 42, 21, 4, 4, 96, 46, 42, 21, 4]
abbrev dktL_law_29 : List UInt8 := dkwL_law_29 ++ dktL_law_30
def dkwL_law_28 : List UInt8 := [96, 46, 182, 0, 189, 54, 6, 44, 182, 0, 156, 21, 5, 159, 0, 5, 3, 172, 21, 5, 154, 0, 15, 45]
abbrev dktL_law_28 : List UInt8 := dkwL_law_28 ++ dktL_law_29
def dkwL_law_27 : List UInt8 := [46, 42, 21, 4, 5, 96, 46, 45, 184, 0, 187, 54, 5, 44, 42, 21, 4, 4, 96, 46, 42, 21, 4, 5]
abbrev dktL_law_27 : List UInt8 := dkwL_law_27 ++ dktL_law_28
def dkwL_law_26 : List UInt8 := [154, 0, 15, 45, 3, 47, 21, 6, 133, 148, 153, 0, 5, 3, 172, 167, 8, 167, 43, 42, 21, 4, 4, 96]
abbrev dktL_law_26 : List UInt8 := dkwL_law_26 ++ dktL_law_27
def dkwL_law_25 : List UInt8 := [21, 4, 4, 96, 46, 182, 0, 186, 54, 6, 44, 182, 0, 156, 21, 5, 159, 0, 5, 3, 172, 21, 5]
abbrev dktL_law_25 : List UInt8 := dkwL_law_25 ++ dktL_law_26
def dkwL_law_24 : List UInt8 := [153, 0, 5, 3, 172, 167, 8, 223, 43, 42, 21, 4, 4, 96, 46, 45, 184, 0, 184, 54, 5, 44, 42]
abbrev dktL_law_24 : List UInt8 := dkwL_law_24 ++ dktL_law_25
def dkwL_law_23 : List UInt8 := [182, 0, 156, 21, 5, 159, 0, 5, 3, 172, 21, 5, 154, 0, 15, 45, 3, 47, 21, 6, 133, 148]
abbrev dktL_law_23 : List UInt8 := dkwL_law_23 ++ dktL_law_24
def dkwL_law_22 : List UInt8 := [184, 0, 181, 54, 5, 44, 42, 21, 4, 4, 96, 46, 42, 21, 4, 5, 96, 46, 182, 0, 183, 54, 6, 44]
abbrev dktL_law_22 : List UInt8 := dkwL_law_22 ++ dktL_law_23
def dkwL_law_21 : List UInt8 := [46, 182, 0, 180, 159, 9, 37, 3, 172, 43, 42, 21, 4, 4, 96, 46, 42, 21, 4, 5, 96, 46, 45]
abbrev dktL_law_21 : List UInt8 := dkwL_law_21 ++ dktL_law_22
def dkwL_law_20 : List UInt8 := [153, 0, 5, 3, 172, 167, 9, 60, 43, 42, 21, 4, 4, 96, 46, 182, 0, 177, 44, 42, 21, 4, 4, 96]
abbrev dktL_law_20 : List UInt8 := dkwL_law_20 ++ dktL_law_21
def dkwL_law_19 : List UInt8 := [182, 0, 156, 21, 5, 159, 0, 5, 3, 172, 21, 5, 154, 0, 15, 45, 3, 47, 21, 6, 133, 148]
abbrev dktL_law_19 : List UInt8 := dkwL_law_19 ++ dktL_law_20
def dkwL_law_18 : List UInt8 := [184, 0, 174, 54, 5, 44, 42, 21, 4, 4, 96, 46, 42, 21, 4, 5, 96, 46, 182, 0, 176, 54, 6, 44]
abbrev dktL_law_18 : List UInt8 := dkwL_law_18 ++ dktL_law_19
def dkwL_law_17 : List UInt8 := [153, 0, 5, 3, 172, 167, 9, 128, 43, 42, 21, 4, 4, 96, 46, 42, 21, 4, 5, 96, 46, 45]
abbrev dktL_law_17 : List UInt8 := dkwL_law_17 ++ dktL_law_18
def dkwL_law_16 : List UInt8 := [182, 0, 156, 21, 5, 159, 0, 5, 3, 172, 21, 5, 154, 0, 15, 45, 3, 47, 21, 6, 133, 148]
abbrev dktL_law_16 : List UInt8 := dkwL_law_16 ++ dktL_law_17
def dkwL_law_15 : List UInt8 := [184, 0, 171, 54, 5, 44, 42, 21, 4, 4, 96, 46, 42, 21, 4, 5, 96, 46, 182, 0, 173, 54, 6, 44]
abbrev dktL_law_15 : List UInt8 := dkwL_law_15 ++ dktL_law_16
def dkwL_law_14 : List UInt8 := [153, 0, 5, 3, 172, 167, 9, 196, 43, 42, 21, 4, 4, 96, 46, 42, 21, 4, 5, 96, 46, 45]
abbrev dktL_law_14 : List UInt8 := dkwL_law_14 ++ dktL_law_15
def dkwL_law_13 : List UInt8 := [182, 0, 156, 21, 5, 159, 0, 5, 3, 172, 21, 5, 154, 0, 15, 45, 3, 47, 21, 6, 133, 148]
abbrev dktL_law_13 : List UInt8 := dkwL_law_13 ++ dktL_law_14
def dkwL_law_12 : List UInt8 := [184, 0, 167, 54, 5, 44, 42, 21, 4, 4, 96, 46, 42, 21, 4, 5, 96, 46, 182, 0, 170, 54, 6, 44]
abbrev dktL_law_12 : List UInt8 := dkwL_law_12 ++ dktL_law_13
def dkwL_law_11 : List UInt8 := [153, 0, 5, 3, 172, 167, 10, 8, 43, 42, 21, 4, 4, 96, 46, 42, 21, 4, 5, 96, 46, 45]
abbrev dktL_law_11 : List UInt8 := dkwL_law_11 ++ dktL_law_12
def dkwL_law_10 : List UInt8 := [182, 0, 156, 21, 5, 159, 0, 5, 3, 172, 21, 5, 154, 0, 15, 45, 3, 47, 21, 6, 133, 148]
abbrev dktL_law_10 : List UInt8 := dkwL_law_10 ++ dktL_law_11
def dkwL_law_9 : List UInt8 := [21, 4, 4, 96, 46, 45, 184, 0, 164, 54, 5, 44, 42, 21, 4, 4, 96, 46, 182, 0, 166, 54, 6, 44]
abbrev dktL_law_9 : List UInt8 := dkwL_law_9 ++ dktL_law_10
def dkwL_law_8 : List UInt8 := [148, 153, 0, 5, 3, 172, 167, 10, 77, 43, 182, 0, 160, 44, 182, 0, 163, 159, 10, 66, 3, 172, 43, 42]
abbrev dktL_law_8 : List UInt8 := dkwL_law_8 ++ dktL_law_9
def dkwL_law_7 : List UInt8 := [54, 6, 44, 182, 0, 156, 21, 5, 159, 0, 5, 3, 172, 21, 5, 154, 0, 15, 45, 3, 47, 21, 6, 133]
abbrev dktL_law_7 : List UInt8 := dkwL_law_7 ++ dktL_law_8
def dkwL_law_6 : List UInt8 := [172, 43, 42, 21, 4, 4, 96, 46, 45, 184, 0, 150, 54, 5, 44, 42, 21, 4, 4, 96, 46, 182, 0, 155]
abbrev dktL_law_6 : List UInt8 := dkwL_law_6 ++ dktL_law_7
def dkwL_law_5 : List UInt8 := [21, 4, 6, 96, 46, 42, 21, 4, 7, 96, 46, 42, 21, 4, 8, 96, 46, 182, 0, 149, 159, 10, 135, 3]
abbrev dktL_law_5 : List UInt8 := dkwL_law_5 ++ dktL_law_6
def dkwL_law_4 : List UInt8 := [46, 42, 21, 4, 8, 96, 46, 182, 0, 145, 44, 42, 21, 4, 4, 96, 46, 42, 21, 4, 5, 96, 46, 42]
abbrev dktL_law_4 : List UInt8 := dkwL_law_4 ++ dktL_law_5
def dkwL_law_3 : List UInt8 := [43, 42, 21, 4, 4, 96, 46, 42, 21, 4, 5, 96, 46, 42, 21, 4, 6, 96, 46, 42, 21, 4, 7, 96]
abbrev dktL_law_3 : List UInt8 := dkwL_law_3 ++ dktL_law_4
def dkwL_law_2 : List UInt8 := [170, 0, 0, 0, 0, 0, 11, 159, 0, 0, 0, 0, 0, 0, 0, 48, 0, 0, 0, 212, 0, 0, 1, 29, 0, 0, 1, 85, 0, 0, 1, 98, 0, 0, 1, 154, 0, 0, 1, 222, 0, 0, 2, 34, 0, 0, 2, 102, 0, 0, 2, 127, 0, 0, 2, 195, 0, 0, 2, 251, 0, 0, 3, 63, 0, 0, 3, 138, 0, 0, 3, 151, 0, 0, 3, 164, 0, 0, 3, 244, 0, 0, 4, 56, 0, 0, 4, 112, 0, 0, 4, 168, 0, 0, 4, 224, 0, 0, 5, 24, 0, 0, 5, 80, 0, 0, 5, 136, 0, 0, 5, 192, 0, 0, 5, 248, 0, 0, 6, 60, 0, 0, 6, 128, 0, 0, 6, 184, 0, 0, 7, 8, 0, 0, 7, 19, 0, 0, 7, 75, 0, 0, 7, 131, 0, 0, 7, 211, 0, 0, 8, 47, 0, 0, 8, 127, 0, 0, 8, 183, 0, 0, 8, 251, 0, 0, 9, 51, 0, 0, 9, 107, 0, 0, 9, 163, 0, 0, 9, 219, 0, 0, 10, 19, 0, 0, 10, 99, 0, 0, 10, 155, 0, 0, 10, 211, 0, 0, 11, 11, 0, 0, 11, 79, 0, 0, 11, 135, 0, 0, 11, 146]
abbrev dktL_law_2 : List UInt8 := dkwL_law_2 ++ dktL_law_3
def dkwL_law_1 : List UInt8 := [21, 4, 42, 190, 16, 6, 100, 163, 11, 175, 42, 21, 4, 46, 16, 63, 126]
abbrev dktL_law_1 : List UInt8 := dkwL_law_1 ++ dktL_law_2
def dkwL_law_0 : List UInt8 := [187, 0, 8, 89, 183, 0, 141, 76, 187, 0, 142, 89, 183, 0, 144, 77, 4, 188, 11, 78, 3, 54, 4]
abbrev dktL_law_0 : List UInt8 := dkwL_law_0 ++ dktL_law_1
theorem dksL_law_0 : cL_law.data.toList.drop 0 = dktL_law_0 := by decide +kernel
theorem dksL_law_1 : cL_law.data.toList.drop 23 = dktL_law_1 := dk_seg dksL_law_0 23 rfl rfl
theorem dksL_law_2 : cL_law.data.toList.drop 40 = dktL_law_2 := dk_seg dksL_law_1 17 rfl rfl
theorem dksL_law_3 : cL_law.data.toList.drop 252 = dktL_law_3 := dk_seg dksL_law_2 212 rfl rfl
theorem dksL_law_4 : cL_law.data.toList.drop 276 = dktL_law_4 := dk_seg dksL_law_3 24 rfl rfl
theorem dksL_law_5 : cL_law.data.toList.drop 300 = dktL_law_5 := dk_seg dksL_law_4 24 rfl rfl
theorem dksL_law_6 : cL_law.data.toList.drop 324 = dktL_law_6 := dk_seg dksL_law_5 24 rfl rfl
theorem dksL_law_7 : cL_law.data.toList.drop 348 = dktL_law_7 := dk_seg dksL_law_6 24 rfl rfl
theorem dksL_law_8 : cL_law.data.toList.drop 372 = dktL_law_8 := dk_seg dksL_law_7 24 rfl rfl
theorem dksL_law_9 : cL_law.data.toList.drop 396 = dktL_law_9 := dk_seg dksL_law_8 24 rfl rfl
theorem dksL_law_10 : cL_law.data.toList.drop 420 = dktL_law_10 := dk_seg dksL_law_9 24 rfl rfl
theorem dksL_law_11 : cL_law.data.toList.drop 442 = dktL_law_11 := dk_seg dksL_law_10 22 rfl rfl
theorem dksL_law_12 : cL_law.data.toList.drop 464 = dktL_law_12 := dk_seg dksL_law_11 22 rfl rfl
theorem dksL_law_13 : cL_law.data.toList.drop 488 = dktL_law_13 := dk_seg dksL_law_12 24 rfl rfl
theorem dksL_law_14 : cL_law.data.toList.drop 510 = dktL_law_14 := dk_seg dksL_law_13 22 rfl rfl
theorem dksL_law_15 : cL_law.data.toList.drop 532 = dktL_law_15 := dk_seg dksL_law_14 22 rfl rfl
theorem dksL_law_16 : cL_law.data.toList.drop 556 = dktL_law_16 := dk_seg dksL_law_15 24 rfl rfl
theorem dksL_law_17 : cL_law.data.toList.drop 578 = dktL_law_17 := dk_seg dksL_law_16 22 rfl rfl
theorem dksL_law_18 : cL_law.data.toList.drop 600 = dktL_law_18 := dk_seg dksL_law_17 22 rfl rfl
theorem dksL_law_19 : cL_law.data.toList.drop 624 = dktL_law_19 := dk_seg dksL_law_18 24 rfl rfl
theorem dksL_law_20 : cL_law.data.toList.drop 646 = dktL_law_20 := dk_seg dksL_law_19 22 rfl rfl
theorem dksL_law_21 : cL_law.data.toList.drop 670 = dktL_law_21 := dk_seg dksL_law_20 24 rfl rfl
theorem dksL_law_22 : cL_law.data.toList.drop 693 = dktL_law_22 := dk_seg dksL_law_21 23 rfl rfl
theorem dksL_law_23 : cL_law.data.toList.drop 717 = dktL_law_23 := dk_seg dksL_law_22 24 rfl rfl
theorem dksL_law_24 : cL_law.data.toList.drop 739 = dktL_law_24 := dk_seg dksL_law_23 22 rfl rfl
theorem dksL_law_25 : cL_law.data.toList.drop 762 = dktL_law_25 := dk_seg dksL_law_24 23 rfl rfl
theorem dksL_law_26 : cL_law.data.toList.drop 785 = dktL_law_26 := dk_seg dksL_law_25 23 rfl rfl
theorem dksL_law_27 : cL_law.data.toList.drop 809 = dktL_law_27 := dk_seg dksL_law_26 24 rfl rfl
theorem dksL_law_28 : cL_law.data.toList.drop 833 = dktL_law_28 := dk_seg dksL_law_27 24 rfl rfl
theorem dksL_law_29 : cL_law.data.toList.drop 857 = dktL_law_29 := dk_seg dksL_law_28 24 rfl rfl
theorem dksL_law_30 : cL_law.data.toList.drop 881 = dktL_law_30 := dk_seg dksL_law_29 24 rfl rfl
theorem dksL_law_31 : cL_law.data.toList.drop 903 = dktL_law_31 := dk_seg dksL_law_30 22 rfl rfl
theorem dksL_law_32 : cL_law.data.toList.drop 927 = dktL_law_32 := dk_seg dksL_law_31 24 rfl rfl
theorem dksL_law_33 : cL_law.data.toList.drop 951 = dktL_law_33 := dk_seg dksL_law_32 24 rfl rfl
theorem dksL_law_34 : cL_law.data.toList.drop 974 = dktL_law_34 := dk_seg dksL_law_33 23 rfl rfl
theorem dksL_law_35 : cL_law.data.toList.drop 998 = dktL_law_35 := dk_seg dksL_law_34 24 rfl rfl
theorem dksL_law_36 : cL_law.data.toList.drop 1022 = dktL_law_36 := dk_seg dksL_law_35 24 rfl rfl
theorem dksL_law_37 : cL_law.data.toList.drop 1044 = dktL_law_37 := dk_seg dksL_law_36 22 rfl rfl
theorem dksL_law_38 : cL_law.data.toList.drop 1066 = dktL_law_38 := dk_seg dksL_law_37 22 rfl rfl
theorem dksL_law_39 : cL_law.data.toList.drop 1090 = dktL_law_39 := dk_seg dksL_law_38 24 rfl rfl
theorem dksL_law_40 : cL_law.data.toList.drop 1112 = dktL_law_40 := dk_seg dksL_law_39 22 rfl rfl
theorem dksL_law_41 : cL_law.data.toList.drop 1135 = dktL_law_41 := dk_seg dksL_law_40 23 rfl rfl
theorem dksL_law_42 : cL_law.data.toList.drop 1158 = dktL_law_42 := dk_seg dksL_law_41 23 rfl rfl
theorem dksL_law_43 : cL_law.data.toList.drop 1182 = dktL_law_43 := dk_seg dksL_law_42 24 rfl rfl
theorem dksL_law_44 : cL_law.data.toList.drop 1205 = dktL_law_44 := dk_seg dksL_law_43 23 rfl rfl
theorem dksL_law_45 : cL_law.data.toList.drop 1229 = dktL_law_45 := dk_seg dksL_law_44 24 rfl rfl
theorem dksL_law_46 : cL_law.data.toList.drop 1252 = dktL_law_46 := dk_seg dksL_law_45 23 rfl rfl
theorem dksL_law_47 : cL_law.data.toList.drop 1276 = dktL_law_47 := dk_seg dksL_law_46 24 rfl rfl
theorem dksL_law_48 : cL_law.data.toList.drop 1299 = dktL_law_48 := dk_seg dksL_law_47 23 rfl rfl
theorem dksL_law_49 : cL_law.data.toList.drop 1323 = dktL_law_49 := dk_seg dksL_law_48 24 rfl rfl
theorem dksL_law_50 : cL_law.data.toList.drop 1346 = dktL_law_50 := dk_seg dksL_law_49 23 rfl rfl
theorem dksL_law_51 : cL_law.data.toList.drop 1370 = dktL_law_51 := dk_seg dksL_law_50 24 rfl rfl
theorem dksL_law_52 : cL_law.data.toList.drop 1392 = dktL_law_52 := dk_seg dksL_law_51 22 rfl rfl
theorem dksL_law_53 : cL_law.data.toList.drop 1415 = dktL_law_53 := dk_seg dksL_law_52 23 rfl rfl
theorem dksL_law_54 : cL_law.data.toList.drop 1438 = dktL_law_54 := dk_seg dksL_law_53 23 rfl rfl
theorem dksL_law_55 : cL_law.data.toList.drop 1462 = dktL_law_55 := dk_seg dksL_law_54 24 rfl rfl
theorem dksL_law_56 : cL_law.data.toList.drop 1485 = dktL_law_56 := dk_seg dksL_law_55 23 rfl rfl
theorem dksL_law_57 : cL_law.data.toList.drop 1509 = dktL_law_57 := dk_seg dksL_law_56 24 rfl rfl
theorem dksL_law_58 : cL_law.data.toList.drop 1532 = dktL_law_58 := dk_seg dksL_law_57 23 rfl rfl
theorem dksL_law_59 : cL_law.data.toList.drop 1556 = dktL_law_59 := dk_seg dksL_law_58 24 rfl rfl
theorem dksL_law_60 : cL_law.data.toList.drop 1580 = dktL_law_60 := dk_seg dksL_law_59 24 rfl rfl
theorem dksL_law_61 : cL_law.data.toList.drop 1603 = dktL_law_61 := dk_seg dksL_law_60 23 rfl rfl
theorem dksL_law_62 : cL_law.data.toList.drop 1627 = dktL_law_62 := dk_seg dksL_law_61 24 rfl rfl
theorem dksL_law_63 : cL_law.data.toList.drop 1650 = dktL_law_63 := dk_seg dksL_law_62 23 rfl rfl
theorem dksL_law_64 : cL_law.data.toList.drop 1674 = dktL_law_64 := dk_seg dksL_law_63 24 rfl rfl
theorem dksL_law_65 : cL_law.data.toList.drop 1696 = dktL_law_65 := dk_seg dksL_law_64 22 rfl rfl
theorem dksL_law_66 : cL_law.data.toList.drop 1719 = dktL_law_66 := dk_seg dksL_law_65 23 rfl rfl
theorem dksL_law_67 : cL_law.data.toList.drop 1742 = dktL_law_67 := dk_seg dksL_law_66 23 rfl rfl
theorem dksL_law_68 : cL_law.data.toList.drop 1766 = dktL_law_68 := dk_seg dksL_law_67 24 rfl rfl
theorem dksL_law_69 : cL_law.data.toList.drop 1790 = dktL_law_69 := dk_seg dksL_law_68 24 rfl rfl
theorem dksL_law_70 : cL_law.data.toList.drop 1813 = dktL_law_70 := dk_seg dksL_law_69 23 rfl rfl
theorem dksL_law_71 : cL_law.data.toList.drop 1837 = dktL_law_71 := dk_seg dksL_law_70 24 rfl rfl
theorem dksL_law_72 : cL_law.data.toList.drop 1859 = dktL_law_72 := dk_seg dksL_law_71 22 rfl rfl
theorem dksL_law_73 : cL_law.data.toList.drop 1882 = dktL_law_73 := dk_seg dksL_law_72 23 rfl rfl
theorem dksL_law_74 : cL_law.data.toList.drop 1904 = dktL_law_74 := dk_seg dksL_law_73 22 rfl rfl
theorem dksL_law_75 : cL_law.data.toList.drop 1927 = dktL_law_75 := dk_seg dksL_law_74 23 rfl rfl
theorem dksL_law_76 : cL_law.data.toList.drop 1951 = dktL_law_76 := dk_seg dksL_law_75 24 rfl rfl
theorem dksL_law_77 : cL_law.data.toList.drop 1975 = dktL_law_77 := dk_seg dksL_law_76 24 rfl rfl
theorem dksL_law_78 : cL_law.data.toList.drop 1999 = dktL_law_78 := dk_seg dksL_law_77 24 rfl rfl
theorem dksL_law_79 : cL_law.data.toList.drop 2023 = dktL_law_79 := dk_seg dksL_law_78 24 rfl rfl
theorem dksL_law_80 : cL_law.data.toList.drop 2047 = dktL_law_80 := dk_seg dksL_law_79 24 rfl rfl
theorem dksL_law_81 : cL_law.data.toList.drop 2069 = dktL_law_81 := dk_seg dksL_law_80 22 rfl rfl
theorem dksL_law_82 : cL_law.data.toList.drop 2093 = dktL_law_82 := dk_seg dksL_law_81 24 rfl rfl
theorem dksL_law_83 : cL_law.data.toList.drop 2117 = dktL_law_83 := dk_seg dksL_law_82 24 rfl rfl
theorem dksL_law_84 : cL_law.data.toList.drop 2141 = dktL_law_84 := dk_seg dksL_law_83 24 rfl rfl
theorem dksL_law_85 : cL_law.data.toList.drop 2165 = dktL_law_85 := dk_seg dksL_law_84 24 rfl rfl
theorem dksL_law_86 : cL_law.data.toList.drop 2188 = dktL_law_86 := dk_seg dksL_law_85 23 rfl rfl
theorem dksL_law_87 : cL_law.data.toList.drop 2212 = dktL_law_87 := dk_seg dksL_law_86 24 rfl rfl
theorem dksL_law_88 : cL_law.data.toList.drop 2235 = dktL_law_88 := dk_seg dksL_law_87 23 rfl rfl
theorem dksL_law_89 : cL_law.data.toList.drop 2259 = dktL_law_89 := dk_seg dksL_law_88 24 rfl rfl
theorem dksL_law_90 : cL_law.data.toList.drop 2283 = dktL_law_90 := dk_seg dksL_law_89 24 rfl rfl
theorem dksL_law_91 : cL_law.data.toList.drop 2306 = dktL_law_91 := dk_seg dksL_law_90 23 rfl rfl
theorem dksL_law_92 : cL_law.data.toList.drop 2330 = dktL_law_92 := dk_seg dksL_law_91 24 rfl rfl
theorem dksL_law_93 : cL_law.data.toList.drop 2354 = dktL_law_93 := dk_seg dksL_law_92 24 rfl rfl
theorem dksL_law_94 : cL_law.data.toList.drop 2377 = dktL_law_94 := dk_seg dksL_law_93 23 rfl rfl
theorem dksL_law_95 : cL_law.data.toList.drop 2401 = dktL_law_95 := dk_seg dksL_law_94 24 rfl rfl
theorem dksL_law_96 : cL_law.data.toList.drop 2424 = dktL_law_96 := dk_seg dksL_law_95 23 rfl rfl
theorem dksL_law_97 : cL_law.data.toList.drop 2448 = dktL_law_97 := dk_seg dksL_law_96 24 rfl rfl
theorem dksL_law_98 : cL_law.data.toList.drop 2471 = dktL_law_98 := dk_seg dksL_law_97 23 rfl rfl
theorem dksL_law_99 : cL_law.data.toList.drop 2495 = dktL_law_99 := dk_seg dksL_law_98 24 rfl rfl
theorem dksL_law_100 : cL_law.data.toList.drop 2518 = dktL_law_100 := dk_seg dksL_law_99 23 rfl rfl
theorem dksL_law_101 : cL_law.data.toList.drop 2542 = dktL_law_101 := dk_seg dksL_law_100 24 rfl rfl
theorem dksL_law_102 : cL_law.data.toList.drop 2565 = dktL_law_102 := dk_seg dksL_law_101 23 rfl rfl
theorem dksL_law_103 : cL_law.data.toList.drop 2589 = dktL_law_103 := dk_seg dksL_law_102 24 rfl rfl
theorem dksL_law_104 : cL_law.data.toList.drop 2611 = dktL_law_104 := dk_seg dksL_law_103 22 rfl rfl
theorem dksL_law_105 : cL_law.data.toList.drop 2635 = dktL_law_105 := dk_seg dksL_law_104 24 rfl rfl
theorem dksL_law_106 : cL_law.data.toList.drop 2658 = dktL_law_106 := dk_seg dksL_law_105 23 rfl rfl
theorem dksL_law_107 : cL_law.data.toList.drop 2681 = dktL_law_107 := dk_seg dksL_law_106 23 rfl rfl
theorem dksL_law_108 : cL_law.data.toList.drop 2705 = dktL_law_108 := dk_seg dksL_law_107 24 rfl rfl
theorem dksL_law_109 : cL_law.data.toList.drop 2728 = dktL_law_109 := dk_seg dksL_law_108 23 rfl rfl
theorem dksL_law_110 : cL_law.data.toList.drop 2752 = dktL_law_110 := dk_seg dksL_law_109 24 rfl rfl
theorem dksL_law_111 : cL_law.data.toList.drop 2775 = dktL_law_111 := dk_seg dksL_law_110 23 rfl rfl
theorem dksL_law_112 : cL_law.data.toList.drop 2799 = dktL_law_112 := dk_seg dksL_law_111 24 rfl rfl
theorem dksL_law_113 : cL_law.data.toList.drop 2822 = dktL_law_113 := dk_seg dksL_law_112 23 rfl rfl
theorem dksL_law_114 : cL_law.data.toList.drop 2846 = dktL_law_114 := dk_seg dksL_law_113 24 rfl rfl
theorem dksL_law_115 : cL_law.data.toList.drop 2869 = dktL_law_115 := dk_seg dksL_law_114 23 rfl rfl
theorem dksL_law_116 : cL_law.data.toList.drop 2893 = dktL_law_116 := dk_seg dksL_law_115 24 rfl rfl
theorem dksL_law_117 : cL_law.data.toList.drop 2917 = dktL_law_117 := dk_seg dksL_law_116 24 rfl rfl
theorem dksL_law_118 : cL_law.data.toList.drop 2941 = dktL_law_118 := dk_seg dksL_law_117 24 rfl rfl
theorem dksL_law_119 : cL_law.data.toList.drop 2964 = dktL_law_119 := dk_seg dksL_law_118 23 rfl rfl
theorem dksL_law_120 : cL_law.data.toList.drop 2988 = dktL_law_120 := dk_seg dksL_law_119 24 rfl rfl
theorem dksL_law_121 : cL_law.data.toList.drop 3010 = dktL_law_121 := dk_seg dksL_law_120 22 rfl rfl
theorem dL_law_0 : decode cL_law 0 = .ok (.new 8, 3) := dk_187 0 8 (dk_at dksL_law_0 0 rfl rfl)
theorem dL_law_3 : decode cL_law 3 = .ok (.dup, 1) := dk_89 (dk_at dksL_law_0 3 rfl rfl)
theorem dL_law_4 : decode cL_law 4 = .ok (.invokespecial 141, 3) := dk_183 0 141 (dk_at dksL_law_0 4 rfl rfl)
theorem dL_law_7 : decode cL_law 7 = .ok (.astore_n 1, 1) := dk_76 (dk_at dksL_law_0 7 rfl rfl)
theorem dL_law_8 : decode cL_law 8 = .ok (.new 142, 3) := dk_187 0 142 (dk_at dksL_law_0 8 rfl rfl)
theorem dL_law_11 : decode cL_law 11 = .ok (.dup, 1) := dk_89 (dk_at dksL_law_0 11 rfl rfl)
theorem dL_law_12 : decode cL_law 12 = .ok (.invokespecial 144, 3) := dk_183 0 144 (dk_at dksL_law_0 12 rfl rfl)
theorem dL_law_15 : decode cL_law 15 = .ok (.astore_n 2, 1) := dk_77 (dk_at dksL_law_0 15 rfl rfl)
theorem dL_law_16 : decode cL_law 16 = .ok (.iconst 1, 1) := dk_4 (dk_at dksL_law_0 16 rfl rfl)
theorem dL_law_17 : decode cL_law 17 = .ok (.newarray .long, 2) := dk_188_11 (dk_at dksL_law_0 17 rfl rfl)
theorem dL_law_19 : decode cL_law 19 = .ok (.astore_n 3, 1) := dk_78 (dk_at dksL_law_0 19 rfl rfl)
theorem dL_law_20 : decode cL_law 20 = .ok (.iconst 0, 1) := dk_3 (dk_at dksL_law_0 20 rfl rfl)
theorem dL_law_21 : decode cL_law 21 = .ok (.istore 4, 2) := dk_54 4 (dk_at dksL_law_0 21 rfl rfl)
theorem dL_law_23 : decode cL_law 23 = .ok (.iload 4, 2) := dk_21 4 (dk_at dksL_law_1 0 rfl rfl)
theorem dL_law_25 : decode cL_law 25 = .ok (.aload_n 0, 1) := dk_42 (dk_at dksL_law_1 2 rfl rfl)
theorem dL_law_26 : decode cL_law 26 = .ok (.arraylength, 1) := dk_190 (dk_at dksL_law_1 3 rfl rfl)
theorem dL_law_27 : decode cL_law 27 = .ok (.bipush 6, 2) := dk_16 6 (dk_at dksL_law_1 4 rfl rfl)
theorem dL_law_29 : decode cL_law 29 = .ok (.isub, 1) := dk_100 (dk_at dksL_law_1 6 rfl rfl)
theorem dL_law_30 : decode cL_law 30 = .ok (.if_icmp .gt 2991, 3) := dk_163 11 175 (dk_at dksL_law_1 7 rfl rfl)
theorem dL_law_33 : decode cL_law 33 = .ok (.aload_n 0, 1) := dk_42 (dk_at dksL_law_1 10 rfl rfl)
theorem dL_law_34 : decode cL_law 34 = .ok (.iload 4, 2) := dk_21 4 (dk_at dksL_law_1 11 rfl rfl)
theorem dL_law_36 : decode cL_law 36 = .ok (.iaload, 1) := dk_46 (dk_at dksL_law_1 13 rfl rfl)
theorem dL_law_37 : decode cL_law 37 = .ok (.bipush 63, 2) := dk_16 63 (dk_at dksL_law_1 14 rfl rfl)
theorem dL_law_39 : decode cL_law 39 = .ok (.iand, 1) := dk_126 (dk_at dksL_law_1 16 rfl rfl)
theorem dL_law_40 : decode cL_law 40 = .ok (.tableswitch 2975 0 48 #[212, 285, 341, 354, 410, 478, 546, 614, 639, 707, 763, 831, 906, 919, 932, 1012, 1080, 1136, 1192, 1248, 1304, 1360, 1416, 1472, 1528, 1596, 1664, 1720, 1800, 1811, 1867, 1923, 2003, 2095, 2175, 2231, 2299, 2355, 2411, 2467, 2523, 2579, 2659, 2715, 2771, 2827, 2895, 2951, 2962], 212) := by decide +kernel
theorem dL_law_252 : decode cL_law 252 = .ok (.aload_n 1, 1) := dk_43 (dk_at dksL_law_3 0 rfl rfl)
theorem dL_law_253 : decode cL_law 253 = .ok (.aload_n 0, 1) := dk_42 (dk_at dksL_law_3 1 rfl rfl)
theorem dL_law_254 : decode cL_law 254 = .ok (.iload 4, 2) := dk_21 4 (dk_at dksL_law_3 2 rfl rfl)
theorem dL_law_256 : decode cL_law 256 = .ok (.iconst 1, 1) := dk_4 (dk_at dksL_law_3 4 rfl rfl)
theorem dL_law_257 : decode cL_law 257 = .ok (.iadd, 1) := dk_96 (dk_at dksL_law_3 5 rfl rfl)
theorem dL_law_258 : decode cL_law 258 = .ok (.iaload, 1) := dk_46 (dk_at dksL_law_3 6 rfl rfl)
theorem dL_law_259 : decode cL_law 259 = .ok (.aload_n 0, 1) := dk_42 (dk_at dksL_law_3 7 rfl rfl)
theorem dL_law_260 : decode cL_law 260 = .ok (.iload 4, 2) := dk_21 4 (dk_at dksL_law_3 8 rfl rfl)
theorem dL_law_262 : decode cL_law 262 = .ok (.iconst 2, 1) := dk_5 (dk_at dksL_law_3 10 rfl rfl)
theorem dL_law_263 : decode cL_law 263 = .ok (.iadd, 1) := dk_96 (dk_at dksL_law_3 11 rfl rfl)
theorem dL_law_264 : decode cL_law 264 = .ok (.iaload, 1) := dk_46 (dk_at dksL_law_3 12 rfl rfl)
theorem dL_law_265 : decode cL_law 265 = .ok (.aload_n 0, 1) := dk_42 (dk_at dksL_law_3 13 rfl rfl)
theorem dL_law_266 : decode cL_law 266 = .ok (.iload 4, 2) := dk_21 4 (dk_at dksL_law_3 14 rfl rfl)
theorem dL_law_268 : decode cL_law 268 = .ok (.iconst 3, 1) := dk_6 (dk_at dksL_law_3 16 rfl rfl)
theorem dL_law_269 : decode cL_law 269 = .ok (.iadd, 1) := dk_96 (dk_at dksL_law_3 17 rfl rfl)
theorem dL_law_270 : decode cL_law 270 = .ok (.iaload, 1) := dk_46 (dk_at dksL_law_3 18 rfl rfl)
theorem dL_law_271 : decode cL_law 271 = .ok (.aload_n 0, 1) := dk_42 (dk_at dksL_law_3 19 rfl rfl)
theorem dL_law_272 : decode cL_law 272 = .ok (.iload 4, 2) := dk_21 4 (dk_at dksL_law_3 20 rfl rfl)
theorem dL_law_274 : decode cL_law 274 = .ok (.iconst 4, 1) := dk_7 (dk_at dksL_law_3 22 rfl rfl)
theorem dL_law_275 : decode cL_law 275 = .ok (.iadd, 1) := dk_96 (dk_at dksL_law_3 23 rfl rfl)
theorem dL_law_276 : decode cL_law 276 = .ok (.iaload, 1) := dk_46 (dk_at dksL_law_4 0 rfl rfl)
theorem dL_law_277 : decode cL_law 277 = .ok (.aload_n 0, 1) := dk_42 (dk_at dksL_law_4 1 rfl rfl)
theorem dL_law_278 : decode cL_law 278 = .ok (.iload 4, 2) := dk_21 4 (dk_at dksL_law_4 2 rfl rfl)
theorem dL_law_280 : decode cL_law 280 = .ok (.iconst 5, 1) := dk_8 (dk_at dksL_law_4 4 rfl rfl)
theorem dL_law_281 : decode cL_law 281 = .ok (.iadd, 1) := dk_96 (dk_at dksL_law_4 5 rfl rfl)
theorem dL_law_282 : decode cL_law 282 = .ok (.iaload, 1) := dk_46 (dk_at dksL_law_4 6 rfl rfl)
theorem dL_law_283 : decode cL_law 283 = .ok (.invokevirtual 145, 3) := dk_182 0 145 (dk_at dksL_law_4 7 rfl rfl)
theorem dL_law_286 : decode cL_law 286 = .ok (.aload_n 2, 1) := dk_44 (dk_at dksL_law_4 10 rfl rfl)
theorem dL_law_287 : decode cL_law 287 = .ok (.aload_n 0, 1) := dk_42 (dk_at dksL_law_4 11 rfl rfl)
theorem dL_law_288 : decode cL_law 288 = .ok (.iload 4, 2) := dk_21 4 (dk_at dksL_law_4 12 rfl rfl)
theorem dL_law_290 : decode cL_law 290 = .ok (.iconst 1, 1) := dk_4 (dk_at dksL_law_4 14 rfl rfl)
theorem dL_law_291 : decode cL_law 291 = .ok (.iadd, 1) := dk_96 (dk_at dksL_law_4 15 rfl rfl)
theorem dL_law_292 : decode cL_law 292 = .ok (.iaload, 1) := dk_46 (dk_at dksL_law_4 16 rfl rfl)
theorem dL_law_293 : decode cL_law 293 = .ok (.aload_n 0, 1) := dk_42 (dk_at dksL_law_4 17 rfl rfl)
theorem dL_law_294 : decode cL_law 294 = .ok (.iload 4, 2) := dk_21 4 (dk_at dksL_law_4 18 rfl rfl)
theorem dL_law_296 : decode cL_law 296 = .ok (.iconst 2, 1) := dk_5 (dk_at dksL_law_4 20 rfl rfl)
theorem dL_law_297 : decode cL_law 297 = .ok (.iadd, 1) := dk_96 (dk_at dksL_law_4 21 rfl rfl)
theorem dL_law_298 : decode cL_law 298 = .ok (.iaload, 1) := dk_46 (dk_at dksL_law_4 22 rfl rfl)
theorem dL_law_299 : decode cL_law 299 = .ok (.aload_n 0, 1) := dk_42 (dk_at dksL_law_4 23 rfl rfl)
theorem dL_law_300 : decode cL_law 300 = .ok (.iload 4, 2) := dk_21 4 (dk_at dksL_law_5 0 rfl rfl)
theorem dL_law_302 : decode cL_law 302 = .ok (.iconst 3, 1) := dk_6 (dk_at dksL_law_5 2 rfl rfl)
theorem dL_law_303 : decode cL_law 303 = .ok (.iadd, 1) := dk_96 (dk_at dksL_law_5 3 rfl rfl)
theorem dL_law_304 : decode cL_law 304 = .ok (.iaload, 1) := dk_46 (dk_at dksL_law_5 4 rfl rfl)
theorem dL_law_305 : decode cL_law 305 = .ok (.aload_n 0, 1) := dk_42 (dk_at dksL_law_5 5 rfl rfl)
theorem dL_law_306 : decode cL_law 306 = .ok (.iload 4, 2) := dk_21 4 (dk_at dksL_law_5 6 rfl rfl)
theorem dL_law_308 : decode cL_law 308 = .ok (.iconst 4, 1) := dk_7 (dk_at dksL_law_5 8 rfl rfl)
theorem dL_law_309 : decode cL_law 309 = .ok (.iadd, 1) := dk_96 (dk_at dksL_law_5 9 rfl rfl)
theorem dL_law_310 : decode cL_law 310 = .ok (.iaload, 1) := dk_46 (dk_at dksL_law_5 10 rfl rfl)
theorem dL_law_311 : decode cL_law 311 = .ok (.aload_n 0, 1) := dk_42 (dk_at dksL_law_5 11 rfl rfl)
theorem dL_law_312 : decode cL_law 312 = .ok (.iload 4, 2) := dk_21 4 (dk_at dksL_law_5 12 rfl rfl)
theorem dL_law_314 : decode cL_law 314 = .ok (.iconst 5, 1) := dk_8 (dk_at dksL_law_5 14 rfl rfl)
theorem dL_law_315 : decode cL_law 315 = .ok (.iadd, 1) := dk_96 (dk_at dksL_law_5 15 rfl rfl)
theorem dL_law_316 : decode cL_law 316 = .ok (.iaload, 1) := dk_46 (dk_at dksL_law_5 16 rfl rfl)
theorem dL_law_317 : decode cL_law 317 = .ok (.invokevirtual 149, 3) := dk_182 0 149 (dk_at dksL_law_5 17 rfl rfl)
theorem dL_law_320 : decode cL_law 320 = .ok (.if_icmp .eq 2695, 3) := dk_159 10 135 (dk_at dksL_law_5 20 rfl rfl)
theorem dL_law_323 : decode cL_law 323 = .ok (.iconst 0, 1) := dk_3 (dk_at dksL_law_5 23 rfl rfl)
theorem dL_law_324 : decode cL_law 324 = .ok (.ireturn, 1) := dk_172 (dk_at dksL_law_6 0 rfl rfl)
theorem dL_law_325 : decode cL_law 325 = .ok (.aload_n 1, 1) := dk_43 (dk_at dksL_law_6 1 rfl rfl)
theorem dL_law_326 : decode cL_law 326 = .ok (.aload_n 0, 1) := dk_42 (dk_at dksL_law_6 2 rfl rfl)
theorem dL_law_327 : decode cL_law 327 = .ok (.iload 4, 2) := dk_21 4 (dk_at dksL_law_6 3 rfl rfl)
theorem dL_law_329 : decode cL_law 329 = .ok (.iconst 1, 1) := dk_4 (dk_at dksL_law_6 5 rfl rfl)
theorem dL_law_330 : decode cL_law 330 = .ok (.iadd, 1) := dk_96 (dk_at dksL_law_6 6 rfl rfl)
theorem dL_law_331 : decode cL_law 331 = .ok (.iaload, 1) := dk_46 (dk_at dksL_law_6 7 rfl rfl)
theorem dL_law_332 : decode cL_law 332 = .ok (.aload_n 3, 1) := dk_45 (dk_at dksL_law_6 8 rfl rfl)
theorem dL_law_333 : decode cL_law 333 = .ok (.invokestatic 150, 3) := dk_184 0 150 (dk_at dksL_law_6 9 rfl rfl)
theorem dL_law_336 : decode cL_law 336 = .ok (.istore 5, 2) := dk_54 5 (dk_at dksL_law_6 12 rfl rfl)
theorem dL_law_338 : decode cL_law 338 = .ok (.aload_n 2, 1) := dk_44 (dk_at dksL_law_6 14 rfl rfl)
theorem dL_law_339 : decode cL_law 339 = .ok (.aload_n 0, 1) := dk_42 (dk_at dksL_law_6 15 rfl rfl)
theorem dL_law_340 : decode cL_law 340 = .ok (.iload 4, 2) := dk_21 4 (dk_at dksL_law_6 16 rfl rfl)
theorem dL_law_342 : decode cL_law 342 = .ok (.iconst 1, 1) := dk_4 (dk_at dksL_law_6 18 rfl rfl)
theorem dL_law_343 : decode cL_law 343 = .ok (.iadd, 1) := dk_96 (dk_at dksL_law_6 19 rfl rfl)
theorem dL_law_344 : decode cL_law 344 = .ok (.iaload, 1) := dk_46 (dk_at dksL_law_6 20 rfl rfl)
theorem dL_law_345 : decode cL_law 345 = .ok (.invokevirtual 155, 3) := dk_182 0 155 (dk_at dksL_law_6 21 rfl rfl)
theorem dL_law_348 : decode cL_law 348 = .ok (.istore 6, 2) := dk_54 6 (dk_at dksL_law_7 0 rfl rfl)
theorem dL_law_350 : decode cL_law 350 = .ok (.aload_n 2, 1) := dk_44 (dk_at dksL_law_7 2 rfl rfl)
theorem dL_law_351 : decode cL_law 351 = .ok (.invokevirtual 156, 3) := dk_182 0 156 (dk_at dksL_law_7 3 rfl rfl)
theorem dL_law_354 : decode cL_law 354 = .ok (.iload 5, 2) := dk_21 5 (dk_at dksL_law_7 6 rfl rfl)
theorem dL_law_356 : decode cL_law 356 = .ok (.if_icmp .eq 5, 3) := dk_159 0 5 (dk_at dksL_law_7 8 rfl rfl)
theorem dL_law_359 : decode cL_law 359 = .ok (.iconst 0, 1) := dk_3 (dk_at dksL_law_7 11 rfl rfl)
theorem dL_law_360 : decode cL_law 360 = .ok (.ireturn, 1) := dk_172 (dk_at dksL_law_7 12 rfl rfl)
theorem dL_law_361 : decode cL_law 361 = .ok (.iload 5, 2) := dk_21 5 (dk_at dksL_law_7 13 rfl rfl)
theorem dL_law_363 : decode cL_law 363 = .ok (.ifCond .ne 15, 3) := dk_154 0 15 (dk_at dksL_law_7 15 rfl rfl)
theorem dL_law_366 : decode cL_law 366 = .ok (.aload_n 3, 1) := dk_45 (dk_at dksL_law_7 18 rfl rfl)
theorem dL_law_367 : decode cL_law 367 = .ok (.iconst 0, 1) := dk_3 (dk_at dksL_law_7 19 rfl rfl)
theorem dL_law_368 : decode cL_law 368 = .ok (.laload, 1) := dk_47 (dk_at dksL_law_7 20 rfl rfl)
theorem dL_law_369 : decode cL_law 369 = .ok (.iload 6, 2) := dk_21 6 (dk_at dksL_law_7 21 rfl rfl)
theorem dL_law_371 : decode cL_law 371 = .ok (.i2l, 1) := dk_133 (dk_at dksL_law_7 23 rfl rfl)
theorem dL_law_372 : decode cL_law 372 = .ok (.lcmp, 1) := dk_148 (dk_at dksL_law_8 0 rfl rfl)
theorem dL_law_373 : decode cL_law 373 = .ok (.ifCond .eq 5, 3) := dk_153 0 5 (dk_at dksL_law_8 1 rfl rfl)
theorem dL_law_376 : decode cL_law 376 = .ok (.iconst 0, 1) := dk_3 (dk_at dksL_law_8 4 rfl rfl)
theorem dL_law_377 : decode cL_law 377 = .ok (.ireturn, 1) := dk_172 (dk_at dksL_law_8 5 rfl rfl)
theorem dL_law_378 : decode cL_law 378 = .ok (.goto 2637, 3) := dk_167 10 77 (dk_at dksL_law_8 6 rfl rfl)
theorem dL_law_381 : decode cL_law 381 = .ok (.aload_n 1, 1) := dk_43 (dk_at dksL_law_8 9 rfl rfl)
theorem dL_law_382 : decode cL_law 382 = .ok (.invokevirtual 160, 3) := dk_182 0 160 (dk_at dksL_law_8 10 rfl rfl)
theorem dL_law_385 : decode cL_law 385 = .ok (.aload_n 2, 1) := dk_44 (dk_at dksL_law_8 13 rfl rfl)
theorem dL_law_386 : decode cL_law 386 = .ok (.invokevirtual 163, 3) := dk_182 0 163 (dk_at dksL_law_8 14 rfl rfl)
theorem dL_law_389 : decode cL_law 389 = .ok (.if_icmp .eq 2626, 3) := dk_159 10 66 (dk_at dksL_law_8 17 rfl rfl)
theorem dL_law_392 : decode cL_law 392 = .ok (.iconst 0, 1) := dk_3 (dk_at dksL_law_8 20 rfl rfl)
theorem dL_law_393 : decode cL_law 393 = .ok (.ireturn, 1) := dk_172 (dk_at dksL_law_8 21 rfl rfl)
theorem dL_law_394 : decode cL_law 394 = .ok (.aload_n 1, 1) := dk_43 (dk_at dksL_law_8 22 rfl rfl)
theorem dL_law_395 : decode cL_law 395 = .ok (.aload_n 0, 1) := dk_42 (dk_at dksL_law_8 23 rfl rfl)
theorem dL_law_396 : decode cL_law 396 = .ok (.iload 4, 2) := dk_21 4 (dk_at dksL_law_9 0 rfl rfl)
theorem dL_law_398 : decode cL_law 398 = .ok (.iconst 1, 1) := dk_4 (dk_at dksL_law_9 2 rfl rfl)
theorem dL_law_399 : decode cL_law 399 = .ok (.iadd, 1) := dk_96 (dk_at dksL_law_9 3 rfl rfl)
theorem dL_law_400 : decode cL_law 400 = .ok (.iaload, 1) := dk_46 (dk_at dksL_law_9 4 rfl rfl)
theorem dL_law_401 : decode cL_law 401 = .ok (.aload_n 3, 1) := dk_45 (dk_at dksL_law_9 5 rfl rfl)
theorem dL_law_402 : decode cL_law 402 = .ok (.invokestatic 164, 3) := dk_184 0 164 (dk_at dksL_law_9 6 rfl rfl)
theorem dL_law_405 : decode cL_law 405 = .ok (.istore 5, 2) := dk_54 5 (dk_at dksL_law_9 9 rfl rfl)
theorem dL_law_407 : decode cL_law 407 = .ok (.aload_n 2, 1) := dk_44 (dk_at dksL_law_9 11 rfl rfl)
theorem dL_law_408 : decode cL_law 408 = .ok (.aload_n 0, 1) := dk_42 (dk_at dksL_law_9 12 rfl rfl)
theorem dL_law_409 : decode cL_law 409 = .ok (.iload 4, 2) := dk_21 4 (dk_at dksL_law_9 13 rfl rfl)
theorem dL_law_411 : decode cL_law 411 = .ok (.iconst 1, 1) := dk_4 (dk_at dksL_law_9 15 rfl rfl)
theorem dL_law_412 : decode cL_law 412 = .ok (.iadd, 1) := dk_96 (dk_at dksL_law_9 16 rfl rfl)
theorem dL_law_413 : decode cL_law 413 = .ok (.iaload, 1) := dk_46 (dk_at dksL_law_9 17 rfl rfl)
theorem dL_law_414 : decode cL_law 414 = .ok (.invokevirtual 166, 3) := dk_182 0 166 (dk_at dksL_law_9 18 rfl rfl)
theorem dL_law_417 : decode cL_law 417 = .ok (.istore 6, 2) := dk_54 6 (dk_at dksL_law_9 21 rfl rfl)
theorem dL_law_419 : decode cL_law 419 = .ok (.aload_n 2, 1) := dk_44 (dk_at dksL_law_9 23 rfl rfl)
theorem dL_law_420 : decode cL_law 420 = .ok (.invokevirtual 156, 3) := dk_182 0 156 (dk_at dksL_law_10 0 rfl rfl)
theorem dL_law_423 : decode cL_law 423 = .ok (.iload 5, 2) := dk_21 5 (dk_at dksL_law_10 3 rfl rfl)
theorem dL_law_425 : decode cL_law 425 = .ok (.if_icmp .eq 5, 3) := dk_159 0 5 (dk_at dksL_law_10 5 rfl rfl)
theorem dL_law_428 : decode cL_law 428 = .ok (.iconst 0, 1) := dk_3 (dk_at dksL_law_10 8 rfl rfl)
theorem dL_law_429 : decode cL_law 429 = .ok (.ireturn, 1) := dk_172 (dk_at dksL_law_10 9 rfl rfl)
theorem dL_law_430 : decode cL_law 430 = .ok (.iload 5, 2) := dk_21 5 (dk_at dksL_law_10 10 rfl rfl)
theorem dL_law_432 : decode cL_law 432 = .ok (.ifCond .ne 15, 3) := dk_154 0 15 (dk_at dksL_law_10 12 rfl rfl)
theorem dL_law_435 : decode cL_law 435 = .ok (.aload_n 3, 1) := dk_45 (dk_at dksL_law_10 15 rfl rfl)
theorem dL_law_436 : decode cL_law 436 = .ok (.iconst 0, 1) := dk_3 (dk_at dksL_law_10 16 rfl rfl)
theorem dL_law_437 : decode cL_law 437 = .ok (.laload, 1) := dk_47 (dk_at dksL_law_10 17 rfl rfl)
theorem dL_law_438 : decode cL_law 438 = .ok (.iload 6, 2) := dk_21 6 (dk_at dksL_law_10 18 rfl rfl)
theorem dL_law_440 : decode cL_law 440 = .ok (.i2l, 1) := dk_133 (dk_at dksL_law_10 20 rfl rfl)
theorem dL_law_441 : decode cL_law 441 = .ok (.lcmp, 1) := dk_148 (dk_at dksL_law_10 21 rfl rfl)
theorem dL_law_442 : decode cL_law 442 = .ok (.ifCond .eq 5, 3) := dk_153 0 5 (dk_at dksL_law_11 0 rfl rfl)
theorem dL_law_445 : decode cL_law 445 = .ok (.iconst 0, 1) := dk_3 (dk_at dksL_law_11 3 rfl rfl)
theorem dL_law_446 : decode cL_law 446 = .ok (.ireturn, 1) := dk_172 (dk_at dksL_law_11 4 rfl rfl)
theorem dL_law_447 : decode cL_law 447 = .ok (.goto 2568, 3) := dk_167 10 8 (dk_at dksL_law_11 5 rfl rfl)
theorem dL_law_450 : decode cL_law 450 = .ok (.aload_n 1, 1) := dk_43 (dk_at dksL_law_11 8 rfl rfl)
theorem dL_law_451 : decode cL_law 451 = .ok (.aload_n 0, 1) := dk_42 (dk_at dksL_law_11 9 rfl rfl)
theorem dL_law_452 : decode cL_law 452 = .ok (.iload 4, 2) := dk_21 4 (dk_at dksL_law_11 10 rfl rfl)
theorem dL_law_454 : decode cL_law 454 = .ok (.iconst 1, 1) := dk_4 (dk_at dksL_law_11 12 rfl rfl)
theorem dL_law_455 : decode cL_law 455 = .ok (.iadd, 1) := dk_96 (dk_at dksL_law_11 13 rfl rfl)
theorem dL_law_456 : decode cL_law 456 = .ok (.iaload, 1) := dk_46 (dk_at dksL_law_11 14 rfl rfl)
theorem dL_law_457 : decode cL_law 457 = .ok (.aload_n 0, 1) := dk_42 (dk_at dksL_law_11 15 rfl rfl)
theorem dL_law_458 : decode cL_law 458 = .ok (.iload 4, 2) := dk_21 4 (dk_at dksL_law_11 16 rfl rfl)
theorem dL_law_460 : decode cL_law 460 = .ok (.iconst 2, 1) := dk_5 (dk_at dksL_law_11 18 rfl rfl)
theorem dL_law_461 : decode cL_law 461 = .ok (.iadd, 1) := dk_96 (dk_at dksL_law_11 19 rfl rfl)
theorem dL_law_462 : decode cL_law 462 = .ok (.iaload, 1) := dk_46 (dk_at dksL_law_11 20 rfl rfl)
theorem dL_law_463 : decode cL_law 463 = .ok (.aload_n 3, 1) := dk_45 (dk_at dksL_law_11 21 rfl rfl)
theorem dL_law_464 : decode cL_law 464 = .ok (.invokestatic 167, 3) := dk_184 0 167 (dk_at dksL_law_12 0 rfl rfl)
theorem dL_law_467 : decode cL_law 467 = .ok (.istore 5, 2) := dk_54 5 (dk_at dksL_law_12 3 rfl rfl)
theorem dL_law_469 : decode cL_law 469 = .ok (.aload_n 2, 1) := dk_44 (dk_at dksL_law_12 5 rfl rfl)
theorem dL_law_470 : decode cL_law 470 = .ok (.aload_n 0, 1) := dk_42 (dk_at dksL_law_12 6 rfl rfl)
theorem dL_law_471 : decode cL_law 471 = .ok (.iload 4, 2) := dk_21 4 (dk_at dksL_law_12 7 rfl rfl)
theorem dL_law_473 : decode cL_law 473 = .ok (.iconst 1, 1) := dk_4 (dk_at dksL_law_12 9 rfl rfl)
theorem dL_law_474 : decode cL_law 474 = .ok (.iadd, 1) := dk_96 (dk_at dksL_law_12 10 rfl rfl)
theorem dL_law_475 : decode cL_law 475 = .ok (.iaload, 1) := dk_46 (dk_at dksL_law_12 11 rfl rfl)
theorem dL_law_476 : decode cL_law 476 = .ok (.aload_n 0, 1) := dk_42 (dk_at dksL_law_12 12 rfl rfl)
theorem dL_law_477 : decode cL_law 477 = .ok (.iload 4, 2) := dk_21 4 (dk_at dksL_law_12 13 rfl rfl)
theorem dL_law_479 : decode cL_law 479 = .ok (.iconst 2, 1) := dk_5 (dk_at dksL_law_12 15 rfl rfl)
theorem dL_law_480 : decode cL_law 480 = .ok (.iadd, 1) := dk_96 (dk_at dksL_law_12 16 rfl rfl)
theorem dL_law_481 : decode cL_law 481 = .ok (.iaload, 1) := dk_46 (dk_at dksL_law_12 17 rfl rfl)
theorem dL_law_482 : decode cL_law 482 = .ok (.invokevirtual 170, 3) := dk_182 0 170 (dk_at dksL_law_12 18 rfl rfl)
theorem dL_law_485 : decode cL_law 485 = .ok (.istore 6, 2) := dk_54 6 (dk_at dksL_law_12 21 rfl rfl)
theorem dL_law_487 : decode cL_law 487 = .ok (.aload_n 2, 1) := dk_44 (dk_at dksL_law_12 23 rfl rfl)
theorem dL_law_488 : decode cL_law 488 = .ok (.invokevirtual 156, 3) := dk_182 0 156 (dk_at dksL_law_13 0 rfl rfl)
theorem dL_law_491 : decode cL_law 491 = .ok (.iload 5, 2) := dk_21 5 (dk_at dksL_law_13 3 rfl rfl)
theorem dL_law_493 : decode cL_law 493 = .ok (.if_icmp .eq 5, 3) := dk_159 0 5 (dk_at dksL_law_13 5 rfl rfl)
theorem dL_law_496 : decode cL_law 496 = .ok (.iconst 0, 1) := dk_3 (dk_at dksL_law_13 8 rfl rfl)
theorem dL_law_497 : decode cL_law 497 = .ok (.ireturn, 1) := dk_172 (dk_at dksL_law_13 9 rfl rfl)
theorem dL_law_498 : decode cL_law 498 = .ok (.iload 5, 2) := dk_21 5 (dk_at dksL_law_13 10 rfl rfl)
theorem dL_law_500 : decode cL_law 500 = .ok (.ifCond .ne 15, 3) := dk_154 0 15 (dk_at dksL_law_13 12 rfl rfl)
theorem dL_law_503 : decode cL_law 503 = .ok (.aload_n 3, 1) := dk_45 (dk_at dksL_law_13 15 rfl rfl)
theorem dL_law_504 : decode cL_law 504 = .ok (.iconst 0, 1) := dk_3 (dk_at dksL_law_13 16 rfl rfl)
theorem dL_law_505 : decode cL_law 505 = .ok (.laload, 1) := dk_47 (dk_at dksL_law_13 17 rfl rfl)
theorem dL_law_506 : decode cL_law 506 = .ok (.iload 6, 2) := dk_21 6 (dk_at dksL_law_13 18 rfl rfl)
theorem dL_law_508 : decode cL_law 508 = .ok (.i2l, 1) := dk_133 (dk_at dksL_law_13 20 rfl rfl)
theorem dL_law_509 : decode cL_law 509 = .ok (.lcmp, 1) := dk_148 (dk_at dksL_law_13 21 rfl rfl)
theorem dL_law_510 : decode cL_law 510 = .ok (.ifCond .eq 5, 3) := dk_153 0 5 (dk_at dksL_law_14 0 rfl rfl)
theorem dL_law_513 : decode cL_law 513 = .ok (.iconst 0, 1) := dk_3 (dk_at dksL_law_14 3 rfl rfl)
theorem dL_law_514 : decode cL_law 514 = .ok (.ireturn, 1) := dk_172 (dk_at dksL_law_14 4 rfl rfl)
theorem dL_law_515 : decode cL_law 515 = .ok (.goto 2500, 3) := dk_167 9 196 (dk_at dksL_law_14 5 rfl rfl)
theorem dL_law_518 : decode cL_law 518 = .ok (.aload_n 1, 1) := dk_43 (dk_at dksL_law_14 8 rfl rfl)
theorem dL_law_519 : decode cL_law 519 = .ok (.aload_n 0, 1) := dk_42 (dk_at dksL_law_14 9 rfl rfl)
theorem dL_law_520 : decode cL_law 520 = .ok (.iload 4, 2) := dk_21 4 (dk_at dksL_law_14 10 rfl rfl)
theorem dL_law_522 : decode cL_law 522 = .ok (.iconst 1, 1) := dk_4 (dk_at dksL_law_14 12 rfl rfl)
theorem dL_law_523 : decode cL_law 523 = .ok (.iadd, 1) := dk_96 (dk_at dksL_law_14 13 rfl rfl)
theorem dL_law_524 : decode cL_law 524 = .ok (.iaload, 1) := dk_46 (dk_at dksL_law_14 14 rfl rfl)
theorem dL_law_525 : decode cL_law 525 = .ok (.aload_n 0, 1) := dk_42 (dk_at dksL_law_14 15 rfl rfl)
theorem dL_law_526 : decode cL_law 526 = .ok (.iload 4, 2) := dk_21 4 (dk_at dksL_law_14 16 rfl rfl)
theorem dL_law_528 : decode cL_law 528 = .ok (.iconst 2, 1) := dk_5 (dk_at dksL_law_14 18 rfl rfl)
theorem dL_law_529 : decode cL_law 529 = .ok (.iadd, 1) := dk_96 (dk_at dksL_law_14 19 rfl rfl)
theorem dL_law_530 : decode cL_law 530 = .ok (.iaload, 1) := dk_46 (dk_at dksL_law_14 20 rfl rfl)
theorem dL_law_531 : decode cL_law 531 = .ok (.aload_n 3, 1) := dk_45 (dk_at dksL_law_14 21 rfl rfl)
theorem dL_law_532 : decode cL_law 532 = .ok (.invokestatic 171, 3) := dk_184 0 171 (dk_at dksL_law_15 0 rfl rfl)
theorem dL_law_535 : decode cL_law 535 = .ok (.istore 5, 2) := dk_54 5 (dk_at dksL_law_15 3 rfl rfl)
theorem dL_law_537 : decode cL_law 537 = .ok (.aload_n 2, 1) := dk_44 (dk_at dksL_law_15 5 rfl rfl)
theorem dL_law_538 : decode cL_law 538 = .ok (.aload_n 0, 1) := dk_42 (dk_at dksL_law_15 6 rfl rfl)
theorem dL_law_539 : decode cL_law 539 = .ok (.iload 4, 2) := dk_21 4 (dk_at dksL_law_15 7 rfl rfl)
theorem dL_law_541 : decode cL_law 541 = .ok (.iconst 1, 1) := dk_4 (dk_at dksL_law_15 9 rfl rfl)
theorem dL_law_542 : decode cL_law 542 = .ok (.iadd, 1) := dk_96 (dk_at dksL_law_15 10 rfl rfl)
theorem dL_law_543 : decode cL_law 543 = .ok (.iaload, 1) := dk_46 (dk_at dksL_law_15 11 rfl rfl)
theorem dL_law_544 : decode cL_law 544 = .ok (.aload_n 0, 1) := dk_42 (dk_at dksL_law_15 12 rfl rfl)
theorem dL_law_545 : decode cL_law 545 = .ok (.iload 4, 2) := dk_21 4 (dk_at dksL_law_15 13 rfl rfl)
theorem dL_law_547 : decode cL_law 547 = .ok (.iconst 2, 1) := dk_5 (dk_at dksL_law_15 15 rfl rfl)
theorem dL_law_548 : decode cL_law 548 = .ok (.iadd, 1) := dk_96 (dk_at dksL_law_15 16 rfl rfl)
theorem dL_law_549 : decode cL_law 549 = .ok (.iaload, 1) := dk_46 (dk_at dksL_law_15 17 rfl rfl)
theorem dL_law_550 : decode cL_law 550 = .ok (.invokevirtual 173, 3) := dk_182 0 173 (dk_at dksL_law_15 18 rfl rfl)
theorem dL_law_553 : decode cL_law 553 = .ok (.istore 6, 2) := dk_54 6 (dk_at dksL_law_15 21 rfl rfl)
theorem dL_law_555 : decode cL_law 555 = .ok (.aload_n 2, 1) := dk_44 (dk_at dksL_law_15 23 rfl rfl)
theorem dL_law_556 : decode cL_law 556 = .ok (.invokevirtual 156, 3) := dk_182 0 156 (dk_at dksL_law_16 0 rfl rfl)
theorem dL_law_559 : decode cL_law 559 = .ok (.iload 5, 2) := dk_21 5 (dk_at dksL_law_16 3 rfl rfl)
theorem dL_law_561 : decode cL_law 561 = .ok (.if_icmp .eq 5, 3) := dk_159 0 5 (dk_at dksL_law_16 5 rfl rfl)
theorem dL_law_564 : decode cL_law 564 = .ok (.iconst 0, 1) := dk_3 (dk_at dksL_law_16 8 rfl rfl)
theorem dL_law_565 : decode cL_law 565 = .ok (.ireturn, 1) := dk_172 (dk_at dksL_law_16 9 rfl rfl)
theorem dL_law_566 : decode cL_law 566 = .ok (.iload 5, 2) := dk_21 5 (dk_at dksL_law_16 10 rfl rfl)
theorem dL_law_568 : decode cL_law 568 = .ok (.ifCond .ne 15, 3) := dk_154 0 15 (dk_at dksL_law_16 12 rfl rfl)
theorem dL_law_571 : decode cL_law 571 = .ok (.aload_n 3, 1) := dk_45 (dk_at dksL_law_16 15 rfl rfl)
theorem dL_law_572 : decode cL_law 572 = .ok (.iconst 0, 1) := dk_3 (dk_at dksL_law_16 16 rfl rfl)
theorem dL_law_573 : decode cL_law 573 = .ok (.laload, 1) := dk_47 (dk_at dksL_law_16 17 rfl rfl)
theorem dL_law_574 : decode cL_law 574 = .ok (.iload 6, 2) := dk_21 6 (dk_at dksL_law_16 18 rfl rfl)
theorem dL_law_576 : decode cL_law 576 = .ok (.i2l, 1) := dk_133 (dk_at dksL_law_16 20 rfl rfl)
theorem dL_law_577 : decode cL_law 577 = .ok (.lcmp, 1) := dk_148 (dk_at dksL_law_16 21 rfl rfl)
theorem dL_law_578 : decode cL_law 578 = .ok (.ifCond .eq 5, 3) := dk_153 0 5 (dk_at dksL_law_17 0 rfl rfl)
theorem dL_law_581 : decode cL_law 581 = .ok (.iconst 0, 1) := dk_3 (dk_at dksL_law_17 3 rfl rfl)
theorem dL_law_582 : decode cL_law 582 = .ok (.ireturn, 1) := dk_172 (dk_at dksL_law_17 4 rfl rfl)
theorem dL_law_583 : decode cL_law 583 = .ok (.goto 2432, 3) := dk_167 9 128 (dk_at dksL_law_17 5 rfl rfl)
theorem dL_law_586 : decode cL_law 586 = .ok (.aload_n 1, 1) := dk_43 (dk_at dksL_law_17 8 rfl rfl)
theorem dL_law_587 : decode cL_law 587 = .ok (.aload_n 0, 1) := dk_42 (dk_at dksL_law_17 9 rfl rfl)
theorem dL_law_588 : decode cL_law 588 = .ok (.iload 4, 2) := dk_21 4 (dk_at dksL_law_17 10 rfl rfl)
theorem dL_law_590 : decode cL_law 590 = .ok (.iconst 1, 1) := dk_4 (dk_at dksL_law_17 12 rfl rfl)
theorem dL_law_591 : decode cL_law 591 = .ok (.iadd, 1) := dk_96 (dk_at dksL_law_17 13 rfl rfl)
theorem dL_law_592 : decode cL_law 592 = .ok (.iaload, 1) := dk_46 (dk_at dksL_law_17 14 rfl rfl)
theorem dL_law_593 : decode cL_law 593 = .ok (.aload_n 0, 1) := dk_42 (dk_at dksL_law_17 15 rfl rfl)
theorem dL_law_594 : decode cL_law 594 = .ok (.iload 4, 2) := dk_21 4 (dk_at dksL_law_17 16 rfl rfl)
theorem dL_law_596 : decode cL_law 596 = .ok (.iconst 2, 1) := dk_5 (dk_at dksL_law_17 18 rfl rfl)
theorem dL_law_597 : decode cL_law 597 = .ok (.iadd, 1) := dk_96 (dk_at dksL_law_17 19 rfl rfl)
theorem dL_law_598 : decode cL_law 598 = .ok (.iaload, 1) := dk_46 (dk_at dksL_law_17 20 rfl rfl)
theorem dL_law_599 : decode cL_law 599 = .ok (.aload_n 3, 1) := dk_45 (dk_at dksL_law_17 21 rfl rfl)
theorem dL_law_600 : decode cL_law 600 = .ok (.invokestatic 174, 3) := dk_184 0 174 (dk_at dksL_law_18 0 rfl rfl)
theorem dL_law_603 : decode cL_law 603 = .ok (.istore 5, 2) := dk_54 5 (dk_at dksL_law_18 3 rfl rfl)
theorem dL_law_605 : decode cL_law 605 = .ok (.aload_n 2, 1) := dk_44 (dk_at dksL_law_18 5 rfl rfl)
theorem dL_law_606 : decode cL_law 606 = .ok (.aload_n 0, 1) := dk_42 (dk_at dksL_law_18 6 rfl rfl)
theorem dL_law_607 : decode cL_law 607 = .ok (.iload 4, 2) := dk_21 4 (dk_at dksL_law_18 7 rfl rfl)
theorem dL_law_609 : decode cL_law 609 = .ok (.iconst 1, 1) := dk_4 (dk_at dksL_law_18 9 rfl rfl)
theorem dL_law_610 : decode cL_law 610 = .ok (.iadd, 1) := dk_96 (dk_at dksL_law_18 10 rfl rfl)
theorem dL_law_611 : decode cL_law 611 = .ok (.iaload, 1) := dk_46 (dk_at dksL_law_18 11 rfl rfl)
theorem dL_law_612 : decode cL_law 612 = .ok (.aload_n 0, 1) := dk_42 (dk_at dksL_law_18 12 rfl rfl)
theorem dL_law_613 : decode cL_law 613 = .ok (.iload 4, 2) := dk_21 4 (dk_at dksL_law_18 13 rfl rfl)
theorem dL_law_615 : decode cL_law 615 = .ok (.iconst 2, 1) := dk_5 (dk_at dksL_law_18 15 rfl rfl)
theorem dL_law_616 : decode cL_law 616 = .ok (.iadd, 1) := dk_96 (dk_at dksL_law_18 16 rfl rfl)
theorem dL_law_617 : decode cL_law 617 = .ok (.iaload, 1) := dk_46 (dk_at dksL_law_18 17 rfl rfl)
theorem dL_law_618 : decode cL_law 618 = .ok (.invokevirtual 176, 3) := dk_182 0 176 (dk_at dksL_law_18 18 rfl rfl)
theorem dL_law_621 : decode cL_law 621 = .ok (.istore 6, 2) := dk_54 6 (dk_at dksL_law_18 21 rfl rfl)
theorem dL_law_623 : decode cL_law 623 = .ok (.aload_n 2, 1) := dk_44 (dk_at dksL_law_18 23 rfl rfl)
theorem dL_law_624 : decode cL_law 624 = .ok (.invokevirtual 156, 3) := dk_182 0 156 (dk_at dksL_law_19 0 rfl rfl)
theorem dL_law_627 : decode cL_law 627 = .ok (.iload 5, 2) := dk_21 5 (dk_at dksL_law_19 3 rfl rfl)
theorem dL_law_629 : decode cL_law 629 = .ok (.if_icmp .eq 5, 3) := dk_159 0 5 (dk_at dksL_law_19 5 rfl rfl)
theorem dL_law_632 : decode cL_law 632 = .ok (.iconst 0, 1) := dk_3 (dk_at dksL_law_19 8 rfl rfl)
theorem dL_law_633 : decode cL_law 633 = .ok (.ireturn, 1) := dk_172 (dk_at dksL_law_19 9 rfl rfl)
theorem dL_law_634 : decode cL_law 634 = .ok (.iload 5, 2) := dk_21 5 (dk_at dksL_law_19 10 rfl rfl)
theorem dL_law_636 : decode cL_law 636 = .ok (.ifCond .ne 15, 3) := dk_154 0 15 (dk_at dksL_law_19 12 rfl rfl)
theorem dL_law_639 : decode cL_law 639 = .ok (.aload_n 3, 1) := dk_45 (dk_at dksL_law_19 15 rfl rfl)
theorem dL_law_640 : decode cL_law 640 = .ok (.iconst 0, 1) := dk_3 (dk_at dksL_law_19 16 rfl rfl)
theorem dL_law_641 : decode cL_law 641 = .ok (.laload, 1) := dk_47 (dk_at dksL_law_19 17 rfl rfl)
theorem dL_law_642 : decode cL_law 642 = .ok (.iload 6, 2) := dk_21 6 (dk_at dksL_law_19 18 rfl rfl)
theorem dL_law_644 : decode cL_law 644 = .ok (.i2l, 1) := dk_133 (dk_at dksL_law_19 20 rfl rfl)
theorem dL_law_645 : decode cL_law 645 = .ok (.lcmp, 1) := dk_148 (dk_at dksL_law_19 21 rfl rfl)
theorem dL_law_646 : decode cL_law 646 = .ok (.ifCond .eq 5, 3) := dk_153 0 5 (dk_at dksL_law_20 0 rfl rfl)
theorem dL_law_649 : decode cL_law 649 = .ok (.iconst 0, 1) := dk_3 (dk_at dksL_law_20 3 rfl rfl)
theorem dL_law_650 : decode cL_law 650 = .ok (.ireturn, 1) := dk_172 (dk_at dksL_law_20 4 rfl rfl)
theorem dL_law_651 : decode cL_law 651 = .ok (.goto 2364, 3) := dk_167 9 60 (dk_at dksL_law_20 5 rfl rfl)
theorem dL_law_654 : decode cL_law 654 = .ok (.aload_n 1, 1) := dk_43 (dk_at dksL_law_20 8 rfl rfl)
theorem dL_law_655 : decode cL_law 655 = .ok (.aload_n 0, 1) := dk_42 (dk_at dksL_law_20 9 rfl rfl)
theorem dL_law_656 : decode cL_law 656 = .ok (.iload 4, 2) := dk_21 4 (dk_at dksL_law_20 10 rfl rfl)
theorem dL_law_658 : decode cL_law 658 = .ok (.iconst 1, 1) := dk_4 (dk_at dksL_law_20 12 rfl rfl)
theorem dL_law_659 : decode cL_law 659 = .ok (.iadd, 1) := dk_96 (dk_at dksL_law_20 13 rfl rfl)
theorem dL_law_660 : decode cL_law 660 = .ok (.iaload, 1) := dk_46 (dk_at dksL_law_20 14 rfl rfl)
theorem dL_law_661 : decode cL_law 661 = .ok (.invokevirtual 177, 3) := dk_182 0 177 (dk_at dksL_law_20 15 rfl rfl)
theorem dL_law_664 : decode cL_law 664 = .ok (.aload_n 2, 1) := dk_44 (dk_at dksL_law_20 18 rfl rfl)
theorem dL_law_665 : decode cL_law 665 = .ok (.aload_n 0, 1) := dk_42 (dk_at dksL_law_20 19 rfl rfl)
theorem dL_law_666 : decode cL_law 666 = .ok (.iload 4, 2) := dk_21 4 (dk_at dksL_law_20 20 rfl rfl)
theorem dL_law_668 : decode cL_law 668 = .ok (.iconst 1, 1) := dk_4 (dk_at dksL_law_20 22 rfl rfl)
theorem dL_law_669 : decode cL_law 669 = .ok (.iadd, 1) := dk_96 (dk_at dksL_law_20 23 rfl rfl)
theorem dL_law_670 : decode cL_law 670 = .ok (.iaload, 1) := dk_46 (dk_at dksL_law_21 0 rfl rfl)
theorem dL_law_671 : decode cL_law 671 = .ok (.invokevirtual 180, 3) := dk_182 0 180 (dk_at dksL_law_21 1 rfl rfl)
theorem dL_law_674 : decode cL_law 674 = .ok (.if_icmp .eq 2341, 3) := dk_159 9 37 (dk_at dksL_law_21 4 rfl rfl)
theorem dL_law_677 : decode cL_law 677 = .ok (.iconst 0, 1) := dk_3 (dk_at dksL_law_21 7 rfl rfl)
theorem dL_law_678 : decode cL_law 678 = .ok (.ireturn, 1) := dk_172 (dk_at dksL_law_21 8 rfl rfl)
theorem dL_law_679 : decode cL_law 679 = .ok (.aload_n 1, 1) := dk_43 (dk_at dksL_law_21 9 rfl rfl)
theorem dL_law_680 : decode cL_law 680 = .ok (.aload_n 0, 1) := dk_42 (dk_at dksL_law_21 10 rfl rfl)
theorem dL_law_681 : decode cL_law 681 = .ok (.iload 4, 2) := dk_21 4 (dk_at dksL_law_21 11 rfl rfl)
theorem dL_law_683 : decode cL_law 683 = .ok (.iconst 1, 1) := dk_4 (dk_at dksL_law_21 13 rfl rfl)
theorem dL_law_684 : decode cL_law 684 = .ok (.iadd, 1) := dk_96 (dk_at dksL_law_21 14 rfl rfl)
theorem dL_law_685 : decode cL_law 685 = .ok (.iaload, 1) := dk_46 (dk_at dksL_law_21 15 rfl rfl)
theorem dL_law_686 : decode cL_law 686 = .ok (.aload_n 0, 1) := dk_42 (dk_at dksL_law_21 16 rfl rfl)
theorem dL_law_687 : decode cL_law 687 = .ok (.iload 4, 2) := dk_21 4 (dk_at dksL_law_21 17 rfl rfl)
theorem dL_law_689 : decode cL_law 689 = .ok (.iconst 2, 1) := dk_5 (dk_at dksL_law_21 19 rfl rfl)
theorem dL_law_690 : decode cL_law 690 = .ok (.iadd, 1) := dk_96 (dk_at dksL_law_21 20 rfl rfl)
theorem dL_law_691 : decode cL_law 691 = .ok (.iaload, 1) := dk_46 (dk_at dksL_law_21 21 rfl rfl)
theorem dL_law_692 : decode cL_law 692 = .ok (.aload_n 3, 1) := dk_45 (dk_at dksL_law_21 22 rfl rfl)
theorem dL_law_693 : decode cL_law 693 = .ok (.invokestatic 181, 3) := dk_184 0 181 (dk_at dksL_law_22 0 rfl rfl)
theorem dL_law_696 : decode cL_law 696 = .ok (.istore 5, 2) := dk_54 5 (dk_at dksL_law_22 3 rfl rfl)
theorem dL_law_698 : decode cL_law 698 = .ok (.aload_n 2, 1) := dk_44 (dk_at dksL_law_22 5 rfl rfl)
theorem dL_law_699 : decode cL_law 699 = .ok (.aload_n 0, 1) := dk_42 (dk_at dksL_law_22 6 rfl rfl)
theorem dL_law_700 : decode cL_law 700 = .ok (.iload 4, 2) := dk_21 4 (dk_at dksL_law_22 7 rfl rfl)
theorem dL_law_702 : decode cL_law 702 = .ok (.iconst 1, 1) := dk_4 (dk_at dksL_law_22 9 rfl rfl)
theorem dL_law_703 : decode cL_law 703 = .ok (.iadd, 1) := dk_96 (dk_at dksL_law_22 10 rfl rfl)
theorem dL_law_704 : decode cL_law 704 = .ok (.iaload, 1) := dk_46 (dk_at dksL_law_22 11 rfl rfl)
theorem dL_law_705 : decode cL_law 705 = .ok (.aload_n 0, 1) := dk_42 (dk_at dksL_law_22 12 rfl rfl)
theorem dL_law_706 : decode cL_law 706 = .ok (.iload 4, 2) := dk_21 4 (dk_at dksL_law_22 13 rfl rfl)
theorem dL_law_708 : decode cL_law 708 = .ok (.iconst 2, 1) := dk_5 (dk_at dksL_law_22 15 rfl rfl)
theorem dL_law_709 : decode cL_law 709 = .ok (.iadd, 1) := dk_96 (dk_at dksL_law_22 16 rfl rfl)
theorem dL_law_710 : decode cL_law 710 = .ok (.iaload, 1) := dk_46 (dk_at dksL_law_22 17 rfl rfl)
theorem dL_law_711 : decode cL_law 711 = .ok (.invokevirtual 183, 3) := dk_182 0 183 (dk_at dksL_law_22 18 rfl rfl)
theorem dL_law_714 : decode cL_law 714 = .ok (.istore 6, 2) := dk_54 6 (dk_at dksL_law_22 21 rfl rfl)
theorem dL_law_716 : decode cL_law 716 = .ok (.aload_n 2, 1) := dk_44 (dk_at dksL_law_22 23 rfl rfl)
theorem dL_law_717 : decode cL_law 717 = .ok (.invokevirtual 156, 3) := dk_182 0 156 (dk_at dksL_law_23 0 rfl rfl)
theorem dL_law_720 : decode cL_law 720 = .ok (.iload 5, 2) := dk_21 5 (dk_at dksL_law_23 3 rfl rfl)
theorem dL_law_722 : decode cL_law 722 = .ok (.if_icmp .eq 5, 3) := dk_159 0 5 (dk_at dksL_law_23 5 rfl rfl)
theorem dL_law_725 : decode cL_law 725 = .ok (.iconst 0, 1) := dk_3 (dk_at dksL_law_23 8 rfl rfl)
theorem dL_law_726 : decode cL_law 726 = .ok (.ireturn, 1) := dk_172 (dk_at dksL_law_23 9 rfl rfl)
theorem dL_law_727 : decode cL_law 727 = .ok (.iload 5, 2) := dk_21 5 (dk_at dksL_law_23 10 rfl rfl)
theorem dL_law_729 : decode cL_law 729 = .ok (.ifCond .ne 15, 3) := dk_154 0 15 (dk_at dksL_law_23 12 rfl rfl)
theorem dL_law_732 : decode cL_law 732 = .ok (.aload_n 3, 1) := dk_45 (dk_at dksL_law_23 15 rfl rfl)
theorem dL_law_733 : decode cL_law 733 = .ok (.iconst 0, 1) := dk_3 (dk_at dksL_law_23 16 rfl rfl)
theorem dL_law_734 : decode cL_law 734 = .ok (.laload, 1) := dk_47 (dk_at dksL_law_23 17 rfl rfl)
theorem dL_law_735 : decode cL_law 735 = .ok (.iload 6, 2) := dk_21 6 (dk_at dksL_law_23 18 rfl rfl)
theorem dL_law_737 : decode cL_law 737 = .ok (.i2l, 1) := dk_133 (dk_at dksL_law_23 20 rfl rfl)
theorem dL_law_738 : decode cL_law 738 = .ok (.lcmp, 1) := dk_148 (dk_at dksL_law_23 21 rfl rfl)
theorem dL_law_739 : decode cL_law 739 = .ok (.ifCond .eq 5, 3) := dk_153 0 5 (dk_at dksL_law_24 0 rfl rfl)
theorem dL_law_742 : decode cL_law 742 = .ok (.iconst 0, 1) := dk_3 (dk_at dksL_law_24 3 rfl rfl)
theorem dL_law_743 : decode cL_law 743 = .ok (.ireturn, 1) := dk_172 (dk_at dksL_law_24 4 rfl rfl)
theorem dL_law_744 : decode cL_law 744 = .ok (.goto 2271, 3) := dk_167 8 223 (dk_at dksL_law_24 5 rfl rfl)
theorem dL_law_747 : decode cL_law 747 = .ok (.aload_n 1, 1) := dk_43 (dk_at dksL_law_24 8 rfl rfl)
theorem dL_law_748 : decode cL_law 748 = .ok (.aload_n 0, 1) := dk_42 (dk_at dksL_law_24 9 rfl rfl)
theorem dL_law_749 : decode cL_law 749 = .ok (.iload 4, 2) := dk_21 4 (dk_at dksL_law_24 10 rfl rfl)
theorem dL_law_751 : decode cL_law 751 = .ok (.iconst 1, 1) := dk_4 (dk_at dksL_law_24 12 rfl rfl)
theorem dL_law_752 : decode cL_law 752 = .ok (.iadd, 1) := dk_96 (dk_at dksL_law_24 13 rfl rfl)
theorem dL_law_753 : decode cL_law 753 = .ok (.iaload, 1) := dk_46 (dk_at dksL_law_24 14 rfl rfl)
theorem dL_law_754 : decode cL_law 754 = .ok (.aload_n 3, 1) := dk_45 (dk_at dksL_law_24 15 rfl rfl)
theorem dL_law_755 : decode cL_law 755 = .ok (.invokestatic 184, 3) := dk_184 0 184 (dk_at dksL_law_24 16 rfl rfl)
theorem dL_law_758 : decode cL_law 758 = .ok (.istore 5, 2) := dk_54 5 (dk_at dksL_law_24 19 rfl rfl)
theorem dL_law_760 : decode cL_law 760 = .ok (.aload_n 2, 1) := dk_44 (dk_at dksL_law_24 21 rfl rfl)
theorem dL_law_761 : decode cL_law 761 = .ok (.aload_n 0, 1) := dk_42 (dk_at dksL_law_24 22 rfl rfl)
theorem dL_law_762 : decode cL_law 762 = .ok (.iload 4, 2) := dk_21 4 (dk_at dksL_law_25 0 rfl rfl)
theorem dL_law_764 : decode cL_law 764 = .ok (.iconst 1, 1) := dk_4 (dk_at dksL_law_25 2 rfl rfl)
theorem dL_law_765 : decode cL_law 765 = .ok (.iadd, 1) := dk_96 (dk_at dksL_law_25 3 rfl rfl)
theorem dL_law_766 : decode cL_law 766 = .ok (.iaload, 1) := dk_46 (dk_at dksL_law_25 4 rfl rfl)
theorem dL_law_767 : decode cL_law 767 = .ok (.invokevirtual 186, 3) := dk_182 0 186 (dk_at dksL_law_25 5 rfl rfl)
theorem dL_law_770 : decode cL_law 770 = .ok (.istore 6, 2) := dk_54 6 (dk_at dksL_law_25 8 rfl rfl)
theorem dL_law_772 : decode cL_law 772 = .ok (.aload_n 2, 1) := dk_44 (dk_at dksL_law_25 10 rfl rfl)
theorem dL_law_773 : decode cL_law 773 = .ok (.invokevirtual 156, 3) := dk_182 0 156 (dk_at dksL_law_25 11 rfl rfl)
theorem dL_law_776 : decode cL_law 776 = .ok (.iload 5, 2) := dk_21 5 (dk_at dksL_law_25 14 rfl rfl)
theorem dL_law_778 : decode cL_law 778 = .ok (.if_icmp .eq 5, 3) := dk_159 0 5 (dk_at dksL_law_25 16 rfl rfl)
theorem dL_law_781 : decode cL_law 781 = .ok (.iconst 0, 1) := dk_3 (dk_at dksL_law_25 19 rfl rfl)
theorem dL_law_782 : decode cL_law 782 = .ok (.ireturn, 1) := dk_172 (dk_at dksL_law_25 20 rfl rfl)
theorem dL_law_783 : decode cL_law 783 = .ok (.iload 5, 2) := dk_21 5 (dk_at dksL_law_25 21 rfl rfl)
theorem dL_law_785 : decode cL_law 785 = .ok (.ifCond .ne 15, 3) := dk_154 0 15 (dk_at dksL_law_26 0 rfl rfl)
theorem dL_law_788 : decode cL_law 788 = .ok (.aload_n 3, 1) := dk_45 (dk_at dksL_law_26 3 rfl rfl)
theorem dL_law_789 : decode cL_law 789 = .ok (.iconst 0, 1) := dk_3 (dk_at dksL_law_26 4 rfl rfl)
theorem dL_law_790 : decode cL_law 790 = .ok (.laload, 1) := dk_47 (dk_at dksL_law_26 5 rfl rfl)
theorem dL_law_791 : decode cL_law 791 = .ok (.iload 6, 2) := dk_21 6 (dk_at dksL_law_26 6 rfl rfl)
theorem dL_law_793 : decode cL_law 793 = .ok (.i2l, 1) := dk_133 (dk_at dksL_law_26 8 rfl rfl)
theorem dL_law_794 : decode cL_law 794 = .ok (.lcmp, 1) := dk_148 (dk_at dksL_law_26 9 rfl rfl)
theorem dL_law_795 : decode cL_law 795 = .ok (.ifCond .eq 5, 3) := dk_153 0 5 (dk_at dksL_law_26 10 rfl rfl)
theorem dL_law_798 : decode cL_law 798 = .ok (.iconst 0, 1) := dk_3 (dk_at dksL_law_26 13 rfl rfl)
theorem dL_law_799 : decode cL_law 799 = .ok (.ireturn, 1) := dk_172 (dk_at dksL_law_26 14 rfl rfl)
theorem dL_law_800 : decode cL_law 800 = .ok (.goto 2215, 3) := dk_167 8 167 (dk_at dksL_law_26 15 rfl rfl)
theorem dL_law_803 : decode cL_law 803 = .ok (.aload_n 1, 1) := dk_43 (dk_at dksL_law_26 18 rfl rfl)
theorem dL_law_804 : decode cL_law 804 = .ok (.aload_n 0, 1) := dk_42 (dk_at dksL_law_26 19 rfl rfl)
theorem dL_law_805 : decode cL_law 805 = .ok (.iload 4, 2) := dk_21 4 (dk_at dksL_law_26 20 rfl rfl)
theorem dL_law_807 : decode cL_law 807 = .ok (.iconst 1, 1) := dk_4 (dk_at dksL_law_26 22 rfl rfl)
theorem dL_law_808 : decode cL_law 808 = .ok (.iadd, 1) := dk_96 (dk_at dksL_law_26 23 rfl rfl)
theorem dL_law_809 : decode cL_law 809 = .ok (.iaload, 1) := dk_46 (dk_at dksL_law_27 0 rfl rfl)
theorem dL_law_810 : decode cL_law 810 = .ok (.aload_n 0, 1) := dk_42 (dk_at dksL_law_27 1 rfl rfl)
theorem dL_law_811 : decode cL_law 811 = .ok (.iload 4, 2) := dk_21 4 (dk_at dksL_law_27 2 rfl rfl)
theorem dL_law_813 : decode cL_law 813 = .ok (.iconst 2, 1) := dk_5 (dk_at dksL_law_27 4 rfl rfl)
theorem dL_law_814 : decode cL_law 814 = .ok (.iadd, 1) := dk_96 (dk_at dksL_law_27 5 rfl rfl)
theorem dL_law_815 : decode cL_law 815 = .ok (.iaload, 1) := dk_46 (dk_at dksL_law_27 6 rfl rfl)
theorem dL_law_816 : decode cL_law 816 = .ok (.aload_n 3, 1) := dk_45 (dk_at dksL_law_27 7 rfl rfl)
theorem dL_law_817 : decode cL_law 817 = .ok (.invokestatic 187, 3) := dk_184 0 187 (dk_at dksL_law_27 8 rfl rfl)
theorem dL_law_820 : decode cL_law 820 = .ok (.istore 5, 2) := dk_54 5 (dk_at dksL_law_27 11 rfl rfl)
theorem dL_law_822 : decode cL_law 822 = .ok (.aload_n 2, 1) := dk_44 (dk_at dksL_law_27 13 rfl rfl)
theorem dL_law_823 : decode cL_law 823 = .ok (.aload_n 0, 1) := dk_42 (dk_at dksL_law_27 14 rfl rfl)
theorem dL_law_824 : decode cL_law 824 = .ok (.iload 4, 2) := dk_21 4 (dk_at dksL_law_27 15 rfl rfl)
theorem dL_law_826 : decode cL_law 826 = .ok (.iconst 1, 1) := dk_4 (dk_at dksL_law_27 17 rfl rfl)
theorem dL_law_827 : decode cL_law 827 = .ok (.iadd, 1) := dk_96 (dk_at dksL_law_27 18 rfl rfl)
theorem dL_law_828 : decode cL_law 828 = .ok (.iaload, 1) := dk_46 (dk_at dksL_law_27 19 rfl rfl)
theorem dL_law_829 : decode cL_law 829 = .ok (.aload_n 0, 1) := dk_42 (dk_at dksL_law_27 20 rfl rfl)
theorem dL_law_830 : decode cL_law 830 = .ok (.iload 4, 2) := dk_21 4 (dk_at dksL_law_27 21 rfl rfl)
theorem dL_law_832 : decode cL_law 832 = .ok (.iconst 2, 1) := dk_5 (dk_at dksL_law_27 23 rfl rfl)
theorem dL_law_833 : decode cL_law 833 = .ok (.iadd, 1) := dk_96 (dk_at dksL_law_28 0 rfl rfl)
theorem dL_law_834 : decode cL_law 834 = .ok (.iaload, 1) := dk_46 (dk_at dksL_law_28 1 rfl rfl)
theorem dL_law_835 : decode cL_law 835 = .ok (.invokevirtual 189, 3) := dk_182 0 189 (dk_at dksL_law_28 2 rfl rfl)
theorem dL_law_838 : decode cL_law 838 = .ok (.istore 6, 2) := dk_54 6 (dk_at dksL_law_28 5 rfl rfl)
theorem dL_law_840 : decode cL_law 840 = .ok (.aload_n 2, 1) := dk_44 (dk_at dksL_law_28 7 rfl rfl)
theorem dL_law_841 : decode cL_law 841 = .ok (.invokevirtual 156, 3) := dk_182 0 156 (dk_at dksL_law_28 8 rfl rfl)
theorem dL_law_844 : decode cL_law 844 = .ok (.iload 5, 2) := dk_21 5 (dk_at dksL_law_28 11 rfl rfl)
theorem dL_law_846 : decode cL_law 846 = .ok (.if_icmp .eq 5, 3) := dk_159 0 5 (dk_at dksL_law_28 13 rfl rfl)
theorem dL_law_849 : decode cL_law 849 = .ok (.iconst 0, 1) := dk_3 (dk_at dksL_law_28 16 rfl rfl)
theorem dL_law_850 : decode cL_law 850 = .ok (.ireturn, 1) := dk_172 (dk_at dksL_law_28 17 rfl rfl)
theorem dL_law_851 : decode cL_law 851 = .ok (.iload 5, 2) := dk_21 5 (dk_at dksL_law_28 18 rfl rfl)
theorem dL_law_853 : decode cL_law 853 = .ok (.ifCond .ne 15, 3) := dk_154 0 15 (dk_at dksL_law_28 20 rfl rfl)
theorem dL_law_856 : decode cL_law 856 = .ok (.aload_n 3, 1) := dk_45 (dk_at dksL_law_28 23 rfl rfl)
theorem dL_law_857 : decode cL_law 857 = .ok (.iconst 0, 1) := dk_3 (dk_at dksL_law_29 0 rfl rfl)
theorem dL_law_858 : decode cL_law 858 = .ok (.laload, 1) := dk_47 (dk_at dksL_law_29 1 rfl rfl)
theorem dL_law_859 : decode cL_law 859 = .ok (.iload 6, 2) := dk_21 6 (dk_at dksL_law_29 2 rfl rfl)
theorem dL_law_861 : decode cL_law 861 = .ok (.i2l, 1) := dk_133 (dk_at dksL_law_29 4 rfl rfl)
theorem dL_law_862 : decode cL_law 862 = .ok (.lcmp, 1) := dk_148 (dk_at dksL_law_29 5 rfl rfl)
theorem dL_law_863 : decode cL_law 863 = .ok (.ifCond .eq 5, 3) := dk_153 0 5 (dk_at dksL_law_29 6 rfl rfl)
theorem dL_law_866 : decode cL_law 866 = .ok (.iconst 0, 1) := dk_3 (dk_at dksL_law_29 9 rfl rfl)
theorem dL_law_867 : decode cL_law 867 = .ok (.ireturn, 1) := dk_172 (dk_at dksL_law_29 10 rfl rfl)
theorem dL_law_868 : decode cL_law 868 = .ok (.goto 2147, 3) := dk_167 8 99 (dk_at dksL_law_29 11 rfl rfl)
theorem dL_law_871 : decode cL_law 871 = .ok (.aload_n 1, 1) := dk_43 (dk_at dksL_law_29 14 rfl rfl)
theorem dL_law_872 : decode cL_law 872 = .ok (.aload_n 0, 1) := dk_42 (dk_at dksL_law_29 15 rfl rfl)
theorem dL_law_873 : decode cL_law 873 = .ok (.iload 4, 2) := dk_21 4 (dk_at dksL_law_29 16 rfl rfl)
theorem dL_law_875 : decode cL_law 875 = .ok (.iconst 1, 1) := dk_4 (dk_at dksL_law_29 18 rfl rfl)
theorem dL_law_876 : decode cL_law 876 = .ok (.iadd, 1) := dk_96 (dk_at dksL_law_29 19 rfl rfl)
theorem dL_law_877 : decode cL_law 877 = .ok (.iaload, 1) := dk_46 (dk_at dksL_law_29 20 rfl rfl)
theorem dL_law_878 : decode cL_law 878 = .ok (.aload_n 0, 1) := dk_42 (dk_at dksL_law_29 21 rfl rfl)
theorem dL_law_879 : decode cL_law 879 = .ok (.iload 4, 2) := dk_21 4 (dk_at dksL_law_29 22 rfl rfl)
theorem dL_law_881 : decode cL_law 881 = .ok (.iconst 2, 1) := dk_5 (dk_at dksL_law_30 0 rfl rfl)
theorem dL_law_882 : decode cL_law 882 = .ok (.iadd, 1) := dk_96 (dk_at dksL_law_30 1 rfl rfl)
theorem dL_law_883 : decode cL_law 883 = .ok (.iaload, 1) := dk_46 (dk_at dksL_law_30 2 rfl rfl)
theorem dL_law_884 : decode cL_law 884 = .ok (.aload_n 3, 1) := dk_45 (dk_at dksL_law_30 3 rfl rfl)
theorem dL_law_885 : decode cL_law 885 = .ok (.invokestatic 190, 3) := dk_184 0 190 (dk_at dksL_law_30 4 rfl rfl)
theorem dL_law_888 : decode cL_law 888 = .ok (.istore 5, 2) := dk_54 5 (dk_at dksL_law_30 7 rfl rfl)
theorem dL_law_890 : decode cL_law 890 = .ok (.aload_n 2, 1) := dk_44 (dk_at dksL_law_30 9 rfl rfl)
theorem dL_law_891 : decode cL_law 891 = .ok (.aload_n 0, 1) := dk_42 (dk_at dksL_law_30 10 rfl rfl)
theorem dL_law_892 : decode cL_law 892 = .ok (.iload 4, 2) := dk_21 4 (dk_at dksL_law_30 11 rfl rfl)
theorem dL_law_894 : decode cL_law 894 = .ok (.iconst 1, 1) := dk_4 (dk_at dksL_law_30 13 rfl rfl)
theorem dL_law_895 : decode cL_law 895 = .ok (.iadd, 1) := dk_96 (dk_at dksL_law_30 14 rfl rfl)
theorem dL_law_896 : decode cL_law 896 = .ok (.iaload, 1) := dk_46 (dk_at dksL_law_30 15 rfl rfl)
theorem dL_law_897 : decode cL_law 897 = .ok (.aload_n 0, 1) := dk_42 (dk_at dksL_law_30 16 rfl rfl)
theorem dL_law_898 : decode cL_law 898 = .ok (.iload 4, 2) := dk_21 4 (dk_at dksL_law_30 17 rfl rfl)
theorem dL_law_900 : decode cL_law 900 = .ok (.iconst 2, 1) := dk_5 (dk_at dksL_law_30 19 rfl rfl)
theorem dL_law_901 : decode cL_law 901 = .ok (.iadd, 1) := dk_96 (dk_at dksL_law_30 20 rfl rfl)
theorem dL_law_902 : decode cL_law 902 = .ok (.iaload, 1) := dk_46 (dk_at dksL_law_30 21 rfl rfl)
theorem dL_law_903 : decode cL_law 903 = .ok (.invokevirtual 192, 3) := dk_182 0 192 (dk_at dksL_law_31 0 rfl rfl)
theorem dL_law_906 : decode cL_law 906 = .ok (.istore 6, 2) := dk_54 6 (dk_at dksL_law_31 3 rfl rfl)
theorem dL_law_908 : decode cL_law 908 = .ok (.aload_n 2, 1) := dk_44 (dk_at dksL_law_31 5 rfl rfl)
theorem dL_law_909 : decode cL_law 909 = .ok (.invokevirtual 156, 3) := dk_182 0 156 (dk_at dksL_law_31 6 rfl rfl)
theorem dL_law_912 : decode cL_law 912 = .ok (.iload 5, 2) := dk_21 5 (dk_at dksL_law_31 9 rfl rfl)
theorem dL_law_914 : decode cL_law 914 = .ok (.if_icmp .eq 5, 3) := dk_159 0 5 (dk_at dksL_law_31 11 rfl rfl)
theorem dL_law_917 : decode cL_law 917 = .ok (.iconst 0, 1) := dk_3 (dk_at dksL_law_31 14 rfl rfl)
theorem dL_law_918 : decode cL_law 918 = .ok (.ireturn, 1) := dk_172 (dk_at dksL_law_31 15 rfl rfl)
theorem dL_law_919 : decode cL_law 919 = .ok (.iload 5, 2) := dk_21 5 (dk_at dksL_law_31 16 rfl rfl)
theorem dL_law_921 : decode cL_law 921 = .ok (.ifCond .ne 22, 3) := dk_154 0 22 (dk_at dksL_law_31 18 rfl rfl)
theorem dL_law_924 : decode cL_law 924 = .ok (.aload_n 3, 1) := dk_45 (dk_at dksL_law_31 21 rfl rfl)
theorem dL_law_925 : decode cL_law 925 = .ok (.iconst 0, 1) := dk_3 (dk_at dksL_law_31 22 rfl rfl)
theorem dL_law_926 : decode cL_law 926 = .ok (.laload, 1) := dk_47 (dk_at dksL_law_31 23 rfl rfl)
theorem dL_law_927 : decode cL_law 927 = .ok (.iload 6, 2) := dk_21 6 (dk_at dksL_law_32 0 rfl rfl)
theorem dL_law_929 : decode cL_law 929 = .ok (.ifCond .eq 7, 3) := dk_153 0 7 (dk_at dksL_law_32 2 rfl rfl)
theorem dL_law_932 : decode cL_law 932 = .ok (.lconst 1, 1) := dk_10 (dk_at dksL_law_32 5 rfl rfl)
theorem dL_law_933 : decode cL_law 933 = .ok (.goto 4, 3) := dk_167 0 4 (dk_at dksL_law_32 6 rfl rfl)
theorem dL_law_936 : decode cL_law 936 = .ok (.lconst 0, 1) := dk_9 (dk_at dksL_law_32 9 rfl rfl)
theorem dL_law_937 : decode cL_law 937 = .ok (.lcmp, 1) := dk_148 (dk_at dksL_law_32 10 rfl rfl)
theorem dL_law_938 : decode cL_law 938 = .ok (.ifCond .eq 5, 3) := dk_153 0 5 (dk_at dksL_law_32 11 rfl rfl)
theorem dL_law_941 : decode cL_law 941 = .ok (.iconst 0, 1) := dk_3 (dk_at dksL_law_32 14 rfl rfl)
theorem dL_law_942 : decode cL_law 942 = .ok (.ireturn, 1) := dk_172 (dk_at dksL_law_32 15 rfl rfl)
theorem dL_law_943 : decode cL_law 943 = .ok (.goto 2072, 3) := dk_167 8 24 (dk_at dksL_law_32 16 rfl rfl)
theorem dL_law_946 : decode cL_law 946 = .ok (.aload_n 1, 1) := dk_43 (dk_at dksL_law_32 19 rfl rfl)
theorem dL_law_947 : decode cL_law 947 = .ok (.invokevirtual 193, 3) := dk_182 0 193 (dk_at dksL_law_32 20 rfl rfl)
theorem dL_law_950 : decode cL_law 950 = .ok (.aload_n 2, 1) := dk_44 (dk_at dksL_law_32 23 rfl rfl)
theorem dL_law_951 : decode cL_law 951 = .ok (.invokevirtual 196, 3) := dk_182 0 196 (dk_at dksL_law_33 0 rfl rfl)
theorem dL_law_954 : decode cL_law 954 = .ok (.if_icmp .eq 2061, 3) := dk_159 8 13 (dk_at dksL_law_33 3 rfl rfl)
theorem dL_law_957 : decode cL_law 957 = .ok (.iconst 0, 1) := dk_3 (dk_at dksL_law_33 6 rfl rfl)
theorem dL_law_958 : decode cL_law 958 = .ok (.ireturn, 1) := dk_172 (dk_at dksL_law_33 7 rfl rfl)
theorem dL_law_959 : decode cL_law 959 = .ok (.aload_n 1, 1) := dk_43 (dk_at dksL_law_33 8 rfl rfl)
theorem dL_law_960 : decode cL_law 960 = .ok (.invokevirtual 197, 3) := dk_182 0 197 (dk_at dksL_law_33 9 rfl rfl)
theorem dL_law_963 : decode cL_law 963 = .ok (.aload_n 2, 1) := dk_44 (dk_at dksL_law_33 12 rfl rfl)
theorem dL_law_964 : decode cL_law 964 = .ok (.invokevirtual 200, 3) := dk_182 0 200 (dk_at dksL_law_33 13 rfl rfl)
theorem dL_law_967 : decode cL_law 967 = .ok (.if_icmp .eq 2048, 3) := dk_159 8 0 (dk_at dksL_law_33 16 rfl rfl)
theorem dL_law_970 : decode cL_law 970 = .ok (.iconst 0, 1) := dk_3 (dk_at dksL_law_33 19 rfl rfl)
theorem dL_law_971 : decode cL_law 971 = .ok (.ireturn, 1) := dk_172 (dk_at dksL_law_33 20 rfl rfl)
theorem dL_law_972 : decode cL_law 972 = .ok (.aload_n 1, 1) := dk_43 (dk_at dksL_law_33 21 rfl rfl)
theorem dL_law_973 : decode cL_law 973 = .ok (.aload_n 0, 1) := dk_42 (dk_at dksL_law_33 22 rfl rfl)
theorem dL_law_974 : decode cL_law 974 = .ok (.iload 4, 2) := dk_21 4 (dk_at dksL_law_34 0 rfl rfl)
theorem dL_law_976 : decode cL_law 976 = .ok (.iconst 1, 1) := dk_4 (dk_at dksL_law_34 2 rfl rfl)
theorem dL_law_977 : decode cL_law 977 = .ok (.iadd, 1) := dk_96 (dk_at dksL_law_34 3 rfl rfl)
theorem dL_law_978 : decode cL_law 978 = .ok (.iaload, 1) := dk_46 (dk_at dksL_law_34 4 rfl rfl)
theorem dL_law_979 : decode cL_law 979 = .ok (.aload_n 0, 1) := dk_42 (dk_at dksL_law_34 5 rfl rfl)
theorem dL_law_980 : decode cL_law 980 = .ok (.iload 4, 2) := dk_21 4 (dk_at dksL_law_34 6 rfl rfl)
theorem dL_law_982 : decode cL_law 982 = .ok (.iconst 2, 1) := dk_5 (dk_at dksL_law_34 8 rfl rfl)
theorem dL_law_983 : decode cL_law 983 = .ok (.iadd, 1) := dk_96 (dk_at dksL_law_34 9 rfl rfl)
theorem dL_law_984 : decode cL_law 984 = .ok (.iaload, 1) := dk_46 (dk_at dksL_law_34 10 rfl rfl)
theorem dL_law_985 : decode cL_law 985 = .ok (.aload_n 0, 1) := dk_42 (dk_at dksL_law_34 11 rfl rfl)
theorem dL_law_986 : decode cL_law 986 = .ok (.iload 4, 2) := dk_21 4 (dk_at dksL_law_34 12 rfl rfl)
theorem dL_law_988 : decode cL_law 988 = .ok (.iconst 3, 1) := dk_6 (dk_at dksL_law_34 14 rfl rfl)
theorem dL_law_989 : decode cL_law 989 = .ok (.iadd, 1) := dk_96 (dk_at dksL_law_34 15 rfl rfl)
theorem dL_law_990 : decode cL_law 990 = .ok (.iaload, 1) := dk_46 (dk_at dksL_law_34 16 rfl rfl)
theorem dL_law_991 : decode cL_law 991 = .ok (.aload_n 3, 1) := dk_45 (dk_at dksL_law_34 17 rfl rfl)
theorem dL_law_992 : decode cL_law 992 = .ok (.invokestatic 201, 3) := dk_184 0 201 (dk_at dksL_law_34 18 rfl rfl)
theorem dL_law_995 : decode cL_law 995 = .ok (.istore 5, 2) := dk_54 5 (dk_at dksL_law_34 21 rfl rfl)
theorem dL_law_997 : decode cL_law 997 = .ok (.aload_n 2, 1) := dk_44 (dk_at dksL_law_34 23 rfl rfl)
theorem dL_law_998 : decode cL_law 998 = .ok (.aload_n 0, 1) := dk_42 (dk_at dksL_law_35 0 rfl rfl)
theorem dL_law_999 : decode cL_law 999 = .ok (.iload 4, 2) := dk_21 4 (dk_at dksL_law_35 1 rfl rfl)
theorem dL_law_1001 : decode cL_law 1001 = .ok (.iconst 1, 1) := dk_4 (dk_at dksL_law_35 3 rfl rfl)
theorem dL_law_1002 : decode cL_law 1002 = .ok (.iadd, 1) := dk_96 (dk_at dksL_law_35 4 rfl rfl)
theorem dL_law_1003 : decode cL_law 1003 = .ok (.iaload, 1) := dk_46 (dk_at dksL_law_35 5 rfl rfl)
theorem dL_law_1004 : decode cL_law 1004 = .ok (.aload_n 0, 1) := dk_42 (dk_at dksL_law_35 6 rfl rfl)
theorem dL_law_1005 : decode cL_law 1005 = .ok (.iload 4, 2) := dk_21 4 (dk_at dksL_law_35 7 rfl rfl)
theorem dL_law_1007 : decode cL_law 1007 = .ok (.iconst 2, 1) := dk_5 (dk_at dksL_law_35 9 rfl rfl)
theorem dL_law_1008 : decode cL_law 1008 = .ok (.iadd, 1) := dk_96 (dk_at dksL_law_35 10 rfl rfl)
theorem dL_law_1009 : decode cL_law 1009 = .ok (.iaload, 1) := dk_46 (dk_at dksL_law_35 11 rfl rfl)
theorem dL_law_1010 : decode cL_law 1010 = .ok (.aload_n 0, 1) := dk_42 (dk_at dksL_law_35 12 rfl rfl)
theorem dL_law_1011 : decode cL_law 1011 = .ok (.iload 4, 2) := dk_21 4 (dk_at dksL_law_35 13 rfl rfl)
theorem dL_law_1013 : decode cL_law 1013 = .ok (.iconst 3, 1) := dk_6 (dk_at dksL_law_35 15 rfl rfl)
theorem dL_law_1014 : decode cL_law 1014 = .ok (.iadd, 1) := dk_96 (dk_at dksL_law_35 16 rfl rfl)
theorem dL_law_1015 : decode cL_law 1015 = .ok (.iaload, 1) := dk_46 (dk_at dksL_law_35 17 rfl rfl)
theorem dL_law_1016 : decode cL_law 1016 = .ok (.invokevirtual 204, 3) := dk_182 0 204 (dk_at dksL_law_35 18 rfl rfl)
theorem dL_law_1019 : decode cL_law 1019 = .ok (.istore 6, 2) := dk_54 6 (dk_at dksL_law_35 21 rfl rfl)
theorem dL_law_1021 : decode cL_law 1021 = .ok (.aload_n 2, 1) := dk_44 (dk_at dksL_law_35 23 rfl rfl)
theorem dL_law_1022 : decode cL_law 1022 = .ok (.invokevirtual 156, 3) := dk_182 0 156 (dk_at dksL_law_36 0 rfl rfl)
theorem dL_law_1025 : decode cL_law 1025 = .ok (.iload 5, 2) := dk_21 5 (dk_at dksL_law_36 3 rfl rfl)
theorem dL_law_1027 : decode cL_law 1027 = .ok (.if_icmp .eq 5, 3) := dk_159 0 5 (dk_at dksL_law_36 5 rfl rfl)
theorem dL_law_1030 : decode cL_law 1030 = .ok (.iconst 0, 1) := dk_3 (dk_at dksL_law_36 8 rfl rfl)
theorem dL_law_1031 : decode cL_law 1031 = .ok (.ireturn, 1) := dk_172 (dk_at dksL_law_36 9 rfl rfl)
theorem dL_law_1032 : decode cL_law 1032 = .ok (.iload 5, 2) := dk_21 5 (dk_at dksL_law_36 10 rfl rfl)
theorem dL_law_1034 : decode cL_law 1034 = .ok (.ifCond .ne 15, 3) := dk_154 0 15 (dk_at dksL_law_36 12 rfl rfl)
theorem dL_law_1037 : decode cL_law 1037 = .ok (.aload_n 3, 1) := dk_45 (dk_at dksL_law_36 15 rfl rfl)
theorem dL_law_1038 : decode cL_law 1038 = .ok (.iconst 0, 1) := dk_3 (dk_at dksL_law_36 16 rfl rfl)
theorem dL_law_1039 : decode cL_law 1039 = .ok (.laload, 1) := dk_47 (dk_at dksL_law_36 17 rfl rfl)
theorem dL_law_1040 : decode cL_law 1040 = .ok (.iload 6, 2) := dk_21 6 (dk_at dksL_law_36 18 rfl rfl)
theorem dL_law_1042 : decode cL_law 1042 = .ok (.i2l, 1) := dk_133 (dk_at dksL_law_36 20 rfl rfl)
theorem dL_law_1043 : decode cL_law 1043 = .ok (.lcmp, 1) := dk_148 (dk_at dksL_law_36 21 rfl rfl)
theorem dL_law_1044 : decode cL_law 1044 = .ok (.ifCond .eq 5, 3) := dk_153 0 5 (dk_at dksL_law_37 0 rfl rfl)
theorem dL_law_1047 : decode cL_law 1047 = .ok (.iconst 0, 1) := dk_3 (dk_at dksL_law_37 3 rfl rfl)
theorem dL_law_1048 : decode cL_law 1048 = .ok (.ireturn, 1) := dk_172 (dk_at dksL_law_37 4 rfl rfl)
theorem dL_law_1049 : decode cL_law 1049 = .ok (.goto 1966, 3) := dk_167 7 174 (dk_at dksL_law_37 5 rfl rfl)
theorem dL_law_1052 : decode cL_law 1052 = .ok (.aload_n 1, 1) := dk_43 (dk_at dksL_law_37 8 rfl rfl)
theorem dL_law_1053 : decode cL_law 1053 = .ok (.aload_n 0, 1) := dk_42 (dk_at dksL_law_37 9 rfl rfl)
theorem dL_law_1054 : decode cL_law 1054 = .ok (.iload 4, 2) := dk_21 4 (dk_at dksL_law_37 10 rfl rfl)
theorem dL_law_1056 : decode cL_law 1056 = .ok (.iconst 1, 1) := dk_4 (dk_at dksL_law_37 12 rfl rfl)
theorem dL_law_1057 : decode cL_law 1057 = .ok (.iadd, 1) := dk_96 (dk_at dksL_law_37 13 rfl rfl)
theorem dL_law_1058 : decode cL_law 1058 = .ok (.iaload, 1) := dk_46 (dk_at dksL_law_37 14 rfl rfl)
theorem dL_law_1059 : decode cL_law 1059 = .ok (.aload_n 0, 1) := dk_42 (dk_at dksL_law_37 15 rfl rfl)
theorem dL_law_1060 : decode cL_law 1060 = .ok (.iload 4, 2) := dk_21 4 (dk_at dksL_law_37 16 rfl rfl)
theorem dL_law_1062 : decode cL_law 1062 = .ok (.iconst 2, 1) := dk_5 (dk_at dksL_law_37 18 rfl rfl)
theorem dL_law_1063 : decode cL_law 1063 = .ok (.iadd, 1) := dk_96 (dk_at dksL_law_37 19 rfl rfl)
theorem dL_law_1064 : decode cL_law 1064 = .ok (.iaload, 1) := dk_46 (dk_at dksL_law_37 20 rfl rfl)
theorem dL_law_1065 : decode cL_law 1065 = .ok (.aload_n 3, 1) := dk_45 (dk_at dksL_law_37 21 rfl rfl)
theorem dL_law_1066 : decode cL_law 1066 = .ok (.invokestatic 205, 3) := dk_184 0 205 (dk_at dksL_law_38 0 rfl rfl)
theorem dL_law_1069 : decode cL_law 1069 = .ok (.istore 5, 2) := dk_54 5 (dk_at dksL_law_38 3 rfl rfl)
theorem dL_law_1071 : decode cL_law 1071 = .ok (.aload_n 2, 1) := dk_44 (dk_at dksL_law_38 5 rfl rfl)
theorem dL_law_1072 : decode cL_law 1072 = .ok (.aload_n 0, 1) := dk_42 (dk_at dksL_law_38 6 rfl rfl)
theorem dL_law_1073 : decode cL_law 1073 = .ok (.iload 4, 2) := dk_21 4 (dk_at dksL_law_38 7 rfl rfl)
theorem dL_law_1075 : decode cL_law 1075 = .ok (.iconst 1, 1) := dk_4 (dk_at dksL_law_38 9 rfl rfl)
theorem dL_law_1076 : decode cL_law 1076 = .ok (.iadd, 1) := dk_96 (dk_at dksL_law_38 10 rfl rfl)
theorem dL_law_1077 : decode cL_law 1077 = .ok (.iaload, 1) := dk_46 (dk_at dksL_law_38 11 rfl rfl)
theorem dL_law_1078 : decode cL_law 1078 = .ok (.aload_n 0, 1) := dk_42 (dk_at dksL_law_38 12 rfl rfl)
theorem dL_law_1079 : decode cL_law 1079 = .ok (.iload 4, 2) := dk_21 4 (dk_at dksL_law_38 13 rfl rfl)
theorem dL_law_1081 : decode cL_law 1081 = .ok (.iconst 2, 1) := dk_5 (dk_at dksL_law_38 15 rfl rfl)
theorem dL_law_1082 : decode cL_law 1082 = .ok (.iadd, 1) := dk_96 (dk_at dksL_law_38 16 rfl rfl)
theorem dL_law_1083 : decode cL_law 1083 = .ok (.iaload, 1) := dk_46 (dk_at dksL_law_38 17 rfl rfl)
theorem dL_law_1084 : decode cL_law 1084 = .ok (.invokevirtual 207, 3) := dk_182 0 207 (dk_at dksL_law_38 18 rfl rfl)
theorem dL_law_1087 : decode cL_law 1087 = .ok (.istore 6, 2) := dk_54 6 (dk_at dksL_law_38 21 rfl rfl)
theorem dL_law_1089 : decode cL_law 1089 = .ok (.aload_n 2, 1) := dk_44 (dk_at dksL_law_38 23 rfl rfl)
theorem dL_law_1090 : decode cL_law 1090 = .ok (.invokevirtual 156, 3) := dk_182 0 156 (dk_at dksL_law_39 0 rfl rfl)
theorem dL_law_1093 : decode cL_law 1093 = .ok (.iload 5, 2) := dk_21 5 (dk_at dksL_law_39 3 rfl rfl)
theorem dL_law_1095 : decode cL_law 1095 = .ok (.if_icmp .eq 5, 3) := dk_159 0 5 (dk_at dksL_law_39 5 rfl rfl)
theorem dL_law_1098 : decode cL_law 1098 = .ok (.iconst 0, 1) := dk_3 (dk_at dksL_law_39 8 rfl rfl)
theorem dL_law_1099 : decode cL_law 1099 = .ok (.ireturn, 1) := dk_172 (dk_at dksL_law_39 9 rfl rfl)
theorem dL_law_1100 : decode cL_law 1100 = .ok (.iload 5, 2) := dk_21 5 (dk_at dksL_law_39 10 rfl rfl)
theorem dL_law_1102 : decode cL_law 1102 = .ok (.ifCond .ne 15, 3) := dk_154 0 15 (dk_at dksL_law_39 12 rfl rfl)
theorem dL_law_1105 : decode cL_law 1105 = .ok (.aload_n 3, 1) := dk_45 (dk_at dksL_law_39 15 rfl rfl)
theorem dL_law_1106 : decode cL_law 1106 = .ok (.iconst 0, 1) := dk_3 (dk_at dksL_law_39 16 rfl rfl)
theorem dL_law_1107 : decode cL_law 1107 = .ok (.laload, 1) := dk_47 (dk_at dksL_law_39 17 rfl rfl)
theorem dL_law_1108 : decode cL_law 1108 = .ok (.iload 6, 2) := dk_21 6 (dk_at dksL_law_39 18 rfl rfl)
theorem dL_law_1110 : decode cL_law 1110 = .ok (.i2l, 1) := dk_133 (dk_at dksL_law_39 20 rfl rfl)
theorem dL_law_1111 : decode cL_law 1111 = .ok (.lcmp, 1) := dk_148 (dk_at dksL_law_39 21 rfl rfl)
theorem dL_law_1112 : decode cL_law 1112 = .ok (.ifCond .eq 5, 3) := dk_153 0 5 (dk_at dksL_law_40 0 rfl rfl)
theorem dL_law_1115 : decode cL_law 1115 = .ok (.iconst 0, 1) := dk_3 (dk_at dksL_law_40 3 rfl rfl)
theorem dL_law_1116 : decode cL_law 1116 = .ok (.ireturn, 1) := dk_172 (dk_at dksL_law_40 4 rfl rfl)
theorem dL_law_1117 : decode cL_law 1117 = .ok (.goto 1898, 3) := dk_167 7 106 (dk_at dksL_law_40 5 rfl rfl)
theorem dL_law_1120 : decode cL_law 1120 = .ok (.aload_n 1, 1) := dk_43 (dk_at dksL_law_40 8 rfl rfl)
theorem dL_law_1121 : decode cL_law 1121 = .ok (.aload_n 0, 1) := dk_42 (dk_at dksL_law_40 9 rfl rfl)
theorem dL_law_1122 : decode cL_law 1122 = .ok (.iload 4, 2) := dk_21 4 (dk_at dksL_law_40 10 rfl rfl)
theorem dL_law_1124 : decode cL_law 1124 = .ok (.iconst 1, 1) := dk_4 (dk_at dksL_law_40 12 rfl rfl)
theorem dL_law_1125 : decode cL_law 1125 = .ok (.iadd, 1) := dk_96 (dk_at dksL_law_40 13 rfl rfl)
theorem dL_law_1126 : decode cL_law 1126 = .ok (.iaload, 1) := dk_46 (dk_at dksL_law_40 14 rfl rfl)
theorem dL_law_1127 : decode cL_law 1127 = .ok (.aload_n 3, 1) := dk_45 (dk_at dksL_law_40 15 rfl rfl)
theorem dL_law_1128 : decode cL_law 1128 = .ok (.invokestatic 208, 3) := dk_184 0 208 (dk_at dksL_law_40 16 rfl rfl)
theorem dL_law_1131 : decode cL_law 1131 = .ok (.istore 5, 2) := dk_54 5 (dk_at dksL_law_40 19 rfl rfl)
theorem dL_law_1133 : decode cL_law 1133 = .ok (.aload_n 2, 1) := dk_44 (dk_at dksL_law_40 21 rfl rfl)
theorem dL_law_1134 : decode cL_law 1134 = .ok (.aload_n 0, 1) := dk_42 (dk_at dksL_law_40 22 rfl rfl)
theorem dL_law_1135 : decode cL_law 1135 = .ok (.iload 4, 2) := dk_21 4 (dk_at dksL_law_41 0 rfl rfl)
theorem dL_law_1137 : decode cL_law 1137 = .ok (.iconst 1, 1) := dk_4 (dk_at dksL_law_41 2 rfl rfl)
theorem dL_law_1138 : decode cL_law 1138 = .ok (.iadd, 1) := dk_96 (dk_at dksL_law_41 3 rfl rfl)
theorem dL_law_1139 : decode cL_law 1139 = .ok (.iaload, 1) := dk_46 (dk_at dksL_law_41 4 rfl rfl)
theorem dL_law_1140 : decode cL_law 1140 = .ok (.invokevirtual 210, 3) := dk_182 0 210 (dk_at dksL_law_41 5 rfl rfl)
theorem dL_law_1143 : decode cL_law 1143 = .ok (.istore 6, 2) := dk_54 6 (dk_at dksL_law_41 8 rfl rfl)
theorem dL_law_1145 : decode cL_law 1145 = .ok (.aload_n 2, 1) := dk_44 (dk_at dksL_law_41 10 rfl rfl)
theorem dL_law_1146 : decode cL_law 1146 = .ok (.invokevirtual 156, 3) := dk_182 0 156 (dk_at dksL_law_41 11 rfl rfl)
theorem dL_law_1149 : decode cL_law 1149 = .ok (.iload 5, 2) := dk_21 5 (dk_at dksL_law_41 14 rfl rfl)
theorem dL_law_1151 : decode cL_law 1151 = .ok (.if_icmp .eq 5, 3) := dk_159 0 5 (dk_at dksL_law_41 16 rfl rfl)
theorem dL_law_1154 : decode cL_law 1154 = .ok (.iconst 0, 1) := dk_3 (dk_at dksL_law_41 19 rfl rfl)
theorem dL_law_1155 : decode cL_law 1155 = .ok (.ireturn, 1) := dk_172 (dk_at dksL_law_41 20 rfl rfl)
theorem dL_law_1156 : decode cL_law 1156 = .ok (.iload 5, 2) := dk_21 5 (dk_at dksL_law_41 21 rfl rfl)
theorem dL_law_1158 : decode cL_law 1158 = .ok (.ifCond .ne 15, 3) := dk_154 0 15 (dk_at dksL_law_42 0 rfl rfl)
theorem dL_law_1161 : decode cL_law 1161 = .ok (.aload_n 3, 1) := dk_45 (dk_at dksL_law_42 3 rfl rfl)
theorem dL_law_1162 : decode cL_law 1162 = .ok (.iconst 0, 1) := dk_3 (dk_at dksL_law_42 4 rfl rfl)
theorem dL_law_1163 : decode cL_law 1163 = .ok (.laload, 1) := dk_47 (dk_at dksL_law_42 5 rfl rfl)
theorem dL_law_1164 : decode cL_law 1164 = .ok (.iload 6, 2) := dk_21 6 (dk_at dksL_law_42 6 rfl rfl)
theorem dL_law_1166 : decode cL_law 1166 = .ok (.i2l, 1) := dk_133 (dk_at dksL_law_42 8 rfl rfl)
theorem dL_law_1167 : decode cL_law 1167 = .ok (.lcmp, 1) := dk_148 (dk_at dksL_law_42 9 rfl rfl)
theorem dL_law_1168 : decode cL_law 1168 = .ok (.ifCond .eq 5, 3) := dk_153 0 5 (dk_at dksL_law_42 10 rfl rfl)
theorem dL_law_1171 : decode cL_law 1171 = .ok (.iconst 0, 1) := dk_3 (dk_at dksL_law_42 13 rfl rfl)
theorem dL_law_1172 : decode cL_law 1172 = .ok (.ireturn, 1) := dk_172 (dk_at dksL_law_42 14 rfl rfl)
theorem dL_law_1173 : decode cL_law 1173 = .ok (.goto 1842, 3) := dk_167 7 50 (dk_at dksL_law_42 15 rfl rfl)
theorem dL_law_1176 : decode cL_law 1176 = .ok (.aload_n 1, 1) := dk_43 (dk_at dksL_law_42 18 rfl rfl)
theorem dL_law_1177 : decode cL_law 1177 = .ok (.aload_n 0, 1) := dk_42 (dk_at dksL_law_42 19 rfl rfl)
theorem dL_law_1178 : decode cL_law 1178 = .ok (.iload 4, 2) := dk_21 4 (dk_at dksL_law_42 20 rfl rfl)
theorem dL_law_1180 : decode cL_law 1180 = .ok (.iconst 1, 1) := dk_4 (dk_at dksL_law_42 22 rfl rfl)
theorem dL_law_1181 : decode cL_law 1181 = .ok (.iadd, 1) := dk_96 (dk_at dksL_law_42 23 rfl rfl)
theorem dL_law_1182 : decode cL_law 1182 = .ok (.iaload, 1) := dk_46 (dk_at dksL_law_43 0 rfl rfl)
theorem dL_law_1183 : decode cL_law 1183 = .ok (.aload_n 3, 1) := dk_45 (dk_at dksL_law_43 1 rfl rfl)
theorem dL_law_1184 : decode cL_law 1184 = .ok (.invokestatic 211, 3) := dk_184 0 211 (dk_at dksL_law_43 2 rfl rfl)
theorem dL_law_1187 : decode cL_law 1187 = .ok (.istore 5, 2) := dk_54 5 (dk_at dksL_law_43 5 rfl rfl)
theorem dL_law_1189 : decode cL_law 1189 = .ok (.aload_n 2, 1) := dk_44 (dk_at dksL_law_43 7 rfl rfl)
theorem dL_law_1190 : decode cL_law 1190 = .ok (.aload_n 0, 1) := dk_42 (dk_at dksL_law_43 8 rfl rfl)
theorem dL_law_1191 : decode cL_law 1191 = .ok (.iload 4, 2) := dk_21 4 (dk_at dksL_law_43 9 rfl rfl)
theorem dL_law_1193 : decode cL_law 1193 = .ok (.iconst 1, 1) := dk_4 (dk_at dksL_law_43 11 rfl rfl)
theorem dL_law_1194 : decode cL_law 1194 = .ok (.iadd, 1) := dk_96 (dk_at dksL_law_43 12 rfl rfl)
theorem dL_law_1195 : decode cL_law 1195 = .ok (.iaload, 1) := dk_46 (dk_at dksL_law_43 13 rfl rfl)
theorem dL_law_1196 : decode cL_law 1196 = .ok (.invokevirtual 213, 3) := dk_182 0 213 (dk_at dksL_law_43 14 rfl rfl)
theorem dL_law_1199 : decode cL_law 1199 = .ok (.istore 6, 2) := dk_54 6 (dk_at dksL_law_43 17 rfl rfl)
theorem dL_law_1201 : decode cL_law 1201 = .ok (.aload_n 2, 1) := dk_44 (dk_at dksL_law_43 19 rfl rfl)
theorem dL_law_1202 : decode cL_law 1202 = .ok (.invokevirtual 156, 3) := dk_182 0 156 (dk_at dksL_law_43 20 rfl rfl)
theorem dL_law_1205 : decode cL_law 1205 = .ok (.iload 5, 2) := dk_21 5 (dk_at dksL_law_44 0 rfl rfl)
theorem dL_law_1207 : decode cL_law 1207 = .ok (.if_icmp .eq 5, 3) := dk_159 0 5 (dk_at dksL_law_44 2 rfl rfl)
theorem dL_law_1210 : decode cL_law 1210 = .ok (.iconst 0, 1) := dk_3 (dk_at dksL_law_44 5 rfl rfl)
theorem dL_law_1211 : decode cL_law 1211 = .ok (.ireturn, 1) := dk_172 (dk_at dksL_law_44 6 rfl rfl)
theorem dL_law_1212 : decode cL_law 1212 = .ok (.iload 5, 2) := dk_21 5 (dk_at dksL_law_44 7 rfl rfl)
theorem dL_law_1214 : decode cL_law 1214 = .ok (.ifCond .ne 15, 3) := dk_154 0 15 (dk_at dksL_law_44 9 rfl rfl)
theorem dL_law_1217 : decode cL_law 1217 = .ok (.aload_n 3, 1) := dk_45 (dk_at dksL_law_44 12 rfl rfl)
theorem dL_law_1218 : decode cL_law 1218 = .ok (.iconst 0, 1) := dk_3 (dk_at dksL_law_44 13 rfl rfl)
theorem dL_law_1219 : decode cL_law 1219 = .ok (.laload, 1) := dk_47 (dk_at dksL_law_44 14 rfl rfl)
theorem dL_law_1220 : decode cL_law 1220 = .ok (.iload 6, 2) := dk_21 6 (dk_at dksL_law_44 15 rfl rfl)
theorem dL_law_1222 : decode cL_law 1222 = .ok (.i2l, 1) := dk_133 (dk_at dksL_law_44 17 rfl rfl)
theorem dL_law_1223 : decode cL_law 1223 = .ok (.lcmp, 1) := dk_148 (dk_at dksL_law_44 18 rfl rfl)
theorem dL_law_1224 : decode cL_law 1224 = .ok (.ifCond .eq 5, 3) := dk_153 0 5 (dk_at dksL_law_44 19 rfl rfl)
theorem dL_law_1227 : decode cL_law 1227 = .ok (.iconst 0, 1) := dk_3 (dk_at dksL_law_44 22 rfl rfl)
theorem dL_law_1228 : decode cL_law 1228 = .ok (.ireturn, 1) := dk_172 (dk_at dksL_law_44 23 rfl rfl)
theorem dL_law_1229 : decode cL_law 1229 = .ok (.goto 1786, 3) := dk_167 6 250 (dk_at dksL_law_45 0 rfl rfl)
theorem dL_law_1232 : decode cL_law 1232 = .ok (.aload_n 1, 1) := dk_43 (dk_at dksL_law_45 3 rfl rfl)
theorem dL_law_1233 : decode cL_law 1233 = .ok (.aload_n 0, 1) := dk_42 (dk_at dksL_law_45 4 rfl rfl)
theorem dL_law_1234 : decode cL_law 1234 = .ok (.iload 4, 2) := dk_21 4 (dk_at dksL_law_45 5 rfl rfl)
theorem dL_law_1236 : decode cL_law 1236 = .ok (.iconst 1, 1) := dk_4 (dk_at dksL_law_45 7 rfl rfl)
theorem dL_law_1237 : decode cL_law 1237 = .ok (.iadd, 1) := dk_96 (dk_at dksL_law_45 8 rfl rfl)
theorem dL_law_1238 : decode cL_law 1238 = .ok (.iaload, 1) := dk_46 (dk_at dksL_law_45 9 rfl rfl)
theorem dL_law_1239 : decode cL_law 1239 = .ok (.aload_n 3, 1) := dk_45 (dk_at dksL_law_45 10 rfl rfl)
theorem dL_law_1240 : decode cL_law 1240 = .ok (.invokestatic 214, 3) := dk_184 0 214 (dk_at dksL_law_45 11 rfl rfl)
theorem dL_law_1243 : decode cL_law 1243 = .ok (.istore 5, 2) := dk_54 5 (dk_at dksL_law_45 14 rfl rfl)
theorem dL_law_1245 : decode cL_law 1245 = .ok (.aload_n 2, 1) := dk_44 (dk_at dksL_law_45 16 rfl rfl)
theorem dL_law_1246 : decode cL_law 1246 = .ok (.aload_n 0, 1) := dk_42 (dk_at dksL_law_45 17 rfl rfl)
theorem dL_law_1247 : decode cL_law 1247 = .ok (.iload 4, 2) := dk_21 4 (dk_at dksL_law_45 18 rfl rfl)
theorem dL_law_1249 : decode cL_law 1249 = .ok (.iconst 1, 1) := dk_4 (dk_at dksL_law_45 20 rfl rfl)
theorem dL_law_1250 : decode cL_law 1250 = .ok (.iadd, 1) := dk_96 (dk_at dksL_law_45 21 rfl rfl)
theorem dL_law_1251 : decode cL_law 1251 = .ok (.iaload, 1) := dk_46 (dk_at dksL_law_45 22 rfl rfl)
theorem dL_law_1252 : decode cL_law 1252 = .ok (.invokevirtual 216, 3) := dk_182 0 216 (dk_at dksL_law_46 0 rfl rfl)
theorem dL_law_1255 : decode cL_law 1255 = .ok (.istore 6, 2) := dk_54 6 (dk_at dksL_law_46 3 rfl rfl)
theorem dL_law_1257 : decode cL_law 1257 = .ok (.aload_n 2, 1) := dk_44 (dk_at dksL_law_46 5 rfl rfl)
theorem dL_law_1258 : decode cL_law 1258 = .ok (.invokevirtual 156, 3) := dk_182 0 156 (dk_at dksL_law_46 6 rfl rfl)
theorem dL_law_1261 : decode cL_law 1261 = .ok (.iload 5, 2) := dk_21 5 (dk_at dksL_law_46 9 rfl rfl)
theorem dL_law_1263 : decode cL_law 1263 = .ok (.if_icmp .eq 5, 3) := dk_159 0 5 (dk_at dksL_law_46 11 rfl rfl)
theorem dL_law_1266 : decode cL_law 1266 = .ok (.iconst 0, 1) := dk_3 (dk_at dksL_law_46 14 rfl rfl)
theorem dL_law_1267 : decode cL_law 1267 = .ok (.ireturn, 1) := dk_172 (dk_at dksL_law_46 15 rfl rfl)
theorem dL_law_1268 : decode cL_law 1268 = .ok (.iload 5, 2) := dk_21 5 (dk_at dksL_law_46 16 rfl rfl)
theorem dL_law_1270 : decode cL_law 1270 = .ok (.ifCond .ne 15, 3) := dk_154 0 15 (dk_at dksL_law_46 18 rfl rfl)
theorem dL_law_1273 : decode cL_law 1273 = .ok (.aload_n 3, 1) := dk_45 (dk_at dksL_law_46 21 rfl rfl)
theorem dL_law_1274 : decode cL_law 1274 = .ok (.iconst 0, 1) := dk_3 (dk_at dksL_law_46 22 rfl rfl)
theorem dL_law_1275 : decode cL_law 1275 = .ok (.laload, 1) := dk_47 (dk_at dksL_law_46 23 rfl rfl)
theorem dL_law_1276 : decode cL_law 1276 = .ok (.iload 6, 2) := dk_21 6 (dk_at dksL_law_47 0 rfl rfl)
theorem dL_law_1278 : decode cL_law 1278 = .ok (.i2l, 1) := dk_133 (dk_at dksL_law_47 2 rfl rfl)
theorem dL_law_1279 : decode cL_law 1279 = .ok (.lcmp, 1) := dk_148 (dk_at dksL_law_47 3 rfl rfl)
theorem dL_law_1280 : decode cL_law 1280 = .ok (.ifCond .eq 5, 3) := dk_153 0 5 (dk_at dksL_law_47 4 rfl rfl)
theorem dL_law_1283 : decode cL_law 1283 = .ok (.iconst 0, 1) := dk_3 (dk_at dksL_law_47 7 rfl rfl)
theorem dL_law_1284 : decode cL_law 1284 = .ok (.ireturn, 1) := dk_172 (dk_at dksL_law_47 8 rfl rfl)
theorem dL_law_1285 : decode cL_law 1285 = .ok (.goto 1730, 3) := dk_167 6 194 (dk_at dksL_law_47 9 rfl rfl)
theorem dL_law_1288 : decode cL_law 1288 = .ok (.aload_n 1, 1) := dk_43 (dk_at dksL_law_47 12 rfl rfl)
theorem dL_law_1289 : decode cL_law 1289 = .ok (.aload_n 0, 1) := dk_42 (dk_at dksL_law_47 13 rfl rfl)
theorem dL_law_1290 : decode cL_law 1290 = .ok (.iload 4, 2) := dk_21 4 (dk_at dksL_law_47 14 rfl rfl)
theorem dL_law_1292 : decode cL_law 1292 = .ok (.iconst 1, 1) := dk_4 (dk_at dksL_law_47 16 rfl rfl)
theorem dL_law_1293 : decode cL_law 1293 = .ok (.iadd, 1) := dk_96 (dk_at dksL_law_47 17 rfl rfl)
theorem dL_law_1294 : decode cL_law 1294 = .ok (.iaload, 1) := dk_46 (dk_at dksL_law_47 18 rfl rfl)
theorem dL_law_1295 : decode cL_law 1295 = .ok (.aload_n 3, 1) := dk_45 (dk_at dksL_law_47 19 rfl rfl)
theorem dL_law_1296 : decode cL_law 1296 = .ok (.invokestatic 217, 3) := dk_184 0 217 (dk_at dksL_law_47 20 rfl rfl)
theorem dL_law_1299 : decode cL_law 1299 = .ok (.istore 5, 2) := dk_54 5 (dk_at dksL_law_48 0 rfl rfl)
theorem dL_law_1301 : decode cL_law 1301 = .ok (.aload_n 2, 1) := dk_44 (dk_at dksL_law_48 2 rfl rfl)
theorem dL_law_1302 : decode cL_law 1302 = .ok (.aload_n 0, 1) := dk_42 (dk_at dksL_law_48 3 rfl rfl)
theorem dL_law_1303 : decode cL_law 1303 = .ok (.iload 4, 2) := dk_21 4 (dk_at dksL_law_48 4 rfl rfl)
theorem dL_law_1305 : decode cL_law 1305 = .ok (.iconst 1, 1) := dk_4 (dk_at dksL_law_48 6 rfl rfl)
theorem dL_law_1306 : decode cL_law 1306 = .ok (.iadd, 1) := dk_96 (dk_at dksL_law_48 7 rfl rfl)
theorem dL_law_1307 : decode cL_law 1307 = .ok (.iaload, 1) := dk_46 (dk_at dksL_law_48 8 rfl rfl)
theorem dL_law_1308 : decode cL_law 1308 = .ok (.invokevirtual 219, 3) := dk_182 0 219 (dk_at dksL_law_48 9 rfl rfl)
theorem dL_law_1311 : decode cL_law 1311 = .ok (.istore 6, 2) := dk_54 6 (dk_at dksL_law_48 12 rfl rfl)
theorem dL_law_1313 : decode cL_law 1313 = .ok (.aload_n 2, 1) := dk_44 (dk_at dksL_law_48 14 rfl rfl)
theorem dL_law_1314 : decode cL_law 1314 = .ok (.invokevirtual 156, 3) := dk_182 0 156 (dk_at dksL_law_48 15 rfl rfl)
theorem dL_law_1317 : decode cL_law 1317 = .ok (.iload 5, 2) := dk_21 5 (dk_at dksL_law_48 18 rfl rfl)
theorem dL_law_1319 : decode cL_law 1319 = .ok (.if_icmp .eq 5, 3) := dk_159 0 5 (dk_at dksL_law_48 20 rfl rfl)
theorem dL_law_1322 : decode cL_law 1322 = .ok (.iconst 0, 1) := dk_3 (dk_at dksL_law_48 23 rfl rfl)
theorem dL_law_1323 : decode cL_law 1323 = .ok (.ireturn, 1) := dk_172 (dk_at dksL_law_49 0 rfl rfl)
theorem dL_law_1324 : decode cL_law 1324 = .ok (.iload 5, 2) := dk_21 5 (dk_at dksL_law_49 1 rfl rfl)
theorem dL_law_1326 : decode cL_law 1326 = .ok (.ifCond .ne 15, 3) := dk_154 0 15 (dk_at dksL_law_49 3 rfl rfl)
theorem dL_law_1329 : decode cL_law 1329 = .ok (.aload_n 3, 1) := dk_45 (dk_at dksL_law_49 6 rfl rfl)
theorem dL_law_1330 : decode cL_law 1330 = .ok (.iconst 0, 1) := dk_3 (dk_at dksL_law_49 7 rfl rfl)
theorem dL_law_1331 : decode cL_law 1331 = .ok (.laload, 1) := dk_47 (dk_at dksL_law_49 8 rfl rfl)
theorem dL_law_1332 : decode cL_law 1332 = .ok (.iload 6, 2) := dk_21 6 (dk_at dksL_law_49 9 rfl rfl)
theorem dL_law_1334 : decode cL_law 1334 = .ok (.i2l, 1) := dk_133 (dk_at dksL_law_49 11 rfl rfl)
theorem dL_law_1335 : decode cL_law 1335 = .ok (.lcmp, 1) := dk_148 (dk_at dksL_law_49 12 rfl rfl)
theorem dL_law_1336 : decode cL_law 1336 = .ok (.ifCond .eq 5, 3) := dk_153 0 5 (dk_at dksL_law_49 13 rfl rfl)
theorem dL_law_1339 : decode cL_law 1339 = .ok (.iconst 0, 1) := dk_3 (dk_at dksL_law_49 16 rfl rfl)
theorem dL_law_1340 : decode cL_law 1340 = .ok (.ireturn, 1) := dk_172 (dk_at dksL_law_49 17 rfl rfl)
theorem dL_law_1341 : decode cL_law 1341 = .ok (.goto 1674, 3) := dk_167 6 138 (dk_at dksL_law_49 18 rfl rfl)
theorem dL_law_1344 : decode cL_law 1344 = .ok (.aload_n 1, 1) := dk_43 (dk_at dksL_law_49 21 rfl rfl)
theorem dL_law_1345 : decode cL_law 1345 = .ok (.aload_n 0, 1) := dk_42 (dk_at dksL_law_49 22 rfl rfl)
theorem dL_law_1346 : decode cL_law 1346 = .ok (.iload 4, 2) := dk_21 4 (dk_at dksL_law_50 0 rfl rfl)
theorem dL_law_1348 : decode cL_law 1348 = .ok (.iconst 1, 1) := dk_4 (dk_at dksL_law_50 2 rfl rfl)
theorem dL_law_1349 : decode cL_law 1349 = .ok (.iadd, 1) := dk_96 (dk_at dksL_law_50 3 rfl rfl)
theorem dL_law_1350 : decode cL_law 1350 = .ok (.iaload, 1) := dk_46 (dk_at dksL_law_50 4 rfl rfl)
theorem dL_law_1351 : decode cL_law 1351 = .ok (.aload_n 3, 1) := dk_45 (dk_at dksL_law_50 5 rfl rfl)
theorem dL_law_1352 : decode cL_law 1352 = .ok (.invokestatic 220, 3) := dk_184 0 220 (dk_at dksL_law_50 6 rfl rfl)
theorem dL_law_1355 : decode cL_law 1355 = .ok (.istore 5, 2) := dk_54 5 (dk_at dksL_law_50 9 rfl rfl)
theorem dL_law_1357 : decode cL_law 1357 = .ok (.aload_n 2, 1) := dk_44 (dk_at dksL_law_50 11 rfl rfl)
theorem dL_law_1358 : decode cL_law 1358 = .ok (.aload_n 0, 1) := dk_42 (dk_at dksL_law_50 12 rfl rfl)
theorem dL_law_1359 : decode cL_law 1359 = .ok (.iload 4, 2) := dk_21 4 (dk_at dksL_law_50 13 rfl rfl)
theorem dL_law_1361 : decode cL_law 1361 = .ok (.iconst 1, 1) := dk_4 (dk_at dksL_law_50 15 rfl rfl)
theorem dL_law_1362 : decode cL_law 1362 = .ok (.iadd, 1) := dk_96 (dk_at dksL_law_50 16 rfl rfl)
theorem dL_law_1363 : decode cL_law 1363 = .ok (.iaload, 1) := dk_46 (dk_at dksL_law_50 17 rfl rfl)
theorem dL_law_1364 : decode cL_law 1364 = .ok (.invokevirtual 222, 3) := dk_182 0 222 (dk_at dksL_law_50 18 rfl rfl)
theorem dL_law_1367 : decode cL_law 1367 = .ok (.istore 6, 2) := dk_54 6 (dk_at dksL_law_50 21 rfl rfl)
theorem dL_law_1369 : decode cL_law 1369 = .ok (.aload_n 2, 1) := dk_44 (dk_at dksL_law_50 23 rfl rfl)
theorem dL_law_1370 : decode cL_law 1370 = .ok (.invokevirtual 156, 3) := dk_182 0 156 (dk_at dksL_law_51 0 rfl rfl)
theorem dL_law_1373 : decode cL_law 1373 = .ok (.iload 5, 2) := dk_21 5 (dk_at dksL_law_51 3 rfl rfl)
theorem dL_law_1375 : decode cL_law 1375 = .ok (.if_icmp .eq 5, 3) := dk_159 0 5 (dk_at dksL_law_51 5 rfl rfl)
theorem dL_law_1378 : decode cL_law 1378 = .ok (.iconst 0, 1) := dk_3 (dk_at dksL_law_51 8 rfl rfl)
theorem dL_law_1379 : decode cL_law 1379 = .ok (.ireturn, 1) := dk_172 (dk_at dksL_law_51 9 rfl rfl)
theorem dL_law_1380 : decode cL_law 1380 = .ok (.iload 5, 2) := dk_21 5 (dk_at dksL_law_51 10 rfl rfl)
theorem dL_law_1382 : decode cL_law 1382 = .ok (.ifCond .ne 15, 3) := dk_154 0 15 (dk_at dksL_law_51 12 rfl rfl)
theorem dL_law_1385 : decode cL_law 1385 = .ok (.aload_n 3, 1) := dk_45 (dk_at dksL_law_51 15 rfl rfl)
theorem dL_law_1386 : decode cL_law 1386 = .ok (.iconst 0, 1) := dk_3 (dk_at dksL_law_51 16 rfl rfl)
theorem dL_law_1387 : decode cL_law 1387 = .ok (.laload, 1) := dk_47 (dk_at dksL_law_51 17 rfl rfl)
theorem dL_law_1388 : decode cL_law 1388 = .ok (.iload 6, 2) := dk_21 6 (dk_at dksL_law_51 18 rfl rfl)
theorem dL_law_1390 : decode cL_law 1390 = .ok (.i2l, 1) := dk_133 (dk_at dksL_law_51 20 rfl rfl)
theorem dL_law_1391 : decode cL_law 1391 = .ok (.lcmp, 1) := dk_148 (dk_at dksL_law_51 21 rfl rfl)
theorem dL_law_1392 : decode cL_law 1392 = .ok (.ifCond .eq 5, 3) := dk_153 0 5 (dk_at dksL_law_52 0 rfl rfl)
theorem dL_law_1395 : decode cL_law 1395 = .ok (.iconst 0, 1) := dk_3 (dk_at dksL_law_52 3 rfl rfl)
theorem dL_law_1396 : decode cL_law 1396 = .ok (.ireturn, 1) := dk_172 (dk_at dksL_law_52 4 rfl rfl)
theorem dL_law_1397 : decode cL_law 1397 = .ok (.goto 1618, 3) := dk_167 6 82 (dk_at dksL_law_52 5 rfl rfl)
theorem dL_law_1400 : decode cL_law 1400 = .ok (.aload_n 1, 1) := dk_43 (dk_at dksL_law_52 8 rfl rfl)
theorem dL_law_1401 : decode cL_law 1401 = .ok (.aload_n 0, 1) := dk_42 (dk_at dksL_law_52 9 rfl rfl)
theorem dL_law_1402 : decode cL_law 1402 = .ok (.iload 4, 2) := dk_21 4 (dk_at dksL_law_52 10 rfl rfl)
theorem dL_law_1404 : decode cL_law 1404 = .ok (.iconst 1, 1) := dk_4 (dk_at dksL_law_52 12 rfl rfl)
theorem dL_law_1405 : decode cL_law 1405 = .ok (.iadd, 1) := dk_96 (dk_at dksL_law_52 13 rfl rfl)
theorem dL_law_1406 : decode cL_law 1406 = .ok (.iaload, 1) := dk_46 (dk_at dksL_law_52 14 rfl rfl)
theorem dL_law_1407 : decode cL_law 1407 = .ok (.aload_n 3, 1) := dk_45 (dk_at dksL_law_52 15 rfl rfl)
theorem dL_law_1408 : decode cL_law 1408 = .ok (.invokestatic 223, 3) := dk_184 0 223 (dk_at dksL_law_52 16 rfl rfl)
theorem dL_law_1411 : decode cL_law 1411 = .ok (.istore 5, 2) := dk_54 5 (dk_at dksL_law_52 19 rfl rfl)
theorem dL_law_1413 : decode cL_law 1413 = .ok (.aload_n 2, 1) := dk_44 (dk_at dksL_law_52 21 rfl rfl)
theorem dL_law_1414 : decode cL_law 1414 = .ok (.aload_n 0, 1) := dk_42 (dk_at dksL_law_52 22 rfl rfl)
theorem dL_law_1415 : decode cL_law 1415 = .ok (.iload 4, 2) := dk_21 4 (dk_at dksL_law_53 0 rfl rfl)
theorem dL_law_1417 : decode cL_law 1417 = .ok (.iconst 1, 1) := dk_4 (dk_at dksL_law_53 2 rfl rfl)
theorem dL_law_1418 : decode cL_law 1418 = .ok (.iadd, 1) := dk_96 (dk_at dksL_law_53 3 rfl rfl)
theorem dL_law_1419 : decode cL_law 1419 = .ok (.iaload, 1) := dk_46 (dk_at dksL_law_53 4 rfl rfl)
theorem dL_law_1420 : decode cL_law 1420 = .ok (.invokevirtual 225, 3) := dk_182 0 225 (dk_at dksL_law_53 5 rfl rfl)
theorem dL_law_1423 : decode cL_law 1423 = .ok (.istore 6, 2) := dk_54 6 (dk_at dksL_law_53 8 rfl rfl)
theorem dL_law_1425 : decode cL_law 1425 = .ok (.aload_n 2, 1) := dk_44 (dk_at dksL_law_53 10 rfl rfl)
theorem dL_law_1426 : decode cL_law 1426 = .ok (.invokevirtual 156, 3) := dk_182 0 156 (dk_at dksL_law_53 11 rfl rfl)
theorem dL_law_1429 : decode cL_law 1429 = .ok (.iload 5, 2) := dk_21 5 (dk_at dksL_law_53 14 rfl rfl)
theorem dL_law_1431 : decode cL_law 1431 = .ok (.if_icmp .eq 5, 3) := dk_159 0 5 (dk_at dksL_law_53 16 rfl rfl)
theorem dL_law_1434 : decode cL_law 1434 = .ok (.iconst 0, 1) := dk_3 (dk_at dksL_law_53 19 rfl rfl)
theorem dL_law_1435 : decode cL_law 1435 = .ok (.ireturn, 1) := dk_172 (dk_at dksL_law_53 20 rfl rfl)
theorem dL_law_1436 : decode cL_law 1436 = .ok (.iload 5, 2) := dk_21 5 (dk_at dksL_law_53 21 rfl rfl)
theorem dL_law_1438 : decode cL_law 1438 = .ok (.ifCond .ne 15, 3) := dk_154 0 15 (dk_at dksL_law_54 0 rfl rfl)
theorem dL_law_1441 : decode cL_law 1441 = .ok (.aload_n 3, 1) := dk_45 (dk_at dksL_law_54 3 rfl rfl)
theorem dL_law_1442 : decode cL_law 1442 = .ok (.iconst 0, 1) := dk_3 (dk_at dksL_law_54 4 rfl rfl)
theorem dL_law_1443 : decode cL_law 1443 = .ok (.laload, 1) := dk_47 (dk_at dksL_law_54 5 rfl rfl)
theorem dL_law_1444 : decode cL_law 1444 = .ok (.iload 6, 2) := dk_21 6 (dk_at dksL_law_54 6 rfl rfl)
theorem dL_law_1446 : decode cL_law 1446 = .ok (.i2l, 1) := dk_133 (dk_at dksL_law_54 8 rfl rfl)
theorem dL_law_1447 : decode cL_law 1447 = .ok (.lcmp, 1) := dk_148 (dk_at dksL_law_54 9 rfl rfl)
theorem dL_law_1448 : decode cL_law 1448 = .ok (.ifCond .eq 5, 3) := dk_153 0 5 (dk_at dksL_law_54 10 rfl rfl)
theorem dL_law_1451 : decode cL_law 1451 = .ok (.iconst 0, 1) := dk_3 (dk_at dksL_law_54 13 rfl rfl)
theorem dL_law_1452 : decode cL_law 1452 = .ok (.ireturn, 1) := dk_172 (dk_at dksL_law_54 14 rfl rfl)
theorem dL_law_1453 : decode cL_law 1453 = .ok (.goto 1562, 3) := dk_167 6 26 (dk_at dksL_law_54 15 rfl rfl)
theorem dL_law_1456 : decode cL_law 1456 = .ok (.aload_n 1, 1) := dk_43 (dk_at dksL_law_54 18 rfl rfl)
theorem dL_law_1457 : decode cL_law 1457 = .ok (.aload_n 0, 1) := dk_42 (dk_at dksL_law_54 19 rfl rfl)
theorem dL_law_1458 : decode cL_law 1458 = .ok (.iload 4, 2) := dk_21 4 (dk_at dksL_law_54 20 rfl rfl)
theorem dL_law_1460 : decode cL_law 1460 = .ok (.iconst 1, 1) := dk_4 (dk_at dksL_law_54 22 rfl rfl)
theorem dL_law_1461 : decode cL_law 1461 = .ok (.iadd, 1) := dk_96 (dk_at dksL_law_54 23 rfl rfl)
theorem dL_law_1462 : decode cL_law 1462 = .ok (.iaload, 1) := dk_46 (dk_at dksL_law_55 0 rfl rfl)
theorem dL_law_1463 : decode cL_law 1463 = .ok (.aload_n 3, 1) := dk_45 (dk_at dksL_law_55 1 rfl rfl)
theorem dL_law_1464 : decode cL_law 1464 = .ok (.invokestatic 226, 3) := dk_184 0 226 (dk_at dksL_law_55 2 rfl rfl)
theorem dL_law_1467 : decode cL_law 1467 = .ok (.istore 5, 2) := dk_54 5 (dk_at dksL_law_55 5 rfl rfl)
theorem dL_law_1469 : decode cL_law 1469 = .ok (.aload_n 2, 1) := dk_44 (dk_at dksL_law_55 7 rfl rfl)
theorem dL_law_1470 : decode cL_law 1470 = .ok (.aload_n 0, 1) := dk_42 (dk_at dksL_law_55 8 rfl rfl)
theorem dL_law_1471 : decode cL_law 1471 = .ok (.iload 4, 2) := dk_21 4 (dk_at dksL_law_55 9 rfl rfl)
theorem dL_law_1473 : decode cL_law 1473 = .ok (.iconst 1, 1) := dk_4 (dk_at dksL_law_55 11 rfl rfl)
theorem dL_law_1474 : decode cL_law 1474 = .ok (.iadd, 1) := dk_96 (dk_at dksL_law_55 12 rfl rfl)
theorem dL_law_1475 : decode cL_law 1475 = .ok (.iaload, 1) := dk_46 (dk_at dksL_law_55 13 rfl rfl)
theorem dL_law_1476 : decode cL_law 1476 = .ok (.invokevirtual 228, 3) := dk_182 0 228 (dk_at dksL_law_55 14 rfl rfl)
theorem dL_law_1479 : decode cL_law 1479 = .ok (.istore 6, 2) := dk_54 6 (dk_at dksL_law_55 17 rfl rfl)
theorem dL_law_1481 : decode cL_law 1481 = .ok (.aload_n 2, 1) := dk_44 (dk_at dksL_law_55 19 rfl rfl)
theorem dL_law_1482 : decode cL_law 1482 = .ok (.invokevirtual 156, 3) := dk_182 0 156 (dk_at dksL_law_55 20 rfl rfl)
theorem dL_law_1485 : decode cL_law 1485 = .ok (.iload 5, 2) := dk_21 5 (dk_at dksL_law_56 0 rfl rfl)
theorem dL_law_1487 : decode cL_law 1487 = .ok (.if_icmp .eq 5, 3) := dk_159 0 5 (dk_at dksL_law_56 2 rfl rfl)
theorem dL_law_1490 : decode cL_law 1490 = .ok (.iconst 0, 1) := dk_3 (dk_at dksL_law_56 5 rfl rfl)
theorem dL_law_1491 : decode cL_law 1491 = .ok (.ireturn, 1) := dk_172 (dk_at dksL_law_56 6 rfl rfl)
theorem dL_law_1492 : decode cL_law 1492 = .ok (.iload 5, 2) := dk_21 5 (dk_at dksL_law_56 7 rfl rfl)
theorem dL_law_1494 : decode cL_law 1494 = .ok (.ifCond .ne 15, 3) := dk_154 0 15 (dk_at dksL_law_56 9 rfl rfl)
theorem dL_law_1497 : decode cL_law 1497 = .ok (.aload_n 3, 1) := dk_45 (dk_at dksL_law_56 12 rfl rfl)
theorem dL_law_1498 : decode cL_law 1498 = .ok (.iconst 0, 1) := dk_3 (dk_at dksL_law_56 13 rfl rfl)
theorem dL_law_1499 : decode cL_law 1499 = .ok (.laload, 1) := dk_47 (dk_at dksL_law_56 14 rfl rfl)
theorem dL_law_1500 : decode cL_law 1500 = .ok (.iload 6, 2) := dk_21 6 (dk_at dksL_law_56 15 rfl rfl)
theorem dL_law_1502 : decode cL_law 1502 = .ok (.i2l, 1) := dk_133 (dk_at dksL_law_56 17 rfl rfl)
theorem dL_law_1503 : decode cL_law 1503 = .ok (.lcmp, 1) := dk_148 (dk_at dksL_law_56 18 rfl rfl)
theorem dL_law_1504 : decode cL_law 1504 = .ok (.ifCond .eq 5, 3) := dk_153 0 5 (dk_at dksL_law_56 19 rfl rfl)
theorem dL_law_1507 : decode cL_law 1507 = .ok (.iconst 0, 1) := dk_3 (dk_at dksL_law_56 22 rfl rfl)
theorem dL_law_1508 : decode cL_law 1508 = .ok (.ireturn, 1) := dk_172 (dk_at dksL_law_56 23 rfl rfl)
theorem dL_law_1509 : decode cL_law 1509 = .ok (.goto 1506, 3) := dk_167 5 226 (dk_at dksL_law_57 0 rfl rfl)
theorem dL_law_1512 : decode cL_law 1512 = .ok (.aload_n 1, 1) := dk_43 (dk_at dksL_law_57 3 rfl rfl)
theorem dL_law_1513 : decode cL_law 1513 = .ok (.aload_n 0, 1) := dk_42 (dk_at dksL_law_57 4 rfl rfl)
theorem dL_law_1514 : decode cL_law 1514 = .ok (.iload 4, 2) := dk_21 4 (dk_at dksL_law_57 5 rfl rfl)
theorem dL_law_1516 : decode cL_law 1516 = .ok (.iconst 1, 1) := dk_4 (dk_at dksL_law_57 7 rfl rfl)
theorem dL_law_1517 : decode cL_law 1517 = .ok (.iadd, 1) := dk_96 (dk_at dksL_law_57 8 rfl rfl)
theorem dL_law_1518 : decode cL_law 1518 = .ok (.iaload, 1) := dk_46 (dk_at dksL_law_57 9 rfl rfl)
theorem dL_law_1519 : decode cL_law 1519 = .ok (.aload_n 3, 1) := dk_45 (dk_at dksL_law_57 10 rfl rfl)
theorem dL_law_1520 : decode cL_law 1520 = .ok (.invokestatic 229, 3) := dk_184 0 229 (dk_at dksL_law_57 11 rfl rfl)
theorem dL_law_1523 : decode cL_law 1523 = .ok (.istore 5, 2) := dk_54 5 (dk_at dksL_law_57 14 rfl rfl)
theorem dL_law_1525 : decode cL_law 1525 = .ok (.aload_n 2, 1) := dk_44 (dk_at dksL_law_57 16 rfl rfl)
theorem dL_law_1526 : decode cL_law 1526 = .ok (.aload_n 0, 1) := dk_42 (dk_at dksL_law_57 17 rfl rfl)
theorem dL_law_1527 : decode cL_law 1527 = .ok (.iload 4, 2) := dk_21 4 (dk_at dksL_law_57 18 rfl rfl)
theorem dL_law_1529 : decode cL_law 1529 = .ok (.iconst 1, 1) := dk_4 (dk_at dksL_law_57 20 rfl rfl)
theorem dL_law_1530 : decode cL_law 1530 = .ok (.iadd, 1) := dk_96 (dk_at dksL_law_57 21 rfl rfl)
theorem dL_law_1531 : decode cL_law 1531 = .ok (.iaload, 1) := dk_46 (dk_at dksL_law_57 22 rfl rfl)
theorem dL_law_1532 : decode cL_law 1532 = .ok (.invokevirtual 231, 3) := dk_182 0 231 (dk_at dksL_law_58 0 rfl rfl)
theorem dL_law_1535 : decode cL_law 1535 = .ok (.istore 6, 2) := dk_54 6 (dk_at dksL_law_58 3 rfl rfl)
theorem dL_law_1537 : decode cL_law 1537 = .ok (.aload_n 2, 1) := dk_44 (dk_at dksL_law_58 5 rfl rfl)
theorem dL_law_1538 : decode cL_law 1538 = .ok (.invokevirtual 156, 3) := dk_182 0 156 (dk_at dksL_law_58 6 rfl rfl)
theorem dL_law_1541 : decode cL_law 1541 = .ok (.iload 5, 2) := dk_21 5 (dk_at dksL_law_58 9 rfl rfl)
theorem dL_law_1543 : decode cL_law 1543 = .ok (.if_icmp .eq 5, 3) := dk_159 0 5 (dk_at dksL_law_58 11 rfl rfl)
theorem dL_law_1546 : decode cL_law 1546 = .ok (.iconst 0, 1) := dk_3 (dk_at dksL_law_58 14 rfl rfl)
theorem dL_law_1547 : decode cL_law 1547 = .ok (.ireturn, 1) := dk_172 (dk_at dksL_law_58 15 rfl rfl)
theorem dL_law_1548 : decode cL_law 1548 = .ok (.iload 5, 2) := dk_21 5 (dk_at dksL_law_58 16 rfl rfl)
theorem dL_law_1550 : decode cL_law 1550 = .ok (.ifCond .ne 15, 3) := dk_154 0 15 (dk_at dksL_law_58 18 rfl rfl)
theorem dL_law_1553 : decode cL_law 1553 = .ok (.aload_n 3, 1) := dk_45 (dk_at dksL_law_58 21 rfl rfl)
theorem dL_law_1554 : decode cL_law 1554 = .ok (.iconst 0, 1) := dk_3 (dk_at dksL_law_58 22 rfl rfl)
theorem dL_law_1555 : decode cL_law 1555 = .ok (.laload, 1) := dk_47 (dk_at dksL_law_58 23 rfl rfl)
theorem dL_law_1556 : decode cL_law 1556 = .ok (.iload 6, 2) := dk_21 6 (dk_at dksL_law_59 0 rfl rfl)
theorem dL_law_1558 : decode cL_law 1558 = .ok (.i2l, 1) := dk_133 (dk_at dksL_law_59 2 rfl rfl)
theorem dL_law_1559 : decode cL_law 1559 = .ok (.lcmp, 1) := dk_148 (dk_at dksL_law_59 3 rfl rfl)
theorem dL_law_1560 : decode cL_law 1560 = .ok (.ifCond .eq 5, 3) := dk_153 0 5 (dk_at dksL_law_59 4 rfl rfl)
theorem dL_law_1563 : decode cL_law 1563 = .ok (.iconst 0, 1) := dk_3 (dk_at dksL_law_59 7 rfl rfl)
theorem dL_law_1564 : decode cL_law 1564 = .ok (.ireturn, 1) := dk_172 (dk_at dksL_law_59 8 rfl rfl)
theorem dL_law_1565 : decode cL_law 1565 = .ok (.goto 1450, 3) := dk_167 5 170 (dk_at dksL_law_59 9 rfl rfl)
theorem dL_law_1568 : decode cL_law 1568 = .ok (.aload_n 1, 1) := dk_43 (dk_at dksL_law_59 12 rfl rfl)
theorem dL_law_1569 : decode cL_law 1569 = .ok (.aload_n 0, 1) := dk_42 (dk_at dksL_law_59 13 rfl rfl)
theorem dL_law_1570 : decode cL_law 1570 = .ok (.iload 4, 2) := dk_21 4 (dk_at dksL_law_59 14 rfl rfl)
theorem dL_law_1572 : decode cL_law 1572 = .ok (.iconst 1, 1) := dk_4 (dk_at dksL_law_59 16 rfl rfl)
theorem dL_law_1573 : decode cL_law 1573 = .ok (.iadd, 1) := dk_96 (dk_at dksL_law_59 17 rfl rfl)
theorem dL_law_1574 : decode cL_law 1574 = .ok (.iaload, 1) := dk_46 (dk_at dksL_law_59 18 rfl rfl)
theorem dL_law_1575 : decode cL_law 1575 = .ok (.aload_n 0, 1) := dk_42 (dk_at dksL_law_59 19 rfl rfl)
theorem dL_law_1576 : decode cL_law 1576 = .ok (.iload 4, 2) := dk_21 4 (dk_at dksL_law_59 20 rfl rfl)
theorem dL_law_1578 : decode cL_law 1578 = .ok (.iconst 2, 1) := dk_5 (dk_at dksL_law_59 22 rfl rfl)
theorem dL_law_1579 : decode cL_law 1579 = .ok (.iadd, 1) := dk_96 (dk_at dksL_law_59 23 rfl rfl)
theorem dL_law_1580 : decode cL_law 1580 = .ok (.iaload, 1) := dk_46 (dk_at dksL_law_60 0 rfl rfl)
theorem dL_law_1581 : decode cL_law 1581 = .ok (.aload_n 3, 1) := dk_45 (dk_at dksL_law_60 1 rfl rfl)
theorem dL_law_1582 : decode cL_law 1582 = .ok (.invokestatic 232, 3) := dk_184 0 232 (dk_at dksL_law_60 2 rfl rfl)
theorem dL_law_1585 : decode cL_law 1585 = .ok (.istore 5, 2) := dk_54 5 (dk_at dksL_law_60 5 rfl rfl)
theorem dL_law_1587 : decode cL_law 1587 = .ok (.aload_n 2, 1) := dk_44 (dk_at dksL_law_60 7 rfl rfl)
theorem dL_law_1588 : decode cL_law 1588 = .ok (.aload_n 0, 1) := dk_42 (dk_at dksL_law_60 8 rfl rfl)
theorem dL_law_1589 : decode cL_law 1589 = .ok (.iload 4, 2) := dk_21 4 (dk_at dksL_law_60 9 rfl rfl)
theorem dL_law_1591 : decode cL_law 1591 = .ok (.iconst 1, 1) := dk_4 (dk_at dksL_law_60 11 rfl rfl)
theorem dL_law_1592 : decode cL_law 1592 = .ok (.iadd, 1) := dk_96 (dk_at dksL_law_60 12 rfl rfl)
theorem dL_law_1593 : decode cL_law 1593 = .ok (.iaload, 1) := dk_46 (dk_at dksL_law_60 13 rfl rfl)
theorem dL_law_1594 : decode cL_law 1594 = .ok (.aload_n 0, 1) := dk_42 (dk_at dksL_law_60 14 rfl rfl)
theorem dL_law_1595 : decode cL_law 1595 = .ok (.iload 4, 2) := dk_21 4 (dk_at dksL_law_60 15 rfl rfl)
theorem dL_law_1597 : decode cL_law 1597 = .ok (.iconst 2, 1) := dk_5 (dk_at dksL_law_60 17 rfl rfl)
theorem dL_law_1598 : decode cL_law 1598 = .ok (.iadd, 1) := dk_96 (dk_at dksL_law_60 18 rfl rfl)
theorem dL_law_1599 : decode cL_law 1599 = .ok (.iaload, 1) := dk_46 (dk_at dksL_law_60 19 rfl rfl)
theorem dL_law_1600 : decode cL_law 1600 = .ok (.invokevirtual 234, 3) := dk_182 0 234 (dk_at dksL_law_60 20 rfl rfl)
theorem dL_law_1603 : decode cL_law 1603 = .ok (.istore 6, 2) := dk_54 6 (dk_at dksL_law_61 0 rfl rfl)
theorem dL_law_1605 : decode cL_law 1605 = .ok (.aload_n 2, 1) := dk_44 (dk_at dksL_law_61 2 rfl rfl)
theorem dL_law_1606 : decode cL_law 1606 = .ok (.invokevirtual 156, 3) := dk_182 0 156 (dk_at dksL_law_61 3 rfl rfl)
theorem dL_law_1609 : decode cL_law 1609 = .ok (.iload 5, 2) := dk_21 5 (dk_at dksL_law_61 6 rfl rfl)
theorem dL_law_1611 : decode cL_law 1611 = .ok (.if_icmp .eq 5, 3) := dk_159 0 5 (dk_at dksL_law_61 8 rfl rfl)
theorem dL_law_1614 : decode cL_law 1614 = .ok (.iconst 0, 1) := dk_3 (dk_at dksL_law_61 11 rfl rfl)
theorem dL_law_1615 : decode cL_law 1615 = .ok (.ireturn, 1) := dk_172 (dk_at dksL_law_61 12 rfl rfl)
theorem dL_law_1616 : decode cL_law 1616 = .ok (.iload 5, 2) := dk_21 5 (dk_at dksL_law_61 13 rfl rfl)
theorem dL_law_1618 : decode cL_law 1618 = .ok (.ifCond .ne 15, 3) := dk_154 0 15 (dk_at dksL_law_61 15 rfl rfl)
theorem dL_law_1621 : decode cL_law 1621 = .ok (.aload_n 3, 1) := dk_45 (dk_at dksL_law_61 18 rfl rfl)
theorem dL_law_1622 : decode cL_law 1622 = .ok (.iconst 0, 1) := dk_3 (dk_at dksL_law_61 19 rfl rfl)
theorem dL_law_1623 : decode cL_law 1623 = .ok (.laload, 1) := dk_47 (dk_at dksL_law_61 20 rfl rfl)
theorem dL_law_1624 : decode cL_law 1624 = .ok (.iload 6, 2) := dk_21 6 (dk_at dksL_law_61 21 rfl rfl)
theorem dL_law_1626 : decode cL_law 1626 = .ok (.i2l, 1) := dk_133 (dk_at dksL_law_61 23 rfl rfl)
theorem dL_law_1627 : decode cL_law 1627 = .ok (.lcmp, 1) := dk_148 (dk_at dksL_law_62 0 rfl rfl)
theorem dL_law_1628 : decode cL_law 1628 = .ok (.ifCond .eq 5, 3) := dk_153 0 5 (dk_at dksL_law_62 1 rfl rfl)
theorem dL_law_1631 : decode cL_law 1631 = .ok (.iconst 0, 1) := dk_3 (dk_at dksL_law_62 4 rfl rfl)
theorem dL_law_1632 : decode cL_law 1632 = .ok (.ireturn, 1) := dk_172 (dk_at dksL_law_62 5 rfl rfl)
theorem dL_law_1633 : decode cL_law 1633 = .ok (.goto 1382, 3) := dk_167 5 102 (dk_at dksL_law_62 6 rfl rfl)
theorem dL_law_1636 : decode cL_law 1636 = .ok (.aload_n 1, 1) := dk_43 (dk_at dksL_law_62 9 rfl rfl)
theorem dL_law_1637 : decode cL_law 1637 = .ok (.aload_n 0, 1) := dk_42 (dk_at dksL_law_62 10 rfl rfl)
theorem dL_law_1638 : decode cL_law 1638 = .ok (.iload 4, 2) := dk_21 4 (dk_at dksL_law_62 11 rfl rfl)
theorem dL_law_1640 : decode cL_law 1640 = .ok (.iconst 1, 1) := dk_4 (dk_at dksL_law_62 13 rfl rfl)
theorem dL_law_1641 : decode cL_law 1641 = .ok (.iadd, 1) := dk_96 (dk_at dksL_law_62 14 rfl rfl)
theorem dL_law_1642 : decode cL_law 1642 = .ok (.iaload, 1) := dk_46 (dk_at dksL_law_62 15 rfl rfl)
theorem dL_law_1643 : decode cL_law 1643 = .ok (.aload_n 0, 1) := dk_42 (dk_at dksL_law_62 16 rfl rfl)
theorem dL_law_1644 : decode cL_law 1644 = .ok (.iload 4, 2) := dk_21 4 (dk_at dksL_law_62 17 rfl rfl)
theorem dL_law_1646 : decode cL_law 1646 = .ok (.iconst 2, 1) := dk_5 (dk_at dksL_law_62 19 rfl rfl)
theorem dL_law_1647 : decode cL_law 1647 = .ok (.iadd, 1) := dk_96 (dk_at dksL_law_62 20 rfl rfl)
theorem dL_law_1648 : decode cL_law 1648 = .ok (.iaload, 1) := dk_46 (dk_at dksL_law_62 21 rfl rfl)
theorem dL_law_1649 : decode cL_law 1649 = .ok (.aload_n 3, 1) := dk_45 (dk_at dksL_law_62 22 rfl rfl)
theorem dL_law_1650 : decode cL_law 1650 = .ok (.invokestatic 235, 3) := dk_184 0 235 (dk_at dksL_law_63 0 rfl rfl)
theorem dL_law_1653 : decode cL_law 1653 = .ok (.istore 5, 2) := dk_54 5 (dk_at dksL_law_63 3 rfl rfl)
theorem dL_law_1655 : decode cL_law 1655 = .ok (.aload_n 2, 1) := dk_44 (dk_at dksL_law_63 5 rfl rfl)
theorem dL_law_1656 : decode cL_law 1656 = .ok (.aload_n 0, 1) := dk_42 (dk_at dksL_law_63 6 rfl rfl)
theorem dL_law_1657 : decode cL_law 1657 = .ok (.iload 4, 2) := dk_21 4 (dk_at dksL_law_63 7 rfl rfl)
theorem dL_law_1659 : decode cL_law 1659 = .ok (.iconst 1, 1) := dk_4 (dk_at dksL_law_63 9 rfl rfl)
theorem dL_law_1660 : decode cL_law 1660 = .ok (.iadd, 1) := dk_96 (dk_at dksL_law_63 10 rfl rfl)
theorem dL_law_1661 : decode cL_law 1661 = .ok (.iaload, 1) := dk_46 (dk_at dksL_law_63 11 rfl rfl)
theorem dL_law_1662 : decode cL_law 1662 = .ok (.aload_n 0, 1) := dk_42 (dk_at dksL_law_63 12 rfl rfl)
theorem dL_law_1663 : decode cL_law 1663 = .ok (.iload 4, 2) := dk_21 4 (dk_at dksL_law_63 13 rfl rfl)
theorem dL_law_1665 : decode cL_law 1665 = .ok (.iconst 2, 1) := dk_5 (dk_at dksL_law_63 15 rfl rfl)
theorem dL_law_1666 : decode cL_law 1666 = .ok (.iadd, 1) := dk_96 (dk_at dksL_law_63 16 rfl rfl)
theorem dL_law_1667 : decode cL_law 1667 = .ok (.iaload, 1) := dk_46 (dk_at dksL_law_63 17 rfl rfl)
theorem dL_law_1668 : decode cL_law 1668 = .ok (.invokevirtual 237, 3) := dk_182 0 237 (dk_at dksL_law_63 18 rfl rfl)
theorem dL_law_1671 : decode cL_law 1671 = .ok (.istore 6, 2) := dk_54 6 (dk_at dksL_law_63 21 rfl rfl)
theorem dL_law_1673 : decode cL_law 1673 = .ok (.aload_n 2, 1) := dk_44 (dk_at dksL_law_63 23 rfl rfl)
theorem dL_law_1674 : decode cL_law 1674 = .ok (.invokevirtual 156, 3) := dk_182 0 156 (dk_at dksL_law_64 0 rfl rfl)
theorem dL_law_1677 : decode cL_law 1677 = .ok (.iload 5, 2) := dk_21 5 (dk_at dksL_law_64 3 rfl rfl)
theorem dL_law_1679 : decode cL_law 1679 = .ok (.if_icmp .eq 5, 3) := dk_159 0 5 (dk_at dksL_law_64 5 rfl rfl)
theorem dL_law_1682 : decode cL_law 1682 = .ok (.iconst 0, 1) := dk_3 (dk_at dksL_law_64 8 rfl rfl)
theorem dL_law_1683 : decode cL_law 1683 = .ok (.ireturn, 1) := dk_172 (dk_at dksL_law_64 9 rfl rfl)
theorem dL_law_1684 : decode cL_law 1684 = .ok (.iload 5, 2) := dk_21 5 (dk_at dksL_law_64 10 rfl rfl)
theorem dL_law_1686 : decode cL_law 1686 = .ok (.ifCond .ne 15, 3) := dk_154 0 15 (dk_at dksL_law_64 12 rfl rfl)
theorem dL_law_1689 : decode cL_law 1689 = .ok (.aload_n 3, 1) := dk_45 (dk_at dksL_law_64 15 rfl rfl)
theorem dL_law_1690 : decode cL_law 1690 = .ok (.iconst 0, 1) := dk_3 (dk_at dksL_law_64 16 rfl rfl)
theorem dL_law_1691 : decode cL_law 1691 = .ok (.laload, 1) := dk_47 (dk_at dksL_law_64 17 rfl rfl)
theorem dL_law_1692 : decode cL_law 1692 = .ok (.iload 6, 2) := dk_21 6 (dk_at dksL_law_64 18 rfl rfl)
theorem dL_law_1694 : decode cL_law 1694 = .ok (.i2l, 1) := dk_133 (dk_at dksL_law_64 20 rfl rfl)
theorem dL_law_1695 : decode cL_law 1695 = .ok (.lcmp, 1) := dk_148 (dk_at dksL_law_64 21 rfl rfl)
theorem dL_law_1696 : decode cL_law 1696 = .ok (.ifCond .eq 5, 3) := dk_153 0 5 (dk_at dksL_law_65 0 rfl rfl)
theorem dL_law_1699 : decode cL_law 1699 = .ok (.iconst 0, 1) := dk_3 (dk_at dksL_law_65 3 rfl rfl)
theorem dL_law_1700 : decode cL_law 1700 = .ok (.ireturn, 1) := dk_172 (dk_at dksL_law_65 4 rfl rfl)
theorem dL_law_1701 : decode cL_law 1701 = .ok (.goto 1314, 3) := dk_167 5 34 (dk_at dksL_law_65 5 rfl rfl)
theorem dL_law_1704 : decode cL_law 1704 = .ok (.aload_n 1, 1) := dk_43 (dk_at dksL_law_65 8 rfl rfl)
theorem dL_law_1705 : decode cL_law 1705 = .ok (.aload_n 0, 1) := dk_42 (dk_at dksL_law_65 9 rfl rfl)
theorem dL_law_1706 : decode cL_law 1706 = .ok (.iload 4, 2) := dk_21 4 (dk_at dksL_law_65 10 rfl rfl)
theorem dL_law_1708 : decode cL_law 1708 = .ok (.iconst 1, 1) := dk_4 (dk_at dksL_law_65 12 rfl rfl)
theorem dL_law_1709 : decode cL_law 1709 = .ok (.iadd, 1) := dk_96 (dk_at dksL_law_65 13 rfl rfl)
theorem dL_law_1710 : decode cL_law 1710 = .ok (.iaload, 1) := dk_46 (dk_at dksL_law_65 14 rfl rfl)
theorem dL_law_1711 : decode cL_law 1711 = .ok (.aload_n 3, 1) := dk_45 (dk_at dksL_law_65 15 rfl rfl)
theorem dL_law_1712 : decode cL_law 1712 = .ok (.invokestatic 238, 3) := dk_184 0 238 (dk_at dksL_law_65 16 rfl rfl)
theorem dL_law_1715 : decode cL_law 1715 = .ok (.istore 5, 2) := dk_54 5 (dk_at dksL_law_65 19 rfl rfl)
theorem dL_law_1717 : decode cL_law 1717 = .ok (.aload_n 2, 1) := dk_44 (dk_at dksL_law_65 21 rfl rfl)
theorem dL_law_1718 : decode cL_law 1718 = .ok (.aload_n 0, 1) := dk_42 (dk_at dksL_law_65 22 rfl rfl)
theorem dL_law_1719 : decode cL_law 1719 = .ok (.iload 4, 2) := dk_21 4 (dk_at dksL_law_66 0 rfl rfl)
theorem dL_law_1721 : decode cL_law 1721 = .ok (.iconst 1, 1) := dk_4 (dk_at dksL_law_66 2 rfl rfl)
theorem dL_law_1722 : decode cL_law 1722 = .ok (.iadd, 1) := dk_96 (dk_at dksL_law_66 3 rfl rfl)
theorem dL_law_1723 : decode cL_law 1723 = .ok (.iaload, 1) := dk_46 (dk_at dksL_law_66 4 rfl rfl)
theorem dL_law_1724 : decode cL_law 1724 = .ok (.invokevirtual 240, 3) := dk_182 0 240 (dk_at dksL_law_66 5 rfl rfl)
theorem dL_law_1727 : decode cL_law 1727 = .ok (.istore 6, 2) := dk_54 6 (dk_at dksL_law_66 8 rfl rfl)
theorem dL_law_1729 : decode cL_law 1729 = .ok (.aload_n 2, 1) := dk_44 (dk_at dksL_law_66 10 rfl rfl)
theorem dL_law_1730 : decode cL_law 1730 = .ok (.invokevirtual 156, 3) := dk_182 0 156 (dk_at dksL_law_66 11 rfl rfl)
theorem dL_law_1733 : decode cL_law 1733 = .ok (.iload 5, 2) := dk_21 5 (dk_at dksL_law_66 14 rfl rfl)
theorem dL_law_1735 : decode cL_law 1735 = .ok (.if_icmp .eq 5, 3) := dk_159 0 5 (dk_at dksL_law_66 16 rfl rfl)
theorem dL_law_1738 : decode cL_law 1738 = .ok (.iconst 0, 1) := dk_3 (dk_at dksL_law_66 19 rfl rfl)
theorem dL_law_1739 : decode cL_law 1739 = .ok (.ireturn, 1) := dk_172 (dk_at dksL_law_66 20 rfl rfl)
theorem dL_law_1740 : decode cL_law 1740 = .ok (.iload 5, 2) := dk_21 5 (dk_at dksL_law_66 21 rfl rfl)
theorem dL_law_1742 : decode cL_law 1742 = .ok (.ifCond .ne 15, 3) := dk_154 0 15 (dk_at dksL_law_67 0 rfl rfl)
theorem dL_law_1745 : decode cL_law 1745 = .ok (.aload_n 3, 1) := dk_45 (dk_at dksL_law_67 3 rfl rfl)
theorem dL_law_1746 : decode cL_law 1746 = .ok (.iconst 0, 1) := dk_3 (dk_at dksL_law_67 4 rfl rfl)
theorem dL_law_1747 : decode cL_law 1747 = .ok (.laload, 1) := dk_47 (dk_at dksL_law_67 5 rfl rfl)
theorem dL_law_1748 : decode cL_law 1748 = .ok (.iload 6, 2) := dk_21 6 (dk_at dksL_law_67 6 rfl rfl)
theorem dL_law_1750 : decode cL_law 1750 = .ok (.i2l, 1) := dk_133 (dk_at dksL_law_67 8 rfl rfl)
theorem dL_law_1751 : decode cL_law 1751 = .ok (.lcmp, 1) := dk_148 (dk_at dksL_law_67 9 rfl rfl)
theorem dL_law_1752 : decode cL_law 1752 = .ok (.ifCond .eq 5, 3) := dk_153 0 5 (dk_at dksL_law_67 10 rfl rfl)
theorem dL_law_1755 : decode cL_law 1755 = .ok (.iconst 0, 1) := dk_3 (dk_at dksL_law_67 13 rfl rfl)
theorem dL_law_1756 : decode cL_law 1756 = .ok (.ireturn, 1) := dk_172 (dk_at dksL_law_67 14 rfl rfl)
theorem dL_law_1757 : decode cL_law 1757 = .ok (.goto 1258, 3) := dk_167 4 234 (dk_at dksL_law_67 15 rfl rfl)
theorem dL_law_1760 : decode cL_law 1760 = .ok (.aload_n 1, 1) := dk_43 (dk_at dksL_law_67 18 rfl rfl)
theorem dL_law_1761 : decode cL_law 1761 = .ok (.aload_n 0, 1) := dk_42 (dk_at dksL_law_67 19 rfl rfl)
theorem dL_law_1762 : decode cL_law 1762 = .ok (.iload 4, 2) := dk_21 4 (dk_at dksL_law_67 20 rfl rfl)
theorem dL_law_1764 : decode cL_law 1764 = .ok (.iconst 1, 1) := dk_4 (dk_at dksL_law_67 22 rfl rfl)
theorem dL_law_1765 : decode cL_law 1765 = .ok (.iadd, 1) := dk_96 (dk_at dksL_law_67 23 rfl rfl)
theorem dL_law_1766 : decode cL_law 1766 = .ok (.iaload, 1) := dk_46 (dk_at dksL_law_68 0 rfl rfl)
theorem dL_law_1767 : decode cL_law 1767 = .ok (.aload_n 0, 1) := dk_42 (dk_at dksL_law_68 1 rfl rfl)
theorem dL_law_1768 : decode cL_law 1768 = .ok (.iload 4, 2) := dk_21 4 (dk_at dksL_law_68 2 rfl rfl)
theorem dL_law_1770 : decode cL_law 1770 = .ok (.iconst 2, 1) := dk_5 (dk_at dksL_law_68 4 rfl rfl)
theorem dL_law_1771 : decode cL_law 1771 = .ok (.iadd, 1) := dk_96 (dk_at dksL_law_68 5 rfl rfl)
theorem dL_law_1772 : decode cL_law 1772 = .ok (.iaload, 1) := dk_46 (dk_at dksL_law_68 6 rfl rfl)
theorem dL_law_1773 : decode cL_law 1773 = .ok (.aload_n 0, 1) := dk_42 (dk_at dksL_law_68 7 rfl rfl)
theorem dL_law_1774 : decode cL_law 1774 = .ok (.iload 4, 2) := dk_21 4 (dk_at dksL_law_68 8 rfl rfl)
theorem dL_law_1776 : decode cL_law 1776 = .ok (.iconst 3, 1) := dk_6 (dk_at dksL_law_68 10 rfl rfl)
theorem dL_law_1777 : decode cL_law 1777 = .ok (.iadd, 1) := dk_96 (dk_at dksL_law_68 11 rfl rfl)
theorem dL_law_1778 : decode cL_law 1778 = .ok (.iaload, 1) := dk_46 (dk_at dksL_law_68 12 rfl rfl)
theorem dL_law_1779 : decode cL_law 1779 = .ok (.aload_n 3, 1) := dk_45 (dk_at dksL_law_68 13 rfl rfl)
theorem dL_law_1780 : decode cL_law 1780 = .ok (.invokestatic 241, 3) := dk_184 0 241 (dk_at dksL_law_68 14 rfl rfl)
theorem dL_law_1783 : decode cL_law 1783 = .ok (.istore 5, 2) := dk_54 5 (dk_at dksL_law_68 17 rfl rfl)
theorem dL_law_1785 : decode cL_law 1785 = .ok (.aload_n 2, 1) := dk_44 (dk_at dksL_law_68 19 rfl rfl)
theorem dL_law_1786 : decode cL_law 1786 = .ok (.aload_n 0, 1) := dk_42 (dk_at dksL_law_68 20 rfl rfl)
theorem dL_law_1787 : decode cL_law 1787 = .ok (.iload 4, 2) := dk_21 4 (dk_at dksL_law_68 21 rfl rfl)
theorem dL_law_1789 : decode cL_law 1789 = .ok (.iconst 1, 1) := dk_4 (dk_at dksL_law_68 23 rfl rfl)
theorem dL_law_1790 : decode cL_law 1790 = .ok (.iadd, 1) := dk_96 (dk_at dksL_law_69 0 rfl rfl)
theorem dL_law_1791 : decode cL_law 1791 = .ok (.iaload, 1) := dk_46 (dk_at dksL_law_69 1 rfl rfl)
theorem dL_law_1792 : decode cL_law 1792 = .ok (.aload_n 0, 1) := dk_42 (dk_at dksL_law_69 2 rfl rfl)
theorem dL_law_1793 : decode cL_law 1793 = .ok (.iload 4, 2) := dk_21 4 (dk_at dksL_law_69 3 rfl rfl)
theorem dL_law_1795 : decode cL_law 1795 = .ok (.iconst 2, 1) := dk_5 (dk_at dksL_law_69 5 rfl rfl)
theorem dL_law_1796 : decode cL_law 1796 = .ok (.iadd, 1) := dk_96 (dk_at dksL_law_69 6 rfl rfl)
theorem dL_law_1797 : decode cL_law 1797 = .ok (.iaload, 1) := dk_46 (dk_at dksL_law_69 7 rfl rfl)
theorem dL_law_1798 : decode cL_law 1798 = .ok (.aload_n 0, 1) := dk_42 (dk_at dksL_law_69 8 rfl rfl)
theorem dL_law_1799 : decode cL_law 1799 = .ok (.iload 4, 2) := dk_21 4 (dk_at dksL_law_69 9 rfl rfl)
theorem dL_law_1801 : decode cL_law 1801 = .ok (.iconst 3, 1) := dk_6 (dk_at dksL_law_69 11 rfl rfl)
theorem dL_law_1802 : decode cL_law 1802 = .ok (.iadd, 1) := dk_96 (dk_at dksL_law_69 12 rfl rfl)
theorem dL_law_1803 : decode cL_law 1803 = .ok (.iaload, 1) := dk_46 (dk_at dksL_law_69 13 rfl rfl)
theorem dL_law_1804 : decode cL_law 1804 = .ok (.invokevirtual 243, 3) := dk_182 0 243 (dk_at dksL_law_69 14 rfl rfl)
theorem dL_law_1807 : decode cL_law 1807 = .ok (.istore 6, 2) := dk_54 6 (dk_at dksL_law_69 17 rfl rfl)
theorem dL_law_1809 : decode cL_law 1809 = .ok (.aload_n 2, 1) := dk_44 (dk_at dksL_law_69 19 rfl rfl)
theorem dL_law_1810 : decode cL_law 1810 = .ok (.invokevirtual 156, 3) := dk_182 0 156 (dk_at dksL_law_69 20 rfl rfl)
theorem dL_law_1813 : decode cL_law 1813 = .ok (.iload 5, 2) := dk_21 5 (dk_at dksL_law_70 0 rfl rfl)
theorem dL_law_1815 : decode cL_law 1815 = .ok (.if_icmp .eq 5, 3) := dk_159 0 5 (dk_at dksL_law_70 2 rfl rfl)
theorem dL_law_1818 : decode cL_law 1818 = .ok (.iconst 0, 1) := dk_3 (dk_at dksL_law_70 5 rfl rfl)
theorem dL_law_1819 : decode cL_law 1819 = .ok (.ireturn, 1) := dk_172 (dk_at dksL_law_70 6 rfl rfl)
theorem dL_law_1820 : decode cL_law 1820 = .ok (.iload 5, 2) := dk_21 5 (dk_at dksL_law_70 7 rfl rfl)
theorem dL_law_1822 : decode cL_law 1822 = .ok (.ifCond .ne 15, 3) := dk_154 0 15 (dk_at dksL_law_70 9 rfl rfl)
theorem dL_law_1825 : decode cL_law 1825 = .ok (.aload_n 3, 1) := dk_45 (dk_at dksL_law_70 12 rfl rfl)
theorem dL_law_1826 : decode cL_law 1826 = .ok (.iconst 0, 1) := dk_3 (dk_at dksL_law_70 13 rfl rfl)
theorem dL_law_1827 : decode cL_law 1827 = .ok (.laload, 1) := dk_47 (dk_at dksL_law_70 14 rfl rfl)
theorem dL_law_1828 : decode cL_law 1828 = .ok (.iload 6, 2) := dk_21 6 (dk_at dksL_law_70 15 rfl rfl)
theorem dL_law_1830 : decode cL_law 1830 = .ok (.i2l, 1) := dk_133 (dk_at dksL_law_70 17 rfl rfl)
theorem dL_law_1831 : decode cL_law 1831 = .ok (.lcmp, 1) := dk_148 (dk_at dksL_law_70 18 rfl rfl)
theorem dL_law_1832 : decode cL_law 1832 = .ok (.ifCond .eq 5, 3) := dk_153 0 5 (dk_at dksL_law_70 19 rfl rfl)
theorem dL_law_1835 : decode cL_law 1835 = .ok (.iconst 0, 1) := dk_3 (dk_at dksL_law_70 22 rfl rfl)
theorem dL_law_1836 : decode cL_law 1836 = .ok (.ireturn, 1) := dk_172 (dk_at dksL_law_70 23 rfl rfl)
theorem dL_law_1837 : decode cL_law 1837 = .ok (.goto 1178, 3) := dk_167 4 154 (dk_at dksL_law_71 0 rfl rfl)
theorem dL_law_1840 : decode cL_law 1840 = .ok (.aload_n 1, 1) := dk_43 (dk_at dksL_law_71 3 rfl rfl)
theorem dL_law_1841 : decode cL_law 1841 = .ok (.invokevirtual 244, 3) := dk_182 0 244 (dk_at dksL_law_71 4 rfl rfl)
theorem dL_law_1844 : decode cL_law 1844 = .ok (.aload_n 2, 1) := dk_44 (dk_at dksL_law_71 7 rfl rfl)
theorem dL_law_1845 : decode cL_law 1845 = .ok (.invokevirtual 247, 3) := dk_182 0 247 (dk_at dksL_law_71 8 rfl rfl)
theorem dL_law_1848 : decode cL_law 1848 = .ok (.goto 1167, 3) := dk_167 4 143 (dk_at dksL_law_71 11 rfl rfl)
theorem dL_law_1851 : decode cL_law 1851 = .ok (.aload_n 1, 1) := dk_43 (dk_at dksL_law_71 14 rfl rfl)
theorem dL_law_1852 : decode cL_law 1852 = .ok (.aload_n 0, 1) := dk_42 (dk_at dksL_law_71 15 rfl rfl)
theorem dL_law_1853 : decode cL_law 1853 = .ok (.iload 4, 2) := dk_21 4 (dk_at dksL_law_71 16 rfl rfl)
theorem dL_law_1855 : decode cL_law 1855 = .ok (.iconst 1, 1) := dk_4 (dk_at dksL_law_71 18 rfl rfl)
theorem dL_law_1856 : decode cL_law 1856 = .ok (.iadd, 1) := dk_96 (dk_at dksL_law_71 19 rfl rfl)
theorem dL_law_1857 : decode cL_law 1857 = .ok (.iaload, 1) := dk_46 (dk_at dksL_law_71 20 rfl rfl)
theorem dL_law_1858 : decode cL_law 1858 = .ok (.aload_n 3, 1) := dk_45 (dk_at dksL_law_71 21 rfl rfl)
theorem dL_law_1859 : decode cL_law 1859 = .ok (.invokestatic 248, 3) := dk_184 0 248 (dk_at dksL_law_72 0 rfl rfl)
theorem dL_law_1862 : decode cL_law 1862 = .ok (.istore 5, 2) := dk_54 5 (dk_at dksL_law_72 3 rfl rfl)
theorem dL_law_1864 : decode cL_law 1864 = .ok (.aload_n 2, 1) := dk_44 (dk_at dksL_law_72 5 rfl rfl)
theorem dL_law_1865 : decode cL_law 1865 = .ok (.aload_n 0, 1) := dk_42 (dk_at dksL_law_72 6 rfl rfl)
theorem dL_law_1866 : decode cL_law 1866 = .ok (.iload 4, 2) := dk_21 4 (dk_at dksL_law_72 7 rfl rfl)
theorem dL_law_1868 : decode cL_law 1868 = .ok (.iconst 1, 1) := dk_4 (dk_at dksL_law_72 9 rfl rfl)
theorem dL_law_1869 : decode cL_law 1869 = .ok (.iadd, 1) := dk_96 (dk_at dksL_law_72 10 rfl rfl)
theorem dL_law_1870 : decode cL_law 1870 = .ok (.iaload, 1) := dk_46 (dk_at dksL_law_72 11 rfl rfl)
theorem dL_law_1871 : decode cL_law 1871 = .ok (.invokevirtual 250, 3) := dk_182 0 250 (dk_at dksL_law_72 12 rfl rfl)
theorem dL_law_1874 : decode cL_law 1874 = .ok (.istore 6, 2) := dk_54 6 (dk_at dksL_law_72 15 rfl rfl)
theorem dL_law_1876 : decode cL_law 1876 = .ok (.aload_n 2, 1) := dk_44 (dk_at dksL_law_72 17 rfl rfl)
theorem dL_law_1877 : decode cL_law 1877 = .ok (.invokevirtual 156, 3) := dk_182 0 156 (dk_at dksL_law_72 18 rfl rfl)
theorem dL_law_1880 : decode cL_law 1880 = .ok (.iload 5, 2) := dk_21 5 (dk_at dksL_law_72 21 rfl rfl)
theorem dL_law_1882 : decode cL_law 1882 = .ok (.if_icmp .eq 5, 3) := dk_159 0 5 (dk_at dksL_law_73 0 rfl rfl)
theorem dL_law_1885 : decode cL_law 1885 = .ok (.iconst 0, 1) := dk_3 (dk_at dksL_law_73 3 rfl rfl)
theorem dL_law_1886 : decode cL_law 1886 = .ok (.ireturn, 1) := dk_172 (dk_at dksL_law_73 4 rfl rfl)
theorem dL_law_1887 : decode cL_law 1887 = .ok (.iload 5, 2) := dk_21 5 (dk_at dksL_law_73 5 rfl rfl)
theorem dL_law_1889 : decode cL_law 1889 = .ok (.ifCond .ne 15, 3) := dk_154 0 15 (dk_at dksL_law_73 7 rfl rfl)
theorem dL_law_1892 : decode cL_law 1892 = .ok (.aload_n 3, 1) := dk_45 (dk_at dksL_law_73 10 rfl rfl)
theorem dL_law_1893 : decode cL_law 1893 = .ok (.iconst 0, 1) := dk_3 (dk_at dksL_law_73 11 rfl rfl)
theorem dL_law_1894 : decode cL_law 1894 = .ok (.laload, 1) := dk_47 (dk_at dksL_law_73 12 rfl rfl)
theorem dL_law_1895 : decode cL_law 1895 = .ok (.iload 6, 2) := dk_21 6 (dk_at dksL_law_73 13 rfl rfl)
theorem dL_law_1897 : decode cL_law 1897 = .ok (.i2l, 1) := dk_133 (dk_at dksL_law_73 15 rfl rfl)
theorem dL_law_1898 : decode cL_law 1898 = .ok (.lcmp, 1) := dk_148 (dk_at dksL_law_73 16 rfl rfl)
theorem dL_law_1899 : decode cL_law 1899 = .ok (.ifCond .eq 5, 3) := dk_153 0 5 (dk_at dksL_law_73 17 rfl rfl)
theorem dL_law_1902 : decode cL_law 1902 = .ok (.iconst 0, 1) := dk_3 (dk_at dksL_law_73 20 rfl rfl)
theorem dL_law_1903 : decode cL_law 1903 = .ok (.ireturn, 1) := dk_172 (dk_at dksL_law_73 21 rfl rfl)
theorem dL_law_1904 : decode cL_law 1904 = .ok (.goto 1111, 3) := dk_167 4 87 (dk_at dksL_law_74 0 rfl rfl)
theorem dL_law_1907 : decode cL_law 1907 = .ok (.aload_n 1, 1) := dk_43 (dk_at dksL_law_74 3 rfl rfl)
theorem dL_law_1908 : decode cL_law 1908 = .ok (.aload_n 0, 1) := dk_42 (dk_at dksL_law_74 4 rfl rfl)
theorem dL_law_1909 : decode cL_law 1909 = .ok (.iload 4, 2) := dk_21 4 (dk_at dksL_law_74 5 rfl rfl)
theorem dL_law_1911 : decode cL_law 1911 = .ok (.iconst 1, 1) := dk_4 (dk_at dksL_law_74 7 rfl rfl)
theorem dL_law_1912 : decode cL_law 1912 = .ok (.iadd, 1) := dk_96 (dk_at dksL_law_74 8 rfl rfl)
theorem dL_law_1913 : decode cL_law 1913 = .ok (.iaload, 1) := dk_46 (dk_at dksL_law_74 9 rfl rfl)
theorem dL_law_1914 : decode cL_law 1914 = .ok (.aload_n 3, 1) := dk_45 (dk_at dksL_law_74 10 rfl rfl)
theorem dL_law_1915 : decode cL_law 1915 = .ok (.invokestatic 251, 3) := dk_184 0 251 (dk_at dksL_law_74 11 rfl rfl)
theorem dL_law_1918 : decode cL_law 1918 = .ok (.istore 5, 2) := dk_54 5 (dk_at dksL_law_74 14 rfl rfl)
theorem dL_law_1920 : decode cL_law 1920 = .ok (.aload_n 2, 1) := dk_44 (dk_at dksL_law_74 16 rfl rfl)
theorem dL_law_1921 : decode cL_law 1921 = .ok (.aload_n 0, 1) := dk_42 (dk_at dksL_law_74 17 rfl rfl)
theorem dL_law_1922 : decode cL_law 1922 = .ok (.iload 4, 2) := dk_21 4 (dk_at dksL_law_74 18 rfl rfl)
theorem dL_law_1924 : decode cL_law 1924 = .ok (.iconst 1, 1) := dk_4 (dk_at dksL_law_74 20 rfl rfl)
theorem dL_law_1925 : decode cL_law 1925 = .ok (.iadd, 1) := dk_96 (dk_at dksL_law_74 21 rfl rfl)
theorem dL_law_1926 : decode cL_law 1926 = .ok (.iaload, 1) := dk_46 (dk_at dksL_law_74 22 rfl rfl)
theorem dL_law_1927 : decode cL_law 1927 = .ok (.invokevirtual 253, 3) := dk_182 0 253 (dk_at dksL_law_75 0 rfl rfl)
theorem dL_law_1930 : decode cL_law 1930 = .ok (.istore 6, 2) := dk_54 6 (dk_at dksL_law_75 3 rfl rfl)
theorem dL_law_1932 : decode cL_law 1932 = .ok (.aload_n 2, 1) := dk_44 (dk_at dksL_law_75 5 rfl rfl)
theorem dL_law_1933 : decode cL_law 1933 = .ok (.invokevirtual 156, 3) := dk_182 0 156 (dk_at dksL_law_75 6 rfl rfl)
theorem dL_law_1936 : decode cL_law 1936 = .ok (.iload 5, 2) := dk_21 5 (dk_at dksL_law_75 9 rfl rfl)
theorem dL_law_1938 : decode cL_law 1938 = .ok (.if_icmp .eq 5, 3) := dk_159 0 5 (dk_at dksL_law_75 11 rfl rfl)
theorem dL_law_1941 : decode cL_law 1941 = .ok (.iconst 0, 1) := dk_3 (dk_at dksL_law_75 14 rfl rfl)
theorem dL_law_1942 : decode cL_law 1942 = .ok (.ireturn, 1) := dk_172 (dk_at dksL_law_75 15 rfl rfl)
theorem dL_law_1943 : decode cL_law 1943 = .ok (.iload 5, 2) := dk_21 5 (dk_at dksL_law_75 16 rfl rfl)
theorem dL_law_1945 : decode cL_law 1945 = .ok (.ifCond .ne 15, 3) := dk_154 0 15 (dk_at dksL_law_75 18 rfl rfl)
theorem dL_law_1948 : decode cL_law 1948 = .ok (.aload_n 3, 1) := dk_45 (dk_at dksL_law_75 21 rfl rfl)
theorem dL_law_1949 : decode cL_law 1949 = .ok (.iconst 0, 1) := dk_3 (dk_at dksL_law_75 22 rfl rfl)
theorem dL_law_1950 : decode cL_law 1950 = .ok (.laload, 1) := dk_47 (dk_at dksL_law_75 23 rfl rfl)
theorem dL_law_1951 : decode cL_law 1951 = .ok (.iload 6, 2) := dk_21 6 (dk_at dksL_law_76 0 rfl rfl)
theorem dL_law_1953 : decode cL_law 1953 = .ok (.i2l, 1) := dk_133 (dk_at dksL_law_76 2 rfl rfl)
theorem dL_law_1954 : decode cL_law 1954 = .ok (.lcmp, 1) := dk_148 (dk_at dksL_law_76 3 rfl rfl)
theorem dL_law_1955 : decode cL_law 1955 = .ok (.ifCond .eq 5, 3) := dk_153 0 5 (dk_at dksL_law_76 4 rfl rfl)
theorem dL_law_1958 : decode cL_law 1958 = .ok (.iconst 0, 1) := dk_3 (dk_at dksL_law_76 7 rfl rfl)
theorem dL_law_1959 : decode cL_law 1959 = .ok (.ireturn, 1) := dk_172 (dk_at dksL_law_76 8 rfl rfl)
theorem dL_law_1960 : decode cL_law 1960 = .ok (.goto 1055, 3) := dk_167 4 31 (dk_at dksL_law_76 9 rfl rfl)
theorem dL_law_1963 : decode cL_law 1963 = .ok (.aload_n 1, 1) := dk_43 (dk_at dksL_law_76 12 rfl rfl)
theorem dL_law_1964 : decode cL_law 1964 = .ok (.aload_n 0, 1) := dk_42 (dk_at dksL_law_76 13 rfl rfl)
theorem dL_law_1965 : decode cL_law 1965 = .ok (.iload 4, 2) := dk_21 4 (dk_at dksL_law_76 14 rfl rfl)
theorem dL_law_1967 : decode cL_law 1967 = .ok (.iconst 1, 1) := dk_4 (dk_at dksL_law_76 16 rfl rfl)
theorem dL_law_1968 : decode cL_law 1968 = .ok (.iadd, 1) := dk_96 (dk_at dksL_law_76 17 rfl rfl)
theorem dL_law_1969 : decode cL_law 1969 = .ok (.iaload, 1) := dk_46 (dk_at dksL_law_76 18 rfl rfl)
theorem dL_law_1970 : decode cL_law 1970 = .ok (.aload_n 0, 1) := dk_42 (dk_at dksL_law_76 19 rfl rfl)
theorem dL_law_1971 : decode cL_law 1971 = .ok (.iload 4, 2) := dk_21 4 (dk_at dksL_law_76 20 rfl rfl)
theorem dL_law_1973 : decode cL_law 1973 = .ok (.iconst 2, 1) := dk_5 (dk_at dksL_law_76 22 rfl rfl)
theorem dL_law_1974 : decode cL_law 1974 = .ok (.iadd, 1) := dk_96 (dk_at dksL_law_76 23 rfl rfl)
theorem dL_law_1975 : decode cL_law 1975 = .ok (.iaload, 1) := dk_46 (dk_at dksL_law_77 0 rfl rfl)
theorem dL_law_1976 : decode cL_law 1976 = .ok (.aload_n 0, 1) := dk_42 (dk_at dksL_law_77 1 rfl rfl)
theorem dL_law_1977 : decode cL_law 1977 = .ok (.iload 4, 2) := dk_21 4 (dk_at dksL_law_77 2 rfl rfl)
theorem dL_law_1979 : decode cL_law 1979 = .ok (.iconst 3, 1) := dk_6 (dk_at dksL_law_77 4 rfl rfl)
theorem dL_law_1980 : decode cL_law 1980 = .ok (.iadd, 1) := dk_96 (dk_at dksL_law_77 5 rfl rfl)
theorem dL_law_1981 : decode cL_law 1981 = .ok (.iaload, 1) := dk_46 (dk_at dksL_law_77 6 rfl rfl)
theorem dL_law_1982 : decode cL_law 1982 = .ok (.aload_n 3, 1) := dk_45 (dk_at dksL_law_77 7 rfl rfl)
theorem dL_law_1983 : decode cL_law 1983 = .ok (.invokestatic 254, 3) := dk_184 0 254 (dk_at dksL_law_77 8 rfl rfl)
theorem dL_law_1986 : decode cL_law 1986 = .ok (.istore 5, 2) := dk_54 5 (dk_at dksL_law_77 11 rfl rfl)
theorem dL_law_1988 : decode cL_law 1988 = .ok (.aload_n 2, 1) := dk_44 (dk_at dksL_law_77 13 rfl rfl)
theorem dL_law_1989 : decode cL_law 1989 = .ok (.aload_n 0, 1) := dk_42 (dk_at dksL_law_77 14 rfl rfl)
theorem dL_law_1990 : decode cL_law 1990 = .ok (.iload 4, 2) := dk_21 4 (dk_at dksL_law_77 15 rfl rfl)
theorem dL_law_1992 : decode cL_law 1992 = .ok (.iconst 1, 1) := dk_4 (dk_at dksL_law_77 17 rfl rfl)
theorem dL_law_1993 : decode cL_law 1993 = .ok (.iadd, 1) := dk_96 (dk_at dksL_law_77 18 rfl rfl)
theorem dL_law_1994 : decode cL_law 1994 = .ok (.iaload, 1) := dk_46 (dk_at dksL_law_77 19 rfl rfl)
theorem dL_law_1995 : decode cL_law 1995 = .ok (.aload_n 0, 1) := dk_42 (dk_at dksL_law_77 20 rfl rfl)
theorem dL_law_1996 : decode cL_law 1996 = .ok (.iload 4, 2) := dk_21 4 (dk_at dksL_law_77 21 rfl rfl)
theorem dL_law_1998 : decode cL_law 1998 = .ok (.iconst 2, 1) := dk_5 (dk_at dksL_law_77 23 rfl rfl)
theorem dL_law_1999 : decode cL_law 1999 = .ok (.iadd, 1) := dk_96 (dk_at dksL_law_78 0 rfl rfl)
theorem dL_law_2000 : decode cL_law 2000 = .ok (.iaload, 1) := dk_46 (dk_at dksL_law_78 1 rfl rfl)
theorem dL_law_2001 : decode cL_law 2001 = .ok (.aload_n 0, 1) := dk_42 (dk_at dksL_law_78 2 rfl rfl)
theorem dL_law_2002 : decode cL_law 2002 = .ok (.iload 4, 2) := dk_21 4 (dk_at dksL_law_78 3 rfl rfl)
theorem dL_law_2004 : decode cL_law 2004 = .ok (.iconst 3, 1) := dk_6 (dk_at dksL_law_78 5 rfl rfl)
theorem dL_law_2005 : decode cL_law 2005 = .ok (.iadd, 1) := dk_96 (dk_at dksL_law_78 6 rfl rfl)
theorem dL_law_2006 : decode cL_law 2006 = .ok (.iaload, 1) := dk_46 (dk_at dksL_law_78 7 rfl rfl)
theorem dL_law_2007 : decode cL_law 2007 = .ok (.invokevirtual 256, 3) := dk_182 1 0 (dk_at dksL_law_78 8 rfl rfl)
theorem dL_law_2010 : decode cL_law 2010 = .ok (.istore 6, 2) := dk_54 6 (dk_at dksL_law_78 11 rfl rfl)
theorem dL_law_2012 : decode cL_law 2012 = .ok (.aload_n 2, 1) := dk_44 (dk_at dksL_law_78 13 rfl rfl)
theorem dL_law_2013 : decode cL_law 2013 = .ok (.invokevirtual 156, 3) := dk_182 0 156 (dk_at dksL_law_78 14 rfl rfl)
theorem dL_law_2016 : decode cL_law 2016 = .ok (.iload 5, 2) := dk_21 5 (dk_at dksL_law_78 17 rfl rfl)
theorem dL_law_2018 : decode cL_law 2018 = .ok (.if_icmp .eq 5, 3) := dk_159 0 5 (dk_at dksL_law_78 19 rfl rfl)
theorem dL_law_2021 : decode cL_law 2021 = .ok (.iconst 0, 1) := dk_3 (dk_at dksL_law_78 22 rfl rfl)
theorem dL_law_2022 : decode cL_law 2022 = .ok (.ireturn, 1) := dk_172 (dk_at dksL_law_78 23 rfl rfl)
theorem dL_law_2023 : decode cL_law 2023 = .ok (.iload 5, 2) := dk_21 5 (dk_at dksL_law_79 0 rfl rfl)
theorem dL_law_2025 : decode cL_law 2025 = .ok (.ifCond .ne 15, 3) := dk_154 0 15 (dk_at dksL_law_79 2 rfl rfl)
theorem dL_law_2028 : decode cL_law 2028 = .ok (.aload_n 3, 1) := dk_45 (dk_at dksL_law_79 5 rfl rfl)
theorem dL_law_2029 : decode cL_law 2029 = .ok (.iconst 0, 1) := dk_3 (dk_at dksL_law_79 6 rfl rfl)
theorem dL_law_2030 : decode cL_law 2030 = .ok (.laload, 1) := dk_47 (dk_at dksL_law_79 7 rfl rfl)
theorem dL_law_2031 : decode cL_law 2031 = .ok (.iload 6, 2) := dk_21 6 (dk_at dksL_law_79 8 rfl rfl)
theorem dL_law_2033 : decode cL_law 2033 = .ok (.i2l, 1) := dk_133 (dk_at dksL_law_79 10 rfl rfl)
theorem dL_law_2034 : decode cL_law 2034 = .ok (.lcmp, 1) := dk_148 (dk_at dksL_law_79 11 rfl rfl)
theorem dL_law_2035 : decode cL_law 2035 = .ok (.ifCond .eq 5, 3) := dk_153 0 5 (dk_at dksL_law_79 12 rfl rfl)
theorem dL_law_2038 : decode cL_law 2038 = .ok (.iconst 0, 1) := dk_3 (dk_at dksL_law_79 15 rfl rfl)
theorem dL_law_2039 : decode cL_law 2039 = .ok (.ireturn, 1) := dk_172 (dk_at dksL_law_79 16 rfl rfl)
theorem dL_law_2040 : decode cL_law 2040 = .ok (.goto 975, 3) := dk_167 3 207 (dk_at dksL_law_79 17 rfl rfl)
theorem dL_law_2043 : decode cL_law 2043 = .ok (.aload_n 1, 1) := dk_43 (dk_at dksL_law_79 20 rfl rfl)
theorem dL_law_2044 : decode cL_law 2044 = .ok (.aload_n 0, 1) := dk_42 (dk_at dksL_law_79 21 rfl rfl)
theorem dL_law_2045 : decode cL_law 2045 = .ok (.iload 4, 2) := dk_21 4 (dk_at dksL_law_79 22 rfl rfl)
theorem dL_law_2047 : decode cL_law 2047 = .ok (.iconst 1, 1) := dk_4 (dk_at dksL_law_80 0 rfl rfl)
theorem dL_law_2048 : decode cL_law 2048 = .ok (.iadd, 1) := dk_96 (dk_at dksL_law_80 1 rfl rfl)
theorem dL_law_2049 : decode cL_law 2049 = .ok (.iaload, 1) := dk_46 (dk_at dksL_law_80 2 rfl rfl)
theorem dL_law_2050 : decode cL_law 2050 = .ok (.aload_n 0, 1) := dk_42 (dk_at dksL_law_80 3 rfl rfl)
theorem dL_law_2051 : decode cL_law 2051 = .ok (.iload 4, 2) := dk_21 4 (dk_at dksL_law_80 4 rfl rfl)
theorem dL_law_2053 : decode cL_law 2053 = .ok (.iconst 2, 1) := dk_5 (dk_at dksL_law_80 6 rfl rfl)
theorem dL_law_2054 : decode cL_law 2054 = .ok (.iadd, 1) := dk_96 (dk_at dksL_law_80 7 rfl rfl)
theorem dL_law_2055 : decode cL_law 2055 = .ok (.iaload, 1) := dk_46 (dk_at dksL_law_80 8 rfl rfl)
theorem dL_law_2056 : decode cL_law 2056 = .ok (.aload_n 0, 1) := dk_42 (dk_at dksL_law_80 9 rfl rfl)
theorem dL_law_2057 : decode cL_law 2057 = .ok (.iload 4, 2) := dk_21 4 (dk_at dksL_law_80 10 rfl rfl)
theorem dL_law_2059 : decode cL_law 2059 = .ok (.iconst 3, 1) := dk_6 (dk_at dksL_law_80 12 rfl rfl)
theorem dL_law_2060 : decode cL_law 2060 = .ok (.iadd, 1) := dk_96 (dk_at dksL_law_80 13 rfl rfl)
theorem dL_law_2061 : decode cL_law 2061 = .ok (.iaload, 1) := dk_46 (dk_at dksL_law_80 14 rfl rfl)
theorem dL_law_2062 : decode cL_law 2062 = .ok (.aload_n 0, 1) := dk_42 (dk_at dksL_law_80 15 rfl rfl)
theorem dL_law_2063 : decode cL_law 2063 = .ok (.iload 4, 2) := dk_21 4 (dk_at dksL_law_80 16 rfl rfl)
theorem dL_law_2065 : decode cL_law 2065 = .ok (.iconst 4, 1) := dk_7 (dk_at dksL_law_80 18 rfl rfl)
theorem dL_law_2066 : decode cL_law 2066 = .ok (.iadd, 1) := dk_96 (dk_at dksL_law_80 19 rfl rfl)
theorem dL_law_2067 : decode cL_law 2067 = .ok (.iaload, 1) := dk_46 (dk_at dksL_law_80 20 rfl rfl)
theorem dL_law_2068 : decode cL_law 2068 = .ok (.aload_n 3, 1) := dk_45 (dk_at dksL_law_80 21 rfl rfl)
theorem dL_law_2069 : decode cL_law 2069 = .ok (.invokestatic 257, 3) := dk_184 1 1 (dk_at dksL_law_81 0 rfl rfl)
theorem dL_law_2072 : decode cL_law 2072 = .ok (.istore 5, 2) := dk_54 5 (dk_at dksL_law_81 3 rfl rfl)
theorem dL_law_2074 : decode cL_law 2074 = .ok (.aload_n 2, 1) := dk_44 (dk_at dksL_law_81 5 rfl rfl)
theorem dL_law_2075 : decode cL_law 2075 = .ok (.aload_n 0, 1) := dk_42 (dk_at dksL_law_81 6 rfl rfl)
theorem dL_law_2076 : decode cL_law 2076 = .ok (.iload 4, 2) := dk_21 4 (dk_at dksL_law_81 7 rfl rfl)
theorem dL_law_2078 : decode cL_law 2078 = .ok (.iconst 1, 1) := dk_4 (dk_at dksL_law_81 9 rfl rfl)
theorem dL_law_2079 : decode cL_law 2079 = .ok (.iadd, 1) := dk_96 (dk_at dksL_law_81 10 rfl rfl)
theorem dL_law_2080 : decode cL_law 2080 = .ok (.iaload, 1) := dk_46 (dk_at dksL_law_81 11 rfl rfl)
theorem dL_law_2081 : decode cL_law 2081 = .ok (.aload_n 0, 1) := dk_42 (dk_at dksL_law_81 12 rfl rfl)
theorem dL_law_2082 : decode cL_law 2082 = .ok (.iload 4, 2) := dk_21 4 (dk_at dksL_law_81 13 rfl rfl)
theorem dL_law_2084 : decode cL_law 2084 = .ok (.iconst 2, 1) := dk_5 (dk_at dksL_law_81 15 rfl rfl)
theorem dL_law_2085 : decode cL_law 2085 = .ok (.iadd, 1) := dk_96 (dk_at dksL_law_81 16 rfl rfl)
theorem dL_law_2086 : decode cL_law 2086 = .ok (.iaload, 1) := dk_46 (dk_at dksL_law_81 17 rfl rfl)
theorem dL_law_2087 : decode cL_law 2087 = .ok (.aload_n 0, 1) := dk_42 (dk_at dksL_law_81 18 rfl rfl)
theorem dL_law_2088 : decode cL_law 2088 = .ok (.iload 4, 2) := dk_21 4 (dk_at dksL_law_81 19 rfl rfl)
theorem dL_law_2090 : decode cL_law 2090 = .ok (.iconst 3, 1) := dk_6 (dk_at dksL_law_81 21 rfl rfl)
theorem dL_law_2091 : decode cL_law 2091 = .ok (.iadd, 1) := dk_96 (dk_at dksL_law_81 22 rfl rfl)
theorem dL_law_2092 : decode cL_law 2092 = .ok (.iaload, 1) := dk_46 (dk_at dksL_law_81 23 rfl rfl)
theorem dL_law_2093 : decode cL_law 2093 = .ok (.aload_n 0, 1) := dk_42 (dk_at dksL_law_82 0 rfl rfl)
theorem dL_law_2094 : decode cL_law 2094 = .ok (.iload 4, 2) := dk_21 4 (dk_at dksL_law_82 1 rfl rfl)
theorem dL_law_2096 : decode cL_law 2096 = .ok (.iconst 4, 1) := dk_7 (dk_at dksL_law_82 3 rfl rfl)
theorem dL_law_2097 : decode cL_law 2097 = .ok (.iadd, 1) := dk_96 (dk_at dksL_law_82 4 rfl rfl)
theorem dL_law_2098 : decode cL_law 2098 = .ok (.iaload, 1) := dk_46 (dk_at dksL_law_82 5 rfl rfl)
theorem dL_law_2099 : decode cL_law 2099 = .ok (.invokevirtual 260, 3) := dk_182 1 4 (dk_at dksL_law_82 6 rfl rfl)
theorem dL_law_2102 : decode cL_law 2102 = .ok (.istore 6, 2) := dk_54 6 (dk_at dksL_law_82 9 rfl rfl)
theorem dL_law_2104 : decode cL_law 2104 = .ok (.aload_n 2, 1) := dk_44 (dk_at dksL_law_82 11 rfl rfl)
theorem dL_law_2105 : decode cL_law 2105 = .ok (.invokevirtual 156, 3) := dk_182 0 156 (dk_at dksL_law_82 12 rfl rfl)
theorem dL_law_2108 : decode cL_law 2108 = .ok (.iload 5, 2) := dk_21 5 (dk_at dksL_law_82 15 rfl rfl)
theorem dL_law_2110 : decode cL_law 2110 = .ok (.if_icmp .eq 5, 3) := dk_159 0 5 (dk_at dksL_law_82 17 rfl rfl)
theorem dL_law_2113 : decode cL_law 2113 = .ok (.iconst 0, 1) := dk_3 (dk_at dksL_law_82 20 rfl rfl)
theorem dL_law_2114 : decode cL_law 2114 = .ok (.ireturn, 1) := dk_172 (dk_at dksL_law_82 21 rfl rfl)
theorem dL_law_2115 : decode cL_law 2115 = .ok (.iload 5, 2) := dk_21 5 (dk_at dksL_law_82 22 rfl rfl)
theorem dL_law_2117 : decode cL_law 2117 = .ok (.ifCond .ne 15, 3) := dk_154 0 15 (dk_at dksL_law_83 0 rfl rfl)
theorem dL_law_2120 : decode cL_law 2120 = .ok (.aload_n 3, 1) := dk_45 (dk_at dksL_law_83 3 rfl rfl)
theorem dL_law_2121 : decode cL_law 2121 = .ok (.iconst 0, 1) := dk_3 (dk_at dksL_law_83 4 rfl rfl)
theorem dL_law_2122 : decode cL_law 2122 = .ok (.laload, 1) := dk_47 (dk_at dksL_law_83 5 rfl rfl)
theorem dL_law_2123 : decode cL_law 2123 = .ok (.iload 6, 2) := dk_21 6 (dk_at dksL_law_83 6 rfl rfl)
theorem dL_law_2125 : decode cL_law 2125 = .ok (.i2l, 1) := dk_133 (dk_at dksL_law_83 8 rfl rfl)
theorem dL_law_2126 : decode cL_law 2126 = .ok (.lcmp, 1) := dk_148 (dk_at dksL_law_83 9 rfl rfl)
theorem dL_law_2127 : decode cL_law 2127 = .ok (.ifCond .eq 5, 3) := dk_153 0 5 (dk_at dksL_law_83 10 rfl rfl)
theorem dL_law_2130 : decode cL_law 2130 = .ok (.iconst 0, 1) := dk_3 (dk_at dksL_law_83 13 rfl rfl)
theorem dL_law_2131 : decode cL_law 2131 = .ok (.ireturn, 1) := dk_172 (dk_at dksL_law_83 14 rfl rfl)
theorem dL_law_2132 : decode cL_law 2132 = .ok (.goto 883, 3) := dk_167 3 115 (dk_at dksL_law_83 15 rfl rfl)
theorem dL_law_2135 : decode cL_law 2135 = .ok (.aload_n 1, 1) := dk_43 (dk_at dksL_law_83 18 rfl rfl)
theorem dL_law_2136 : decode cL_law 2136 = .ok (.aload_n 0, 1) := dk_42 (dk_at dksL_law_83 19 rfl rfl)
theorem dL_law_2137 : decode cL_law 2137 = .ok (.iload 4, 2) := dk_21 4 (dk_at dksL_law_83 20 rfl rfl)
theorem dL_law_2139 : decode cL_law 2139 = .ok (.iconst 1, 1) := dk_4 (dk_at dksL_law_83 22 rfl rfl)
theorem dL_law_2140 : decode cL_law 2140 = .ok (.iadd, 1) := dk_96 (dk_at dksL_law_83 23 rfl rfl)
theorem dL_law_2141 : decode cL_law 2141 = .ok (.iaload, 1) := dk_46 (dk_at dksL_law_84 0 rfl rfl)
theorem dL_law_2142 : decode cL_law 2142 = .ok (.aload_n 0, 1) := dk_42 (dk_at dksL_law_84 1 rfl rfl)
theorem dL_law_2143 : decode cL_law 2143 = .ok (.iload 4, 2) := dk_21 4 (dk_at dksL_law_84 2 rfl rfl)
theorem dL_law_2145 : decode cL_law 2145 = .ok (.iconst 2, 1) := dk_5 (dk_at dksL_law_84 4 rfl rfl)
theorem dL_law_2146 : decode cL_law 2146 = .ok (.iadd, 1) := dk_96 (dk_at dksL_law_84 5 rfl rfl)
theorem dL_law_2147 : decode cL_law 2147 = .ok (.iaload, 1) := dk_46 (dk_at dksL_law_84 6 rfl rfl)
theorem dL_law_2148 : decode cL_law 2148 = .ok (.aload_n 0, 1) := dk_42 (dk_at dksL_law_84 7 rfl rfl)
theorem dL_law_2149 : decode cL_law 2149 = .ok (.iload 4, 2) := dk_21 4 (dk_at dksL_law_84 8 rfl rfl)
theorem dL_law_2151 : decode cL_law 2151 = .ok (.iconst 3, 1) := dk_6 (dk_at dksL_law_84 10 rfl rfl)
theorem dL_law_2152 : decode cL_law 2152 = .ok (.iadd, 1) := dk_96 (dk_at dksL_law_84 11 rfl rfl)
theorem dL_law_2153 : decode cL_law 2153 = .ok (.iaload, 1) := dk_46 (dk_at dksL_law_84 12 rfl rfl)
theorem dL_law_2154 : decode cL_law 2154 = .ok (.aload_n 3, 1) := dk_45 (dk_at dksL_law_84 13 rfl rfl)
theorem dL_law_2155 : decode cL_law 2155 = .ok (.invokestatic 261, 3) := dk_184 1 5 (dk_at dksL_law_84 14 rfl rfl)
theorem dL_law_2158 : decode cL_law 2158 = .ok (.istore 5, 2) := dk_54 5 (dk_at dksL_law_84 17 rfl rfl)
theorem dL_law_2160 : decode cL_law 2160 = .ok (.aload_n 2, 1) := dk_44 (dk_at dksL_law_84 19 rfl rfl)
theorem dL_law_2161 : decode cL_law 2161 = .ok (.aload_n 0, 1) := dk_42 (dk_at dksL_law_84 20 rfl rfl)
theorem dL_law_2162 : decode cL_law 2162 = .ok (.iload 4, 2) := dk_21 4 (dk_at dksL_law_84 21 rfl rfl)
theorem dL_law_2164 : decode cL_law 2164 = .ok (.iconst 1, 1) := dk_4 (dk_at dksL_law_84 23 rfl rfl)
theorem dL_law_2165 : decode cL_law 2165 = .ok (.iadd, 1) := dk_96 (dk_at dksL_law_85 0 rfl rfl)
theorem dL_law_2166 : decode cL_law 2166 = .ok (.iaload, 1) := dk_46 (dk_at dksL_law_85 1 rfl rfl)
theorem dL_law_2167 : decode cL_law 2167 = .ok (.aload_n 0, 1) := dk_42 (dk_at dksL_law_85 2 rfl rfl)
theorem dL_law_2168 : decode cL_law 2168 = .ok (.iload 4, 2) := dk_21 4 (dk_at dksL_law_85 3 rfl rfl)
theorem dL_law_2170 : decode cL_law 2170 = .ok (.iconst 2, 1) := dk_5 (dk_at dksL_law_85 5 rfl rfl)
theorem dL_law_2171 : decode cL_law 2171 = .ok (.iadd, 1) := dk_96 (dk_at dksL_law_85 6 rfl rfl)
theorem dL_law_2172 : decode cL_law 2172 = .ok (.iaload, 1) := dk_46 (dk_at dksL_law_85 7 rfl rfl)
theorem dL_law_2173 : decode cL_law 2173 = .ok (.aload_n 0, 1) := dk_42 (dk_at dksL_law_85 8 rfl rfl)
theorem dL_law_2174 : decode cL_law 2174 = .ok (.iload 4, 2) := dk_21 4 (dk_at dksL_law_85 9 rfl rfl)
theorem dL_law_2176 : decode cL_law 2176 = .ok (.iconst 3, 1) := dk_6 (dk_at dksL_law_85 11 rfl rfl)
theorem dL_law_2177 : decode cL_law 2177 = .ok (.iadd, 1) := dk_96 (dk_at dksL_law_85 12 rfl rfl)
theorem dL_law_2178 : decode cL_law 2178 = .ok (.iaload, 1) := dk_46 (dk_at dksL_law_85 13 rfl rfl)
theorem dL_law_2179 : decode cL_law 2179 = .ok (.invokevirtual 263, 3) := dk_182 1 7 (dk_at dksL_law_85 14 rfl rfl)
theorem dL_law_2182 : decode cL_law 2182 = .ok (.istore 6, 2) := dk_54 6 (dk_at dksL_law_85 17 rfl rfl)
theorem dL_law_2184 : decode cL_law 2184 = .ok (.aload_n 2, 1) := dk_44 (dk_at dksL_law_85 19 rfl rfl)
theorem dL_law_2185 : decode cL_law 2185 = .ok (.invokevirtual 156, 3) := dk_182 0 156 (dk_at dksL_law_85 20 rfl rfl)
theorem dL_law_2188 : decode cL_law 2188 = .ok (.iload 5, 2) := dk_21 5 (dk_at dksL_law_86 0 rfl rfl)
theorem dL_law_2190 : decode cL_law 2190 = .ok (.if_icmp .eq 5, 3) := dk_159 0 5 (dk_at dksL_law_86 2 rfl rfl)
theorem dL_law_2193 : decode cL_law 2193 = .ok (.iconst 0, 1) := dk_3 (dk_at dksL_law_86 5 rfl rfl)
theorem dL_law_2194 : decode cL_law 2194 = .ok (.ireturn, 1) := dk_172 (dk_at dksL_law_86 6 rfl rfl)
theorem dL_law_2195 : decode cL_law 2195 = .ok (.iload 5, 2) := dk_21 5 (dk_at dksL_law_86 7 rfl rfl)
theorem dL_law_2197 : decode cL_law 2197 = .ok (.ifCond .ne 15, 3) := dk_154 0 15 (dk_at dksL_law_86 9 rfl rfl)
theorem dL_law_2200 : decode cL_law 2200 = .ok (.aload_n 3, 1) := dk_45 (dk_at dksL_law_86 12 rfl rfl)
theorem dL_law_2201 : decode cL_law 2201 = .ok (.iconst 0, 1) := dk_3 (dk_at dksL_law_86 13 rfl rfl)
theorem dL_law_2202 : decode cL_law 2202 = .ok (.laload, 1) := dk_47 (dk_at dksL_law_86 14 rfl rfl)
theorem dL_law_2203 : decode cL_law 2203 = .ok (.iload 6, 2) := dk_21 6 (dk_at dksL_law_86 15 rfl rfl)
theorem dL_law_2205 : decode cL_law 2205 = .ok (.i2l, 1) := dk_133 (dk_at dksL_law_86 17 rfl rfl)
theorem dL_law_2206 : decode cL_law 2206 = .ok (.lcmp, 1) := dk_148 (dk_at dksL_law_86 18 rfl rfl)
theorem dL_law_2207 : decode cL_law 2207 = .ok (.ifCond .eq 5, 3) := dk_153 0 5 (dk_at dksL_law_86 19 rfl rfl)
theorem dL_law_2210 : decode cL_law 2210 = .ok (.iconst 0, 1) := dk_3 (dk_at dksL_law_86 22 rfl rfl)
theorem dL_law_2211 : decode cL_law 2211 = .ok (.ireturn, 1) := dk_172 (dk_at dksL_law_86 23 rfl rfl)
theorem dL_law_2212 : decode cL_law 2212 = .ok (.goto 803, 3) := dk_167 3 35 (dk_at dksL_law_87 0 rfl rfl)
theorem dL_law_2215 : decode cL_law 2215 = .ok (.aload_n 1, 1) := dk_43 (dk_at dksL_law_87 3 rfl rfl)
theorem dL_law_2216 : decode cL_law 2216 = .ok (.aload_n 0, 1) := dk_42 (dk_at dksL_law_87 4 rfl rfl)
theorem dL_law_2217 : decode cL_law 2217 = .ok (.iload 4, 2) := dk_21 4 (dk_at dksL_law_87 5 rfl rfl)
theorem dL_law_2219 : decode cL_law 2219 = .ok (.iconst 1, 1) := dk_4 (dk_at dksL_law_87 7 rfl rfl)
theorem dL_law_2220 : decode cL_law 2220 = .ok (.iadd, 1) := dk_96 (dk_at dksL_law_87 8 rfl rfl)
theorem dL_law_2221 : decode cL_law 2221 = .ok (.iaload, 1) := dk_46 (dk_at dksL_law_87 9 rfl rfl)
theorem dL_law_2222 : decode cL_law 2222 = .ok (.aload_n 3, 1) := dk_45 (dk_at dksL_law_87 10 rfl rfl)
theorem dL_law_2223 : decode cL_law 2223 = .ok (.invokestatic 264, 3) := dk_184 1 8 (dk_at dksL_law_87 11 rfl rfl)
theorem dL_law_2226 : decode cL_law 2226 = .ok (.istore 5, 2) := dk_54 5 (dk_at dksL_law_87 14 rfl rfl)
theorem dL_law_2228 : decode cL_law 2228 = .ok (.aload_n 2, 1) := dk_44 (dk_at dksL_law_87 16 rfl rfl)
theorem dL_law_2229 : decode cL_law 2229 = .ok (.aload_n 0, 1) := dk_42 (dk_at dksL_law_87 17 rfl rfl)
theorem dL_law_2230 : decode cL_law 2230 = .ok (.iload 4, 2) := dk_21 4 (dk_at dksL_law_87 18 rfl rfl)
theorem dL_law_2232 : decode cL_law 2232 = .ok (.iconst 1, 1) := dk_4 (dk_at dksL_law_87 20 rfl rfl)
theorem dL_law_2233 : decode cL_law 2233 = .ok (.iadd, 1) := dk_96 (dk_at dksL_law_87 21 rfl rfl)
theorem dL_law_2234 : decode cL_law 2234 = .ok (.iaload, 1) := dk_46 (dk_at dksL_law_87 22 rfl rfl)
theorem dL_law_2235 : decode cL_law 2235 = .ok (.invokevirtual 266, 3) := dk_182 1 10 (dk_at dksL_law_88 0 rfl rfl)
theorem dL_law_2238 : decode cL_law 2238 = .ok (.istore 6, 2) := dk_54 6 (dk_at dksL_law_88 3 rfl rfl)
theorem dL_law_2240 : decode cL_law 2240 = .ok (.aload_n 2, 1) := dk_44 (dk_at dksL_law_88 5 rfl rfl)
theorem dL_law_2241 : decode cL_law 2241 = .ok (.invokevirtual 156, 3) := dk_182 0 156 (dk_at dksL_law_88 6 rfl rfl)
theorem dL_law_2244 : decode cL_law 2244 = .ok (.iload 5, 2) := dk_21 5 (dk_at dksL_law_88 9 rfl rfl)
theorem dL_law_2246 : decode cL_law 2246 = .ok (.if_icmp .eq 5, 3) := dk_159 0 5 (dk_at dksL_law_88 11 rfl rfl)
theorem dL_law_2249 : decode cL_law 2249 = .ok (.iconst 0, 1) := dk_3 (dk_at dksL_law_88 14 rfl rfl)
theorem dL_law_2250 : decode cL_law 2250 = .ok (.ireturn, 1) := dk_172 (dk_at dksL_law_88 15 rfl rfl)
theorem dL_law_2251 : decode cL_law 2251 = .ok (.iload 5, 2) := dk_21 5 (dk_at dksL_law_88 16 rfl rfl)
theorem dL_law_2253 : decode cL_law 2253 = .ok (.ifCond .ne 15, 3) := dk_154 0 15 (dk_at dksL_law_88 18 rfl rfl)
theorem dL_law_2256 : decode cL_law 2256 = .ok (.aload_n 3, 1) := dk_45 (dk_at dksL_law_88 21 rfl rfl)
theorem dL_law_2257 : decode cL_law 2257 = .ok (.iconst 0, 1) := dk_3 (dk_at dksL_law_88 22 rfl rfl)
theorem dL_law_2258 : decode cL_law 2258 = .ok (.laload, 1) := dk_47 (dk_at dksL_law_88 23 rfl rfl)
theorem dL_law_2259 : decode cL_law 2259 = .ok (.iload 6, 2) := dk_21 6 (dk_at dksL_law_89 0 rfl rfl)
theorem dL_law_2261 : decode cL_law 2261 = .ok (.i2l, 1) := dk_133 (dk_at dksL_law_89 2 rfl rfl)
theorem dL_law_2262 : decode cL_law 2262 = .ok (.lcmp, 1) := dk_148 (dk_at dksL_law_89 3 rfl rfl)
theorem dL_law_2263 : decode cL_law 2263 = .ok (.ifCond .eq 5, 3) := dk_153 0 5 (dk_at dksL_law_89 4 rfl rfl)
theorem dL_law_2266 : decode cL_law 2266 = .ok (.iconst 0, 1) := dk_3 (dk_at dksL_law_89 7 rfl rfl)
theorem dL_law_2267 : decode cL_law 2267 = .ok (.ireturn, 1) := dk_172 (dk_at dksL_law_89 8 rfl rfl)
theorem dL_law_2268 : decode cL_law 2268 = .ok (.goto 747, 3) := dk_167 2 235 (dk_at dksL_law_89 9 rfl rfl)
theorem dL_law_2271 : decode cL_law 2271 = .ok (.aload_n 1, 1) := dk_43 (dk_at dksL_law_89 12 rfl rfl)
theorem dL_law_2272 : decode cL_law 2272 = .ok (.aload_n 0, 1) := dk_42 (dk_at dksL_law_89 13 rfl rfl)
theorem dL_law_2273 : decode cL_law 2273 = .ok (.iload 4, 2) := dk_21 4 (dk_at dksL_law_89 14 rfl rfl)
theorem dL_law_2275 : decode cL_law 2275 = .ok (.iconst 1, 1) := dk_4 (dk_at dksL_law_89 16 rfl rfl)
theorem dL_law_2276 : decode cL_law 2276 = .ok (.iadd, 1) := dk_96 (dk_at dksL_law_89 17 rfl rfl)
theorem dL_law_2277 : decode cL_law 2277 = .ok (.iaload, 1) := dk_46 (dk_at dksL_law_89 18 rfl rfl)
theorem dL_law_2278 : decode cL_law 2278 = .ok (.aload_n 0, 1) := dk_42 (dk_at dksL_law_89 19 rfl rfl)
theorem dL_law_2279 : decode cL_law 2279 = .ok (.iload 4, 2) := dk_21 4 (dk_at dksL_law_89 20 rfl rfl)
theorem dL_law_2281 : decode cL_law 2281 = .ok (.iconst 2, 1) := dk_5 (dk_at dksL_law_89 22 rfl rfl)
theorem dL_law_2282 : decode cL_law 2282 = .ok (.iadd, 1) := dk_96 (dk_at dksL_law_89 23 rfl rfl)
theorem dL_law_2283 : decode cL_law 2283 = .ok (.iaload, 1) := dk_46 (dk_at dksL_law_90 0 rfl rfl)
theorem dL_law_2284 : decode cL_law 2284 = .ok (.aload_n 3, 1) := dk_45 (dk_at dksL_law_90 1 rfl rfl)
theorem dL_law_2285 : decode cL_law 2285 = .ok (.invokestatic 267, 3) := dk_184 1 11 (dk_at dksL_law_90 2 rfl rfl)
theorem dL_law_2288 : decode cL_law 2288 = .ok (.istore 5, 2) := dk_54 5 (dk_at dksL_law_90 5 rfl rfl)
theorem dL_law_2290 : decode cL_law 2290 = .ok (.aload_n 2, 1) := dk_44 (dk_at dksL_law_90 7 rfl rfl)
theorem dL_law_2291 : decode cL_law 2291 = .ok (.aload_n 0, 1) := dk_42 (dk_at dksL_law_90 8 rfl rfl)
theorem dL_law_2292 : decode cL_law 2292 = .ok (.iload 4, 2) := dk_21 4 (dk_at dksL_law_90 9 rfl rfl)
theorem dL_law_2294 : decode cL_law 2294 = .ok (.iconst 1, 1) := dk_4 (dk_at dksL_law_90 11 rfl rfl)
theorem dL_law_2295 : decode cL_law 2295 = .ok (.iadd, 1) := dk_96 (dk_at dksL_law_90 12 rfl rfl)
theorem dL_law_2296 : decode cL_law 2296 = .ok (.iaload, 1) := dk_46 (dk_at dksL_law_90 13 rfl rfl)
theorem dL_law_2297 : decode cL_law 2297 = .ok (.aload_n 0, 1) := dk_42 (dk_at dksL_law_90 14 rfl rfl)
theorem dL_law_2298 : decode cL_law 2298 = .ok (.iload 4, 2) := dk_21 4 (dk_at dksL_law_90 15 rfl rfl)
theorem dL_law_2300 : decode cL_law 2300 = .ok (.iconst 2, 1) := dk_5 (dk_at dksL_law_90 17 rfl rfl)
theorem dL_law_2301 : decode cL_law 2301 = .ok (.iadd, 1) := dk_96 (dk_at dksL_law_90 18 rfl rfl)
theorem dL_law_2302 : decode cL_law 2302 = .ok (.iaload, 1) := dk_46 (dk_at dksL_law_90 19 rfl rfl)
theorem dL_law_2303 : decode cL_law 2303 = .ok (.invokevirtual 269, 3) := dk_182 1 13 (dk_at dksL_law_90 20 rfl rfl)
theorem dL_law_2306 : decode cL_law 2306 = .ok (.istore 6, 2) := dk_54 6 (dk_at dksL_law_91 0 rfl rfl)
theorem dL_law_2308 : decode cL_law 2308 = .ok (.aload_n 2, 1) := dk_44 (dk_at dksL_law_91 2 rfl rfl)
theorem dL_law_2309 : decode cL_law 2309 = .ok (.invokevirtual 156, 3) := dk_182 0 156 (dk_at dksL_law_91 3 rfl rfl)
theorem dL_law_2312 : decode cL_law 2312 = .ok (.iload 5, 2) := dk_21 5 (dk_at dksL_law_91 6 rfl rfl)
theorem dL_law_2314 : decode cL_law 2314 = .ok (.if_icmp .eq 5, 3) := dk_159 0 5 (dk_at dksL_law_91 8 rfl rfl)
theorem dL_law_2317 : decode cL_law 2317 = .ok (.iconst 0, 1) := dk_3 (dk_at dksL_law_91 11 rfl rfl)
theorem dL_law_2318 : decode cL_law 2318 = .ok (.ireturn, 1) := dk_172 (dk_at dksL_law_91 12 rfl rfl)
theorem dL_law_2319 : decode cL_law 2319 = .ok (.iload 5, 2) := dk_21 5 (dk_at dksL_law_91 13 rfl rfl)
theorem dL_law_2321 : decode cL_law 2321 = .ok (.ifCond .ne 15, 3) := dk_154 0 15 (dk_at dksL_law_91 15 rfl rfl)
theorem dL_law_2324 : decode cL_law 2324 = .ok (.aload_n 3, 1) := dk_45 (dk_at dksL_law_91 18 rfl rfl)
theorem dL_law_2325 : decode cL_law 2325 = .ok (.iconst 0, 1) := dk_3 (dk_at dksL_law_91 19 rfl rfl)
theorem dL_law_2326 : decode cL_law 2326 = .ok (.laload, 1) := dk_47 (dk_at dksL_law_91 20 rfl rfl)
theorem dL_law_2327 : decode cL_law 2327 = .ok (.iload 6, 2) := dk_21 6 (dk_at dksL_law_91 21 rfl rfl)
theorem dL_law_2329 : decode cL_law 2329 = .ok (.i2l, 1) := dk_133 (dk_at dksL_law_91 23 rfl rfl)
theorem dL_law_2330 : decode cL_law 2330 = .ok (.lcmp, 1) := dk_148 (dk_at dksL_law_92 0 rfl rfl)
theorem dL_law_2331 : decode cL_law 2331 = .ok (.ifCond .eq 5, 3) := dk_153 0 5 (dk_at dksL_law_92 1 rfl rfl)
theorem dL_law_2334 : decode cL_law 2334 = .ok (.iconst 0, 1) := dk_3 (dk_at dksL_law_92 4 rfl rfl)
theorem dL_law_2335 : decode cL_law 2335 = .ok (.ireturn, 1) := dk_172 (dk_at dksL_law_92 5 rfl rfl)
theorem dL_law_2336 : decode cL_law 2336 = .ok (.goto 679, 3) := dk_167 2 167 (dk_at dksL_law_92 6 rfl rfl)
theorem dL_law_2339 : decode cL_law 2339 = .ok (.aload_n 1, 1) := dk_43 (dk_at dksL_law_92 9 rfl rfl)
theorem dL_law_2340 : decode cL_law 2340 = .ok (.aload_n 0, 1) := dk_42 (dk_at dksL_law_92 10 rfl rfl)
theorem dL_law_2341 : decode cL_law 2341 = .ok (.iload 4, 2) := dk_21 4 (dk_at dksL_law_92 11 rfl rfl)
theorem dL_law_2343 : decode cL_law 2343 = .ok (.iconst 1, 1) := dk_4 (dk_at dksL_law_92 13 rfl rfl)
theorem dL_law_2344 : decode cL_law 2344 = .ok (.iadd, 1) := dk_96 (dk_at dksL_law_92 14 rfl rfl)
theorem dL_law_2345 : decode cL_law 2345 = .ok (.iaload, 1) := dk_46 (dk_at dksL_law_92 15 rfl rfl)
theorem dL_law_2346 : decode cL_law 2346 = .ok (.aload_n 3, 1) := dk_45 (dk_at dksL_law_92 16 rfl rfl)
theorem dL_law_2347 : decode cL_law 2347 = .ok (.invokestatic 270, 3) := dk_184 1 14 (dk_at dksL_law_92 17 rfl rfl)
theorem dL_law_2350 : decode cL_law 2350 = .ok (.istore 5, 2) := dk_54 5 (dk_at dksL_law_92 20 rfl rfl)
theorem dL_law_2352 : decode cL_law 2352 = .ok (.aload_n 2, 1) := dk_44 (dk_at dksL_law_92 22 rfl rfl)
theorem dL_law_2353 : decode cL_law 2353 = .ok (.aload_n 0, 1) := dk_42 (dk_at dksL_law_92 23 rfl rfl)
theorem dL_law_2354 : decode cL_law 2354 = .ok (.iload 4, 2) := dk_21 4 (dk_at dksL_law_93 0 rfl rfl)
theorem dL_law_2356 : decode cL_law 2356 = .ok (.iconst 1, 1) := dk_4 (dk_at dksL_law_93 2 rfl rfl)
theorem dL_law_2357 : decode cL_law 2357 = .ok (.iadd, 1) := dk_96 (dk_at dksL_law_93 3 rfl rfl)
theorem dL_law_2358 : decode cL_law 2358 = .ok (.iaload, 1) := dk_46 (dk_at dksL_law_93 4 rfl rfl)
theorem dL_law_2359 : decode cL_law 2359 = .ok (.invokevirtual 272, 3) := dk_182 1 16 (dk_at dksL_law_93 5 rfl rfl)
theorem dL_law_2362 : decode cL_law 2362 = .ok (.istore 6, 2) := dk_54 6 (dk_at dksL_law_93 8 rfl rfl)
theorem dL_law_2364 : decode cL_law 2364 = .ok (.aload_n 2, 1) := dk_44 (dk_at dksL_law_93 10 rfl rfl)
theorem dL_law_2365 : decode cL_law 2365 = .ok (.invokevirtual 156, 3) := dk_182 0 156 (dk_at dksL_law_93 11 rfl rfl)
theorem dL_law_2368 : decode cL_law 2368 = .ok (.iload 5, 2) := dk_21 5 (dk_at dksL_law_93 14 rfl rfl)
theorem dL_law_2370 : decode cL_law 2370 = .ok (.if_icmp .eq 5, 3) := dk_159 0 5 (dk_at dksL_law_93 16 rfl rfl)
theorem dL_law_2373 : decode cL_law 2373 = .ok (.iconst 0, 1) := dk_3 (dk_at dksL_law_93 19 rfl rfl)
theorem dL_law_2374 : decode cL_law 2374 = .ok (.ireturn, 1) := dk_172 (dk_at dksL_law_93 20 rfl rfl)
theorem dL_law_2375 : decode cL_law 2375 = .ok (.iload 5, 2) := dk_21 5 (dk_at dksL_law_93 21 rfl rfl)
theorem dL_law_2377 : decode cL_law 2377 = .ok (.ifCond .ne 15, 3) := dk_154 0 15 (dk_at dksL_law_94 0 rfl rfl)
theorem dL_law_2380 : decode cL_law 2380 = .ok (.aload_n 3, 1) := dk_45 (dk_at dksL_law_94 3 rfl rfl)
theorem dL_law_2381 : decode cL_law 2381 = .ok (.iconst 0, 1) := dk_3 (dk_at dksL_law_94 4 rfl rfl)
theorem dL_law_2382 : decode cL_law 2382 = .ok (.laload, 1) := dk_47 (dk_at dksL_law_94 5 rfl rfl)
theorem dL_law_2383 : decode cL_law 2383 = .ok (.iload 6, 2) := dk_21 6 (dk_at dksL_law_94 6 rfl rfl)
theorem dL_law_2385 : decode cL_law 2385 = .ok (.i2l, 1) := dk_133 (dk_at dksL_law_94 8 rfl rfl)
theorem dL_law_2386 : decode cL_law 2386 = .ok (.lcmp, 1) := dk_148 (dk_at dksL_law_94 9 rfl rfl)
theorem dL_law_2387 : decode cL_law 2387 = .ok (.ifCond .eq 5, 3) := dk_153 0 5 (dk_at dksL_law_94 10 rfl rfl)
theorem dL_law_2390 : decode cL_law 2390 = .ok (.iconst 0, 1) := dk_3 (dk_at dksL_law_94 13 rfl rfl)
theorem dL_law_2391 : decode cL_law 2391 = .ok (.ireturn, 1) := dk_172 (dk_at dksL_law_94 14 rfl rfl)
theorem dL_law_2392 : decode cL_law 2392 = .ok (.goto 623, 3) := dk_167 2 111 (dk_at dksL_law_94 15 rfl rfl)
theorem dL_law_2395 : decode cL_law 2395 = .ok (.aload_n 1, 1) := dk_43 (dk_at dksL_law_94 18 rfl rfl)
theorem dL_law_2396 : decode cL_law 2396 = .ok (.aload_n 0, 1) := dk_42 (dk_at dksL_law_94 19 rfl rfl)
theorem dL_law_2397 : decode cL_law 2397 = .ok (.iload 4, 2) := dk_21 4 (dk_at dksL_law_94 20 rfl rfl)
theorem dL_law_2399 : decode cL_law 2399 = .ok (.iconst 1, 1) := dk_4 (dk_at dksL_law_94 22 rfl rfl)
theorem dL_law_2400 : decode cL_law 2400 = .ok (.iadd, 1) := dk_96 (dk_at dksL_law_94 23 rfl rfl)
theorem dL_law_2401 : decode cL_law 2401 = .ok (.iaload, 1) := dk_46 (dk_at dksL_law_95 0 rfl rfl)
theorem dL_law_2402 : decode cL_law 2402 = .ok (.aload_n 3, 1) := dk_45 (dk_at dksL_law_95 1 rfl rfl)
theorem dL_law_2403 : decode cL_law 2403 = .ok (.invokestatic 273, 3) := dk_184 1 17 (dk_at dksL_law_95 2 rfl rfl)
theorem dL_law_2406 : decode cL_law 2406 = .ok (.istore 5, 2) := dk_54 5 (dk_at dksL_law_95 5 rfl rfl)
theorem dL_law_2408 : decode cL_law 2408 = .ok (.aload_n 2, 1) := dk_44 (dk_at dksL_law_95 7 rfl rfl)
theorem dL_law_2409 : decode cL_law 2409 = .ok (.aload_n 0, 1) := dk_42 (dk_at dksL_law_95 8 rfl rfl)
theorem dL_law_2410 : decode cL_law 2410 = .ok (.iload 4, 2) := dk_21 4 (dk_at dksL_law_95 9 rfl rfl)
theorem dL_law_2412 : decode cL_law 2412 = .ok (.iconst 1, 1) := dk_4 (dk_at dksL_law_95 11 rfl rfl)
theorem dL_law_2413 : decode cL_law 2413 = .ok (.iadd, 1) := dk_96 (dk_at dksL_law_95 12 rfl rfl)
theorem dL_law_2414 : decode cL_law 2414 = .ok (.iaload, 1) := dk_46 (dk_at dksL_law_95 13 rfl rfl)
theorem dL_law_2415 : decode cL_law 2415 = .ok (.invokevirtual 275, 3) := dk_182 1 19 (dk_at dksL_law_95 14 rfl rfl)
theorem dL_law_2418 : decode cL_law 2418 = .ok (.istore 6, 2) := dk_54 6 (dk_at dksL_law_95 17 rfl rfl)
theorem dL_law_2420 : decode cL_law 2420 = .ok (.aload_n 2, 1) := dk_44 (dk_at dksL_law_95 19 rfl rfl)
theorem dL_law_2421 : decode cL_law 2421 = .ok (.invokevirtual 156, 3) := dk_182 0 156 (dk_at dksL_law_95 20 rfl rfl)
theorem dL_law_2424 : decode cL_law 2424 = .ok (.iload 5, 2) := dk_21 5 (dk_at dksL_law_96 0 rfl rfl)
theorem dL_law_2426 : decode cL_law 2426 = .ok (.if_icmp .eq 5, 3) := dk_159 0 5 (dk_at dksL_law_96 2 rfl rfl)
theorem dL_law_2429 : decode cL_law 2429 = .ok (.iconst 0, 1) := dk_3 (dk_at dksL_law_96 5 rfl rfl)
theorem dL_law_2430 : decode cL_law 2430 = .ok (.ireturn, 1) := dk_172 (dk_at dksL_law_96 6 rfl rfl)
theorem dL_law_2431 : decode cL_law 2431 = .ok (.iload 5, 2) := dk_21 5 (dk_at dksL_law_96 7 rfl rfl)
theorem dL_law_2433 : decode cL_law 2433 = .ok (.ifCond .ne 15, 3) := dk_154 0 15 (dk_at dksL_law_96 9 rfl rfl)
theorem dL_law_2436 : decode cL_law 2436 = .ok (.aload_n 3, 1) := dk_45 (dk_at dksL_law_96 12 rfl rfl)
theorem dL_law_2437 : decode cL_law 2437 = .ok (.iconst 0, 1) := dk_3 (dk_at dksL_law_96 13 rfl rfl)
theorem dL_law_2438 : decode cL_law 2438 = .ok (.laload, 1) := dk_47 (dk_at dksL_law_96 14 rfl rfl)
theorem dL_law_2439 : decode cL_law 2439 = .ok (.iload 6, 2) := dk_21 6 (dk_at dksL_law_96 15 rfl rfl)
theorem dL_law_2441 : decode cL_law 2441 = .ok (.i2l, 1) := dk_133 (dk_at dksL_law_96 17 rfl rfl)
theorem dL_law_2442 : decode cL_law 2442 = .ok (.lcmp, 1) := dk_148 (dk_at dksL_law_96 18 rfl rfl)
theorem dL_law_2443 : decode cL_law 2443 = .ok (.ifCond .eq 5, 3) := dk_153 0 5 (dk_at dksL_law_96 19 rfl rfl)
theorem dL_law_2446 : decode cL_law 2446 = .ok (.iconst 0, 1) := dk_3 (dk_at dksL_law_96 22 rfl rfl)
theorem dL_law_2447 : decode cL_law 2447 = .ok (.ireturn, 1) := dk_172 (dk_at dksL_law_96 23 rfl rfl)
theorem dL_law_2448 : decode cL_law 2448 = .ok (.goto 567, 3) := dk_167 2 55 (dk_at dksL_law_97 0 rfl rfl)
theorem dL_law_2451 : decode cL_law 2451 = .ok (.aload_n 1, 1) := dk_43 (dk_at dksL_law_97 3 rfl rfl)
theorem dL_law_2452 : decode cL_law 2452 = .ok (.aload_n 0, 1) := dk_42 (dk_at dksL_law_97 4 rfl rfl)
theorem dL_law_2453 : decode cL_law 2453 = .ok (.iload 4, 2) := dk_21 4 (dk_at dksL_law_97 5 rfl rfl)
theorem dL_law_2455 : decode cL_law 2455 = .ok (.iconst 1, 1) := dk_4 (dk_at dksL_law_97 7 rfl rfl)
theorem dL_law_2456 : decode cL_law 2456 = .ok (.iadd, 1) := dk_96 (dk_at dksL_law_97 8 rfl rfl)
theorem dL_law_2457 : decode cL_law 2457 = .ok (.iaload, 1) := dk_46 (dk_at dksL_law_97 9 rfl rfl)
theorem dL_law_2458 : decode cL_law 2458 = .ok (.aload_n 3, 1) := dk_45 (dk_at dksL_law_97 10 rfl rfl)
theorem dL_law_2459 : decode cL_law 2459 = .ok (.invokestatic 276, 3) := dk_184 1 20 (dk_at dksL_law_97 11 rfl rfl)
theorem dL_law_2462 : decode cL_law 2462 = .ok (.istore 5, 2) := dk_54 5 (dk_at dksL_law_97 14 rfl rfl)
theorem dL_law_2464 : decode cL_law 2464 = .ok (.aload_n 2, 1) := dk_44 (dk_at dksL_law_97 16 rfl rfl)
theorem dL_law_2465 : decode cL_law 2465 = .ok (.aload_n 0, 1) := dk_42 (dk_at dksL_law_97 17 rfl rfl)
theorem dL_law_2466 : decode cL_law 2466 = .ok (.iload 4, 2) := dk_21 4 (dk_at dksL_law_97 18 rfl rfl)
theorem dL_law_2468 : decode cL_law 2468 = .ok (.iconst 1, 1) := dk_4 (dk_at dksL_law_97 20 rfl rfl)
theorem dL_law_2469 : decode cL_law 2469 = .ok (.iadd, 1) := dk_96 (dk_at dksL_law_97 21 rfl rfl)
theorem dL_law_2470 : decode cL_law 2470 = .ok (.iaload, 1) := dk_46 (dk_at dksL_law_97 22 rfl rfl)
theorem dL_law_2471 : decode cL_law 2471 = .ok (.invokevirtual 278, 3) := dk_182 1 22 (dk_at dksL_law_98 0 rfl rfl)
theorem dL_law_2474 : decode cL_law 2474 = .ok (.istore 6, 2) := dk_54 6 (dk_at dksL_law_98 3 rfl rfl)
theorem dL_law_2476 : decode cL_law 2476 = .ok (.aload_n 2, 1) := dk_44 (dk_at dksL_law_98 5 rfl rfl)
theorem dL_law_2477 : decode cL_law 2477 = .ok (.invokevirtual 156, 3) := dk_182 0 156 (dk_at dksL_law_98 6 rfl rfl)
theorem dL_law_2480 : decode cL_law 2480 = .ok (.iload 5, 2) := dk_21 5 (dk_at dksL_law_98 9 rfl rfl)
theorem dL_law_2482 : decode cL_law 2482 = .ok (.if_icmp .eq 5, 3) := dk_159 0 5 (dk_at dksL_law_98 11 rfl rfl)
theorem dL_law_2485 : decode cL_law 2485 = .ok (.iconst 0, 1) := dk_3 (dk_at dksL_law_98 14 rfl rfl)
theorem dL_law_2486 : decode cL_law 2486 = .ok (.ireturn, 1) := dk_172 (dk_at dksL_law_98 15 rfl rfl)
theorem dL_law_2487 : decode cL_law 2487 = .ok (.iload 5, 2) := dk_21 5 (dk_at dksL_law_98 16 rfl rfl)
theorem dL_law_2489 : decode cL_law 2489 = .ok (.ifCond .ne 15, 3) := dk_154 0 15 (dk_at dksL_law_98 18 rfl rfl)
theorem dL_law_2492 : decode cL_law 2492 = .ok (.aload_n 3, 1) := dk_45 (dk_at dksL_law_98 21 rfl rfl)
theorem dL_law_2493 : decode cL_law 2493 = .ok (.iconst 0, 1) := dk_3 (dk_at dksL_law_98 22 rfl rfl)
theorem dL_law_2494 : decode cL_law 2494 = .ok (.laload, 1) := dk_47 (dk_at dksL_law_98 23 rfl rfl)
theorem dL_law_2495 : decode cL_law 2495 = .ok (.iload 6, 2) := dk_21 6 (dk_at dksL_law_99 0 rfl rfl)
theorem dL_law_2497 : decode cL_law 2497 = .ok (.i2l, 1) := dk_133 (dk_at dksL_law_99 2 rfl rfl)
theorem dL_law_2498 : decode cL_law 2498 = .ok (.lcmp, 1) := dk_148 (dk_at dksL_law_99 3 rfl rfl)
theorem dL_law_2499 : decode cL_law 2499 = .ok (.ifCond .eq 5, 3) := dk_153 0 5 (dk_at dksL_law_99 4 rfl rfl)
theorem dL_law_2502 : decode cL_law 2502 = .ok (.iconst 0, 1) := dk_3 (dk_at dksL_law_99 7 rfl rfl)
theorem dL_law_2503 : decode cL_law 2503 = .ok (.ireturn, 1) := dk_172 (dk_at dksL_law_99 8 rfl rfl)
theorem dL_law_2504 : decode cL_law 2504 = .ok (.goto 511, 3) := dk_167 1 255 (dk_at dksL_law_99 9 rfl rfl)
theorem dL_law_2507 : decode cL_law 2507 = .ok (.aload_n 1, 1) := dk_43 (dk_at dksL_law_99 12 rfl rfl)
theorem dL_law_2508 : decode cL_law 2508 = .ok (.aload_n 0, 1) := dk_42 (dk_at dksL_law_99 13 rfl rfl)
theorem dL_law_2509 : decode cL_law 2509 = .ok (.iload 4, 2) := dk_21 4 (dk_at dksL_law_99 14 rfl rfl)
theorem dL_law_2511 : decode cL_law 2511 = .ok (.iconst 1, 1) := dk_4 (dk_at dksL_law_99 16 rfl rfl)
theorem dL_law_2512 : decode cL_law 2512 = .ok (.iadd, 1) := dk_96 (dk_at dksL_law_99 17 rfl rfl)
theorem dL_law_2513 : decode cL_law 2513 = .ok (.iaload, 1) := dk_46 (dk_at dksL_law_99 18 rfl rfl)
theorem dL_law_2514 : decode cL_law 2514 = .ok (.aload_n 3, 1) := dk_45 (dk_at dksL_law_99 19 rfl rfl)
theorem dL_law_2515 : decode cL_law 2515 = .ok (.invokestatic 279, 3) := dk_184 1 23 (dk_at dksL_law_99 20 rfl rfl)
theorem dL_law_2518 : decode cL_law 2518 = .ok (.istore 5, 2) := dk_54 5 (dk_at dksL_law_100 0 rfl rfl)
theorem dL_law_2520 : decode cL_law 2520 = .ok (.aload_n 2, 1) := dk_44 (dk_at dksL_law_100 2 rfl rfl)
theorem dL_law_2521 : decode cL_law 2521 = .ok (.aload_n 0, 1) := dk_42 (dk_at dksL_law_100 3 rfl rfl)
theorem dL_law_2522 : decode cL_law 2522 = .ok (.iload 4, 2) := dk_21 4 (dk_at dksL_law_100 4 rfl rfl)
theorem dL_law_2524 : decode cL_law 2524 = .ok (.iconst 1, 1) := dk_4 (dk_at dksL_law_100 6 rfl rfl)
theorem dL_law_2525 : decode cL_law 2525 = .ok (.iadd, 1) := dk_96 (dk_at dksL_law_100 7 rfl rfl)
theorem dL_law_2526 : decode cL_law 2526 = .ok (.iaload, 1) := dk_46 (dk_at dksL_law_100 8 rfl rfl)
theorem dL_law_2527 : decode cL_law 2527 = .ok (.invokevirtual 281, 3) := dk_182 1 25 (dk_at dksL_law_100 9 rfl rfl)
theorem dL_law_2530 : decode cL_law 2530 = .ok (.istore 6, 2) := dk_54 6 (dk_at dksL_law_100 12 rfl rfl)
theorem dL_law_2532 : decode cL_law 2532 = .ok (.aload_n 2, 1) := dk_44 (dk_at dksL_law_100 14 rfl rfl)
theorem dL_law_2533 : decode cL_law 2533 = .ok (.invokevirtual 156, 3) := dk_182 0 156 (dk_at dksL_law_100 15 rfl rfl)
theorem dL_law_2536 : decode cL_law 2536 = .ok (.iload 5, 2) := dk_21 5 (dk_at dksL_law_100 18 rfl rfl)
theorem dL_law_2538 : decode cL_law 2538 = .ok (.if_icmp .eq 5, 3) := dk_159 0 5 (dk_at dksL_law_100 20 rfl rfl)
theorem dL_law_2541 : decode cL_law 2541 = .ok (.iconst 0, 1) := dk_3 (dk_at dksL_law_100 23 rfl rfl)
theorem dL_law_2542 : decode cL_law 2542 = .ok (.ireturn, 1) := dk_172 (dk_at dksL_law_101 0 rfl rfl)
theorem dL_law_2543 : decode cL_law 2543 = .ok (.iload 5, 2) := dk_21 5 (dk_at dksL_law_101 1 rfl rfl)
theorem dL_law_2545 : decode cL_law 2545 = .ok (.ifCond .ne 15, 3) := dk_154 0 15 (dk_at dksL_law_101 3 rfl rfl)
theorem dL_law_2548 : decode cL_law 2548 = .ok (.aload_n 3, 1) := dk_45 (dk_at dksL_law_101 6 rfl rfl)
theorem dL_law_2549 : decode cL_law 2549 = .ok (.iconst 0, 1) := dk_3 (dk_at dksL_law_101 7 rfl rfl)
theorem dL_law_2550 : decode cL_law 2550 = .ok (.laload, 1) := dk_47 (dk_at dksL_law_101 8 rfl rfl)
theorem dL_law_2551 : decode cL_law 2551 = .ok (.iload 6, 2) := dk_21 6 (dk_at dksL_law_101 9 rfl rfl)
theorem dL_law_2553 : decode cL_law 2553 = .ok (.i2l, 1) := dk_133 (dk_at dksL_law_101 11 rfl rfl)
theorem dL_law_2554 : decode cL_law 2554 = .ok (.lcmp, 1) := dk_148 (dk_at dksL_law_101 12 rfl rfl)
theorem dL_law_2555 : decode cL_law 2555 = .ok (.ifCond .eq 5, 3) := dk_153 0 5 (dk_at dksL_law_101 13 rfl rfl)
theorem dL_law_2558 : decode cL_law 2558 = .ok (.iconst 0, 1) := dk_3 (dk_at dksL_law_101 16 rfl rfl)
theorem dL_law_2559 : decode cL_law 2559 = .ok (.ireturn, 1) := dk_172 (dk_at dksL_law_101 17 rfl rfl)
theorem dL_law_2560 : decode cL_law 2560 = .ok (.goto 455, 3) := dk_167 1 199 (dk_at dksL_law_101 18 rfl rfl)
theorem dL_law_2563 : decode cL_law 2563 = .ok (.aload_n 1, 1) := dk_43 (dk_at dksL_law_101 21 rfl rfl)
theorem dL_law_2564 : decode cL_law 2564 = .ok (.aload_n 0, 1) := dk_42 (dk_at dksL_law_101 22 rfl rfl)
theorem dL_law_2565 : decode cL_law 2565 = .ok (.iload 4, 2) := dk_21 4 (dk_at dksL_law_102 0 rfl rfl)
theorem dL_law_2567 : decode cL_law 2567 = .ok (.iconst 1, 1) := dk_4 (dk_at dksL_law_102 2 rfl rfl)
theorem dL_law_2568 : decode cL_law 2568 = .ok (.iadd, 1) := dk_96 (dk_at dksL_law_102 3 rfl rfl)
theorem dL_law_2569 : decode cL_law 2569 = .ok (.iaload, 1) := dk_46 (dk_at dksL_law_102 4 rfl rfl)
theorem dL_law_2570 : decode cL_law 2570 = .ok (.aload_n 3, 1) := dk_45 (dk_at dksL_law_102 5 rfl rfl)
theorem dL_law_2571 : decode cL_law 2571 = .ok (.invokestatic 282, 3) := dk_184 1 26 (dk_at dksL_law_102 6 rfl rfl)
theorem dL_law_2574 : decode cL_law 2574 = .ok (.istore 5, 2) := dk_54 5 (dk_at dksL_law_102 9 rfl rfl)
theorem dL_law_2576 : decode cL_law 2576 = .ok (.aload_n 2, 1) := dk_44 (dk_at dksL_law_102 11 rfl rfl)
theorem dL_law_2577 : decode cL_law 2577 = .ok (.aload_n 0, 1) := dk_42 (dk_at dksL_law_102 12 rfl rfl)
theorem dL_law_2578 : decode cL_law 2578 = .ok (.iload 4, 2) := dk_21 4 (dk_at dksL_law_102 13 rfl rfl)
theorem dL_law_2580 : decode cL_law 2580 = .ok (.iconst 1, 1) := dk_4 (dk_at dksL_law_102 15 rfl rfl)
theorem dL_law_2581 : decode cL_law 2581 = .ok (.iadd, 1) := dk_96 (dk_at dksL_law_102 16 rfl rfl)
theorem dL_law_2582 : decode cL_law 2582 = .ok (.iaload, 1) := dk_46 (dk_at dksL_law_102 17 rfl rfl)
theorem dL_law_2583 : decode cL_law 2583 = .ok (.invokevirtual 284, 3) := dk_182 1 28 (dk_at dksL_law_102 18 rfl rfl)
theorem dL_law_2586 : decode cL_law 2586 = .ok (.istore 6, 2) := dk_54 6 (dk_at dksL_law_102 21 rfl rfl)
theorem dL_law_2588 : decode cL_law 2588 = .ok (.aload_n 2, 1) := dk_44 (dk_at dksL_law_102 23 rfl rfl)
theorem dL_law_2589 : decode cL_law 2589 = .ok (.invokevirtual 156, 3) := dk_182 0 156 (dk_at dksL_law_103 0 rfl rfl)
theorem dL_law_2592 : decode cL_law 2592 = .ok (.iload 5, 2) := dk_21 5 (dk_at dksL_law_103 3 rfl rfl)
theorem dL_law_2594 : decode cL_law 2594 = .ok (.if_icmp .eq 5, 3) := dk_159 0 5 (dk_at dksL_law_103 5 rfl rfl)
theorem dL_law_2597 : decode cL_law 2597 = .ok (.iconst 0, 1) := dk_3 (dk_at dksL_law_103 8 rfl rfl)
theorem dL_law_2598 : decode cL_law 2598 = .ok (.ireturn, 1) := dk_172 (dk_at dksL_law_103 9 rfl rfl)
theorem dL_law_2599 : decode cL_law 2599 = .ok (.iload 5, 2) := dk_21 5 (dk_at dksL_law_103 10 rfl rfl)
theorem dL_law_2601 : decode cL_law 2601 = .ok (.ifCond .ne 15, 3) := dk_154 0 15 (dk_at dksL_law_103 12 rfl rfl)
theorem dL_law_2604 : decode cL_law 2604 = .ok (.aload_n 3, 1) := dk_45 (dk_at dksL_law_103 15 rfl rfl)
theorem dL_law_2605 : decode cL_law 2605 = .ok (.iconst 0, 1) := dk_3 (dk_at dksL_law_103 16 rfl rfl)
theorem dL_law_2606 : decode cL_law 2606 = .ok (.laload, 1) := dk_47 (dk_at dksL_law_103 17 rfl rfl)
theorem dL_law_2607 : decode cL_law 2607 = .ok (.iload 6, 2) := dk_21 6 (dk_at dksL_law_103 18 rfl rfl)
theorem dL_law_2609 : decode cL_law 2609 = .ok (.i2l, 1) := dk_133 (dk_at dksL_law_103 20 rfl rfl)
theorem dL_law_2610 : decode cL_law 2610 = .ok (.lcmp, 1) := dk_148 (dk_at dksL_law_103 21 rfl rfl)
theorem dL_law_2611 : decode cL_law 2611 = .ok (.ifCond .eq 5, 3) := dk_153 0 5 (dk_at dksL_law_104 0 rfl rfl)
theorem dL_law_2614 : decode cL_law 2614 = .ok (.iconst 0, 1) := dk_3 (dk_at dksL_law_104 3 rfl rfl)
theorem dL_law_2615 : decode cL_law 2615 = .ok (.ireturn, 1) := dk_172 (dk_at dksL_law_104 4 rfl rfl)
theorem dL_law_2616 : decode cL_law 2616 = .ok (.goto 399, 3) := dk_167 1 143 (dk_at dksL_law_104 5 rfl rfl)
theorem dL_law_2619 : decode cL_law 2619 = .ok (.aload_n 1, 1) := dk_43 (dk_at dksL_law_104 8 rfl rfl)
theorem dL_law_2620 : decode cL_law 2620 = .ok (.aload_n 0, 1) := dk_42 (dk_at dksL_law_104 9 rfl rfl)
theorem dL_law_2621 : decode cL_law 2621 = .ok (.iload 4, 2) := dk_21 4 (dk_at dksL_law_104 10 rfl rfl)
theorem dL_law_2623 : decode cL_law 2623 = .ok (.iconst 1, 1) := dk_4 (dk_at dksL_law_104 12 rfl rfl)
theorem dL_law_2624 : decode cL_law 2624 = .ok (.iadd, 1) := dk_96 (dk_at dksL_law_104 13 rfl rfl)
theorem dL_law_2625 : decode cL_law 2625 = .ok (.iaload, 1) := dk_46 (dk_at dksL_law_104 14 rfl rfl)
theorem dL_law_2626 : decode cL_law 2626 = .ok (.aload_n 0, 1) := dk_42 (dk_at dksL_law_104 15 rfl rfl)
theorem dL_law_2627 : decode cL_law 2627 = .ok (.iload 4, 2) := dk_21 4 (dk_at dksL_law_104 16 rfl rfl)
theorem dL_law_2629 : decode cL_law 2629 = .ok (.iconst 2, 1) := dk_5 (dk_at dksL_law_104 18 rfl rfl)
theorem dL_law_2630 : decode cL_law 2630 = .ok (.iadd, 1) := dk_96 (dk_at dksL_law_104 19 rfl rfl)
theorem dL_law_2631 : decode cL_law 2631 = .ok (.iaload, 1) := dk_46 (dk_at dksL_law_104 20 rfl rfl)
theorem dL_law_2632 : decode cL_law 2632 = .ok (.aload_n 0, 1) := dk_42 (dk_at dksL_law_104 21 rfl rfl)
theorem dL_law_2633 : decode cL_law 2633 = .ok (.iload 4, 2) := dk_21 4 (dk_at dksL_law_104 22 rfl rfl)
theorem dL_law_2635 : decode cL_law 2635 = .ok (.iconst 3, 1) := dk_6 (dk_at dksL_law_105 0 rfl rfl)
theorem dL_law_2636 : decode cL_law 2636 = .ok (.iadd, 1) := dk_96 (dk_at dksL_law_105 1 rfl rfl)
theorem dL_law_2637 : decode cL_law 2637 = .ok (.iaload, 1) := dk_46 (dk_at dksL_law_105 2 rfl rfl)
theorem dL_law_2638 : decode cL_law 2638 = .ok (.aload_n 3, 1) := dk_45 (dk_at dksL_law_105 3 rfl rfl)
theorem dL_law_2639 : decode cL_law 2639 = .ok (.invokestatic 285, 3) := dk_184 1 29 (dk_at dksL_law_105 4 rfl rfl)
theorem dL_law_2642 : decode cL_law 2642 = .ok (.istore 5, 2) := dk_54 5 (dk_at dksL_law_105 7 rfl rfl)
theorem dL_law_2644 : decode cL_law 2644 = .ok (.aload_n 2, 1) := dk_44 (dk_at dksL_law_105 9 rfl rfl)
theorem dL_law_2645 : decode cL_law 2645 = .ok (.aload_n 0, 1) := dk_42 (dk_at dksL_law_105 10 rfl rfl)
theorem dL_law_2646 : decode cL_law 2646 = .ok (.iload 4, 2) := dk_21 4 (dk_at dksL_law_105 11 rfl rfl)
theorem dL_law_2648 : decode cL_law 2648 = .ok (.iconst 1, 1) := dk_4 (dk_at dksL_law_105 13 rfl rfl)
theorem dL_law_2649 : decode cL_law 2649 = .ok (.iadd, 1) := dk_96 (dk_at dksL_law_105 14 rfl rfl)
theorem dL_law_2650 : decode cL_law 2650 = .ok (.iaload, 1) := dk_46 (dk_at dksL_law_105 15 rfl rfl)
theorem dL_law_2651 : decode cL_law 2651 = .ok (.aload_n 0, 1) := dk_42 (dk_at dksL_law_105 16 rfl rfl)
theorem dL_law_2652 : decode cL_law 2652 = .ok (.iload 4, 2) := dk_21 4 (dk_at dksL_law_105 17 rfl rfl)
theorem dL_law_2654 : decode cL_law 2654 = .ok (.iconst 2, 1) := dk_5 (dk_at dksL_law_105 19 rfl rfl)
theorem dL_law_2655 : decode cL_law 2655 = .ok (.iadd, 1) := dk_96 (dk_at dksL_law_105 20 rfl rfl)
theorem dL_law_2656 : decode cL_law 2656 = .ok (.iaload, 1) := dk_46 (dk_at dksL_law_105 21 rfl rfl)
theorem dL_law_2657 : decode cL_law 2657 = .ok (.aload_n 0, 1) := dk_42 (dk_at dksL_law_105 22 rfl rfl)
theorem dL_law_2658 : decode cL_law 2658 = .ok (.iload 4, 2) := dk_21 4 (dk_at dksL_law_106 0 rfl rfl)
theorem dL_law_2660 : decode cL_law 2660 = .ok (.iconst 3, 1) := dk_6 (dk_at dksL_law_106 2 rfl rfl)
theorem dL_law_2661 : decode cL_law 2661 = .ok (.iadd, 1) := dk_96 (dk_at dksL_law_106 3 rfl rfl)
theorem dL_law_2662 : decode cL_law 2662 = .ok (.iaload, 1) := dk_46 (dk_at dksL_law_106 4 rfl rfl)
theorem dL_law_2663 : decode cL_law 2663 = .ok (.invokevirtual 287, 3) := dk_182 1 31 (dk_at dksL_law_106 5 rfl rfl)
theorem dL_law_2666 : decode cL_law 2666 = .ok (.istore 6, 2) := dk_54 6 (dk_at dksL_law_106 8 rfl rfl)
theorem dL_law_2668 : decode cL_law 2668 = .ok (.aload_n 2, 1) := dk_44 (dk_at dksL_law_106 10 rfl rfl)
theorem dL_law_2669 : decode cL_law 2669 = .ok (.invokevirtual 156, 3) := dk_182 0 156 (dk_at dksL_law_106 11 rfl rfl)
theorem dL_law_2672 : decode cL_law 2672 = .ok (.iload 5, 2) := dk_21 5 (dk_at dksL_law_106 14 rfl rfl)
theorem dL_law_2674 : decode cL_law 2674 = .ok (.if_icmp .eq 5, 3) := dk_159 0 5 (dk_at dksL_law_106 16 rfl rfl)
theorem dL_law_2677 : decode cL_law 2677 = .ok (.iconst 0, 1) := dk_3 (dk_at dksL_law_106 19 rfl rfl)
theorem dL_law_2678 : decode cL_law 2678 = .ok (.ireturn, 1) := dk_172 (dk_at dksL_law_106 20 rfl rfl)
theorem dL_law_2679 : decode cL_law 2679 = .ok (.iload 5, 2) := dk_21 5 (dk_at dksL_law_106 21 rfl rfl)
theorem dL_law_2681 : decode cL_law 2681 = .ok (.ifCond .ne 15, 3) := dk_154 0 15 (dk_at dksL_law_107 0 rfl rfl)
theorem dL_law_2684 : decode cL_law 2684 = .ok (.aload_n 3, 1) := dk_45 (dk_at dksL_law_107 3 rfl rfl)
theorem dL_law_2685 : decode cL_law 2685 = .ok (.iconst 0, 1) := dk_3 (dk_at dksL_law_107 4 rfl rfl)
theorem dL_law_2686 : decode cL_law 2686 = .ok (.laload, 1) := dk_47 (dk_at dksL_law_107 5 rfl rfl)
theorem dL_law_2687 : decode cL_law 2687 = .ok (.iload 6, 2) := dk_21 6 (dk_at dksL_law_107 6 rfl rfl)
theorem dL_law_2689 : decode cL_law 2689 = .ok (.i2l, 1) := dk_133 (dk_at dksL_law_107 8 rfl rfl)
theorem dL_law_2690 : decode cL_law 2690 = .ok (.lcmp, 1) := dk_148 (dk_at dksL_law_107 9 rfl rfl)
theorem dL_law_2691 : decode cL_law 2691 = .ok (.ifCond .eq 5, 3) := dk_153 0 5 (dk_at dksL_law_107 10 rfl rfl)
theorem dL_law_2694 : decode cL_law 2694 = .ok (.iconst 0, 1) := dk_3 (dk_at dksL_law_107 13 rfl rfl)
theorem dL_law_2695 : decode cL_law 2695 = .ok (.ireturn, 1) := dk_172 (dk_at dksL_law_107 14 rfl rfl)
theorem dL_law_2696 : decode cL_law 2696 = .ok (.goto 319, 3) := dk_167 1 63 (dk_at dksL_law_107 15 rfl rfl)
theorem dL_law_2699 : decode cL_law 2699 = .ok (.aload_n 1, 1) := dk_43 (dk_at dksL_law_107 18 rfl rfl)
theorem dL_law_2700 : decode cL_law 2700 = .ok (.aload_n 0, 1) := dk_42 (dk_at dksL_law_107 19 rfl rfl)
theorem dL_law_2701 : decode cL_law 2701 = .ok (.iload 4, 2) := dk_21 4 (dk_at dksL_law_107 20 rfl rfl)
theorem dL_law_2703 : decode cL_law 2703 = .ok (.iconst 1, 1) := dk_4 (dk_at dksL_law_107 22 rfl rfl)
theorem dL_law_2704 : decode cL_law 2704 = .ok (.iadd, 1) := dk_96 (dk_at dksL_law_107 23 rfl rfl)
theorem dL_law_2705 : decode cL_law 2705 = .ok (.iaload, 1) := dk_46 (dk_at dksL_law_108 0 rfl rfl)
theorem dL_law_2706 : decode cL_law 2706 = .ok (.aload_n 3, 1) := dk_45 (dk_at dksL_law_108 1 rfl rfl)
theorem dL_law_2707 : decode cL_law 2707 = .ok (.invokestatic 288, 3) := dk_184 1 32 (dk_at dksL_law_108 2 rfl rfl)
theorem dL_law_2710 : decode cL_law 2710 = .ok (.istore 5, 2) := dk_54 5 (dk_at dksL_law_108 5 rfl rfl)
theorem dL_law_2712 : decode cL_law 2712 = .ok (.aload_n 2, 1) := dk_44 (dk_at dksL_law_108 7 rfl rfl)
theorem dL_law_2713 : decode cL_law 2713 = .ok (.aload_n 0, 1) := dk_42 (dk_at dksL_law_108 8 rfl rfl)
theorem dL_law_2714 : decode cL_law 2714 = .ok (.iload 4, 2) := dk_21 4 (dk_at dksL_law_108 9 rfl rfl)
theorem dL_law_2716 : decode cL_law 2716 = .ok (.iconst 1, 1) := dk_4 (dk_at dksL_law_108 11 rfl rfl)
theorem dL_law_2717 : decode cL_law 2717 = .ok (.iadd, 1) := dk_96 (dk_at dksL_law_108 12 rfl rfl)
theorem dL_law_2718 : decode cL_law 2718 = .ok (.iaload, 1) := dk_46 (dk_at dksL_law_108 13 rfl rfl)
theorem dL_law_2719 : decode cL_law 2719 = .ok (.invokevirtual 290, 3) := dk_182 1 34 (dk_at dksL_law_108 14 rfl rfl)
theorem dL_law_2722 : decode cL_law 2722 = .ok (.istore 6, 2) := dk_54 6 (dk_at dksL_law_108 17 rfl rfl)
theorem dL_law_2724 : decode cL_law 2724 = .ok (.aload_n 2, 1) := dk_44 (dk_at dksL_law_108 19 rfl rfl)
theorem dL_law_2725 : decode cL_law 2725 = .ok (.invokevirtual 156, 3) := dk_182 0 156 (dk_at dksL_law_108 20 rfl rfl)
theorem dL_law_2728 : decode cL_law 2728 = .ok (.iload 5, 2) := dk_21 5 (dk_at dksL_law_109 0 rfl rfl)
theorem dL_law_2730 : decode cL_law 2730 = .ok (.if_icmp .eq 5, 3) := dk_159 0 5 (dk_at dksL_law_109 2 rfl rfl)
theorem dL_law_2733 : decode cL_law 2733 = .ok (.iconst 0, 1) := dk_3 (dk_at dksL_law_109 5 rfl rfl)
theorem dL_law_2734 : decode cL_law 2734 = .ok (.ireturn, 1) := dk_172 (dk_at dksL_law_109 6 rfl rfl)
theorem dL_law_2735 : decode cL_law 2735 = .ok (.iload 5, 2) := dk_21 5 (dk_at dksL_law_109 7 rfl rfl)
theorem dL_law_2737 : decode cL_law 2737 = .ok (.ifCond .ne 15, 3) := dk_154 0 15 (dk_at dksL_law_109 9 rfl rfl)
theorem dL_law_2740 : decode cL_law 2740 = .ok (.aload_n 3, 1) := dk_45 (dk_at dksL_law_109 12 rfl rfl)
theorem dL_law_2741 : decode cL_law 2741 = .ok (.iconst 0, 1) := dk_3 (dk_at dksL_law_109 13 rfl rfl)
theorem dL_law_2742 : decode cL_law 2742 = .ok (.laload, 1) := dk_47 (dk_at dksL_law_109 14 rfl rfl)
theorem dL_law_2743 : decode cL_law 2743 = .ok (.iload 6, 2) := dk_21 6 (dk_at dksL_law_109 15 rfl rfl)
theorem dL_law_2745 : decode cL_law 2745 = .ok (.i2l, 1) := dk_133 (dk_at dksL_law_109 17 rfl rfl)
theorem dL_law_2746 : decode cL_law 2746 = .ok (.lcmp, 1) := dk_148 (dk_at dksL_law_109 18 rfl rfl)
theorem dL_law_2747 : decode cL_law 2747 = .ok (.ifCond .eq 5, 3) := dk_153 0 5 (dk_at dksL_law_109 19 rfl rfl)
theorem dL_law_2750 : decode cL_law 2750 = .ok (.iconst 0, 1) := dk_3 (dk_at dksL_law_109 22 rfl rfl)
theorem dL_law_2751 : decode cL_law 2751 = .ok (.ireturn, 1) := dk_172 (dk_at dksL_law_109 23 rfl rfl)
theorem dL_law_2752 : decode cL_law 2752 = .ok (.goto 263, 3) := dk_167 1 7 (dk_at dksL_law_110 0 rfl rfl)
theorem dL_law_2755 : decode cL_law 2755 = .ok (.aload_n 1, 1) := dk_43 (dk_at dksL_law_110 3 rfl rfl)
theorem dL_law_2756 : decode cL_law 2756 = .ok (.aload_n 0, 1) := dk_42 (dk_at dksL_law_110 4 rfl rfl)
theorem dL_law_2757 : decode cL_law 2757 = .ok (.iload 4, 2) := dk_21 4 (dk_at dksL_law_110 5 rfl rfl)
theorem dL_law_2759 : decode cL_law 2759 = .ok (.iconst 1, 1) := dk_4 (dk_at dksL_law_110 7 rfl rfl)
theorem dL_law_2760 : decode cL_law 2760 = .ok (.iadd, 1) := dk_96 (dk_at dksL_law_110 8 rfl rfl)
theorem dL_law_2761 : decode cL_law 2761 = .ok (.iaload, 1) := dk_46 (dk_at dksL_law_110 9 rfl rfl)
theorem dL_law_2762 : decode cL_law 2762 = .ok (.aload_n 3, 1) := dk_45 (dk_at dksL_law_110 10 rfl rfl)
theorem dL_law_2763 : decode cL_law 2763 = .ok (.invokestatic 291, 3) := dk_184 1 35 (dk_at dksL_law_110 11 rfl rfl)
theorem dL_law_2766 : decode cL_law 2766 = .ok (.istore 5, 2) := dk_54 5 (dk_at dksL_law_110 14 rfl rfl)
theorem dL_law_2768 : decode cL_law 2768 = .ok (.aload_n 2, 1) := dk_44 (dk_at dksL_law_110 16 rfl rfl)
theorem dL_law_2769 : decode cL_law 2769 = .ok (.aload_n 0, 1) := dk_42 (dk_at dksL_law_110 17 rfl rfl)
theorem dL_law_2770 : decode cL_law 2770 = .ok (.iload 4, 2) := dk_21 4 (dk_at dksL_law_110 18 rfl rfl)
theorem dL_law_2772 : decode cL_law 2772 = .ok (.iconst 1, 1) := dk_4 (dk_at dksL_law_110 20 rfl rfl)
theorem dL_law_2773 : decode cL_law 2773 = .ok (.iadd, 1) := dk_96 (dk_at dksL_law_110 21 rfl rfl)
theorem dL_law_2774 : decode cL_law 2774 = .ok (.iaload, 1) := dk_46 (dk_at dksL_law_110 22 rfl rfl)
theorem dL_law_2775 : decode cL_law 2775 = .ok (.invokevirtual 293, 3) := dk_182 1 37 (dk_at dksL_law_111 0 rfl rfl)
theorem dL_law_2778 : decode cL_law 2778 = .ok (.istore 6, 2) := dk_54 6 (dk_at dksL_law_111 3 rfl rfl)
theorem dL_law_2780 : decode cL_law 2780 = .ok (.aload_n 2, 1) := dk_44 (dk_at dksL_law_111 5 rfl rfl)
theorem dL_law_2781 : decode cL_law 2781 = .ok (.invokevirtual 156, 3) := dk_182 0 156 (dk_at dksL_law_111 6 rfl rfl)
theorem dL_law_2784 : decode cL_law 2784 = .ok (.iload 5, 2) := dk_21 5 (dk_at dksL_law_111 9 rfl rfl)
theorem dL_law_2786 : decode cL_law 2786 = .ok (.if_icmp .eq 5, 3) := dk_159 0 5 (dk_at dksL_law_111 11 rfl rfl)
theorem dL_law_2789 : decode cL_law 2789 = .ok (.iconst 0, 1) := dk_3 (dk_at dksL_law_111 14 rfl rfl)
theorem dL_law_2790 : decode cL_law 2790 = .ok (.ireturn, 1) := dk_172 (dk_at dksL_law_111 15 rfl rfl)
theorem dL_law_2791 : decode cL_law 2791 = .ok (.iload 5, 2) := dk_21 5 (dk_at dksL_law_111 16 rfl rfl)
theorem dL_law_2793 : decode cL_law 2793 = .ok (.ifCond .ne 15, 3) := dk_154 0 15 (dk_at dksL_law_111 18 rfl rfl)
theorem dL_law_2796 : decode cL_law 2796 = .ok (.aload_n 3, 1) := dk_45 (dk_at dksL_law_111 21 rfl rfl)
theorem dL_law_2797 : decode cL_law 2797 = .ok (.iconst 0, 1) := dk_3 (dk_at dksL_law_111 22 rfl rfl)
theorem dL_law_2798 : decode cL_law 2798 = .ok (.laload, 1) := dk_47 (dk_at dksL_law_111 23 rfl rfl)
theorem dL_law_2799 : decode cL_law 2799 = .ok (.iload 6, 2) := dk_21 6 (dk_at dksL_law_112 0 rfl rfl)
theorem dL_law_2801 : decode cL_law 2801 = .ok (.i2l, 1) := dk_133 (dk_at dksL_law_112 2 rfl rfl)
theorem dL_law_2802 : decode cL_law 2802 = .ok (.lcmp, 1) := dk_148 (dk_at dksL_law_112 3 rfl rfl)
theorem dL_law_2803 : decode cL_law 2803 = .ok (.ifCond .eq 5, 3) := dk_153 0 5 (dk_at dksL_law_112 4 rfl rfl)
theorem dL_law_2806 : decode cL_law 2806 = .ok (.iconst 0, 1) := dk_3 (dk_at dksL_law_112 7 rfl rfl)
theorem dL_law_2807 : decode cL_law 2807 = .ok (.ireturn, 1) := dk_172 (dk_at dksL_law_112 8 rfl rfl)
theorem dL_law_2808 : decode cL_law 2808 = .ok (.goto 207, 3) := dk_167 0 207 (dk_at dksL_law_112 9 rfl rfl)
theorem dL_law_2811 : decode cL_law 2811 = .ok (.aload_n 1, 1) := dk_43 (dk_at dksL_law_112 12 rfl rfl)
theorem dL_law_2812 : decode cL_law 2812 = .ok (.aload_n 0, 1) := dk_42 (dk_at dksL_law_112 13 rfl rfl)
theorem dL_law_2813 : decode cL_law 2813 = .ok (.iload 4, 2) := dk_21 4 (dk_at dksL_law_112 14 rfl rfl)
theorem dL_law_2815 : decode cL_law 2815 = .ok (.iconst 1, 1) := dk_4 (dk_at dksL_law_112 16 rfl rfl)
theorem dL_law_2816 : decode cL_law 2816 = .ok (.iadd, 1) := dk_96 (dk_at dksL_law_112 17 rfl rfl)
theorem dL_law_2817 : decode cL_law 2817 = .ok (.iaload, 1) := dk_46 (dk_at dksL_law_112 18 rfl rfl)
theorem dL_law_2818 : decode cL_law 2818 = .ok (.aload_n 3, 1) := dk_45 (dk_at dksL_law_112 19 rfl rfl)
theorem dL_law_2819 : decode cL_law 2819 = .ok (.invokestatic 294, 3) := dk_184 1 38 (dk_at dksL_law_112 20 rfl rfl)
theorem dL_law_2822 : decode cL_law 2822 = .ok (.istore 5, 2) := dk_54 5 (dk_at dksL_law_113 0 rfl rfl)
theorem dL_law_2824 : decode cL_law 2824 = .ok (.aload_n 2, 1) := dk_44 (dk_at dksL_law_113 2 rfl rfl)
theorem dL_law_2825 : decode cL_law 2825 = .ok (.aload_n 0, 1) := dk_42 (dk_at dksL_law_113 3 rfl rfl)
theorem dL_law_2826 : decode cL_law 2826 = .ok (.iload 4, 2) := dk_21 4 (dk_at dksL_law_113 4 rfl rfl)
theorem dL_law_2828 : decode cL_law 2828 = .ok (.iconst 1, 1) := dk_4 (dk_at dksL_law_113 6 rfl rfl)
theorem dL_law_2829 : decode cL_law 2829 = .ok (.iadd, 1) := dk_96 (dk_at dksL_law_113 7 rfl rfl)
theorem dL_law_2830 : decode cL_law 2830 = .ok (.iaload, 1) := dk_46 (dk_at dksL_law_113 8 rfl rfl)
theorem dL_law_2831 : decode cL_law 2831 = .ok (.invokevirtual 296, 3) := dk_182 1 40 (dk_at dksL_law_113 9 rfl rfl)
theorem dL_law_2834 : decode cL_law 2834 = .ok (.istore 6, 2) := dk_54 6 (dk_at dksL_law_113 12 rfl rfl)
theorem dL_law_2836 : decode cL_law 2836 = .ok (.aload_n 2, 1) := dk_44 (dk_at dksL_law_113 14 rfl rfl)
theorem dL_law_2837 : decode cL_law 2837 = .ok (.invokevirtual 156, 3) := dk_182 0 156 (dk_at dksL_law_113 15 rfl rfl)
theorem dL_law_2840 : decode cL_law 2840 = .ok (.iload 5, 2) := dk_21 5 (dk_at dksL_law_113 18 rfl rfl)
theorem dL_law_2842 : decode cL_law 2842 = .ok (.if_icmp .eq 5, 3) := dk_159 0 5 (dk_at dksL_law_113 20 rfl rfl)
theorem dL_law_2845 : decode cL_law 2845 = .ok (.iconst 0, 1) := dk_3 (dk_at dksL_law_113 23 rfl rfl)
theorem dL_law_2846 : decode cL_law 2846 = .ok (.ireturn, 1) := dk_172 (dk_at dksL_law_114 0 rfl rfl)
theorem dL_law_2847 : decode cL_law 2847 = .ok (.iload 5, 2) := dk_21 5 (dk_at dksL_law_114 1 rfl rfl)
theorem dL_law_2849 : decode cL_law 2849 = .ok (.ifCond .ne 15, 3) := dk_154 0 15 (dk_at dksL_law_114 3 rfl rfl)
theorem dL_law_2852 : decode cL_law 2852 = .ok (.aload_n 3, 1) := dk_45 (dk_at dksL_law_114 6 rfl rfl)
theorem dL_law_2853 : decode cL_law 2853 = .ok (.iconst 0, 1) := dk_3 (dk_at dksL_law_114 7 rfl rfl)
theorem dL_law_2854 : decode cL_law 2854 = .ok (.laload, 1) := dk_47 (dk_at dksL_law_114 8 rfl rfl)
theorem dL_law_2855 : decode cL_law 2855 = .ok (.iload 6, 2) := dk_21 6 (dk_at dksL_law_114 9 rfl rfl)
theorem dL_law_2857 : decode cL_law 2857 = .ok (.i2l, 1) := dk_133 (dk_at dksL_law_114 11 rfl rfl)
theorem dL_law_2858 : decode cL_law 2858 = .ok (.lcmp, 1) := dk_148 (dk_at dksL_law_114 12 rfl rfl)
theorem dL_law_2859 : decode cL_law 2859 = .ok (.ifCond .eq 5, 3) := dk_153 0 5 (dk_at dksL_law_114 13 rfl rfl)
theorem dL_law_2862 : decode cL_law 2862 = .ok (.iconst 0, 1) := dk_3 (dk_at dksL_law_114 16 rfl rfl)
theorem dL_law_2863 : decode cL_law 2863 = .ok (.ireturn, 1) := dk_172 (dk_at dksL_law_114 17 rfl rfl)
theorem dL_law_2864 : decode cL_law 2864 = .ok (.goto 151, 3) := dk_167 0 151 (dk_at dksL_law_114 18 rfl rfl)
theorem dL_law_2867 : decode cL_law 2867 = .ok (.aload_n 1, 1) := dk_43 (dk_at dksL_law_114 21 rfl rfl)
theorem dL_law_2868 : decode cL_law 2868 = .ok (.aload_n 0, 1) := dk_42 (dk_at dksL_law_114 22 rfl rfl)
theorem dL_law_2869 : decode cL_law 2869 = .ok (.iload 4, 2) := dk_21 4 (dk_at dksL_law_115 0 rfl rfl)
theorem dL_law_2871 : decode cL_law 2871 = .ok (.iconst 1, 1) := dk_4 (dk_at dksL_law_115 2 rfl rfl)
theorem dL_law_2872 : decode cL_law 2872 = .ok (.iadd, 1) := dk_96 (dk_at dksL_law_115 3 rfl rfl)
theorem dL_law_2873 : decode cL_law 2873 = .ok (.iaload, 1) := dk_46 (dk_at dksL_law_115 4 rfl rfl)
theorem dL_law_2874 : decode cL_law 2874 = .ok (.aload_n 0, 1) := dk_42 (dk_at dksL_law_115 5 rfl rfl)
theorem dL_law_2875 : decode cL_law 2875 = .ok (.iload 4, 2) := dk_21 4 (dk_at dksL_law_115 6 rfl rfl)
theorem dL_law_2877 : decode cL_law 2877 = .ok (.iconst 2, 1) := dk_5 (dk_at dksL_law_115 8 rfl rfl)
theorem dL_law_2878 : decode cL_law 2878 = .ok (.iadd, 1) := dk_96 (dk_at dksL_law_115 9 rfl rfl)
theorem dL_law_2879 : decode cL_law 2879 = .ok (.iaload, 1) := dk_46 (dk_at dksL_law_115 10 rfl rfl)
theorem dL_law_2880 : decode cL_law 2880 = .ok (.aload_n 3, 1) := dk_45 (dk_at dksL_law_115 11 rfl rfl)
theorem dL_law_2881 : decode cL_law 2881 = .ok (.invokestatic 297, 3) := dk_184 1 41 (dk_at dksL_law_115 12 rfl rfl)
theorem dL_law_2884 : decode cL_law 2884 = .ok (.istore 5, 2) := dk_54 5 (dk_at dksL_law_115 15 rfl rfl)
theorem dL_law_2886 : decode cL_law 2886 = .ok (.aload_n 2, 1) := dk_44 (dk_at dksL_law_115 17 rfl rfl)
theorem dL_law_2887 : decode cL_law 2887 = .ok (.aload_n 0, 1) := dk_42 (dk_at dksL_law_115 18 rfl rfl)
theorem dL_law_2888 : decode cL_law 2888 = .ok (.iload 4, 2) := dk_21 4 (dk_at dksL_law_115 19 rfl rfl)
theorem dL_law_2890 : decode cL_law 2890 = .ok (.iconst 1, 1) := dk_4 (dk_at dksL_law_115 21 rfl rfl)
theorem dL_law_2891 : decode cL_law 2891 = .ok (.iadd, 1) := dk_96 (dk_at dksL_law_115 22 rfl rfl)
theorem dL_law_2892 : decode cL_law 2892 = .ok (.iaload, 1) := dk_46 (dk_at dksL_law_115 23 rfl rfl)
theorem dL_law_2893 : decode cL_law 2893 = .ok (.aload_n 0, 1) := dk_42 (dk_at dksL_law_116 0 rfl rfl)
theorem dL_law_2894 : decode cL_law 2894 = .ok (.iload 4, 2) := dk_21 4 (dk_at dksL_law_116 1 rfl rfl)
theorem dL_law_2896 : decode cL_law 2896 = .ok (.iconst 2, 1) := dk_5 (dk_at dksL_law_116 3 rfl rfl)
theorem dL_law_2897 : decode cL_law 2897 = .ok (.iadd, 1) := dk_96 (dk_at dksL_law_116 4 rfl rfl)
theorem dL_law_2898 : decode cL_law 2898 = .ok (.iaload, 1) := dk_46 (dk_at dksL_law_116 5 rfl rfl)
theorem dL_law_2899 : decode cL_law 2899 = .ok (.invokevirtual 299, 3) := dk_182 1 43 (dk_at dksL_law_116 6 rfl rfl)
theorem dL_law_2902 : decode cL_law 2902 = .ok (.istore 6, 2) := dk_54 6 (dk_at dksL_law_116 9 rfl rfl)
theorem dL_law_2904 : decode cL_law 2904 = .ok (.aload_n 2, 1) := dk_44 (dk_at dksL_law_116 11 rfl rfl)
theorem dL_law_2905 : decode cL_law 2905 = .ok (.invokevirtual 156, 3) := dk_182 0 156 (dk_at dksL_law_116 12 rfl rfl)
theorem dL_law_2908 : decode cL_law 2908 = .ok (.iload 5, 2) := dk_21 5 (dk_at dksL_law_116 15 rfl rfl)
theorem dL_law_2910 : decode cL_law 2910 = .ok (.if_icmp .eq 5, 3) := dk_159 0 5 (dk_at dksL_law_116 17 rfl rfl)
theorem dL_law_2913 : decode cL_law 2913 = .ok (.iconst 0, 1) := dk_3 (dk_at dksL_law_116 20 rfl rfl)
theorem dL_law_2914 : decode cL_law 2914 = .ok (.ireturn, 1) := dk_172 (dk_at dksL_law_116 21 rfl rfl)
theorem dL_law_2915 : decode cL_law 2915 = .ok (.iload 5, 2) := dk_21 5 (dk_at dksL_law_116 22 rfl rfl)
theorem dL_law_2917 : decode cL_law 2917 = .ok (.ifCond .ne 15, 3) := dk_154 0 15 (dk_at dksL_law_117 0 rfl rfl)
theorem dL_law_2920 : decode cL_law 2920 = .ok (.aload_n 3, 1) := dk_45 (dk_at dksL_law_117 3 rfl rfl)
theorem dL_law_2921 : decode cL_law 2921 = .ok (.iconst 0, 1) := dk_3 (dk_at dksL_law_117 4 rfl rfl)
theorem dL_law_2922 : decode cL_law 2922 = .ok (.laload, 1) := dk_47 (dk_at dksL_law_117 5 rfl rfl)
theorem dL_law_2923 : decode cL_law 2923 = .ok (.iload 6, 2) := dk_21 6 (dk_at dksL_law_117 6 rfl rfl)
theorem dL_law_2925 : decode cL_law 2925 = .ok (.i2l, 1) := dk_133 (dk_at dksL_law_117 8 rfl rfl)
theorem dL_law_2926 : decode cL_law 2926 = .ok (.lcmp, 1) := dk_148 (dk_at dksL_law_117 9 rfl rfl)
theorem dL_law_2927 : decode cL_law 2927 = .ok (.ifCond .eq 5, 3) := dk_153 0 5 (dk_at dksL_law_117 10 rfl rfl)
theorem dL_law_2930 : decode cL_law 2930 = .ok (.iconst 0, 1) := dk_3 (dk_at dksL_law_117 13 rfl rfl)
theorem dL_law_2931 : decode cL_law 2931 = .ok (.ireturn, 1) := dk_172 (dk_at dksL_law_117 14 rfl rfl)
theorem dL_law_2932 : decode cL_law 2932 = .ok (.goto 83, 3) := dk_167 0 83 (dk_at dksL_law_117 15 rfl rfl)
theorem dL_law_2935 : decode cL_law 2935 = .ok (.aload_n 1, 1) := dk_43 (dk_at dksL_law_117 18 rfl rfl)
theorem dL_law_2936 : decode cL_law 2936 = .ok (.aload_n 0, 1) := dk_42 (dk_at dksL_law_117 19 rfl rfl)
theorem dL_law_2937 : decode cL_law 2937 = .ok (.iload 4, 2) := dk_21 4 (dk_at dksL_law_117 20 rfl rfl)
theorem dL_law_2939 : decode cL_law 2939 = .ok (.iconst 1, 1) := dk_4 (dk_at dksL_law_117 22 rfl rfl)
theorem dL_law_2940 : decode cL_law 2940 = .ok (.iadd, 1) := dk_96 (dk_at dksL_law_117 23 rfl rfl)
theorem dL_law_2941 : decode cL_law 2941 = .ok (.iaload, 1) := dk_46 (dk_at dksL_law_118 0 rfl rfl)
theorem dL_law_2942 : decode cL_law 2942 = .ok (.aload_n 3, 1) := dk_45 (dk_at dksL_law_118 1 rfl rfl)
theorem dL_law_2943 : decode cL_law 2943 = .ok (.invokestatic 300, 3) := dk_184 1 44 (dk_at dksL_law_118 2 rfl rfl)
theorem dL_law_2946 : decode cL_law 2946 = .ok (.istore 5, 2) := dk_54 5 (dk_at dksL_law_118 5 rfl rfl)
theorem dL_law_2948 : decode cL_law 2948 = .ok (.aload_n 2, 1) := dk_44 (dk_at dksL_law_118 7 rfl rfl)
theorem dL_law_2949 : decode cL_law 2949 = .ok (.aload_n 0, 1) := dk_42 (dk_at dksL_law_118 8 rfl rfl)
theorem dL_law_2950 : decode cL_law 2950 = .ok (.iload 4, 2) := dk_21 4 (dk_at dksL_law_118 9 rfl rfl)
theorem dL_law_2952 : decode cL_law 2952 = .ok (.iconst 1, 1) := dk_4 (dk_at dksL_law_118 11 rfl rfl)
theorem dL_law_2953 : decode cL_law 2953 = .ok (.iadd, 1) := dk_96 (dk_at dksL_law_118 12 rfl rfl)
theorem dL_law_2954 : decode cL_law 2954 = .ok (.iaload, 1) := dk_46 (dk_at dksL_law_118 13 rfl rfl)
theorem dL_law_2955 : decode cL_law 2955 = .ok (.invokevirtual 302, 3) := dk_182 1 46 (dk_at dksL_law_118 14 rfl rfl)
theorem dL_law_2958 : decode cL_law 2958 = .ok (.istore 6, 2) := dk_54 6 (dk_at dksL_law_118 17 rfl rfl)
theorem dL_law_2960 : decode cL_law 2960 = .ok (.aload_n 2, 1) := dk_44 (dk_at dksL_law_118 19 rfl rfl)
theorem dL_law_2961 : decode cL_law 2961 = .ok (.invokevirtual 156, 3) := dk_182 0 156 (dk_at dksL_law_118 20 rfl rfl)
theorem dL_law_2964 : decode cL_law 2964 = .ok (.iload 5, 2) := dk_21 5 (dk_at dksL_law_119 0 rfl rfl)
theorem dL_law_2966 : decode cL_law 2966 = .ok (.if_icmp .eq 5, 3) := dk_159 0 5 (dk_at dksL_law_119 2 rfl rfl)
theorem dL_law_2969 : decode cL_law 2969 = .ok (.iconst 0, 1) := dk_3 (dk_at dksL_law_119 5 rfl rfl)
theorem dL_law_2970 : decode cL_law 2970 = .ok (.ireturn, 1) := dk_172 (dk_at dksL_law_119 6 rfl rfl)
theorem dL_law_2971 : decode cL_law 2971 = .ok (.iload 5, 2) := dk_21 5 (dk_at dksL_law_119 7 rfl rfl)
theorem dL_law_2973 : decode cL_law 2973 = .ok (.ifCond .ne 15, 3) := dk_154 0 15 (dk_at dksL_law_119 9 rfl rfl)
theorem dL_law_2976 : decode cL_law 2976 = .ok (.aload_n 3, 1) := dk_45 (dk_at dksL_law_119 12 rfl rfl)
theorem dL_law_2977 : decode cL_law 2977 = .ok (.iconst 0, 1) := dk_3 (dk_at dksL_law_119 13 rfl rfl)
theorem dL_law_2978 : decode cL_law 2978 = .ok (.laload, 1) := dk_47 (dk_at dksL_law_119 14 rfl rfl)
theorem dL_law_2979 : decode cL_law 2979 = .ok (.iload 6, 2) := dk_21 6 (dk_at dksL_law_119 15 rfl rfl)
theorem dL_law_2981 : decode cL_law 2981 = .ok (.i2l, 1) := dk_133 (dk_at dksL_law_119 17 rfl rfl)
theorem dL_law_2982 : decode cL_law 2982 = .ok (.lcmp, 1) := dk_148 (dk_at dksL_law_119 18 rfl rfl)
theorem dL_law_2983 : decode cL_law 2983 = .ok (.ifCond .eq 5, 3) := dk_153 0 5 (dk_at dksL_law_119 19 rfl rfl)
theorem dL_law_2986 : decode cL_law 2986 = .ok (.iconst 0, 1) := dk_3 (dk_at dksL_law_119 22 rfl rfl)
theorem dL_law_2987 : decode cL_law 2987 = .ok (.ireturn, 1) := dk_172 (dk_at dksL_law_119 23 rfl rfl)
theorem dL_law_2988 : decode cL_law 2988 = .ok (.goto 27, 3) := dk_167 0 27 (dk_at dksL_law_120 0 rfl rfl)
theorem dL_law_2991 : decode cL_law 2991 = .ok (.aload_n 1, 1) := dk_43 (dk_at dksL_law_120 3 rfl rfl)
theorem dL_law_2992 : decode cL_law 2992 = .ok (.invokevirtual 303, 3) := dk_182 1 47 (dk_at dksL_law_120 4 rfl rfl)
theorem dL_law_2995 : decode cL_law 2995 = .ok (.aload_n 2, 1) := dk_44 (dk_at dksL_law_120 7 rfl rfl)
theorem dL_law_2996 : decode cL_law 2996 = .ok (.invokevirtual 306, 3) := dk_182 1 50 (dk_at dksL_law_120 8 rfl rfl)
theorem dL_law_2999 : decode cL_law 2999 = .ok (.goto 16, 3) := dk_167 0 16 (dk_at dksL_law_120 11 rfl rfl)
theorem dL_law_3002 : decode cL_law 3002 = .ok (.aload_n 1, 1) := dk_43 (dk_at dksL_law_120 14 rfl rfl)
theorem dL_law_3003 : decode cL_law 3003 = .ok (.invokevirtual 307, 3) := dk_182 1 51 (dk_at dksL_law_120 15 rfl rfl)
theorem dL_law_3006 : decode cL_law 3006 = .ok (.aload_n 2, 1) := dk_44 (dk_at dksL_law_120 18 rfl rfl)
theorem dL_law_3007 : decode cL_law 3007 = .ok (.invokevirtual 311, 3) := dk_182 1 55 (dk_at dksL_law_120 19 rfl rfl)
theorem dL_law_3010 : decode cL_law 3010 = .ok (.if_icmp .eq 5, 3) := dk_159 0 5 (dk_at dksL_law_121 0 rfl rfl)
theorem dL_law_3013 : decode cL_law 3013 = .ok (.iconst 0, 1) := dk_3 (dk_at dksL_law_121 3 rfl rfl)
theorem dL_law_3014 : decode cL_law 3014 = .ok (.ireturn, 1) := dk_172 (dk_at dksL_law_121 4 rfl rfl)
theorem dL_law_3015 : decode cL_law 3015 = .ok (.iinc 4 6, 3) := dk_132 4 6 (dk_at dksL_law_121 5 rfl rfl)
theorem dL_law_3018 : decode cL_law 3018 = .ok (.goto (-2995), 3) := dk_167 244 77 (dk_at dksL_law_121 8 rfl rfl)
theorem dL_law_3021 : decode cL_law 3021 = .ok (.iconst 1, 1) := dk_4 (dk_at dksL_law_121 11 rfl rfl)
theorem dL_law_3022 : decode cL_law 3022 = .ok (.ireturn, 1) := dk_172 (dk_at dksL_law_121 12 rfl rfl)
