/-! HornHouses -/
set_option maxRecDepth 100000
def RX1 : String := "HornHouses"
def TX1 : u_T := fun k => match k with
  | 0 => ("HornHouses", "values", "[I", true)
  | 1 => ("HornHouses", "town", "LHornHouses$Town;", false)
  | 2 => ("HornHouses", "street", "LHornHouses$Street;", false)
  | 3 => ("HornHouses", "tried", "LHornHouses$Street;", true)
  | 4 => ("HornHouses", "tape", "[B", true)
  | 5 => ("HornHouses", "taped", "I", false)
  | 6 => ("HornHouses", "faultPlace", "I", false)
  | 7 => ("HornHouses", "refused", "[I", true)
  | 8 => ("HornHouses", "acts", "Ljava/util/List;", false)
  | 9 => ("HornHouses", "seen", "Ljava/util/List;", false)
  | 10 => ("HornHouses", "streetThen", "LHornHouses$Street;", false)
  | 11 => ("HornHouses", "actsThen", "Ljava/util/List;", false)
  | 12 => ("HornHouses", "seenThen", "Ljava/util/List;", false)
  | _ => ("HornHouses", "seed", "I", false)
def tyX1 : Nat → FieldType := fun k => match k with
  | 0 => .array .int
  | 1 => .object "HornHouses$Town"
  | 2 => .object "HornHouses$Street"
  | 3 => .object "HornHouses$Street"
  | 4 => .array .byte
  | 5 => .int
  | 6 => .int
  | 7 => .array .int
  | 8 => .object "java/util/List"
  | 9 => .object "java/util/List"
  | 10 => .object "HornHouses$Street"
  | 11 => .object "java/util/List"
  | 12 => .object "java/util/List"
  | _ => .int
abbrev wsX10 : List Cond := u_ws RX1 TX1 14
set_option maxRecDepth 100000 in
theorem nmX1 : ∀ a, a < 14 → ∀ b, b < 14 → a ≠ b → (TX1 a).2.1 ≠ (TX1 b).2.1 := by decide +kernel
set_option maxRecDepth 100000 in
theorem tyX1_ok : ∀ k, k < 14 → parseFieldDescriptor (TX1 k).2.2.1 = some (tyX1 k) := by decide +kernel
abbrev cX1_init : ByteArray := prog_1_method_5_code
def yX1_init : MethodName := ⟨RX1, "<init>", "()V"⟩
def dkwX1_init_3 : List UInt8 := [89, 183, 0, 51, 181, 0, 52, 42, 187, 0, 49, 89, 183, 0, 51, 181, 0, 56, 177]
abbrev dktX1_init_3 : List UInt8 := dkwX1_init_3 ++ []
def dkwX1_init_2 : List UInt8 := [17, 2, 188, 188, 8, 181, 0, 38, 42, 2, 181, 0, 42, 42, 6, 188, 10, 181, 0, 46, 42, 187, 0, 49]
abbrev dktX1_init_2 : List UInt8 := dkwX1_init_2 ++ dktX1_init_3
def dkwX1_init_1 : List UInt8 := [187, 0, 26, 89, 42, 183, 0, 28, 181, 0, 31, 42, 187, 0, 26, 89, 42, 183, 0, 28, 181, 0, 35, 42]
abbrev dktX1_init_1 : List UInt8 := dkwX1_init_1 ++ dktX1_init_2
def dkwX1_init_0 : List UInt8 := [42, 183, 0, 10, 42, 16, 7, 188, 10, 181, 0, 13, 42, 187, 0, 19, 89, 183, 0, 21, 181, 0, 22, 42]
abbrev dktX1_init_0 : List UInt8 := dkwX1_init_0 ++ dktX1_init_1
theorem dksX1_init_0 : cX1_init.data.toList.drop 0 = dktX1_init_0 := by decide +kernel
theorem dksX1_init_1 : cX1_init.data.toList.drop 24 = dktX1_init_1 := dk_seg dksX1_init_0 24 rfl rfl
theorem dksX1_init_2 : cX1_init.data.toList.drop 48 = dktX1_init_2 := dk_seg dksX1_init_1 24 rfl rfl
theorem dksX1_init_3 : cX1_init.data.toList.drop 72 = dktX1_init_3 := dk_seg dksX1_init_2 24 rfl rfl
theorem dX1_init_0 : decode cX1_init 0 = .ok (.aload_n 0, 1) := dk_42 (dk_at dksX1_init_0 0 rfl rfl)
theorem dX1_init_1 : decode cX1_init 1 = .ok (.invokespecial 10, 3) := dk_183 0 10 (dk_at dksX1_init_0 1 rfl rfl)
theorem dX1_init_4 : decode cX1_init 4 = .ok (.aload_n 0, 1) := dk_42 (dk_at dksX1_init_0 4 rfl rfl)
theorem dX1_init_5 : decode cX1_init 5 = .ok (.bipush 7, 2) := dk_16 7 (dk_at dksX1_init_0 5 rfl rfl)
theorem dX1_init_7 : decode cX1_init 7 = .ok (.newarray .int, 2) := dk_188_10 (dk_at dksX1_init_0 7 rfl rfl)
theorem dX1_init_9 : decode cX1_init 9 = .ok (.putfield 13, 3) := dk_181 0 13 (dk_at dksX1_init_0 9 rfl rfl)
theorem dX1_init_12 : decode cX1_init 12 = .ok (.aload_n 0, 1) := dk_42 (dk_at dksX1_init_0 12 rfl rfl)
theorem dX1_init_13 : decode cX1_init 13 = .ok (.new 19, 3) := dk_187 0 19 (dk_at dksX1_init_0 13 rfl rfl)
theorem dX1_init_16 : decode cX1_init 16 = .ok (.dup, 1) := dk_89 (dk_at dksX1_init_0 16 rfl rfl)
theorem dX1_init_17 : decode cX1_init 17 = .ok (.invokespecial 21, 3) := dk_183 0 21 (dk_at dksX1_init_0 17 rfl rfl)
theorem dX1_init_20 : decode cX1_init 20 = .ok (.putfield 22, 3) := dk_181 0 22 (dk_at dksX1_init_0 20 rfl rfl)
theorem dX1_init_23 : decode cX1_init 23 = .ok (.aload_n 0, 1) := dk_42 (dk_at dksX1_init_0 23 rfl rfl)
theorem dX1_init_24 : decode cX1_init 24 = .ok (.new 26, 3) := dk_187 0 26 (dk_at dksX1_init_1 0 rfl rfl)
theorem dX1_init_27 : decode cX1_init 27 = .ok (.dup, 1) := dk_89 (dk_at dksX1_init_1 3 rfl rfl)
theorem dX1_init_28 : decode cX1_init 28 = .ok (.aload_n 0, 1) := dk_42 (dk_at dksX1_init_1 4 rfl rfl)
theorem dX1_init_29 : decode cX1_init 29 = .ok (.invokespecial 28, 3) := dk_183 0 28 (dk_at dksX1_init_1 5 rfl rfl)
theorem dX1_init_32 : decode cX1_init 32 = .ok (.putfield 31, 3) := dk_181 0 31 (dk_at dksX1_init_1 8 rfl rfl)
theorem dX1_init_35 : decode cX1_init 35 = .ok (.aload_n 0, 1) := dk_42 (dk_at dksX1_init_1 11 rfl rfl)
theorem dX1_init_36 : decode cX1_init 36 = .ok (.new 26, 3) := dk_187 0 26 (dk_at dksX1_init_1 12 rfl rfl)
theorem dX1_init_39 : decode cX1_init 39 = .ok (.dup, 1) := dk_89 (dk_at dksX1_init_1 15 rfl rfl)
theorem dX1_init_40 : decode cX1_init 40 = .ok (.aload_n 0, 1) := dk_42 (dk_at dksX1_init_1 16 rfl rfl)
theorem dX1_init_41 : decode cX1_init 41 = .ok (.invokespecial 28, 3) := dk_183 0 28 (dk_at dksX1_init_1 17 rfl rfl)
theorem dX1_init_44 : decode cX1_init 44 = .ok (.putfield 35, 3) := dk_181 0 35 (dk_at dksX1_init_1 20 rfl rfl)
theorem dX1_init_47 : decode cX1_init 47 = .ok (.aload_n 0, 1) := dk_42 (dk_at dksX1_init_1 23 rfl rfl)
theorem dX1_init_48 : decode cX1_init 48 = .ok (.sipush 700, 3) := dk_17 2 188 (dk_at dksX1_init_2 0 rfl rfl)
theorem dX1_init_51 : decode cX1_init 51 = .ok (.newarray .byte, 2) := dk_188_8 (dk_at dksX1_init_2 3 rfl rfl)
theorem dX1_init_53 : decode cX1_init 53 = .ok (.putfield 38, 3) := dk_181 0 38 (dk_at dksX1_init_2 5 rfl rfl)
theorem dX1_init_56 : decode cX1_init 56 = .ok (.aload_n 0, 1) := dk_42 (dk_at dksX1_init_2 8 rfl rfl)
theorem dX1_init_57 : decode cX1_init 57 = .ok (.iconst (-1), 1) := dk_2 (dk_at dksX1_init_2 9 rfl rfl)
theorem dX1_init_58 : decode cX1_init 58 = .ok (.putfield 42, 3) := dk_181 0 42 (dk_at dksX1_init_2 10 rfl rfl)
theorem dX1_init_61 : decode cX1_init 61 = .ok (.aload_n 0, 1) := dk_42 (dk_at dksX1_init_2 13 rfl rfl)
theorem dX1_init_62 : decode cX1_init 62 = .ok (.iconst 3, 1) := dk_6 (dk_at dksX1_init_2 14 rfl rfl)
theorem dX1_init_63 : decode cX1_init 63 = .ok (.newarray .int, 2) := dk_188_10 (dk_at dksX1_init_2 15 rfl rfl)
theorem dX1_init_65 : decode cX1_init 65 = .ok (.putfield 46, 3) := dk_181 0 46 (dk_at dksX1_init_2 17 rfl rfl)
theorem dX1_init_68 : decode cX1_init 68 = .ok (.aload_n 0, 1) := dk_42 (dk_at dksX1_init_2 20 rfl rfl)
theorem dX1_init_69 : decode cX1_init 69 = .ok (.new 49, 3) := dk_187 0 49 (dk_at dksX1_init_2 21 rfl rfl)
theorem dX1_init_72 : decode cX1_init 72 = .ok (.dup, 1) := dk_89 (dk_at dksX1_init_3 0 rfl rfl)
theorem dX1_init_73 : decode cX1_init 73 = .ok (.invokespecial 51, 3) := dk_183 0 51 (dk_at dksX1_init_3 1 rfl rfl)
theorem dX1_init_76 : decode cX1_init 76 = .ok (.putfield 52, 3) := dk_181 0 52 (dk_at dksX1_init_3 4 rfl rfl)
theorem dX1_init_79 : decode cX1_init 79 = .ok (.aload_n 0, 1) := dk_42 (dk_at dksX1_init_3 7 rfl rfl)
theorem dX1_init_80 : decode cX1_init 80 = .ok (.new 49, 3) := dk_187 0 49 (dk_at dksX1_init_3 8 rfl rfl)
theorem dX1_init_83 : decode cX1_init 83 = .ok (.dup, 1) := dk_89 (dk_at dksX1_init_3 11 rfl rfl)
theorem dX1_init_84 : decode cX1_init 84 = .ok (.invokespecial 51, 3) := dk_183 0 51 (dk_at dksX1_init_3 12 rfl rfl)
theorem dX1_init_87 : decode cX1_init 87 = .ok (.putfield 56, 3) := dk_181 0 56 (dk_at dksX1_init_3 15 rfl rfl)
theorem dX1_init_90 : decode cX1_init 90 = .ok (.return_, 1) := dk_177 (dk_at dksX1_init_3 18 rfl rfl)
abbrev cX1_feed : ByteArray := prog_1_method_6_code
def yX1_feed : MethodName := ⟨RX1, "feed", "(IIIII)I"⟩
def dkwX1_feed_5 : List UInt8 := [180, 0, 59, 172]
abbrev dktX1_feed_5 : List UInt8 := dkwX1_feed_5 ++ []
def dkwX1_feed_4 : List UInt8 := [112, 104, 100, 122, 145, 84, 132, 6, 1, 167, 255, 172, 42, 89, 180, 0, 59, 16, 20, 96, 181, 0, 59, 42]
abbrev dktX1_feed_4 : List UInt8 := dkwX1_feed_4 ++ dktX1_feed_5
def dkwX1_feed_3 : List UInt8 := [21, 5, 54, 7, 42, 180, 0, 38, 42, 180, 0, 59, 21, 6, 96, 21, 7, 16, 24, 16, 8, 21, 6, 7]
abbrev dktX1_feed_3 : List UInt8 := dkwX1_feed_3 ++ dktX1_feed_4
def dkwX1_feed_2 : List UInt8 := [21, 6, 16, 12, 162, 0, 7, 29, 167, 0, 17, 21, 6, 16, 16, 162, 0, 8, 21, 4, 167, 0, 5]
abbrev dktX1_feed_2 : List UInt8 := dkwX1_feed_2 ++ dktX1_feed_3
def dkwX1_feed_1 : List UInt8 := [162, 0, 83, 21, 6, 7, 162, 0, 7, 27, 167, 0, 39, 21, 6, 16, 8, 162, 0, 7, 28, 167, 0, 28]
abbrev dktX1_feed_1 : List UInt8 := dkwX1_feed_1 ++ dktX1_feed_2
def dkwX1_feed_0 : List UInt8 := [42, 180, 0, 59, 16, 20, 96, 17, 2, 188, 164, 0, 5, 2, 172, 3, 54, 6, 21, 6, 16, 20]
abbrev dktX1_feed_0 : List UInt8 := dkwX1_feed_0 ++ dktX1_feed_1
theorem dksX1_feed_0 : cX1_feed.data.toList.drop 0 = dktX1_feed_0 := by decide +kernel
theorem dksX1_feed_1 : cX1_feed.data.toList.drop 22 = dktX1_feed_1 := dk_seg dksX1_feed_0 22 rfl rfl
theorem dksX1_feed_2 : cX1_feed.data.toList.drop 46 = dktX1_feed_2 := dk_seg dksX1_feed_1 24 rfl rfl
theorem dksX1_feed_3 : cX1_feed.data.toList.drop 69 = dktX1_feed_3 := dk_seg dksX1_feed_2 23 rfl rfl
theorem dksX1_feed_4 : cX1_feed.data.toList.drop 93 = dktX1_feed_4 := dk_seg dksX1_feed_3 24 rfl rfl
theorem dksX1_feed_5 : cX1_feed.data.toList.drop 117 = dktX1_feed_5 := dk_seg dksX1_feed_4 24 rfl rfl
theorem dX1_feed_0 : decode cX1_feed 0 = .ok (.aload_n 0, 1) := dk_42 (dk_at dksX1_feed_0 0 rfl rfl)
theorem dX1_feed_1 : decode cX1_feed 1 = .ok (.getfield 59, 3) := dk_180 0 59 (dk_at dksX1_feed_0 1 rfl rfl)
theorem dX1_feed_4 : decode cX1_feed 4 = .ok (.bipush 20, 2) := dk_16 20 (dk_at dksX1_feed_0 4 rfl rfl)
theorem dX1_feed_6 : decode cX1_feed 6 = .ok (.iadd, 1) := dk_96 (dk_at dksX1_feed_0 6 rfl rfl)
theorem dX1_feed_7 : decode cX1_feed 7 = .ok (.sipush 700, 3) := dk_17 2 188 (dk_at dksX1_feed_0 7 rfl rfl)
theorem dX1_feed_10 : decode cX1_feed 10 = .ok (.if_icmp .le 5, 3) := dk_164 0 5 (dk_at dksX1_feed_0 10 rfl rfl)
theorem dX1_feed_13 : decode cX1_feed 13 = .ok (.iconst (-1), 1) := dk_2 (dk_at dksX1_feed_0 13 rfl rfl)
theorem dX1_feed_14 : decode cX1_feed 14 = .ok (.ireturn, 1) := dk_172 (dk_at dksX1_feed_0 14 rfl rfl)
theorem dX1_feed_15 : decode cX1_feed 15 = .ok (.iconst 0, 1) := dk_3 (dk_at dksX1_feed_0 15 rfl rfl)
theorem dX1_feed_16 : decode cX1_feed 16 = .ok (.istore 6, 2) := dk_54 6 (dk_at dksX1_feed_0 16 rfl rfl)
theorem dX1_feed_18 : decode cX1_feed 18 = .ok (.iload 6, 2) := dk_21 6 (dk_at dksX1_feed_0 18 rfl rfl)
theorem dX1_feed_20 : decode cX1_feed 20 = .ok (.bipush 20, 2) := dk_16 20 (dk_at dksX1_feed_0 20 rfl rfl)
theorem dX1_feed_22 : decode cX1_feed 22 = .ok (.if_icmp .ge 83, 3) := dk_162 0 83 (dk_at dksX1_feed_1 0 rfl rfl)
theorem dX1_feed_25 : decode cX1_feed 25 = .ok (.iload 6, 2) := dk_21 6 (dk_at dksX1_feed_1 3 rfl rfl)
theorem dX1_feed_27 : decode cX1_feed 27 = .ok (.iconst 4, 1) := dk_7 (dk_at dksX1_feed_1 5 rfl rfl)
theorem dX1_feed_28 : decode cX1_feed 28 = .ok (.if_icmp .ge 7, 3) := dk_162 0 7 (dk_at dksX1_feed_1 6 rfl rfl)
theorem dX1_feed_31 : decode cX1_feed 31 = .ok (.iload_n 1, 1) := dk_27 (dk_at dksX1_feed_1 9 rfl rfl)
theorem dX1_feed_32 : decode cX1_feed 32 = .ok (.goto 39, 3) := dk_167 0 39 (dk_at dksX1_feed_1 10 rfl rfl)
theorem dX1_feed_35 : decode cX1_feed 35 = .ok (.iload 6, 2) := dk_21 6 (dk_at dksX1_feed_1 13 rfl rfl)
theorem dX1_feed_37 : decode cX1_feed 37 = .ok (.bipush 8, 2) := dk_16 8 (dk_at dksX1_feed_1 15 rfl rfl)
theorem dX1_feed_39 : decode cX1_feed 39 = .ok (.if_icmp .ge 7, 3) := dk_162 0 7 (dk_at dksX1_feed_1 17 rfl rfl)
theorem dX1_feed_42 : decode cX1_feed 42 = .ok (.iload_n 2, 1) := dk_28 (dk_at dksX1_feed_1 20 rfl rfl)
theorem dX1_feed_43 : decode cX1_feed 43 = .ok (.goto 28, 3) := dk_167 0 28 (dk_at dksX1_feed_1 21 rfl rfl)
theorem dX1_feed_46 : decode cX1_feed 46 = .ok (.iload 6, 2) := dk_21 6 (dk_at dksX1_feed_2 0 rfl rfl)
theorem dX1_feed_48 : decode cX1_feed 48 = .ok (.bipush 12, 2) := dk_16 12 (dk_at dksX1_feed_2 2 rfl rfl)
theorem dX1_feed_50 : decode cX1_feed 50 = .ok (.if_icmp .ge 7, 3) := dk_162 0 7 (dk_at dksX1_feed_2 4 rfl rfl)
theorem dX1_feed_53 : decode cX1_feed 53 = .ok (.iload_n 3, 1) := dk_29 (dk_at dksX1_feed_2 7 rfl rfl)
theorem dX1_feed_54 : decode cX1_feed 54 = .ok (.goto 17, 3) := dk_167 0 17 (dk_at dksX1_feed_2 8 rfl rfl)
theorem dX1_feed_57 : decode cX1_feed 57 = .ok (.iload 6, 2) := dk_21 6 (dk_at dksX1_feed_2 11 rfl rfl)
theorem dX1_feed_59 : decode cX1_feed 59 = .ok (.bipush 16, 2) := dk_16 16 (dk_at dksX1_feed_2 13 rfl rfl)
theorem dX1_feed_61 : decode cX1_feed 61 = .ok (.if_icmp .ge 8, 3) := dk_162 0 8 (dk_at dksX1_feed_2 15 rfl rfl)
theorem dX1_feed_64 : decode cX1_feed 64 = .ok (.iload 4, 2) := dk_21 4 (dk_at dksX1_feed_2 18 rfl rfl)
theorem dX1_feed_66 : decode cX1_feed 66 = .ok (.goto 5, 3) := dk_167 0 5 (dk_at dksX1_feed_2 20 rfl rfl)
theorem dX1_feed_69 : decode cX1_feed 69 = .ok (.iload 5, 2) := dk_21 5 (dk_at dksX1_feed_3 0 rfl rfl)
theorem dX1_feed_71 : decode cX1_feed 71 = .ok (.istore 7, 2) := dk_54 7 (dk_at dksX1_feed_3 2 rfl rfl)
theorem dX1_feed_73 : decode cX1_feed 73 = .ok (.aload_n 0, 1) := dk_42 (dk_at dksX1_feed_3 4 rfl rfl)
theorem dX1_feed_74 : decode cX1_feed 74 = .ok (.getfield 38, 3) := dk_180 0 38 (dk_at dksX1_feed_3 5 rfl rfl)
theorem dX1_feed_77 : decode cX1_feed 77 = .ok (.aload_n 0, 1) := dk_42 (dk_at dksX1_feed_3 8 rfl rfl)
theorem dX1_feed_78 : decode cX1_feed 78 = .ok (.getfield 59, 3) := dk_180 0 59 (dk_at dksX1_feed_3 9 rfl rfl)
theorem dX1_feed_81 : decode cX1_feed 81 = .ok (.iload 6, 2) := dk_21 6 (dk_at dksX1_feed_3 12 rfl rfl)
theorem dX1_feed_83 : decode cX1_feed 83 = .ok (.iadd, 1) := dk_96 (dk_at dksX1_feed_3 14 rfl rfl)
theorem dX1_feed_84 : decode cX1_feed 84 = .ok (.iload 7, 2) := dk_21 7 (dk_at dksX1_feed_3 15 rfl rfl)
theorem dX1_feed_86 : decode cX1_feed 86 = .ok (.bipush 24, 2) := dk_16 24 (dk_at dksX1_feed_3 17 rfl rfl)
theorem dX1_feed_88 : decode cX1_feed 88 = .ok (.bipush 8, 2) := dk_16 8 (dk_at dksX1_feed_3 19 rfl rfl)
theorem dX1_feed_90 : decode cX1_feed 90 = .ok (.iload 6, 2) := dk_21 6 (dk_at dksX1_feed_3 21 rfl rfl)
theorem dX1_feed_92 : decode cX1_feed 92 = .ok (.iconst 4, 1) := dk_7 (dk_at dksX1_feed_3 23 rfl rfl)
theorem dX1_feed_93 : decode cX1_feed 93 = .ok (.irem, 1) := dk_112 (dk_at dksX1_feed_4 0 rfl rfl)
theorem dX1_feed_94 : decode cX1_feed 94 = .ok (.imul, 1) := dk_104 (dk_at dksX1_feed_4 1 rfl rfl)
theorem dX1_feed_95 : decode cX1_feed 95 = .ok (.isub, 1) := dk_100 (dk_at dksX1_feed_4 2 rfl rfl)
theorem dX1_feed_96 : decode cX1_feed 96 = .ok (.ishr, 1) := dk_122 (dk_at dksX1_feed_4 3 rfl rfl)
theorem dX1_feed_97 : decode cX1_feed 97 = .ok (.i2b, 1) := dk_145 (dk_at dksX1_feed_4 4 rfl rfl)
theorem dX1_feed_98 : decode cX1_feed 98 = .ok (.bastore, 1) := dk_84 (dk_at dksX1_feed_4 5 rfl rfl)
theorem dX1_feed_99 : decode cX1_feed 99 = .ok (.iinc 6 1, 3) := dk_132 6 1 (dk_at dksX1_feed_4 6 rfl rfl)
theorem dX1_feed_102 : decode cX1_feed 102 = .ok (.goto (-84), 3) := dk_167 255 172 (dk_at dksX1_feed_4 9 rfl rfl)
theorem dX1_feed_105 : decode cX1_feed 105 = .ok (.aload_n 0, 1) := dk_42 (dk_at dksX1_feed_4 12 rfl rfl)
theorem dX1_feed_106 : decode cX1_feed 106 = .ok (.dup, 1) := dk_89 (dk_at dksX1_feed_4 13 rfl rfl)
theorem dX1_feed_107 : decode cX1_feed 107 = .ok (.getfield 59, 3) := dk_180 0 59 (dk_at dksX1_feed_4 14 rfl rfl)
theorem dX1_feed_110 : decode cX1_feed 110 = .ok (.bipush 20, 2) := dk_16 20 (dk_at dksX1_feed_4 17 rfl rfl)
theorem dX1_feed_112 : decode cX1_feed 112 = .ok (.iadd, 1) := dk_96 (dk_at dksX1_feed_4 19 rfl rfl)
theorem dX1_feed_113 : decode cX1_feed 113 = .ok (.putfield 59, 3) := dk_181 0 59 (dk_at dksX1_feed_4 20 rfl rfl)
theorem dX1_feed_116 : decode cX1_feed 116 = .ok (.aload_n 0, 1) := dk_42 (dk_at dksX1_feed_4 23 rfl rfl)
theorem dX1_feed_117 : decode cX1_feed 117 = .ok (.getfield 59, 3) := dk_180 0 59 (dk_at dksX1_feed_5 0 rfl rfl)
theorem dX1_feed_120 : decode cX1_feed 120 = .ok (.ireturn, 1) := dk_172 (dk_at dksX1_feed_5 3 rfl rfl)
abbrev cX1_fault : ByteArray := prog_1_method_8_code
def yX1_fault : MethodName := ⟨RX1, "fault", "()I"⟩
theorem dX1_fault_0 : decode cX1_fault 0 = .ok (.aload_n 0, 1) := by decide +kernel
theorem dX1_fault_1 : decode cX1_fault 1 = .ok (.getfield 42, 3) := by decide +kernel
theorem dX1_fault_4 : decode cX1_fault 4 = .ok (.ireturn, 1) := by decide +kernel
abbrev cX1_days : ByteArray := prog_1_method_24_code
def yX1_days : MethodName := ⟨RX1, "days", "(I)I"⟩
def dkwX1_days_2 : List UInt8 := [172]
abbrev dktX1_days_2 : List UInt8 := dkwX1_days_2 ++ []
def dkwX1_days_1 : List UInt8 := [164, 0, 9, 42, 4, 182, 0, 220, 172, 42, 182, 0, 223, 42, 180, 0, 31, 27, 182, 0, 226, 180, 0, 110]
abbrev dktX1_days_1 : List UInt8 := dkwX1_days_1 ++ dktX1_days_2
def dkwX1_days_0 : List UInt8 := [27, 4, 16, 20, 184, 0, 139, 153, 0, 18, 42, 180, 0, 31, 180, 0, 110, 27, 96, 17, 3, 231]
abbrev dktX1_days_0 : List UInt8 := dkwX1_days_0 ++ dktX1_days_1
theorem dksX1_days_0 : cX1_days.data.toList.drop 0 = dktX1_days_0 := by decide +kernel
theorem dksX1_days_1 : cX1_days.data.toList.drop 22 = dktX1_days_1 := dk_seg dksX1_days_0 22 rfl rfl
theorem dksX1_days_2 : cX1_days.data.toList.drop 46 = dktX1_days_2 := dk_seg dksX1_days_1 24 rfl rfl
theorem dX1_days_0 : decode cX1_days 0 = .ok (.iload_n 1, 1) := dk_27 (dk_at dksX1_days_0 0 rfl rfl)
theorem dX1_days_1 : decode cX1_days 1 = .ok (.iconst 1, 1) := dk_4 (dk_at dksX1_days_0 1 rfl rfl)
theorem dX1_days_2 : decode cX1_days 2 = .ok (.bipush 20, 2) := dk_16 20 (dk_at dksX1_days_0 2 rfl rfl)
theorem dX1_days_4 : decode cX1_days 4 = .ok (.invokestatic 139, 3) := dk_184 0 139 (dk_at dksX1_days_0 4 rfl rfl)
theorem dX1_days_7 : decode cX1_days 7 = .ok (.ifCond .eq 18, 3) := dk_153 0 18 (dk_at dksX1_days_0 7 rfl rfl)
theorem dX1_days_10 : decode cX1_days 10 = .ok (.aload_n 0, 1) := dk_42 (dk_at dksX1_days_0 10 rfl rfl)
theorem dX1_days_11 : decode cX1_days 11 = .ok (.getfield 31, 3) := dk_180 0 31 (dk_at dksX1_days_0 11 rfl rfl)
theorem dX1_days_14 : decode cX1_days 14 = .ok (.getfield 110, 3) := dk_180 0 110 (dk_at dksX1_days_0 14 rfl rfl)
theorem dX1_days_17 : decode cX1_days 17 = .ok (.iload_n 1, 1) := dk_27 (dk_at dksX1_days_0 17 rfl rfl)
theorem dX1_days_18 : decode cX1_days 18 = .ok (.iadd, 1) := dk_96 (dk_at dksX1_days_0 18 rfl rfl)
theorem dX1_days_19 : decode cX1_days 19 = .ok (.sipush 999, 3) := dk_17 3 231 (dk_at dksX1_days_0 19 rfl rfl)
theorem dX1_days_22 : decode cX1_days 22 = .ok (.if_icmp .le 9, 3) := dk_164 0 9 (dk_at dksX1_days_1 0 rfl rfl)
theorem dX1_days_25 : decode cX1_days 25 = .ok (.aload_n 0, 1) := dk_42 (dk_at dksX1_days_1 3 rfl rfl)
theorem dX1_days_26 : decode cX1_days 26 = .ok (.iconst 1, 1) := dk_4 (dk_at dksX1_days_1 4 rfl rfl)
theorem dX1_days_27 : decode cX1_days 27 = .ok (.invokevirtual 220, 3) := dk_182 0 220 (dk_at dksX1_days_1 5 rfl rfl)
theorem dX1_days_30 : decode cX1_days 30 = .ok (.ireturn, 1) := dk_172 (dk_at dksX1_days_1 8 rfl rfl)
theorem dX1_days_31 : decode cX1_days 31 = .ok (.aload_n 0, 1) := dk_42 (dk_at dksX1_days_1 9 rfl rfl)
theorem dX1_days_32 : decode cX1_days 32 = .ok (.invokevirtual 223, 3) := dk_182 0 223 (dk_at dksX1_days_1 10 rfl rfl)
theorem dX1_days_35 : decode cX1_days 35 = .ok (.aload_n 0, 1) := dk_42 (dk_at dksX1_days_1 13 rfl rfl)
theorem dX1_days_36 : decode cX1_days 36 = .ok (.getfield 31, 3) := dk_180 0 31 (dk_at dksX1_days_1 14 rfl rfl)
theorem dX1_days_39 : decode cX1_days 39 = .ok (.iload_n 1, 1) := dk_27 (dk_at dksX1_days_1 17 rfl rfl)
theorem dX1_days_40 : decode cX1_days 40 = .ok (.invokevirtual 226, 3) := dk_182 0 226 (dk_at dksX1_days_1 18 rfl rfl)
theorem dX1_days_43 : decode cX1_days 43 = .ok (.getfield 110, 3) := dk_180 0 110 (dk_at dksX1_days_1 21 rfl rfl)
theorem dX1_days_46 : decode cX1_days 46 = .ok (.ireturn, 1) := dk_172 (dk_at dksX1_days_2 0 rfl rfl)
abbrev cX1_in : ByteArray := prog_1_method_1_code
def yX1_in : MethodName := ⟨RX1, "in", "(III)Z"⟩
def dkwX1_in_0 : List UInt8 := [26, 27, 161, 0, 12, 26, 28, 163, 0, 7, 4, 167, 0, 4, 3, 172]
abbrev dktX1_in_0 : List UInt8 := dkwX1_in_0 ++ []
theorem dksX1_in_0 : cX1_in.data.toList.drop 0 = dktX1_in_0 := by decide +kernel
theorem dX1_in_0 : decode cX1_in 0 = .ok (.iload_n 0, 1) := dk_26 (dk_at dksX1_in_0 0 rfl rfl)
theorem dX1_in_1 : decode cX1_in 1 = .ok (.iload_n 1, 1) := dk_27 (dk_at dksX1_in_0 1 rfl rfl)
theorem dX1_in_2 : decode cX1_in 2 = .ok (.if_icmp .lt 12, 3) := dk_161 0 12 (dk_at dksX1_in_0 2 rfl rfl)
theorem dX1_in_5 : decode cX1_in 5 = .ok (.iload_n 0, 1) := dk_26 (dk_at dksX1_in_0 5 rfl rfl)
theorem dX1_in_6 : decode cX1_in 6 = .ok (.iload_n 2, 1) := dk_28 (dk_at dksX1_in_0 6 rfl rfl)
theorem dX1_in_7 : decode cX1_in 7 = .ok (.if_icmp .gt 7, 3) := dk_163 0 7 (dk_at dksX1_in_0 7 rfl rfl)
theorem dX1_in_10 : decode cX1_in 10 = .ok (.iconst 1, 1) := dk_4 (dk_at dksX1_in_0 10 rfl rfl)
theorem dX1_in_11 : decode cX1_in 11 = .ok (.goto 4, 3) := dk_167 0 4 (dk_at dksX1_in_0 11 rfl rfl)
theorem dX1_in_14 : decode cX1_in 14 = .ok (.iconst 0, 1) := dk_3 (dk_at dksX1_in_0 14 rfl rfl)
theorem dX1_in_15 : decode cX1_in 15 = .ok (.ireturn, 1) := dk_172 (dk_at dksX1_in_0 15 rfl rfl)
abbrev cX1_refuse : ByteArray := prog_1_method_23_code
def yX1_refuse : MethodName := ⟨RX1, "refuse", "(I)I"⟩
def dkwX1_refuse_0 : List UInt8 := [42, 180, 0, 46, 27, 92, 46, 4, 96, 79, 2, 172]
abbrev dktX1_refuse_0 : List UInt8 := dkwX1_refuse_0 ++ []
theorem dksX1_refuse_0 : cX1_refuse.data.toList.drop 0 = dktX1_refuse_0 := by decide +kernel
theorem dX1_refuse_0 : decode cX1_refuse 0 = .ok (.aload_n 0, 1) := dk_42 (dk_at dksX1_refuse_0 0 rfl rfl)
theorem dX1_refuse_1 : decode cX1_refuse 1 = .ok (.getfield 46, 3) := dk_180 0 46 (dk_at dksX1_refuse_0 1 rfl rfl)
theorem dX1_refuse_4 : decode cX1_refuse 4 = .ok (.iload_n 1, 1) := dk_27 (dk_at dksX1_refuse_0 4 rfl rfl)
theorem dX1_refuse_5 : decode cX1_refuse 5 = .ok (.dup2, 1) := dk_92 (dk_at dksX1_refuse_0 5 rfl rfl)
theorem dX1_refuse_6 : decode cX1_refuse 6 = .ok (.iaload, 1) := dk_46 (dk_at dksX1_refuse_0 6 rfl rfl)
theorem dX1_refuse_7 : decode cX1_refuse 7 = .ok (.iconst 1, 1) := dk_4 (dk_at dksX1_refuse_0 7 rfl rfl)
theorem dX1_refuse_8 : decode cX1_refuse 8 = .ok (.iadd, 1) := dk_96 (dk_at dksX1_refuse_0 8 rfl rfl)
theorem dX1_refuse_9 : decode cX1_refuse 9 = .ok (.iastore, 1) := dk_79 (dk_at dksX1_refuse_0 9 rfl rfl)
theorem dX1_refuse_10 : decode cX1_refuse 10 = .ok (.iconst (-1), 1) := dk_2 (dk_at dksX1_refuse_0 10 rfl rfl)
theorem dX1_refuse_11 : decode cX1_refuse 11 = .ok (.ireturn, 1) := dk_172 (dk_at dksX1_refuse_0 11 rfl rfl)
abbrev cX1_keep : ByteArray := prog_1_method_22_code
def yX1_keep : MethodName := ⟨RX1, "keep", "()V"⟩
def dkwX1_keep_1 : List UInt8 := [185, 0, 134, 1, 0, 16, 40, 164, 0, 14, 42, 180, 0, 52, 3, 185, 0, 217, 2, 0, 87, 177]
abbrev dktX1_keep_1 : List UInt8 := dkwX1_keep_1 ++ []
def dkwX1_keep_0 : List UInt8 := [42, 180, 0, 52, 42, 180, 0, 31, 182, 0, 209, 185, 0, 213, 2, 0, 87, 42, 180, 0, 52]
abbrev dktX1_keep_0 : List UInt8 := dkwX1_keep_0 ++ dktX1_keep_1
theorem dksX1_keep_0 : cX1_keep.data.toList.drop 0 = dktX1_keep_0 := by decide +kernel
theorem dksX1_keep_1 : cX1_keep.data.toList.drop 21 = dktX1_keep_1 := dk_seg dksX1_keep_0 21 rfl rfl
theorem dX1_keep_0 : decode cX1_keep 0 = .ok (.aload_n 0, 1) := dk_42 (dk_at dksX1_keep_0 0 rfl rfl)
theorem dX1_keep_1 : decode cX1_keep 1 = .ok (.getfield 52, 3) := dk_180 0 52 (dk_at dksX1_keep_0 1 rfl rfl)
theorem dX1_keep_4 : decode cX1_keep 4 = .ok (.aload_n 0, 1) := dk_42 (dk_at dksX1_keep_0 4 rfl rfl)
theorem dX1_keep_5 : decode cX1_keep 5 = .ok (.getfield 31, 3) := dk_180 0 31 (dk_at dksX1_keep_0 5 rfl rfl)
theorem dX1_keep_8 : decode cX1_keep 8 = .ok (.invokevirtual 209, 3) := dk_182 0 209 (dk_at dksX1_keep_0 8 rfl rfl)
theorem dX1_keep_11 : decode cX1_keep 11 = .ok (.invokeinterface 213 2, 5) := by decide +kernel
theorem dX1_keep_16 : decode cX1_keep 16 = .ok (.pop, 1) := dk_87 (dk_at dksX1_keep_0 16 rfl rfl)
theorem dX1_keep_17 : decode cX1_keep 17 = .ok (.aload_n 0, 1) := dk_42 (dk_at dksX1_keep_0 17 rfl rfl)
theorem dX1_keep_18 : decode cX1_keep 18 = .ok (.getfield 52, 3) := dk_180 0 52 (dk_at dksX1_keep_0 18 rfl rfl)
theorem dX1_keep_21 : decode cX1_keep 21 = .ok (.invokeinterface 134 1, 5) := by decide +kernel
theorem dX1_keep_26 : decode cX1_keep 26 = .ok (.bipush 40, 2) := dk_16 40 (dk_at dksX1_keep_1 5 rfl rfl)
theorem dX1_keep_28 : decode cX1_keep 28 = .ok (.if_icmp .le 14, 3) := dk_164 0 14 (dk_at dksX1_keep_1 7 rfl rfl)
theorem dX1_keep_31 : decode cX1_keep 31 = .ok (.aload_n 0, 1) := dk_42 (dk_at dksX1_keep_1 10 rfl rfl)
theorem dX1_keep_32 : decode cX1_keep 32 = .ok (.getfield 52, 3) := dk_180 0 52 (dk_at dksX1_keep_1 11 rfl rfl)
theorem dX1_keep_35 : decode cX1_keep 35 = .ok (.iconst 0, 1) := dk_3 (dk_at dksX1_keep_1 14 rfl rfl)
theorem dX1_keep_36 : decode cX1_keep 36 = .ok (.invokeinterface 217 2, 5) := by decide +kernel
theorem dX1_keep_41 : decode cX1_keep 41 = .ok (.pop, 1) := dk_87 (dk_at dksX1_keep_1 20 rfl rfl)
theorem dX1_keep_42 : decode cX1_keep 42 = .ok (.return_, 1) := dk_177 (dk_at dksX1_keep_1 21 rfl rfl)
abbrev cX1_letIn : ByteArray := prog_1_method_29_code
def yX1_letIn : MethodName := ⟨RX1, "letIn", "()I"⟩
def dkwX1_letIn_1 : List UInt8 := [182, 0, 113, 60, 42, 180, 0, 31, 4, 181, 0, 236, 27, 172]
abbrev dktX1_letIn_1 : List UInt8 := dkwX1_letIn_1 ++ []
def dkwX1_letIn_0 : List UInt8 := [42, 180, 0, 31, 180, 0, 236, 153, 0, 9, 42, 4, 182, 0, 220, 172, 42, 182, 0, 223, 42, 180, 0, 31]
abbrev dktX1_letIn_0 : List UInt8 := dkwX1_letIn_0 ++ dktX1_letIn_1
theorem dksX1_letIn_0 : cX1_letIn.data.toList.drop 0 = dktX1_letIn_0 := by decide +kernel
theorem dksX1_letIn_1 : cX1_letIn.data.toList.drop 24 = dktX1_letIn_1 := dk_seg dksX1_letIn_0 24 rfl rfl
theorem dX1_letIn_0 : decode cX1_letIn 0 = .ok (.aload_n 0, 1) := dk_42 (dk_at dksX1_letIn_0 0 rfl rfl)
theorem dX1_letIn_1 : decode cX1_letIn 1 = .ok (.getfield 31, 3) := dk_180 0 31 (dk_at dksX1_letIn_0 1 rfl rfl)
theorem dX1_letIn_4 : decode cX1_letIn 4 = .ok (.getfield 236, 3) := dk_180 0 236 (dk_at dksX1_letIn_0 4 rfl rfl)
theorem dX1_letIn_7 : decode cX1_letIn 7 = .ok (.ifCond .eq 9, 3) := dk_153 0 9 (dk_at dksX1_letIn_0 7 rfl rfl)
theorem dX1_letIn_10 : decode cX1_letIn 10 = .ok (.aload_n 0, 1) := dk_42 (dk_at dksX1_letIn_0 10 rfl rfl)
theorem dX1_letIn_11 : decode cX1_letIn 11 = .ok (.iconst 1, 1) := dk_4 (dk_at dksX1_letIn_0 11 rfl rfl)
theorem dX1_letIn_12 : decode cX1_letIn 12 = .ok (.invokevirtual 220, 3) := dk_182 0 220 (dk_at dksX1_letIn_0 12 rfl rfl)
theorem dX1_letIn_15 : decode cX1_letIn 15 = .ok (.ireturn, 1) := dk_172 (dk_at dksX1_letIn_0 15 rfl rfl)
theorem dX1_letIn_16 : decode cX1_letIn 16 = .ok (.aload_n 0, 1) := dk_42 (dk_at dksX1_letIn_0 16 rfl rfl)
theorem dX1_letIn_17 : decode cX1_letIn 17 = .ok (.invokevirtual 223, 3) := dk_182 0 223 (dk_at dksX1_letIn_0 17 rfl rfl)
theorem dX1_letIn_20 : decode cX1_letIn 20 = .ok (.aload_n 0, 1) := dk_42 (dk_at dksX1_letIn_0 20 rfl rfl)
theorem dX1_letIn_21 : decode cX1_letIn 21 = .ok (.getfield 31, 3) := dk_180 0 31 (dk_at dksX1_letIn_0 21 rfl rfl)
theorem dX1_letIn_24 : decode cX1_letIn 24 = .ok (.invokevirtual 113, 3) := dk_182 0 113 (dk_at dksX1_letIn_1 0 rfl rfl)
theorem dX1_letIn_27 : decode cX1_letIn 27 = .ok (.istore_n 1, 1) := dk_60 (dk_at dksX1_letIn_1 3 rfl rfl)
theorem dX1_letIn_28 : decode cX1_letIn 28 = .ok (.aload_n 0, 1) := dk_42 (dk_at dksX1_letIn_1 4 rfl rfl)
theorem dX1_letIn_29 : decode cX1_letIn 29 = .ok (.getfield 31, 3) := dk_180 0 31 (dk_at dksX1_letIn_1 5 rfl rfl)
theorem dX1_letIn_32 : decode cX1_letIn 32 = .ok (.iconst 1, 1) := dk_4 (dk_at dksX1_letIn_1 8 rfl rfl)
theorem dX1_letIn_33 : decode cX1_letIn 33 = .ok (.putfield 236, 3) := dk_181 0 236 (dk_at dksX1_letIn_1 9 rfl rfl)
theorem dX1_letIn_36 : decode cX1_letIn 36 = .ok (.iload_n 1, 1) := dk_27 (dk_at dksX1_letIn_1 12 rfl rfl)
theorem dX1_letIn_37 : decode cX1_letIn 37 = .ok (.ireturn, 1) := dk_172 (dk_at dksX1_letIn_1 13 rfl rfl)
abbrev cX1_undo : ByteArray := prog_1_method_30_code
def yX1_undo : MethodName := ⟨RX1, "undo", "()I"⟩
def dkwX1_undo_2 : List UInt8 := [180, 0, 52, 185, 0, 134, 1, 0, 172]
abbrev dktX1_undo_2 : List UInt8 := dkwX1_undo_2 ++ []
def dkwX1_undo_1 : List UInt8 := [185, 0, 134, 1, 0, 4, 100, 185, 0, 217, 2, 0, 192, 0, 26, 182, 0, 209, 181, 0, 31, 42]
abbrev dktX1_undo_1 : List UInt8 := dkwX1_undo_1 ++ dktX1_undo_2
def dkwX1_undo_0 : List UInt8 := [42, 180, 0, 52, 185, 0, 240, 1, 0, 153, 0, 5, 2, 172, 42, 42, 180, 0, 52, 42, 180, 0, 52]
abbrev dktX1_undo_0 : List UInt8 := dkwX1_undo_0 ++ dktX1_undo_1
theorem dksX1_undo_0 : cX1_undo.data.toList.drop 0 = dktX1_undo_0 := by decide +kernel
theorem dksX1_undo_1 : cX1_undo.data.toList.drop 23 = dktX1_undo_1 := dk_seg dksX1_undo_0 23 rfl rfl
theorem dksX1_undo_2 : cX1_undo.data.toList.drop 45 = dktX1_undo_2 := dk_seg dksX1_undo_1 22 rfl rfl
theorem dX1_undo_0 : decode cX1_undo 0 = .ok (.aload_n 0, 1) := dk_42 (dk_at dksX1_undo_0 0 rfl rfl)
theorem dX1_undo_1 : decode cX1_undo 1 = .ok (.getfield 52, 3) := dk_180 0 52 (dk_at dksX1_undo_0 1 rfl rfl)
theorem dX1_undo_4 : decode cX1_undo 4 = .ok (.invokeinterface 240 1, 5) := by decide +kernel
theorem dX1_undo_9 : decode cX1_undo 9 = .ok (.ifCond .eq 5, 3) := dk_153 0 5 (dk_at dksX1_undo_0 9 rfl rfl)
theorem dX1_undo_12 : decode cX1_undo 12 = .ok (.iconst (-1), 1) := dk_2 (dk_at dksX1_undo_0 12 rfl rfl)
theorem dX1_undo_13 : decode cX1_undo 13 = .ok (.ireturn, 1) := dk_172 (dk_at dksX1_undo_0 13 rfl rfl)
theorem dX1_undo_14 : decode cX1_undo 14 = .ok (.aload_n 0, 1) := dk_42 (dk_at dksX1_undo_0 14 rfl rfl)
theorem dX1_undo_15 : decode cX1_undo 15 = .ok (.aload_n 0, 1) := dk_42 (dk_at dksX1_undo_0 15 rfl rfl)
theorem dX1_undo_16 : decode cX1_undo 16 = .ok (.getfield 52, 3) := dk_180 0 52 (dk_at dksX1_undo_0 16 rfl rfl)
theorem dX1_undo_19 : decode cX1_undo 19 = .ok (.aload_n 0, 1) := dk_42 (dk_at dksX1_undo_0 19 rfl rfl)
theorem dX1_undo_20 : decode cX1_undo 20 = .ok (.getfield 52, 3) := dk_180 0 52 (dk_at dksX1_undo_0 20 rfl rfl)
theorem dX1_undo_23 : decode cX1_undo 23 = .ok (.invokeinterface 134 1, 5) := by decide +kernel
theorem dX1_undo_28 : decode cX1_undo 28 = .ok (.iconst 1, 1) := dk_4 (dk_at dksX1_undo_1 5 rfl rfl)
theorem dX1_undo_29 : decode cX1_undo 29 = .ok (.isub, 1) := dk_100 (dk_at dksX1_undo_1 6 rfl rfl)
theorem dX1_undo_30 : decode cX1_undo 30 = .ok (.invokeinterface 217 2, 5) := by decide +kernel
theorem dX1_undo_35 : decode cX1_undo 35 = .ok (.checkcast 26, 3) := dk_192 0 26 (dk_at dksX1_undo_1 12 rfl rfl)
theorem dX1_undo_38 : decode cX1_undo 38 = .ok (.invokevirtual 209, 3) := dk_182 0 209 (dk_at dksX1_undo_1 15 rfl rfl)
theorem dX1_undo_41 : decode cX1_undo 41 = .ok (.putfield 31, 3) := dk_181 0 31 (dk_at dksX1_undo_1 18 rfl rfl)
theorem dX1_undo_44 : decode cX1_undo 44 = .ok (.aload_n 0, 1) := dk_42 (dk_at dksX1_undo_1 21 rfl rfl)
theorem dX1_undo_45 : decode cX1_undo 45 = .ok (.getfield 52, 3) := dk_180 0 52 (dk_at dksX1_undo_2 0 rfl rfl)
theorem dX1_undo_48 : decode cX1_undo 48 = .ok (.invokeinterface 134 1, 5) := by decide +kernel
theorem dX1_undo_53 : decode cX1_undo 53 = .ok (.ireturn, 1) := dk_172 (dk_at dksX1_undo_2 8 rfl rfl)
abbrev cX1_forget : ByteArray := prog_1_method_57_code
def yX1_forget : MethodName := ⟨RX1, "forget", "()V"⟩
def dkwX1_forget_0 : List UInt8 := [42, 187, 0, 49, 89, 183, 0, 51, 181, 0, 56, 177]
abbrev dktX1_forget_0 : List UInt8 := dkwX1_forget_0 ++ []
theorem dksX1_forget_0 : cX1_forget.data.toList.drop 0 = dktX1_forget_0 := by decide +kernel
theorem dX1_forget_0 : decode cX1_forget 0 = .ok (.aload_n 0, 1) := dk_42 (dk_at dksX1_forget_0 0 rfl rfl)
theorem dX1_forget_1 : decode cX1_forget 1 = .ok (.new 49, 3) := dk_187 0 49 (dk_at dksX1_forget_0 1 rfl rfl)
theorem dX1_forget_4 : decode cX1_forget 4 = .ok (.dup, 1) := dk_89 (dk_at dksX1_forget_0 4 rfl rfl)
theorem dX1_forget_5 : decode cX1_forget 5 = .ok (.invokespecial 51, 3) := dk_183 0 51 (dk_at dksX1_forget_0 5 rfl rfl)
theorem dX1_forget_8 : decode cX1_forget 8 = .ok (.putfield 56, 3) := dk_181 0 56 (dk_at dksX1_forget_0 8 rfl rfl)
theorem dX1_forget_11 : decode cX1_forget 11 = .ok (.return_, 1) := dk_177 (dk_at dksX1_forget_0 11 rfl rfl)
abbrev cX1_image : ByteArray := prog_1_method_79_code
def yX1_image : MethodName := ⟨RX1, "image", "()V"⟩
def dkwX1_image_1 : List UInt8 := [181, 1, 64, 42, 187, 0, 49, 89, 42, 180, 0, 56, 183, 1, 61, 181, 1, 67, 177]
abbrev dktX1_image_1 : List UInt8 := dkwX1_image_1 ++ []
def dkwX1_image_0 : List UInt8 := [42, 42, 180, 0, 31, 182, 0, 209, 181, 0, 86, 42, 187, 0, 49, 89, 42, 180, 0, 52, 183, 1, 61]
abbrev dktX1_image_0 : List UInt8 := dkwX1_image_0 ++ dktX1_image_1
theorem dksX1_image_0 : cX1_image.data.toList.drop 0 = dktX1_image_0 := by decide +kernel
theorem dksX1_image_1 : cX1_image.data.toList.drop 23 = dktX1_image_1 := dk_seg dksX1_image_0 23 rfl rfl
theorem dX1_image_0 : decode cX1_image 0 = .ok (.aload_n 0, 1) := dk_42 (dk_at dksX1_image_0 0 rfl rfl)
theorem dX1_image_1 : decode cX1_image 1 = .ok (.aload_n 0, 1) := dk_42 (dk_at dksX1_image_0 1 rfl rfl)
theorem dX1_image_2 : decode cX1_image 2 = .ok (.getfield 31, 3) := dk_180 0 31 (dk_at dksX1_image_0 2 rfl rfl)
theorem dX1_image_5 : decode cX1_image 5 = .ok (.invokevirtual 209, 3) := dk_182 0 209 (dk_at dksX1_image_0 5 rfl rfl)
theorem dX1_image_8 : decode cX1_image 8 = .ok (.putfield 86, 3) := dk_181 0 86 (dk_at dksX1_image_0 8 rfl rfl)
theorem dX1_image_11 : decode cX1_image 11 = .ok (.aload_n 0, 1) := dk_42 (dk_at dksX1_image_0 11 rfl rfl)
theorem dX1_image_12 : decode cX1_image 12 = .ok (.new 49, 3) := dk_187 0 49 (dk_at dksX1_image_0 12 rfl rfl)
theorem dX1_image_15 : decode cX1_image 15 = .ok (.dup, 1) := dk_89 (dk_at dksX1_image_0 15 rfl rfl)
theorem dX1_image_16 : decode cX1_image 16 = .ok (.aload_n 0, 1) := dk_42 (dk_at dksX1_image_0 16 rfl rfl)
theorem dX1_image_17 : decode cX1_image 17 = .ok (.getfield 52, 3) := dk_180 0 52 (dk_at dksX1_image_0 17 rfl rfl)
theorem dX1_image_20 : decode cX1_image 20 = .ok (.invokespecial 317, 3) := dk_183 1 61 (dk_at dksX1_image_0 20 rfl rfl)
theorem dX1_image_23 : decode cX1_image 23 = .ok (.putfield 320, 3) := dk_181 1 64 (dk_at dksX1_image_1 0 rfl rfl)
theorem dX1_image_26 : decode cX1_image 26 = .ok (.aload_n 0, 1) := dk_42 (dk_at dksX1_image_1 3 rfl rfl)
theorem dX1_image_27 : decode cX1_image 27 = .ok (.new 49, 3) := dk_187 0 49 (dk_at dksX1_image_1 4 rfl rfl)
theorem dX1_image_30 : decode cX1_image 30 = .ok (.dup, 1) := dk_89 (dk_at dksX1_image_1 7 rfl rfl)
theorem dX1_image_31 : decode cX1_image 31 = .ok (.aload_n 0, 1) := dk_42 (dk_at dksX1_image_1 8 rfl rfl)
theorem dX1_image_32 : decode cX1_image 32 = .ok (.getfield 56, 3) := dk_180 0 56 (dk_at dksX1_image_1 9 rfl rfl)
theorem dX1_image_35 : decode cX1_image 35 = .ok (.invokespecial 317, 3) := dk_183 1 61 (dk_at dksX1_image_1 12 rfl rfl)
theorem dX1_image_38 : decode cX1_image 38 = .ok (.putfield 323, 3) := dk_181 1 67 (dk_at dksX1_image_1 15 rfl rfl)
theorem dX1_image_41 : decode cX1_image 41 = .ok (.return_, 1) := dk_177 (dk_at dksX1_image_1 18 rfl rfl)
abbrev cX1_restore : ByteArray := prog_1_method_80_code
def yX1_restore : MethodName := ⟨RX1, "restore", "()Z"⟩
def dkwX1_restore_2 : List UInt8 := [181, 0, 56, 4, 172]
abbrev dktX1_restore_2 : List UInt8 := dkwX1_restore_2 ++ []
def dkwX1_restore_1 : List UInt8 := [89, 42, 180, 1, 64, 183, 1, 61, 181, 0, 52, 42, 187, 0, 49, 89, 42, 180, 1, 67, 183, 1, 61]
abbrev dktX1_restore_1 : List UInt8 := dkwX1_restore_1 ++ dktX1_restore_2
def dkwX1_restore_0 : List UInt8 := [42, 180, 0, 86, 199, 0, 5, 3, 172, 42, 42, 180, 0, 86, 182, 0, 209, 181, 0, 31, 42, 187, 0, 49]
abbrev dktX1_restore_0 : List UInt8 := dkwX1_restore_0 ++ dktX1_restore_1
theorem dksX1_restore_0 : cX1_restore.data.toList.drop 0 = dktX1_restore_0 := by decide +kernel
theorem dksX1_restore_1 : cX1_restore.data.toList.drop 24 = dktX1_restore_1 := dk_seg dksX1_restore_0 24 rfl rfl
theorem dksX1_restore_2 : cX1_restore.data.toList.drop 47 = dktX1_restore_2 := dk_seg dksX1_restore_1 23 rfl rfl
theorem dX1_restore_0 : decode cX1_restore 0 = .ok (.aload_n 0, 1) := dk_42 (dk_at dksX1_restore_0 0 rfl rfl)
theorem dX1_restore_1 : decode cX1_restore 1 = .ok (.getfield 86, 3) := dk_180 0 86 (dk_at dksX1_restore_0 1 rfl rfl)
theorem dX1_restore_4 : decode cX1_restore 4 = .ok (.ifnonnull 5, 3) := dk_199 0 5 (dk_at dksX1_restore_0 4 rfl rfl)
theorem dX1_restore_7 : decode cX1_restore 7 = .ok (.iconst 0, 1) := dk_3 (dk_at dksX1_restore_0 7 rfl rfl)
theorem dX1_restore_8 : decode cX1_restore 8 = .ok (.ireturn, 1) := dk_172 (dk_at dksX1_restore_0 8 rfl rfl)
theorem dX1_restore_9 : decode cX1_restore 9 = .ok (.aload_n 0, 1) := dk_42 (dk_at dksX1_restore_0 9 rfl rfl)
theorem dX1_restore_10 : decode cX1_restore 10 = .ok (.aload_n 0, 1) := dk_42 (dk_at dksX1_restore_0 10 rfl rfl)
theorem dX1_restore_11 : decode cX1_restore 11 = .ok (.getfield 86, 3) := dk_180 0 86 (dk_at dksX1_restore_0 11 rfl rfl)
theorem dX1_restore_14 : decode cX1_restore 14 = .ok (.invokevirtual 209, 3) := dk_182 0 209 (dk_at dksX1_restore_0 14 rfl rfl)
theorem dX1_restore_17 : decode cX1_restore 17 = .ok (.putfield 31, 3) := dk_181 0 31 (dk_at dksX1_restore_0 17 rfl rfl)
theorem dX1_restore_20 : decode cX1_restore 20 = .ok (.aload_n 0, 1) := dk_42 (dk_at dksX1_restore_0 20 rfl rfl)
theorem dX1_restore_21 : decode cX1_restore 21 = .ok (.new 49, 3) := dk_187 0 49 (dk_at dksX1_restore_0 21 rfl rfl)
theorem dX1_restore_24 : decode cX1_restore 24 = .ok (.dup, 1) := dk_89 (dk_at dksX1_restore_1 0 rfl rfl)
theorem dX1_restore_25 : decode cX1_restore 25 = .ok (.aload_n 0, 1) := dk_42 (dk_at dksX1_restore_1 1 rfl rfl)
theorem dX1_restore_26 : decode cX1_restore 26 = .ok (.getfield 320, 3) := dk_180 1 64 (dk_at dksX1_restore_1 2 rfl rfl)
theorem dX1_restore_29 : decode cX1_restore 29 = .ok (.invokespecial 317, 3) := dk_183 1 61 (dk_at dksX1_restore_1 5 rfl rfl)
theorem dX1_restore_32 : decode cX1_restore 32 = .ok (.putfield 52, 3) := dk_181 0 52 (dk_at dksX1_restore_1 8 rfl rfl)
theorem dX1_restore_35 : decode cX1_restore 35 = .ok (.aload_n 0, 1) := dk_42 (dk_at dksX1_restore_1 11 rfl rfl)
theorem dX1_restore_36 : decode cX1_restore 36 = .ok (.new 49, 3) := dk_187 0 49 (dk_at dksX1_restore_1 12 rfl rfl)
theorem dX1_restore_39 : decode cX1_restore 39 = .ok (.dup, 1) := dk_89 (dk_at dksX1_restore_1 15 rfl rfl)
theorem dX1_restore_40 : decode cX1_restore 40 = .ok (.aload_n 0, 1) := dk_42 (dk_at dksX1_restore_1 16 rfl rfl)
theorem dX1_restore_41 : decode cX1_restore 41 = .ok (.getfield 323, 3) := dk_180 1 67 (dk_at dksX1_restore_1 17 rfl rfl)
theorem dX1_restore_44 : decode cX1_restore 44 = .ok (.invokespecial 317, 3) := dk_183 1 61 (dk_at dksX1_restore_1 20 rfl rfl)
theorem dX1_restore_47 : decode cX1_restore 47 = .ok (.putfield 56, 3) := dk_181 0 56 (dk_at dksX1_restore_2 0 rfl rfl)
theorem dX1_restore_50 : decode cX1_restore 50 = .ok (.iconst 1, 1) := dk_4 (dk_at dksX1_restore_2 3 rfl rfl)
theorem dX1_restore_51 : decode cX1_restore 51 = .ok (.ireturn, 1) := dk_172 (dk_at dksX1_restore_2 4 rfl rfl)
abbrev cX1_town : ByteArray := prog_1_method_7_code
def yX1_town : MethodName := ⟨RX1, "town", "(I)I"⟩
def dkwX1_town_4 : List UInt8 := [181, 0, 52, 42, 187, 0, 49, 89, 183, 0, 51, 181, 0, 56, 42, 1, 181, 0, 86, 3, 172]
abbrev dktX1_town_4 : List UInt8 := dkwX1_town_4 ++ []
def dkwX1_town_3 : List UInt8 := [79, 45, 180, 0, 80, 172, 42, 44, 180, 0, 83, 181, 0, 31, 42, 187, 0, 49, 89, 183, 0, 51]
abbrev dktX1_town_3 : List UInt8 := dkwX1_town_3 ++ dktX1_town_4
def dkwX1_town_2 : List UInt8 := [181, 0, 22, 167, 0, 27, 78, 42, 44, 180, 0, 77, 181, 0, 42, 42, 180, 0, 46, 3, 92, 46, 4, 96]
abbrev dktX1_town_2 : List UInt8 := dkwX1_town_2 ++ dktX1_town_3
def dkwX1_town_1 : List UInt8 := [181, 0, 59, 42, 2, 181, 0, 42, 187, 0, 66, 89, 42, 27, 183, 0, 68, 77, 42, 44, 182, 0, 71]
abbrev dktX1_town_1 : List UInt8 := dkwX1_town_1 ++ dktX1_town_2
def dkwX1_town_0 : List UInt8 := [27, 155, 0, 15, 27, 42, 180, 0, 59, 163, 0, 7, 4, 167, 0, 4, 3, 184, 0, 62, 42, 3]
abbrev dktX1_town_0 : List UInt8 := dkwX1_town_0 ++ dktX1_town_1
theorem dksX1_town_0 : cX1_town.data.toList.drop 0 = dktX1_town_0 := by decide +kernel
theorem dksX1_town_1 : cX1_town.data.toList.drop 22 = dktX1_town_1 := dk_seg dksX1_town_0 22 rfl rfl
theorem dksX1_town_2 : cX1_town.data.toList.drop 45 = dktX1_town_2 := dk_seg dksX1_town_1 23 rfl rfl
theorem dksX1_town_3 : cX1_town.data.toList.drop 69 = dktX1_town_3 := dk_seg dksX1_town_2 24 rfl rfl
theorem dksX1_town_4 : cX1_town.data.toList.drop 91 = dktX1_town_4 := dk_seg dksX1_town_3 22 rfl rfl
theorem dX1_town_0 : decode cX1_town 0 = .ok (.iload_n 1, 1) := dk_27 (dk_at dksX1_town_0 0 rfl rfl)
theorem dX1_town_1 : decode cX1_town 1 = .ok (.ifCond .lt 15, 3) := dk_155 0 15 (dk_at dksX1_town_0 1 rfl rfl)
theorem dX1_town_4 : decode cX1_town 4 = .ok (.iload_n 1, 1) := dk_27 (dk_at dksX1_town_0 4 rfl rfl)
theorem dX1_town_5 : decode cX1_town 5 = .ok (.aload_n 0, 1) := dk_42 (dk_at dksX1_town_0 5 rfl rfl)
theorem dX1_town_6 : decode cX1_town 6 = .ok (.getfield 59, 3) := dk_180 0 59 (dk_at dksX1_town_0 6 rfl rfl)
theorem dX1_town_9 : decode cX1_town 9 = .ok (.if_icmp .gt 7, 3) := dk_163 0 7 (dk_at dksX1_town_0 9 rfl rfl)
theorem dX1_town_12 : decode cX1_town 12 = .ok (.iconst 1, 1) := dk_4 (dk_at dksX1_town_0 12 rfl rfl)
theorem dX1_town_13 : decode cX1_town 13 = .ok (.goto 4, 3) := dk_167 0 4 (dk_at dksX1_town_0 13 rfl rfl)
theorem dX1_town_16 : decode cX1_town 16 = .ok (.iconst 0, 1) := dk_3 (dk_at dksX1_town_0 16 rfl rfl)
theorem dX1_town_17 : decode cX1_town 17 = .ok (.invokestatic 62, 3) := dk_184 0 62 (dk_at dksX1_town_0 17 rfl rfl)
theorem dX1_town_20 : decode cX1_town 20 = .ok (.aload_n 0, 1) := dk_42 (dk_at dksX1_town_0 20 rfl rfl)
theorem dX1_town_21 : decode cX1_town 21 = .ok (.iconst 0, 1) := dk_3 (dk_at dksX1_town_0 21 rfl rfl)
theorem dX1_town_22 : decode cX1_town 22 = .ok (.putfield 59, 3) := dk_181 0 59 (dk_at dksX1_town_1 0 rfl rfl)
theorem dX1_town_25 : decode cX1_town 25 = .ok (.aload_n 0, 1) := dk_42 (dk_at dksX1_town_1 3 rfl rfl)
theorem dX1_town_26 : decode cX1_town 26 = .ok (.iconst (-1), 1) := dk_2 (dk_at dksX1_town_1 4 rfl rfl)
theorem dX1_town_27 : decode cX1_town 27 = .ok (.putfield 42, 3) := dk_181 0 42 (dk_at dksX1_town_1 5 rfl rfl)
theorem dX1_town_30 : decode cX1_town 30 = .ok (.new 66, 3) := dk_187 0 66 (dk_at dksX1_town_1 8 rfl rfl)
theorem dX1_town_33 : decode cX1_town 33 = .ok (.dup, 1) := dk_89 (dk_at dksX1_town_1 11 rfl rfl)
theorem dX1_town_34 : decode cX1_town 34 = .ok (.aload_n 0, 1) := dk_42 (dk_at dksX1_town_1 12 rfl rfl)
theorem dX1_town_35 : decode cX1_town 35 = .ok (.iload_n 1, 1) := dk_27 (dk_at dksX1_town_1 13 rfl rfl)
theorem dX1_town_36 : decode cX1_town 36 = .ok (.invokespecial 68, 3) := dk_183 0 68 (dk_at dksX1_town_1 14 rfl rfl)
theorem dX1_town_39 : decode cX1_town 39 = .ok (.astore_n 2, 1) := dk_77 (dk_at dksX1_town_1 17 rfl rfl)
theorem dX1_town_40 : decode cX1_town 40 = .ok (.aload_n 0, 1) := dk_42 (dk_at dksX1_town_1 18 rfl rfl)
theorem dX1_town_41 : decode cX1_town 41 = .ok (.aload_n 2, 1) := dk_44 (dk_at dksX1_town_1 19 rfl rfl)
theorem dX1_town_42 : decode cX1_town 42 = .ok (.invokevirtual 71, 3) := dk_182 0 71 (dk_at dksX1_town_1 20 rfl rfl)
theorem dX1_town_45 : decode cX1_town 45 = .ok (.putfield 22, 3) := dk_181 0 22 (dk_at dksX1_town_2 0 rfl rfl)
theorem dX1_town_48 : decode cX1_town 48 = .ok (.goto 27, 3) := dk_167 0 27 (dk_at dksX1_town_2 3 rfl rfl)
theorem dX1_town_51 : decode cX1_town 51 = .ok (.astore_n 3, 1) := dk_78 (dk_at dksX1_town_2 6 rfl rfl)
theorem dX1_town_52 : decode cX1_town 52 = .ok (.aload_n 0, 1) := dk_42 (dk_at dksX1_town_2 7 rfl rfl)
theorem dX1_town_53 : decode cX1_town 53 = .ok (.aload_n 2, 1) := dk_44 (dk_at dksX1_town_2 8 rfl rfl)
theorem dX1_town_54 : decode cX1_town 54 = .ok (.getfield 77, 3) := dk_180 0 77 (dk_at dksX1_town_2 9 rfl rfl)
theorem dX1_town_57 : decode cX1_town 57 = .ok (.putfield 42, 3) := dk_181 0 42 (dk_at dksX1_town_2 12 rfl rfl)
theorem dX1_town_60 : decode cX1_town 60 = .ok (.aload_n 0, 1) := dk_42 (dk_at dksX1_town_2 15 rfl rfl)
theorem dX1_town_61 : decode cX1_town 61 = .ok (.getfield 46, 3) := dk_180 0 46 (dk_at dksX1_town_2 16 rfl rfl)
theorem dX1_town_64 : decode cX1_town 64 = .ok (.iconst 0, 1) := dk_3 (dk_at dksX1_town_2 19 rfl rfl)
theorem dX1_town_65 : decode cX1_town 65 = .ok (.dup2, 1) := dk_92 (dk_at dksX1_town_2 20 rfl rfl)
theorem dX1_town_66 : decode cX1_town 66 = .ok (.iaload, 1) := dk_46 (dk_at dksX1_town_2 21 rfl rfl)
theorem dX1_town_67 : decode cX1_town 67 = .ok (.iconst 1, 1) := dk_4 (dk_at dksX1_town_2 22 rfl rfl)
theorem dX1_town_68 : decode cX1_town 68 = .ok (.iadd, 1) := dk_96 (dk_at dksX1_town_2 23 rfl rfl)
theorem dX1_town_69 : decode cX1_town 69 = .ok (.iastore, 1) := dk_79 (dk_at dksX1_town_3 0 rfl rfl)
theorem dX1_town_70 : decode cX1_town 70 = .ok (.aload_n 3, 1) := dk_45 (dk_at dksX1_town_3 1 rfl rfl)
theorem dX1_town_71 : decode cX1_town 71 = .ok (.getfield 80, 3) := dk_180 0 80 (dk_at dksX1_town_3 2 rfl rfl)
theorem dX1_town_74 : decode cX1_town 74 = .ok (.ireturn, 1) := dk_172 (dk_at dksX1_town_3 5 rfl rfl)
theorem dX1_town_75 : decode cX1_town 75 = .ok (.aload_n 0, 1) := dk_42 (dk_at dksX1_town_3 6 rfl rfl)
theorem dX1_town_76 : decode cX1_town 76 = .ok (.aload_n 2, 1) := dk_44 (dk_at dksX1_town_3 7 rfl rfl)
theorem dX1_town_77 : decode cX1_town 77 = .ok (.getfield 83, 3) := dk_180 0 83 (dk_at dksX1_town_3 8 rfl rfl)
theorem dX1_town_80 : decode cX1_town 80 = .ok (.putfield 31, 3) := dk_181 0 31 (dk_at dksX1_town_3 11 rfl rfl)
theorem dX1_town_83 : decode cX1_town 83 = .ok (.aload_n 0, 1) := dk_42 (dk_at dksX1_town_3 14 rfl rfl)
theorem dX1_town_84 : decode cX1_town 84 = .ok (.new 49, 3) := dk_187 0 49 (dk_at dksX1_town_3 15 rfl rfl)
theorem dX1_town_87 : decode cX1_town 87 = .ok (.dup, 1) := dk_89 (dk_at dksX1_town_3 18 rfl rfl)
theorem dX1_town_88 : decode cX1_town 88 = .ok (.invokespecial 51, 3) := dk_183 0 51 (dk_at dksX1_town_3 19 rfl rfl)
theorem dX1_town_91 : decode cX1_town 91 = .ok (.putfield 52, 3) := dk_181 0 52 (dk_at dksX1_town_4 0 rfl rfl)
theorem dX1_town_94 : decode cX1_town 94 = .ok (.aload_n 0, 1) := dk_42 (dk_at dksX1_town_4 3 rfl rfl)
theorem dX1_town_95 : decode cX1_town 95 = .ok (.new 49, 3) := dk_187 0 49 (dk_at dksX1_town_4 4 rfl rfl)
theorem dX1_town_98 : decode cX1_town 98 = .ok (.dup, 1) := dk_89 (dk_at dksX1_town_4 7 rfl rfl)
theorem dX1_town_99 : decode cX1_town 99 = .ok (.invokespecial 51, 3) := dk_183 0 51 (dk_at dksX1_town_4 8 rfl rfl)
theorem dX1_town_102 : decode cX1_town 102 = .ok (.putfield 56, 3) := dk_181 0 56 (dk_at dksX1_town_4 11 rfl rfl)
theorem dX1_town_105 : decode cX1_town 105 = .ok (.aload_n 0, 1) := dk_42 (dk_at dksX1_town_4 14 rfl rfl)
theorem dX1_town_106 : decode cX1_town 106 = .ok (.aconst_null, 1) := dk_1 (dk_at dksX1_town_4 15 rfl rfl)
theorem dX1_town_107 : decode cX1_town 107 = .ok (.putfield 86, 3) := dk_181 0 86 (dk_at dksX1_town_4 16 rfl rfl)
theorem dX1_town_110 : decode cX1_town 110 = .ok (.iconst 0, 1) := dk_3 (dk_at dksX1_town_4 19 rfl rfl)
theorem dX1_town_111 : decode cX1_town 111 = .ok (.ireturn, 1) := dk_172 (dk_at dksX1_town_4 20 rfl rfl)
abbrev cX1_right : ByteArray := prog_1_method_3_code
def yX1_right : MethodName := ⟨RX1, "right", "(Z)V"⟩
def dkwX1_right_0 : List UInt8 := [26, 154, 0, 11, 187, 0, 7, 89, 183, 0, 9, 191, 177]
abbrev dktX1_right_0 : List UInt8 := dkwX1_right_0 ++ []
theorem dksX1_right_0 : cX1_right.data.toList.drop 0 = dktX1_right_0 := by decide +kernel
theorem dX1_right_0 : decode cX1_right 0 = .ok (.iload_n 0, 1) := dk_26 (dk_at dksX1_right_0 0 rfl rfl)
theorem dX1_right_1 : decode cX1_right 1 = .ok (.ifCond .ne 11, 3) := dk_154 0 11 (dk_at dksX1_right_0 1 rfl rfl)
theorem dX1_right_4 : decode cX1_right 4 = .ok (.new 7, 3) := dk_187 0 7 (dk_at dksX1_right_0 4 rfl rfl)
theorem dX1_right_7 : decode cX1_right 7 = .ok (.dup, 1) := dk_89 (dk_at dksX1_right_0 7 rfl rfl)
theorem dX1_right_8 : decode cX1_right 8 = .ok (.invokespecial 9, 3) := dk_183 0 9 (dk_at dksX1_right_0 8 rfl rfl)
theorem dX1_right_11 : decode cX1_right 11 = .ok (.athrow, 1) := dk_191 (dk_at dksX1_right_0 11 rfl rfl)
theorem dX1_right_12 : decode cX1_right 12 = .ok (.return_, 1) := dk_177 (dk_at dksX1_right_0 12 rfl rfl)
abbrev cX1_isOf : ByteArray := prog_1_method_4_code
def yX1_isOf : MethodName := ⟨RX1, "isOf", "(II)Z"⟩
def dkwX1_isOf_0 : List UInt8 := [26, 27, 122, 4, 126, 4, 160, 0, 7, 4, 167, 0, 4, 3, 172]
abbrev dktX1_isOf_0 : List UInt8 := dkwX1_isOf_0 ++ []
theorem dksX1_isOf_0 : cX1_isOf.data.toList.drop 0 = dktX1_isOf_0 := by decide +kernel
theorem dX1_isOf_0 : decode cX1_isOf 0 = .ok (.iload_n 0, 1) := dk_26 (dk_at dksX1_isOf_0 0 rfl rfl)
theorem dX1_isOf_1 : decode cX1_isOf 1 = .ok (.iload_n 1, 1) := dk_27 (dk_at dksX1_isOf_0 1 rfl rfl)
theorem dX1_isOf_2 : decode cX1_isOf 2 = .ok (.ishr, 1) := dk_122 (dk_at dksX1_isOf_0 2 rfl rfl)
theorem dX1_isOf_3 : decode cX1_isOf 3 = .ok (.iconst 1, 1) := dk_4 (dk_at dksX1_isOf_0 3 rfl rfl)
theorem dX1_isOf_4 : decode cX1_isOf 4 = .ok (.iand, 1) := dk_126 (dk_at dksX1_isOf_0 4 rfl rfl)
theorem dX1_isOf_5 : decode cX1_isOf 5 = .ok (.iconst 1, 1) := dk_4 (dk_at dksX1_isOf_0 5 rfl rfl)
theorem dX1_isOf_6 : decode cX1_isOf 6 = .ok (.if_icmp .ne 7, 3) := dk_160 0 7 (dk_at dksX1_isOf_0 6 rfl rfl)
theorem dX1_isOf_9 : decode cX1_isOf 9 = .ok (.iconst 1, 1) := dk_4 (dk_at dksX1_isOf_0 9 rfl rfl)
theorem dX1_isOf_10 : decode cX1_isOf 10 = .ok (.goto 4, 3) := dk_167 0 4 (dk_at dksX1_isOf_0 10 rfl rfl)
theorem dX1_isOf_13 : decode cX1_isOf 13 = .ok (.iconst 0, 1) := dk_3 (dk_at dksX1_isOf_0 13 rfl rfl)
theorem dX1_isOf_14 : decode cX1_isOf 14 = .ok (.ireturn, 1) := dk_172 (dk_at dksX1_isOf_0 14 rfl rfl)
abbrev cX1_count : ByteArray := prog_1_method_12_code
def yX1_count : MethodName := ⟨RX1, "count", "(I)I"⟩
def dkwX1_count_7 : List UInt8 := [172]
abbrev dktX1_count_7 : List UInt8 := dkwX1_count_7 ++ []
def dkwX1_count_6 : List UInt8 := [180, 0, 59, 172, 27, 16, 13, 16, 15, 184, 0, 139, 184, 0, 142, 42, 180, 0, 46, 27, 16, 13, 100, 46]
abbrev dktX1_count_6 : List UInt8 := dkwX1_count_6 ++ dktX1_count_7
def dkwX1_count_5 : List UInt8 := [172, 42, 180, 0, 52, 185, 0, 134, 1, 0, 172, 42, 180, 0, 56, 185, 0, 134, 1, 0, 172, 42]
abbrev dktX1_count_5 : List UInt8 := dkwX1_count_5 ++ dktX1_count_6
def dkwX1_count_4 : List UInt8 := [180, 0, 31, 182, 0, 122, 172, 42, 180, 0, 31, 182, 0, 125, 172, 42, 182, 0, 128, 172, 42, 182, 0, 131]
abbrev dktX1_count_4 : List UInt8 := dkwX1_count_4 ++ dktX1_count_5
def dkwX1_count_3 : List UInt8 := [42, 180, 0, 31, 182, 0, 113, 172, 42, 180, 0, 31, 180, 0, 116, 172, 42, 182, 0, 119, 172, 42]
abbrev dktX1_count_3 : List UInt8 := dkwX1_count_3 ++ dktX1_count_4
def dkwX1_count_2 : List UInt8 := [42, 180, 0, 22, 182, 0, 89, 172, 42, 180, 0, 22, 182, 0, 104, 172, 42, 180, 0, 31, 180, 0, 110, 172]
abbrev dktX1_count_2 : List UInt8 := dkwX1_count_2 ++ dktX1_count_3
def dkwX1_count_1 : List UInt8 := [170, 0, 0, 0, 0, 0, 163, 0, 0, 0, 0, 0, 0, 0, 12, 0, 0, 0, 67, 0, 0, 0, 75, 0, 0, 0, 83, 0, 0, 0, 91, 0, 0, 0, 99, 0, 0, 0, 107, 0, 0, 0, 112, 0, 0, 0, 120, 0, 0, 0, 128, 0, 0, 0, 133, 0, 0, 0, 138, 0, 0, 0, 148, 0, 0, 0, 158]
abbrev dktX1_count_1 : List UInt8 := dkwX1_count_1 ++ dktX1_count_2
def dkwX1_count_0 : List UInt8 := [27]
abbrev dktX1_count_0 : List UInt8 := dkwX1_count_0 ++ dktX1_count_1
theorem dksX1_count_0 : cX1_count.data.toList.drop 0 = dktX1_count_0 := by decide +kernel
theorem dksX1_count_1 : cX1_count.data.toList.drop 1 = dktX1_count_1 := dk_seg dksX1_count_0 1 rfl rfl
theorem dksX1_count_2 : cX1_count.data.toList.drop 68 = dktX1_count_2 := dk_seg dksX1_count_1 67 rfl rfl
theorem dksX1_count_3 : cX1_count.data.toList.drop 92 = dktX1_count_3 := dk_seg dksX1_count_2 24 rfl rfl
theorem dksX1_count_4 : cX1_count.data.toList.drop 114 = dktX1_count_4 := dk_seg dksX1_count_3 22 rfl rfl
theorem dksX1_count_5 : cX1_count.data.toList.drop 138 = dktX1_count_5 := dk_seg dksX1_count_4 24 rfl rfl
theorem dksX1_count_6 : cX1_count.data.toList.drop 160 = dktX1_count_6 := dk_seg dksX1_count_5 22 rfl rfl
theorem dksX1_count_7 : cX1_count.data.toList.drop 184 = dktX1_count_7 := dk_seg dksX1_count_6 24 rfl rfl
theorem dX1_count_0 : decode cX1_count 0 = .ok (.iload_n 1, 1) := dk_27 (dk_at dksX1_count_0 0 rfl rfl)
theorem dX1_count_1 : decode cX1_count 1 = .ok (.tableswitch 163 0 12 #[67, 75, 83, 91, 99, 107, 112, 120, 128, 133, 138, 148, 158], 67) := by decide +kernel
theorem dX1_count_68 : decode cX1_count 68 = .ok (.aload_n 0, 1) := dk_42 (dk_at dksX1_count_2 0 rfl rfl)
theorem dX1_count_69 : decode cX1_count 69 = .ok (.getfield 22, 3) := dk_180 0 22 (dk_at dksX1_count_2 1 rfl rfl)
theorem dX1_count_72 : decode cX1_count 72 = .ok (.invokevirtual 89, 3) := dk_182 0 89 (dk_at dksX1_count_2 4 rfl rfl)
theorem dX1_count_75 : decode cX1_count 75 = .ok (.ireturn, 1) := dk_172 (dk_at dksX1_count_2 7 rfl rfl)
theorem dX1_count_76 : decode cX1_count 76 = .ok (.aload_n 0, 1) := dk_42 (dk_at dksX1_count_2 8 rfl rfl)
theorem dX1_count_77 : decode cX1_count 77 = .ok (.getfield 22, 3) := dk_180 0 22 (dk_at dksX1_count_2 9 rfl rfl)
theorem dX1_count_80 : decode cX1_count 80 = .ok (.invokevirtual 104, 3) := dk_182 0 104 (dk_at dksX1_count_2 12 rfl rfl)
theorem dX1_count_83 : decode cX1_count 83 = .ok (.ireturn, 1) := dk_172 (dk_at dksX1_count_2 15 rfl rfl)
theorem dX1_count_84 : decode cX1_count 84 = .ok (.aload_n 0, 1) := dk_42 (dk_at dksX1_count_2 16 rfl rfl)
theorem dX1_count_85 : decode cX1_count 85 = .ok (.getfield 31, 3) := dk_180 0 31 (dk_at dksX1_count_2 17 rfl rfl)
theorem dX1_count_88 : decode cX1_count 88 = .ok (.getfield 110, 3) := dk_180 0 110 (dk_at dksX1_count_2 20 rfl rfl)
theorem dX1_count_91 : decode cX1_count 91 = .ok (.ireturn, 1) := dk_172 (dk_at dksX1_count_2 23 rfl rfl)
theorem dX1_count_92 : decode cX1_count 92 = .ok (.aload_n 0, 1) := dk_42 (dk_at dksX1_count_3 0 rfl rfl)
theorem dX1_count_93 : decode cX1_count 93 = .ok (.getfield 31, 3) := dk_180 0 31 (dk_at dksX1_count_3 1 rfl rfl)
theorem dX1_count_96 : decode cX1_count 96 = .ok (.invokevirtual 113, 3) := dk_182 0 113 (dk_at dksX1_count_3 4 rfl rfl)
theorem dX1_count_99 : decode cX1_count 99 = .ok (.ireturn, 1) := dk_172 (dk_at dksX1_count_3 7 rfl rfl)
theorem dX1_count_100 : decode cX1_count 100 = .ok (.aload_n 0, 1) := dk_42 (dk_at dksX1_count_3 8 rfl rfl)
theorem dX1_count_101 : decode cX1_count 101 = .ok (.getfield 31, 3) := dk_180 0 31 (dk_at dksX1_count_3 9 rfl rfl)
theorem dX1_count_104 : decode cX1_count 104 = .ok (.getfield 116, 3) := dk_180 0 116 (dk_at dksX1_count_3 12 rfl rfl)
theorem dX1_count_107 : decode cX1_count 107 = .ok (.ireturn, 1) := dk_172 (dk_at dksX1_count_3 15 rfl rfl)
theorem dX1_count_108 : decode cX1_count 108 = .ok (.aload_n 0, 1) := dk_42 (dk_at dksX1_count_3 16 rfl rfl)
theorem dX1_count_109 : decode cX1_count 109 = .ok (.invokevirtual 119, 3) := dk_182 0 119 (dk_at dksX1_count_3 17 rfl rfl)
theorem dX1_count_112 : decode cX1_count 112 = .ok (.ireturn, 1) := dk_172 (dk_at dksX1_count_3 20 rfl rfl)
theorem dX1_count_113 : decode cX1_count 113 = .ok (.aload_n 0, 1) := dk_42 (dk_at dksX1_count_3 21 rfl rfl)
theorem dX1_count_114 : decode cX1_count 114 = .ok (.getfield 31, 3) := dk_180 0 31 (dk_at dksX1_count_4 0 rfl rfl)
theorem dX1_count_117 : decode cX1_count 117 = .ok (.invokevirtual 122, 3) := dk_182 0 122 (dk_at dksX1_count_4 3 rfl rfl)
theorem dX1_count_120 : decode cX1_count 120 = .ok (.ireturn, 1) := dk_172 (dk_at dksX1_count_4 6 rfl rfl)
theorem dX1_count_121 : decode cX1_count 121 = .ok (.aload_n 0, 1) := dk_42 (dk_at dksX1_count_4 7 rfl rfl)
theorem dX1_count_122 : decode cX1_count 122 = .ok (.getfield 31, 3) := dk_180 0 31 (dk_at dksX1_count_4 8 rfl rfl)
theorem dX1_count_125 : decode cX1_count 125 = .ok (.invokevirtual 125, 3) := dk_182 0 125 (dk_at dksX1_count_4 11 rfl rfl)
theorem dX1_count_128 : decode cX1_count 128 = .ok (.ireturn, 1) := dk_172 (dk_at dksX1_count_4 14 rfl rfl)
theorem dX1_count_129 : decode cX1_count 129 = .ok (.aload_n 0, 1) := dk_42 (dk_at dksX1_count_4 15 rfl rfl)
theorem dX1_count_130 : decode cX1_count 130 = .ok (.invokevirtual 128, 3) := dk_182 0 128 (dk_at dksX1_count_4 16 rfl rfl)
theorem dX1_count_133 : decode cX1_count 133 = .ok (.ireturn, 1) := dk_172 (dk_at dksX1_count_4 19 rfl rfl)
theorem dX1_count_134 : decode cX1_count 134 = .ok (.aload_n 0, 1) := dk_42 (dk_at dksX1_count_4 20 rfl rfl)
theorem dX1_count_135 : decode cX1_count 135 = .ok (.invokevirtual 131, 3) := dk_182 0 131 (dk_at dksX1_count_4 21 rfl rfl)
theorem dX1_count_138 : decode cX1_count 138 = .ok (.ireturn, 1) := dk_172 (dk_at dksX1_count_5 0 rfl rfl)
theorem dX1_count_139 : decode cX1_count 139 = .ok (.aload_n 0, 1) := dk_42 (dk_at dksX1_count_5 1 rfl rfl)
theorem dX1_count_140 : decode cX1_count 140 = .ok (.getfield 52, 3) := dk_180 0 52 (dk_at dksX1_count_5 2 rfl rfl)
theorem dX1_count_143 : decode cX1_count 143 = .ok (.invokeinterface 134 1, 5) := by decide +kernel
theorem dX1_count_148 : decode cX1_count 148 = .ok (.ireturn, 1) := dk_172 (dk_at dksX1_count_5 10 rfl rfl)
theorem dX1_count_149 : decode cX1_count 149 = .ok (.aload_n 0, 1) := dk_42 (dk_at dksX1_count_5 11 rfl rfl)
theorem dX1_count_150 : decode cX1_count 150 = .ok (.getfield 56, 3) := dk_180 0 56 (dk_at dksX1_count_5 12 rfl rfl)
theorem dX1_count_153 : decode cX1_count 153 = .ok (.invokeinterface 134 1, 5) := by decide +kernel
theorem dX1_count_158 : decode cX1_count 158 = .ok (.ireturn, 1) := dk_172 (dk_at dksX1_count_5 20 rfl rfl)
theorem dX1_count_159 : decode cX1_count 159 = .ok (.aload_n 0, 1) := dk_42 (dk_at dksX1_count_5 21 rfl rfl)
theorem dX1_count_160 : decode cX1_count 160 = .ok (.getfield 59, 3) := dk_180 0 59 (dk_at dksX1_count_6 0 rfl rfl)
theorem dX1_count_163 : decode cX1_count 163 = .ok (.ireturn, 1) := dk_172 (dk_at dksX1_count_6 3 rfl rfl)
theorem dX1_count_164 : decode cX1_count 164 = .ok (.iload_n 1, 1) := dk_27 (dk_at dksX1_count_6 4 rfl rfl)
theorem dX1_count_165 : decode cX1_count 165 = .ok (.bipush 13, 2) := dk_16 13 (dk_at dksX1_count_6 5 rfl rfl)
theorem dX1_count_167 : decode cX1_count 167 = .ok (.bipush 15, 2) := dk_16 15 (dk_at dksX1_count_6 7 rfl rfl)
theorem dX1_count_169 : decode cX1_count 169 = .ok (.invokestatic 139, 3) := dk_184 0 139 (dk_at dksX1_count_6 9 rfl rfl)
theorem dX1_count_172 : decode cX1_count 172 = .ok (.invokestatic 142, 3) := dk_184 0 142 (dk_at dksX1_count_6 12 rfl rfl)
theorem dX1_count_175 : decode cX1_count 175 = .ok (.aload_n 0, 1) := dk_42 (dk_at dksX1_count_6 15 rfl rfl)
theorem dX1_count_176 : decode cX1_count 176 = .ok (.getfield 46, 3) := dk_180 0 46 (dk_at dksX1_count_6 16 rfl rfl)
theorem dX1_count_179 : decode cX1_count 179 = .ok (.iload_n 1, 1) := dk_27 (dk_at dksX1_count_6 19 rfl rfl)
theorem dX1_count_180 : decode cX1_count 180 = .ok (.bipush 13, 2) := dk_16 13 (dk_at dksX1_count_6 20 rfl rfl)
theorem dX1_count_182 : decode cX1_count 182 = .ok (.isub, 1) := dk_100 (dk_at dksX1_count_6 22 rfl rfl)
theorem dX1_count_183 : decode cX1_count 183 = .ok (.iaload, 1) := dk_46 (dk_at dksX1_count_6 23 rfl rfl)
theorem dX1_count_184 : decode cX1_count 184 = .ok (.ireturn, 1) := dk_172 (dk_at dksX1_count_7 0 rfl rfl)
abbrev cX1_taken : ByteArray := prog_1_method_9_code
def yX1_taken : MethodName := ⟨RX1, "taken", "()I"⟩
def dkwX1_taken_1 : List UInt8 := [159, 0, 9, 27, 4, 28, 120, 128, 60, 132, 2, 1, 167, 255, 224, 27, 172]
abbrev dktX1_taken_1 : List UInt8 := dkwX1_taken_1 ++ []
def dkwX1_taken_0 : List UInt8 := [3, 60, 3, 61, 28, 42, 180, 0, 22, 182, 0, 89, 162, 0, 27, 42, 180, 0, 31, 28, 182, 0, 93, 2]
abbrev dktX1_taken_0 : List UInt8 := dkwX1_taken_0 ++ dktX1_taken_1
theorem dksX1_taken_0 : cX1_taken.data.toList.drop 0 = dktX1_taken_0 := by decide +kernel
theorem dksX1_taken_1 : cX1_taken.data.toList.drop 24 = dktX1_taken_1 := dk_seg dksX1_taken_0 24 rfl rfl
theorem dX1_taken_0 : decode cX1_taken 0 = .ok (.iconst 0, 1) := dk_3 (dk_at dksX1_taken_0 0 rfl rfl)
theorem dX1_taken_1 : decode cX1_taken 1 = .ok (.istore_n 1, 1) := dk_60 (dk_at dksX1_taken_0 1 rfl rfl)
theorem dX1_taken_2 : decode cX1_taken 2 = .ok (.iconst 0, 1) := dk_3 (dk_at dksX1_taken_0 2 rfl rfl)
theorem dX1_taken_3 : decode cX1_taken 3 = .ok (.istore_n 2, 1) := dk_61 (dk_at dksX1_taken_0 3 rfl rfl)
theorem dX1_taken_4 : decode cX1_taken 4 = .ok (.iload_n 2, 1) := dk_28 (dk_at dksX1_taken_0 4 rfl rfl)
theorem dX1_taken_5 : decode cX1_taken 5 = .ok (.aload_n 0, 1) := dk_42 (dk_at dksX1_taken_0 5 rfl rfl)
theorem dX1_taken_6 : decode cX1_taken 6 = .ok (.getfield 22, 3) := dk_180 0 22 (dk_at dksX1_taken_0 6 rfl rfl)
theorem dX1_taken_9 : decode cX1_taken 9 = .ok (.invokevirtual 89, 3) := dk_182 0 89 (dk_at dksX1_taken_0 9 rfl rfl)
theorem dX1_taken_12 : decode cX1_taken 12 = .ok (.if_icmp .ge 27, 3) := dk_162 0 27 (dk_at dksX1_taken_0 12 rfl rfl)
theorem dX1_taken_15 : decode cX1_taken 15 = .ok (.aload_n 0, 1) := dk_42 (dk_at dksX1_taken_0 15 rfl rfl)
theorem dX1_taken_16 : decode cX1_taken 16 = .ok (.getfield 31, 3) := dk_180 0 31 (dk_at dksX1_taken_0 16 rfl rfl)
theorem dX1_taken_19 : decode cX1_taken 19 = .ok (.iload_n 2, 1) := dk_28 (dk_at dksX1_taken_0 19 rfl rfl)
theorem dX1_taken_20 : decode cX1_taken 20 = .ok (.invokevirtual 93, 3) := dk_182 0 93 (dk_at dksX1_taken_0 20 rfl rfl)
theorem dX1_taken_23 : decode cX1_taken 23 = .ok (.iconst (-1), 1) := dk_2 (dk_at dksX1_taken_0 23 rfl rfl)
theorem dX1_taken_24 : decode cX1_taken 24 = .ok (.if_icmp .eq 9, 3) := dk_159 0 9 (dk_at dksX1_taken_1 0 rfl rfl)
theorem dX1_taken_27 : decode cX1_taken 27 = .ok (.iload_n 1, 1) := dk_27 (dk_at dksX1_taken_1 3 rfl rfl)
theorem dX1_taken_28 : decode cX1_taken 28 = .ok (.iconst 1, 1) := dk_4 (dk_at dksX1_taken_1 4 rfl rfl)
theorem dX1_taken_29 : decode cX1_taken 29 = .ok (.iload_n 2, 1) := dk_28 (dk_at dksX1_taken_1 5 rfl rfl)
theorem dX1_taken_30 : decode cX1_taken 30 = .ok (.ishl, 1) := dk_120 (dk_at dksX1_taken_1 6 rfl rfl)
theorem dX1_taken_31 : decode cX1_taken 31 = .ok (.ior, 1) := dk_128 (dk_at dksX1_taken_1 7 rfl rfl)
theorem dX1_taken_32 : decode cX1_taken 32 = .ok (.istore_n 1, 1) := dk_60 (dk_at dksX1_taken_1 8 rfl rfl)
theorem dX1_taken_33 : decode cX1_taken 33 = .ok (.iinc 2 1, 3) := dk_132 2 1 (dk_at dksX1_taken_1 9 rfl rfl)
theorem dX1_taken_36 : decode cX1_taken 36 = .ok (.goto (-32), 3) := dk_167 255 224 (dk_at dksX1_taken_1 12 rfl rfl)
theorem dX1_taken_39 : decode cX1_taken 39 = .ok (.iload_n 1, 1) := dk_27 (dk_at dksX1_taken_1 15 rfl rfl)
theorem dX1_taken_40 : decode cX1_taken 40 = .ok (.ireturn, 1) := dk_172 (dk_at dksX1_taken_1 16 rfl rfl)
abbrev cX1_tightest : ByteArray := prog_1_method_11_code
def yX1_tightest : MethodName := ⟨RX1, "tightest", "()I"⟩
def dkwX1_tightest_2 : List UInt8 := [167, 255, 214, 27, 172]
abbrev dktX1_tightest_2 : List UInt8 := dkwX1_tightest_2 ++ []
def dkwX1_tightest_1 : List UInt8 := [2, 159, 0, 16, 42, 28, 182, 0, 107, 42, 27, 182, 0, 107, 164, 0, 5, 28, 60, 132, 2, 1]
abbrev dktX1_tightest_1 : List UInt8 := dkwX1_tightest_1 ++ dktX1_tightest_2
def dkwX1_tightest_0 : List UInt8 := [2, 60, 3, 61, 28, 42, 180, 0, 22, 182, 0, 104, 162, 0, 37, 42, 28, 182, 0, 107, 158, 0, 23, 27]
abbrev dktX1_tightest_0 : List UInt8 := dkwX1_tightest_0 ++ dktX1_tightest_1
theorem dksX1_tightest_0 : cX1_tightest.data.toList.drop 0 = dktX1_tightest_0 := by decide +kernel
theorem dksX1_tightest_1 : cX1_tightest.data.toList.drop 24 = dktX1_tightest_1 := dk_seg dksX1_tightest_0 24 rfl rfl
theorem dksX1_tightest_2 : cX1_tightest.data.toList.drop 46 = dktX1_tightest_2 := dk_seg dksX1_tightest_1 22 rfl rfl
theorem dX1_tightest_0 : decode cX1_tightest 0 = .ok (.iconst (-1), 1) := dk_2 (dk_at dksX1_tightest_0 0 rfl rfl)
theorem dX1_tightest_1 : decode cX1_tightest 1 = .ok (.istore_n 1, 1) := dk_60 (dk_at dksX1_tightest_0 1 rfl rfl)
theorem dX1_tightest_2 : decode cX1_tightest 2 = .ok (.iconst 0, 1) := dk_3 (dk_at dksX1_tightest_0 2 rfl rfl)
theorem dX1_tightest_3 : decode cX1_tightest 3 = .ok (.istore_n 2, 1) := dk_61 (dk_at dksX1_tightest_0 3 rfl rfl)
theorem dX1_tightest_4 : decode cX1_tightest 4 = .ok (.iload_n 2, 1) := dk_28 (dk_at dksX1_tightest_0 4 rfl rfl)
theorem dX1_tightest_5 : decode cX1_tightest 5 = .ok (.aload_n 0, 1) := dk_42 (dk_at dksX1_tightest_0 5 rfl rfl)
theorem dX1_tightest_6 : decode cX1_tightest 6 = .ok (.getfield 22, 3) := dk_180 0 22 (dk_at dksX1_tightest_0 6 rfl rfl)
theorem dX1_tightest_9 : decode cX1_tightest 9 = .ok (.invokevirtual 104, 3) := dk_182 0 104 (dk_at dksX1_tightest_0 9 rfl rfl)
theorem dX1_tightest_12 : decode cX1_tightest 12 = .ok (.if_icmp .ge 37, 3) := dk_162 0 37 (dk_at dksX1_tightest_0 12 rfl rfl)
theorem dX1_tightest_15 : decode cX1_tightest 15 = .ok (.aload_n 0, 1) := dk_42 (dk_at dksX1_tightest_0 15 rfl rfl)
theorem dX1_tightest_16 : decode cX1_tightest 16 = .ok (.iload_n 2, 1) := dk_28 (dk_at dksX1_tightest_0 16 rfl rfl)
theorem dX1_tightest_17 : decode cX1_tightest 17 = .ok (.invokevirtual 107, 3) := dk_182 0 107 (dk_at dksX1_tightest_0 17 rfl rfl)
theorem dX1_tightest_20 : decode cX1_tightest 20 = .ok (.ifCond .le 23, 3) := dk_158 0 23 (dk_at dksX1_tightest_0 20 rfl rfl)
theorem dX1_tightest_23 : decode cX1_tightest 23 = .ok (.iload_n 1, 1) := dk_27 (dk_at dksX1_tightest_0 23 rfl rfl)
theorem dX1_tightest_24 : decode cX1_tightest 24 = .ok (.iconst (-1), 1) := dk_2 (dk_at dksX1_tightest_1 0 rfl rfl)
theorem dX1_tightest_25 : decode cX1_tightest 25 = .ok (.if_icmp .eq 16, 3) := dk_159 0 16 (dk_at dksX1_tightest_1 1 rfl rfl)
theorem dX1_tightest_28 : decode cX1_tightest 28 = .ok (.aload_n 0, 1) := dk_42 (dk_at dksX1_tightest_1 4 rfl rfl)
theorem dX1_tightest_29 : decode cX1_tightest 29 = .ok (.iload_n 2, 1) := dk_28 (dk_at dksX1_tightest_1 5 rfl rfl)
theorem dX1_tightest_30 : decode cX1_tightest 30 = .ok (.invokevirtual 107, 3) := dk_182 0 107 (dk_at dksX1_tightest_1 6 rfl rfl)
theorem dX1_tightest_33 : decode cX1_tightest 33 = .ok (.aload_n 0, 1) := dk_42 (dk_at dksX1_tightest_1 9 rfl rfl)
theorem dX1_tightest_34 : decode cX1_tightest 34 = .ok (.iload_n 1, 1) := dk_27 (dk_at dksX1_tightest_1 10 rfl rfl)
theorem dX1_tightest_35 : decode cX1_tightest 35 = .ok (.invokevirtual 107, 3) := dk_182 0 107 (dk_at dksX1_tightest_1 11 rfl rfl)
theorem dX1_tightest_38 : decode cX1_tightest 38 = .ok (.if_icmp .le 5, 3) := dk_164 0 5 (dk_at dksX1_tightest_1 14 rfl rfl)
theorem dX1_tightest_41 : decode cX1_tightest 41 = .ok (.iload_n 2, 1) := dk_28 (dk_at dksX1_tightest_1 17 rfl rfl)
theorem dX1_tightest_42 : decode cX1_tightest 42 = .ok (.istore_n 1, 1) := dk_60 (dk_at dksX1_tightest_1 18 rfl rfl)
theorem dX1_tightest_43 : decode cX1_tightest 43 = .ok (.iinc 2 1, 3) := dk_132 2 1 (dk_at dksX1_tightest_1 19 rfl rfl)
theorem dX1_tightest_46 : decode cX1_tightest 46 = .ok (.goto (-42), 3) := dk_167 255 214 (dk_at dksX1_tightest_2 0 rfl rfl)
theorem dX1_tightest_49 : decode cX1_tightest 49 = .ok (.iload_n 1, 1) := dk_27 (dk_at dksX1_tightest_2 3 rfl rfl)
theorem dX1_tightest_50 : decode cX1_tightest 50 = .ok (.ireturn, 1) := dk_172 (dk_at dksX1_tightest_2 4 rfl rfl)
abbrev cX1_tightOf : ByteArray := prog_1_method_10_code
def yX1_tightOf : MethodName := ⟨RX1, "tightOf", "(I)I"⟩
def dkwX1_tightOf_1 : List UInt8 := [180, 0, 31, 180, 0, 97, 27, 46, 182, 0, 100, 172]
abbrev dktX1_tightOf_1 : List UInt8 := dkwX1_tightOf_1 ++ []
def dkwX1_tightOf_0 : List UInt8 := [42, 180, 0, 31, 180, 0, 97, 27, 46, 2, 160, 0, 7, 3, 167, 0, 20, 42, 180, 0, 31, 27, 42]
abbrev dktX1_tightOf_0 : List UInt8 := dkwX1_tightOf_0 ++ dktX1_tightOf_1
theorem dksX1_tightOf_0 : cX1_tightOf.data.toList.drop 0 = dktX1_tightOf_0 := by decide +kernel
theorem dksX1_tightOf_1 : cX1_tightOf.data.toList.drop 23 = dktX1_tightOf_1 := dk_seg dksX1_tightOf_0 23 rfl rfl
theorem dX1_tightOf_0 : decode cX1_tightOf 0 = .ok (.aload_n 0, 1) := dk_42 (dk_at dksX1_tightOf_0 0 rfl rfl)
theorem dX1_tightOf_1 : decode cX1_tightOf 1 = .ok (.getfield 31, 3) := dk_180 0 31 (dk_at dksX1_tightOf_0 1 rfl rfl)
theorem dX1_tightOf_4 : decode cX1_tightOf 4 = .ok (.getfield 97, 3) := dk_180 0 97 (dk_at dksX1_tightOf_0 4 rfl rfl)
theorem dX1_tightOf_7 : decode cX1_tightOf 7 = .ok (.iload_n 1, 1) := dk_27 (dk_at dksX1_tightOf_0 7 rfl rfl)
theorem dX1_tightOf_8 : decode cX1_tightOf 8 = .ok (.iaload, 1) := dk_46 (dk_at dksX1_tightOf_0 8 rfl rfl)
theorem dX1_tightOf_9 : decode cX1_tightOf 9 = .ok (.iconst (-1), 1) := dk_2 (dk_at dksX1_tightOf_0 9 rfl rfl)
theorem dX1_tightOf_10 : decode cX1_tightOf 10 = .ok (.if_icmp .ne 7, 3) := dk_160 0 7 (dk_at dksX1_tightOf_0 10 rfl rfl)
theorem dX1_tightOf_13 : decode cX1_tightOf 13 = .ok (.iconst 0, 1) := dk_3 (dk_at dksX1_tightOf_0 13 rfl rfl)
theorem dX1_tightOf_14 : decode cX1_tightOf 14 = .ok (.goto 20, 3) := dk_167 0 20 (dk_at dksX1_tightOf_0 14 rfl rfl)
theorem dX1_tightOf_17 : decode cX1_tightOf 17 = .ok (.aload_n 0, 1) := dk_42 (dk_at dksX1_tightOf_0 17 rfl rfl)
theorem dX1_tightOf_18 : decode cX1_tightOf 18 = .ok (.getfield 31, 3) := dk_180 0 31 (dk_at dksX1_tightOf_0 18 rfl rfl)
theorem dX1_tightOf_21 : decode cX1_tightOf 21 = .ok (.iload_n 1, 1) := dk_27 (dk_at dksX1_tightOf_0 21 rfl rfl)
theorem dX1_tightOf_22 : decode cX1_tightOf 22 = .ok (.aload_n 0, 1) := dk_42 (dk_at dksX1_tightOf_0 22 rfl rfl)
theorem dX1_tightOf_23 : decode cX1_tightOf 23 = .ok (.getfield 31, 3) := dk_180 0 31 (dk_at dksX1_tightOf_1 0 rfl rfl)
theorem dX1_tightOf_26 : decode cX1_tightOf 26 = .ok (.getfield 97, 3) := dk_180 0 97 (dk_at dksX1_tightOf_1 3 rfl rfl)
theorem dX1_tightOf_29 : decode cX1_tightOf 29 = .ok (.iload_n 1, 1) := dk_27 (dk_at dksX1_tightOf_1 6 rfl rfl)
theorem dX1_tightOf_30 : decode cX1_tightOf 30 = .ok (.iaload, 1) := dk_46 (dk_at dksX1_tightOf_1 7 rfl rfl)
theorem dX1_tightOf_31 : decode cX1_tightOf 31 = .ok (.invokevirtual 100, 3) := dk_182 0 100 (dk_at dksX1_tightOf_1 8 rfl rfl)
theorem dX1_tightOf_34 : decode cX1_tightOf 34 = .ok (.ireturn, 1) := dk_172 (dk_at dksX1_tightOf_1 11 rfl rfl)
abbrev cX1_needed : ByteArray := prog_1_method_46_code
def yX1_needed : MethodName := ⟨RX1, "needed", "()I"⟩
def dkwX1_needed_2 : List UInt8 := [61, 132, 3, 1, 167, 255, 213, 28, 172]
abbrev dktX1_needed_2 : List UInt8 := dkwX1_needed_2 ++ []
def dkwX1_needed_1 : List UInt8 := [29, 120, 46, 17, 3, 232, 108, 43, 3, 50, 3, 46, 17, 3, 232, 108, 164, 0, 9, 28, 4, 29, 120, 128]
abbrev dktX1_needed_1 : List UInt8 := dkwX1_needed_1 ++ dktX1_needed_2
def dkwX1_needed_0 : List UInt8 := [42, 182, 1, 14, 76, 3, 61, 3, 62, 29, 42, 180, 0, 22, 182, 0, 89, 162, 0, 38, 43, 3, 50, 4]
abbrev dktX1_needed_0 : List UInt8 := dkwX1_needed_0 ++ dktX1_needed_1
theorem dksX1_needed_0 : cX1_needed.data.toList.drop 0 = dktX1_needed_0 := by decide +kernel
theorem dksX1_needed_1 : cX1_needed.data.toList.drop 24 = dktX1_needed_1 := dk_seg dksX1_needed_0 24 rfl rfl
theorem dksX1_needed_2 : cX1_needed.data.toList.drop 48 = dktX1_needed_2 := dk_seg dksX1_needed_1 24 rfl rfl
theorem dX1_needed_0 : decode cX1_needed 0 = .ok (.aload_n 0, 1) := dk_42 (dk_at dksX1_needed_0 0 rfl rfl)
theorem dX1_needed_1 : decode cX1_needed 1 = .ok (.invokevirtual 270, 3) := dk_182 1 14 (dk_at dksX1_needed_0 1 rfl rfl)
theorem dX1_needed_4 : decode cX1_needed 4 = .ok (.astore_n 1, 1) := dk_76 (dk_at dksX1_needed_0 4 rfl rfl)
theorem dX1_needed_5 : decode cX1_needed 5 = .ok (.iconst 0, 1) := dk_3 (dk_at dksX1_needed_0 5 rfl rfl)
theorem dX1_needed_6 : decode cX1_needed 6 = .ok (.istore_n 2, 1) := dk_61 (dk_at dksX1_needed_0 6 rfl rfl)
theorem dX1_needed_7 : decode cX1_needed 7 = .ok (.iconst 0, 1) := dk_3 (dk_at dksX1_needed_0 7 rfl rfl)
theorem dX1_needed_8 : decode cX1_needed 8 = .ok (.istore_n 3, 1) := dk_62 (dk_at dksX1_needed_0 8 rfl rfl)
theorem dX1_needed_9 : decode cX1_needed 9 = .ok (.iload_n 3, 1) := dk_29 (dk_at dksX1_needed_0 9 rfl rfl)
theorem dX1_needed_10 : decode cX1_needed 10 = .ok (.aload_n 0, 1) := dk_42 (dk_at dksX1_needed_0 10 rfl rfl)
theorem dX1_needed_11 : decode cX1_needed 11 = .ok (.getfield 22, 3) := dk_180 0 22 (dk_at dksX1_needed_0 11 rfl rfl)
theorem dX1_needed_14 : decode cX1_needed 14 = .ok (.invokevirtual 89, 3) := dk_182 0 89 (dk_at dksX1_needed_0 14 rfl rfl)
theorem dX1_needed_17 : decode cX1_needed 17 = .ok (.if_icmp .ge 38, 3) := dk_162 0 38 (dk_at dksX1_needed_0 17 rfl rfl)
theorem dX1_needed_20 : decode cX1_needed 20 = .ok (.aload_n 1, 1) := dk_43 (dk_at dksX1_needed_0 20 rfl rfl)
theorem dX1_needed_21 : decode cX1_needed 21 = .ok (.iconst 0, 1) := dk_3 (dk_at dksX1_needed_0 21 rfl rfl)
theorem dX1_needed_22 : decode cX1_needed 22 = .ok (.aaload, 1) := dk_50 (dk_at dksX1_needed_0 22 rfl rfl)
theorem dX1_needed_23 : decode cX1_needed 23 = .ok (.iconst 1, 1) := dk_4 (dk_at dksX1_needed_0 23 rfl rfl)
theorem dX1_needed_24 : decode cX1_needed 24 = .ok (.iload_n 3, 1) := dk_29 (dk_at dksX1_needed_1 0 rfl rfl)
theorem dX1_needed_25 : decode cX1_needed 25 = .ok (.ishl, 1) := dk_120 (dk_at dksX1_needed_1 1 rfl rfl)
theorem dX1_needed_26 : decode cX1_needed 26 = .ok (.iaload, 1) := dk_46 (dk_at dksX1_needed_1 2 rfl rfl)
theorem dX1_needed_27 : decode cX1_needed 27 = .ok (.sipush 1000, 3) := dk_17 3 232 (dk_at dksX1_needed_1 3 rfl rfl)
theorem dX1_needed_30 : decode cX1_needed 30 = .ok (.idiv, 1) := dk_108 (dk_at dksX1_needed_1 6 rfl rfl)
theorem dX1_needed_31 : decode cX1_needed 31 = .ok (.aload_n 1, 1) := dk_43 (dk_at dksX1_needed_1 7 rfl rfl)
theorem dX1_needed_32 : decode cX1_needed 32 = .ok (.iconst 0, 1) := dk_3 (dk_at dksX1_needed_1 8 rfl rfl)
theorem dX1_needed_33 : decode cX1_needed 33 = .ok (.aaload, 1) := dk_50 (dk_at dksX1_needed_1 9 rfl rfl)
theorem dX1_needed_34 : decode cX1_needed 34 = .ok (.iconst 0, 1) := dk_3 (dk_at dksX1_needed_1 10 rfl rfl)
theorem dX1_needed_35 : decode cX1_needed 35 = .ok (.iaload, 1) := dk_46 (dk_at dksX1_needed_1 11 rfl rfl)
theorem dX1_needed_36 : decode cX1_needed 36 = .ok (.sipush 1000, 3) := dk_17 3 232 (dk_at dksX1_needed_1 12 rfl rfl)
theorem dX1_needed_39 : decode cX1_needed 39 = .ok (.idiv, 1) := dk_108 (dk_at dksX1_needed_1 15 rfl rfl)
theorem dX1_needed_40 : decode cX1_needed 40 = .ok (.if_icmp .le 9, 3) := dk_164 0 9 (dk_at dksX1_needed_1 16 rfl rfl)
theorem dX1_needed_43 : decode cX1_needed 43 = .ok (.iload_n 2, 1) := dk_28 (dk_at dksX1_needed_1 19 rfl rfl)
theorem dX1_needed_44 : decode cX1_needed 44 = .ok (.iconst 1, 1) := dk_4 (dk_at dksX1_needed_1 20 rfl rfl)
theorem dX1_needed_45 : decode cX1_needed 45 = .ok (.iload_n 3, 1) := dk_29 (dk_at dksX1_needed_1 21 rfl rfl)
theorem dX1_needed_46 : decode cX1_needed 46 = .ok (.ishl, 1) := dk_120 (dk_at dksX1_needed_1 22 rfl rfl)
theorem dX1_needed_47 : decode cX1_needed 47 = .ok (.ior, 1) := dk_128 (dk_at dksX1_needed_1 23 rfl rfl)
theorem dX1_needed_48 : decode cX1_needed 48 = .ok (.istore_n 2, 1) := dk_61 (dk_at dksX1_needed_2 0 rfl rfl)
theorem dX1_needed_49 : decode cX1_needed 49 = .ok (.iinc 3 1, 3) := dk_132 3 1 (dk_at dksX1_needed_2 1 rfl rfl)
theorem dX1_needed_52 : decode cX1_needed 52 = .ok (.goto (-43), 3) := dk_167 255 213 (dk_at dksX1_needed_2 4 rfl rfl)
theorem dX1_needed_55 : decode cX1_needed 55 = .ok (.iload_n 2, 1) := dk_28 (dk_at dksX1_needed_2 7 rfl rfl)
theorem dX1_needed_56 : decode cX1_needed 56 = .ok (.ireturn, 1) := dk_172 (dk_at dksX1_needed_2 8 rfl rfl)
abbrev cX1_least : ByteArray := prog_1_method_43_code
def yX1_least : MethodName := ⟨RX1, "least", "()[[I"⟩
def dkwX1_least_5 : List UInt8 := [167, 255, 204, 132, 4, 1, 167, 255, 168, 132, 3, 255, 167, 255, 155, 44, 176]
abbrev dktX1_least_5 : List UInt8 := dkwX1_least_5 ++ []
def dkwX1_least_4 : List UInt8 := [29, 50, 21, 4, 46, 42, 44, 29, 21, 4, 21, 5, 182, 1, 7, 184, 1, 11, 79, 132, 5, 1]
abbrev dktX1_least_4 : List UInt8 := dkwX1_least_4 ++ dktX1_least_5
def dkwX1_least_3 : List UInt8 := [182, 0, 89, 162, 0, 46, 42, 29, 21, 4, 21, 5, 182, 1, 4, 153, 0, 28, 44, 29, 50, 21, 4, 44]
abbrev dktX1_least_3 : List UInt8 := dkwX1_least_3 ++ dktX1_least_4
def dkwX1_least_2 : List UInt8 := [21, 4, 17, 3, 232, 44, 29, 4, 96, 50, 21, 4, 46, 96, 79, 3, 54, 5, 21, 5, 42, 180, 0, 22]
abbrev dktX1_least_2 : List UInt8 := dkwX1_least_2 ++ dktX1_least_3
def dkwX1_least_1 : List UInt8 := [77, 27, 4, 100, 62, 29, 155, 0, 103, 3, 54, 4, 21, 4, 44, 29, 50, 190, 162, 0, 85, 44, 29, 50]
abbrev dktX1_least_1 : List UInt8 := dkwX1_least_1 ++ dktX1_least_2
def dkwX1_least_0 : List UInt8 := [42, 180, 0, 22, 182, 0, 104, 60, 27, 4, 96, 4, 42, 180, 0, 22, 182, 0, 89, 120, 197, 1, 2, 2]
abbrev dktX1_least_0 : List UInt8 := dkwX1_least_0 ++ dktX1_least_1
theorem dksX1_least_0 : cX1_least.data.toList.drop 0 = dktX1_least_0 := by decide +kernel
theorem dksX1_least_1 : cX1_least.data.toList.drop 24 = dktX1_least_1 := dk_seg dksX1_least_0 24 rfl rfl
theorem dksX1_least_2 : cX1_least.data.toList.drop 48 = dktX1_least_2 := dk_seg dksX1_least_1 24 rfl rfl
theorem dksX1_least_3 : cX1_least.data.toList.drop 72 = dktX1_least_3 := dk_seg dksX1_least_2 24 rfl rfl
theorem dksX1_least_4 : cX1_least.data.toList.drop 96 = dktX1_least_4 := dk_seg dksX1_least_3 24 rfl rfl
theorem dksX1_least_5 : cX1_least.data.toList.drop 118 = dktX1_least_5 := dk_seg dksX1_least_4 22 rfl rfl
theorem dX1_least_0 : decode cX1_least 0 = .ok (.aload_n 0, 1) := dk_42 (dk_at dksX1_least_0 0 rfl rfl)
theorem dX1_least_1 : decode cX1_least 1 = .ok (.getfield 22, 3) := dk_180 0 22 (dk_at dksX1_least_0 1 rfl rfl)
theorem dX1_least_4 : decode cX1_least 4 = .ok (.invokevirtual 104, 3) := dk_182 0 104 (dk_at dksX1_least_0 4 rfl rfl)
theorem dX1_least_7 : decode cX1_least 7 = .ok (.istore_n 1, 1) := dk_60 (dk_at dksX1_least_0 7 rfl rfl)
theorem dX1_least_8 : decode cX1_least 8 = .ok (.iload_n 1, 1) := dk_27 (dk_at dksX1_least_0 8 rfl rfl)
theorem dX1_least_9 : decode cX1_least 9 = .ok (.iconst 1, 1) := dk_4 (dk_at dksX1_least_0 9 rfl rfl)
theorem dX1_least_10 : decode cX1_least 10 = .ok (.iadd, 1) := dk_96 (dk_at dksX1_least_0 10 rfl rfl)
theorem dX1_least_11 : decode cX1_least 11 = .ok (.iconst 1, 1) := dk_4 (dk_at dksX1_least_0 11 rfl rfl)
theorem dX1_least_12 : decode cX1_least 12 = .ok (.aload_n 0, 1) := dk_42 (dk_at dksX1_least_0 12 rfl rfl)
theorem dX1_least_13 : decode cX1_least 13 = .ok (.getfield 22, 3) := dk_180 0 22 (dk_at dksX1_least_0 13 rfl rfl)
theorem dX1_least_16 : decode cX1_least 16 = .ok (.invokevirtual 89, 3) := dk_182 0 89 (dk_at dksX1_least_0 16 rfl rfl)
theorem dX1_least_19 : decode cX1_least 19 = .ok (.ishl, 1) := dk_120 (dk_at dksX1_least_0 19 rfl rfl)
theorem dX1_least_20 : decode cX1_least 20 = .ok (.multianewarray 258 2, 4) := by decide +kernel
theorem dX1_least_24 : decode cX1_least 24 = .ok (.astore_n 2, 1) := dk_77 (dk_at dksX1_least_1 0 rfl rfl)
theorem dX1_least_25 : decode cX1_least 25 = .ok (.iload_n 1, 1) := dk_27 (dk_at dksX1_least_1 1 rfl rfl)
theorem dX1_least_26 : decode cX1_least 26 = .ok (.iconst 1, 1) := dk_4 (dk_at dksX1_least_1 2 rfl rfl)
theorem dX1_least_27 : decode cX1_least 27 = .ok (.isub, 1) := dk_100 (dk_at dksX1_least_1 3 rfl rfl)
theorem dX1_least_28 : decode cX1_least 28 = .ok (.istore_n 3, 1) := dk_62 (dk_at dksX1_least_1 4 rfl rfl)
theorem dX1_least_29 : decode cX1_least 29 = .ok (.iload_n 3, 1) := dk_29 (dk_at dksX1_least_1 5 rfl rfl)
theorem dX1_least_30 : decode cX1_least 30 = .ok (.ifCond .lt 103, 3) := dk_155 0 103 (dk_at dksX1_least_1 6 rfl rfl)
theorem dX1_least_33 : decode cX1_least 33 = .ok (.iconst 0, 1) := dk_3 (dk_at dksX1_least_1 9 rfl rfl)
theorem dX1_least_34 : decode cX1_least 34 = .ok (.istore 4, 2) := dk_54 4 (dk_at dksX1_least_1 10 rfl rfl)
theorem dX1_least_36 : decode cX1_least 36 = .ok (.iload 4, 2) := dk_21 4 (dk_at dksX1_least_1 12 rfl rfl)
theorem dX1_least_38 : decode cX1_least 38 = .ok (.aload_n 2, 1) := dk_44 (dk_at dksX1_least_1 14 rfl rfl)
theorem dX1_least_39 : decode cX1_least 39 = .ok (.iload_n 3, 1) := dk_29 (dk_at dksX1_least_1 15 rfl rfl)
theorem dX1_least_40 : decode cX1_least 40 = .ok (.aaload, 1) := dk_50 (dk_at dksX1_least_1 16 rfl rfl)
theorem dX1_least_41 : decode cX1_least 41 = .ok (.arraylength, 1) := dk_190 (dk_at dksX1_least_1 17 rfl rfl)
theorem dX1_least_42 : decode cX1_least 42 = .ok (.if_icmp .ge 85, 3) := dk_162 0 85 (dk_at dksX1_least_1 18 rfl rfl)
theorem dX1_least_45 : decode cX1_least 45 = .ok (.aload_n 2, 1) := dk_44 (dk_at dksX1_least_1 21 rfl rfl)
theorem dX1_least_46 : decode cX1_least 46 = .ok (.iload_n 3, 1) := dk_29 (dk_at dksX1_least_1 22 rfl rfl)
theorem dX1_least_47 : decode cX1_least 47 = .ok (.aaload, 1) := dk_50 (dk_at dksX1_least_1 23 rfl rfl)
theorem dX1_least_48 : decode cX1_least 48 = .ok (.iload 4, 2) := dk_21 4 (dk_at dksX1_least_2 0 rfl rfl)
theorem dX1_least_50 : decode cX1_least 50 = .ok (.sipush 1000, 3) := dk_17 3 232 (dk_at dksX1_least_2 2 rfl rfl)
theorem dX1_least_53 : decode cX1_least 53 = .ok (.aload_n 2, 1) := dk_44 (dk_at dksX1_least_2 5 rfl rfl)
theorem dX1_least_54 : decode cX1_least 54 = .ok (.iload_n 3, 1) := dk_29 (dk_at dksX1_least_2 6 rfl rfl)
theorem dX1_least_55 : decode cX1_least 55 = .ok (.iconst 1, 1) := dk_4 (dk_at dksX1_least_2 7 rfl rfl)
theorem dX1_least_56 : decode cX1_least 56 = .ok (.iadd, 1) := dk_96 (dk_at dksX1_least_2 8 rfl rfl)
theorem dX1_least_57 : decode cX1_least 57 = .ok (.aaload, 1) := dk_50 (dk_at dksX1_least_2 9 rfl rfl)
theorem dX1_least_58 : decode cX1_least 58 = .ok (.iload 4, 2) := dk_21 4 (dk_at dksX1_least_2 10 rfl rfl)
theorem dX1_least_60 : decode cX1_least 60 = .ok (.iaload, 1) := dk_46 (dk_at dksX1_least_2 12 rfl rfl)
theorem dX1_least_61 : decode cX1_least 61 = .ok (.iadd, 1) := dk_96 (dk_at dksX1_least_2 13 rfl rfl)
theorem dX1_least_62 : decode cX1_least 62 = .ok (.iastore, 1) := dk_79 (dk_at dksX1_least_2 14 rfl rfl)
theorem dX1_least_63 : decode cX1_least 63 = .ok (.iconst 0, 1) := dk_3 (dk_at dksX1_least_2 15 rfl rfl)
theorem dX1_least_64 : decode cX1_least 64 = .ok (.istore 5, 2) := dk_54 5 (dk_at dksX1_least_2 16 rfl rfl)
theorem dX1_least_66 : decode cX1_least 66 = .ok (.iload 5, 2) := dk_21 5 (dk_at dksX1_least_2 18 rfl rfl)
theorem dX1_least_68 : decode cX1_least 68 = .ok (.aload_n 0, 1) := dk_42 (dk_at dksX1_least_2 20 rfl rfl)
theorem dX1_least_69 : decode cX1_least 69 = .ok (.getfield 22, 3) := dk_180 0 22 (dk_at dksX1_least_2 21 rfl rfl)
theorem dX1_least_72 : decode cX1_least 72 = .ok (.invokevirtual 89, 3) := dk_182 0 89 (dk_at dksX1_least_3 0 rfl rfl)
theorem dX1_least_75 : decode cX1_least 75 = .ok (.if_icmp .ge 46, 3) := dk_162 0 46 (dk_at dksX1_least_3 3 rfl rfl)
theorem dX1_least_78 : decode cX1_least 78 = .ok (.aload_n 0, 1) := dk_42 (dk_at dksX1_least_3 6 rfl rfl)
theorem dX1_least_79 : decode cX1_least 79 = .ok (.iload_n 3, 1) := dk_29 (dk_at dksX1_least_3 7 rfl rfl)
theorem dX1_least_80 : decode cX1_least 80 = .ok (.iload 4, 2) := dk_21 4 (dk_at dksX1_least_3 8 rfl rfl)
theorem dX1_least_82 : decode cX1_least 82 = .ok (.iload 5, 2) := dk_21 5 (dk_at dksX1_least_3 10 rfl rfl)
theorem dX1_least_84 : decode cX1_least 84 = .ok (.invokevirtual 260, 3) := dk_182 1 4 (dk_at dksX1_least_3 12 rfl rfl)
theorem dX1_least_87 : decode cX1_least 87 = .ok (.ifCond .eq 28, 3) := dk_153 0 28 (dk_at dksX1_least_3 15 rfl rfl)
theorem dX1_least_90 : decode cX1_least 90 = .ok (.aload_n 2, 1) := dk_44 (dk_at dksX1_least_3 18 rfl rfl)
theorem dX1_least_91 : decode cX1_least 91 = .ok (.iload_n 3, 1) := dk_29 (dk_at dksX1_least_3 19 rfl rfl)
theorem dX1_least_92 : decode cX1_least 92 = .ok (.aaload, 1) := dk_50 (dk_at dksX1_least_3 20 rfl rfl)
theorem dX1_least_93 : decode cX1_least 93 = .ok (.iload 4, 2) := dk_21 4 (dk_at dksX1_least_3 21 rfl rfl)
theorem dX1_least_95 : decode cX1_least 95 = .ok (.aload_n 2, 1) := dk_44 (dk_at dksX1_least_3 23 rfl rfl)
theorem dX1_least_96 : decode cX1_least 96 = .ok (.iload_n 3, 1) := dk_29 (dk_at dksX1_least_4 0 rfl rfl)
theorem dX1_least_97 : decode cX1_least 97 = .ok (.aaload, 1) := dk_50 (dk_at dksX1_least_4 1 rfl rfl)
theorem dX1_least_98 : decode cX1_least 98 = .ok (.iload 4, 2) := dk_21 4 (dk_at dksX1_least_4 2 rfl rfl)
theorem dX1_least_100 : decode cX1_least 100 = .ok (.iaload, 1) := dk_46 (dk_at dksX1_least_4 4 rfl rfl)
theorem dX1_least_101 : decode cX1_least 101 = .ok (.aload_n 0, 1) := dk_42 (dk_at dksX1_least_4 5 rfl rfl)
theorem dX1_least_102 : decode cX1_least 102 = .ok (.aload_n 2, 1) := dk_44 (dk_at dksX1_least_4 6 rfl rfl)
theorem dX1_least_103 : decode cX1_least 103 = .ok (.iload_n 3, 1) := dk_29 (dk_at dksX1_least_4 7 rfl rfl)
theorem dX1_least_104 : decode cX1_least 104 = .ok (.iload 4, 2) := dk_21 4 (dk_at dksX1_least_4 8 rfl rfl)
theorem dX1_least_106 : decode cX1_least 106 = .ok (.iload 5, 2) := dk_21 5 (dk_at dksX1_least_4 10 rfl rfl)
theorem dX1_least_108 : decode cX1_least 108 = .ok (.invokevirtual 263, 3) := dk_182 1 7 (dk_at dksX1_least_4 12 rfl rfl)
theorem dX1_least_111 : decode cX1_least 111 = .ok (.invokestatic 267, 3) := dk_184 1 11 (dk_at dksX1_least_4 15 rfl rfl)
theorem dX1_least_114 : decode cX1_least 114 = .ok (.iastore, 1) := dk_79 (dk_at dksX1_least_4 18 rfl rfl)
theorem dX1_least_115 : decode cX1_least 115 = .ok (.iinc 5 1, 3) := dk_132 5 1 (dk_at dksX1_least_4 19 rfl rfl)
theorem dX1_least_118 : decode cX1_least 118 = .ok (.goto (-52), 3) := dk_167 255 204 (dk_at dksX1_least_5 0 rfl rfl)
theorem dX1_least_121 : decode cX1_least 121 = .ok (.iinc 4 1, 3) := dk_132 4 1 (dk_at dksX1_least_5 3 rfl rfl)
theorem dX1_least_124 : decode cX1_least 124 = .ok (.goto (-88), 3) := dk_167 255 168 (dk_at dksX1_least_5 6 rfl rfl)
theorem dX1_least_127 : decode cX1_least 127 = .ok (.iinc 3 (-1), 3) := dk_132 3 255 (dk_at dksX1_least_5 9 rfl rfl)
theorem dX1_least_130 : decode cX1_least 130 = .ok (.goto (-101), 3) := dk_167 255 155 (dk_at dksX1_least_5 12 rfl rfl)
theorem dX1_least_133 : decode cX1_least 133 = .ok (.aload_n 2, 1) := dk_44 (dk_at dksX1_least_5 15 rfl rfl)
theorem dX1_least_134 : decode cX1_least 134 = .ok (.areturn, 1) := dk_176 (dk_at dksX1_least_5 16 rfl rfl)
abbrev cX1_may : ByteArray := prog_1_method_42_code
def yX1_may : MethodName := ⟨RX1, "may", "(III)Z"⟩
def dkwX1_may_1 : List UInt8 := [3, 172]
abbrev dktX1_may_1 : List UInt8 := dkwX1_may_1 ++ []
def dkwX1_may_0 : List UInt8 := [28, 29, 184, 0, 183, 154, 0, 19, 42, 180, 0, 31, 27, 29, 182, 0, 233, 153, 0, 7, 4, 167, 0, 4]
abbrev dktX1_may_0 : List UInt8 := dkwX1_may_0 ++ dktX1_may_1
theorem dksX1_may_0 : cX1_may.data.toList.drop 0 = dktX1_may_0 := by decide +kernel
theorem dksX1_may_1 : cX1_may.data.toList.drop 24 = dktX1_may_1 := dk_seg dksX1_may_0 24 rfl rfl
theorem dX1_may_0 : decode cX1_may 0 = .ok (.iload_n 2, 1) := dk_28 (dk_at dksX1_may_0 0 rfl rfl)
theorem dX1_may_1 : decode cX1_may 1 = .ok (.iload_n 3, 1) := dk_29 (dk_at dksX1_may_0 1 rfl rfl)
theorem dX1_may_2 : decode cX1_may 2 = .ok (.invokestatic 183, 3) := dk_184 0 183 (dk_at dksX1_may_0 2 rfl rfl)
theorem dX1_may_5 : decode cX1_may 5 = .ok (.ifCond .ne 19, 3) := dk_154 0 19 (dk_at dksX1_may_0 5 rfl rfl)
theorem dX1_may_8 : decode cX1_may 8 = .ok (.aload_n 0, 1) := dk_42 (dk_at dksX1_may_0 8 rfl rfl)
theorem dX1_may_9 : decode cX1_may 9 = .ok (.getfield 31, 3) := dk_180 0 31 (dk_at dksX1_may_0 9 rfl rfl)
theorem dX1_may_12 : decode cX1_may 12 = .ok (.iload_n 1, 1) := dk_27 (dk_at dksX1_may_0 12 rfl rfl)
theorem dX1_may_13 : decode cX1_may 13 = .ok (.iload_n 3, 1) := dk_29 (dk_at dksX1_may_0 13 rfl rfl)
theorem dX1_may_14 : decode cX1_may 14 = .ok (.invokevirtual 233, 3) := dk_182 0 233 (dk_at dksX1_may_0 14 rfl rfl)
theorem dX1_may_17 : decode cX1_may 17 = .ok (.ifCond .eq 7, 3) := dk_153 0 7 (dk_at dksX1_may_0 17 rfl rfl)
theorem dX1_may_20 : decode cX1_may 20 = .ok (.iconst 1, 1) := dk_4 (dk_at dksX1_may_0 20 rfl rfl)
theorem dX1_may_21 : decode cX1_may 21 = .ok (.goto 4, 3) := dk_167 0 4 (dk_at dksX1_may_0 21 rfl rfl)
theorem dX1_may_24 : decode cX1_may 24 = .ok (.iconst 0, 1) := dk_3 (dk_at dksX1_may_1 0 rfl rfl)
theorem dX1_may_25 : decode cX1_may 25 = .ok (.ireturn, 1) := dk_172 (dk_at dksX1_may_1 1 rfl rfl)
abbrev cX1_with : ByteArray := prog_1_method_41_code
def yX1_with : MethodName := ⟨RX1, "with", "([[IIII)I"⟩
def dkwX1_with_0 : List UInt8 := [42, 180, 0, 31, 28, 21, 4, 182, 0, 100, 43, 28, 4, 96, 50, 29, 4, 21, 4, 120, 128, 46, 96, 172]
abbrev dktX1_with_0 : List UInt8 := dkwX1_with_0 ++ []
theorem dksX1_with_0 : cX1_with.data.toList.drop 0 = dktX1_with_0 := by decide +kernel
theorem dX1_with_0 : decode cX1_with 0 = .ok (.aload_n 0, 1) := dk_42 (dk_at dksX1_with_0 0 rfl rfl)
theorem dX1_with_1 : decode cX1_with 1 = .ok (.getfield 31, 3) := dk_180 0 31 (dk_at dksX1_with_0 1 rfl rfl)
theorem dX1_with_4 : decode cX1_with 4 = .ok (.iload_n 2, 1) := dk_28 (dk_at dksX1_with_0 4 rfl rfl)
theorem dX1_with_5 : decode cX1_with 5 = .ok (.iload 4, 2) := dk_21 4 (dk_at dksX1_with_0 5 rfl rfl)
theorem dX1_with_7 : decode cX1_with 7 = .ok (.invokevirtual 100, 3) := dk_182 0 100 (dk_at dksX1_with_0 7 rfl rfl)
theorem dX1_with_10 : decode cX1_with 10 = .ok (.aload_n 1, 1) := dk_43 (dk_at dksX1_with_0 10 rfl rfl)
theorem dX1_with_11 : decode cX1_with 11 = .ok (.iload_n 2, 1) := dk_28 (dk_at dksX1_with_0 11 rfl rfl)
theorem dX1_with_12 : decode cX1_with 12 = .ok (.iconst 1, 1) := dk_4 (dk_at dksX1_with_0 12 rfl rfl)
theorem dX1_with_13 : decode cX1_with 13 = .ok (.iadd, 1) := dk_96 (dk_at dksX1_with_0 13 rfl rfl)
theorem dX1_with_14 : decode cX1_with 14 = .ok (.aaload, 1) := dk_50 (dk_at dksX1_with_0 14 rfl rfl)
theorem dX1_with_15 : decode cX1_with 15 = .ok (.iload_n 3, 1) := dk_29 (dk_at dksX1_with_0 15 rfl rfl)
theorem dX1_with_16 : decode cX1_with 16 = .ok (.iconst 1, 1) := dk_4 (dk_at dksX1_with_0 16 rfl rfl)
theorem dX1_with_17 : decode cX1_with 17 = .ok (.iload 4, 2) := dk_21 4 (dk_at dksX1_with_0 17 rfl rfl)
theorem dX1_with_19 : decode cX1_with 19 = .ok (.ishl, 1) := dk_120 (dk_at dksX1_with_0 19 rfl rfl)
theorem dX1_with_20 : decode cX1_with 20 = .ok (.ior, 1) := dk_128 (dk_at dksX1_with_0 20 rfl rfl)
theorem dX1_with_21 : decode cX1_with 21 = .ok (.iaload, 1) := dk_46 (dk_at dksX1_with_0 21 rfl rfl)
theorem dX1_with_22 : decode cX1_with 22 = .ok (.iadd, 1) := dk_96 (dk_at dksX1_with_0 22 rfl rfl)
theorem dX1_with_23 : decode cX1_with 23 = .ok (.ireturn, 1) := dk_172 (dk_at dksX1_with_0 23 rfl rfl)
abbrev cX1_found : ByteArray := prog_1_method_2_code
def yX1_found : MethodName := ⟨RX1, "found", "(Z)V"⟩
def dkwX1_found_0 : List UInt8 := [26, 154, 0, 11, 187, 0, 1, 89, 183, 0, 3, 191, 177]
abbrev dktX1_found_0 : List UInt8 := dkwX1_found_0 ++ []
theorem dksX1_found_0 : cX1_found.data.toList.drop 0 = dktX1_found_0 := by decide +kernel
theorem dX1_found_0 : decode cX1_found 0 = .ok (.iload_n 0, 1) := dk_26 (dk_at dksX1_found_0 0 rfl rfl)
theorem dX1_found_1 : decode cX1_found 1 = .ok (.ifCond .ne 11, 3) := dk_154 0 11 (dk_at dksX1_found_0 1 rfl rfl)
theorem dX1_found_4 : decode cX1_found 4 = .ok (.new 1, 3) := dk_187 0 1 (dk_at dksX1_found_0 4 rfl rfl)
theorem dX1_found_7 : decode cX1_found 7 = .ok (.dup, 1) := dk_89 (dk_at dksX1_found_0 7 rfl rfl)
theorem dX1_found_8 : decode cX1_found 8 = .ok (.invokespecial 3, 3) := dk_183 0 3 (dk_at dksX1_found_0 8 rfl rfl)
theorem dX1_found_11 : decode cX1_found 11 = .ok (.athrow, 1) := dk_191 (dk_at dksX1_found_0 11 rfl rfl)
theorem dX1_found_12 : decode cX1_found 12 = .ok (.return_, 1) := dk_177 (dk_at dksX1_found_0 12 rfl rfl)
abbrev cX1_house : ByteArray := prog_1_method_19_code
def yX1_house : MethodName := ⟨RX1, "house", "(II)I"⟩
def dkwX1_house_6 : List UInt8 := [172, 28, 16, 7, 160, 0, 7, 4, 167, 0, 4, 3, 184, 0, 142, 42, 27, 182, 0, 190, 172]
abbrev dktX1_house_6 : List UInt8 := dkwX1_house_6 ++ []
def dkwX1_house_5 : List UInt8 := [180, 0, 31, 180, 0, 116, 27, 184, 0, 183, 153, 0, 7, 4, 167, 0, 4, 3, 172, 42, 27, 182, 0, 187]
abbrev dktX1_house_5 : List UInt8 := dkwX1_house_5 ++ dktX1_house_6
def dkwX1_house_4 : List UInt8 := [182, 0, 154, 172, 42, 180, 0, 31, 180, 0, 180, 27, 46, 172, 42, 180, 0, 31, 27, 182, 0, 93, 172, 42]
abbrev dktX1_house_4 : List UInt8 := dkwX1_house_4 ++ dktX1_house_5
def dkwX1_house_3 : List UInt8 := [192, 0, 152, 182, 0, 154, 172, 42, 180, 0, 22, 180, 0, 145, 27, 185, 0, 148, 2, 0, 192, 0, 152]
abbrev dktX1_house_3 : List UInt8 := dkwX1_house_3 ++ dktX1_house_4
def dkwX1_house_2 : List UInt8 := [42, 180, 0, 31, 180, 0, 165, 27, 46, 172, 42, 180, 0, 22, 180, 0, 177, 27, 185, 0, 148, 2, 0]
abbrev dktX1_house_2 : List UInt8 := dkwX1_house_2 ++ dktX1_house_3
def dkwX1_house_1 : List UInt8 := [170, 0, 0, 0, 0, 137, 0, 0, 0, 0, 0, 0, 0, 6, 0, 0, 0, 42, 0, 0, 0, 52, 0, 0, 0, 72, 0, 0, 0, 92, 0, 0, 0, 102, 0, 0, 0, 111, 0, 0, 0, 131]
abbrev dktX1_house_1 : List UInt8 := dkwX1_house_1 ++ dktX1_house_2
def dkwX1_house_0 : List UInt8 := [42, 27, 182, 0, 173, 28]
abbrev dktX1_house_0 : List UInt8 := dkwX1_house_0 ++ dktX1_house_1
theorem dksX1_house_0 : cX1_house.data.toList.drop 0 = dktX1_house_0 := by decide +kernel
theorem dksX1_house_1 : cX1_house.data.toList.drop 6 = dktX1_house_1 := dk_seg dksX1_house_0 6 rfl rfl
theorem dksX1_house_2 : cX1_house.data.toList.drop 48 = dktX1_house_2 := dk_seg dksX1_house_1 42 rfl rfl
theorem dksX1_house_3 : cX1_house.data.toList.drop 71 = dktX1_house_3 := dk_seg dksX1_house_2 23 rfl rfl
theorem dksX1_house_4 : cX1_house.data.toList.drop 94 = dktX1_house_4 := dk_seg dksX1_house_3 23 rfl rfl
theorem dksX1_house_5 : cX1_house.data.toList.drop 118 = dktX1_house_5 := dk_seg dksX1_house_4 24 rfl rfl
theorem dksX1_house_6 : cX1_house.data.toList.drop 142 = dktX1_house_6 := dk_seg dksX1_house_5 24 rfl rfl
theorem dX1_house_0 : decode cX1_house 0 = .ok (.aload_n 0, 1) := dk_42 (dk_at dksX1_house_0 0 rfl rfl)
theorem dX1_house_1 : decode cX1_house 1 = .ok (.iload_n 1, 1) := dk_27 (dk_at dksX1_house_0 1 rfl rfl)
theorem dX1_house_2 : decode cX1_house 2 = .ok (.invokevirtual 173, 3) := dk_182 0 173 (dk_at dksX1_house_0 2 rfl rfl)
theorem dX1_house_5 : decode cX1_house 5 = .ok (.iload_n 2, 1) := dk_28 (dk_at dksX1_house_0 5 rfl rfl)
theorem dX1_house_6 : decode cX1_house 6 = .ok (.tableswitch 137 0 6 #[42, 52, 72, 92, 102, 111, 131], 42) := by decide +kernel
theorem dX1_house_48 : decode cX1_house 48 = .ok (.aload_n 0, 1) := dk_42 (dk_at dksX1_house_2 0 rfl rfl)
theorem dX1_house_49 : decode cX1_house 49 = .ok (.getfield 31, 3) := dk_180 0 31 (dk_at dksX1_house_2 1 rfl rfl)
theorem dX1_house_52 : decode cX1_house 52 = .ok (.getfield 165, 3) := dk_180 0 165 (dk_at dksX1_house_2 4 rfl rfl)
theorem dX1_house_55 : decode cX1_house 55 = .ok (.iload_n 1, 1) := dk_27 (dk_at dksX1_house_2 7 rfl rfl)
theorem dX1_house_56 : decode cX1_house 56 = .ok (.iaload, 1) := dk_46 (dk_at dksX1_house_2 8 rfl rfl)
theorem dX1_house_57 : decode cX1_house 57 = .ok (.ireturn, 1) := dk_172 (dk_at dksX1_house_2 9 rfl rfl)
theorem dX1_house_58 : decode cX1_house 58 = .ok (.aload_n 0, 1) := dk_42 (dk_at dksX1_house_2 10 rfl rfl)
theorem dX1_house_59 : decode cX1_house 59 = .ok (.getfield 22, 3) := dk_180 0 22 (dk_at dksX1_house_2 11 rfl rfl)
theorem dX1_house_62 : decode cX1_house 62 = .ok (.getfield 177, 3) := dk_180 0 177 (dk_at dksX1_house_2 14 rfl rfl)
theorem dX1_house_65 : decode cX1_house 65 = .ok (.iload_n 1, 1) := dk_27 (dk_at dksX1_house_2 17 rfl rfl)
theorem dX1_house_66 : decode cX1_house 66 = .ok (.invokeinterface 148 2, 5) := by decide +kernel
theorem dX1_house_71 : decode cX1_house 71 = .ok (.checkcast 152, 3) := dk_192 0 152 (dk_at dksX1_house_3 0 rfl rfl)
theorem dX1_house_74 : decode cX1_house 74 = .ok (.invokevirtual 154, 3) := dk_182 0 154 (dk_at dksX1_house_3 3 rfl rfl)
theorem dX1_house_77 : decode cX1_house 77 = .ok (.ireturn, 1) := dk_172 (dk_at dksX1_house_3 6 rfl rfl)
theorem dX1_house_78 : decode cX1_house 78 = .ok (.aload_n 0, 1) := dk_42 (dk_at dksX1_house_3 7 rfl rfl)
theorem dX1_house_79 : decode cX1_house 79 = .ok (.getfield 22, 3) := dk_180 0 22 (dk_at dksX1_house_3 8 rfl rfl)
theorem dX1_house_82 : decode cX1_house 82 = .ok (.getfield 145, 3) := dk_180 0 145 (dk_at dksX1_house_3 11 rfl rfl)
theorem dX1_house_85 : decode cX1_house 85 = .ok (.iload_n 1, 1) := dk_27 (dk_at dksX1_house_3 14 rfl rfl)
theorem dX1_house_86 : decode cX1_house 86 = .ok (.invokeinterface 148 2, 5) := by decide +kernel
theorem dX1_house_91 : decode cX1_house 91 = .ok (.checkcast 152, 3) := dk_192 0 152 (dk_at dksX1_house_3 20 rfl rfl)
theorem dX1_house_94 : decode cX1_house 94 = .ok (.invokevirtual 154, 3) := dk_182 0 154 (dk_at dksX1_house_4 0 rfl rfl)
theorem dX1_house_97 : decode cX1_house 97 = .ok (.ireturn, 1) := dk_172 (dk_at dksX1_house_4 3 rfl rfl)
theorem dX1_house_98 : decode cX1_house 98 = .ok (.aload_n 0, 1) := dk_42 (dk_at dksX1_house_4 4 rfl rfl)
theorem dX1_house_99 : decode cX1_house 99 = .ok (.getfield 31, 3) := dk_180 0 31 (dk_at dksX1_house_4 5 rfl rfl)
theorem dX1_house_102 : decode cX1_house 102 = .ok (.getfield 180, 3) := dk_180 0 180 (dk_at dksX1_house_4 8 rfl rfl)
theorem dX1_house_105 : decode cX1_house 105 = .ok (.iload_n 1, 1) := dk_27 (dk_at dksX1_house_4 11 rfl rfl)
theorem dX1_house_106 : decode cX1_house 106 = .ok (.iaload, 1) := dk_46 (dk_at dksX1_house_4 12 rfl rfl)
theorem dX1_house_107 : decode cX1_house 107 = .ok (.ireturn, 1) := dk_172 (dk_at dksX1_house_4 13 rfl rfl)
theorem dX1_house_108 : decode cX1_house 108 = .ok (.aload_n 0, 1) := dk_42 (dk_at dksX1_house_4 14 rfl rfl)
theorem dX1_house_109 : decode cX1_house 109 = .ok (.getfield 31, 3) := dk_180 0 31 (dk_at dksX1_house_4 15 rfl rfl)
theorem dX1_house_112 : decode cX1_house 112 = .ok (.iload_n 1, 1) := dk_27 (dk_at dksX1_house_4 18 rfl rfl)
theorem dX1_house_113 : decode cX1_house 113 = .ok (.invokevirtual 93, 3) := dk_182 0 93 (dk_at dksX1_house_4 19 rfl rfl)
theorem dX1_house_116 : decode cX1_house 116 = .ok (.ireturn, 1) := dk_172 (dk_at dksX1_house_4 22 rfl rfl)
theorem dX1_house_117 : decode cX1_house 117 = .ok (.aload_n 0, 1) := dk_42 (dk_at dksX1_house_4 23 rfl rfl)
theorem dX1_house_118 : decode cX1_house 118 = .ok (.getfield 31, 3) := dk_180 0 31 (dk_at dksX1_house_5 0 rfl rfl)
theorem dX1_house_121 : decode cX1_house 121 = .ok (.getfield 116, 3) := dk_180 0 116 (dk_at dksX1_house_5 3 rfl rfl)
theorem dX1_house_124 : decode cX1_house 124 = .ok (.iload_n 1, 1) := dk_27 (dk_at dksX1_house_5 6 rfl rfl)
theorem dX1_house_125 : decode cX1_house 125 = .ok (.invokestatic 183, 3) := dk_184 0 183 (dk_at dksX1_house_5 7 rfl rfl)
theorem dX1_house_128 : decode cX1_house 128 = .ok (.ifCond .eq 7, 3) := dk_153 0 7 (dk_at dksX1_house_5 10 rfl rfl)
theorem dX1_house_131 : decode cX1_house 131 = .ok (.iconst 1, 1) := dk_4 (dk_at dksX1_house_5 13 rfl rfl)
theorem dX1_house_132 : decode cX1_house 132 = .ok (.goto 4, 3) := dk_167 0 4 (dk_at dksX1_house_5 14 rfl rfl)
theorem dX1_house_135 : decode cX1_house 135 = .ok (.iconst 0, 1) := dk_3 (dk_at dksX1_house_5 17 rfl rfl)
theorem dX1_house_136 : decode cX1_house 136 = .ok (.ireturn, 1) := dk_172 (dk_at dksX1_house_5 18 rfl rfl)
theorem dX1_house_137 : decode cX1_house 137 = .ok (.aload_n 0, 1) := dk_42 (dk_at dksX1_house_5 19 rfl rfl)
theorem dX1_house_138 : decode cX1_house 138 = .ok (.iload_n 1, 1) := dk_27 (dk_at dksX1_house_5 20 rfl rfl)
theorem dX1_house_139 : decode cX1_house 139 = .ok (.invokevirtual 187, 3) := dk_182 0 187 (dk_at dksX1_house_5 21 rfl rfl)
theorem dX1_house_142 : decode cX1_house 142 = .ok (.ireturn, 1) := dk_172 (dk_at dksX1_house_6 0 rfl rfl)
theorem dX1_house_143 : decode cX1_house 143 = .ok (.iload_n 2, 1) := dk_28 (dk_at dksX1_house_6 1 rfl rfl)
theorem dX1_house_144 : decode cX1_house 144 = .ok (.bipush 7, 2) := dk_16 7 (dk_at dksX1_house_6 2 rfl rfl)
theorem dX1_house_146 : decode cX1_house 146 = .ok (.if_icmp .ne 7, 3) := dk_160 0 7 (dk_at dksX1_house_6 4 rfl rfl)
theorem dX1_house_149 : decode cX1_house 149 = .ok (.iconst 1, 1) := dk_4 (dk_at dksX1_house_6 7 rfl rfl)
theorem dX1_house_150 : decode cX1_house 150 = .ok (.goto 4, 3) := dk_167 0 4 (dk_at dksX1_house_6 8 rfl rfl)
theorem dX1_house_153 : decode cX1_house 153 = .ok (.iconst 0, 1) := dk_3 (dk_at dksX1_house_6 11 rfl rfl)
theorem dX1_house_154 : decode cX1_house 154 = .ok (.invokestatic 142, 3) := dk_184 0 142 (dk_at dksX1_house_6 12 rfl rfl)
theorem dX1_house_157 : decode cX1_house 157 = .ok (.aload_n 0, 1) := dk_42 (dk_at dksX1_house_6 15 rfl rfl)
theorem dX1_house_158 : decode cX1_house 158 = .ok (.iload_n 1, 1) := dk_27 (dk_at dksX1_house_6 16 rfl rfl)
theorem dX1_house_159 : decode cX1_house 159 = .ok (.invokevirtual 190, 3) := dk_182 0 190 (dk_at dksX1_house_6 17 rfl rfl)
theorem dX1_house_162 : decode cX1_house 162 = .ok (.ireturn, 1) := dk_172 (dk_at dksX1_house_6 20 rfl rfl)
abbrev cX1_aHouse : ByteArray := prog_1_method_13_code
def yX1_aHouse : MethodName := ⟨RX1, "aHouse", "(I)V"⟩
def dkwX1_aHouse_0 : List UInt8 := [27, 3, 42, 180, 0, 22, 182, 0, 89, 4, 100, 184, 0, 139, 184, 0, 142, 177]
abbrev dktX1_aHouse_0 : List UInt8 := dkwX1_aHouse_0 ++ []
theorem dksX1_aHouse_0 : cX1_aHouse.data.toList.drop 0 = dktX1_aHouse_0 := by decide +kernel
theorem dX1_aHouse_0 : decode cX1_aHouse 0 = .ok (.iload_n 1, 1) := dk_27 (dk_at dksX1_aHouse_0 0 rfl rfl)
theorem dX1_aHouse_1 : decode cX1_aHouse 1 = .ok (.iconst 0, 1) := dk_3 (dk_at dksX1_aHouse_0 1 rfl rfl)
theorem dX1_aHouse_2 : decode cX1_aHouse 2 = .ok (.aload_n 0, 1) := dk_42 (dk_at dksX1_aHouse_0 2 rfl rfl)
theorem dX1_aHouse_3 : decode cX1_aHouse 3 = .ok (.getfield 22, 3) := dk_180 0 22 (dk_at dksX1_aHouse_0 3 rfl rfl)
theorem dX1_aHouse_6 : decode cX1_aHouse 6 = .ok (.invokevirtual 89, 3) := dk_182 0 89 (dk_at dksX1_aHouse_0 6 rfl rfl)
theorem dX1_aHouse_9 : decode cX1_aHouse 9 = .ok (.iconst 1, 1) := dk_4 (dk_at dksX1_aHouse_0 9 rfl rfl)
theorem dX1_aHouse_10 : decode cX1_aHouse 10 = .ok (.isub, 1) := dk_100 (dk_at dksX1_aHouse_0 10 rfl rfl)
theorem dX1_aHouse_11 : decode cX1_aHouse 11 = .ok (.invokestatic 139, 3) := dk_184 0 139 (dk_at dksX1_aHouse_0 11 rfl rfl)
theorem dX1_aHouse_14 : decode cX1_aHouse 14 = .ok (.invokestatic 142, 3) := dk_184 0 142 (dk_at dksX1_aHouse_0 14 rfl rfl)
theorem dX1_aHouse_17 : decode cX1_aHouse 17 = .ok (.return_, 1) := dk_177 (dk_at dksX1_aHouse_0 17 rfl rfl)
abbrev cX1_room : ByteArray := prog_1_method_18_code
def yX1_room : MethodName := ⟨RX1, "room", "(I)I"⟩
def dkwX1_room_1 : List UInt8 := [180, 0, 165, 27, 46, 42, 180, 0, 31, 180, 0, 167, 28, 46, 100, 184, 0, 170, 172]
abbrev dktX1_room_1 : List UInt8 := dkwX1_room_1 ++ []
def dkwX1_room_0 : List UInt8 := [42, 180, 0, 31, 27, 182, 0, 93, 61, 28, 2, 160, 0, 7, 3, 167, 0, 26, 3, 42, 180, 0, 31]
abbrev dktX1_room_0 : List UInt8 := dkwX1_room_0 ++ dktX1_room_1
theorem dksX1_room_0 : cX1_room.data.toList.drop 0 = dktX1_room_0 := by decide +kernel
theorem dksX1_room_1 : cX1_room.data.toList.drop 23 = dktX1_room_1 := dk_seg dksX1_room_0 23 rfl rfl
theorem dX1_room_0 : decode cX1_room 0 = .ok (.aload_n 0, 1) := dk_42 (dk_at dksX1_room_0 0 rfl rfl)
theorem dX1_room_1 : decode cX1_room 1 = .ok (.getfield 31, 3) := dk_180 0 31 (dk_at dksX1_room_0 1 rfl rfl)
theorem dX1_room_4 : decode cX1_room 4 = .ok (.iload_n 1, 1) := dk_27 (dk_at dksX1_room_0 4 rfl rfl)
theorem dX1_room_5 : decode cX1_room 5 = .ok (.invokevirtual 93, 3) := dk_182 0 93 (dk_at dksX1_room_0 5 rfl rfl)
theorem dX1_room_8 : decode cX1_room 8 = .ok (.istore_n 2, 1) := dk_61 (dk_at dksX1_room_0 8 rfl rfl)
theorem dX1_room_9 : decode cX1_room 9 = .ok (.iload_n 2, 1) := dk_28 (dk_at dksX1_room_0 9 rfl rfl)
theorem dX1_room_10 : decode cX1_room 10 = .ok (.iconst (-1), 1) := dk_2 (dk_at dksX1_room_0 10 rfl rfl)
theorem dX1_room_11 : decode cX1_room 11 = .ok (.if_icmp .ne 7, 3) := dk_160 0 7 (dk_at dksX1_room_0 11 rfl rfl)
theorem dX1_room_14 : decode cX1_room 14 = .ok (.iconst 0, 1) := dk_3 (dk_at dksX1_room_0 14 rfl rfl)
theorem dX1_room_15 : decode cX1_room 15 = .ok (.goto 26, 3) := dk_167 0 26 (dk_at dksX1_room_0 15 rfl rfl)
theorem dX1_room_18 : decode cX1_room 18 = .ok (.iconst 0, 1) := dk_3 (dk_at dksX1_room_0 18 rfl rfl)
theorem dX1_room_19 : decode cX1_room 19 = .ok (.aload_n 0, 1) := dk_42 (dk_at dksX1_room_0 19 rfl rfl)
theorem dX1_room_20 : decode cX1_room 20 = .ok (.getfield 31, 3) := dk_180 0 31 (dk_at dksX1_room_0 20 rfl rfl)
theorem dX1_room_23 : decode cX1_room 23 = .ok (.getfield 165, 3) := dk_180 0 165 (dk_at dksX1_room_1 0 rfl rfl)
theorem dX1_room_26 : decode cX1_room 26 = .ok (.iload_n 1, 1) := dk_27 (dk_at dksX1_room_1 3 rfl rfl)
theorem dX1_room_27 : decode cX1_room 27 = .ok (.iaload, 1) := dk_46 (dk_at dksX1_room_1 4 rfl rfl)
theorem dX1_room_28 : decode cX1_room 28 = .ok (.aload_n 0, 1) := dk_42 (dk_at dksX1_room_1 5 rfl rfl)
theorem dX1_room_29 : decode cX1_room 29 = .ok (.getfield 31, 3) := dk_180 0 31 (dk_at dksX1_room_1 6 rfl rfl)
theorem dX1_room_32 : decode cX1_room 32 = .ok (.getfield 167, 3) := dk_180 0 167 (dk_at dksX1_room_1 9 rfl rfl)
theorem dX1_room_35 : decode cX1_room 35 = .ok (.iload_n 2, 1) := dk_28 (dk_at dksX1_room_1 12 rfl rfl)
theorem dX1_room_36 : decode cX1_room 36 = .ok (.iaload, 1) := dk_46 (dk_at dksX1_room_1 13 rfl rfl)
theorem dX1_room_37 : decode cX1_room 37 = .ok (.isub, 1) := dk_100 (dk_at dksX1_room_1 14 rfl rfl)
theorem dX1_room_38 : decode cX1_room 38 = .ok (.invokestatic 170, 3) := dk_184 0 170 (dk_at dksX1_room_1 15 rfl rfl)
theorem dX1_room_41 : decode cX1_room 41 = .ok (.ireturn, 1) := dk_172 (dk_at dksX1_room_1 18 rfl rfl)
abbrev cX1_nextDoor : ByteArray := prog_1_method_17_code
def yX1_nextDoor : MethodName := ⟨RX1, "nextDoor", "(I)I"⟩
def dkwX1_nextDoor_2 : List UInt8 := [167, 255, 215, 28, 172]
abbrev dktX1_nextDoor_2 : List UInt8 := dkwX1_nextDoor_2 ++ []
def dkwX1_nextDoor_1 : List UInt8 := [159, 0, 18, 42, 29, 27, 182, 0, 162, 42, 28, 27, 182, 0, 162, 162, 0, 5, 29, 61, 132, 3, 1]
abbrev dktX1_nextDoor_1 : List UInt8 := dkwX1_nextDoor_1 ++ dktX1_nextDoor_2
def dkwX1_nextDoor_0 : List UInt8 := [2, 61, 3, 62, 29, 42, 180, 0, 22, 182, 0, 89, 162, 0, 36, 29, 27, 159, 0, 25, 28, 2]
abbrev dktX1_nextDoor_0 : List UInt8 := dkwX1_nextDoor_0 ++ dktX1_nextDoor_1
theorem dksX1_nextDoor_0 : cX1_nextDoor.data.toList.drop 0 = dktX1_nextDoor_0 := by decide +kernel
theorem dksX1_nextDoor_1 : cX1_nextDoor.data.toList.drop 22 = dktX1_nextDoor_1 := dk_seg dksX1_nextDoor_0 22 rfl rfl
theorem dksX1_nextDoor_2 : cX1_nextDoor.data.toList.drop 45 = dktX1_nextDoor_2 := dk_seg dksX1_nextDoor_1 23 rfl rfl
theorem dX1_nextDoor_0 : decode cX1_nextDoor 0 = .ok (.iconst (-1), 1) := dk_2 (dk_at dksX1_nextDoor_0 0 rfl rfl)
theorem dX1_nextDoor_1 : decode cX1_nextDoor 1 = .ok (.istore_n 2, 1) := dk_61 (dk_at dksX1_nextDoor_0 1 rfl rfl)
theorem dX1_nextDoor_2 : decode cX1_nextDoor 2 = .ok (.iconst 0, 1) := dk_3 (dk_at dksX1_nextDoor_0 2 rfl rfl)
theorem dX1_nextDoor_3 : decode cX1_nextDoor 3 = .ok (.istore_n 3, 1) := dk_62 (dk_at dksX1_nextDoor_0 3 rfl rfl)
theorem dX1_nextDoor_4 : decode cX1_nextDoor 4 = .ok (.iload_n 3, 1) := dk_29 (dk_at dksX1_nextDoor_0 4 rfl rfl)
theorem dX1_nextDoor_5 : decode cX1_nextDoor 5 = .ok (.aload_n 0, 1) := dk_42 (dk_at dksX1_nextDoor_0 5 rfl rfl)
theorem dX1_nextDoor_6 : decode cX1_nextDoor 6 = .ok (.getfield 22, 3) := dk_180 0 22 (dk_at dksX1_nextDoor_0 6 rfl rfl)
theorem dX1_nextDoor_9 : decode cX1_nextDoor 9 = .ok (.invokevirtual 89, 3) := dk_182 0 89 (dk_at dksX1_nextDoor_0 9 rfl rfl)
theorem dX1_nextDoor_12 : decode cX1_nextDoor 12 = .ok (.if_icmp .ge 36, 3) := dk_162 0 36 (dk_at dksX1_nextDoor_0 12 rfl rfl)
theorem dX1_nextDoor_15 : decode cX1_nextDoor 15 = .ok (.iload_n 3, 1) := dk_29 (dk_at dksX1_nextDoor_0 15 rfl rfl)
theorem dX1_nextDoor_16 : decode cX1_nextDoor 16 = .ok (.iload_n 1, 1) := dk_27 (dk_at dksX1_nextDoor_0 16 rfl rfl)
theorem dX1_nextDoor_17 : decode cX1_nextDoor 17 = .ok (.if_icmp .eq 25, 3) := dk_159 0 25 (dk_at dksX1_nextDoor_0 17 rfl rfl)
theorem dX1_nextDoor_20 : decode cX1_nextDoor 20 = .ok (.iload_n 2, 1) := dk_28 (dk_at dksX1_nextDoor_0 20 rfl rfl)
theorem dX1_nextDoor_21 : decode cX1_nextDoor 21 = .ok (.iconst (-1), 1) := dk_2 (dk_at dksX1_nextDoor_0 21 rfl rfl)
theorem dX1_nextDoor_22 : decode cX1_nextDoor 22 = .ok (.if_icmp .eq 18, 3) := dk_159 0 18 (dk_at dksX1_nextDoor_1 0 rfl rfl)
theorem dX1_nextDoor_25 : decode cX1_nextDoor 25 = .ok (.aload_n 0, 1) := dk_42 (dk_at dksX1_nextDoor_1 3 rfl rfl)
theorem dX1_nextDoor_26 : decode cX1_nextDoor 26 = .ok (.iload_n 3, 1) := dk_29 (dk_at dksX1_nextDoor_1 4 rfl rfl)
theorem dX1_nextDoor_27 : decode cX1_nextDoor 27 = .ok (.iload_n 1, 1) := dk_27 (dk_at dksX1_nextDoor_1 5 rfl rfl)
theorem dX1_nextDoor_28 : decode cX1_nextDoor 28 = .ok (.invokevirtual 162, 3) := dk_182 0 162 (dk_at dksX1_nextDoor_1 6 rfl rfl)
theorem dX1_nextDoor_31 : decode cX1_nextDoor 31 = .ok (.aload_n 0, 1) := dk_42 (dk_at dksX1_nextDoor_1 9 rfl rfl)
theorem dX1_nextDoor_32 : decode cX1_nextDoor 32 = .ok (.iload_n 2, 1) := dk_28 (dk_at dksX1_nextDoor_1 10 rfl rfl)
theorem dX1_nextDoor_33 : decode cX1_nextDoor 33 = .ok (.iload_n 1, 1) := dk_27 (dk_at dksX1_nextDoor_1 11 rfl rfl)
theorem dX1_nextDoor_34 : decode cX1_nextDoor 34 = .ok (.invokevirtual 162, 3) := dk_182 0 162 (dk_at dksX1_nextDoor_1 12 rfl rfl)
theorem dX1_nextDoor_37 : decode cX1_nextDoor 37 = .ok (.if_icmp .ge 5, 3) := dk_162 0 5 (dk_at dksX1_nextDoor_1 15 rfl rfl)
theorem dX1_nextDoor_40 : decode cX1_nextDoor 40 = .ok (.iload_n 3, 1) := dk_29 (dk_at dksX1_nextDoor_1 18 rfl rfl)
theorem dX1_nextDoor_41 : decode cX1_nextDoor 41 = .ok (.istore_n 2, 1) := dk_61 (dk_at dksX1_nextDoor_1 19 rfl rfl)
theorem dX1_nextDoor_42 : decode cX1_nextDoor 42 = .ok (.iinc 3 1, 3) := dk_132 3 1 (dk_at dksX1_nextDoor_1 20 rfl rfl)
theorem dX1_nextDoor_45 : decode cX1_nextDoor 45 = .ok (.goto (-41), 3) := dk_167 255 215 (dk_at dksX1_nextDoor_2 0 rfl rfl)
theorem dX1_nextDoor_48 : decode cX1_nextDoor 48 = .ok (.iload_n 2, 1) := dk_28 (dk_at dksX1_nextDoor_2 3 rfl rfl)
theorem dX1_nextDoor_49 : decode cX1_nextDoor 49 = .ok (.ireturn, 1) := dk_172 (dk_at dksX1_nextDoor_2 4 rfl rfl)
abbrev cX1_far : ByteArray := prog_1_method_16_code
def yX1_far : MethodName := ⟨RX1, "far", "(II)I"⟩
def dkwX1_far_1 : List UInt8 := [180, 0, 145, 28, 185, 0, 148, 2, 0, 192, 0, 152, 182, 0, 154, 100, 184, 0, 157, 172]
abbrev dktX1_far_1 : List UInt8 := dkwX1_far_1 ++ []
def dkwX1_far_0 : List UInt8 := [42, 180, 0, 22, 180, 0, 145, 27, 185, 0, 148, 2, 0, 192, 0, 152, 182, 0, 154, 42, 180, 0, 22]
abbrev dktX1_far_0 : List UInt8 := dkwX1_far_0 ++ dktX1_far_1
theorem dksX1_far_0 : cX1_far.data.toList.drop 0 = dktX1_far_0 := by decide +kernel
theorem dksX1_far_1 : cX1_far.data.toList.drop 23 = dktX1_far_1 := dk_seg dksX1_far_0 23 rfl rfl
theorem dX1_far_0 : decode cX1_far 0 = .ok (.aload_n 0, 1) := dk_42 (dk_at dksX1_far_0 0 rfl rfl)
theorem dX1_far_1 : decode cX1_far 1 = .ok (.getfield 22, 3) := dk_180 0 22 (dk_at dksX1_far_0 1 rfl rfl)
theorem dX1_far_4 : decode cX1_far 4 = .ok (.getfield 145, 3) := dk_180 0 145 (dk_at dksX1_far_0 4 rfl rfl)
theorem dX1_far_7 : decode cX1_far 7 = .ok (.iload_n 1, 1) := dk_27 (dk_at dksX1_far_0 7 rfl rfl)
theorem dX1_far_8 : decode cX1_far 8 = .ok (.invokeinterface 148 2, 5) := by decide +kernel
theorem dX1_far_13 : decode cX1_far 13 = .ok (.checkcast 152, 3) := dk_192 0 152 (dk_at dksX1_far_0 13 rfl rfl)
theorem dX1_far_16 : decode cX1_far 16 = .ok (.invokevirtual 154, 3) := dk_182 0 154 (dk_at dksX1_far_0 16 rfl rfl)
theorem dX1_far_19 : decode cX1_far 19 = .ok (.aload_n 0, 1) := dk_42 (dk_at dksX1_far_0 19 rfl rfl)
theorem dX1_far_20 : decode cX1_far 20 = .ok (.getfield 22, 3) := dk_180 0 22 (dk_at dksX1_far_0 20 rfl rfl)
theorem dX1_far_23 : decode cX1_far 23 = .ok (.getfield 145, 3) := dk_180 0 145 (dk_at dksX1_far_1 0 rfl rfl)
theorem dX1_far_26 : decode cX1_far 26 = .ok (.iload_n 2, 1) := dk_28 (dk_at dksX1_far_1 3 rfl rfl)
theorem dX1_far_27 : decode cX1_far 27 = .ok (.invokeinterface 148 2, 5) := by decide +kernel
theorem dX1_far_32 : decode cX1_far 32 = .ok (.checkcast 152, 3) := dk_192 0 152 (dk_at dksX1_far_1 9 rfl rfl)
theorem dX1_far_35 : decode cX1_far 35 = .ok (.invokevirtual 154, 3) := dk_182 0 154 (dk_at dksX1_far_1 12 rfl rfl)
theorem dX1_far_38 : decode cX1_far 38 = .ok (.isub, 1) := dk_100 (dk_at dksX1_far_1 15 rfl rfl)
theorem dX1_far_39 : decode cX1_far 39 = .ok (.invokestatic 157, 3) := dk_184 0 157 (dk_at dksX1_far_1 16 rfl rfl)
theorem dX1_far_42 : decode cX1_far 42 = .ok (.ireturn, 1) := dk_172 (dk_at dksX1_far_1 19 rfl rfl)
abbrev cX1_person : ByteArray := prog_1_method_20_code
def yX1_person : MethodName := ⟨RX1, "person", "(II)I"⟩
def dkwX1_person_3 : List UInt8 := [6, 160, 0, 15, 42, 180, 0, 31, 180, 0, 203, 27, 46, 167, 0, 8, 42, 27, 182, 0, 107, 172]
abbrev dktX1_person_3 : List UInt8 := dkwX1_person_3 ++ []
def dkwX1_person_2 : List UInt8 := [182, 0, 154, 167, 0, 42, 28, 5, 160, 0, 15, 42, 180, 0, 31, 180, 0, 97, 27, 46, 167, 0, 25, 28]
abbrev dktX1_person_2 : List UInt8 := dkwX1_person_2 ++ dktX1_person_3
def dkwX1_person_1 : List UInt8 := [167, 0, 69, 28, 4, 160, 0, 25, 42, 180, 0, 22, 180, 0, 200, 27, 185, 0, 148, 2, 0, 192, 0, 152]
abbrev dktX1_person_1 : List UInt8 := dkwX1_person_1 ++ dktX1_person_2
def dkwX1_person_0 : List UInt8 := [42, 27, 182, 0, 193, 28, 7, 184, 0, 196, 28, 154, 0, 15, 42, 180, 0, 31, 180, 0, 167, 27, 46]
abbrev dktX1_person_0 : List UInt8 := dkwX1_person_0 ++ dktX1_person_1
theorem dksX1_person_0 : cX1_person.data.toList.drop 0 = dktX1_person_0 := by decide +kernel
theorem dksX1_person_1 : cX1_person.data.toList.drop 23 = dktX1_person_1 := dk_seg dksX1_person_0 23 rfl rfl
theorem dksX1_person_2 : cX1_person.data.toList.drop 47 = dktX1_person_2 := dk_seg dksX1_person_1 24 rfl rfl
theorem dksX1_person_3 : cX1_person.data.toList.drop 71 = dktX1_person_3 := dk_seg dksX1_person_2 24 rfl rfl
theorem dX1_person_0 : decode cX1_person 0 = .ok (.aload_n 0, 1) := dk_42 (dk_at dksX1_person_0 0 rfl rfl)
theorem dX1_person_1 : decode cX1_person 1 = .ok (.iload_n 1, 1) := dk_27 (dk_at dksX1_person_0 1 rfl rfl)
theorem dX1_person_2 : decode cX1_person 2 = .ok (.invokevirtual 193, 3) := dk_182 0 193 (dk_at dksX1_person_0 2 rfl rfl)
theorem dX1_person_5 : decode cX1_person 5 = .ok (.iload_n 2, 1) := dk_28 (dk_at dksX1_person_0 5 rfl rfl)
theorem dX1_person_6 : decode cX1_person 6 = .ok (.iconst 4, 1) := dk_7 (dk_at dksX1_person_0 6 rfl rfl)
theorem dX1_person_7 : decode cX1_person 7 = .ok (.invokestatic 196, 3) := dk_184 0 196 (dk_at dksX1_person_0 7 rfl rfl)
theorem dX1_person_10 : decode cX1_person 10 = .ok (.iload_n 2, 1) := dk_28 (dk_at dksX1_person_0 10 rfl rfl)
theorem dX1_person_11 : decode cX1_person 11 = .ok (.ifCond .ne 15, 3) := dk_154 0 15 (dk_at dksX1_person_0 11 rfl rfl)
theorem dX1_person_14 : decode cX1_person 14 = .ok (.aload_n 0, 1) := dk_42 (dk_at dksX1_person_0 14 rfl rfl)
theorem dX1_person_15 : decode cX1_person 15 = .ok (.getfield 31, 3) := dk_180 0 31 (dk_at dksX1_person_0 15 rfl rfl)
theorem dX1_person_18 : decode cX1_person 18 = .ok (.getfield 167, 3) := dk_180 0 167 (dk_at dksX1_person_0 18 rfl rfl)
theorem dX1_person_21 : decode cX1_person 21 = .ok (.iload_n 1, 1) := dk_27 (dk_at dksX1_person_0 21 rfl rfl)
theorem dX1_person_22 : decode cX1_person 22 = .ok (.iaload, 1) := dk_46 (dk_at dksX1_person_0 22 rfl rfl)
theorem dX1_person_23 : decode cX1_person 23 = .ok (.goto 69, 3) := dk_167 0 69 (dk_at dksX1_person_1 0 rfl rfl)
theorem dX1_person_26 : decode cX1_person 26 = .ok (.iload_n 2, 1) := dk_28 (dk_at dksX1_person_1 3 rfl rfl)
theorem dX1_person_27 : decode cX1_person 27 = .ok (.iconst 1, 1) := dk_4 (dk_at dksX1_person_1 4 rfl rfl)
theorem dX1_person_28 : decode cX1_person 28 = .ok (.if_icmp .ne 25, 3) := dk_160 0 25 (dk_at dksX1_person_1 5 rfl rfl)
theorem dX1_person_31 : decode cX1_person 31 = .ok (.aload_n 0, 1) := dk_42 (dk_at dksX1_person_1 8 rfl rfl)
theorem dX1_person_32 : decode cX1_person 32 = .ok (.getfield 22, 3) := dk_180 0 22 (dk_at dksX1_person_1 9 rfl rfl)
theorem dX1_person_35 : decode cX1_person 35 = .ok (.getfield 200, 3) := dk_180 0 200 (dk_at dksX1_person_1 12 rfl rfl)
theorem dX1_person_38 : decode cX1_person 38 = .ok (.iload_n 1, 1) := dk_27 (dk_at dksX1_person_1 15 rfl rfl)
theorem dX1_person_39 : decode cX1_person 39 = .ok (.invokeinterface 148 2, 5) := by decide +kernel
theorem dX1_person_44 : decode cX1_person 44 = .ok (.checkcast 152, 3) := dk_192 0 152 (dk_at dksX1_person_1 21 rfl rfl)
theorem dX1_person_47 : decode cX1_person 47 = .ok (.invokevirtual 154, 3) := dk_182 0 154 (dk_at dksX1_person_2 0 rfl rfl)
theorem dX1_person_50 : decode cX1_person 50 = .ok (.goto 42, 3) := dk_167 0 42 (dk_at dksX1_person_2 3 rfl rfl)
theorem dX1_person_53 : decode cX1_person 53 = .ok (.iload_n 2, 1) := dk_28 (dk_at dksX1_person_2 6 rfl rfl)
theorem dX1_person_54 : decode cX1_person 54 = .ok (.iconst 2, 1) := dk_5 (dk_at dksX1_person_2 7 rfl rfl)
theorem dX1_person_55 : decode cX1_person 55 = .ok (.if_icmp .ne 15, 3) := dk_160 0 15 (dk_at dksX1_person_2 8 rfl rfl)
theorem dX1_person_58 : decode cX1_person 58 = .ok (.aload_n 0, 1) := dk_42 (dk_at dksX1_person_2 11 rfl rfl)
theorem dX1_person_59 : decode cX1_person 59 = .ok (.getfield 31, 3) := dk_180 0 31 (dk_at dksX1_person_2 12 rfl rfl)
theorem dX1_person_62 : decode cX1_person 62 = .ok (.getfield 97, 3) := dk_180 0 97 (dk_at dksX1_person_2 15 rfl rfl)
theorem dX1_person_65 : decode cX1_person 65 = .ok (.iload_n 1, 1) := dk_27 (dk_at dksX1_person_2 18 rfl rfl)
theorem dX1_person_66 : decode cX1_person 66 = .ok (.iaload, 1) := dk_46 (dk_at dksX1_person_2 19 rfl rfl)
theorem dX1_person_67 : decode cX1_person 67 = .ok (.goto 25, 3) := dk_167 0 25 (dk_at dksX1_person_2 20 rfl rfl)
theorem dX1_person_70 : decode cX1_person 70 = .ok (.iload_n 2, 1) := dk_28 (dk_at dksX1_person_2 23 rfl rfl)
theorem dX1_person_71 : decode cX1_person 71 = .ok (.iconst 3, 1) := dk_6 (dk_at dksX1_person_3 0 rfl rfl)
theorem dX1_person_72 : decode cX1_person 72 = .ok (.if_icmp .ne 15, 3) := dk_160 0 15 (dk_at dksX1_person_3 1 rfl rfl)
theorem dX1_person_75 : decode cX1_person 75 = .ok (.aload_n 0, 1) := dk_42 (dk_at dksX1_person_3 4 rfl rfl)
theorem dX1_person_76 : decode cX1_person 76 = .ok (.getfield 31, 3) := dk_180 0 31 (dk_at dksX1_person_3 5 rfl rfl)
theorem dX1_person_79 : decode cX1_person 79 = .ok (.getfield 203, 3) := dk_180 0 203 (dk_at dksX1_person_3 8 rfl rfl)
theorem dX1_person_82 : decode cX1_person 82 = .ok (.iload_n 1, 1) := dk_27 (dk_at dksX1_person_3 11 rfl rfl)
theorem dX1_person_83 : decode cX1_person 83 = .ok (.iaload, 1) := dk_46 (dk_at dksX1_person_3 12 rfl rfl)
theorem dX1_person_84 : decode cX1_person 84 = .ok (.goto 8, 3) := dk_167 0 8 (dk_at dksX1_person_3 13 rfl rfl)
theorem dX1_person_87 : decode cX1_person 87 = .ok (.aload_n 0, 1) := dk_42 (dk_at dksX1_person_3 16 rfl rfl)
theorem dX1_person_88 : decode cX1_person 88 = .ok (.iload_n 1, 1) := dk_27 (dk_at dksX1_person_3 17 rfl rfl)
theorem dX1_person_89 : decode cX1_person 89 = .ok (.invokevirtual 107, 3) := dk_182 0 107 (dk_at dksX1_person_3 18 rfl rfl)
theorem dX1_person_92 : decode cX1_person 92 = .ok (.ireturn, 1) := dk_172 (dk_at dksX1_person_3 21 rfl rfl)
abbrev cX1_aPerson : ByteArray := prog_1_method_14_code
def yX1_aPerson : MethodName := ⟨RX1, "aPerson", "(I)V"⟩
def dkwX1_aPerson_0 : List UInt8 := [27, 3, 42, 180, 0, 22, 182, 0, 104, 4, 100, 184, 0, 139, 184, 0, 142, 177]
abbrev dktX1_aPerson_0 : List UInt8 := dkwX1_aPerson_0 ++ []
theorem dksX1_aPerson_0 : cX1_aPerson.data.toList.drop 0 = dktX1_aPerson_0 := by decide +kernel
theorem dX1_aPerson_0 : decode cX1_aPerson 0 = .ok (.iload_n 1, 1) := dk_27 (dk_at dksX1_aPerson_0 0 rfl rfl)
theorem dX1_aPerson_1 : decode cX1_aPerson 1 = .ok (.iconst 0, 1) := dk_3 (dk_at dksX1_aPerson_0 1 rfl rfl)
theorem dX1_aPerson_2 : decode cX1_aPerson 2 = .ok (.aload_n 0, 1) := dk_42 (dk_at dksX1_aPerson_0 2 rfl rfl)
theorem dX1_aPerson_3 : decode cX1_aPerson 3 = .ok (.getfield 22, 3) := dk_180 0 22 (dk_at dksX1_aPerson_0 3 rfl rfl)
theorem dX1_aPerson_6 : decode cX1_aPerson 6 = .ok (.invokevirtual 104, 3) := dk_182 0 104 (dk_at dksX1_aPerson_0 6 rfl rfl)
theorem dX1_aPerson_9 : decode cX1_aPerson 9 = .ok (.iconst 1, 1) := dk_4 (dk_at dksX1_aPerson_0 9 rfl rfl)
theorem dX1_aPerson_10 : decode cX1_aPerson 10 = .ok (.isub, 1) := dk_100 (dk_at dksX1_aPerson_0 10 rfl rfl)
theorem dX1_aPerson_11 : decode cX1_aPerson 11 = .ok (.invokestatic 139, 3) := dk_184 0 139 (dk_at dksX1_aPerson_0 11 rfl rfl)
theorem dX1_aPerson_14 : decode cX1_aPerson 14 = .ok (.invokestatic 142, 3) := dk_184 0 142 (dk_at dksX1_aPerson_0 14 rfl rfl)
theorem dX1_aPerson_17 : decode cX1_aPerson 17 = .ok (.return_, 1) := dk_177 (dk_at dksX1_aPerson_0 17 rfl rfl)
abbrev cX1_oneOf : ByteArray := prog_1_method_15_code
def yX1_oneOf : MethodName := ⟨RX1, "oneOf", "(II)V"⟩
def dkwX1_oneOf_0 : List UInt8 := [26, 3, 27, 184, 0, 139, 184, 0, 142, 177]
abbrev dktX1_oneOf_0 : List UInt8 := dkwX1_oneOf_0 ++ []
theorem dksX1_oneOf_0 : cX1_oneOf.data.toList.drop 0 = dktX1_oneOf_0 := by decide +kernel
theorem dX1_oneOf_0 : decode cX1_oneOf 0 = .ok (.iload_n 0, 1) := dk_26 (dk_at dksX1_oneOf_0 0 rfl rfl)
theorem dX1_oneOf_1 : decode cX1_oneOf 1 = .ok (.iconst 0, 1) := dk_3 (dk_at dksX1_oneOf_0 1 rfl rfl)
theorem dX1_oneOf_2 : decode cX1_oneOf 2 = .ok (.iload_n 1, 1) := dk_27 (dk_at dksX1_oneOf_0 2 rfl rfl)
theorem dX1_oneOf_3 : decode cX1_oneOf 3 = .ok (.invokestatic 139, 3) := dk_184 0 139 (dk_at dksX1_oneOf_0 3 rfl rfl)
theorem dX1_oneOf_6 : decode cX1_oneOf 6 = .ok (.invokestatic 142, 3) := dk_184 0 142 (dk_at dksX1_oneOf_0 6 rfl rfl)
theorem dX1_oneOf_9 : decode cX1_oneOf 9 = .ok (.return_, 1) := dk_177 (dk_at dksX1_oneOf_0 9 rfl rfl)
abbrev cX1_eases : ByteArray := prog_1_method_21_code
def yX1_eases : MethodName := ⟨RX1, "eases", "(II)I"⟩
def dkwX1_eases_0 : List UInt8 := [42, 27, 182, 0, 193, 42, 28, 182, 0, 173, 42, 180, 0, 31, 27, 28, 182, 0, 206, 172]
abbrev dktX1_eases_0 : List UInt8 := dkwX1_eases_0 ++ []
theorem dksX1_eases_0 : cX1_eases.data.toList.drop 0 = dktX1_eases_0 := by decide +kernel
theorem dX1_eases_0 : decode cX1_eases 0 = .ok (.aload_n 0, 1) := dk_42 (dk_at dksX1_eases_0 0 rfl rfl)
theorem dX1_eases_1 : decode cX1_eases 1 = .ok (.iload_n 1, 1) := dk_27 (dk_at dksX1_eases_0 1 rfl rfl)
theorem dX1_eases_2 : decode cX1_eases 2 = .ok (.invokevirtual 193, 3) := dk_182 0 193 (dk_at dksX1_eases_0 2 rfl rfl)
theorem dX1_eases_5 : decode cX1_eases 5 = .ok (.aload_n 0, 1) := dk_42 (dk_at dksX1_eases_0 5 rfl rfl)
theorem dX1_eases_6 : decode cX1_eases 6 = .ok (.iload_n 2, 1) := dk_28 (dk_at dksX1_eases_0 6 rfl rfl)
theorem dX1_eases_7 : decode cX1_eases 7 = .ok (.invokevirtual 173, 3) := dk_182 0 173 (dk_at dksX1_eases_0 7 rfl rfl)
theorem dX1_eases_10 : decode cX1_eases 10 = .ok (.aload_n 0, 1) := dk_42 (dk_at dksX1_eases_0 10 rfl rfl)
theorem dX1_eases_11 : decode cX1_eases 11 = .ok (.getfield 31, 3) := dk_180 0 31 (dk_at dksX1_eases_0 11 rfl rfl)
theorem dX1_eases_14 : decode cX1_eases 14 = .ok (.iload_n 1, 1) := dk_27 (dk_at dksX1_eases_0 14 rfl rfl)
theorem dX1_eases_15 : decode cX1_eases 15 = .ok (.iload_n 2, 1) := dk_28 (dk_at dksX1_eases_0 15 rfl rfl)
theorem dX1_eases_16 : decode cX1_eases 16 = .ok (.invokevirtual 206, 3) := dk_182 0 206 (dk_at dksX1_eases_0 16 rfl rfl)
theorem dX1_eases_19 : decode cX1_eases 19 = .ok (.ireturn, 1) := dk_172 (dk_at dksX1_eases_0 19 rfl rfl)
abbrev cX1_putIn : ByteArray := prog_1_method_25_code
def yX1_putIn : MethodName := ⟨RX1, "putIn", "(II)I"⟩
def dkwX1_putIn_2 : List UInt8 := [182, 0, 100, 172]
abbrev dktX1_putIn_2 : List UInt8 := dkwX1_putIn_2 ++ []
def dkwX1_putIn_1 : List UInt8 := [182, 0, 220, 172, 42, 182, 0, 223, 42, 180, 0, 31, 180, 0, 97, 27, 28, 79, 42, 180, 0, 31, 27, 28]
abbrev dktX1_putIn_1 : List UInt8 := dkwX1_putIn_1 ++ dktX1_putIn_2
def dkwX1_putIn_0 : List UInt8 := [42, 27, 182, 0, 193, 42, 28, 182, 0, 173, 42, 180, 0, 31, 27, 28, 182, 0, 230, 154, 0, 9, 42, 4]
abbrev dktX1_putIn_0 : List UInt8 := dkwX1_putIn_0 ++ dktX1_putIn_1
theorem dksX1_putIn_0 : cX1_putIn.data.toList.drop 0 = dktX1_putIn_0 := by decide +kernel
theorem dksX1_putIn_1 : cX1_putIn.data.toList.drop 24 = dktX1_putIn_1 := dk_seg dksX1_putIn_0 24 rfl rfl
theorem dksX1_putIn_2 : cX1_putIn.data.toList.drop 48 = dktX1_putIn_2 := dk_seg dksX1_putIn_1 24 rfl rfl
theorem dX1_putIn_0 : decode cX1_putIn 0 = .ok (.aload_n 0, 1) := dk_42 (dk_at dksX1_putIn_0 0 rfl rfl)
theorem dX1_putIn_1 : decode cX1_putIn 1 = .ok (.iload_n 1, 1) := dk_27 (dk_at dksX1_putIn_0 1 rfl rfl)
theorem dX1_putIn_2 : decode cX1_putIn 2 = .ok (.invokevirtual 193, 3) := dk_182 0 193 (dk_at dksX1_putIn_0 2 rfl rfl)
theorem dX1_putIn_5 : decode cX1_putIn 5 = .ok (.aload_n 0, 1) := dk_42 (dk_at dksX1_putIn_0 5 rfl rfl)
theorem dX1_putIn_6 : decode cX1_putIn 6 = .ok (.iload_n 2, 1) := dk_28 (dk_at dksX1_putIn_0 6 rfl rfl)
theorem dX1_putIn_7 : decode cX1_putIn 7 = .ok (.invokevirtual 173, 3) := dk_182 0 173 (dk_at dksX1_putIn_0 7 rfl rfl)
theorem dX1_putIn_10 : decode cX1_putIn 10 = .ok (.aload_n 0, 1) := dk_42 (dk_at dksX1_putIn_0 10 rfl rfl)
theorem dX1_putIn_11 : decode cX1_putIn 11 = .ok (.getfield 31, 3) := dk_180 0 31 (dk_at dksX1_putIn_0 11 rfl rfl)
theorem dX1_putIn_14 : decode cX1_putIn 14 = .ok (.iload_n 1, 1) := dk_27 (dk_at dksX1_putIn_0 14 rfl rfl)
theorem dX1_putIn_15 : decode cX1_putIn 15 = .ok (.iload_n 2, 1) := dk_28 (dk_at dksX1_putIn_0 15 rfl rfl)
theorem dX1_putIn_16 : decode cX1_putIn 16 = .ok (.invokevirtual 230, 3) := dk_182 0 230 (dk_at dksX1_putIn_0 16 rfl rfl)
theorem dX1_putIn_19 : decode cX1_putIn 19 = .ok (.ifCond .ne 9, 3) := dk_154 0 9 (dk_at dksX1_putIn_0 19 rfl rfl)
theorem dX1_putIn_22 : decode cX1_putIn 22 = .ok (.aload_n 0, 1) := dk_42 (dk_at dksX1_putIn_0 22 rfl rfl)
theorem dX1_putIn_23 : decode cX1_putIn 23 = .ok (.iconst 1, 1) := dk_4 (dk_at dksX1_putIn_0 23 rfl rfl)
theorem dX1_putIn_24 : decode cX1_putIn 24 = .ok (.invokevirtual 220, 3) := dk_182 0 220 (dk_at dksX1_putIn_1 0 rfl rfl)
theorem dX1_putIn_27 : decode cX1_putIn 27 = .ok (.ireturn, 1) := dk_172 (dk_at dksX1_putIn_1 3 rfl rfl)
theorem dX1_putIn_28 : decode cX1_putIn 28 = .ok (.aload_n 0, 1) := dk_42 (dk_at dksX1_putIn_1 4 rfl rfl)
theorem dX1_putIn_29 : decode cX1_putIn 29 = .ok (.invokevirtual 223, 3) := dk_182 0 223 (dk_at dksX1_putIn_1 5 rfl rfl)
theorem dX1_putIn_32 : decode cX1_putIn 32 = .ok (.aload_n 0, 1) := dk_42 (dk_at dksX1_putIn_1 8 rfl rfl)
theorem dX1_putIn_33 : decode cX1_putIn 33 = .ok (.getfield 31, 3) := dk_180 0 31 (dk_at dksX1_putIn_1 9 rfl rfl)
theorem dX1_putIn_36 : decode cX1_putIn 36 = .ok (.getfield 97, 3) := dk_180 0 97 (dk_at dksX1_putIn_1 12 rfl rfl)
theorem dX1_putIn_39 : decode cX1_putIn 39 = .ok (.iload_n 1, 1) := dk_27 (dk_at dksX1_putIn_1 15 rfl rfl)
theorem dX1_putIn_40 : decode cX1_putIn 40 = .ok (.iload_n 2, 1) := dk_28 (dk_at dksX1_putIn_1 16 rfl rfl)
theorem dX1_putIn_41 : decode cX1_putIn 41 = .ok (.iastore, 1) := dk_79 (dk_at dksX1_putIn_1 17 rfl rfl)
theorem dX1_putIn_42 : decode cX1_putIn 42 = .ok (.aload_n 0, 1) := dk_42 (dk_at dksX1_putIn_1 18 rfl rfl)
theorem dX1_putIn_43 : decode cX1_putIn 43 = .ok (.getfield 31, 3) := dk_180 0 31 (dk_at dksX1_putIn_1 19 rfl rfl)
theorem dX1_putIn_46 : decode cX1_putIn 46 = .ok (.iload_n 1, 1) := dk_27 (dk_at dksX1_putIn_1 22 rfl rfl)
theorem dX1_putIn_47 : decode cX1_putIn 47 = .ok (.iload_n 2, 1) := dk_28 (dk_at dksX1_putIn_1 23 rfl rfl)
theorem dX1_putIn_48 : decode cX1_putIn 48 = .ok (.invokevirtual 100, 3) := dk_182 0 100 (dk_at dksX1_putIn_2 0 rfl rfl)
theorem dX1_putIn_51 : decode cX1_putIn 51 = .ok (.ireturn, 1) := dk_172 (dk_at dksX1_putIn_2 3 rfl rfl)
abbrev cX1_out : ByteArray := prog_1_method_26_code
def yX1_out : MethodName := ⟨RX1, "out", "(I)I"⟩
def dkwX1_out_1 : List UInt8 := [182, 0, 220, 172, 42, 182, 0, 223, 42, 180, 0, 31, 180, 0, 97, 27, 2, 79, 28, 172]
abbrev dktX1_out_1 : List UInt8 := dkwX1_out_1 ++ []
def dkwX1_out_0 : List UInt8 := [42, 27, 182, 0, 193, 42, 180, 0, 31, 180, 0, 97, 27, 46, 61, 28, 2, 160, 0, 9, 42, 4]
abbrev dktX1_out_0 : List UInt8 := dkwX1_out_0 ++ dktX1_out_1
theorem dksX1_out_0 : cX1_out.data.toList.drop 0 = dktX1_out_0 := by decide +kernel
theorem dksX1_out_1 : cX1_out.data.toList.drop 22 = dktX1_out_1 := dk_seg dksX1_out_0 22 rfl rfl
theorem dX1_out_0 : decode cX1_out 0 = .ok (.aload_n 0, 1) := dk_42 (dk_at dksX1_out_0 0 rfl rfl)
theorem dX1_out_1 : decode cX1_out 1 = .ok (.iload_n 1, 1) := dk_27 (dk_at dksX1_out_0 1 rfl rfl)
theorem dX1_out_2 : decode cX1_out 2 = .ok (.invokevirtual 193, 3) := dk_182 0 193 (dk_at dksX1_out_0 2 rfl rfl)
theorem dX1_out_5 : decode cX1_out 5 = .ok (.aload_n 0, 1) := dk_42 (dk_at dksX1_out_0 5 rfl rfl)
theorem dX1_out_6 : decode cX1_out 6 = .ok (.getfield 31, 3) := dk_180 0 31 (dk_at dksX1_out_0 6 rfl rfl)
theorem dX1_out_9 : decode cX1_out 9 = .ok (.getfield 97, 3) := dk_180 0 97 (dk_at dksX1_out_0 9 rfl rfl)
theorem dX1_out_12 : decode cX1_out 12 = .ok (.iload_n 1, 1) := dk_27 (dk_at dksX1_out_0 12 rfl rfl)
theorem dX1_out_13 : decode cX1_out 13 = .ok (.iaload, 1) := dk_46 (dk_at dksX1_out_0 13 rfl rfl)
theorem dX1_out_14 : decode cX1_out 14 = .ok (.istore_n 2, 1) := dk_61 (dk_at dksX1_out_0 14 rfl rfl)
theorem dX1_out_15 : decode cX1_out 15 = .ok (.iload_n 2, 1) := dk_28 (dk_at dksX1_out_0 15 rfl rfl)
theorem dX1_out_16 : decode cX1_out 16 = .ok (.iconst (-1), 1) := dk_2 (dk_at dksX1_out_0 16 rfl rfl)
theorem dX1_out_17 : decode cX1_out 17 = .ok (.if_icmp .ne 9, 3) := dk_160 0 9 (dk_at dksX1_out_0 17 rfl rfl)
theorem dX1_out_20 : decode cX1_out 20 = .ok (.aload_n 0, 1) := dk_42 (dk_at dksX1_out_0 20 rfl rfl)
theorem dX1_out_21 : decode cX1_out 21 = .ok (.iconst 1, 1) := dk_4 (dk_at dksX1_out_0 21 rfl rfl)
theorem dX1_out_22 : decode cX1_out 22 = .ok (.invokevirtual 220, 3) := dk_182 0 220 (dk_at dksX1_out_1 0 rfl rfl)
theorem dX1_out_25 : decode cX1_out 25 = .ok (.ireturn, 1) := dk_172 (dk_at dksX1_out_1 3 rfl rfl)
theorem dX1_out_26 : decode cX1_out 26 = .ok (.aload_n 0, 1) := dk_42 (dk_at dksX1_out_1 4 rfl rfl)
theorem dX1_out_27 : decode cX1_out 27 = .ok (.invokevirtual 223, 3) := dk_182 0 223 (dk_at dksX1_out_1 5 rfl rfl)
theorem dX1_out_30 : decode cX1_out 30 = .ok (.aload_n 0, 1) := dk_42 (dk_at dksX1_out_1 8 rfl rfl)
theorem dX1_out_31 : decode cX1_out 31 = .ok (.getfield 31, 3) := dk_180 0 31 (dk_at dksX1_out_1 9 rfl rfl)
theorem dX1_out_34 : decode cX1_out 34 = .ok (.getfield 97, 3) := dk_180 0 97 (dk_at dksX1_out_1 12 rfl rfl)
theorem dX1_out_37 : decode cX1_out 37 = .ok (.iload_n 1, 1) := dk_27 (dk_at dksX1_out_1 15 rfl rfl)
theorem dX1_out_38 : decode cX1_out 38 = .ok (.iconst (-1), 1) := dk_2 (dk_at dksX1_out_1 16 rfl rfl)
theorem dX1_out_39 : decode cX1_out 39 = .ok (.iastore, 1) := dk_79 (dk_at dksX1_out_1 17 rfl rfl)
theorem dX1_out_40 : decode cX1_out 40 = .ok (.iload_n 2, 1) := dk_28 (dk_at dksX1_out_1 18 rfl rfl)
theorem dX1_out_41 : decode cX1_out 41 = .ok (.ireturn, 1) := dk_172 (dk_at dksX1_out_1 19 rfl rfl)
abbrev cX1_stuff : ByteArray := prog_1_method_27_code
def yX1_stuff : MethodName := ⟨RX1, "stuff", "(II)I"⟩
def dkwX1_stuff_2 : List UInt8 := [180, 0, 31, 180, 0, 165, 27, 46, 28, 100, 184, 0, 170, 79, 42, 180, 0, 31, 180, 0, 165, 27, 46, 172]
abbrev dktX1_stuff_2 : List UInt8 := dkwX1_stuff_2 ++ []
def dkwX1_stuff_1 : List UInt8 := [154, 0, 9, 42, 4, 182, 0, 220, 172, 42, 182, 0, 223, 42, 180, 0, 31, 180, 0, 165, 27, 4, 42]
abbrev dktX1_stuff_1 : List UInt8 := dkwX1_stuff_1 ++ dktX1_stuff_2
def dkwX1_stuff_0 : List UInt8 := [42, 27, 182, 0, 173, 42, 180, 0, 31, 27, 182, 0, 93, 2, 160, 0, 13, 28, 4, 16, 20, 184, 0, 139]
abbrev dktX1_stuff_0 : List UInt8 := dkwX1_stuff_0 ++ dktX1_stuff_1
theorem dksX1_stuff_0 : cX1_stuff.data.toList.drop 0 = dktX1_stuff_0 := by decide +kernel
theorem dksX1_stuff_1 : cX1_stuff.data.toList.drop 24 = dktX1_stuff_1 := dk_seg dksX1_stuff_0 24 rfl rfl
theorem dksX1_stuff_2 : cX1_stuff.data.toList.drop 47 = dktX1_stuff_2 := dk_seg dksX1_stuff_1 23 rfl rfl
theorem dX1_stuff_0 : decode cX1_stuff 0 = .ok (.aload_n 0, 1) := dk_42 (dk_at dksX1_stuff_0 0 rfl rfl)
theorem dX1_stuff_1 : decode cX1_stuff 1 = .ok (.iload_n 1, 1) := dk_27 (dk_at dksX1_stuff_0 1 rfl rfl)
theorem dX1_stuff_2 : decode cX1_stuff 2 = .ok (.invokevirtual 173, 3) := dk_182 0 173 (dk_at dksX1_stuff_0 2 rfl rfl)
theorem dX1_stuff_5 : decode cX1_stuff 5 = .ok (.aload_n 0, 1) := dk_42 (dk_at dksX1_stuff_0 5 rfl rfl)
theorem dX1_stuff_6 : decode cX1_stuff 6 = .ok (.getfield 31, 3) := dk_180 0 31 (dk_at dksX1_stuff_0 6 rfl rfl)
theorem dX1_stuff_9 : decode cX1_stuff 9 = .ok (.iload_n 1, 1) := dk_27 (dk_at dksX1_stuff_0 9 rfl rfl)
theorem dX1_stuff_10 : decode cX1_stuff 10 = .ok (.invokevirtual 93, 3) := dk_182 0 93 (dk_at dksX1_stuff_0 10 rfl rfl)
theorem dX1_stuff_13 : decode cX1_stuff 13 = .ok (.iconst (-1), 1) := dk_2 (dk_at dksX1_stuff_0 13 rfl rfl)
theorem dX1_stuff_14 : decode cX1_stuff 14 = .ok (.if_icmp .ne 13, 3) := dk_160 0 13 (dk_at dksX1_stuff_0 14 rfl rfl)
theorem dX1_stuff_17 : decode cX1_stuff 17 = .ok (.iload_n 2, 1) := dk_28 (dk_at dksX1_stuff_0 17 rfl rfl)
theorem dX1_stuff_18 : decode cX1_stuff 18 = .ok (.iconst 1, 1) := dk_4 (dk_at dksX1_stuff_0 18 rfl rfl)
theorem dX1_stuff_19 : decode cX1_stuff 19 = .ok (.bipush 20, 2) := dk_16 20 (dk_at dksX1_stuff_0 19 rfl rfl)
theorem dX1_stuff_21 : decode cX1_stuff 21 = .ok (.invokestatic 139, 3) := dk_184 0 139 (dk_at dksX1_stuff_0 21 rfl rfl)
theorem dX1_stuff_24 : decode cX1_stuff 24 = .ok (.ifCond .ne 9, 3) := dk_154 0 9 (dk_at dksX1_stuff_1 0 rfl rfl)
theorem dX1_stuff_27 : decode cX1_stuff 27 = .ok (.aload_n 0, 1) := dk_42 (dk_at dksX1_stuff_1 3 rfl rfl)
theorem dX1_stuff_28 : decode cX1_stuff 28 = .ok (.iconst 1, 1) := dk_4 (dk_at dksX1_stuff_1 4 rfl rfl)
theorem dX1_stuff_29 : decode cX1_stuff 29 = .ok (.invokevirtual 220, 3) := dk_182 0 220 (dk_at dksX1_stuff_1 5 rfl rfl)
theorem dX1_stuff_32 : decode cX1_stuff 32 = .ok (.ireturn, 1) := dk_172 (dk_at dksX1_stuff_1 8 rfl rfl)
theorem dX1_stuff_33 : decode cX1_stuff 33 = .ok (.aload_n 0, 1) := dk_42 (dk_at dksX1_stuff_1 9 rfl rfl)
theorem dX1_stuff_34 : decode cX1_stuff 34 = .ok (.invokevirtual 223, 3) := dk_182 0 223 (dk_at dksX1_stuff_1 10 rfl rfl)
theorem dX1_stuff_37 : decode cX1_stuff 37 = .ok (.aload_n 0, 1) := dk_42 (dk_at dksX1_stuff_1 13 rfl rfl)
theorem dX1_stuff_38 : decode cX1_stuff 38 = .ok (.getfield 31, 3) := dk_180 0 31 (dk_at dksX1_stuff_1 14 rfl rfl)
theorem dX1_stuff_41 : decode cX1_stuff 41 = .ok (.getfield 165, 3) := dk_180 0 165 (dk_at dksX1_stuff_1 17 rfl rfl)
theorem dX1_stuff_44 : decode cX1_stuff 44 = .ok (.iload_n 1, 1) := dk_27 (dk_at dksX1_stuff_1 20 rfl rfl)
theorem dX1_stuff_45 : decode cX1_stuff 45 = .ok (.iconst 1, 1) := dk_4 (dk_at dksX1_stuff_1 21 rfl rfl)
theorem dX1_stuff_46 : decode cX1_stuff 46 = .ok (.aload_n 0, 1) := dk_42 (dk_at dksX1_stuff_1 22 rfl rfl)
theorem dX1_stuff_47 : decode cX1_stuff 47 = .ok (.getfield 31, 3) := dk_180 0 31 (dk_at dksX1_stuff_2 0 rfl rfl)
theorem dX1_stuff_50 : decode cX1_stuff 50 = .ok (.getfield 165, 3) := dk_180 0 165 (dk_at dksX1_stuff_2 3 rfl rfl)
theorem dX1_stuff_53 : decode cX1_stuff 53 = .ok (.iload_n 1, 1) := dk_27 (dk_at dksX1_stuff_2 6 rfl rfl)
theorem dX1_stuff_54 : decode cX1_stuff 54 = .ok (.iaload, 1) := dk_46 (dk_at dksX1_stuff_2 7 rfl rfl)
theorem dX1_stuff_55 : decode cX1_stuff 55 = .ok (.iload_n 2, 1) := dk_28 (dk_at dksX1_stuff_2 8 rfl rfl)
theorem dX1_stuff_56 : decode cX1_stuff 56 = .ok (.isub, 1) := dk_100 (dk_at dksX1_stuff_2 9 rfl rfl)
theorem dX1_stuff_57 : decode cX1_stuff 57 = .ok (.invokestatic 170, 3) := dk_184 0 170 (dk_at dksX1_stuff_2 10 rfl rfl)
theorem dX1_stuff_60 : decode cX1_stuff 60 = .ok (.iastore, 1) := dk_79 (dk_at dksX1_stuff_2 13 rfl rfl)
theorem dX1_stuff_61 : decode cX1_stuff 61 = .ok (.aload_n 0, 1) := dk_42 (dk_at dksX1_stuff_2 14 rfl rfl)
theorem dX1_stuff_62 : decode cX1_stuff 62 = .ok (.getfield 31, 3) := dk_180 0 31 (dk_at dksX1_stuff_2 15 rfl rfl)
theorem dX1_stuff_65 : decode cX1_stuff 65 = .ok (.getfield 165, 3) := dk_180 0 165 (dk_at dksX1_stuff_2 18 rfl rfl)
theorem dX1_stuff_68 : decode cX1_stuff 68 = .ok (.iload_n 1, 1) := dk_27 (dk_at dksX1_stuff_2 21 rfl rfl)
theorem dX1_stuff_69 : decode cX1_stuff 69 = .ok (.iaload, 1) := dk_46 (dk_at dksX1_stuff_2 22 rfl rfl)
theorem dX1_stuff_70 : decode cX1_stuff 70 = .ok (.ireturn, 1) := dk_172 (dk_at dksX1_stuff_2 23 rfl rfl)
abbrev cX1_change : ByteArray := prog_1_method_28_code
def yX1_change : MethodName := ⟨RX1, "change", "(II)Z"⟩
def dkwX1_change_5 : List UInt8 := [21, 4, 79, 42, 180, 0, 31, 180, 0, 97, 28, 29, 79, 4, 172]
abbrev dktX1_change_5 : List UInt8 := dkwX1_change_5 ++ []
def dkwX1_change_4 : List UInt8 := [42, 180, 0, 46, 4, 92, 46, 4, 96, 79, 3, 172, 42, 182, 0, 223, 42, 180, 0, 31, 180, 0, 97, 27]
abbrev dktX1_change_4 : List UInt8 := dkwX1_change_4 ++ dktX1_change_5
def dkwX1_change_3 : List UInt8 := [42, 180, 0, 31, 28, 29, 182, 0, 233, 153, 0, 7, 4, 167, 0, 4, 3, 54, 5, 21, 5, 154, 0, 15]
abbrev dktX1_change_3 : List UInt8 := dkwX1_change_3 ++ dktX1_change_4
def dkwX1_change_2 : List UInt8 := [21, 4, 2, 159, 0, 16, 42, 180, 0, 31, 27, 21, 4, 182, 0, 233, 153, 0, 24, 29, 2, 159, 0, 15]
abbrev dktX1_change_2 : List UInt8 := dkwX1_change_2 ++ dktX1_change_3
def dkwX1_change_1 : List UInt8 := [180, 0, 97, 28, 46, 54, 4, 27, 28, 159, 0, 54, 29, 2, 160, 0, 9, 21, 4, 2, 159, 0, 43]
abbrev dktX1_change_1 : List UInt8 := dkwX1_change_1 ++ dktX1_change_2
def dkwX1_change_0 : List UInt8 := [42, 27, 182, 0, 193, 42, 28, 182, 0, 193, 42, 180, 0, 31, 180, 0, 97, 27, 46, 62, 42, 180, 0, 31]
abbrev dktX1_change_0 : List UInt8 := dkwX1_change_0 ++ dktX1_change_1
theorem dksX1_change_0 : cX1_change.data.toList.drop 0 = dktX1_change_0 := by decide +kernel
theorem dksX1_change_1 : cX1_change.data.toList.drop 24 = dktX1_change_1 := dk_seg dksX1_change_0 24 rfl rfl
theorem dksX1_change_2 : cX1_change.data.toList.drop 47 = dktX1_change_2 := dk_seg dksX1_change_1 23 rfl rfl
theorem dksX1_change_3 : cX1_change.data.toList.drop 71 = dktX1_change_3 := dk_seg dksX1_change_2 24 rfl rfl
theorem dksX1_change_4 : cX1_change.data.toList.drop 95 = dktX1_change_4 := dk_seg dksX1_change_3 24 rfl rfl
theorem dksX1_change_5 : cX1_change.data.toList.drop 119 = dktX1_change_5 := dk_seg dksX1_change_4 24 rfl rfl
theorem dX1_change_0 : decode cX1_change 0 = .ok (.aload_n 0, 1) := dk_42 (dk_at dksX1_change_0 0 rfl rfl)
theorem dX1_change_1 : decode cX1_change 1 = .ok (.iload_n 1, 1) := dk_27 (dk_at dksX1_change_0 1 rfl rfl)
theorem dX1_change_2 : decode cX1_change 2 = .ok (.invokevirtual 193, 3) := dk_182 0 193 (dk_at dksX1_change_0 2 rfl rfl)
theorem dX1_change_5 : decode cX1_change 5 = .ok (.aload_n 0, 1) := dk_42 (dk_at dksX1_change_0 5 rfl rfl)
theorem dX1_change_6 : decode cX1_change 6 = .ok (.iload_n 2, 1) := dk_28 (dk_at dksX1_change_0 6 rfl rfl)
theorem dX1_change_7 : decode cX1_change 7 = .ok (.invokevirtual 193, 3) := dk_182 0 193 (dk_at dksX1_change_0 7 rfl rfl)
theorem dX1_change_10 : decode cX1_change 10 = .ok (.aload_n 0, 1) := dk_42 (dk_at dksX1_change_0 10 rfl rfl)
theorem dX1_change_11 : decode cX1_change 11 = .ok (.getfield 31, 3) := dk_180 0 31 (dk_at dksX1_change_0 11 rfl rfl)
theorem dX1_change_14 : decode cX1_change 14 = .ok (.getfield 97, 3) := dk_180 0 97 (dk_at dksX1_change_0 14 rfl rfl)
theorem dX1_change_17 : decode cX1_change 17 = .ok (.iload_n 1, 1) := dk_27 (dk_at dksX1_change_0 17 rfl rfl)
theorem dX1_change_18 : decode cX1_change 18 = .ok (.iaload, 1) := dk_46 (dk_at dksX1_change_0 18 rfl rfl)
theorem dX1_change_19 : decode cX1_change 19 = .ok (.istore_n 3, 1) := dk_62 (dk_at dksX1_change_0 19 rfl rfl)
theorem dX1_change_20 : decode cX1_change 20 = .ok (.aload_n 0, 1) := dk_42 (dk_at dksX1_change_0 20 rfl rfl)
theorem dX1_change_21 : decode cX1_change 21 = .ok (.getfield 31, 3) := dk_180 0 31 (dk_at dksX1_change_0 21 rfl rfl)
theorem dX1_change_24 : decode cX1_change 24 = .ok (.getfield 97, 3) := dk_180 0 97 (dk_at dksX1_change_1 0 rfl rfl)
theorem dX1_change_27 : decode cX1_change 27 = .ok (.iload_n 2, 1) := dk_28 (dk_at dksX1_change_1 3 rfl rfl)
theorem dX1_change_28 : decode cX1_change 28 = .ok (.iaload, 1) := dk_46 (dk_at dksX1_change_1 4 rfl rfl)
theorem dX1_change_29 : decode cX1_change 29 = .ok (.istore 4, 2) := dk_54 4 (dk_at dksX1_change_1 5 rfl rfl)
theorem dX1_change_31 : decode cX1_change 31 = .ok (.iload_n 1, 1) := dk_27 (dk_at dksX1_change_1 7 rfl rfl)
theorem dX1_change_32 : decode cX1_change 32 = .ok (.iload_n 2, 1) := dk_28 (dk_at dksX1_change_1 8 rfl rfl)
theorem dX1_change_33 : decode cX1_change 33 = .ok (.if_icmp .eq 54, 3) := dk_159 0 54 (dk_at dksX1_change_1 9 rfl rfl)
theorem dX1_change_36 : decode cX1_change 36 = .ok (.iload_n 3, 1) := dk_29 (dk_at dksX1_change_1 12 rfl rfl)
theorem dX1_change_37 : decode cX1_change 37 = .ok (.iconst (-1), 1) := dk_2 (dk_at dksX1_change_1 13 rfl rfl)
theorem dX1_change_38 : decode cX1_change 38 = .ok (.if_icmp .ne 9, 3) := dk_160 0 9 (dk_at dksX1_change_1 14 rfl rfl)
theorem dX1_change_41 : decode cX1_change 41 = .ok (.iload 4, 2) := dk_21 4 (dk_at dksX1_change_1 17 rfl rfl)
theorem dX1_change_43 : decode cX1_change 43 = .ok (.iconst (-1), 1) := dk_2 (dk_at dksX1_change_1 19 rfl rfl)
theorem dX1_change_44 : decode cX1_change 44 = .ok (.if_icmp .eq 43, 3) := dk_159 0 43 (dk_at dksX1_change_1 20 rfl rfl)
theorem dX1_change_47 : decode cX1_change 47 = .ok (.iload 4, 2) := dk_21 4 (dk_at dksX1_change_2 0 rfl rfl)
theorem dX1_change_49 : decode cX1_change 49 = .ok (.iconst (-1), 1) := dk_2 (dk_at dksX1_change_2 2 rfl rfl)
theorem dX1_change_50 : decode cX1_change 50 = .ok (.if_icmp .eq 16, 3) := dk_159 0 16 (dk_at dksX1_change_2 3 rfl rfl)
theorem dX1_change_53 : decode cX1_change 53 = .ok (.aload_n 0, 1) := dk_42 (dk_at dksX1_change_2 6 rfl rfl)
theorem dX1_change_54 : decode cX1_change 54 = .ok (.getfield 31, 3) := dk_180 0 31 (dk_at dksX1_change_2 7 rfl rfl)
theorem dX1_change_57 : decode cX1_change 57 = .ok (.iload_n 1, 1) := dk_27 (dk_at dksX1_change_2 10 rfl rfl)
theorem dX1_change_58 : decode cX1_change 58 = .ok (.iload 4, 2) := dk_21 4 (dk_at dksX1_change_2 11 rfl rfl)
theorem dX1_change_60 : decode cX1_change 60 = .ok (.invokevirtual 233, 3) := dk_182 0 233 (dk_at dksX1_change_2 13 rfl rfl)
theorem dX1_change_63 : decode cX1_change 63 = .ok (.ifCond .eq 24, 3) := dk_153 0 24 (dk_at dksX1_change_2 16 rfl rfl)
theorem dX1_change_66 : decode cX1_change 66 = .ok (.iload_n 3, 1) := dk_29 (dk_at dksX1_change_2 19 rfl rfl)
theorem dX1_change_67 : decode cX1_change 67 = .ok (.iconst (-1), 1) := dk_2 (dk_at dksX1_change_2 20 rfl rfl)
theorem dX1_change_68 : decode cX1_change 68 = .ok (.if_icmp .eq 15, 3) := dk_159 0 15 (dk_at dksX1_change_2 21 rfl rfl)
theorem dX1_change_71 : decode cX1_change 71 = .ok (.aload_n 0, 1) := dk_42 (dk_at dksX1_change_3 0 rfl rfl)
theorem dX1_change_72 : decode cX1_change 72 = .ok (.getfield 31, 3) := dk_180 0 31 (dk_at dksX1_change_3 1 rfl rfl)
theorem dX1_change_75 : decode cX1_change 75 = .ok (.iload_n 2, 1) := dk_28 (dk_at dksX1_change_3 4 rfl rfl)
theorem dX1_change_76 : decode cX1_change 76 = .ok (.iload_n 3, 1) := dk_29 (dk_at dksX1_change_3 5 rfl rfl)
theorem dX1_change_77 : decode cX1_change 77 = .ok (.invokevirtual 233, 3) := dk_182 0 233 (dk_at dksX1_change_3 6 rfl rfl)
theorem dX1_change_80 : decode cX1_change 80 = .ok (.ifCond .eq 7, 3) := dk_153 0 7 (dk_at dksX1_change_3 9 rfl rfl)
theorem dX1_change_83 : decode cX1_change 83 = .ok (.iconst 1, 1) := dk_4 (dk_at dksX1_change_3 12 rfl rfl)
theorem dX1_change_84 : decode cX1_change 84 = .ok (.goto 4, 3) := dk_167 0 4 (dk_at dksX1_change_3 13 rfl rfl)
theorem dX1_change_87 : decode cX1_change 87 = .ok (.iconst 0, 1) := dk_3 (dk_at dksX1_change_3 16 rfl rfl)
theorem dX1_change_88 : decode cX1_change 88 = .ok (.istore 5, 2) := dk_54 5 (dk_at dksX1_change_3 17 rfl rfl)
theorem dX1_change_90 : decode cX1_change 90 = .ok (.iload 5, 2) := dk_21 5 (dk_at dksX1_change_3 19 rfl rfl)
theorem dX1_change_92 : decode cX1_change 92 = .ok (.ifCond .ne 15, 3) := dk_154 0 15 (dk_at dksX1_change_3 21 rfl rfl)
theorem dX1_change_95 : decode cX1_change 95 = .ok (.aload_n 0, 1) := dk_42 (dk_at dksX1_change_4 0 rfl rfl)
theorem dX1_change_96 : decode cX1_change 96 = .ok (.getfield 46, 3) := dk_180 0 46 (dk_at dksX1_change_4 1 rfl rfl)
theorem dX1_change_99 : decode cX1_change 99 = .ok (.iconst 1, 1) := dk_4 (dk_at dksX1_change_4 4 rfl rfl)
theorem dX1_change_100 : decode cX1_change 100 = .ok (.dup2, 1) := dk_92 (dk_at dksX1_change_4 5 rfl rfl)
theorem dX1_change_101 : decode cX1_change 101 = .ok (.iaload, 1) := dk_46 (dk_at dksX1_change_4 6 rfl rfl)
theorem dX1_change_102 : decode cX1_change 102 = .ok (.iconst 1, 1) := dk_4 (dk_at dksX1_change_4 7 rfl rfl)
theorem dX1_change_103 : decode cX1_change 103 = .ok (.iadd, 1) := dk_96 (dk_at dksX1_change_4 8 rfl rfl)
theorem dX1_change_104 : decode cX1_change 104 = .ok (.iastore, 1) := dk_79 (dk_at dksX1_change_4 9 rfl rfl)
theorem dX1_change_105 : decode cX1_change 105 = .ok (.iconst 0, 1) := dk_3 (dk_at dksX1_change_4 10 rfl rfl)
theorem dX1_change_106 : decode cX1_change 106 = .ok (.ireturn, 1) := dk_172 (dk_at dksX1_change_4 11 rfl rfl)
theorem dX1_change_107 : decode cX1_change 107 = .ok (.aload_n 0, 1) := dk_42 (dk_at dksX1_change_4 12 rfl rfl)
theorem dX1_change_108 : decode cX1_change 108 = .ok (.invokevirtual 223, 3) := dk_182 0 223 (dk_at dksX1_change_4 13 rfl rfl)
theorem dX1_change_111 : decode cX1_change 111 = .ok (.aload_n 0, 1) := dk_42 (dk_at dksX1_change_4 16 rfl rfl)
theorem dX1_change_112 : decode cX1_change 112 = .ok (.getfield 31, 3) := dk_180 0 31 (dk_at dksX1_change_4 17 rfl rfl)
theorem dX1_change_115 : decode cX1_change 115 = .ok (.getfield 97, 3) := dk_180 0 97 (dk_at dksX1_change_4 20 rfl rfl)
theorem dX1_change_118 : decode cX1_change 118 = .ok (.iload_n 1, 1) := dk_27 (dk_at dksX1_change_4 23 rfl rfl)
theorem dX1_change_119 : decode cX1_change 119 = .ok (.iload 4, 2) := dk_21 4 (dk_at dksX1_change_5 0 rfl rfl)
theorem dX1_change_121 : decode cX1_change 121 = .ok (.iastore, 1) := dk_79 (dk_at dksX1_change_5 2 rfl rfl)
theorem dX1_change_122 : decode cX1_change 122 = .ok (.aload_n 0, 1) := dk_42 (dk_at dksX1_change_5 3 rfl rfl)
theorem dX1_change_123 : decode cX1_change 123 = .ok (.getfield 31, 3) := dk_180 0 31 (dk_at dksX1_change_5 4 rfl rfl)
theorem dX1_change_126 : decode cX1_change 126 = .ok (.getfield 97, 3) := dk_180 0 97 (dk_at dksX1_change_5 7 rfl rfl)
theorem dX1_change_129 : decode cX1_change 129 = .ok (.iload_n 2, 1) := dk_28 (dk_at dksX1_change_5 10 rfl rfl)
theorem dX1_change_130 : decode cX1_change 130 = .ok (.iload_n 3, 1) := dk_29 (dk_at dksX1_change_5 11 rfl rfl)
theorem dX1_change_131 : decode cX1_change 131 = .ok (.iastore, 1) := dk_79 (dk_at dksX1_change_5 12 rfl rfl)
theorem dX1_change_132 : decode cX1_change 132 = .ok (.iconst 1, 1) := dk_4 (dk_at dksX1_change_5 13 rfl rfl)
theorem dX1_change_133 : decode cX1_change 133 = .ok (.ireturn, 1) := dk_172 (dk_at dksX1_change_5 14 rfl rfl)
abbrev cX1_then : ByteArray := prog_1_method_32_code
def yX1_then : MethodName := ⟨RX1, "then", "(III)I"⟩
def dkwX1_then_3 : List UInt8 := [172]
abbrev dktX1_then_3 : List UInt8 := dkwX1_then_3 ++ []
def dkwX1_then_2 : List UInt8 := [160, 0, 15, 42, 180, 0, 35, 180, 0, 97, 27, 46, 167, 0, 12, 42, 180, 0, 35, 180, 0, 203, 27, 46]
abbrev dktX1_then_2 : List UInt8 := dkwX1_then_2 ++ dktX1_then_3
def dkwX1_then_1 : List UInt8 := [182, 0, 248, 87, 29, 154, 0, 15, 42, 180, 0, 35, 180, 0, 167, 27, 46, 167, 0, 29, 29, 4]
abbrev dktX1_then_1 : List UInt8 := dkwX1_then_1 ++ dktX1_then_2
def dkwX1_then_0 : List UInt8 := [42, 27, 182, 0, 193, 29, 5, 184, 0, 196, 28, 3, 16, 40, 184, 0, 139, 184, 0, 62, 42, 28]
abbrev dktX1_then_0 : List UInt8 := dkwX1_then_0 ++ dktX1_then_1
theorem dksX1_then_0 : cX1_then.data.toList.drop 0 = dktX1_then_0 := by decide +kernel
theorem dksX1_then_1 : cX1_then.data.toList.drop 22 = dktX1_then_1 := dk_seg dksX1_then_0 22 rfl rfl
theorem dksX1_then_2 : cX1_then.data.toList.drop 44 = dktX1_then_2 := dk_seg dksX1_then_1 22 rfl rfl
theorem dksX1_then_3 : cX1_then.data.toList.drop 68 = dktX1_then_3 := dk_seg dksX1_then_2 24 rfl rfl
theorem dX1_then_0 : decode cX1_then 0 = .ok (.aload_n 0, 1) := dk_42 (dk_at dksX1_then_0 0 rfl rfl)
theorem dX1_then_1 : decode cX1_then 1 = .ok (.iload_n 1, 1) := dk_27 (dk_at dksX1_then_0 1 rfl rfl)
theorem dX1_then_2 : decode cX1_then 2 = .ok (.invokevirtual 193, 3) := dk_182 0 193 (dk_at dksX1_then_0 2 rfl rfl)
theorem dX1_then_5 : decode cX1_then 5 = .ok (.iload_n 3, 1) := dk_29 (dk_at dksX1_then_0 5 rfl rfl)
theorem dX1_then_6 : decode cX1_then 6 = .ok (.iconst 2, 1) := dk_5 (dk_at dksX1_then_0 6 rfl rfl)
theorem dX1_then_7 : decode cX1_then 7 = .ok (.invokestatic 196, 3) := dk_184 0 196 (dk_at dksX1_then_0 7 rfl rfl)
theorem dX1_then_10 : decode cX1_then 10 = .ok (.iload_n 2, 1) := dk_28 (dk_at dksX1_then_0 10 rfl rfl)
theorem dX1_then_11 : decode cX1_then 11 = .ok (.iconst 0, 1) := dk_3 (dk_at dksX1_then_0 11 rfl rfl)
theorem dX1_then_12 : decode cX1_then 12 = .ok (.bipush 40, 2) := dk_16 40 (dk_at dksX1_then_0 12 rfl rfl)
theorem dX1_then_14 : decode cX1_then 14 = .ok (.invokestatic 139, 3) := dk_184 0 139 (dk_at dksX1_then_0 14 rfl rfl)
theorem dX1_then_17 : decode cX1_then 17 = .ok (.invokestatic 62, 3) := dk_184 0 62 (dk_at dksX1_then_0 17 rfl rfl)
theorem dX1_then_20 : decode cX1_then 20 = .ok (.aload_n 0, 1) := dk_42 (dk_at dksX1_then_0 20 rfl rfl)
theorem dX1_then_21 : decode cX1_then 21 = .ok (.iload_n 2, 1) := dk_28 (dk_at dksX1_then_0 21 rfl rfl)
theorem dX1_then_22 : decode cX1_then 22 = .ok (.invokevirtual 248, 3) := dk_182 0 248 (dk_at dksX1_then_1 0 rfl rfl)
theorem dX1_then_25 : decode cX1_then 25 = .ok (.pop, 1) := dk_87 (dk_at dksX1_then_1 3 rfl rfl)
theorem dX1_then_26 : decode cX1_then 26 = .ok (.iload_n 3, 1) := dk_29 (dk_at dksX1_then_1 4 rfl rfl)
theorem dX1_then_27 : decode cX1_then 27 = .ok (.ifCond .ne 15, 3) := dk_154 0 15 (dk_at dksX1_then_1 5 rfl rfl)
theorem dX1_then_30 : decode cX1_then 30 = .ok (.aload_n 0, 1) := dk_42 (dk_at dksX1_then_1 8 rfl rfl)
theorem dX1_then_31 : decode cX1_then 31 = .ok (.getfield 35, 3) := dk_180 0 35 (dk_at dksX1_then_1 9 rfl rfl)
theorem dX1_then_34 : decode cX1_then 34 = .ok (.getfield 167, 3) := dk_180 0 167 (dk_at dksX1_then_1 12 rfl rfl)
theorem dX1_then_37 : decode cX1_then 37 = .ok (.iload_n 1, 1) := dk_27 (dk_at dksX1_then_1 15 rfl rfl)
theorem dX1_then_38 : decode cX1_then 38 = .ok (.iaload, 1) := dk_46 (dk_at dksX1_then_1 16 rfl rfl)
theorem dX1_then_39 : decode cX1_then 39 = .ok (.goto 29, 3) := dk_167 0 29 (dk_at dksX1_then_1 17 rfl rfl)
theorem dX1_then_42 : decode cX1_then 42 = .ok (.iload_n 3, 1) := dk_29 (dk_at dksX1_then_1 20 rfl rfl)
theorem dX1_then_43 : decode cX1_then 43 = .ok (.iconst 1, 1) := dk_4 (dk_at dksX1_then_1 21 rfl rfl)
theorem dX1_then_44 : decode cX1_then 44 = .ok (.if_icmp .ne 15, 3) := dk_160 0 15 (dk_at dksX1_then_2 0 rfl rfl)
theorem dX1_then_47 : decode cX1_then 47 = .ok (.aload_n 0, 1) := dk_42 (dk_at dksX1_then_2 3 rfl rfl)
theorem dX1_then_48 : decode cX1_then 48 = .ok (.getfield 35, 3) := dk_180 0 35 (dk_at dksX1_then_2 4 rfl rfl)
theorem dX1_then_51 : decode cX1_then 51 = .ok (.getfield 97, 3) := dk_180 0 97 (dk_at dksX1_then_2 7 rfl rfl)
theorem dX1_then_54 : decode cX1_then 54 = .ok (.iload_n 1, 1) := dk_27 (dk_at dksX1_then_2 10 rfl rfl)
theorem dX1_then_55 : decode cX1_then 55 = .ok (.iaload, 1) := dk_46 (dk_at dksX1_then_2 11 rfl rfl)
theorem dX1_then_56 : decode cX1_then 56 = .ok (.goto 12, 3) := dk_167 0 12 (dk_at dksX1_then_2 12 rfl rfl)
theorem dX1_then_59 : decode cX1_then 59 = .ok (.aload_n 0, 1) := dk_42 (dk_at dksX1_then_2 15 rfl rfl)
theorem dX1_then_60 : decode cX1_then 60 = .ok (.getfield 35, 3) := dk_180 0 35 (dk_at dksX1_then_2 16 rfl rfl)
theorem dX1_then_63 : decode cX1_then 63 = .ok (.getfield 203, 3) := dk_180 0 203 (dk_at dksX1_then_2 19 rfl rfl)
theorem dX1_then_66 : decode cX1_then 66 = .ok (.iload_n 1, 1) := dk_27 (dk_at dksX1_then_2 22 rfl rfl)
theorem dX1_then_67 : decode cX1_then 67 = .ok (.iaload, 1) := dk_46 (dk_at dksX1_then_2 23 rfl rfl)
theorem dX1_then_68 : decode cX1_then 68 = .ok (.ireturn, 1) := dk_172 (dk_at dksX1_then_3 0 rfl rfl)
abbrev cX1_later : ByteArray := prog_1_method_31_code
def yX1_later : MethodName := ⟨RX1, "later", "(I)LHornHouses$Street;"⟩
def dkwX1_later_0 : List UInt8 := [42, 180, 0, 35, 42, 180, 0, 31, 182, 0, 244, 27, 182, 0, 226, 176]
abbrev dktX1_later_0 : List UInt8 := dkwX1_later_0 ++ []
theorem dksX1_later_0 : cX1_later.data.toList.drop 0 = dktX1_later_0 := by decide +kernel
theorem dX1_later_0 : decode cX1_later 0 = .ok (.aload_n 0, 1) := dk_42 (dk_at dksX1_later_0 0 rfl rfl)
theorem dX1_later_1 : decode cX1_later 1 = .ok (.getfield 35, 3) := dk_180 0 35 (dk_at dksX1_later_0 1 rfl rfl)
theorem dX1_later_4 : decode cX1_later 4 = .ok (.aload_n 0, 1) := dk_42 (dk_at dksX1_later_0 4 rfl rfl)
theorem dX1_later_5 : decode cX1_later 5 = .ok (.getfield 31, 3) := dk_180 0 31 (dk_at dksX1_later_0 5 rfl rfl)
theorem dX1_later_8 : decode cX1_later 8 = .ok (.invokevirtual 244, 3) := dk_182 0 244 (dk_at dksX1_later_0 8 rfl rfl)
theorem dX1_later_11 : decode cX1_later 11 = .ok (.iload_n 1, 1) := dk_27 (dk_at dksX1_later_0 11 rfl rfl)
theorem dX1_later_12 : decode cX1_later 12 = .ok (.invokevirtual 226, 3) := dk_182 0 226 (dk_at dksX1_later_0 12 rfl rfl)
theorem dX1_later_15 : decode cX1_later 15 = .ok (.areturn, 1) := dk_176 (dk_at dksX1_later_0 15 rfl rfl)
abbrev cX1_worn : ByteArray := prog_1_method_33_code
def yX1_worn : MethodName := ⟨RX1, "worn", "(II)I"⟩
def dkwX1_worn_1 : List UInt8 := [46, 172]
abbrev dktX1_worn_1 : List UInt8 := dkwX1_worn_1 ++ []
def dkwX1_worn_0 : List UInt8 := [42, 27, 182, 0, 173, 28, 3, 16, 40, 184, 0, 139, 184, 0, 62, 42, 28, 182, 0, 248, 180, 0, 180, 27]
abbrev dktX1_worn_0 : List UInt8 := dkwX1_worn_0 ++ dktX1_worn_1
theorem dksX1_worn_0 : cX1_worn.data.toList.drop 0 = dktX1_worn_0 := by decide +kernel
theorem dksX1_worn_1 : cX1_worn.data.toList.drop 24 = dktX1_worn_1 := dk_seg dksX1_worn_0 24 rfl rfl
theorem dX1_worn_0 : decode cX1_worn 0 = .ok (.aload_n 0, 1) := dk_42 (dk_at dksX1_worn_0 0 rfl rfl)
theorem dX1_worn_1 : decode cX1_worn 1 = .ok (.iload_n 1, 1) := dk_27 (dk_at dksX1_worn_0 1 rfl rfl)
theorem dX1_worn_2 : decode cX1_worn 2 = .ok (.invokevirtual 173, 3) := dk_182 0 173 (dk_at dksX1_worn_0 2 rfl rfl)
theorem dX1_worn_5 : decode cX1_worn 5 = .ok (.iload_n 2, 1) := dk_28 (dk_at dksX1_worn_0 5 rfl rfl)
theorem dX1_worn_6 : decode cX1_worn 6 = .ok (.iconst 0, 1) := dk_3 (dk_at dksX1_worn_0 6 rfl rfl)
theorem dX1_worn_7 : decode cX1_worn 7 = .ok (.bipush 40, 2) := dk_16 40 (dk_at dksX1_worn_0 7 rfl rfl)
theorem dX1_worn_9 : decode cX1_worn 9 = .ok (.invokestatic 139, 3) := dk_184 0 139 (dk_at dksX1_worn_0 9 rfl rfl)
theorem dX1_worn_12 : decode cX1_worn 12 = .ok (.invokestatic 62, 3) := dk_184 0 62 (dk_at dksX1_worn_0 12 rfl rfl)
theorem dX1_worn_15 : decode cX1_worn 15 = .ok (.aload_n 0, 1) := dk_42 (dk_at dksX1_worn_0 15 rfl rfl)
theorem dX1_worn_16 : decode cX1_worn 16 = .ok (.iload_n 2, 1) := dk_28 (dk_at dksX1_worn_0 16 rfl rfl)
theorem dX1_worn_17 : decode cX1_worn 17 = .ok (.invokevirtual 248, 3) := dk_182 0 248 (dk_at dksX1_worn_0 17 rfl rfl)
theorem dX1_worn_20 : decode cX1_worn 20 = .ok (.getfield 180, 3) := dk_180 0 180 (dk_at dksX1_worn_0 20 rfl rfl)
theorem dX1_worn_23 : decode cX1_worn 23 = .ok (.iload_n 1, 1) := dk_27 (dk_at dksX1_worn_0 23 rfl rfl)
theorem dX1_worn_24 : decode cX1_worn 24 = .ok (.iaload, 1) := dk_46 (dk_at dksX1_worn_1 0 rfl rfl)
theorem dX1_worn_25 : decode cX1_worn 25 = .ok (.ireturn, 1) := dk_172 (dk_at dksX1_worn_1 1 rfl rfl)
abbrev cX1_burst : ByteArray := prog_1_method_35_code
def yX1_burst : MethodName := ⟨RX1, "burst", "(I)I"⟩
def dkwX1_burst_0 : List UInt8 := [42, 27, 182, 0, 173, 42, 27, 182, 0, 254, 172]
abbrev dktX1_burst_0 : List UInt8 := dkwX1_burst_0 ++ []
theorem dksX1_burst_0 : cX1_burst.data.toList.drop 0 = dktX1_burst_0 := by decide +kernel
theorem dX1_burst_0 : decode cX1_burst 0 = .ok (.aload_n 0, 1) := dk_42 (dk_at dksX1_burst_0 0 rfl rfl)
theorem dX1_burst_1 : decode cX1_burst 1 = .ok (.iload_n 1, 1) := dk_27 (dk_at dksX1_burst_0 1 rfl rfl)
theorem dX1_burst_2 : decode cX1_burst 2 = .ok (.invokevirtual 173, 3) := dk_182 0 173 (dk_at dksX1_burst_0 2 rfl rfl)
theorem dX1_burst_5 : decode cX1_burst 5 = .ok (.aload_n 0, 1) := dk_42 (dk_at dksX1_burst_0 5 rfl rfl)
theorem dX1_burst_6 : decode cX1_burst 6 = .ok (.iload_n 1, 1) := dk_27 (dk_at dksX1_burst_0 6 rfl rfl)
theorem dX1_burst_7 : decode cX1_burst 7 = .ok (.invokevirtual 254, 3) := dk_182 0 254 (dk_at dksX1_burst_0 7 rfl rfl)
theorem dX1_burst_10 : decode cX1_burst 10 = .ok (.ireturn, 1) := dk_172 (dk_at dksX1_burst_0 10 rfl rfl)
abbrev cX1_burstIn : ByteArray := prog_1_method_34_code
def yX1_burstIn : MethodName := ⟨RX1, "burstIn", "(I)I"⟩
def dkwX1_burstIn_2 : List UInt8 := [167, 255, 223, 2, 172]
abbrev dktX1_burstIn_2 : List UInt8 := dkwX1_burstIn_2 ++ []
def dkwX1_burstIn_1 : List UInt8 := [180, 0, 116, 27, 184, 0, 183, 153, 0, 5, 28, 172, 42, 180, 0, 35, 182, 0, 251, 87, 132, 2, 1]
abbrev dktX1_burstIn_1 : List UInt8 := dkwX1_burstIn_1 ++ dktX1_burstIn_2
def dkwX1_burstIn_0 : List UInt8 := [42, 180, 0, 35, 42, 180, 0, 31, 182, 0, 244, 87, 3, 61, 28, 16, 40, 163, 0, 33, 42, 180, 0, 35]
abbrev dktX1_burstIn_0 : List UInt8 := dkwX1_burstIn_0 ++ dktX1_burstIn_1
theorem dksX1_burstIn_0 : cX1_burstIn.data.toList.drop 0 = dktX1_burstIn_0 := by decide +kernel
theorem dksX1_burstIn_1 : cX1_burstIn.data.toList.drop 24 = dktX1_burstIn_1 := dk_seg dksX1_burstIn_0 24 rfl rfl
theorem dksX1_burstIn_2 : cX1_burstIn.data.toList.drop 47 = dktX1_burstIn_2 := dk_seg dksX1_burstIn_1 23 rfl rfl
theorem dX1_burstIn_0 : decode cX1_burstIn 0 = .ok (.aload_n 0, 1) := dk_42 (dk_at dksX1_burstIn_0 0 rfl rfl)
theorem dX1_burstIn_1 : decode cX1_burstIn 1 = .ok (.getfield 35, 3) := dk_180 0 35 (dk_at dksX1_burstIn_0 1 rfl rfl)
theorem dX1_burstIn_4 : decode cX1_burstIn 4 = .ok (.aload_n 0, 1) := dk_42 (dk_at dksX1_burstIn_0 4 rfl rfl)
theorem dX1_burstIn_5 : decode cX1_burstIn 5 = .ok (.getfield 31, 3) := dk_180 0 31 (dk_at dksX1_burstIn_0 5 rfl rfl)
theorem dX1_burstIn_8 : decode cX1_burstIn 8 = .ok (.invokevirtual 244, 3) := dk_182 0 244 (dk_at dksX1_burstIn_0 8 rfl rfl)
theorem dX1_burstIn_11 : decode cX1_burstIn 11 = .ok (.pop, 1) := dk_87 (dk_at dksX1_burstIn_0 11 rfl rfl)
theorem dX1_burstIn_12 : decode cX1_burstIn 12 = .ok (.iconst 0, 1) := dk_3 (dk_at dksX1_burstIn_0 12 rfl rfl)
theorem dX1_burstIn_13 : decode cX1_burstIn 13 = .ok (.istore_n 2, 1) := dk_61 (dk_at dksX1_burstIn_0 13 rfl rfl)
theorem dX1_burstIn_14 : decode cX1_burstIn 14 = .ok (.iload_n 2, 1) := dk_28 (dk_at dksX1_burstIn_0 14 rfl rfl)
theorem dX1_burstIn_15 : decode cX1_burstIn 15 = .ok (.bipush 40, 2) := dk_16 40 (dk_at dksX1_burstIn_0 15 rfl rfl)
theorem dX1_burstIn_17 : decode cX1_burstIn 17 = .ok (.if_icmp .gt 33, 3) := dk_163 0 33 (dk_at dksX1_burstIn_0 17 rfl rfl)
theorem dX1_burstIn_20 : decode cX1_burstIn 20 = .ok (.aload_n 0, 1) := dk_42 (dk_at dksX1_burstIn_0 20 rfl rfl)
theorem dX1_burstIn_21 : decode cX1_burstIn 21 = .ok (.getfield 35, 3) := dk_180 0 35 (dk_at dksX1_burstIn_0 21 rfl rfl)
theorem dX1_burstIn_24 : decode cX1_burstIn 24 = .ok (.getfield 116, 3) := dk_180 0 116 (dk_at dksX1_burstIn_1 0 rfl rfl)
theorem dX1_burstIn_27 : decode cX1_burstIn 27 = .ok (.iload_n 1, 1) := dk_27 (dk_at dksX1_burstIn_1 3 rfl rfl)
theorem dX1_burstIn_28 : decode cX1_burstIn 28 = .ok (.invokestatic 183, 3) := dk_184 0 183 (dk_at dksX1_burstIn_1 4 rfl rfl)
theorem dX1_burstIn_31 : decode cX1_burstIn 31 = .ok (.ifCond .eq 5, 3) := dk_153 0 5 (dk_at dksX1_burstIn_1 7 rfl rfl)
theorem dX1_burstIn_34 : decode cX1_burstIn 34 = .ok (.iload_n 2, 1) := dk_28 (dk_at dksX1_burstIn_1 10 rfl rfl)
theorem dX1_burstIn_35 : decode cX1_burstIn 35 = .ok (.ireturn, 1) := dk_172 (dk_at dksX1_burstIn_1 11 rfl rfl)
theorem dX1_burstIn_36 : decode cX1_burstIn 36 = .ok (.aload_n 0, 1) := dk_42 (dk_at dksX1_burstIn_1 12 rfl rfl)
theorem dX1_burstIn_37 : decode cX1_burstIn 37 = .ok (.getfield 35, 3) := dk_180 0 35 (dk_at dksX1_burstIn_1 13 rfl rfl)
theorem dX1_burstIn_40 : decode cX1_burstIn 40 = .ok (.invokevirtual 251, 3) := dk_182 0 251 (dk_at dksX1_burstIn_1 16 rfl rfl)
theorem dX1_burstIn_43 : decode cX1_burstIn 43 = .ok (.pop, 1) := dk_87 (dk_at dksX1_burstIn_1 19 rfl rfl)
theorem dX1_burstIn_44 : decode cX1_burstIn 44 = .ok (.iinc 2 1, 3) := dk_132 2 1 (dk_at dksX1_burstIn_1 20 rfl rfl)
theorem dX1_burstIn_47 : decode cX1_burstIn 47 = .ok (.goto (-33), 3) := dk_167 255 223 (dk_at dksX1_burstIn_2 0 rfl rfl)
theorem dX1_burstIn_50 : decode cX1_burstIn 50 = .ok (.iconst (-1), 1) := dk_2 (dk_at dksX1_burstIn_2 3 rfl rfl)
theorem dX1_burstIn_51 : decode cX1_burstIn 51 = .ok (.ireturn, 1) := dk_172 (dk_at dksX1_burstIn_2 4 rfl rfl)
abbrev cX1_wriggles : ByteArray := prog_1_method_36_code
def yX1_wriggles : MethodName := ⟨RX1, "wriggles", "(I)I"⟩
def dkwX1_wriggles_2 : List UInt8 := [164, 0, 5, 28, 172, 132, 2, 1, 167, 255, 221, 2, 172]
abbrev dktX1_wriggles_2 : List UInt8 := dkwX1_wriggles_2 ++ []
def dkwX1_wriggles_1 : List UInt8 := [163, 0, 35, 42, 180, 0, 35, 182, 0, 251, 180, 0, 203, 27, 46, 42, 180, 0, 31, 180, 0, 203, 27, 46]
abbrev dktX1_wriggles_1 : List UInt8 := dkwX1_wriggles_1 ++ dktX1_wriggles_2
def dkwX1_wriggles_0 : List UInt8 := [42, 27, 182, 0, 193, 42, 180, 0, 35, 42, 180, 0, 31, 182, 0, 244, 87, 4, 61, 28, 16, 40]
abbrev dktX1_wriggles_0 : List UInt8 := dkwX1_wriggles_0 ++ dktX1_wriggles_1
theorem dksX1_wriggles_0 : cX1_wriggles.data.toList.drop 0 = dktX1_wriggles_0 := by decide +kernel
theorem dksX1_wriggles_1 : cX1_wriggles.data.toList.drop 22 = dktX1_wriggles_1 := dk_seg dksX1_wriggles_0 22 rfl rfl
theorem dksX1_wriggles_2 : cX1_wriggles.data.toList.drop 46 = dktX1_wriggles_2 := dk_seg dksX1_wriggles_1 24 rfl rfl
theorem dX1_wriggles_0 : decode cX1_wriggles 0 = .ok (.aload_n 0, 1) := dk_42 (dk_at dksX1_wriggles_0 0 rfl rfl)
theorem dX1_wriggles_1 : decode cX1_wriggles 1 = .ok (.iload_n 1, 1) := dk_27 (dk_at dksX1_wriggles_0 1 rfl rfl)
theorem dX1_wriggles_2 : decode cX1_wriggles 2 = .ok (.invokevirtual 193, 3) := dk_182 0 193 (dk_at dksX1_wriggles_0 2 rfl rfl)
theorem dX1_wriggles_5 : decode cX1_wriggles 5 = .ok (.aload_n 0, 1) := dk_42 (dk_at dksX1_wriggles_0 5 rfl rfl)
theorem dX1_wriggles_6 : decode cX1_wriggles 6 = .ok (.getfield 35, 3) := dk_180 0 35 (dk_at dksX1_wriggles_0 6 rfl rfl)
theorem dX1_wriggles_9 : decode cX1_wriggles 9 = .ok (.aload_n 0, 1) := dk_42 (dk_at dksX1_wriggles_0 9 rfl rfl)
theorem dX1_wriggles_10 : decode cX1_wriggles 10 = .ok (.getfield 31, 3) := dk_180 0 31 (dk_at dksX1_wriggles_0 10 rfl rfl)
theorem dX1_wriggles_13 : decode cX1_wriggles 13 = .ok (.invokevirtual 244, 3) := dk_182 0 244 (dk_at dksX1_wriggles_0 13 rfl rfl)
theorem dX1_wriggles_16 : decode cX1_wriggles 16 = .ok (.pop, 1) := dk_87 (dk_at dksX1_wriggles_0 16 rfl rfl)
theorem dX1_wriggles_17 : decode cX1_wriggles 17 = .ok (.iconst 1, 1) := dk_4 (dk_at dksX1_wriggles_0 17 rfl rfl)
theorem dX1_wriggles_18 : decode cX1_wriggles 18 = .ok (.istore_n 2, 1) := dk_61 (dk_at dksX1_wriggles_0 18 rfl rfl)
theorem dX1_wriggles_19 : decode cX1_wriggles 19 = .ok (.iload_n 2, 1) := dk_28 (dk_at dksX1_wriggles_0 19 rfl rfl)
theorem dX1_wriggles_20 : decode cX1_wriggles 20 = .ok (.bipush 40, 2) := dk_16 40 (dk_at dksX1_wriggles_0 20 rfl rfl)
theorem dX1_wriggles_22 : decode cX1_wriggles 22 = .ok (.if_icmp .gt 35, 3) := dk_163 0 35 (dk_at dksX1_wriggles_1 0 rfl rfl)
theorem dX1_wriggles_25 : decode cX1_wriggles 25 = .ok (.aload_n 0, 1) := dk_42 (dk_at dksX1_wriggles_1 3 rfl rfl)
theorem dX1_wriggles_26 : decode cX1_wriggles 26 = .ok (.getfield 35, 3) := dk_180 0 35 (dk_at dksX1_wriggles_1 4 rfl rfl)
theorem dX1_wriggles_29 : decode cX1_wriggles 29 = .ok (.invokevirtual 251, 3) := dk_182 0 251 (dk_at dksX1_wriggles_1 7 rfl rfl)
theorem dX1_wriggles_32 : decode cX1_wriggles 32 = .ok (.getfield 203, 3) := dk_180 0 203 (dk_at dksX1_wriggles_1 10 rfl rfl)
theorem dX1_wriggles_35 : decode cX1_wriggles 35 = .ok (.iload_n 1, 1) := dk_27 (dk_at dksX1_wriggles_1 13 rfl rfl)
theorem dX1_wriggles_36 : decode cX1_wriggles 36 = .ok (.iaload, 1) := dk_46 (dk_at dksX1_wriggles_1 14 rfl rfl)
theorem dX1_wriggles_37 : decode cX1_wriggles 37 = .ok (.aload_n 0, 1) := dk_42 (dk_at dksX1_wriggles_1 15 rfl rfl)
theorem dX1_wriggles_38 : decode cX1_wriggles 38 = .ok (.getfield 31, 3) := dk_180 0 31 (dk_at dksX1_wriggles_1 16 rfl rfl)
theorem dX1_wriggles_41 : decode cX1_wriggles 41 = .ok (.getfield 203, 3) := dk_180 0 203 (dk_at dksX1_wriggles_1 19 rfl rfl)
theorem dX1_wriggles_44 : decode cX1_wriggles 44 = .ok (.iload_n 1, 1) := dk_27 (dk_at dksX1_wriggles_1 22 rfl rfl)
theorem dX1_wriggles_45 : decode cX1_wriggles 45 = .ok (.iaload, 1) := dk_46 (dk_at dksX1_wriggles_1 23 rfl rfl)
theorem dX1_wriggles_46 : decode cX1_wriggles 46 = .ok (.if_icmp .le 5, 3) := dk_164 0 5 (dk_at dksX1_wriggles_2 0 rfl rfl)
theorem dX1_wriggles_49 : decode cX1_wriggles 49 = .ok (.iload_n 2, 1) := dk_28 (dk_at dksX1_wriggles_2 3 rfl rfl)
theorem dX1_wriggles_50 : decode cX1_wriggles 50 = .ok (.ireturn, 1) := dk_172 (dk_at dksX1_wriggles_2 4 rfl rfl)
theorem dX1_wriggles_51 : decode cX1_wriggles 51 = .ok (.iinc 2 1, 3) := dk_132 2 1 (dk_at dksX1_wriggles_2 5 rfl rfl)
theorem dX1_wriggles_54 : decode cX1_wriggles 54 = .ok (.goto (-35), 3) := dk_167 255 221 (dk_at dksX1_wriggles_2 8 rfl rfl)
theorem dX1_wriggles_57 : decode cX1_wriggles 57 = .ok (.iconst (-1), 1) := dk_2 (dk_at dksX1_wriggles_2 11 rfl rfl)
theorem dX1_wriggles_58 : decode cX1_wriggles 58 = .ok (.ireturn, 1) := dk_172 (dk_at dksX1_wriggles_2 12 rfl rfl)
abbrev cX1_barefoot : ByteArray := prog_1_method_37_code
def yX1_barefoot : MethodName := ⟨RX1, "barefoot", "(I)I"⟩
def dkwX1_barefoot_0 : List UInt8 := [27, 3, 16, 40, 184, 0, 139, 184, 0, 62, 42, 27, 182, 0, 248, 182, 0, 122, 172]
abbrev dktX1_barefoot_0 : List UInt8 := dkwX1_barefoot_0 ++ []
theorem dksX1_barefoot_0 : cX1_barefoot.data.toList.drop 0 = dktX1_barefoot_0 := by decide +kernel
theorem dX1_barefoot_0 : decode cX1_barefoot 0 = .ok (.iload_n 1, 1) := dk_27 (dk_at dksX1_barefoot_0 0 rfl rfl)
theorem dX1_barefoot_1 : decode cX1_barefoot 1 = .ok (.iconst 0, 1) := dk_3 (dk_at dksX1_barefoot_0 1 rfl rfl)
theorem dX1_barefoot_2 : decode cX1_barefoot 2 = .ok (.bipush 40, 2) := dk_16 40 (dk_at dksX1_barefoot_0 2 rfl rfl)
theorem dX1_barefoot_4 : decode cX1_barefoot 4 = .ok (.invokestatic 139, 3) := dk_184 0 139 (dk_at dksX1_barefoot_0 4 rfl rfl)
theorem dX1_barefoot_7 : decode cX1_barefoot 7 = .ok (.invokestatic 62, 3) := dk_184 0 62 (dk_at dksX1_barefoot_0 7 rfl rfl)
theorem dX1_barefoot_10 : decode cX1_barefoot 10 = .ok (.aload_n 0, 1) := dk_42 (dk_at dksX1_barefoot_0 10 rfl rfl)
theorem dX1_barefoot_11 : decode cX1_barefoot 11 = .ok (.iload_n 1, 1) := dk_27 (dk_at dksX1_barefoot_0 11 rfl rfl)
theorem dX1_barefoot_12 : decode cX1_barefoot 12 = .ok (.invokevirtual 248, 3) := dk_182 0 248 (dk_at dksX1_barefoot_0 12 rfl rfl)
theorem dX1_barefoot_15 : decode cX1_barefoot 15 = .ok (.invokevirtual 122, 3) := dk_182 0 122 (dk_at dksX1_barefoot_0 15 rfl rfl)
theorem dX1_barefoot_18 : decode cX1_barefoot 18 = .ok (.ireturn, 1) := dk_172 (dk_at dksX1_barefoot_0 18 rfl rfl)
abbrev cX1_last : ByteArray := prog_1_method_38_code
def yX1_last : MethodName := ⟨RX1, "last", "(I)I"⟩
def dkwX1_last_4 : List UInt8 := [19, 1, 1, 160, 0, 7, 2, 167, 0, 4, 29, 172]
abbrev dktX1_last_4 : List UInt8 := dkwX1_last_4 ++ []
def dkwX1_last_3 : List UInt8 := [167, 0, 9, 21, 4, 61, 21, 6, 62, 132, 4, 1, 167, 255, 186, 27, 154, 0, 7, 28, 167, 0, 15, 29]
abbrev dktX1_last_3 : List UInt8 := dkwX1_last_3 ++ dktX1_last_4
def dkwX1_last_2 : List UInt8 := [21, 5, 2, 160, 0, 9, 19, 1, 1, 167, 0, 5, 21, 5, 54, 6, 21, 6, 29, 163, 0, 6]
abbrev dktX1_last_2 : List UInt8 := dkwX1_last_2 ++ dktX1_last_3
def dkwX1_last_1 : List UInt8 := [42, 180, 0, 31, 21, 4, 182, 0, 93, 2, 160, 0, 6, 167, 0, 42, 42, 21, 4, 182, 0, 254, 54, 5]
abbrev dktX1_last_1 : List UInt8 := dkwX1_last_1 ++ dktX1_last_2
def dkwX1_last_0 : List UInt8 := [27, 4, 184, 0, 196, 2, 61, 2, 62, 3, 54, 4, 21, 4, 42, 180, 0, 22, 182, 0, 89, 162, 0, 64]
abbrev dktX1_last_0 : List UInt8 := dkwX1_last_0 ++ dktX1_last_1
theorem dksX1_last_0 : cX1_last.data.toList.drop 0 = dktX1_last_0 := by decide +kernel
theorem dksX1_last_1 : cX1_last.data.toList.drop 24 = dktX1_last_1 := dk_seg dksX1_last_0 24 rfl rfl
theorem dksX1_last_2 : cX1_last.data.toList.drop 48 = dktX1_last_2 := dk_seg dksX1_last_1 24 rfl rfl
theorem dksX1_last_3 : cX1_last.data.toList.drop 70 = dktX1_last_3 := dk_seg dksX1_last_2 22 rfl rfl
theorem dksX1_last_4 : cX1_last.data.toList.drop 94 = dktX1_last_4 := dk_seg dksX1_last_3 24 rfl rfl
theorem dX1_last_0 : decode cX1_last 0 = .ok (.iload_n 1, 1) := dk_27 (dk_at dksX1_last_0 0 rfl rfl)
theorem dX1_last_1 : decode cX1_last 1 = .ok (.iconst 1, 1) := dk_4 (dk_at dksX1_last_0 1 rfl rfl)
theorem dX1_last_2 : decode cX1_last 2 = .ok (.invokestatic 196, 3) := dk_184 0 196 (dk_at dksX1_last_0 2 rfl rfl)
theorem dX1_last_5 : decode cX1_last 5 = .ok (.iconst (-1), 1) := dk_2 (dk_at dksX1_last_0 5 rfl rfl)
theorem dX1_last_6 : decode cX1_last 6 = .ok (.istore_n 2, 1) := dk_61 (dk_at dksX1_last_0 6 rfl rfl)
theorem dX1_last_7 : decode cX1_last 7 = .ok (.iconst (-1), 1) := dk_2 (dk_at dksX1_last_0 7 rfl rfl)
theorem dX1_last_8 : decode cX1_last 8 = .ok (.istore_n 3, 1) := dk_62 (dk_at dksX1_last_0 8 rfl rfl)
theorem dX1_last_9 : decode cX1_last 9 = .ok (.iconst 0, 1) := dk_3 (dk_at dksX1_last_0 9 rfl rfl)
theorem dX1_last_10 : decode cX1_last 10 = .ok (.istore 4, 2) := dk_54 4 (dk_at dksX1_last_0 10 rfl rfl)
theorem dX1_last_12 : decode cX1_last 12 = .ok (.iload 4, 2) := dk_21 4 (dk_at dksX1_last_0 12 rfl rfl)
theorem dX1_last_14 : decode cX1_last 14 = .ok (.aload_n 0, 1) := dk_42 (dk_at dksX1_last_0 14 rfl rfl)
theorem dX1_last_15 : decode cX1_last 15 = .ok (.getfield 22, 3) := dk_180 0 22 (dk_at dksX1_last_0 15 rfl rfl)
theorem dX1_last_18 : decode cX1_last 18 = .ok (.invokevirtual 89, 3) := dk_182 0 89 (dk_at dksX1_last_0 18 rfl rfl)
theorem dX1_last_21 : decode cX1_last 21 = .ok (.if_icmp .ge 64, 3) := dk_162 0 64 (dk_at dksX1_last_0 21 rfl rfl)
theorem dX1_last_24 : decode cX1_last 24 = .ok (.aload_n 0, 1) := dk_42 (dk_at dksX1_last_1 0 rfl rfl)
theorem dX1_last_25 : decode cX1_last 25 = .ok (.getfield 31, 3) := dk_180 0 31 (dk_at dksX1_last_1 1 rfl rfl)
theorem dX1_last_28 : decode cX1_last 28 = .ok (.iload 4, 2) := dk_21 4 (dk_at dksX1_last_1 4 rfl rfl)
theorem dX1_last_30 : decode cX1_last 30 = .ok (.invokevirtual 93, 3) := dk_182 0 93 (dk_at dksX1_last_1 6 rfl rfl)
theorem dX1_last_33 : decode cX1_last 33 = .ok (.iconst (-1), 1) := dk_2 (dk_at dksX1_last_1 9 rfl rfl)
theorem dX1_last_34 : decode cX1_last 34 = .ok (.if_icmp .ne 6, 3) := dk_160 0 6 (dk_at dksX1_last_1 10 rfl rfl)
theorem dX1_last_37 : decode cX1_last 37 = .ok (.goto 42, 3) := dk_167 0 42 (dk_at dksX1_last_1 13 rfl rfl)
theorem dX1_last_40 : decode cX1_last 40 = .ok (.aload_n 0, 1) := dk_42 (dk_at dksX1_last_1 16 rfl rfl)
theorem dX1_last_41 : decode cX1_last 41 = .ok (.iload 4, 2) := dk_21 4 (dk_at dksX1_last_1 17 rfl rfl)
theorem dX1_last_43 : decode cX1_last 43 = .ok (.invokevirtual 254, 3) := dk_182 0 254 (dk_at dksX1_last_1 19 rfl rfl)
theorem dX1_last_46 : decode cX1_last 46 = .ok (.istore 5, 2) := dk_54 5 (dk_at dksX1_last_1 22 rfl rfl)
theorem dX1_last_48 : decode cX1_last 48 = .ok (.iload 5, 2) := dk_21 5 (dk_at dksX1_last_2 0 rfl rfl)
theorem dX1_last_50 : decode cX1_last 50 = .ok (.iconst (-1), 1) := dk_2 (dk_at dksX1_last_2 2 rfl rfl)
theorem dX1_last_51 : decode cX1_last 51 = .ok (.if_icmp .ne 9, 3) := dk_160 0 9 (dk_at dksX1_last_2 3 rfl rfl)
theorem dX1_last_54 : decode cX1_last 54 = .ok (.ldc_w 257, 3) := dk_19 1 1 (dk_at dksX1_last_2 6 rfl rfl)
theorem dX1_last_57 : decode cX1_last 57 = .ok (.goto 5, 3) := dk_167 0 5 (dk_at dksX1_last_2 9 rfl rfl)
theorem dX1_last_60 : decode cX1_last 60 = .ok (.iload 5, 2) := dk_21 5 (dk_at dksX1_last_2 12 rfl rfl)
theorem dX1_last_62 : decode cX1_last 62 = .ok (.istore 6, 2) := dk_54 6 (dk_at dksX1_last_2 14 rfl rfl)
theorem dX1_last_64 : decode cX1_last 64 = .ok (.iload 6, 2) := dk_21 6 (dk_at dksX1_last_2 16 rfl rfl)
theorem dX1_last_66 : decode cX1_last 66 = .ok (.iload_n 3, 1) := dk_29 (dk_at dksX1_last_2 18 rfl rfl)
theorem dX1_last_67 : decode cX1_last 67 = .ok (.if_icmp .gt 6, 3) := dk_163 0 6 (dk_at dksX1_last_2 19 rfl rfl)
theorem dX1_last_70 : decode cX1_last 70 = .ok (.goto 9, 3) := dk_167 0 9 (dk_at dksX1_last_3 0 rfl rfl)
theorem dX1_last_73 : decode cX1_last 73 = .ok (.iload 4, 2) := dk_21 4 (dk_at dksX1_last_3 3 rfl rfl)
theorem dX1_last_75 : decode cX1_last 75 = .ok (.istore_n 2, 1) := dk_61 (dk_at dksX1_last_3 5 rfl rfl)
theorem dX1_last_76 : decode cX1_last 76 = .ok (.iload 6, 2) := dk_21 6 (dk_at dksX1_last_3 6 rfl rfl)
theorem dX1_last_78 : decode cX1_last 78 = .ok (.istore_n 3, 1) := dk_62 (dk_at dksX1_last_3 8 rfl rfl)
theorem dX1_last_79 : decode cX1_last 79 = .ok (.iinc 4 1, 3) := dk_132 4 1 (dk_at dksX1_last_3 9 rfl rfl)
theorem dX1_last_82 : decode cX1_last 82 = .ok (.goto (-70), 3) := dk_167 255 186 (dk_at dksX1_last_3 12 rfl rfl)
theorem dX1_last_85 : decode cX1_last 85 = .ok (.iload_n 1, 1) := dk_27 (dk_at dksX1_last_3 15 rfl rfl)
theorem dX1_last_86 : decode cX1_last 86 = .ok (.ifCond .ne 7, 3) := dk_154 0 7 (dk_at dksX1_last_3 16 rfl rfl)
theorem dX1_last_89 : decode cX1_last 89 = .ok (.iload_n 2, 1) := dk_28 (dk_at dksX1_last_3 19 rfl rfl)
theorem dX1_last_90 : decode cX1_last 90 = .ok (.goto 15, 3) := dk_167 0 15 (dk_at dksX1_last_3 20 rfl rfl)
theorem dX1_last_93 : decode cX1_last 93 = .ok (.iload_n 3, 1) := dk_29 (dk_at dksX1_last_3 23 rfl rfl)
theorem dX1_last_94 : decode cX1_last 94 = .ok (.ldc_w 257, 3) := dk_19 1 1 (dk_at dksX1_last_4 0 rfl rfl)
theorem dX1_last_97 : decode cX1_last 97 = .ok (.if_icmp .ne 7, 3) := dk_160 0 7 (dk_at dksX1_last_4 3 rfl rfl)
theorem dX1_last_100 : decode cX1_last 100 = .ok (.iconst (-1), 1) := dk_2 (dk_at dksX1_last_4 6 rfl rfl)
theorem dX1_last_101 : decode cX1_last 101 = .ok (.goto 4, 3) := dk_167 0 4 (dk_at dksX1_last_4 7 rfl rfl)
theorem dX1_last_104 : decode cX1_last 104 = .ok (.iload_n 3, 1) := dk_29 (dk_at dksX1_last_4 10 rfl rfl)
theorem dX1_last_105 : decode cX1_last 105 = .ok (.ireturn, 1) := dk_172 (dk_at dksX1_last_4 11 rfl rfl)
abbrev cX1_goes : ByteArray := prog_1_method_39_code
def yX1_goes : MethodName := ⟨RX1, "goes", "(I)I"⟩
def dkwX1_goes_1 : List UInt8 := [27, 29, 182, 0, 233, 153, 0, 9, 28, 4, 29, 120, 128, 61, 132, 3, 1, 167, 255, 224, 28, 172]
abbrev dktX1_goes_1 : List UInt8 := dkwX1_goes_1 ++ []
def dkwX1_goes_0 : List UInt8 := [42, 27, 182, 0, 193, 3, 61, 3, 62, 29, 42, 180, 0, 22, 182, 0, 89, 162, 0, 27, 42, 180, 0, 31]
abbrev dktX1_goes_0 : List UInt8 := dkwX1_goes_0 ++ dktX1_goes_1
theorem dksX1_goes_0 : cX1_goes.data.toList.drop 0 = dktX1_goes_0 := by decide +kernel
theorem dksX1_goes_1 : cX1_goes.data.toList.drop 24 = dktX1_goes_1 := dk_seg dksX1_goes_0 24 rfl rfl
theorem dX1_goes_0 : decode cX1_goes 0 = .ok (.aload_n 0, 1) := dk_42 (dk_at dksX1_goes_0 0 rfl rfl)
theorem dX1_goes_1 : decode cX1_goes 1 = .ok (.iload_n 1, 1) := dk_27 (dk_at dksX1_goes_0 1 rfl rfl)
theorem dX1_goes_2 : decode cX1_goes 2 = .ok (.invokevirtual 193, 3) := dk_182 0 193 (dk_at dksX1_goes_0 2 rfl rfl)
theorem dX1_goes_5 : decode cX1_goes 5 = .ok (.iconst 0, 1) := dk_3 (dk_at dksX1_goes_0 5 rfl rfl)
theorem dX1_goes_6 : decode cX1_goes 6 = .ok (.istore_n 2, 1) := dk_61 (dk_at dksX1_goes_0 6 rfl rfl)
theorem dX1_goes_7 : decode cX1_goes 7 = .ok (.iconst 0, 1) := dk_3 (dk_at dksX1_goes_0 7 rfl rfl)
theorem dX1_goes_8 : decode cX1_goes 8 = .ok (.istore_n 3, 1) := dk_62 (dk_at dksX1_goes_0 8 rfl rfl)
theorem dX1_goes_9 : decode cX1_goes 9 = .ok (.iload_n 3, 1) := dk_29 (dk_at dksX1_goes_0 9 rfl rfl)
theorem dX1_goes_10 : decode cX1_goes 10 = .ok (.aload_n 0, 1) := dk_42 (dk_at dksX1_goes_0 10 rfl rfl)
theorem dX1_goes_11 : decode cX1_goes 11 = .ok (.getfield 22, 3) := dk_180 0 22 (dk_at dksX1_goes_0 11 rfl rfl)
theorem dX1_goes_14 : decode cX1_goes 14 = .ok (.invokevirtual 89, 3) := dk_182 0 89 (dk_at dksX1_goes_0 14 rfl rfl)
theorem dX1_goes_17 : decode cX1_goes 17 = .ok (.if_icmp .ge 27, 3) := dk_162 0 27 (dk_at dksX1_goes_0 17 rfl rfl)
theorem dX1_goes_20 : decode cX1_goes 20 = .ok (.aload_n 0, 1) := dk_42 (dk_at dksX1_goes_0 20 rfl rfl)
theorem dX1_goes_21 : decode cX1_goes 21 = .ok (.getfield 31, 3) := dk_180 0 31 (dk_at dksX1_goes_0 21 rfl rfl)
theorem dX1_goes_24 : decode cX1_goes 24 = .ok (.iload_n 1, 1) := dk_27 (dk_at dksX1_goes_1 0 rfl rfl)
theorem dX1_goes_25 : decode cX1_goes 25 = .ok (.iload_n 3, 1) := dk_29 (dk_at dksX1_goes_1 1 rfl rfl)
theorem dX1_goes_26 : decode cX1_goes 26 = .ok (.invokevirtual 233, 3) := dk_182 0 233 (dk_at dksX1_goes_1 2 rfl rfl)
theorem dX1_goes_29 : decode cX1_goes 29 = .ok (.ifCond .eq 9, 3) := dk_153 0 9 (dk_at dksX1_goes_1 5 rfl rfl)
theorem dX1_goes_32 : decode cX1_goes 32 = .ok (.iload_n 2, 1) := dk_28 (dk_at dksX1_goes_1 8 rfl rfl)
theorem dX1_goes_33 : decode cX1_goes 33 = .ok (.iconst 1, 1) := dk_4 (dk_at dksX1_goes_1 9 rfl rfl)
theorem dX1_goes_34 : decode cX1_goes 34 = .ok (.iload_n 3, 1) := dk_29 (dk_at dksX1_goes_1 10 rfl rfl)
theorem dX1_goes_35 : decode cX1_goes 35 = .ok (.ishl, 1) := dk_120 (dk_at dksX1_goes_1 11 rfl rfl)
theorem dX1_goes_36 : decode cX1_goes 36 = .ok (.ior, 1) := dk_128 (dk_at dksX1_goes_1 12 rfl rfl)
theorem dX1_goes_37 : decode cX1_goes 37 = .ok (.istore_n 2, 1) := dk_61 (dk_at dksX1_goes_1 13 rfl rfl)
theorem dX1_goes_38 : decode cX1_goes 38 = .ok (.iinc 3 1, 3) := dk_132 3 1 (dk_at dksX1_goes_1 14 rfl rfl)
theorem dX1_goes_41 : decode cX1_goes 41 = .ok (.goto (-32), 3) := dk_167 255 224 (dk_at dksX1_goes_1 17 rfl rfl)
theorem dX1_goes_44 : decode cX1_goes 44 = .ok (.iload_n 2, 1) := dk_28 (dk_at dksX1_goes_1 20 rfl rfl)
theorem dX1_goes_45 : decode cX1_goes 45 = .ok (.ireturn, 1) := dk_172 (dk_at dksX1_goes_1 21 rfl rfl)
abbrev cX1_match : ByteArray := prog_1_method_44_code
def yX1_match : MethodName := ⟨RX1, "match", "(I)I"⟩
def dkwX1_match_1 : List UInt8 := [167, 0, 8, 28, 17, 3, 232, 112, 172]
abbrev dktX1_match_1 : List UInt8 := dkwX1_match_1 ++ []
def dkwX1_match_0 : List UInt8 := [27, 4, 184, 0, 196, 42, 182, 1, 14, 3, 50, 3, 46, 61, 27, 154, 0, 11, 28, 17, 3, 232, 108]
abbrev dktX1_match_0 : List UInt8 := dkwX1_match_0 ++ dktX1_match_1
theorem dksX1_match_0 : cX1_match.data.toList.drop 0 = dktX1_match_0 := by decide +kernel
theorem dksX1_match_1 : cX1_match.data.toList.drop 23 = dktX1_match_1 := dk_seg dksX1_match_0 23 rfl rfl
theorem dX1_match_0 : decode cX1_match 0 = .ok (.iload_n 1, 1) := dk_27 (dk_at dksX1_match_0 0 rfl rfl)
theorem dX1_match_1 : decode cX1_match 1 = .ok (.iconst 1, 1) := dk_4 (dk_at dksX1_match_0 1 rfl rfl)
theorem dX1_match_2 : decode cX1_match 2 = .ok (.invokestatic 196, 3) := dk_184 0 196 (dk_at dksX1_match_0 2 rfl rfl)
theorem dX1_match_5 : decode cX1_match 5 = .ok (.aload_n 0, 1) := dk_42 (dk_at dksX1_match_0 5 rfl rfl)
theorem dX1_match_6 : decode cX1_match 6 = .ok (.invokevirtual 270, 3) := dk_182 1 14 (dk_at dksX1_match_0 6 rfl rfl)
theorem dX1_match_9 : decode cX1_match 9 = .ok (.iconst 0, 1) := dk_3 (dk_at dksX1_match_0 9 rfl rfl)
theorem dX1_match_10 : decode cX1_match 10 = .ok (.aaload, 1) := dk_50 (dk_at dksX1_match_0 10 rfl rfl)
theorem dX1_match_11 : decode cX1_match 11 = .ok (.iconst 0, 1) := dk_3 (dk_at dksX1_match_0 11 rfl rfl)
theorem dX1_match_12 : decode cX1_match 12 = .ok (.iaload, 1) := dk_46 (dk_at dksX1_match_0 12 rfl rfl)
theorem dX1_match_13 : decode cX1_match 13 = .ok (.istore_n 2, 1) := dk_61 (dk_at dksX1_match_0 13 rfl rfl)
theorem dX1_match_14 : decode cX1_match 14 = .ok (.iload_n 1, 1) := dk_27 (dk_at dksX1_match_0 14 rfl rfl)
theorem dX1_match_15 : decode cX1_match 15 = .ok (.ifCond .ne 11, 3) := dk_154 0 11 (dk_at dksX1_match_0 15 rfl rfl)
theorem dX1_match_18 : decode cX1_match 18 = .ok (.iload_n 2, 1) := dk_28 (dk_at dksX1_match_0 18 rfl rfl)
theorem dX1_match_19 : decode cX1_match 19 = .ok (.sipush 1000, 3) := dk_17 3 232 (dk_at dksX1_match_0 19 rfl rfl)
theorem dX1_match_22 : decode cX1_match 22 = .ok (.idiv, 1) := dk_108 (dk_at dksX1_match_0 22 rfl rfl)
theorem dX1_match_23 : decode cX1_match 23 = .ok (.goto 8, 3) := dk_167 0 8 (dk_at dksX1_match_1 0 rfl rfl)
theorem dX1_match_26 : decode cX1_match 26 = .ok (.iload_n 2, 1) := dk_28 (dk_at dksX1_match_1 3 rfl rfl)
theorem dX1_match_27 : decode cX1_match 27 = .ok (.sipush 1000, 3) := dk_17 3 232 (dk_at dksX1_match_1 4 rfl rfl)
theorem dX1_match_30 : decode cX1_match 30 = .ok (.irem, 1) := dk_112 (dk_at dksX1_match_1 7 rfl rfl)
theorem dX1_match_31 : decode cX1_match 31 = .ok (.ireturn, 1) := dk_172 (dk_at dksX1_match_1 8 rfl rfl)
abbrev cX1_matched : ByteArray := prog_1_method_45_code
def yX1_matched : MethodName := ⟨RX1, "matched", "(I)I"⟩
def dkwX1_matched_4 : List UInt8 := [128, 62, 132, 5, 1, 167, 255, 174, 21, 4, 172]
abbrev dktX1_matched_4 : List UInt8 := dkwX1_matched_4 ++ []
def dkwX1_matched_3 : List UInt8 := [160, 0, 7, 21, 6, 54, 4, 132, 6, 255, 167, 255, 213, 21, 4, 2, 159, 0, 10, 29, 4, 21, 4, 120]
abbrev dktX1_matched_3 : List UInt8 := dkwX1_matched_3 ++ dktX1_matched_4
def dkwX1_matched_2 : List UInt8 := [21, 6, 182, 1, 4, 153, 0, 26, 42, 44, 21, 5, 29, 21, 6, 182, 1, 7, 44, 21, 5, 50, 29, 46]
abbrev dktX1_matched_2 : List UInt8 := dkwX1_matched_2 ++ dktX1_matched_3
def dkwX1_matched_1 : List UInt8 := [2, 54, 4, 42, 180, 0, 22, 182, 0, 89, 4, 100, 54, 6, 21, 6, 155, 0, 44, 42, 21, 5, 29]
abbrev dktX1_matched_1 : List UInt8 := dkwX1_matched_1 ++ dktX1_matched_2
def dkwX1_matched_0 : List UInt8 := [42, 27, 182, 0, 193, 42, 182, 1, 14, 77, 3, 62, 2, 54, 4, 3, 54, 5, 21, 5, 27, 163, 0, 82]
abbrev dktX1_matched_0 : List UInt8 := dkwX1_matched_0 ++ dktX1_matched_1
theorem dksX1_matched_0 : cX1_matched.data.toList.drop 0 = dktX1_matched_0 := by decide +kernel
theorem dksX1_matched_1 : cX1_matched.data.toList.drop 24 = dktX1_matched_1 := dk_seg dksX1_matched_0 24 rfl rfl
theorem dksX1_matched_2 : cX1_matched.data.toList.drop 47 = dktX1_matched_2 := dk_seg dksX1_matched_1 23 rfl rfl
theorem dksX1_matched_3 : cX1_matched.data.toList.drop 71 = dktX1_matched_3 := dk_seg dksX1_matched_2 24 rfl rfl
theorem dksX1_matched_4 : cX1_matched.data.toList.drop 95 = dktX1_matched_4 := dk_seg dksX1_matched_3 24 rfl rfl
theorem dX1_matched_0 : decode cX1_matched 0 = .ok (.aload_n 0, 1) := dk_42 (dk_at dksX1_matched_0 0 rfl rfl)
theorem dX1_matched_1 : decode cX1_matched 1 = .ok (.iload_n 1, 1) := dk_27 (dk_at dksX1_matched_0 1 rfl rfl)
theorem dX1_matched_2 : decode cX1_matched 2 = .ok (.invokevirtual 193, 3) := dk_182 0 193 (dk_at dksX1_matched_0 2 rfl rfl)
theorem dX1_matched_5 : decode cX1_matched 5 = .ok (.aload_n 0, 1) := dk_42 (dk_at dksX1_matched_0 5 rfl rfl)
theorem dX1_matched_6 : decode cX1_matched 6 = .ok (.invokevirtual 270, 3) := dk_182 1 14 (dk_at dksX1_matched_0 6 rfl rfl)
theorem dX1_matched_9 : decode cX1_matched 9 = .ok (.astore_n 2, 1) := dk_77 (dk_at dksX1_matched_0 9 rfl rfl)
theorem dX1_matched_10 : decode cX1_matched 10 = .ok (.iconst 0, 1) := dk_3 (dk_at dksX1_matched_0 10 rfl rfl)
theorem dX1_matched_11 : decode cX1_matched 11 = .ok (.istore_n 3, 1) := dk_62 (dk_at dksX1_matched_0 11 rfl rfl)
theorem dX1_matched_12 : decode cX1_matched 12 = .ok (.iconst (-1), 1) := dk_2 (dk_at dksX1_matched_0 12 rfl rfl)
theorem dX1_matched_13 : decode cX1_matched 13 = .ok (.istore 4, 2) := dk_54 4 (dk_at dksX1_matched_0 13 rfl rfl)
theorem dX1_matched_15 : decode cX1_matched 15 = .ok (.iconst 0, 1) := dk_3 (dk_at dksX1_matched_0 15 rfl rfl)
theorem dX1_matched_16 : decode cX1_matched 16 = .ok (.istore 5, 2) := dk_54 5 (dk_at dksX1_matched_0 16 rfl rfl)
theorem dX1_matched_18 : decode cX1_matched 18 = .ok (.iload 5, 2) := dk_21 5 (dk_at dksX1_matched_0 18 rfl rfl)
theorem dX1_matched_20 : decode cX1_matched 20 = .ok (.iload_n 1, 1) := dk_27 (dk_at dksX1_matched_0 20 rfl rfl)
theorem dX1_matched_21 : decode cX1_matched 21 = .ok (.if_icmp .gt 82, 3) := dk_163 0 82 (dk_at dksX1_matched_0 21 rfl rfl)
theorem dX1_matched_24 : decode cX1_matched 24 = .ok (.iconst (-1), 1) := dk_2 (dk_at dksX1_matched_1 0 rfl rfl)
theorem dX1_matched_25 : decode cX1_matched 25 = .ok (.istore 4, 2) := dk_54 4 (dk_at dksX1_matched_1 1 rfl rfl)
theorem dX1_matched_27 : decode cX1_matched 27 = .ok (.aload_n 0, 1) := dk_42 (dk_at dksX1_matched_1 3 rfl rfl)
theorem dX1_matched_28 : decode cX1_matched 28 = .ok (.getfield 22, 3) := dk_180 0 22 (dk_at dksX1_matched_1 4 rfl rfl)
theorem dX1_matched_31 : decode cX1_matched 31 = .ok (.invokevirtual 89, 3) := dk_182 0 89 (dk_at dksX1_matched_1 7 rfl rfl)
theorem dX1_matched_34 : decode cX1_matched 34 = .ok (.iconst 1, 1) := dk_4 (dk_at dksX1_matched_1 10 rfl rfl)
theorem dX1_matched_35 : decode cX1_matched 35 = .ok (.isub, 1) := dk_100 (dk_at dksX1_matched_1 11 rfl rfl)
theorem dX1_matched_36 : decode cX1_matched 36 = .ok (.istore 6, 2) := dk_54 6 (dk_at dksX1_matched_1 12 rfl rfl)
theorem dX1_matched_38 : decode cX1_matched 38 = .ok (.iload 6, 2) := dk_21 6 (dk_at dksX1_matched_1 14 rfl rfl)
theorem dX1_matched_40 : decode cX1_matched 40 = .ok (.ifCond .lt 44, 3) := dk_155 0 44 (dk_at dksX1_matched_1 16 rfl rfl)
theorem dX1_matched_43 : decode cX1_matched 43 = .ok (.aload_n 0, 1) := dk_42 (dk_at dksX1_matched_1 19 rfl rfl)
theorem dX1_matched_44 : decode cX1_matched 44 = .ok (.iload 5, 2) := dk_21 5 (dk_at dksX1_matched_1 20 rfl rfl)
theorem dX1_matched_46 : decode cX1_matched 46 = .ok (.iload_n 3, 1) := dk_29 (dk_at dksX1_matched_1 22 rfl rfl)
theorem dX1_matched_47 : decode cX1_matched 47 = .ok (.iload 6, 2) := dk_21 6 (dk_at dksX1_matched_2 0 rfl rfl)
theorem dX1_matched_49 : decode cX1_matched 49 = .ok (.invokevirtual 260, 3) := dk_182 1 4 (dk_at dksX1_matched_2 2 rfl rfl)
theorem dX1_matched_52 : decode cX1_matched 52 = .ok (.ifCond .eq 26, 3) := dk_153 0 26 (dk_at dksX1_matched_2 5 rfl rfl)
theorem dX1_matched_55 : decode cX1_matched 55 = .ok (.aload_n 0, 1) := dk_42 (dk_at dksX1_matched_2 8 rfl rfl)
theorem dX1_matched_56 : decode cX1_matched 56 = .ok (.aload_n 2, 1) := dk_44 (dk_at dksX1_matched_2 9 rfl rfl)
theorem dX1_matched_57 : decode cX1_matched 57 = .ok (.iload 5, 2) := dk_21 5 (dk_at dksX1_matched_2 10 rfl rfl)
theorem dX1_matched_59 : decode cX1_matched 59 = .ok (.iload_n 3, 1) := dk_29 (dk_at dksX1_matched_2 12 rfl rfl)
theorem dX1_matched_60 : decode cX1_matched 60 = .ok (.iload 6, 2) := dk_21 6 (dk_at dksX1_matched_2 13 rfl rfl)
theorem dX1_matched_62 : decode cX1_matched 62 = .ok (.invokevirtual 263, 3) := dk_182 1 7 (dk_at dksX1_matched_2 15 rfl rfl)
theorem dX1_matched_65 : decode cX1_matched 65 = .ok (.aload_n 2, 1) := dk_44 (dk_at dksX1_matched_2 18 rfl rfl)
theorem dX1_matched_66 : decode cX1_matched 66 = .ok (.iload 5, 2) := dk_21 5 (dk_at dksX1_matched_2 19 rfl rfl)
theorem dX1_matched_68 : decode cX1_matched 68 = .ok (.aaload, 1) := dk_50 (dk_at dksX1_matched_2 21 rfl rfl)
theorem dX1_matched_69 : decode cX1_matched 69 = .ok (.iload_n 3, 1) := dk_29 (dk_at dksX1_matched_2 22 rfl rfl)
theorem dX1_matched_70 : decode cX1_matched 70 = .ok (.iaload, 1) := dk_46 (dk_at dksX1_matched_2 23 rfl rfl)
theorem dX1_matched_71 : decode cX1_matched 71 = .ok (.if_icmp .ne 7, 3) := dk_160 0 7 (dk_at dksX1_matched_3 0 rfl rfl)
theorem dX1_matched_74 : decode cX1_matched 74 = .ok (.iload 6, 2) := dk_21 6 (dk_at dksX1_matched_3 3 rfl rfl)
theorem dX1_matched_76 : decode cX1_matched 76 = .ok (.istore 4, 2) := dk_54 4 (dk_at dksX1_matched_3 5 rfl rfl)
theorem dX1_matched_78 : decode cX1_matched 78 = .ok (.iinc 6 (-1), 3) := dk_132 6 255 (dk_at dksX1_matched_3 7 rfl rfl)
theorem dX1_matched_81 : decode cX1_matched 81 = .ok (.goto (-43), 3) := dk_167 255 213 (dk_at dksX1_matched_3 10 rfl rfl)
theorem dX1_matched_84 : decode cX1_matched 84 = .ok (.iload 4, 2) := dk_21 4 (dk_at dksX1_matched_3 13 rfl rfl)
theorem dX1_matched_86 : decode cX1_matched 86 = .ok (.iconst (-1), 1) := dk_2 (dk_at dksX1_matched_3 15 rfl rfl)
theorem dX1_matched_87 : decode cX1_matched 87 = .ok (.if_icmp .eq 10, 3) := dk_159 0 10 (dk_at dksX1_matched_3 16 rfl rfl)
theorem dX1_matched_90 : decode cX1_matched 90 = .ok (.iload_n 3, 1) := dk_29 (dk_at dksX1_matched_3 19 rfl rfl)
theorem dX1_matched_91 : decode cX1_matched 91 = .ok (.iconst 1, 1) := dk_4 (dk_at dksX1_matched_3 20 rfl rfl)
theorem dX1_matched_92 : decode cX1_matched 92 = .ok (.iload 4, 2) := dk_21 4 (dk_at dksX1_matched_3 21 rfl rfl)
theorem dX1_matched_94 : decode cX1_matched 94 = .ok (.ishl, 1) := dk_120 (dk_at dksX1_matched_3 23 rfl rfl)
theorem dX1_matched_95 : decode cX1_matched 95 = .ok (.ior, 1) := dk_128 (dk_at dksX1_matched_4 0 rfl rfl)
theorem dX1_matched_96 : decode cX1_matched 96 = .ok (.istore_n 3, 1) := dk_62 (dk_at dksX1_matched_4 1 rfl rfl)
theorem dX1_matched_97 : decode cX1_matched 97 = .ok (.iinc 5 1, 3) := dk_132 5 1 (dk_at dksX1_matched_4 2 rfl rfl)
theorem dX1_matched_100 : decode cX1_matched 100 = .ok (.goto (-82), 3) := dk_167 255 174 (dk_at dksX1_matched_4 5 rfl rfl)
theorem dX1_matched_103 : decode cX1_matched 103 = .ok (.iload 4, 2) := dk_21 4 (dk_at dksX1_matched_4 8 rfl rfl)
theorem dX1_matched_105 : decode cX1_matched 105 = .ok (.ireturn, 1) := dk_172 (dk_at dksX1_matched_4 10 rfl rfl)
abbrev cX1_trade : ByteArray := prog_1_method_50_code
def yX1_trade : MethodName := ⟨RX1, "trade", "(I)I"⟩
def dkwX1_trade_1 : List UInt8 := [42, 27, 182, 1, 24, 182, 1, 18, 172]
abbrev dktX1_trade_1 : List UInt8 := dkwX1_trade_1 ++ []
def dkwX1_trade_0 : List UInt8 := [42, 27, 182, 0, 193, 42, 180, 0, 31, 180, 0, 97, 27, 46, 2, 160, 0, 7, 2, 167, 0, 13, 42, 27]
abbrev dktX1_trade_0 : List UInt8 := dkwX1_trade_0 ++ dktX1_trade_1
theorem dksX1_trade_0 : cX1_trade.data.toList.drop 0 = dktX1_trade_0 := by decide +kernel
theorem dksX1_trade_1 : cX1_trade.data.toList.drop 24 = dktX1_trade_1 := dk_seg dksX1_trade_0 24 rfl rfl
theorem dX1_trade_0 : decode cX1_trade 0 = .ok (.aload_n 0, 1) := dk_42 (dk_at dksX1_trade_0 0 rfl rfl)
theorem dX1_trade_1 : decode cX1_trade 1 = .ok (.iload_n 1, 1) := dk_27 (dk_at dksX1_trade_0 1 rfl rfl)
theorem dX1_trade_2 : decode cX1_trade 2 = .ok (.invokevirtual 193, 3) := dk_182 0 193 (dk_at dksX1_trade_0 2 rfl rfl)
theorem dX1_trade_5 : decode cX1_trade 5 = .ok (.aload_n 0, 1) := dk_42 (dk_at dksX1_trade_0 5 rfl rfl)
theorem dX1_trade_6 : decode cX1_trade 6 = .ok (.getfield 31, 3) := dk_180 0 31 (dk_at dksX1_trade_0 6 rfl rfl)
theorem dX1_trade_9 : decode cX1_trade 9 = .ok (.getfield 97, 3) := dk_180 0 97 (dk_at dksX1_trade_0 9 rfl rfl)
theorem dX1_trade_12 : decode cX1_trade 12 = .ok (.iload_n 1, 1) := dk_27 (dk_at dksX1_trade_0 12 rfl rfl)
theorem dX1_trade_13 : decode cX1_trade 13 = .ok (.iaload, 1) := dk_46 (dk_at dksX1_trade_0 13 rfl rfl)
theorem dX1_trade_14 : decode cX1_trade 14 = .ok (.iconst (-1), 1) := dk_2 (dk_at dksX1_trade_0 14 rfl rfl)
theorem dX1_trade_15 : decode cX1_trade 15 = .ok (.if_icmp .ne 7, 3) := dk_160 0 7 (dk_at dksX1_trade_0 15 rfl rfl)
theorem dX1_trade_18 : decode cX1_trade 18 = .ok (.iconst (-1), 1) := dk_2 (dk_at dksX1_trade_0 18 rfl rfl)
theorem dX1_trade_19 : decode cX1_trade 19 = .ok (.goto 13, 3) := dk_167 0 13 (dk_at dksX1_trade_0 19 rfl rfl)
theorem dX1_trade_22 : decode cX1_trade 22 = .ok (.aload_n 0, 1) := dk_42 (dk_at dksX1_trade_0 22 rfl rfl)
theorem dX1_trade_23 : decode cX1_trade 23 = .ok (.iload_n 1, 1) := dk_27 (dk_at dksX1_trade_0 23 rfl rfl)
theorem dX1_trade_24 : decode cX1_trade 24 = .ok (.aload_n 0, 1) := dk_42 (dk_at dksX1_trade_1 0 rfl rfl)
theorem dX1_trade_25 : decode cX1_trade 25 = .ok (.iload_n 1, 1) := dk_27 (dk_at dksX1_trade_1 1 rfl rfl)
theorem dX1_trade_26 : decode cX1_trade 26 = .ok (.invokevirtual 280, 3) := dk_182 1 24 (dk_at dksX1_trade_1 2 rfl rfl)
theorem dX1_trade_29 : decode cX1_trade 29 = .ok (.invokevirtual 274, 3) := dk_182 1 18 (dk_at dksX1_trade_1 5 rfl rfl)
theorem dX1_trade_32 : decode cX1_trade 32 = .ok (.ireturn, 1) := dk_172 (dk_at dksX1_trade_1 8 rfl rfl)
abbrev cX1_leftFor : ByteArray := prog_1_method_49_code
def yX1_leftFor : MethodName := ⟨RX1, "leftFor", "(I)I"⟩
def dkwX1_leftFor_4 : List UInt8 := [28, 29, 2, 130, 126, 61, 167, 255, 162, 28, 172]
abbrev dktX1_leftFor_4 : List UInt8 := dkwX1_leftFor_4 ++ []
def dkwX1_leftFor_3 : List UInt8 := [153, 0, 18, 29, 4, 42, 180, 0, 31, 180, 0, 97, 21, 4, 46, 120, 128, 62, 132, 4, 1, 167, 255, 185]
abbrev dktX1_leftFor_3 : List UInt8 := dkwX1_leftFor_3 ++ dktX1_leftFor_4
def dkwX1_leftFor_2 : List UInt8 := [42, 180, 0, 31, 180, 0, 97, 21, 4, 46, 184, 0, 183, 153, 0, 28, 42, 21, 4, 28, 182, 1, 21]
abbrev dktX1_leftFor_2 : List UInt8 := dkwX1_leftFor_2 ++ dktX1_leftFor_3
def dkwX1_leftFor_1 : List UInt8 := [180, 0, 22, 182, 0, 104, 162, 0, 65, 42, 180, 0, 31, 180, 0, 97, 21, 4, 46, 2, 159, 0, 45, 28]
abbrev dktX1_leftFor_1 : List UInt8 := dkwX1_leftFor_1 ++ dktX1_leftFor_2
def dkwX1_leftFor_0 : List UInt8 := [42, 182, 0, 119, 61, 42, 27, 28, 182, 1, 21, 154, 0, 91, 3, 62, 3, 54, 4, 21, 4, 42]
abbrev dktX1_leftFor_0 : List UInt8 := dkwX1_leftFor_0 ++ dktX1_leftFor_1
theorem dksX1_leftFor_0 : cX1_leftFor.data.toList.drop 0 = dktX1_leftFor_0 := by decide +kernel
theorem dksX1_leftFor_1 : cX1_leftFor.data.toList.drop 22 = dktX1_leftFor_1 := dk_seg dksX1_leftFor_0 22 rfl rfl
theorem dksX1_leftFor_2 : cX1_leftFor.data.toList.drop 46 = dktX1_leftFor_2 := dk_seg dksX1_leftFor_1 24 rfl rfl
theorem dksX1_leftFor_3 : cX1_leftFor.data.toList.drop 69 = dktX1_leftFor_3 := dk_seg dksX1_leftFor_2 23 rfl rfl
theorem dksX1_leftFor_4 : cX1_leftFor.data.toList.drop 93 = dktX1_leftFor_4 := dk_seg dksX1_leftFor_3 24 rfl rfl
theorem dX1_leftFor_0 : decode cX1_leftFor 0 = .ok (.aload_n 0, 1) := dk_42 (dk_at dksX1_leftFor_0 0 rfl rfl)
theorem dX1_leftFor_1 : decode cX1_leftFor 1 = .ok (.invokevirtual 119, 3) := dk_182 0 119 (dk_at dksX1_leftFor_0 1 rfl rfl)
theorem dX1_leftFor_4 : decode cX1_leftFor 4 = .ok (.istore_n 2, 1) := dk_61 (dk_at dksX1_leftFor_0 4 rfl rfl)
theorem dX1_leftFor_5 : decode cX1_leftFor 5 = .ok (.aload_n 0, 1) := dk_42 (dk_at dksX1_leftFor_0 5 rfl rfl)
theorem dX1_leftFor_6 : decode cX1_leftFor 6 = .ok (.iload_n 1, 1) := dk_27 (dk_at dksX1_leftFor_0 6 rfl rfl)
theorem dX1_leftFor_7 : decode cX1_leftFor 7 = .ok (.iload_n 2, 1) := dk_28 (dk_at dksX1_leftFor_0 7 rfl rfl)
theorem dX1_leftFor_8 : decode cX1_leftFor 8 = .ok (.invokevirtual 277, 3) := dk_182 1 21 (dk_at dksX1_leftFor_0 8 rfl rfl)
theorem dX1_leftFor_11 : decode cX1_leftFor 11 = .ok (.ifCond .ne 91, 3) := dk_154 0 91 (dk_at dksX1_leftFor_0 11 rfl rfl)
theorem dX1_leftFor_14 : decode cX1_leftFor 14 = .ok (.iconst 0, 1) := dk_3 (dk_at dksX1_leftFor_0 14 rfl rfl)
theorem dX1_leftFor_15 : decode cX1_leftFor 15 = .ok (.istore_n 3, 1) := dk_62 (dk_at dksX1_leftFor_0 15 rfl rfl)
theorem dX1_leftFor_16 : decode cX1_leftFor 16 = .ok (.iconst 0, 1) := dk_3 (dk_at dksX1_leftFor_0 16 rfl rfl)
theorem dX1_leftFor_17 : decode cX1_leftFor 17 = .ok (.istore 4, 2) := dk_54 4 (dk_at dksX1_leftFor_0 17 rfl rfl)
theorem dX1_leftFor_19 : decode cX1_leftFor 19 = .ok (.iload 4, 2) := dk_21 4 (dk_at dksX1_leftFor_0 19 rfl rfl)
theorem dX1_leftFor_21 : decode cX1_leftFor 21 = .ok (.aload_n 0, 1) := dk_42 (dk_at dksX1_leftFor_0 21 rfl rfl)
theorem dX1_leftFor_22 : decode cX1_leftFor 22 = .ok (.getfield 22, 3) := dk_180 0 22 (dk_at dksX1_leftFor_1 0 rfl rfl)
theorem dX1_leftFor_25 : decode cX1_leftFor 25 = .ok (.invokevirtual 104, 3) := dk_182 0 104 (dk_at dksX1_leftFor_1 3 rfl rfl)
theorem dX1_leftFor_28 : decode cX1_leftFor 28 = .ok (.if_icmp .ge 65, 3) := dk_162 0 65 (dk_at dksX1_leftFor_1 6 rfl rfl)
theorem dX1_leftFor_31 : decode cX1_leftFor 31 = .ok (.aload_n 0, 1) := dk_42 (dk_at dksX1_leftFor_1 9 rfl rfl)
theorem dX1_leftFor_32 : decode cX1_leftFor 32 = .ok (.getfield 31, 3) := dk_180 0 31 (dk_at dksX1_leftFor_1 10 rfl rfl)
theorem dX1_leftFor_35 : decode cX1_leftFor 35 = .ok (.getfield 97, 3) := dk_180 0 97 (dk_at dksX1_leftFor_1 13 rfl rfl)
theorem dX1_leftFor_38 : decode cX1_leftFor 38 = .ok (.iload 4, 2) := dk_21 4 (dk_at dksX1_leftFor_1 16 rfl rfl)
theorem dX1_leftFor_40 : decode cX1_leftFor 40 = .ok (.iaload, 1) := dk_46 (dk_at dksX1_leftFor_1 18 rfl rfl)
theorem dX1_leftFor_41 : decode cX1_leftFor 41 = .ok (.iconst (-1), 1) := dk_2 (dk_at dksX1_leftFor_1 19 rfl rfl)
theorem dX1_leftFor_42 : decode cX1_leftFor 42 = .ok (.if_icmp .eq 45, 3) := dk_159 0 45 (dk_at dksX1_leftFor_1 20 rfl rfl)
theorem dX1_leftFor_45 : decode cX1_leftFor 45 = .ok (.iload_n 2, 1) := dk_28 (dk_at dksX1_leftFor_1 23 rfl rfl)
theorem dX1_leftFor_46 : decode cX1_leftFor 46 = .ok (.aload_n 0, 1) := dk_42 (dk_at dksX1_leftFor_2 0 rfl rfl)
theorem dX1_leftFor_47 : decode cX1_leftFor 47 = .ok (.getfield 31, 3) := dk_180 0 31 (dk_at dksX1_leftFor_2 1 rfl rfl)
theorem dX1_leftFor_50 : decode cX1_leftFor 50 = .ok (.getfield 97, 3) := dk_180 0 97 (dk_at dksX1_leftFor_2 4 rfl rfl)
theorem dX1_leftFor_53 : decode cX1_leftFor 53 = .ok (.iload 4, 2) := dk_21 4 (dk_at dksX1_leftFor_2 7 rfl rfl)
theorem dX1_leftFor_55 : decode cX1_leftFor 55 = .ok (.iaload, 1) := dk_46 (dk_at dksX1_leftFor_2 9 rfl rfl)
theorem dX1_leftFor_56 : decode cX1_leftFor 56 = .ok (.invokestatic 183, 3) := dk_184 0 183 (dk_at dksX1_leftFor_2 10 rfl rfl)
theorem dX1_leftFor_59 : decode cX1_leftFor 59 = .ok (.ifCond .eq 28, 3) := dk_153 0 28 (dk_at dksX1_leftFor_2 13 rfl rfl)
theorem dX1_leftFor_62 : decode cX1_leftFor 62 = .ok (.aload_n 0, 1) := dk_42 (dk_at dksX1_leftFor_2 16 rfl rfl)
theorem dX1_leftFor_63 : decode cX1_leftFor 63 = .ok (.iload 4, 2) := dk_21 4 (dk_at dksX1_leftFor_2 17 rfl rfl)
theorem dX1_leftFor_65 : decode cX1_leftFor 65 = .ok (.iload_n 2, 1) := dk_28 (dk_at dksX1_leftFor_2 19 rfl rfl)
theorem dX1_leftFor_66 : decode cX1_leftFor 66 = .ok (.invokevirtual 277, 3) := dk_182 1 21 (dk_at dksX1_leftFor_2 20 rfl rfl)
theorem dX1_leftFor_69 : decode cX1_leftFor 69 = .ok (.ifCond .eq 18, 3) := dk_153 0 18 (dk_at dksX1_leftFor_3 0 rfl rfl)
theorem dX1_leftFor_72 : decode cX1_leftFor 72 = .ok (.iload_n 3, 1) := dk_29 (dk_at dksX1_leftFor_3 3 rfl rfl)
theorem dX1_leftFor_73 : decode cX1_leftFor 73 = .ok (.iconst 1, 1) := dk_4 (dk_at dksX1_leftFor_3 4 rfl rfl)
theorem dX1_leftFor_74 : decode cX1_leftFor 74 = .ok (.aload_n 0, 1) := dk_42 (dk_at dksX1_leftFor_3 5 rfl rfl)
theorem dX1_leftFor_75 : decode cX1_leftFor 75 = .ok (.getfield 31, 3) := dk_180 0 31 (dk_at dksX1_leftFor_3 6 rfl rfl)
theorem dX1_leftFor_78 : decode cX1_leftFor 78 = .ok (.getfield 97, 3) := dk_180 0 97 (dk_at dksX1_leftFor_3 9 rfl rfl)
theorem dX1_leftFor_81 : decode cX1_leftFor 81 = .ok (.iload 4, 2) := dk_21 4 (dk_at dksX1_leftFor_3 12 rfl rfl)
theorem dX1_leftFor_83 : decode cX1_leftFor 83 = .ok (.iaload, 1) := dk_46 (dk_at dksX1_leftFor_3 14 rfl rfl)
theorem dX1_leftFor_84 : decode cX1_leftFor 84 = .ok (.ishl, 1) := dk_120 (dk_at dksX1_leftFor_3 15 rfl rfl)
theorem dX1_leftFor_85 : decode cX1_leftFor 85 = .ok (.ior, 1) := dk_128 (dk_at dksX1_leftFor_3 16 rfl rfl)
theorem dX1_leftFor_86 : decode cX1_leftFor 86 = .ok (.istore_n 3, 1) := dk_62 (dk_at dksX1_leftFor_3 17 rfl rfl)
theorem dX1_leftFor_87 : decode cX1_leftFor 87 = .ok (.iinc 4 1, 3) := dk_132 4 1 (dk_at dksX1_leftFor_3 18 rfl rfl)
theorem dX1_leftFor_90 : decode cX1_leftFor 90 = .ok (.goto (-71), 3) := dk_167 255 185 (dk_at dksX1_leftFor_3 21 rfl rfl)
theorem dX1_leftFor_93 : decode cX1_leftFor 93 = .ok (.iload_n 2, 1) := dk_28 (dk_at dksX1_leftFor_4 0 rfl rfl)
theorem dX1_leftFor_94 : decode cX1_leftFor 94 = .ok (.iload_n 3, 1) := dk_29 (dk_at dksX1_leftFor_4 1 rfl rfl)
theorem dX1_leftFor_95 : decode cX1_leftFor 95 = .ok (.iconst (-1), 1) := dk_2 (dk_at dksX1_leftFor_4 2 rfl rfl)
theorem dX1_leftFor_96 : decode cX1_leftFor 96 = .ok (.ixor, 1) := dk_130 (dk_at dksX1_leftFor_4 3 rfl rfl)
theorem dX1_leftFor_97 : decode cX1_leftFor 97 = .ok (.iand, 1) := dk_126 (dk_at dksX1_leftFor_4 4 rfl rfl)
theorem dX1_leftFor_98 : decode cX1_leftFor 98 = .ok (.istore_n 2, 1) := dk_61 (dk_at dksX1_leftFor_4 5 rfl rfl)
theorem dX1_leftFor_99 : decode cX1_leftFor 99 = .ok (.goto (-94), 3) := dk_167 255 162 (dk_at dksX1_leftFor_4 6 rfl rfl)
theorem dX1_leftFor_102 : decode cX1_leftFor 102 = .ok (.iload_n 2, 1) := dk_28 (dk_at dksX1_leftFor_4 9 rfl rfl)
theorem dX1_leftFor_103 : decode cX1_leftFor 103 = .ok (.ireturn, 1) := dk_172 (dk_at dksX1_leftFor_4 10 rfl rfl)
abbrev cX1_isInRing : ByteArray := prog_1_method_48_code
def yX1_isInRing : MethodName := ⟨RX1, "isInRing", "(II)Z"⟩
def dkwX1_isInRing_1 : List UInt8 := [182, 0, 93, 62, 29, 27, 160, 0, 5, 4, 172, 132, 4, 1, 167, 255, 225, 3, 172]
abbrev dktX1_isInRing_1 : List UInt8 := dkwX1_isInRing_1 ++ []
def dkwX1_isInRing_0 : List UInt8 := [27, 62, 3, 54, 4, 21, 4, 16, 8, 162, 0, 30, 42, 180, 0, 31, 42, 29, 28, 182, 1, 18]
abbrev dktX1_isInRing_0 : List UInt8 := dkwX1_isInRing_0 ++ dktX1_isInRing_1
theorem dksX1_isInRing_0 : cX1_isInRing.data.toList.drop 0 = dktX1_isInRing_0 := by decide +kernel
theorem dksX1_isInRing_1 : cX1_isInRing.data.toList.drop 22 = dktX1_isInRing_1 := dk_seg dksX1_isInRing_0 22 rfl rfl
theorem dX1_isInRing_0 : decode cX1_isInRing 0 = .ok (.iload_n 1, 1) := dk_27 (dk_at dksX1_isInRing_0 0 rfl rfl)
theorem dX1_isInRing_1 : decode cX1_isInRing 1 = .ok (.istore_n 3, 1) := dk_62 (dk_at dksX1_isInRing_0 1 rfl rfl)
theorem dX1_isInRing_2 : decode cX1_isInRing 2 = .ok (.iconst 0, 1) := dk_3 (dk_at dksX1_isInRing_0 2 rfl rfl)
theorem dX1_isInRing_3 : decode cX1_isInRing 3 = .ok (.istore 4, 2) := dk_54 4 (dk_at dksX1_isInRing_0 3 rfl rfl)
theorem dX1_isInRing_5 : decode cX1_isInRing 5 = .ok (.iload 4, 2) := dk_21 4 (dk_at dksX1_isInRing_0 5 rfl rfl)
theorem dX1_isInRing_7 : decode cX1_isInRing 7 = .ok (.bipush 8, 2) := dk_16 8 (dk_at dksX1_isInRing_0 7 rfl rfl)
theorem dX1_isInRing_9 : decode cX1_isInRing 9 = .ok (.if_icmp .ge 30, 3) := dk_162 0 30 (dk_at dksX1_isInRing_0 9 rfl rfl)
theorem dX1_isInRing_12 : decode cX1_isInRing 12 = .ok (.aload_n 0, 1) := dk_42 (dk_at dksX1_isInRing_0 12 rfl rfl)
theorem dX1_isInRing_13 : decode cX1_isInRing 13 = .ok (.getfield 31, 3) := dk_180 0 31 (dk_at dksX1_isInRing_0 13 rfl rfl)
theorem dX1_isInRing_16 : decode cX1_isInRing 16 = .ok (.aload_n 0, 1) := dk_42 (dk_at dksX1_isInRing_0 16 rfl rfl)
theorem dX1_isInRing_17 : decode cX1_isInRing 17 = .ok (.iload_n 3, 1) := dk_29 (dk_at dksX1_isInRing_0 17 rfl rfl)
theorem dX1_isInRing_18 : decode cX1_isInRing 18 = .ok (.iload_n 2, 1) := dk_28 (dk_at dksX1_isInRing_0 18 rfl rfl)
theorem dX1_isInRing_19 : decode cX1_isInRing 19 = .ok (.invokevirtual 274, 3) := dk_182 1 18 (dk_at dksX1_isInRing_0 19 rfl rfl)
theorem dX1_isInRing_22 : decode cX1_isInRing 22 = .ok (.invokevirtual 93, 3) := dk_182 0 93 (dk_at dksX1_isInRing_1 0 rfl rfl)
theorem dX1_isInRing_25 : decode cX1_isInRing 25 = .ok (.istore_n 3, 1) := dk_62 (dk_at dksX1_isInRing_1 3 rfl rfl)
theorem dX1_isInRing_26 : decode cX1_isInRing 26 = .ok (.iload_n 3, 1) := dk_29 (dk_at dksX1_isInRing_1 4 rfl rfl)
theorem dX1_isInRing_27 : decode cX1_isInRing 27 = .ok (.iload_n 1, 1) := dk_27 (dk_at dksX1_isInRing_1 5 rfl rfl)
theorem dX1_isInRing_28 : decode cX1_isInRing 28 = .ok (.if_icmp .ne 5, 3) := dk_160 0 5 (dk_at dksX1_isInRing_1 6 rfl rfl)
theorem dX1_isInRing_31 : decode cX1_isInRing 31 = .ok (.iconst 1, 1) := dk_4 (dk_at dksX1_isInRing_1 9 rfl rfl)
theorem dX1_isInRing_32 : decode cX1_isInRing 32 = .ok (.ireturn, 1) := dk_172 (dk_at dksX1_isInRing_1 10 rfl rfl)
theorem dX1_isInRing_33 : decode cX1_isInRing 33 = .ok (.iinc 4 1, 3) := dk_132 4 1 (dk_at dksX1_isInRing_1 11 rfl rfl)
theorem dX1_isInRing_36 : decode cX1_isInRing 36 = .ok (.goto (-31), 3) := dk_167 255 225 (dk_at dksX1_isInRing_1 14 rfl rfl)
theorem dX1_isInRing_39 : decode cX1_isInRing 39 = .ok (.iconst 0, 1) := dk_3 (dk_at dksX1_isInRing_1 17 rfl rfl)
theorem dX1_isInRing_40 : decode cX1_isInRing 40 = .ok (.ireturn, 1) := dk_172 (dk_at dksX1_isInRing_1 18 rfl rfl)
abbrev cX1_wanted : ByteArray := prog_1_method_47_code
def yX1_wanted : MethodName := ⟨RX1, "wanted", "(II)I"⟩
def dkwX1_wanted_3 : List UInt8 := [54, 4, 132, 5, 1, 167, 255, 190, 29, 172]
abbrev dktX1_wanted_3 : List UInt8 := dkwX1_wanted_3 ++ []
def dkwX1_wanted_2 : List UInt8 := [28, 21, 5, 184, 0, 183, 153, 0, 20, 21, 6, 21, 4, 161, 0, 6, 167, 0, 10, 21, 5, 62, 21, 6]
abbrev dktX1_wanted_2 : List UInt8 := dkwX1_wanted_2 ++ dktX1_wanted_3
def dkwX1_wanted_1 : List UInt8 := [180, 0, 31, 180, 0, 165, 21, 5, 46, 42, 180, 0, 31, 180, 0, 167, 27, 46, 100, 184, 0, 157, 54, 6]
abbrev dktX1_wanted_1 : List UInt8 := dkwX1_wanted_1 ++ dktX1_wanted_2
def dkwX1_wanted_0 : List UInt8 := [2, 62, 19, 1, 1, 54, 4, 3, 54, 5, 21, 5, 42, 180, 0, 22, 182, 0, 89, 162, 0, 60, 42]
abbrev dktX1_wanted_0 : List UInt8 := dkwX1_wanted_0 ++ dktX1_wanted_1
theorem dksX1_wanted_0 : cX1_wanted.data.toList.drop 0 = dktX1_wanted_0 := by decide +kernel
theorem dksX1_wanted_1 : cX1_wanted.data.toList.drop 23 = dktX1_wanted_1 := dk_seg dksX1_wanted_0 23 rfl rfl
theorem dksX1_wanted_2 : cX1_wanted.data.toList.drop 47 = dktX1_wanted_2 := dk_seg dksX1_wanted_1 24 rfl rfl
theorem dksX1_wanted_3 : cX1_wanted.data.toList.drop 71 = dktX1_wanted_3 := dk_seg dksX1_wanted_2 24 rfl rfl
theorem dX1_wanted_0 : decode cX1_wanted 0 = .ok (.iconst (-1), 1) := dk_2 (dk_at dksX1_wanted_0 0 rfl rfl)
theorem dX1_wanted_1 : decode cX1_wanted 1 = .ok (.istore_n 3, 1) := dk_62 (dk_at dksX1_wanted_0 1 rfl rfl)
theorem dX1_wanted_2 : decode cX1_wanted 2 = .ok (.ldc_w 257, 3) := dk_19 1 1 (dk_at dksX1_wanted_0 2 rfl rfl)
theorem dX1_wanted_5 : decode cX1_wanted 5 = .ok (.istore 4, 2) := dk_54 4 (dk_at dksX1_wanted_0 5 rfl rfl)
theorem dX1_wanted_7 : decode cX1_wanted 7 = .ok (.iconst 0, 1) := dk_3 (dk_at dksX1_wanted_0 7 rfl rfl)
theorem dX1_wanted_8 : decode cX1_wanted 8 = .ok (.istore 5, 2) := dk_54 5 (dk_at dksX1_wanted_0 8 rfl rfl)
theorem dX1_wanted_10 : decode cX1_wanted 10 = .ok (.iload 5, 2) := dk_21 5 (dk_at dksX1_wanted_0 10 rfl rfl)
theorem dX1_wanted_12 : decode cX1_wanted 12 = .ok (.aload_n 0, 1) := dk_42 (dk_at dksX1_wanted_0 12 rfl rfl)
theorem dX1_wanted_13 : decode cX1_wanted 13 = .ok (.getfield 22, 3) := dk_180 0 22 (dk_at dksX1_wanted_0 13 rfl rfl)
theorem dX1_wanted_16 : decode cX1_wanted 16 = .ok (.invokevirtual 89, 3) := dk_182 0 89 (dk_at dksX1_wanted_0 16 rfl rfl)
theorem dX1_wanted_19 : decode cX1_wanted 19 = .ok (.if_icmp .ge 60, 3) := dk_162 0 60 (dk_at dksX1_wanted_0 19 rfl rfl)
theorem dX1_wanted_22 : decode cX1_wanted 22 = .ok (.aload_n 0, 1) := dk_42 (dk_at dksX1_wanted_0 22 rfl rfl)
theorem dX1_wanted_23 : decode cX1_wanted 23 = .ok (.getfield 31, 3) := dk_180 0 31 (dk_at dksX1_wanted_1 0 rfl rfl)
theorem dX1_wanted_26 : decode cX1_wanted 26 = .ok (.getfield 165, 3) := dk_180 0 165 (dk_at dksX1_wanted_1 3 rfl rfl)
theorem dX1_wanted_29 : decode cX1_wanted 29 = .ok (.iload 5, 2) := dk_21 5 (dk_at dksX1_wanted_1 6 rfl rfl)
theorem dX1_wanted_31 : decode cX1_wanted 31 = .ok (.iaload, 1) := dk_46 (dk_at dksX1_wanted_1 8 rfl rfl)
theorem dX1_wanted_32 : decode cX1_wanted 32 = .ok (.aload_n 0, 1) := dk_42 (dk_at dksX1_wanted_1 9 rfl rfl)
theorem dX1_wanted_33 : decode cX1_wanted 33 = .ok (.getfield 31, 3) := dk_180 0 31 (dk_at dksX1_wanted_1 10 rfl rfl)
theorem dX1_wanted_36 : decode cX1_wanted 36 = .ok (.getfield 167, 3) := dk_180 0 167 (dk_at dksX1_wanted_1 13 rfl rfl)
theorem dX1_wanted_39 : decode cX1_wanted 39 = .ok (.iload_n 1, 1) := dk_27 (dk_at dksX1_wanted_1 16 rfl rfl)
theorem dX1_wanted_40 : decode cX1_wanted 40 = .ok (.iaload, 1) := dk_46 (dk_at dksX1_wanted_1 17 rfl rfl)
theorem dX1_wanted_41 : decode cX1_wanted 41 = .ok (.isub, 1) := dk_100 (dk_at dksX1_wanted_1 18 rfl rfl)
theorem dX1_wanted_42 : decode cX1_wanted 42 = .ok (.invokestatic 157, 3) := dk_184 0 157 (dk_at dksX1_wanted_1 19 rfl rfl)
theorem dX1_wanted_45 : decode cX1_wanted 45 = .ok (.istore 6, 2) := dk_54 6 (dk_at dksX1_wanted_1 22 rfl rfl)
theorem dX1_wanted_47 : decode cX1_wanted 47 = .ok (.iload_n 2, 1) := dk_28 (dk_at dksX1_wanted_2 0 rfl rfl)
theorem dX1_wanted_48 : decode cX1_wanted 48 = .ok (.iload 5, 2) := dk_21 5 (dk_at dksX1_wanted_2 1 rfl rfl)
theorem dX1_wanted_50 : decode cX1_wanted 50 = .ok (.invokestatic 183, 3) := dk_184 0 183 (dk_at dksX1_wanted_2 3 rfl rfl)
theorem dX1_wanted_53 : decode cX1_wanted 53 = .ok (.ifCond .eq 20, 3) := dk_153 0 20 (dk_at dksX1_wanted_2 6 rfl rfl)
theorem dX1_wanted_56 : decode cX1_wanted 56 = .ok (.iload 6, 2) := dk_21 6 (dk_at dksX1_wanted_2 9 rfl rfl)
theorem dX1_wanted_58 : decode cX1_wanted 58 = .ok (.iload 4, 2) := dk_21 4 (dk_at dksX1_wanted_2 11 rfl rfl)
theorem dX1_wanted_60 : decode cX1_wanted 60 = .ok (.if_icmp .lt 6, 3) := dk_161 0 6 (dk_at dksX1_wanted_2 13 rfl rfl)
theorem dX1_wanted_63 : decode cX1_wanted 63 = .ok (.goto 10, 3) := dk_167 0 10 (dk_at dksX1_wanted_2 16 rfl rfl)
theorem dX1_wanted_66 : decode cX1_wanted 66 = .ok (.iload 5, 2) := dk_21 5 (dk_at dksX1_wanted_2 19 rfl rfl)
theorem dX1_wanted_68 : decode cX1_wanted 68 = .ok (.istore_n 3, 1) := dk_62 (dk_at dksX1_wanted_2 21 rfl rfl)
theorem dX1_wanted_69 : decode cX1_wanted 69 = .ok (.iload 6, 2) := dk_21 6 (dk_at dksX1_wanted_2 22 rfl rfl)
theorem dX1_wanted_71 : decode cX1_wanted 71 = .ok (.istore 4, 2) := dk_54 4 (dk_at dksX1_wanted_3 0 rfl rfl)
theorem dX1_wanted_73 : decode cX1_wanted 73 = .ok (.iinc 5 1, 3) := dk_132 5 1 (dk_at dksX1_wanted_3 2 rfl rfl)
theorem dX1_wanted_76 : decode cX1_wanted 76 = .ok (.goto (-66), 3) := dk_167 255 190 (dk_at dksX1_wanted_3 5 rfl rfl)
theorem dX1_wanted_79 : decode cX1_wanted 79 = .ok (.iload_n 3, 1) := dk_29 (dk_at dksX1_wanted_3 8 rfl rfl)
theorem dX1_wanted_80 : decode cX1_wanted 80 = .ok (.ireturn, 1) := dk_172 (dk_at dksX1_wanted_3 9 rfl rfl)
abbrev cX1_toStuff : ByteArray := prog_1_method_52_code
def yX1_toStuff : MethodName := ⟨RX1, "toStuff", "(II)I"⟩
def dkwX1_toStuff_1 : List UInt8 := [180, 0, 167, 27, 46, 100, 184, 0, 170, 62, 29, 16, 20, 163, 0, 7, 29, 167, 0, 4, 2, 172]
abbrev dktX1_toStuff_1 : List UInt8 := dkwX1_toStuff_1 ++ []
def dkwX1_toStuff_0 : List UInt8 := [42, 27, 182, 0, 193, 42, 28, 182, 0, 173, 3, 42, 180, 0, 31, 180, 0, 165, 28, 46, 42, 180, 0, 31]
abbrev dktX1_toStuff_0 : List UInt8 := dkwX1_toStuff_0 ++ dktX1_toStuff_1
theorem dksX1_toStuff_0 : cX1_toStuff.data.toList.drop 0 = dktX1_toStuff_0 := by decide +kernel
theorem dksX1_toStuff_1 : cX1_toStuff.data.toList.drop 24 = dktX1_toStuff_1 := dk_seg dksX1_toStuff_0 24 rfl rfl
theorem dX1_toStuff_0 : decode cX1_toStuff 0 = .ok (.aload_n 0, 1) := dk_42 (dk_at dksX1_toStuff_0 0 rfl rfl)
theorem dX1_toStuff_1 : decode cX1_toStuff 1 = .ok (.iload_n 1, 1) := dk_27 (dk_at dksX1_toStuff_0 1 rfl rfl)
theorem dX1_toStuff_2 : decode cX1_toStuff 2 = .ok (.invokevirtual 193, 3) := dk_182 0 193 (dk_at dksX1_toStuff_0 2 rfl rfl)
theorem dX1_toStuff_5 : decode cX1_toStuff 5 = .ok (.aload_n 0, 1) := dk_42 (dk_at dksX1_toStuff_0 5 rfl rfl)
theorem dX1_toStuff_6 : decode cX1_toStuff 6 = .ok (.iload_n 2, 1) := dk_28 (dk_at dksX1_toStuff_0 6 rfl rfl)
theorem dX1_toStuff_7 : decode cX1_toStuff 7 = .ok (.invokevirtual 173, 3) := dk_182 0 173 (dk_at dksX1_toStuff_0 7 rfl rfl)
theorem dX1_toStuff_10 : decode cX1_toStuff 10 = .ok (.iconst 0, 1) := dk_3 (dk_at dksX1_toStuff_0 10 rfl rfl)
theorem dX1_toStuff_11 : decode cX1_toStuff 11 = .ok (.aload_n 0, 1) := dk_42 (dk_at dksX1_toStuff_0 11 rfl rfl)
theorem dX1_toStuff_12 : decode cX1_toStuff 12 = .ok (.getfield 31, 3) := dk_180 0 31 (dk_at dksX1_toStuff_0 12 rfl rfl)
theorem dX1_toStuff_15 : decode cX1_toStuff 15 = .ok (.getfield 165, 3) := dk_180 0 165 (dk_at dksX1_toStuff_0 15 rfl rfl)
theorem dX1_toStuff_18 : decode cX1_toStuff 18 = .ok (.iload_n 2, 1) := dk_28 (dk_at dksX1_toStuff_0 18 rfl rfl)
theorem dX1_toStuff_19 : decode cX1_toStuff 19 = .ok (.iaload, 1) := dk_46 (dk_at dksX1_toStuff_0 19 rfl rfl)
theorem dX1_toStuff_20 : decode cX1_toStuff 20 = .ok (.aload_n 0, 1) := dk_42 (dk_at dksX1_toStuff_0 20 rfl rfl)
theorem dX1_toStuff_21 : decode cX1_toStuff 21 = .ok (.getfield 31, 3) := dk_180 0 31 (dk_at dksX1_toStuff_0 21 rfl rfl)
theorem dX1_toStuff_24 : decode cX1_toStuff 24 = .ok (.getfield 167, 3) := dk_180 0 167 (dk_at dksX1_toStuff_1 0 rfl rfl)
theorem dX1_toStuff_27 : decode cX1_toStuff 27 = .ok (.iload_n 1, 1) := dk_27 (dk_at dksX1_toStuff_1 3 rfl rfl)
theorem dX1_toStuff_28 : decode cX1_toStuff 28 = .ok (.iaload, 1) := dk_46 (dk_at dksX1_toStuff_1 4 rfl rfl)
theorem dX1_toStuff_29 : decode cX1_toStuff 29 = .ok (.isub, 1) := dk_100 (dk_at dksX1_toStuff_1 5 rfl rfl)
theorem dX1_toStuff_30 : decode cX1_toStuff 30 = .ok (.invokestatic 170, 3) := dk_184 0 170 (dk_at dksX1_toStuff_1 6 rfl rfl)
theorem dX1_toStuff_33 : decode cX1_toStuff 33 = .ok (.istore_n 3, 1) := dk_62 (dk_at dksX1_toStuff_1 9 rfl rfl)
theorem dX1_toStuff_34 : decode cX1_toStuff 34 = .ok (.iload_n 3, 1) := dk_29 (dk_at dksX1_toStuff_1 10 rfl rfl)
theorem dX1_toStuff_35 : decode cX1_toStuff 35 = .ok (.bipush 20, 2) := dk_16 20 (dk_at dksX1_toStuff_1 11 rfl rfl)
theorem dX1_toStuff_37 : decode cX1_toStuff 37 = .ok (.if_icmp .gt 7, 3) := dk_163 0 7 (dk_at dksX1_toStuff_1 13 rfl rfl)
theorem dX1_toStuff_40 : decode cX1_toStuff 40 = .ok (.iload_n 3, 1) := dk_29 (dk_at dksX1_toStuff_1 16 rfl rfl)
theorem dX1_toStuff_41 : decode cX1_toStuff 41 = .ok (.goto 4, 3) := dk_167 0 4 (dk_at dksX1_toStuff_1 17 rfl rfl)
theorem dX1_toStuff_44 : decode cX1_toStuff 44 = .ok (.iconst (-1), 1) := dk_2 (dk_at dksX1_toStuff_1 20 rfl rfl)
theorem dX1_toStuff_45 : decode cX1_toStuff 45 = .ok (.ireturn, 1) := dk_172 (dk_at dksX1_toStuff_1 21 rfl rfl)
abbrev cX1_toWait : ByteArray := prog_1_method_53_code
def yX1_toWait : MethodName := ⟨RX1, "toWait", "(II)I"⟩
def dkwX1_toWait_2 : List UInt8 := [182, 0, 251, 87, 132, 3, 1, 167, 255, 225, 2, 172]
abbrev dktX1_toWait_2 : List UInt8 := dkwX1_toWait_2 ++ []
def dkwX1_toWait_1 : List UInt8 := [29, 16, 40, 163, 0, 31, 42, 180, 0, 35, 27, 28, 182, 0, 233, 153, 0, 5, 29, 172, 42, 180, 0, 35]
abbrev dktX1_toWait_1 : List UInt8 := dkwX1_toWait_1 ++ dktX1_toWait_2
def dkwX1_toWait_0 : List UInt8 := [42, 27, 182, 0, 193, 42, 28, 182, 0, 173, 42, 180, 0, 35, 42, 180, 0, 31, 182, 0, 244, 87, 3, 62]
abbrev dktX1_toWait_0 : List UInt8 := dkwX1_toWait_0 ++ dktX1_toWait_1
theorem dksX1_toWait_0 : cX1_toWait.data.toList.drop 0 = dktX1_toWait_0 := by decide +kernel
theorem dksX1_toWait_1 : cX1_toWait.data.toList.drop 24 = dktX1_toWait_1 := dk_seg dksX1_toWait_0 24 rfl rfl
theorem dksX1_toWait_2 : cX1_toWait.data.toList.drop 48 = dktX1_toWait_2 := dk_seg dksX1_toWait_1 24 rfl rfl
theorem dX1_toWait_0 : decode cX1_toWait 0 = .ok (.aload_n 0, 1) := dk_42 (dk_at dksX1_toWait_0 0 rfl rfl)
theorem dX1_toWait_1 : decode cX1_toWait 1 = .ok (.iload_n 1, 1) := dk_27 (dk_at dksX1_toWait_0 1 rfl rfl)
theorem dX1_toWait_2 : decode cX1_toWait 2 = .ok (.invokevirtual 193, 3) := dk_182 0 193 (dk_at dksX1_toWait_0 2 rfl rfl)
theorem dX1_toWait_5 : decode cX1_toWait 5 = .ok (.aload_n 0, 1) := dk_42 (dk_at dksX1_toWait_0 5 rfl rfl)
theorem dX1_toWait_6 : decode cX1_toWait 6 = .ok (.iload_n 2, 1) := dk_28 (dk_at dksX1_toWait_0 6 rfl rfl)
theorem dX1_toWait_7 : decode cX1_toWait 7 = .ok (.invokevirtual 173, 3) := dk_182 0 173 (dk_at dksX1_toWait_0 7 rfl rfl)
theorem dX1_toWait_10 : decode cX1_toWait 10 = .ok (.aload_n 0, 1) := dk_42 (dk_at dksX1_toWait_0 10 rfl rfl)
theorem dX1_toWait_11 : decode cX1_toWait 11 = .ok (.getfield 35, 3) := dk_180 0 35 (dk_at dksX1_toWait_0 11 rfl rfl)
theorem dX1_toWait_14 : decode cX1_toWait 14 = .ok (.aload_n 0, 1) := dk_42 (dk_at dksX1_toWait_0 14 rfl rfl)
theorem dX1_toWait_15 : decode cX1_toWait 15 = .ok (.getfield 31, 3) := dk_180 0 31 (dk_at dksX1_toWait_0 15 rfl rfl)
theorem dX1_toWait_18 : decode cX1_toWait 18 = .ok (.invokevirtual 244, 3) := dk_182 0 244 (dk_at dksX1_toWait_0 18 rfl rfl)
theorem dX1_toWait_21 : decode cX1_toWait 21 = .ok (.pop, 1) := dk_87 (dk_at dksX1_toWait_0 21 rfl rfl)
theorem dX1_toWait_22 : decode cX1_toWait 22 = .ok (.iconst 0, 1) := dk_3 (dk_at dksX1_toWait_0 22 rfl rfl)
theorem dX1_toWait_23 : decode cX1_toWait 23 = .ok (.istore_n 3, 1) := dk_62 (dk_at dksX1_toWait_0 23 rfl rfl)
theorem dX1_toWait_24 : decode cX1_toWait 24 = .ok (.iload_n 3, 1) := dk_29 (dk_at dksX1_toWait_1 0 rfl rfl)
theorem dX1_toWait_25 : decode cX1_toWait 25 = .ok (.bipush 40, 2) := dk_16 40 (dk_at dksX1_toWait_1 1 rfl rfl)
theorem dX1_toWait_27 : decode cX1_toWait 27 = .ok (.if_icmp .gt 31, 3) := dk_163 0 31 (dk_at dksX1_toWait_1 3 rfl rfl)
theorem dX1_toWait_30 : decode cX1_toWait 30 = .ok (.aload_n 0, 1) := dk_42 (dk_at dksX1_toWait_1 6 rfl rfl)
theorem dX1_toWait_31 : decode cX1_toWait 31 = .ok (.getfield 35, 3) := dk_180 0 35 (dk_at dksX1_toWait_1 7 rfl rfl)
theorem dX1_toWait_34 : decode cX1_toWait 34 = .ok (.iload_n 1, 1) := dk_27 (dk_at dksX1_toWait_1 10 rfl rfl)
theorem dX1_toWait_35 : decode cX1_toWait 35 = .ok (.iload_n 2, 1) := dk_28 (dk_at dksX1_toWait_1 11 rfl rfl)
theorem dX1_toWait_36 : decode cX1_toWait 36 = .ok (.invokevirtual 233, 3) := dk_182 0 233 (dk_at dksX1_toWait_1 12 rfl rfl)
theorem dX1_toWait_39 : decode cX1_toWait 39 = .ok (.ifCond .eq 5, 3) := dk_153 0 5 (dk_at dksX1_toWait_1 15 rfl rfl)
theorem dX1_toWait_42 : decode cX1_toWait 42 = .ok (.iload_n 3, 1) := dk_29 (dk_at dksX1_toWait_1 18 rfl rfl)
theorem dX1_toWait_43 : decode cX1_toWait 43 = .ok (.ireturn, 1) := dk_172 (dk_at dksX1_toWait_1 19 rfl rfl)
theorem dX1_toWait_44 : decode cX1_toWait 44 = .ok (.aload_n 0, 1) := dk_42 (dk_at dksX1_toWait_1 20 rfl rfl)
theorem dX1_toWait_45 : decode cX1_toWait 45 = .ok (.getfield 35, 3) := dk_180 0 35 (dk_at dksX1_toWait_1 21 rfl rfl)
theorem dX1_toWait_48 : decode cX1_toWait 48 = .ok (.invokevirtual 251, 3) := dk_182 0 251 (dk_at dksX1_toWait_2 0 rfl rfl)
theorem dX1_toWait_51 : decode cX1_toWait 51 = .ok (.pop, 1) := dk_87 (dk_at dksX1_toWait_2 3 rfl rfl)
theorem dX1_toWait_52 : decode cX1_toWait 52 = .ok (.iinc 3 1, 3) := dk_132 3 1 (dk_at dksX1_toWait_2 4 rfl rfl)
theorem dX1_toWait_55 : decode cX1_toWait 55 = .ok (.goto (-31), 3) := dk_167 255 225 (dk_at dksX1_toWait_2 7 rfl rfl)
theorem dX1_toWait_58 : decode cX1_toWait 58 = .ok (.iconst (-1), 1) := dk_2 (dk_at dksX1_toWait_2 10 rfl rfl)
theorem dX1_toWait_59 : decode cX1_toWait 59 = .ok (.ireturn, 1) := dk_172 (dk_at dksX1_toWait_2 11 rfl rfl)
abbrev cX1_round : ByteArray := prog_1_method_55_code
def yX1_round : MethodName := ⟨RX1, "round", "(I)I"⟩
def dkwX1_round_5 : List UInt8 := [29, 27, 100, 27, 28, 100, 184, 1, 11, 96, 172]
abbrev dktX1_round_5 : List UInt8 := dkwX1_round_5 ++ []
def dkwX1_round_4 : List UInt8 := [185, 0, 148, 2, 0, 192, 0, 152, 182, 0, 154, 184, 0, 170, 62, 132, 4, 1, 167, 255, 163, 29, 28, 100]
abbrev dktX1_round_4 : List UInt8 := dkwX1_round_4 ++ dktX1_round_5
def dkwX1_round_3 : List UInt8 := [184, 1, 11, 61, 29, 42, 180, 0, 22, 180, 0, 145, 42, 180, 0, 31, 180, 0, 97, 21, 4, 46]
abbrev dktX1_round_3 : List UInt8 := dkwX1_round_3 ++ dktX1_round_4
def dkwX1_round_2 : List UInt8 := [180, 0, 145, 42, 180, 0, 31, 180, 0, 97, 21, 4, 46, 185, 0, 148, 2, 0, 192, 0, 152, 182, 0, 154]
abbrev dktX1_round_2 : List UInt8 := dkwX1_round_2 ++ dktX1_round_3
def dkwX1_round_1 : List UInt8 := [182, 0, 104, 162, 0, 87, 42, 21, 4, 182, 0, 107, 154, 0, 6, 167, 0, 69, 28, 42, 180, 0, 22]
abbrev dktX1_round_1 : List UInt8 := dkwX1_round_1 ++ dktX1_round_2
def dkwX1_round_0 : List UInt8 := [27, 3, 16, 30, 184, 0, 139, 184, 0, 62, 27, 61, 27, 62, 3, 54, 4, 21, 4, 42, 180, 0, 22]
abbrev dktX1_round_0 : List UInt8 := dkwX1_round_0 ++ dktX1_round_1
theorem dksX1_round_0 : cX1_round.data.toList.drop 0 = dktX1_round_0 := by decide +kernel
theorem dksX1_round_1 : cX1_round.data.toList.drop 23 = dktX1_round_1 := dk_seg dksX1_round_0 23 rfl rfl
theorem dksX1_round_2 : cX1_round.data.toList.drop 46 = dktX1_round_2 := dk_seg dksX1_round_1 23 rfl rfl
theorem dksX1_round_3 : cX1_round.data.toList.drop 70 = dktX1_round_3 := dk_seg dksX1_round_2 24 rfl rfl
theorem dksX1_round_4 : cX1_round.data.toList.drop 92 = dktX1_round_4 := dk_seg dksX1_round_3 22 rfl rfl
theorem dksX1_round_5 : cX1_round.data.toList.drop 116 = dktX1_round_5 := dk_seg dksX1_round_4 24 rfl rfl
theorem dX1_round_0 : decode cX1_round 0 = .ok (.iload_n 1, 1) := dk_27 (dk_at dksX1_round_0 0 rfl rfl)
theorem dX1_round_1 : decode cX1_round 1 = .ok (.iconst 0, 1) := dk_3 (dk_at dksX1_round_0 1 rfl rfl)
theorem dX1_round_2 : decode cX1_round 2 = .ok (.bipush 30, 2) := dk_16 30 (dk_at dksX1_round_0 2 rfl rfl)
theorem dX1_round_4 : decode cX1_round 4 = .ok (.invokestatic 139, 3) := dk_184 0 139 (dk_at dksX1_round_0 4 rfl rfl)
theorem dX1_round_7 : decode cX1_round 7 = .ok (.invokestatic 62, 3) := dk_184 0 62 (dk_at dksX1_round_0 7 rfl rfl)
theorem dX1_round_10 : decode cX1_round 10 = .ok (.iload_n 1, 1) := dk_27 (dk_at dksX1_round_0 10 rfl rfl)
theorem dX1_round_11 : decode cX1_round 11 = .ok (.istore_n 2, 1) := dk_61 (dk_at dksX1_round_0 11 rfl rfl)
theorem dX1_round_12 : decode cX1_round 12 = .ok (.iload_n 1, 1) := dk_27 (dk_at dksX1_round_0 12 rfl rfl)
theorem dX1_round_13 : decode cX1_round 13 = .ok (.istore_n 3, 1) := dk_62 (dk_at dksX1_round_0 13 rfl rfl)
theorem dX1_round_14 : decode cX1_round 14 = .ok (.iconst 0, 1) := dk_3 (dk_at dksX1_round_0 14 rfl rfl)
theorem dX1_round_15 : decode cX1_round 15 = .ok (.istore 4, 2) := dk_54 4 (dk_at dksX1_round_0 15 rfl rfl)
theorem dX1_round_17 : decode cX1_round 17 = .ok (.iload 4, 2) := dk_21 4 (dk_at dksX1_round_0 17 rfl rfl)
theorem dX1_round_19 : decode cX1_round 19 = .ok (.aload_n 0, 1) := dk_42 (dk_at dksX1_round_0 19 rfl rfl)
theorem dX1_round_20 : decode cX1_round 20 = .ok (.getfield 22, 3) := dk_180 0 22 (dk_at dksX1_round_0 20 rfl rfl)
theorem dX1_round_23 : decode cX1_round 23 = .ok (.invokevirtual 104, 3) := dk_182 0 104 (dk_at dksX1_round_1 0 rfl rfl)
theorem dX1_round_26 : decode cX1_round 26 = .ok (.if_icmp .ge 87, 3) := dk_162 0 87 (dk_at dksX1_round_1 3 rfl rfl)
theorem dX1_round_29 : decode cX1_round 29 = .ok (.aload_n 0, 1) := dk_42 (dk_at dksX1_round_1 6 rfl rfl)
theorem dX1_round_30 : decode cX1_round 30 = .ok (.iload 4, 2) := dk_21 4 (dk_at dksX1_round_1 7 rfl rfl)
theorem dX1_round_32 : decode cX1_round 32 = .ok (.invokevirtual 107, 3) := dk_182 0 107 (dk_at dksX1_round_1 9 rfl rfl)
theorem dX1_round_35 : decode cX1_round 35 = .ok (.ifCond .ne 6, 3) := dk_154 0 6 (dk_at dksX1_round_1 12 rfl rfl)
theorem dX1_round_38 : decode cX1_round 38 = .ok (.goto 69, 3) := dk_167 0 69 (dk_at dksX1_round_1 15 rfl rfl)
theorem dX1_round_41 : decode cX1_round 41 = .ok (.iload_n 2, 1) := dk_28 (dk_at dksX1_round_1 18 rfl rfl)
theorem dX1_round_42 : decode cX1_round 42 = .ok (.aload_n 0, 1) := dk_42 (dk_at dksX1_round_1 19 rfl rfl)
theorem dX1_round_43 : decode cX1_round 43 = .ok (.getfield 22, 3) := dk_180 0 22 (dk_at dksX1_round_1 20 rfl rfl)
theorem dX1_round_46 : decode cX1_round 46 = .ok (.getfield 145, 3) := dk_180 0 145 (dk_at dksX1_round_2 0 rfl rfl)
theorem dX1_round_49 : decode cX1_round 49 = .ok (.aload_n 0, 1) := dk_42 (dk_at dksX1_round_2 3 rfl rfl)
theorem dX1_round_50 : decode cX1_round 50 = .ok (.getfield 31, 3) := dk_180 0 31 (dk_at dksX1_round_2 4 rfl rfl)
theorem dX1_round_53 : decode cX1_round 53 = .ok (.getfield 97, 3) := dk_180 0 97 (dk_at dksX1_round_2 7 rfl rfl)
theorem dX1_round_56 : decode cX1_round 56 = .ok (.iload 4, 2) := dk_21 4 (dk_at dksX1_round_2 10 rfl rfl)
theorem dX1_round_58 : decode cX1_round 58 = .ok (.iaload, 1) := dk_46 (dk_at dksX1_round_2 12 rfl rfl)
theorem dX1_round_59 : decode cX1_round 59 = .ok (.invokeinterface 148 2, 5) := by decide +kernel
theorem dX1_round_64 : decode cX1_round 64 = .ok (.checkcast 152, 3) := dk_192 0 152 (dk_at dksX1_round_2 18 rfl rfl)
theorem dX1_round_67 : decode cX1_round 67 = .ok (.invokevirtual 154, 3) := dk_182 0 154 (dk_at dksX1_round_2 21 rfl rfl)
theorem dX1_round_70 : decode cX1_round 70 = .ok (.invokestatic 267, 3) := dk_184 1 11 (dk_at dksX1_round_3 0 rfl rfl)
theorem dX1_round_73 : decode cX1_round 73 = .ok (.istore_n 2, 1) := dk_61 (dk_at dksX1_round_3 3 rfl rfl)
theorem dX1_round_74 : decode cX1_round 74 = .ok (.iload_n 3, 1) := dk_29 (dk_at dksX1_round_3 4 rfl rfl)
theorem dX1_round_75 : decode cX1_round 75 = .ok (.aload_n 0, 1) := dk_42 (dk_at dksX1_round_3 5 rfl rfl)
theorem dX1_round_76 : decode cX1_round 76 = .ok (.getfield 22, 3) := dk_180 0 22 (dk_at dksX1_round_3 6 rfl rfl)
theorem dX1_round_79 : decode cX1_round 79 = .ok (.getfield 145, 3) := dk_180 0 145 (dk_at dksX1_round_3 9 rfl rfl)
theorem dX1_round_82 : decode cX1_round 82 = .ok (.aload_n 0, 1) := dk_42 (dk_at dksX1_round_3 12 rfl rfl)
theorem dX1_round_83 : decode cX1_round 83 = .ok (.getfield 31, 3) := dk_180 0 31 (dk_at dksX1_round_3 13 rfl rfl)
theorem dX1_round_86 : decode cX1_round 86 = .ok (.getfield 97, 3) := dk_180 0 97 (dk_at dksX1_round_3 16 rfl rfl)
theorem dX1_round_89 : decode cX1_round 89 = .ok (.iload 4, 2) := dk_21 4 (dk_at dksX1_round_3 19 rfl rfl)
theorem dX1_round_91 : decode cX1_round 91 = .ok (.iaload, 1) := dk_46 (dk_at dksX1_round_3 21 rfl rfl)
theorem dX1_round_92 : decode cX1_round 92 = .ok (.invokeinterface 148 2, 5) := by decide +kernel
theorem dX1_round_97 : decode cX1_round 97 = .ok (.checkcast 152, 3) := dk_192 0 152 (dk_at dksX1_round_4 5 rfl rfl)
theorem dX1_round_100 : decode cX1_round 100 = .ok (.invokevirtual 154, 3) := dk_182 0 154 (dk_at dksX1_round_4 8 rfl rfl)
theorem dX1_round_103 : decode cX1_round 103 = .ok (.invokestatic 170, 3) := dk_184 0 170 (dk_at dksX1_round_4 11 rfl rfl)
theorem dX1_round_106 : decode cX1_round 106 = .ok (.istore_n 3, 1) := dk_62 (dk_at dksX1_round_4 14 rfl rfl)
theorem dX1_round_107 : decode cX1_round 107 = .ok (.iinc 4 1, 3) := dk_132 4 1 (dk_at dksX1_round_4 15 rfl rfl)
theorem dX1_round_110 : decode cX1_round 110 = .ok (.goto (-93), 3) := dk_167 255 163 (dk_at dksX1_round_4 18 rfl rfl)
theorem dX1_round_113 : decode cX1_round 113 = .ok (.iload_n 3, 1) := dk_29 (dk_at dksX1_round_4 21 rfl rfl)
theorem dX1_round_114 : decode cX1_round 114 = .ok (.iload_n 2, 1) := dk_28 (dk_at dksX1_round_4 22 rfl rfl)
theorem dX1_round_115 : decode cX1_round 115 = .ok (.isub, 1) := dk_100 (dk_at dksX1_round_4 23 rfl rfl)
theorem dX1_round_116 : decode cX1_round 116 = .ok (.iload_n 3, 1) := dk_29 (dk_at dksX1_round_5 0 rfl rfl)
theorem dX1_round_117 : decode cX1_round 117 = .ok (.iload_n 1, 1) := dk_27 (dk_at dksX1_round_5 1 rfl rfl)
theorem dX1_round_118 : decode cX1_round 118 = .ok (.isub, 1) := dk_100 (dk_at dksX1_round_5 2 rfl rfl)
theorem dX1_round_119 : decode cX1_round 119 = .ok (.iload_n 1, 1) := dk_27 (dk_at dksX1_round_5 3 rfl rfl)
theorem dX1_round_120 : decode cX1_round 120 = .ok (.iload_n 2, 1) := dk_28 (dk_at dksX1_round_5 4 rfl rfl)
theorem dX1_round_121 : decode cX1_round 121 = .ok (.isub, 1) := dk_100 (dk_at dksX1_round_5 5 rfl rfl)
theorem dX1_round_122 : decode cX1_round 122 = .ok (.invokestatic 267, 3) := dk_184 1 11 (dk_at dksX1_round_5 6 rfl rfl)
theorem dX1_round_125 : decode cX1_round 125 = .ok (.iadd, 1) := dk_96 (dk_at dksX1_round_5 9 rfl rfl)
theorem dX1_round_126 : decode cX1_round 126 = .ok (.ireturn, 1) := dk_172 (dk_at dksX1_round_5 10 rfl rfl)
abbrev cX1_see : ByteArray := prog_1_method_56_code
def yX1_see : MethodName := ⟨RX1, "see", "(III)I"⟩
def dkwX1_see_3 : List UInt8 := [42, 180, 0, 56, 185, 0, 134, 1, 0, 172]
abbrev dktX1_see_3 : List UInt8 := dkwX1_see_3 ++ []
def dkwX1_see_2 : List UInt8 := [180, 0, 56, 6, 188, 10, 89, 3, 27, 79, 89, 4, 28, 79, 89, 5, 29, 79, 185, 0, 213, 2, 0, 87]
abbrev dktX1_see_2 : List UInt8 := dkwX1_see_2 ++ dktX1_see_3
def dkwX1_see_1 : List UInt8 := [184, 0, 139, 153, 0, 13, 29, 3, 16, 99, 184, 0, 139, 154, 0, 9, 42, 5, 182, 0, 220, 172, 42]
abbrev dktX1_see_1 : List UInt8 := dkwX1_see_1 ++ dktX1_see_2
def dkwX1_see_0 : List UInt8 := [42, 27, 182, 0, 173, 42, 180, 0, 56, 185, 0, 134, 1, 0, 16, 8, 159, 0, 23, 28, 3, 16, 20]
abbrev dktX1_see_0 : List UInt8 := dkwX1_see_0 ++ dktX1_see_1
theorem dksX1_see_0 : cX1_see.data.toList.drop 0 = dktX1_see_0 := by decide +kernel
theorem dksX1_see_1 : cX1_see.data.toList.drop 23 = dktX1_see_1 := dk_seg dksX1_see_0 23 rfl rfl
theorem dksX1_see_2 : cX1_see.data.toList.drop 46 = dktX1_see_2 := dk_seg dksX1_see_1 23 rfl rfl
theorem dksX1_see_3 : cX1_see.data.toList.drop 70 = dktX1_see_3 := dk_seg dksX1_see_2 24 rfl rfl
theorem dX1_see_0 : decode cX1_see 0 = .ok (.aload_n 0, 1) := dk_42 (dk_at dksX1_see_0 0 rfl rfl)
theorem dX1_see_1 : decode cX1_see 1 = .ok (.iload_n 1, 1) := dk_27 (dk_at dksX1_see_0 1 rfl rfl)
theorem dX1_see_2 : decode cX1_see 2 = .ok (.invokevirtual 173, 3) := dk_182 0 173 (dk_at dksX1_see_0 2 rfl rfl)
theorem dX1_see_5 : decode cX1_see 5 = .ok (.aload_n 0, 1) := dk_42 (dk_at dksX1_see_0 5 rfl rfl)
theorem dX1_see_6 : decode cX1_see 6 = .ok (.getfield 56, 3) := dk_180 0 56 (dk_at dksX1_see_0 6 rfl rfl)
theorem dX1_see_9 : decode cX1_see 9 = .ok (.invokeinterface 134 1, 5) := by decide +kernel
theorem dX1_see_14 : decode cX1_see 14 = .ok (.bipush 8, 2) := dk_16 8 (dk_at dksX1_see_0 14 rfl rfl)
theorem dX1_see_16 : decode cX1_see 16 = .ok (.if_icmp .eq 23, 3) := dk_159 0 23 (dk_at dksX1_see_0 16 rfl rfl)
theorem dX1_see_19 : decode cX1_see 19 = .ok (.iload_n 2, 1) := dk_28 (dk_at dksX1_see_0 19 rfl rfl)
theorem dX1_see_20 : decode cX1_see 20 = .ok (.iconst 0, 1) := dk_3 (dk_at dksX1_see_0 20 rfl rfl)
theorem dX1_see_21 : decode cX1_see 21 = .ok (.bipush 20, 2) := dk_16 20 (dk_at dksX1_see_0 21 rfl rfl)
theorem dX1_see_23 : decode cX1_see 23 = .ok (.invokestatic 139, 3) := dk_184 0 139 (dk_at dksX1_see_1 0 rfl rfl)
theorem dX1_see_26 : decode cX1_see 26 = .ok (.ifCond .eq 13, 3) := dk_153 0 13 (dk_at dksX1_see_1 3 rfl rfl)
theorem dX1_see_29 : decode cX1_see 29 = .ok (.iload_n 3, 1) := dk_29 (dk_at dksX1_see_1 6 rfl rfl)
theorem dX1_see_30 : decode cX1_see 30 = .ok (.iconst 0, 1) := dk_3 (dk_at dksX1_see_1 7 rfl rfl)
theorem dX1_see_31 : decode cX1_see 31 = .ok (.bipush 99, 2) := dk_16 99 (dk_at dksX1_see_1 8 rfl rfl)
theorem dX1_see_33 : decode cX1_see 33 = .ok (.invokestatic 139, 3) := dk_184 0 139 (dk_at dksX1_see_1 10 rfl rfl)
theorem dX1_see_36 : decode cX1_see 36 = .ok (.ifCond .ne 9, 3) := dk_154 0 9 (dk_at dksX1_see_1 13 rfl rfl)
theorem dX1_see_39 : decode cX1_see 39 = .ok (.aload_n 0, 1) := dk_42 (dk_at dksX1_see_1 16 rfl rfl)
theorem dX1_see_40 : decode cX1_see 40 = .ok (.iconst 2, 1) := dk_5 (dk_at dksX1_see_1 17 rfl rfl)
theorem dX1_see_41 : decode cX1_see 41 = .ok (.invokevirtual 220, 3) := dk_182 0 220 (dk_at dksX1_see_1 18 rfl rfl)
theorem dX1_see_44 : decode cX1_see 44 = .ok (.ireturn, 1) := dk_172 (dk_at dksX1_see_1 21 rfl rfl)
theorem dX1_see_45 : decode cX1_see 45 = .ok (.aload_n 0, 1) := dk_42 (dk_at dksX1_see_1 22 rfl rfl)
theorem dX1_see_46 : decode cX1_see 46 = .ok (.getfield 56, 3) := dk_180 0 56 (dk_at dksX1_see_2 0 rfl rfl)
theorem dX1_see_49 : decode cX1_see 49 = .ok (.iconst 3, 1) := dk_6 (dk_at dksX1_see_2 3 rfl rfl)
theorem dX1_see_50 : decode cX1_see 50 = .ok (.newarray .int, 2) := dk_188_10 (dk_at dksX1_see_2 4 rfl rfl)
theorem dX1_see_52 : decode cX1_see 52 = .ok (.dup, 1) := dk_89 (dk_at dksX1_see_2 6 rfl rfl)
theorem dX1_see_53 : decode cX1_see 53 = .ok (.iconst 0, 1) := dk_3 (dk_at dksX1_see_2 7 rfl rfl)
theorem dX1_see_54 : decode cX1_see 54 = .ok (.iload_n 1, 1) := dk_27 (dk_at dksX1_see_2 8 rfl rfl)
theorem dX1_see_55 : decode cX1_see 55 = .ok (.iastore, 1) := dk_79 (dk_at dksX1_see_2 9 rfl rfl)
theorem dX1_see_56 : decode cX1_see 56 = .ok (.dup, 1) := dk_89 (dk_at dksX1_see_2 10 rfl rfl)
theorem dX1_see_57 : decode cX1_see 57 = .ok (.iconst 1, 1) := dk_4 (dk_at dksX1_see_2 11 rfl rfl)
theorem dX1_see_58 : decode cX1_see 58 = .ok (.iload_n 2, 1) := dk_28 (dk_at dksX1_see_2 12 rfl rfl)
theorem dX1_see_59 : decode cX1_see 59 = .ok (.iastore, 1) := dk_79 (dk_at dksX1_see_2 13 rfl rfl)
theorem dX1_see_60 : decode cX1_see 60 = .ok (.dup, 1) := dk_89 (dk_at dksX1_see_2 14 rfl rfl)
theorem dX1_see_61 : decode cX1_see 61 = .ok (.iconst 2, 1) := dk_5 (dk_at dksX1_see_2 15 rfl rfl)
theorem dX1_see_62 : decode cX1_see 62 = .ok (.iload_n 3, 1) := dk_29 (dk_at dksX1_see_2 16 rfl rfl)
theorem dX1_see_63 : decode cX1_see 63 = .ok (.iastore, 1) := dk_79 (dk_at dksX1_see_2 17 rfl rfl)
theorem dX1_see_64 : decode cX1_see 64 = .ok (.invokeinterface 213 2, 5) := by decide +kernel
theorem dX1_see_69 : decode cX1_see 69 = .ok (.pop, 1) := dk_87 (dk_at dksX1_see_2 23 rfl rfl)
theorem dX1_see_70 : decode cX1_see 70 = .ok (.aload_n 0, 1) := dk_42 (dk_at dksX1_see_3 0 rfl rfl)
theorem dX1_see_71 : decode cX1_see 71 = .ok (.getfield 56, 3) := dk_180 0 56 (dk_at dksX1_see_3 1 rfl rfl)
theorem dX1_see_74 : decode cX1_see 74 = .ok (.invokeinterface 134 1, 5) := by decide +kernel
theorem dX1_see_79 : decode cX1_see 79 = .ok (.ireturn, 1) := dk_172 (dk_at dksX1_see_3 9 rfl rfl)
abbrev cX1_large : ByteArray := prog_1_method_60_code
def yX1_large : MethodName := ⟨RX1, "large", "(I)I"⟩
def dkwX1_large_3 : List UInt8 := [185, 0, 148, 2, 0, 192, 0, 152, 182, 0, 154, 172]
abbrev dktX1_large_3 : List UInt8 := dkwX1_large_3 ++ []
def dkwX1_large_2 : List UInt8 := [185, 0, 134, 1, 0, 167, 0, 29, 44, 185, 0, 240, 1, 0, 153, 0, 7, 2, 167, 0, 16, 44, 3]
abbrev dktX1_large_2 : List UInt8 := dkwX1_large_2 ++ dktX1_large_3
def dkwX1_large_1 : List UInt8 := [182, 1, 28, 153, 0, 7, 4, 167, 0, 4, 3, 172, 42, 182, 1, 35, 77, 27, 154, 0, 12, 44]
abbrev dktX1_large_1 : List UInt8 := dkwX1_large_1 ++ dktX1_large_2
def dkwX1_large_0 : List UInt8 := [27, 5, 184, 0, 196, 27, 5, 160, 0, 28, 42, 180, 0, 35, 42, 180, 0, 31, 182, 0, 244, 87, 42]
abbrev dktX1_large_0 : List UInt8 := dkwX1_large_0 ++ dktX1_large_1
theorem dksX1_large_0 : cX1_large.data.toList.drop 0 = dktX1_large_0 := by decide +kernel
theorem dksX1_large_1 : cX1_large.data.toList.drop 23 = dktX1_large_1 := dk_seg dksX1_large_0 23 rfl rfl
theorem dksX1_large_2 : cX1_large.data.toList.drop 45 = dktX1_large_2 := dk_seg dksX1_large_1 22 rfl rfl
theorem dksX1_large_3 : cX1_large.data.toList.drop 68 = dktX1_large_3 := dk_seg dksX1_large_2 23 rfl rfl
theorem dX1_large_0 : decode cX1_large 0 = .ok (.iload_n 1, 1) := dk_27 (dk_at dksX1_large_0 0 rfl rfl)
theorem dX1_large_1 : decode cX1_large 1 = .ok (.iconst 2, 1) := dk_5 (dk_at dksX1_large_0 1 rfl rfl)
theorem dX1_large_2 : decode cX1_large 2 = .ok (.invokestatic 196, 3) := dk_184 0 196 (dk_at dksX1_large_0 2 rfl rfl)
theorem dX1_large_5 : decode cX1_large 5 = .ok (.iload_n 1, 1) := dk_27 (dk_at dksX1_large_0 5 rfl rfl)
theorem dX1_large_6 : decode cX1_large 6 = .ok (.iconst 2, 1) := dk_5 (dk_at dksX1_large_0 6 rfl rfl)
theorem dX1_large_7 : decode cX1_large 7 = .ok (.if_icmp .ne 28, 3) := dk_160 0 28 (dk_at dksX1_large_0 7 rfl rfl)
theorem dX1_large_10 : decode cX1_large 10 = .ok (.aload_n 0, 1) := dk_42 (dk_at dksX1_large_0 10 rfl rfl)
theorem dX1_large_11 : decode cX1_large 11 = .ok (.getfield 35, 3) := dk_180 0 35 (dk_at dksX1_large_0 11 rfl rfl)
theorem dX1_large_14 : decode cX1_large 14 = .ok (.aload_n 0, 1) := dk_42 (dk_at dksX1_large_0 14 rfl rfl)
theorem dX1_large_15 : decode cX1_large 15 = .ok (.getfield 31, 3) := dk_180 0 31 (dk_at dksX1_large_0 15 rfl rfl)
theorem dX1_large_18 : decode cX1_large 18 = .ok (.invokevirtual 244, 3) := dk_182 0 244 (dk_at dksX1_large_0 18 rfl rfl)
theorem dX1_large_21 : decode cX1_large 21 = .ok (.pop, 1) := dk_87 (dk_at dksX1_large_0 21 rfl rfl)
theorem dX1_large_22 : decode cX1_large 22 = .ok (.aload_n 0, 1) := dk_42 (dk_at dksX1_large_0 22 rfl rfl)
theorem dX1_large_23 : decode cX1_large 23 = .ok (.invokevirtual 284, 3) := dk_182 1 28 (dk_at dksX1_large_1 0 rfl rfl)
theorem dX1_large_26 : decode cX1_large 26 = .ok (.ifCond .eq 7, 3) := dk_153 0 7 (dk_at dksX1_large_1 3 rfl rfl)
theorem dX1_large_29 : decode cX1_large 29 = .ok (.iconst 1, 1) := dk_4 (dk_at dksX1_large_1 6 rfl rfl)
theorem dX1_large_30 : decode cX1_large 30 = .ok (.goto 4, 3) := dk_167 0 4 (dk_at dksX1_large_1 7 rfl rfl)
theorem dX1_large_33 : decode cX1_large 33 = .ok (.iconst 0, 1) := dk_3 (dk_at dksX1_large_1 10 rfl rfl)
theorem dX1_large_34 : decode cX1_large 34 = .ok (.ireturn, 1) := dk_172 (dk_at dksX1_large_1 11 rfl rfl)
theorem dX1_large_35 : decode cX1_large 35 = .ok (.aload_n 0, 1) := dk_42 (dk_at dksX1_large_1 12 rfl rfl)
theorem dX1_large_36 : decode cX1_large 36 = .ok (.invokevirtual 291, 3) := dk_182 1 35 (dk_at dksX1_large_1 13 rfl rfl)
theorem dX1_large_39 : decode cX1_large 39 = .ok (.astore_n 2, 1) := dk_77 (dk_at dksX1_large_1 16 rfl rfl)
theorem dX1_large_40 : decode cX1_large 40 = .ok (.iload_n 1, 1) := dk_27 (dk_at dksX1_large_1 17 rfl rfl)
theorem dX1_large_41 : decode cX1_large 41 = .ok (.ifCond .ne 12, 3) := dk_154 0 12 (dk_at dksX1_large_1 18 rfl rfl)
theorem dX1_large_44 : decode cX1_large 44 = .ok (.aload_n 2, 1) := dk_44 (dk_at dksX1_large_1 21 rfl rfl)
theorem dX1_large_45 : decode cX1_large 45 = .ok (.invokeinterface 134 1, 5) := by decide +kernel
theorem dX1_large_50 : decode cX1_large 50 = .ok (.goto 29, 3) := dk_167 0 29 (dk_at dksX1_large_2 5 rfl rfl)
theorem dX1_large_53 : decode cX1_large 53 = .ok (.aload_n 2, 1) := dk_44 (dk_at dksX1_large_2 8 rfl rfl)
theorem dX1_large_54 : decode cX1_large 54 = .ok (.invokeinterface 240 1, 5) := by decide +kernel
theorem dX1_large_59 : decode cX1_large 59 = .ok (.ifCond .eq 7, 3) := dk_153 0 7 (dk_at dksX1_large_2 14 rfl rfl)
theorem dX1_large_62 : decode cX1_large 62 = .ok (.iconst (-1), 1) := dk_2 (dk_at dksX1_large_2 17 rfl rfl)
theorem dX1_large_63 : decode cX1_large 63 = .ok (.goto 16, 3) := dk_167 0 16 (dk_at dksX1_large_2 18 rfl rfl)
theorem dX1_large_66 : decode cX1_large 66 = .ok (.aload_n 2, 1) := dk_44 (dk_at dksX1_large_2 21 rfl rfl)
theorem dX1_large_67 : decode cX1_large 67 = .ok (.iconst 0, 1) := dk_3 (dk_at dksX1_large_2 22 rfl rfl)
theorem dX1_large_68 : decode cX1_large 68 = .ok (.invokeinterface 148 2, 5) := by decide +kernel
theorem dX1_large_73 : decode cX1_large 73 = .ok (.checkcast 152, 3) := dk_192 0 152 (dk_at dksX1_large_3 5 rfl rfl)
theorem dX1_large_76 : decode cX1_large 76 = .ok (.invokevirtual 154, 3) := dk_182 0 154 (dk_at dksX1_large_3 8 rfl rfl)
theorem dX1_large_79 : decode cX1_large 79 = .ok (.ireturn, 1) := dk_172 (dk_at dksX1_large_3 11 rfl rfl)
abbrev cX1_isSo : ByteArray := prog_1_method_58_code
def yX1_isSo : MethodName := ⟨RX1, "isSo", "()Z"⟩
def dkwX1_isSo_5 : List UInt8 := [180, 0, 35, 182, 0, 251, 87, 132, 2, 1, 167, 255, 175, 4, 172]
abbrev dktX1_isSo_5 : List UInt8 := dkwX1_isSo_5 ++ []
def dkwX1_isSo_4 : List UInt8 := [180, 0, 180, 25, 4, 3, 46, 46, 25, 4, 5, 46, 159, 0, 5, 3, 172, 132, 3, 1, 167, 255, 196, 42]
abbrev dktX1_isSo_4 : List UInt8 := dkwX1_isSo_4 ++ dktX1_isSo_5
def dkwX1_isSo_3 : List UInt8 := [185, 0, 148, 2, 0, 192, 1, 27, 58, 4, 25, 4, 4, 46, 28, 160, 0, 24, 42, 180, 0, 35]
abbrev dktX1_isSo_3 : List UInt8 := dkwX1_isSo_3 ++ dktX1_isSo_4
def dkwX1_isSo_2 : List UInt8 := [163, 0, 82, 3, 62, 29, 42, 180, 0, 56, 185, 0, 134, 1, 0, 162, 0, 53, 42, 180, 0, 56, 29]
abbrev dktX1_isSo_2 : List UInt8 := dkwX1_isSo_2 ++ dktX1_isSo_3
def dkwX1_isSo_1 : List UInt8 := [185, 0, 148, 2, 0, 192, 1, 27, 4, 46, 184, 0, 170, 60, 132, 2, 1, 167, 255, 220, 3, 61, 28, 27]
abbrev dktX1_isSo_1 : List UInt8 := dkwX1_isSo_1 ++ dktX1_isSo_2
def dkwX1_isSo_0 : List UInt8 := [3, 60, 3, 61, 28, 42, 180, 0, 56, 185, 0, 134, 1, 0, 162, 0, 29, 27, 42, 180, 0, 56, 28]
abbrev dktX1_isSo_0 : List UInt8 := dkwX1_isSo_0 ++ dktX1_isSo_1
theorem dksX1_isSo_0 : cX1_isSo.data.toList.drop 0 = dktX1_isSo_0 := by decide +kernel
theorem dksX1_isSo_1 : cX1_isSo.data.toList.drop 23 = dktX1_isSo_1 := dk_seg dksX1_isSo_0 23 rfl rfl
theorem dksX1_isSo_2 : cX1_isSo.data.toList.drop 47 = dktX1_isSo_2 := dk_seg dksX1_isSo_1 24 rfl rfl
theorem dksX1_isSo_3 : cX1_isSo.data.toList.drop 70 = dktX1_isSo_3 := dk_seg dksX1_isSo_2 23 rfl rfl
theorem dksX1_isSo_4 : cX1_isSo.data.toList.drop 92 = dktX1_isSo_4 := dk_seg dksX1_isSo_3 22 rfl rfl
theorem dksX1_isSo_5 : cX1_isSo.data.toList.drop 116 = dktX1_isSo_5 := dk_seg dksX1_isSo_4 24 rfl rfl
theorem dX1_isSo_0 : decode cX1_isSo 0 = .ok (.iconst 0, 1) := dk_3 (dk_at dksX1_isSo_0 0 rfl rfl)
theorem dX1_isSo_1 : decode cX1_isSo 1 = .ok (.istore_n 1, 1) := dk_60 (dk_at dksX1_isSo_0 1 rfl rfl)
theorem dX1_isSo_2 : decode cX1_isSo 2 = .ok (.iconst 0, 1) := dk_3 (dk_at dksX1_isSo_0 2 rfl rfl)
theorem dX1_isSo_3 : decode cX1_isSo 3 = .ok (.istore_n 2, 1) := dk_61 (dk_at dksX1_isSo_0 3 rfl rfl)
theorem dX1_isSo_4 : decode cX1_isSo 4 = .ok (.iload_n 2, 1) := dk_28 (dk_at dksX1_isSo_0 4 rfl rfl)
theorem dX1_isSo_5 : decode cX1_isSo 5 = .ok (.aload_n 0, 1) := dk_42 (dk_at dksX1_isSo_0 5 rfl rfl)
theorem dX1_isSo_6 : decode cX1_isSo 6 = .ok (.getfield 56, 3) := dk_180 0 56 (dk_at dksX1_isSo_0 6 rfl rfl)
theorem dX1_isSo_9 : decode cX1_isSo 9 = .ok (.invokeinterface 134 1, 5) := by decide +kernel
theorem dX1_isSo_14 : decode cX1_isSo 14 = .ok (.if_icmp .ge 29, 3) := dk_162 0 29 (dk_at dksX1_isSo_0 14 rfl rfl)
theorem dX1_isSo_17 : decode cX1_isSo 17 = .ok (.iload_n 1, 1) := dk_27 (dk_at dksX1_isSo_0 17 rfl rfl)
theorem dX1_isSo_18 : decode cX1_isSo 18 = .ok (.aload_n 0, 1) := dk_42 (dk_at dksX1_isSo_0 18 rfl rfl)
theorem dX1_isSo_19 : decode cX1_isSo 19 = .ok (.getfield 56, 3) := dk_180 0 56 (dk_at dksX1_isSo_0 19 rfl rfl)
theorem dX1_isSo_22 : decode cX1_isSo 22 = .ok (.iload_n 2, 1) := dk_28 (dk_at dksX1_isSo_0 22 rfl rfl)
theorem dX1_isSo_23 : decode cX1_isSo 23 = .ok (.invokeinterface 148 2, 5) := by decide +kernel
theorem dX1_isSo_28 : decode cX1_isSo 28 = .ok (.checkcast 283, 3) := dk_192 1 27 (dk_at dksX1_isSo_1 5 rfl rfl)
theorem dX1_isSo_31 : decode cX1_isSo 31 = .ok (.iconst 1, 1) := dk_4 (dk_at dksX1_isSo_1 8 rfl rfl)
theorem dX1_isSo_32 : decode cX1_isSo 32 = .ok (.iaload, 1) := dk_46 (dk_at dksX1_isSo_1 9 rfl rfl)
theorem dX1_isSo_33 : decode cX1_isSo 33 = .ok (.invokestatic 170, 3) := dk_184 0 170 (dk_at dksX1_isSo_1 10 rfl rfl)
theorem dX1_isSo_36 : decode cX1_isSo 36 = .ok (.istore_n 1, 1) := dk_60 (dk_at dksX1_isSo_1 13 rfl rfl)
theorem dX1_isSo_37 : decode cX1_isSo 37 = .ok (.iinc 2 1, 3) := dk_132 2 1 (dk_at dksX1_isSo_1 14 rfl rfl)
theorem dX1_isSo_40 : decode cX1_isSo 40 = .ok (.goto (-36), 3) := dk_167 255 220 (dk_at dksX1_isSo_1 17 rfl rfl)
theorem dX1_isSo_43 : decode cX1_isSo 43 = .ok (.iconst 0, 1) := dk_3 (dk_at dksX1_isSo_1 20 rfl rfl)
theorem dX1_isSo_44 : decode cX1_isSo 44 = .ok (.istore_n 2, 1) := dk_61 (dk_at dksX1_isSo_1 21 rfl rfl)
theorem dX1_isSo_45 : decode cX1_isSo 45 = .ok (.iload_n 2, 1) := dk_28 (dk_at dksX1_isSo_1 22 rfl rfl)
theorem dX1_isSo_46 : decode cX1_isSo 46 = .ok (.iload_n 1, 1) := dk_27 (dk_at dksX1_isSo_1 23 rfl rfl)
theorem dX1_isSo_47 : decode cX1_isSo 47 = .ok (.if_icmp .gt 82, 3) := dk_163 0 82 (dk_at dksX1_isSo_2 0 rfl rfl)
theorem dX1_isSo_50 : decode cX1_isSo 50 = .ok (.iconst 0, 1) := dk_3 (dk_at dksX1_isSo_2 3 rfl rfl)
theorem dX1_isSo_51 : decode cX1_isSo 51 = .ok (.istore_n 3, 1) := dk_62 (dk_at dksX1_isSo_2 4 rfl rfl)
theorem dX1_isSo_52 : decode cX1_isSo 52 = .ok (.iload_n 3, 1) := dk_29 (dk_at dksX1_isSo_2 5 rfl rfl)
theorem dX1_isSo_53 : decode cX1_isSo 53 = .ok (.aload_n 0, 1) := dk_42 (dk_at dksX1_isSo_2 6 rfl rfl)
theorem dX1_isSo_54 : decode cX1_isSo 54 = .ok (.getfield 56, 3) := dk_180 0 56 (dk_at dksX1_isSo_2 7 rfl rfl)
theorem dX1_isSo_57 : decode cX1_isSo 57 = .ok (.invokeinterface 134 1, 5) := by decide +kernel
theorem dX1_isSo_62 : decode cX1_isSo 62 = .ok (.if_icmp .ge 53, 3) := dk_162 0 53 (dk_at dksX1_isSo_2 15 rfl rfl)
theorem dX1_isSo_65 : decode cX1_isSo 65 = .ok (.aload_n 0, 1) := dk_42 (dk_at dksX1_isSo_2 18 rfl rfl)
theorem dX1_isSo_66 : decode cX1_isSo 66 = .ok (.getfield 56, 3) := dk_180 0 56 (dk_at dksX1_isSo_2 19 rfl rfl)
theorem dX1_isSo_69 : decode cX1_isSo 69 = .ok (.iload_n 3, 1) := dk_29 (dk_at dksX1_isSo_2 22 rfl rfl)
theorem dX1_isSo_70 : decode cX1_isSo 70 = .ok (.invokeinterface 148 2, 5) := by decide +kernel
theorem dX1_isSo_75 : decode cX1_isSo 75 = .ok (.checkcast 283, 3) := dk_192 1 27 (dk_at dksX1_isSo_3 5 rfl rfl)
theorem dX1_isSo_78 : decode cX1_isSo 78 = .ok (.astore 4, 2) := dk_58 4 (dk_at dksX1_isSo_3 8 rfl rfl)
theorem dX1_isSo_80 : decode cX1_isSo 80 = .ok (.aload 4, 2) := dk_25 4 (dk_at dksX1_isSo_3 10 rfl rfl)
theorem dX1_isSo_82 : decode cX1_isSo 82 = .ok (.iconst 1, 1) := dk_4 (dk_at dksX1_isSo_3 12 rfl rfl)
theorem dX1_isSo_83 : decode cX1_isSo 83 = .ok (.iaload, 1) := dk_46 (dk_at dksX1_isSo_3 13 rfl rfl)
theorem dX1_isSo_84 : decode cX1_isSo 84 = .ok (.iload_n 2, 1) := dk_28 (dk_at dksX1_isSo_3 14 rfl rfl)
theorem dX1_isSo_85 : decode cX1_isSo 85 = .ok (.if_icmp .ne 24, 3) := dk_160 0 24 (dk_at dksX1_isSo_3 15 rfl rfl)
theorem dX1_isSo_88 : decode cX1_isSo 88 = .ok (.aload_n 0, 1) := dk_42 (dk_at dksX1_isSo_3 18 rfl rfl)
theorem dX1_isSo_89 : decode cX1_isSo 89 = .ok (.getfield 35, 3) := dk_180 0 35 (dk_at dksX1_isSo_3 19 rfl rfl)
theorem dX1_isSo_92 : decode cX1_isSo 92 = .ok (.getfield 180, 3) := dk_180 0 180 (dk_at dksX1_isSo_4 0 rfl rfl)
theorem dX1_isSo_95 : decode cX1_isSo 95 = .ok (.aload 4, 2) := dk_25 4 (dk_at dksX1_isSo_4 3 rfl rfl)
theorem dX1_isSo_97 : decode cX1_isSo 97 = .ok (.iconst 0, 1) := dk_3 (dk_at dksX1_isSo_4 5 rfl rfl)
theorem dX1_isSo_98 : decode cX1_isSo 98 = .ok (.iaload, 1) := dk_46 (dk_at dksX1_isSo_4 6 rfl rfl)
theorem dX1_isSo_99 : decode cX1_isSo 99 = .ok (.iaload, 1) := dk_46 (dk_at dksX1_isSo_4 7 rfl rfl)
theorem dX1_isSo_100 : decode cX1_isSo 100 = .ok (.aload 4, 2) := dk_25 4 (dk_at dksX1_isSo_4 8 rfl rfl)
theorem dX1_isSo_102 : decode cX1_isSo 102 = .ok (.iconst 2, 1) := dk_5 (dk_at dksX1_isSo_4 10 rfl rfl)
theorem dX1_isSo_103 : decode cX1_isSo 103 = .ok (.iaload, 1) := dk_46 (dk_at dksX1_isSo_4 11 rfl rfl)
theorem dX1_isSo_104 : decode cX1_isSo 104 = .ok (.if_icmp .eq 5, 3) := dk_159 0 5 (dk_at dksX1_isSo_4 12 rfl rfl)
theorem dX1_isSo_107 : decode cX1_isSo 107 = .ok (.iconst 0, 1) := dk_3 (dk_at dksX1_isSo_4 15 rfl rfl)
theorem dX1_isSo_108 : decode cX1_isSo 108 = .ok (.ireturn, 1) := dk_172 (dk_at dksX1_isSo_4 16 rfl rfl)
theorem dX1_isSo_109 : decode cX1_isSo 109 = .ok (.iinc 3 1, 3) := dk_132 3 1 (dk_at dksX1_isSo_4 17 rfl rfl)
theorem dX1_isSo_112 : decode cX1_isSo 112 = .ok (.goto (-60), 3) := dk_167 255 196 (dk_at dksX1_isSo_4 20 rfl rfl)
theorem dX1_isSo_115 : decode cX1_isSo 115 = .ok (.aload_n 0, 1) := dk_42 (dk_at dksX1_isSo_4 23 rfl rfl)
theorem dX1_isSo_116 : decode cX1_isSo 116 = .ok (.getfield 35, 3) := dk_180 0 35 (dk_at dksX1_isSo_5 0 rfl rfl)
theorem dX1_isSo_119 : decode cX1_isSo 119 = .ok (.invokevirtual 251, 3) := dk_182 0 251 (dk_at dksX1_isSo_5 3 rfl rfl)
theorem dX1_isSo_122 : decode cX1_isSo 122 = .ok (.pop, 1) := dk_87 (dk_at dksX1_isSo_5 6 rfl rfl)
theorem dX1_isSo_123 : decode cX1_isSo 123 = .ok (.iinc 2 1, 3) := dk_132 2 1 (dk_at dksX1_isSo_5 7 rfl rfl)
theorem dX1_isSo_126 : decode cX1_isSo 126 = .ok (.goto (-81), 3) := dk_167 255 175 (dk_at dksX1_isSo_5 10 rfl rfl)
theorem dX1_isSo_129 : decode cX1_isSo 129 = .ok (.iconst 1, 1) := dk_4 (dk_at dksX1_isSo_5 13 rfl rfl)
theorem dX1_isSo_130 : decode cX1_isSo 130 = .ok (.ireturn, 1) := dk_172 (dk_at dksX1_isSo_5 14 rfl rfl)
abbrev cX1_others : ByteArray := prog_1_method_59_code
def yX1_others : MethodName := ⟨RX1, "others", "()Ljava/util/List;"⟩
def dkwX1_others_4 : List UInt8 := [167, 255, 172, 43, 176]
abbrev dktX1_others_4 : List UInt8 := dkwX1_others_4 ++ []
def dkwX1_others_3 : List UInt8 := [16, 100, 28, 104, 29, 96, 184, 1, 31, 185, 0, 213, 2, 0, 87, 132, 3, 1, 167, 255, 191, 132, 2, 1]
abbrev dktX1_others_3 : List UInt8 := dkwX1_others_3 ++ dktX1_others_4
def dkwX1_others_2 : List UInt8 := [180, 0, 35, 42, 180, 0, 31, 182, 0, 244, 180, 0, 167, 28, 29, 79, 42, 182, 1, 28, 153, 0, 19, 43]
abbrev dktX1_others_2 : List UInt8 := dkwX1_others_2 ++ dktX1_others_3
def dkwX1_others_1 : List UInt8 := [16, 60, 163, 0, 65, 29, 42, 180, 0, 31, 180, 0, 167, 28, 46, 160, 0, 6, 167, 0, 43, 42]
abbrev dktX1_others_1 : List UInt8 := dkwX1_others_1 ++ dktX1_others_2
def dkwX1_others_0 : List UInt8 := [187, 0, 49, 89, 183, 0, 51, 76, 3, 61, 28, 42, 180, 0, 22, 182, 0, 104, 162, 0, 79, 4, 62, 29]
abbrev dktX1_others_0 : List UInt8 := dkwX1_others_0 ++ dktX1_others_1
theorem dksX1_others_0 : cX1_others.data.toList.drop 0 = dktX1_others_0 := by decide +kernel
theorem dksX1_others_1 : cX1_others.data.toList.drop 24 = dktX1_others_1 := dk_seg dksX1_others_0 24 rfl rfl
theorem dksX1_others_2 : cX1_others.data.toList.drop 46 = dktX1_others_2 := dk_seg dksX1_others_1 22 rfl rfl
theorem dksX1_others_3 : cX1_others.data.toList.drop 70 = dktX1_others_3 := dk_seg dksX1_others_2 24 rfl rfl
theorem dksX1_others_4 : cX1_others.data.toList.drop 94 = dktX1_others_4 := dk_seg dksX1_others_3 24 rfl rfl
theorem dX1_others_0 : decode cX1_others 0 = .ok (.new 49, 3) := dk_187 0 49 (dk_at dksX1_others_0 0 rfl rfl)
theorem dX1_others_3 : decode cX1_others 3 = .ok (.dup, 1) := dk_89 (dk_at dksX1_others_0 3 rfl rfl)
theorem dX1_others_4 : decode cX1_others 4 = .ok (.invokespecial 51, 3) := dk_183 0 51 (dk_at dksX1_others_0 4 rfl rfl)
theorem dX1_others_7 : decode cX1_others 7 = .ok (.astore_n 1, 1) := dk_76 (dk_at dksX1_others_0 7 rfl rfl)
theorem dX1_others_8 : decode cX1_others 8 = .ok (.iconst 0, 1) := dk_3 (dk_at dksX1_others_0 8 rfl rfl)
theorem dX1_others_9 : decode cX1_others 9 = .ok (.istore_n 2, 1) := dk_61 (dk_at dksX1_others_0 9 rfl rfl)
theorem dX1_others_10 : decode cX1_others 10 = .ok (.iload_n 2, 1) := dk_28 (dk_at dksX1_others_0 10 rfl rfl)
theorem dX1_others_11 : decode cX1_others 11 = .ok (.aload_n 0, 1) := dk_42 (dk_at dksX1_others_0 11 rfl rfl)
theorem dX1_others_12 : decode cX1_others 12 = .ok (.getfield 22, 3) := dk_180 0 22 (dk_at dksX1_others_0 12 rfl rfl)
theorem dX1_others_15 : decode cX1_others 15 = .ok (.invokevirtual 104, 3) := dk_182 0 104 (dk_at dksX1_others_0 15 rfl rfl)
theorem dX1_others_18 : decode cX1_others 18 = .ok (.if_icmp .ge 79, 3) := dk_162 0 79 (dk_at dksX1_others_0 18 rfl rfl)
theorem dX1_others_21 : decode cX1_others 21 = .ok (.iconst 1, 1) := dk_4 (dk_at dksX1_others_0 21 rfl rfl)
theorem dX1_others_22 : decode cX1_others 22 = .ok (.istore_n 3, 1) := dk_62 (dk_at dksX1_others_0 22 rfl rfl)
theorem dX1_others_23 : decode cX1_others 23 = .ok (.iload_n 3, 1) := dk_29 (dk_at dksX1_others_0 23 rfl rfl)
theorem dX1_others_24 : decode cX1_others 24 = .ok (.bipush 60, 2) := dk_16 60 (dk_at dksX1_others_1 0 rfl rfl)
theorem dX1_others_26 : decode cX1_others 26 = .ok (.if_icmp .gt 65, 3) := dk_163 0 65 (dk_at dksX1_others_1 2 rfl rfl)
theorem dX1_others_29 : decode cX1_others 29 = .ok (.iload_n 3, 1) := dk_29 (dk_at dksX1_others_1 5 rfl rfl)
theorem dX1_others_30 : decode cX1_others 30 = .ok (.aload_n 0, 1) := dk_42 (dk_at dksX1_others_1 6 rfl rfl)
theorem dX1_others_31 : decode cX1_others 31 = .ok (.getfield 31, 3) := dk_180 0 31 (dk_at dksX1_others_1 7 rfl rfl)
theorem dX1_others_34 : decode cX1_others 34 = .ok (.getfield 167, 3) := dk_180 0 167 (dk_at dksX1_others_1 10 rfl rfl)
theorem dX1_others_37 : decode cX1_others 37 = .ok (.iload_n 2, 1) := dk_28 (dk_at dksX1_others_1 13 rfl rfl)
theorem dX1_others_38 : decode cX1_others 38 = .ok (.iaload, 1) := dk_46 (dk_at dksX1_others_1 14 rfl rfl)
theorem dX1_others_39 : decode cX1_others 39 = .ok (.if_icmp .ne 6, 3) := dk_160 0 6 (dk_at dksX1_others_1 15 rfl rfl)
theorem dX1_others_42 : decode cX1_others 42 = .ok (.goto 43, 3) := dk_167 0 43 (dk_at dksX1_others_1 18 rfl rfl)
theorem dX1_others_45 : decode cX1_others 45 = .ok (.aload_n 0, 1) := dk_42 (dk_at dksX1_others_1 21 rfl rfl)
theorem dX1_others_46 : decode cX1_others 46 = .ok (.getfield 35, 3) := dk_180 0 35 (dk_at dksX1_others_2 0 rfl rfl)
theorem dX1_others_49 : decode cX1_others 49 = .ok (.aload_n 0, 1) := dk_42 (dk_at dksX1_others_2 3 rfl rfl)
theorem dX1_others_50 : decode cX1_others 50 = .ok (.getfield 31, 3) := dk_180 0 31 (dk_at dksX1_others_2 4 rfl rfl)
theorem dX1_others_53 : decode cX1_others 53 = .ok (.invokevirtual 244, 3) := dk_182 0 244 (dk_at dksX1_others_2 7 rfl rfl)
theorem dX1_others_56 : decode cX1_others 56 = .ok (.getfield 167, 3) := dk_180 0 167 (dk_at dksX1_others_2 10 rfl rfl)
theorem dX1_others_59 : decode cX1_others 59 = .ok (.iload_n 2, 1) := dk_28 (dk_at dksX1_others_2 13 rfl rfl)
theorem dX1_others_60 : decode cX1_others 60 = .ok (.iload_n 3, 1) := dk_29 (dk_at dksX1_others_2 14 rfl rfl)
theorem dX1_others_61 : decode cX1_others 61 = .ok (.iastore, 1) := dk_79 (dk_at dksX1_others_2 15 rfl rfl)
theorem dX1_others_62 : decode cX1_others 62 = .ok (.aload_n 0, 1) := dk_42 (dk_at dksX1_others_2 16 rfl rfl)
theorem dX1_others_63 : decode cX1_others 63 = .ok (.invokevirtual 284, 3) := dk_182 1 28 (dk_at dksX1_others_2 17 rfl rfl)
theorem dX1_others_66 : decode cX1_others 66 = .ok (.ifCond .eq 19, 3) := dk_153 0 19 (dk_at dksX1_others_2 20 rfl rfl)
theorem dX1_others_69 : decode cX1_others 69 = .ok (.aload_n 1, 1) := dk_43 (dk_at dksX1_others_2 23 rfl rfl)
theorem dX1_others_70 : decode cX1_others 70 = .ok (.bipush 100, 2) := dk_16 100 (dk_at dksX1_others_3 0 rfl rfl)
theorem dX1_others_72 : decode cX1_others 72 = .ok (.iload_n 2, 1) := dk_28 (dk_at dksX1_others_3 2 rfl rfl)
theorem dX1_others_73 : decode cX1_others 73 = .ok (.imul, 1) := dk_104 (dk_at dksX1_others_3 3 rfl rfl)
theorem dX1_others_74 : decode cX1_others 74 = .ok (.iload_n 3, 1) := dk_29 (dk_at dksX1_others_3 4 rfl rfl)
theorem dX1_others_75 : decode cX1_others 75 = .ok (.iadd, 1) := dk_96 (dk_at dksX1_others_3 5 rfl rfl)
theorem dX1_others_76 : decode cX1_others 76 = .ok (.invokestatic 287, 3) := dk_184 1 31 (dk_at dksX1_others_3 6 rfl rfl)
theorem dX1_others_79 : decode cX1_others 79 = .ok (.invokeinterface 213 2, 5) := by decide +kernel
theorem dX1_others_84 : decode cX1_others 84 = .ok (.pop, 1) := dk_87 (dk_at dksX1_others_3 14 rfl rfl)
theorem dX1_others_85 : decode cX1_others 85 = .ok (.iinc 3 1, 3) := dk_132 3 1 (dk_at dksX1_others_3 15 rfl rfl)
theorem dX1_others_88 : decode cX1_others 88 = .ok (.goto (-65), 3) := dk_167 255 191 (dk_at dksX1_others_3 18 rfl rfl)
theorem dX1_others_91 : decode cX1_others 91 = .ok (.iinc 2 1, 3) := dk_132 2 1 (dk_at dksX1_others_3 21 rfl rfl)
theorem dX1_others_94 : decode cX1_others 94 = .ok (.goto (-84), 3) := dk_167 255 172 (dk_at dksX1_others_4 0 rfl rfl)
theorem dX1_others_97 : decode cX1_others 97 = .ok (.aload_n 1, 1) := dk_43 (dk_at dksX1_others_4 3 rfl rfl)
theorem dX1_others_98 : decode cX1_others 98 = .ok (.areturn, 1) := dk_176 (dk_at dksX1_others_4 4 rfl rfl)
abbrev cX1_next : ByteArray := prog_1_method_61_code
def yX1_next : MethodName := ⟨RX1, "next", "(I)I"⟩
def dkwX1_next_11 : List UInt8 := [21, 5, 172]
abbrev dktX1_next_11 : List UInt8 := dkwX1_next_11 ++ []
def dkwX1_next_10 : List UInt8 := [21, 6, 54, 4, 21, 7, 54, 5, 132, 6, 1, 167, 255, 148, 27, 154, 0, 8, 21, 4, 167, 0, 5]
abbrev dktX1_next_10 : List UInt8 := dkwX1_next_10 ++ dktX1_next_11
def dkwX1_next_9 : List UInt8 := [21, 9, 153, 0, 6, 132, 7, 1, 132, 8, 1, 167, 255, 190, 21, 7, 21, 5, 163, 0, 6, 167, 0, 11]
abbrev dktX1_next_9 : List UInt8 := dkwX1_next_9 ++ dktX1_next_10
def dkwX1_next_8 : List UInt8 := [45, 21, 8, 50, 21, 6, 46, 159, 0, 7, 4, 167, 0, 4, 3, 54, 9, 132, 10, 1, 167, 255, 217]
abbrev dktX1_next_8 : List UInt8 := dkwX1_next_8 ++ dktX1_next_9
def dkwX1_next_7 : List UInt8 := [54, 9, 3, 54, 10, 21, 10, 21, 8, 162, 0, 38, 21, 9, 153, 0, 33, 45, 21, 10, 50, 21, 6, 46]
abbrev dktX1_next_7 : List UInt8 := dkwX1_next_7 ++ dktX1_next_8
def dkwX1_next_6 : List UInt8 := [180, 0, 22, 182, 0, 89, 162, 0, 102, 3, 54, 7, 3, 54, 8, 21, 8, 45, 190, 162, 0, 65, 4]
abbrev dktX1_next_6 : List UInt8 := dkwX1_next_6 ++ dktX1_next_7
def dkwX1_next_5 : List UInt8 := [132, 5, 1, 167, 255, 229, 132, 4, 1, 167, 255, 155, 2, 54, 4, 3, 54, 5, 3, 54, 6, 21, 6, 42]
abbrev dktX1_next_5 : List UInt8 := dkwX1_next_5 ++ dktX1_next_6
def dkwX1_next_4 : List UInt8 := [16, 8, 162, 0, 26, 45, 21, 4, 50, 21, 5, 42, 180, 0, 35, 180, 0, 180, 21, 5, 46, 79]
abbrev dktX1_next_4 : List UInt8 := dkwX1_next_4 ++ dktX1_next_5
def dkwX1_next_3 : List UInt8 := [192, 0, 152, 182, 0, 154, 16, 100, 112, 79, 42, 180, 0, 35, 8, 182, 0, 226, 87, 3, 54, 5, 21, 5]
abbrev dktX1_next_3 : List UInt8 := dkwX1_next_3 ++ dktX1_next_4
def dkwX1_next_2 : List UInt8 := [21, 4, 185, 0, 148, 2, 0, 192, 0, 152, 182, 0, 154, 16, 100, 108, 44, 21, 4, 185, 0, 148, 2, 0]
abbrev dktX1_next_2 : List UInt8 := dkwX1_next_2 ++ dktX1_next_3
def dkwX1_next_1 : List UInt8 := [54, 4, 21, 4, 45, 190, 162, 0, 100, 42, 180, 0, 35, 42, 180, 0, 31, 182, 0, 244, 180, 0, 167, 44]
abbrev dktX1_next_1 : List UInt8 := dkwX1_next_1 ++ dktX1_next_2
def dkwX1_next_0 : List UInt8 := [27, 4, 184, 0, 196, 42, 182, 1, 35, 77, 44, 185, 0, 134, 1, 0, 16, 8, 197, 1, 2, 2, 78, 3]
abbrev dktX1_next_0 : List UInt8 := dkwX1_next_0 ++ dktX1_next_1
theorem dksX1_next_0 : cX1_next.data.toList.drop 0 = dktX1_next_0 := by decide +kernel
theorem dksX1_next_1 : cX1_next.data.toList.drop 24 = dktX1_next_1 := dk_seg dksX1_next_0 24 rfl rfl
theorem dksX1_next_2 : cX1_next.data.toList.drop 48 = dktX1_next_2 := dk_seg dksX1_next_1 24 rfl rfl
theorem dksX1_next_3 : cX1_next.data.toList.drop 72 = dktX1_next_3 := dk_seg dksX1_next_2 24 rfl rfl
theorem dksX1_next_4 : cX1_next.data.toList.drop 96 = dktX1_next_4 := dk_seg dksX1_next_3 24 rfl rfl
theorem dksX1_next_5 : cX1_next.data.toList.drop 118 = dktX1_next_5 := dk_seg dksX1_next_4 22 rfl rfl
theorem dksX1_next_6 : cX1_next.data.toList.drop 142 = dktX1_next_6 := dk_seg dksX1_next_5 24 rfl rfl
theorem dksX1_next_7 : cX1_next.data.toList.drop 165 = dktX1_next_7 := dk_seg dksX1_next_6 23 rfl rfl
theorem dksX1_next_8 : cX1_next.data.toList.drop 189 = dktX1_next_8 := dk_seg dksX1_next_7 24 rfl rfl
theorem dksX1_next_9 : cX1_next.data.toList.drop 212 = dktX1_next_9 := dk_seg dksX1_next_8 23 rfl rfl
theorem dksX1_next_10 : cX1_next.data.toList.drop 236 = dktX1_next_10 := dk_seg dksX1_next_9 24 rfl rfl
theorem dksX1_next_11 : cX1_next.data.toList.drop 259 = dktX1_next_11 := dk_seg dksX1_next_10 23 rfl rfl
theorem dX1_next_0 : decode cX1_next 0 = .ok (.iload_n 1, 1) := dk_27 (dk_at dksX1_next_0 0 rfl rfl)
theorem dX1_next_1 : decode cX1_next 1 = .ok (.iconst 1, 1) := dk_4 (dk_at dksX1_next_0 1 rfl rfl)
theorem dX1_next_2 : decode cX1_next 2 = .ok (.invokestatic 196, 3) := dk_184 0 196 (dk_at dksX1_next_0 2 rfl rfl)
theorem dX1_next_5 : decode cX1_next 5 = .ok (.aload_n 0, 1) := dk_42 (dk_at dksX1_next_0 5 rfl rfl)
theorem dX1_next_6 : decode cX1_next 6 = .ok (.invokevirtual 291, 3) := dk_182 1 35 (dk_at dksX1_next_0 6 rfl rfl)
theorem dX1_next_9 : decode cX1_next 9 = .ok (.astore_n 2, 1) := dk_77 (dk_at dksX1_next_0 9 rfl rfl)
theorem dX1_next_10 : decode cX1_next 10 = .ok (.aload_n 2, 1) := dk_44 (dk_at dksX1_next_0 10 rfl rfl)
theorem dX1_next_11 : decode cX1_next 11 = .ok (.invokeinterface 134 1, 5) := by decide +kernel
theorem dX1_next_16 : decode cX1_next 16 = .ok (.bipush 8, 2) := dk_16 8 (dk_at dksX1_next_0 16 rfl rfl)
theorem dX1_next_18 : decode cX1_next 18 = .ok (.multianewarray 258 2, 4) := by decide +kernel
theorem dX1_next_22 : decode cX1_next 22 = .ok (.astore_n 3, 1) := dk_78 (dk_at dksX1_next_0 22 rfl rfl)
theorem dX1_next_23 : decode cX1_next 23 = .ok (.iconst 0, 1) := dk_3 (dk_at dksX1_next_0 23 rfl rfl)
theorem dX1_next_24 : decode cX1_next 24 = .ok (.istore 4, 2) := dk_54 4 (dk_at dksX1_next_1 0 rfl rfl)
theorem dX1_next_26 : decode cX1_next 26 = .ok (.iload 4, 2) := dk_21 4 (dk_at dksX1_next_1 2 rfl rfl)
theorem dX1_next_28 : decode cX1_next 28 = .ok (.aload_n 3, 1) := dk_45 (dk_at dksX1_next_1 4 rfl rfl)
theorem dX1_next_29 : decode cX1_next 29 = .ok (.arraylength, 1) := dk_190 (dk_at dksX1_next_1 5 rfl rfl)
theorem dX1_next_30 : decode cX1_next 30 = .ok (.if_icmp .ge 100, 3) := dk_162 0 100 (dk_at dksX1_next_1 6 rfl rfl)
theorem dX1_next_33 : decode cX1_next 33 = .ok (.aload_n 0, 1) := dk_42 (dk_at dksX1_next_1 9 rfl rfl)
theorem dX1_next_34 : decode cX1_next 34 = .ok (.getfield 35, 3) := dk_180 0 35 (dk_at dksX1_next_1 10 rfl rfl)
theorem dX1_next_37 : decode cX1_next 37 = .ok (.aload_n 0, 1) := dk_42 (dk_at dksX1_next_1 13 rfl rfl)
theorem dX1_next_38 : decode cX1_next 38 = .ok (.getfield 31, 3) := dk_180 0 31 (dk_at dksX1_next_1 14 rfl rfl)
theorem dX1_next_41 : decode cX1_next 41 = .ok (.invokevirtual 244, 3) := dk_182 0 244 (dk_at dksX1_next_1 17 rfl rfl)
theorem dX1_next_44 : decode cX1_next 44 = .ok (.getfield 167, 3) := dk_180 0 167 (dk_at dksX1_next_1 20 rfl rfl)
theorem dX1_next_47 : decode cX1_next 47 = .ok (.aload_n 2, 1) := dk_44 (dk_at dksX1_next_1 23 rfl rfl)
theorem dX1_next_48 : decode cX1_next 48 = .ok (.iload 4, 2) := dk_21 4 (dk_at dksX1_next_2 0 rfl rfl)
theorem dX1_next_50 : decode cX1_next 50 = .ok (.invokeinterface 148 2, 5) := by decide +kernel
theorem dX1_next_55 : decode cX1_next 55 = .ok (.checkcast 152, 3) := dk_192 0 152 (dk_at dksX1_next_2 7 rfl rfl)
theorem dX1_next_58 : decode cX1_next 58 = .ok (.invokevirtual 154, 3) := dk_182 0 154 (dk_at dksX1_next_2 10 rfl rfl)
theorem dX1_next_61 : decode cX1_next 61 = .ok (.bipush 100, 2) := dk_16 100 (dk_at dksX1_next_2 13 rfl rfl)
theorem dX1_next_63 : decode cX1_next 63 = .ok (.idiv, 1) := dk_108 (dk_at dksX1_next_2 15 rfl rfl)
theorem dX1_next_64 : decode cX1_next 64 = .ok (.aload_n 2, 1) := dk_44 (dk_at dksX1_next_2 16 rfl rfl)
theorem dX1_next_65 : decode cX1_next 65 = .ok (.iload 4, 2) := dk_21 4 (dk_at dksX1_next_2 17 rfl rfl)
theorem dX1_next_67 : decode cX1_next 67 = .ok (.invokeinterface 148 2, 5) := by decide +kernel
theorem dX1_next_72 : decode cX1_next 72 = .ok (.checkcast 152, 3) := dk_192 0 152 (dk_at dksX1_next_3 0 rfl rfl)
theorem dX1_next_75 : decode cX1_next 75 = .ok (.invokevirtual 154, 3) := dk_182 0 154 (dk_at dksX1_next_3 3 rfl rfl)
theorem dX1_next_78 : decode cX1_next 78 = .ok (.bipush 100, 2) := dk_16 100 (dk_at dksX1_next_3 6 rfl rfl)
theorem dX1_next_80 : decode cX1_next 80 = .ok (.irem, 1) := dk_112 (dk_at dksX1_next_3 8 rfl rfl)
theorem dX1_next_81 : decode cX1_next 81 = .ok (.iastore, 1) := dk_79 (dk_at dksX1_next_3 9 rfl rfl)
theorem dX1_next_82 : decode cX1_next 82 = .ok (.aload_n 0, 1) := dk_42 (dk_at dksX1_next_3 10 rfl rfl)
theorem dX1_next_83 : decode cX1_next 83 = .ok (.getfield 35, 3) := dk_180 0 35 (dk_at dksX1_next_3 11 rfl rfl)
theorem dX1_next_86 : decode cX1_next 86 = .ok (.iconst 5, 1) := dk_8 (dk_at dksX1_next_3 14 rfl rfl)
theorem dX1_next_87 : decode cX1_next 87 = .ok (.invokevirtual 226, 3) := dk_182 0 226 (dk_at dksX1_next_3 15 rfl rfl)
theorem dX1_next_90 : decode cX1_next 90 = .ok (.pop, 1) := dk_87 (dk_at dksX1_next_3 18 rfl rfl)
theorem dX1_next_91 : decode cX1_next 91 = .ok (.iconst 0, 1) := dk_3 (dk_at dksX1_next_3 19 rfl rfl)
theorem dX1_next_92 : decode cX1_next 92 = .ok (.istore 5, 2) := dk_54 5 (dk_at dksX1_next_3 20 rfl rfl)
theorem dX1_next_94 : decode cX1_next 94 = .ok (.iload 5, 2) := dk_21 5 (dk_at dksX1_next_3 22 rfl rfl)
theorem dX1_next_96 : decode cX1_next 96 = .ok (.bipush 8, 2) := dk_16 8 (dk_at dksX1_next_4 0 rfl rfl)
theorem dX1_next_98 : decode cX1_next 98 = .ok (.if_icmp .ge 26, 3) := dk_162 0 26 (dk_at dksX1_next_4 2 rfl rfl)
theorem dX1_next_101 : decode cX1_next 101 = .ok (.aload_n 3, 1) := dk_45 (dk_at dksX1_next_4 5 rfl rfl)
theorem dX1_next_102 : decode cX1_next 102 = .ok (.iload 4, 2) := dk_21 4 (dk_at dksX1_next_4 6 rfl rfl)
theorem dX1_next_104 : decode cX1_next 104 = .ok (.aaload, 1) := dk_50 (dk_at dksX1_next_4 8 rfl rfl)
theorem dX1_next_105 : decode cX1_next 105 = .ok (.iload 5, 2) := dk_21 5 (dk_at dksX1_next_4 9 rfl rfl)
theorem dX1_next_107 : decode cX1_next 107 = .ok (.aload_n 0, 1) := dk_42 (dk_at dksX1_next_4 11 rfl rfl)
theorem dX1_next_108 : decode cX1_next 108 = .ok (.getfield 35, 3) := dk_180 0 35 (dk_at dksX1_next_4 12 rfl rfl)
theorem dX1_next_111 : decode cX1_next 111 = .ok (.getfield 180, 3) := dk_180 0 180 (dk_at dksX1_next_4 15 rfl rfl)
theorem dX1_next_114 : decode cX1_next 114 = .ok (.iload 5, 2) := dk_21 5 (dk_at dksX1_next_4 18 rfl rfl)
theorem dX1_next_116 : decode cX1_next 116 = .ok (.iaload, 1) := dk_46 (dk_at dksX1_next_4 20 rfl rfl)
theorem dX1_next_117 : decode cX1_next 117 = .ok (.iastore, 1) := dk_79 (dk_at dksX1_next_4 21 rfl rfl)
theorem dX1_next_118 : decode cX1_next 118 = .ok (.iinc 5 1, 3) := dk_132 5 1 (dk_at dksX1_next_5 0 rfl rfl)
theorem dX1_next_121 : decode cX1_next 121 = .ok (.goto (-27), 3) := dk_167 255 229 (dk_at dksX1_next_5 3 rfl rfl)
theorem dX1_next_124 : decode cX1_next 124 = .ok (.iinc 4 1, 3) := dk_132 4 1 (dk_at dksX1_next_5 6 rfl rfl)
theorem dX1_next_127 : decode cX1_next 127 = .ok (.goto (-101), 3) := dk_167 255 155 (dk_at dksX1_next_5 9 rfl rfl)
theorem dX1_next_130 : decode cX1_next 130 = .ok (.iconst (-1), 1) := dk_2 (dk_at dksX1_next_5 12 rfl rfl)
theorem dX1_next_131 : decode cX1_next 131 = .ok (.istore 4, 2) := dk_54 4 (dk_at dksX1_next_5 13 rfl rfl)
theorem dX1_next_133 : decode cX1_next 133 = .ok (.iconst 0, 1) := dk_3 (dk_at dksX1_next_5 15 rfl rfl)
theorem dX1_next_134 : decode cX1_next 134 = .ok (.istore 5, 2) := dk_54 5 (dk_at dksX1_next_5 16 rfl rfl)
theorem dX1_next_136 : decode cX1_next 136 = .ok (.iconst 0, 1) := dk_3 (dk_at dksX1_next_5 18 rfl rfl)
theorem dX1_next_137 : decode cX1_next 137 = .ok (.istore 6, 2) := dk_54 6 (dk_at dksX1_next_5 19 rfl rfl)
theorem dX1_next_139 : decode cX1_next 139 = .ok (.iload 6, 2) := dk_21 6 (dk_at dksX1_next_5 21 rfl rfl)
theorem dX1_next_141 : decode cX1_next 141 = .ok (.aload_n 0, 1) := dk_42 (dk_at dksX1_next_5 23 rfl rfl)
theorem dX1_next_142 : decode cX1_next 142 = .ok (.getfield 22, 3) := dk_180 0 22 (dk_at dksX1_next_6 0 rfl rfl)
theorem dX1_next_145 : decode cX1_next 145 = .ok (.invokevirtual 89, 3) := dk_182 0 89 (dk_at dksX1_next_6 3 rfl rfl)
theorem dX1_next_148 : decode cX1_next 148 = .ok (.if_icmp .ge 102, 3) := dk_162 0 102 (dk_at dksX1_next_6 6 rfl rfl)
theorem dX1_next_151 : decode cX1_next 151 = .ok (.iconst 0, 1) := dk_3 (dk_at dksX1_next_6 9 rfl rfl)
theorem dX1_next_152 : decode cX1_next 152 = .ok (.istore 7, 2) := dk_54 7 (dk_at dksX1_next_6 10 rfl rfl)
theorem dX1_next_154 : decode cX1_next 154 = .ok (.iconst 0, 1) := dk_3 (dk_at dksX1_next_6 12 rfl rfl)
theorem dX1_next_155 : decode cX1_next 155 = .ok (.istore 8, 2) := dk_54 8 (dk_at dksX1_next_6 13 rfl rfl)
theorem dX1_next_157 : decode cX1_next 157 = .ok (.iload 8, 2) := dk_21 8 (dk_at dksX1_next_6 15 rfl rfl)
theorem dX1_next_159 : decode cX1_next 159 = .ok (.aload_n 3, 1) := dk_45 (dk_at dksX1_next_6 17 rfl rfl)
theorem dX1_next_160 : decode cX1_next 160 = .ok (.arraylength, 1) := dk_190 (dk_at dksX1_next_6 18 rfl rfl)
theorem dX1_next_161 : decode cX1_next 161 = .ok (.if_icmp .ge 65, 3) := dk_162 0 65 (dk_at dksX1_next_6 19 rfl rfl)
theorem dX1_next_164 : decode cX1_next 164 = .ok (.iconst 1, 1) := dk_4 (dk_at dksX1_next_6 22 rfl rfl)
theorem dX1_next_165 : decode cX1_next 165 = .ok (.istore 9, 2) := dk_54 9 (dk_at dksX1_next_7 0 rfl rfl)
theorem dX1_next_167 : decode cX1_next 167 = .ok (.iconst 0, 1) := dk_3 (dk_at dksX1_next_7 2 rfl rfl)
theorem dX1_next_168 : decode cX1_next 168 = .ok (.istore 10, 2) := dk_54 10 (dk_at dksX1_next_7 3 rfl rfl)
theorem dX1_next_170 : decode cX1_next 170 = .ok (.iload 10, 2) := dk_21 10 (dk_at dksX1_next_7 5 rfl rfl)
theorem dX1_next_172 : decode cX1_next 172 = .ok (.iload 8, 2) := dk_21 8 (dk_at dksX1_next_7 7 rfl rfl)
theorem dX1_next_174 : decode cX1_next 174 = .ok (.if_icmp .ge 38, 3) := dk_162 0 38 (dk_at dksX1_next_7 9 rfl rfl)
theorem dX1_next_177 : decode cX1_next 177 = .ok (.iload 9, 2) := dk_21 9 (dk_at dksX1_next_7 12 rfl rfl)
theorem dX1_next_179 : decode cX1_next 179 = .ok (.ifCond .eq 33, 3) := dk_153 0 33 (dk_at dksX1_next_7 14 rfl rfl)
theorem dX1_next_182 : decode cX1_next 182 = .ok (.aload_n 3, 1) := dk_45 (dk_at dksX1_next_7 17 rfl rfl)
theorem dX1_next_183 : decode cX1_next 183 = .ok (.iload 10, 2) := dk_21 10 (dk_at dksX1_next_7 18 rfl rfl)
theorem dX1_next_185 : decode cX1_next 185 = .ok (.aaload, 1) := dk_50 (dk_at dksX1_next_7 20 rfl rfl)
theorem dX1_next_186 : decode cX1_next 186 = .ok (.iload 6, 2) := dk_21 6 (dk_at dksX1_next_7 21 rfl rfl)
theorem dX1_next_188 : decode cX1_next 188 = .ok (.iaload, 1) := dk_46 (dk_at dksX1_next_7 23 rfl rfl)
theorem dX1_next_189 : decode cX1_next 189 = .ok (.aload_n 3, 1) := dk_45 (dk_at dksX1_next_8 0 rfl rfl)
theorem dX1_next_190 : decode cX1_next 190 = .ok (.iload 8, 2) := dk_21 8 (dk_at dksX1_next_8 1 rfl rfl)
theorem dX1_next_192 : decode cX1_next 192 = .ok (.aaload, 1) := dk_50 (dk_at dksX1_next_8 3 rfl rfl)
theorem dX1_next_193 : decode cX1_next 193 = .ok (.iload 6, 2) := dk_21 6 (dk_at dksX1_next_8 4 rfl rfl)
theorem dX1_next_195 : decode cX1_next 195 = .ok (.iaload, 1) := dk_46 (dk_at dksX1_next_8 6 rfl rfl)
theorem dX1_next_196 : decode cX1_next 196 = .ok (.if_icmp .eq 7, 3) := dk_159 0 7 (dk_at dksX1_next_8 7 rfl rfl)
theorem dX1_next_199 : decode cX1_next 199 = .ok (.iconst 1, 1) := dk_4 (dk_at dksX1_next_8 10 rfl rfl)
theorem dX1_next_200 : decode cX1_next 200 = .ok (.goto 4, 3) := dk_167 0 4 (dk_at dksX1_next_8 11 rfl rfl)
theorem dX1_next_203 : decode cX1_next 203 = .ok (.iconst 0, 1) := dk_3 (dk_at dksX1_next_8 14 rfl rfl)
theorem dX1_next_204 : decode cX1_next 204 = .ok (.istore 9, 2) := dk_54 9 (dk_at dksX1_next_8 15 rfl rfl)
theorem dX1_next_206 : decode cX1_next 206 = .ok (.iinc 10 1, 3) := dk_132 10 1 (dk_at dksX1_next_8 17 rfl rfl)
theorem dX1_next_209 : decode cX1_next 209 = .ok (.goto (-39), 3) := dk_167 255 217 (dk_at dksX1_next_8 20 rfl rfl)
theorem dX1_next_212 : decode cX1_next 212 = .ok (.iload 9, 2) := dk_21 9 (dk_at dksX1_next_9 0 rfl rfl)
theorem dX1_next_214 : decode cX1_next 214 = .ok (.ifCond .eq 6, 3) := dk_153 0 6 (dk_at dksX1_next_9 2 rfl rfl)
theorem dX1_next_217 : decode cX1_next 217 = .ok (.iinc 7 1, 3) := dk_132 7 1 (dk_at dksX1_next_9 5 rfl rfl)
theorem dX1_next_220 : decode cX1_next 220 = .ok (.iinc 8 1, 3) := dk_132 8 1 (dk_at dksX1_next_9 8 rfl rfl)
theorem dX1_next_223 : decode cX1_next 223 = .ok (.goto (-66), 3) := dk_167 255 190 (dk_at dksX1_next_9 11 rfl rfl)
theorem dX1_next_226 : decode cX1_next 226 = .ok (.iload 7, 2) := dk_21 7 (dk_at dksX1_next_9 14 rfl rfl)
theorem dX1_next_228 : decode cX1_next 228 = .ok (.iload 5, 2) := dk_21 5 (dk_at dksX1_next_9 16 rfl rfl)
theorem dX1_next_230 : decode cX1_next 230 = .ok (.if_icmp .gt 6, 3) := dk_163 0 6 (dk_at dksX1_next_9 18 rfl rfl)
theorem dX1_next_233 : decode cX1_next 233 = .ok (.goto 11, 3) := dk_167 0 11 (dk_at dksX1_next_9 21 rfl rfl)
theorem dX1_next_236 : decode cX1_next 236 = .ok (.iload 6, 2) := dk_21 6 (dk_at dksX1_next_10 0 rfl rfl)
theorem dX1_next_238 : decode cX1_next 238 = .ok (.istore 4, 2) := dk_54 4 (dk_at dksX1_next_10 2 rfl rfl)
theorem dX1_next_240 : decode cX1_next 240 = .ok (.iload 7, 2) := dk_21 7 (dk_at dksX1_next_10 4 rfl rfl)
theorem dX1_next_242 : decode cX1_next 242 = .ok (.istore 5, 2) := dk_54 5 (dk_at dksX1_next_10 6 rfl rfl)
theorem dX1_next_244 : decode cX1_next 244 = .ok (.iinc 6 1, 3) := dk_132 6 1 (dk_at dksX1_next_10 8 rfl rfl)
theorem dX1_next_247 : decode cX1_next 247 = .ok (.goto (-108), 3) := dk_167 255 148 (dk_at dksX1_next_10 11 rfl rfl)
theorem dX1_next_250 : decode cX1_next 250 = .ok (.iload_n 1, 1) := dk_27 (dk_at dksX1_next_10 14 rfl rfl)
theorem dX1_next_251 : decode cX1_next 251 = .ok (.ifCond .ne 8, 3) := dk_154 0 8 (dk_at dksX1_next_10 15 rfl rfl)
theorem dX1_next_254 : decode cX1_next 254 = .ok (.iload 4, 2) := dk_21 4 (dk_at dksX1_next_10 18 rfl rfl)
theorem dX1_next_256 : decode cX1_next 256 = .ok (.goto 5, 3) := dk_167 0 5 (dk_at dksX1_next_10 20 rfl rfl)
theorem dX1_next_259 : decode cX1_next 259 = .ok (.iload 5, 2) := dk_21 5 (dk_at dksX1_next_11 0 rfl rfl)
theorem dX1_next_261 : decode cX1_next 261 = .ok (.ireturn, 1) := dk_172 (dk_at dksX1_next_11 2 rfl rfl)
abbrev cX1_byDamp : ByteArray := prog_1_method_62_code
def yX1_byDamp : MethodName := ⟨RX1, "byDamp", "(III)I"⟩
def dkwX1_byDamp_6 : List UInt8 := [153, 0, 10, 21, 4, 21, 6, 96, 54, 4, 132, 5, 1, 167, 255, 140, 21, 4, 172]
abbrev dktX1_byDamp_6 : List UInt8 := dkwX1_byDamp_6 ++ []
def dkwX1_byDamp_5 : List UInt8 := [180, 0, 35, 182, 0, 251, 87, 132, 7, 1, 167, 255, 193, 42, 180, 0, 35, 180, 0, 116, 27, 184, 0, 183]
abbrev dktX1_byDamp_5 : List UInt8 := dkwX1_byDamp_5 ++ dktX1_byDamp_6
def dkwX1_byDamp_4 : List UInt8 := [21, 5, 21, 7, 184, 0, 183, 153, 0, 7, 29, 167, 0, 7, 16, 10, 29, 100, 104, 54, 6, 42]
abbrev dktX1_byDamp_4 : List UInt8 := dkwX1_byDamp_4 ++ dktX1_byDamp_5
def dkwX1_byDamp_3 : List UInt8 := [180, 0, 35, 21, 5, 21, 7, 184, 0, 183, 153, 0, 8, 16, 9, 167, 0, 4, 3, 181, 1, 39, 21, 6]
abbrev dktX1_byDamp_3 : List UInt8 := dkwX1_byDamp_3 ++ dktX1_byDamp_4
def dkwX1_byDamp_2 : List UInt8 := [54, 6, 42, 180, 0, 35, 42, 180, 0, 31, 182, 0, 244, 87, 3, 54, 7, 21, 7, 28, 162, 0, 63, 42]
abbrev dktX1_byDamp_2 : List UInt8 := dkwX1_byDamp_2 ++ dktX1_byDamp_3
def dkwX1_byDamp_1 : List UInt8 := [4, 167, 0, 4, 3, 184, 0, 62, 3, 54, 4, 3, 54, 5, 21, 5, 4, 28, 120, 162, 0, 114, 4]
abbrev dktX1_byDamp_1 : List UInt8 := dkwX1_byDamp_1 ++ dktX1_byDamp_2
def dkwX1_byDamp_0 : List UInt8 := [42, 27, 182, 0, 173, 28, 4, 8, 184, 0, 139, 153, 0, 17, 29, 3, 16, 10, 184, 0, 139, 153, 0, 7]
abbrev dktX1_byDamp_0 : List UInt8 := dkwX1_byDamp_0 ++ dktX1_byDamp_1
theorem dksX1_byDamp_0 : cX1_byDamp.data.toList.drop 0 = dktX1_byDamp_0 := by decide +kernel
theorem dksX1_byDamp_1 : cX1_byDamp.data.toList.drop 24 = dktX1_byDamp_1 := dk_seg dksX1_byDamp_0 24 rfl rfl
theorem dksX1_byDamp_2 : cX1_byDamp.data.toList.drop 47 = dktX1_byDamp_2 := dk_seg dksX1_byDamp_1 23 rfl rfl
theorem dksX1_byDamp_3 : cX1_byDamp.data.toList.drop 71 = dktX1_byDamp_3 := dk_seg dksX1_byDamp_2 24 rfl rfl
theorem dksX1_byDamp_4 : cX1_byDamp.data.toList.drop 95 = dktX1_byDamp_4 := dk_seg dksX1_byDamp_3 24 rfl rfl
theorem dksX1_byDamp_5 : cX1_byDamp.data.toList.drop 117 = dktX1_byDamp_5 := dk_seg dksX1_byDamp_4 22 rfl rfl
theorem dksX1_byDamp_6 : cX1_byDamp.data.toList.drop 141 = dktX1_byDamp_6 := dk_seg dksX1_byDamp_5 24 rfl rfl
theorem dX1_byDamp_0 : decode cX1_byDamp 0 = .ok (.aload_n 0, 1) := dk_42 (dk_at dksX1_byDamp_0 0 rfl rfl)
theorem dX1_byDamp_1 : decode cX1_byDamp 1 = .ok (.iload_n 1, 1) := dk_27 (dk_at dksX1_byDamp_0 1 rfl rfl)
theorem dX1_byDamp_2 : decode cX1_byDamp 2 = .ok (.invokevirtual 173, 3) := dk_182 0 173 (dk_at dksX1_byDamp_0 2 rfl rfl)
theorem dX1_byDamp_5 : decode cX1_byDamp 5 = .ok (.iload_n 2, 1) := dk_28 (dk_at dksX1_byDamp_0 5 rfl rfl)
theorem dX1_byDamp_6 : decode cX1_byDamp 6 = .ok (.iconst 1, 1) := dk_4 (dk_at dksX1_byDamp_0 6 rfl rfl)
theorem dX1_byDamp_7 : decode cX1_byDamp 7 = .ok (.iconst 5, 1) := dk_8 (dk_at dksX1_byDamp_0 7 rfl rfl)
theorem dX1_byDamp_8 : decode cX1_byDamp 8 = .ok (.invokestatic 139, 3) := dk_184 0 139 (dk_at dksX1_byDamp_0 8 rfl rfl)
theorem dX1_byDamp_11 : decode cX1_byDamp 11 = .ok (.ifCond .eq 17, 3) := dk_153 0 17 (dk_at dksX1_byDamp_0 11 rfl rfl)
theorem dX1_byDamp_14 : decode cX1_byDamp 14 = .ok (.iload_n 3, 1) := dk_29 (dk_at dksX1_byDamp_0 14 rfl rfl)
theorem dX1_byDamp_15 : decode cX1_byDamp 15 = .ok (.iconst 0, 1) := dk_3 (dk_at dksX1_byDamp_0 15 rfl rfl)
theorem dX1_byDamp_16 : decode cX1_byDamp 16 = .ok (.bipush 10, 2) := dk_16 10 (dk_at dksX1_byDamp_0 16 rfl rfl)
theorem dX1_byDamp_18 : decode cX1_byDamp 18 = .ok (.invokestatic 139, 3) := dk_184 0 139 (dk_at dksX1_byDamp_0 18 rfl rfl)
theorem dX1_byDamp_21 : decode cX1_byDamp 21 = .ok (.ifCond .eq 7, 3) := dk_153 0 7 (dk_at dksX1_byDamp_0 21 rfl rfl)
theorem dX1_byDamp_24 : decode cX1_byDamp 24 = .ok (.iconst 1, 1) := dk_4 (dk_at dksX1_byDamp_1 0 rfl rfl)
theorem dX1_byDamp_25 : decode cX1_byDamp 25 = .ok (.goto 4, 3) := dk_167 0 4 (dk_at dksX1_byDamp_1 1 rfl rfl)
theorem dX1_byDamp_28 : decode cX1_byDamp 28 = .ok (.iconst 0, 1) := dk_3 (dk_at dksX1_byDamp_1 4 rfl rfl)
theorem dX1_byDamp_29 : decode cX1_byDamp 29 = .ok (.invokestatic 62, 3) := dk_184 0 62 (dk_at dksX1_byDamp_1 5 rfl rfl)
theorem dX1_byDamp_32 : decode cX1_byDamp 32 = .ok (.iconst 0, 1) := dk_3 (dk_at dksX1_byDamp_1 8 rfl rfl)
theorem dX1_byDamp_33 : decode cX1_byDamp 33 = .ok (.istore 4, 2) := dk_54 4 (dk_at dksX1_byDamp_1 9 rfl rfl)
theorem dX1_byDamp_35 : decode cX1_byDamp 35 = .ok (.iconst 0, 1) := dk_3 (dk_at dksX1_byDamp_1 11 rfl rfl)
theorem dX1_byDamp_36 : decode cX1_byDamp 36 = .ok (.istore 5, 2) := dk_54 5 (dk_at dksX1_byDamp_1 12 rfl rfl)
theorem dX1_byDamp_38 : decode cX1_byDamp 38 = .ok (.iload 5, 2) := dk_21 5 (dk_at dksX1_byDamp_1 14 rfl rfl)
theorem dX1_byDamp_40 : decode cX1_byDamp 40 = .ok (.iconst 1, 1) := dk_4 (dk_at dksX1_byDamp_1 16 rfl rfl)
theorem dX1_byDamp_41 : decode cX1_byDamp 41 = .ok (.iload_n 2, 1) := dk_28 (dk_at dksX1_byDamp_1 17 rfl rfl)
theorem dX1_byDamp_42 : decode cX1_byDamp 42 = .ok (.ishl, 1) := dk_120 (dk_at dksX1_byDamp_1 18 rfl rfl)
theorem dX1_byDamp_43 : decode cX1_byDamp 43 = .ok (.if_icmp .ge 114, 3) := dk_162 0 114 (dk_at dksX1_byDamp_1 19 rfl rfl)
theorem dX1_byDamp_46 : decode cX1_byDamp 46 = .ok (.iconst 1, 1) := dk_4 (dk_at dksX1_byDamp_1 22 rfl rfl)
theorem dX1_byDamp_47 : decode cX1_byDamp 47 = .ok (.istore 6, 2) := dk_54 6 (dk_at dksX1_byDamp_2 0 rfl rfl)
theorem dX1_byDamp_49 : decode cX1_byDamp 49 = .ok (.aload_n 0, 1) := dk_42 (dk_at dksX1_byDamp_2 2 rfl rfl)
theorem dX1_byDamp_50 : decode cX1_byDamp 50 = .ok (.getfield 35, 3) := dk_180 0 35 (dk_at dksX1_byDamp_2 3 rfl rfl)
theorem dX1_byDamp_53 : decode cX1_byDamp 53 = .ok (.aload_n 0, 1) := dk_42 (dk_at dksX1_byDamp_2 6 rfl rfl)
theorem dX1_byDamp_54 : decode cX1_byDamp 54 = .ok (.getfield 31, 3) := dk_180 0 31 (dk_at dksX1_byDamp_2 7 rfl rfl)
theorem dX1_byDamp_57 : decode cX1_byDamp 57 = .ok (.invokevirtual 244, 3) := dk_182 0 244 (dk_at dksX1_byDamp_2 10 rfl rfl)
theorem dX1_byDamp_60 : decode cX1_byDamp 60 = .ok (.pop, 1) := dk_87 (dk_at dksX1_byDamp_2 13 rfl rfl)
theorem dX1_byDamp_61 : decode cX1_byDamp 61 = .ok (.iconst 0, 1) := dk_3 (dk_at dksX1_byDamp_2 14 rfl rfl)
theorem dX1_byDamp_62 : decode cX1_byDamp 62 = .ok (.istore 7, 2) := dk_54 7 (dk_at dksX1_byDamp_2 15 rfl rfl)
theorem dX1_byDamp_64 : decode cX1_byDamp 64 = .ok (.iload 7, 2) := dk_21 7 (dk_at dksX1_byDamp_2 17 rfl rfl)
theorem dX1_byDamp_66 : decode cX1_byDamp 66 = .ok (.iload_n 2, 1) := dk_28 (dk_at dksX1_byDamp_2 19 rfl rfl)
theorem dX1_byDamp_67 : decode cX1_byDamp 67 = .ok (.if_icmp .ge 63, 3) := dk_162 0 63 (dk_at dksX1_byDamp_2 20 rfl rfl)
theorem dX1_byDamp_70 : decode cX1_byDamp 70 = .ok (.aload_n 0, 1) := dk_42 (dk_at dksX1_byDamp_2 23 rfl rfl)
theorem dX1_byDamp_71 : decode cX1_byDamp 71 = .ok (.getfield 35, 3) := dk_180 0 35 (dk_at dksX1_byDamp_3 0 rfl rfl)
theorem dX1_byDamp_74 : decode cX1_byDamp 74 = .ok (.iload 5, 2) := dk_21 5 (dk_at dksX1_byDamp_3 3 rfl rfl)
theorem dX1_byDamp_76 : decode cX1_byDamp 76 = .ok (.iload 7, 2) := dk_21 7 (dk_at dksX1_byDamp_3 5 rfl rfl)
theorem dX1_byDamp_78 : decode cX1_byDamp 78 = .ok (.invokestatic 183, 3) := dk_184 0 183 (dk_at dksX1_byDamp_3 7 rfl rfl)
theorem dX1_byDamp_81 : decode cX1_byDamp 81 = .ok (.ifCond .eq 8, 3) := dk_153 0 8 (dk_at dksX1_byDamp_3 10 rfl rfl)
theorem dX1_byDamp_84 : decode cX1_byDamp 84 = .ok (.bipush 9, 2) := dk_16 9 (dk_at dksX1_byDamp_3 13 rfl rfl)
theorem dX1_byDamp_86 : decode cX1_byDamp 86 = .ok (.goto 4, 3) := dk_167 0 4 (dk_at dksX1_byDamp_3 15 rfl rfl)
theorem dX1_byDamp_89 : decode cX1_byDamp 89 = .ok (.iconst 0, 1) := dk_3 (dk_at dksX1_byDamp_3 18 rfl rfl)
theorem dX1_byDamp_90 : decode cX1_byDamp 90 = .ok (.putfield 295, 3) := dk_181 1 39 (dk_at dksX1_byDamp_3 19 rfl rfl)
theorem dX1_byDamp_93 : decode cX1_byDamp 93 = .ok (.iload 6, 2) := dk_21 6 (dk_at dksX1_byDamp_3 22 rfl rfl)
theorem dX1_byDamp_95 : decode cX1_byDamp 95 = .ok (.iload 5, 2) := dk_21 5 (dk_at dksX1_byDamp_4 0 rfl rfl)
theorem dX1_byDamp_97 : decode cX1_byDamp 97 = .ok (.iload 7, 2) := dk_21 7 (dk_at dksX1_byDamp_4 2 rfl rfl)
theorem dX1_byDamp_99 : decode cX1_byDamp 99 = .ok (.invokestatic 183, 3) := dk_184 0 183 (dk_at dksX1_byDamp_4 4 rfl rfl)
theorem dX1_byDamp_102 : decode cX1_byDamp 102 = .ok (.ifCond .eq 7, 3) := dk_153 0 7 (dk_at dksX1_byDamp_4 7 rfl rfl)
theorem dX1_byDamp_105 : decode cX1_byDamp 105 = .ok (.iload_n 3, 1) := dk_29 (dk_at dksX1_byDamp_4 10 rfl rfl)
theorem dX1_byDamp_106 : decode cX1_byDamp 106 = .ok (.goto 7, 3) := dk_167 0 7 (dk_at dksX1_byDamp_4 11 rfl rfl)
theorem dX1_byDamp_109 : decode cX1_byDamp 109 = .ok (.bipush 10, 2) := dk_16 10 (dk_at dksX1_byDamp_4 14 rfl rfl)
theorem dX1_byDamp_111 : decode cX1_byDamp 111 = .ok (.iload_n 3, 1) := dk_29 (dk_at dksX1_byDamp_4 16 rfl rfl)
theorem dX1_byDamp_112 : decode cX1_byDamp 112 = .ok (.isub, 1) := dk_100 (dk_at dksX1_byDamp_4 17 rfl rfl)
theorem dX1_byDamp_113 : decode cX1_byDamp 113 = .ok (.imul, 1) := dk_104 (dk_at dksX1_byDamp_4 18 rfl rfl)
theorem dX1_byDamp_114 : decode cX1_byDamp 114 = .ok (.istore 6, 2) := dk_54 6 (dk_at dksX1_byDamp_4 19 rfl rfl)
theorem dX1_byDamp_116 : decode cX1_byDamp 116 = .ok (.aload_n 0, 1) := dk_42 (dk_at dksX1_byDamp_4 21 rfl rfl)
theorem dX1_byDamp_117 : decode cX1_byDamp 117 = .ok (.getfield 35, 3) := dk_180 0 35 (dk_at dksX1_byDamp_5 0 rfl rfl)
theorem dX1_byDamp_120 : decode cX1_byDamp 120 = .ok (.invokevirtual 251, 3) := dk_182 0 251 (dk_at dksX1_byDamp_5 3 rfl rfl)
theorem dX1_byDamp_123 : decode cX1_byDamp 123 = .ok (.pop, 1) := dk_87 (dk_at dksX1_byDamp_5 6 rfl rfl)
theorem dX1_byDamp_124 : decode cX1_byDamp 124 = .ok (.iinc 7 1, 3) := dk_132 7 1 (dk_at dksX1_byDamp_5 7 rfl rfl)
theorem dX1_byDamp_127 : decode cX1_byDamp 127 = .ok (.goto (-63), 3) := dk_167 255 193 (dk_at dksX1_byDamp_5 10 rfl rfl)
theorem dX1_byDamp_130 : decode cX1_byDamp 130 = .ok (.aload_n 0, 1) := dk_42 (dk_at dksX1_byDamp_5 13 rfl rfl)
theorem dX1_byDamp_131 : decode cX1_byDamp 131 = .ok (.getfield 35, 3) := dk_180 0 35 (dk_at dksX1_byDamp_5 14 rfl rfl)
theorem dX1_byDamp_134 : decode cX1_byDamp 134 = .ok (.getfield 116, 3) := dk_180 0 116 (dk_at dksX1_byDamp_5 17 rfl rfl)
theorem dX1_byDamp_137 : decode cX1_byDamp 137 = .ok (.iload_n 1, 1) := dk_27 (dk_at dksX1_byDamp_5 20 rfl rfl)
theorem dX1_byDamp_138 : decode cX1_byDamp 138 = .ok (.invokestatic 183, 3) := dk_184 0 183 (dk_at dksX1_byDamp_5 21 rfl rfl)
theorem dX1_byDamp_141 : decode cX1_byDamp 141 = .ok (.ifCond .eq 10, 3) := dk_153 0 10 (dk_at dksX1_byDamp_6 0 rfl rfl)
theorem dX1_byDamp_144 : decode cX1_byDamp 144 = .ok (.iload 4, 2) := dk_21 4 (dk_at dksX1_byDamp_6 3 rfl rfl)
theorem dX1_byDamp_146 : decode cX1_byDamp 146 = .ok (.iload 6, 2) := dk_21 6 (dk_at dksX1_byDamp_6 5 rfl rfl)
theorem dX1_byDamp_148 : decode cX1_byDamp 148 = .ok (.iadd, 1) := dk_96 (dk_at dksX1_byDamp_6 7 rfl rfl)
theorem dX1_byDamp_149 : decode cX1_byDamp 149 = .ok (.istore 4, 2) := dk_54 4 (dk_at dksX1_byDamp_6 8 rfl rfl)
theorem dX1_byDamp_151 : decode cX1_byDamp 151 = .ok (.iinc 5 1, 3) := dk_132 5 1 (dk_at dksX1_byDamp_6 10 rfl rfl)
theorem dX1_byDamp_154 : decode cX1_byDamp 154 = .ok (.goto (-116), 3) := dk_167 255 140 (dk_at dksX1_byDamp_6 13 rfl rfl)
theorem dX1_byDamp_157 : decode cX1_byDamp 157 = .ok (.iload 4, 2) := dk_21 4 (dk_at dksX1_byDamp_6 16 rfl rfl)
theorem dX1_byDamp_159 : decode cX1_byDamp 159 = .ok (.ireturn, 1) := dk_172 (dk_at dksX1_byDamp_6 18 rfl rfl)
abbrev cX1_game : ByteArray := prog_1_method_65_code
def yX1_game : MethodName := ⟨RX1, "game", "(IIII)I"⟩
def dkwX1_game_6 : List UInt8 := [132, 7, 1, 167, 255, 157, 21, 4, 154, 0, 8, 21, 5, 167, 0, 5, 21, 6, 172]
abbrev dktX1_game_6 : List UInt8 := dkwX1_game_6 ++ []
def dkwX1_game_5 : List UInt8 := [21, 5, 154, 0, 13, 16, 10, 21, 7, 104, 21, 8, 96, 54, 6, 132, 5, 1, 132, 8, 1, 167, 255, 172]
abbrev dktX1_game_5 : List UInt8 := dkwX1_game_5 ++ dktX1_game_6
def dkwX1_game_4 : List UInt8 := [100, 21, 7, 182, 1, 44, 42, 28, 27, 29, 21, 8, 21, 7, 182, 1, 44, 164, 0, 6, 167, 0, 21]
abbrev dktX1_game_4 : List UInt8 := dkwX1_game_4 ++ dktX1_game_5
def dkwX1_game_3 : List UInt8 := [182, 1, 44, 42, 27, 28, 29, 21, 7, 21, 8, 182, 1, 44, 163, 0, 51, 42, 28, 27, 29, 4, 21, 8]
abbrev dktX1_game_3 : List UInt8 := dkwX1_game_3 ++ dktX1_game_4
def dkwX1_game_2 : List UInt8 := [162, 0, 99, 3, 54, 8, 21, 8, 5, 162, 0, 84, 42, 27, 28, 29, 4, 21, 7, 100, 21, 8]
abbrev dktX1_game_2 : List UInt8 := dkwX1_game_2 ++ dktX1_game_3
def dkwX1_game_1 : List UInt8 := [159, 0, 7, 4, 167, 0, 4, 3, 184, 0, 62, 3, 54, 5, 2, 54, 6, 3, 54, 7, 21, 7, 5]
abbrev dktX1_game_1 : List UInt8 := dkwX1_game_1 ++ dktX1_game_2
def dkwX1_game_0 : List UInt8 := [42, 27, 182, 0, 193, 42, 28, 182, 0, 193, 42, 29, 182, 0, 173, 21, 4, 4, 184, 0, 196, 27, 28]
abbrev dktX1_game_0 : List UInt8 := dkwX1_game_0 ++ dktX1_game_1
theorem dksX1_game_0 : cX1_game.data.toList.drop 0 = dktX1_game_0 := by decide +kernel
theorem dksX1_game_1 : cX1_game.data.toList.drop 23 = dktX1_game_1 := dk_seg dksX1_game_0 23 rfl rfl
theorem dksX1_game_2 : cX1_game.data.toList.drop 46 = dktX1_game_2 := dk_seg dksX1_game_1 23 rfl rfl
theorem dksX1_game_3 : cX1_game.data.toList.drop 68 = dktX1_game_3 := dk_seg dksX1_game_2 22 rfl rfl
theorem dksX1_game_4 : cX1_game.data.toList.drop 92 = dktX1_game_4 := dk_seg dksX1_game_3 24 rfl rfl
theorem dksX1_game_5 : cX1_game.data.toList.drop 115 = dktX1_game_5 := dk_seg dksX1_game_4 23 rfl rfl
theorem dksX1_game_6 : cX1_game.data.toList.drop 139 = dktX1_game_6 := dk_seg dksX1_game_5 24 rfl rfl
theorem dX1_game_0 : decode cX1_game 0 = .ok (.aload_n 0, 1) := dk_42 (dk_at dksX1_game_0 0 rfl rfl)
theorem dX1_game_1 : decode cX1_game 1 = .ok (.iload_n 1, 1) := dk_27 (dk_at dksX1_game_0 1 rfl rfl)
theorem dX1_game_2 : decode cX1_game 2 = .ok (.invokevirtual 193, 3) := dk_182 0 193 (dk_at dksX1_game_0 2 rfl rfl)
theorem dX1_game_5 : decode cX1_game 5 = .ok (.aload_n 0, 1) := dk_42 (dk_at dksX1_game_0 5 rfl rfl)
theorem dX1_game_6 : decode cX1_game 6 = .ok (.iload_n 2, 1) := dk_28 (dk_at dksX1_game_0 6 rfl rfl)
theorem dX1_game_7 : decode cX1_game 7 = .ok (.invokevirtual 193, 3) := dk_182 0 193 (dk_at dksX1_game_0 7 rfl rfl)
theorem dX1_game_10 : decode cX1_game 10 = .ok (.aload_n 0, 1) := dk_42 (dk_at dksX1_game_0 10 rfl rfl)
theorem dX1_game_11 : decode cX1_game 11 = .ok (.iload_n 3, 1) := dk_29 (dk_at dksX1_game_0 11 rfl rfl)
theorem dX1_game_12 : decode cX1_game 12 = .ok (.invokevirtual 173, 3) := dk_182 0 173 (dk_at dksX1_game_0 12 rfl rfl)
theorem dX1_game_15 : decode cX1_game 15 = .ok (.iload 4, 2) := dk_21 4 (dk_at dksX1_game_0 15 rfl rfl)
theorem dX1_game_17 : decode cX1_game 17 = .ok (.iconst 1, 1) := dk_4 (dk_at dksX1_game_0 17 rfl rfl)
theorem dX1_game_18 : decode cX1_game 18 = .ok (.invokestatic 196, 3) := dk_184 0 196 (dk_at dksX1_game_0 18 rfl rfl)
theorem dX1_game_21 : decode cX1_game 21 = .ok (.iload_n 1, 1) := dk_27 (dk_at dksX1_game_0 21 rfl rfl)
theorem dX1_game_22 : decode cX1_game 22 = .ok (.iload_n 2, 1) := dk_28 (dk_at dksX1_game_0 22 rfl rfl)
theorem dX1_game_23 : decode cX1_game 23 = .ok (.if_icmp .eq 7, 3) := dk_159 0 7 (dk_at dksX1_game_1 0 rfl rfl)
theorem dX1_game_26 : decode cX1_game 26 = .ok (.iconst 1, 1) := dk_4 (dk_at dksX1_game_1 3 rfl rfl)
theorem dX1_game_27 : decode cX1_game 27 = .ok (.goto 4, 3) := dk_167 0 4 (dk_at dksX1_game_1 4 rfl rfl)
theorem dX1_game_30 : decode cX1_game 30 = .ok (.iconst 0, 1) := dk_3 (dk_at dksX1_game_1 7 rfl rfl)
theorem dX1_game_31 : decode cX1_game 31 = .ok (.invokestatic 62, 3) := dk_184 0 62 (dk_at dksX1_game_1 8 rfl rfl)
theorem dX1_game_34 : decode cX1_game 34 = .ok (.iconst 0, 1) := dk_3 (dk_at dksX1_game_1 11 rfl rfl)
theorem dX1_game_35 : decode cX1_game 35 = .ok (.istore 5, 2) := dk_54 5 (dk_at dksX1_game_1 12 rfl rfl)
theorem dX1_game_37 : decode cX1_game 37 = .ok (.iconst (-1), 1) := dk_2 (dk_at dksX1_game_1 14 rfl rfl)
theorem dX1_game_38 : decode cX1_game 38 = .ok (.istore 6, 2) := dk_54 6 (dk_at dksX1_game_1 15 rfl rfl)
theorem dX1_game_40 : decode cX1_game 40 = .ok (.iconst 0, 1) := dk_3 (dk_at dksX1_game_1 17 rfl rfl)
theorem dX1_game_41 : decode cX1_game 41 = .ok (.istore 7, 2) := dk_54 7 (dk_at dksX1_game_1 18 rfl rfl)
theorem dX1_game_43 : decode cX1_game 43 = .ok (.iload 7, 2) := dk_21 7 (dk_at dksX1_game_1 20 rfl rfl)
theorem dX1_game_45 : decode cX1_game 45 = .ok (.iconst 2, 1) := dk_5 (dk_at dksX1_game_1 22 rfl rfl)
theorem dX1_game_46 : decode cX1_game 46 = .ok (.if_icmp .ge 99, 3) := dk_162 0 99 (dk_at dksX1_game_2 0 rfl rfl)
theorem dX1_game_49 : decode cX1_game 49 = .ok (.iconst 0, 1) := dk_3 (dk_at dksX1_game_2 3 rfl rfl)
theorem dX1_game_50 : decode cX1_game 50 = .ok (.istore 8, 2) := dk_54 8 (dk_at dksX1_game_2 4 rfl rfl)
theorem dX1_game_52 : decode cX1_game 52 = .ok (.iload 8, 2) := dk_21 8 (dk_at dksX1_game_2 6 rfl rfl)
theorem dX1_game_54 : decode cX1_game 54 = .ok (.iconst 2, 1) := dk_5 (dk_at dksX1_game_2 8 rfl rfl)
theorem dX1_game_55 : decode cX1_game 55 = .ok (.if_icmp .ge 84, 3) := dk_162 0 84 (dk_at dksX1_game_2 9 rfl rfl)
theorem dX1_game_58 : decode cX1_game 58 = .ok (.aload_n 0, 1) := dk_42 (dk_at dksX1_game_2 12 rfl rfl)
theorem dX1_game_59 : decode cX1_game 59 = .ok (.iload_n 1, 1) := dk_27 (dk_at dksX1_game_2 13 rfl rfl)
theorem dX1_game_60 : decode cX1_game 60 = .ok (.iload_n 2, 1) := dk_28 (dk_at dksX1_game_2 14 rfl rfl)
theorem dX1_game_61 : decode cX1_game 61 = .ok (.iload_n 3, 1) := dk_29 (dk_at dksX1_game_2 15 rfl rfl)
theorem dX1_game_62 : decode cX1_game 62 = .ok (.iconst 1, 1) := dk_4 (dk_at dksX1_game_2 16 rfl rfl)
theorem dX1_game_63 : decode cX1_game 63 = .ok (.iload 7, 2) := dk_21 7 (dk_at dksX1_game_2 17 rfl rfl)
theorem dX1_game_65 : decode cX1_game 65 = .ok (.isub, 1) := dk_100 (dk_at dksX1_game_2 19 rfl rfl)
theorem dX1_game_66 : decode cX1_game 66 = .ok (.iload 8, 2) := dk_21 8 (dk_at dksX1_game_2 20 rfl rfl)
theorem dX1_game_68 : decode cX1_game 68 = .ok (.invokevirtual 300, 3) := dk_182 1 44 (dk_at dksX1_game_3 0 rfl rfl)
theorem dX1_game_71 : decode cX1_game 71 = .ok (.aload_n 0, 1) := dk_42 (dk_at dksX1_game_3 3 rfl rfl)
theorem dX1_game_72 : decode cX1_game 72 = .ok (.iload_n 1, 1) := dk_27 (dk_at dksX1_game_3 4 rfl rfl)
theorem dX1_game_73 : decode cX1_game 73 = .ok (.iload_n 2, 1) := dk_28 (dk_at dksX1_game_3 5 rfl rfl)
theorem dX1_game_74 : decode cX1_game 74 = .ok (.iload_n 3, 1) := dk_29 (dk_at dksX1_game_3 6 rfl rfl)
theorem dX1_game_75 : decode cX1_game 75 = .ok (.iload 7, 2) := dk_21 7 (dk_at dksX1_game_3 7 rfl rfl)
theorem dX1_game_77 : decode cX1_game 77 = .ok (.iload 8, 2) := dk_21 8 (dk_at dksX1_game_3 9 rfl rfl)
theorem dX1_game_79 : decode cX1_game 79 = .ok (.invokevirtual 300, 3) := dk_182 1 44 (dk_at dksX1_game_3 11 rfl rfl)
theorem dX1_game_82 : decode cX1_game 82 = .ok (.if_icmp .gt 51, 3) := dk_163 0 51 (dk_at dksX1_game_3 14 rfl rfl)
theorem dX1_game_85 : decode cX1_game 85 = .ok (.aload_n 0, 1) := dk_42 (dk_at dksX1_game_3 17 rfl rfl)
theorem dX1_game_86 : decode cX1_game 86 = .ok (.iload_n 2, 1) := dk_28 (dk_at dksX1_game_3 18 rfl rfl)
theorem dX1_game_87 : decode cX1_game 87 = .ok (.iload_n 1, 1) := dk_27 (dk_at dksX1_game_3 19 rfl rfl)
theorem dX1_game_88 : decode cX1_game 88 = .ok (.iload_n 3, 1) := dk_29 (dk_at dksX1_game_3 20 rfl rfl)
theorem dX1_game_89 : decode cX1_game 89 = .ok (.iconst 1, 1) := dk_4 (dk_at dksX1_game_3 21 rfl rfl)
theorem dX1_game_90 : decode cX1_game 90 = .ok (.iload 8, 2) := dk_21 8 (dk_at dksX1_game_3 22 rfl rfl)
theorem dX1_game_92 : decode cX1_game 92 = .ok (.isub, 1) := dk_100 (dk_at dksX1_game_4 0 rfl rfl)
theorem dX1_game_93 : decode cX1_game 93 = .ok (.iload 7, 2) := dk_21 7 (dk_at dksX1_game_4 1 rfl rfl)
theorem dX1_game_95 : decode cX1_game 95 = .ok (.invokevirtual 300, 3) := dk_182 1 44 (dk_at dksX1_game_4 3 rfl rfl)
theorem dX1_game_98 : decode cX1_game 98 = .ok (.aload_n 0, 1) := dk_42 (dk_at dksX1_game_4 6 rfl rfl)
theorem dX1_game_99 : decode cX1_game 99 = .ok (.iload_n 2, 1) := dk_28 (dk_at dksX1_game_4 7 rfl rfl)
theorem dX1_game_100 : decode cX1_game 100 = .ok (.iload_n 1, 1) := dk_27 (dk_at dksX1_game_4 8 rfl rfl)
theorem dX1_game_101 : decode cX1_game 101 = .ok (.iload_n 3, 1) := dk_29 (dk_at dksX1_game_4 9 rfl rfl)
theorem dX1_game_102 : decode cX1_game 102 = .ok (.iload 8, 2) := dk_21 8 (dk_at dksX1_game_4 10 rfl rfl)
theorem dX1_game_104 : decode cX1_game 104 = .ok (.iload 7, 2) := dk_21 7 (dk_at dksX1_game_4 12 rfl rfl)
theorem dX1_game_106 : decode cX1_game 106 = .ok (.invokevirtual 300, 3) := dk_182 1 44 (dk_at dksX1_game_4 14 rfl rfl)
theorem dX1_game_109 : decode cX1_game 109 = .ok (.if_icmp .le 6, 3) := dk_164 0 6 (dk_at dksX1_game_4 17 rfl rfl)
theorem dX1_game_112 : decode cX1_game 112 = .ok (.goto 21, 3) := dk_167 0 21 (dk_at dksX1_game_4 20 rfl rfl)
theorem dX1_game_115 : decode cX1_game 115 = .ok (.iload 5, 2) := dk_21 5 (dk_at dksX1_game_5 0 rfl rfl)
theorem dX1_game_117 : decode cX1_game 117 = .ok (.ifCond .ne 13, 3) := dk_154 0 13 (dk_at dksX1_game_5 2 rfl rfl)
theorem dX1_game_120 : decode cX1_game 120 = .ok (.bipush 10, 2) := dk_16 10 (dk_at dksX1_game_5 5 rfl rfl)
theorem dX1_game_122 : decode cX1_game 122 = .ok (.iload 7, 2) := dk_21 7 (dk_at dksX1_game_5 7 rfl rfl)
theorem dX1_game_124 : decode cX1_game 124 = .ok (.imul, 1) := dk_104 (dk_at dksX1_game_5 9 rfl rfl)
theorem dX1_game_125 : decode cX1_game 125 = .ok (.iload 8, 2) := dk_21 8 (dk_at dksX1_game_5 10 rfl rfl)
theorem dX1_game_127 : decode cX1_game 127 = .ok (.iadd, 1) := dk_96 (dk_at dksX1_game_5 12 rfl rfl)
theorem dX1_game_128 : decode cX1_game 128 = .ok (.istore 6, 2) := dk_54 6 (dk_at dksX1_game_5 13 rfl rfl)
theorem dX1_game_130 : decode cX1_game 130 = .ok (.iinc 5 1, 3) := dk_132 5 1 (dk_at dksX1_game_5 15 rfl rfl)
theorem dX1_game_133 : decode cX1_game 133 = .ok (.iinc 8 1, 3) := dk_132 8 1 (dk_at dksX1_game_5 18 rfl rfl)
theorem dX1_game_136 : decode cX1_game 136 = .ok (.goto (-84), 3) := dk_167 255 172 (dk_at dksX1_game_5 21 rfl rfl)
theorem dX1_game_139 : decode cX1_game 139 = .ok (.iinc 7 1, 3) := dk_132 7 1 (dk_at dksX1_game_6 0 rfl rfl)
theorem dX1_game_142 : decode cX1_game 142 = .ok (.goto (-99), 3) := dk_167 255 157 (dk_at dksX1_game_6 3 rfl rfl)
theorem dX1_game_145 : decode cX1_game 145 = .ok (.iload 4, 2) := dk_21 4 (dk_at dksX1_game_6 6 rfl rfl)
theorem dX1_game_147 : decode cX1_game 147 = .ok (.ifCond .ne 8, 3) := dk_154 0 8 (dk_at dksX1_game_6 8 rfl rfl)
theorem dX1_game_150 : decode cX1_game 150 = .ok (.iload 5, 2) := dk_21 5 (dk_at dksX1_game_6 11 rfl rfl)
theorem dX1_game_152 : decode cX1_game 152 = .ok (.goto 5, 3) := dk_167 0 5 (dk_at dksX1_game_6 13 rfl rfl)
theorem dX1_game_155 : decode cX1_game 155 = .ok (.iload 6, 2) := dk_21 6 (dk_at dksX1_game_6 16 rfl rfl)
theorem dX1_game_157 : decode cX1_game 157 = .ok (.ireturn, 1) := dk_172 (dk_at dksX1_game_6 18 rfl rfl)
abbrev cX1_gain : ByteArray := prog_1_method_64_code
def yX1_gain : MethodName := ⟨RX1, "gain", "(IIIII)I"⟩
def dkwX1_gain_3 : List UInt8 := [167, 0, 5, 16, 251, 172]
abbrev dktX1_gain_3 : List UInt8 := dkwX1_gain_3 ++ []
def dkwX1_gain_2 : List UInt8 := [27, 28, 162, 0, 7, 4, 167, 0, 4, 3, 54, 8, 21, 8, 153, 0, 12, 42, 27, 29, 182, 1, 41]
abbrev dktX1_gain_2 : List UInt8 := dkwX1_gain_2 ++ dktX1_gain_3
def dkwX1_gain_1 : List UInt8 := [182, 0, 100, 54, 7, 21, 5, 153, 0, 22, 21, 6, 21, 7, 161, 0, 15, 21, 6, 21, 7, 160, 0, 12]
abbrev dktX1_gain_1 : List UInt8 := dkwX1_gain_1 ++ dktX1_gain_2
def dkwX1_gain_0 : List UInt8 := [21, 4, 154, 0, 5, 5, 172, 42, 180, 0, 31, 27, 29, 182, 0, 100, 54, 6, 42, 180, 0, 31, 28, 29]
abbrev dktX1_gain_0 : List UInt8 := dkwX1_gain_0 ++ dktX1_gain_1
theorem dksX1_gain_0 : cX1_gain.data.toList.drop 0 = dktX1_gain_0 := by decide +kernel
theorem dksX1_gain_1 : cX1_gain.data.toList.drop 24 = dktX1_gain_1 := dk_seg dksX1_gain_0 24 rfl rfl
theorem dksX1_gain_2 : cX1_gain.data.toList.drop 48 = dktX1_gain_2 := dk_seg dksX1_gain_1 24 rfl rfl
theorem dksX1_gain_3 : cX1_gain.data.toList.drop 71 = dktX1_gain_3 := dk_seg dksX1_gain_2 23 rfl rfl
theorem dX1_gain_0 : decode cX1_gain 0 = .ok (.iload 4, 2) := dk_21 4 (dk_at dksX1_gain_0 0 rfl rfl)
theorem dX1_gain_2 : decode cX1_gain 2 = .ok (.ifCond .ne 5, 3) := dk_154 0 5 (dk_at dksX1_gain_0 2 rfl rfl)
theorem dX1_gain_5 : decode cX1_gain 5 = .ok (.iconst 2, 1) := dk_5 (dk_at dksX1_gain_0 5 rfl rfl)
theorem dX1_gain_6 : decode cX1_gain 6 = .ok (.ireturn, 1) := dk_172 (dk_at dksX1_gain_0 6 rfl rfl)
theorem dX1_gain_7 : decode cX1_gain 7 = .ok (.aload_n 0, 1) := dk_42 (dk_at dksX1_gain_0 7 rfl rfl)
theorem dX1_gain_8 : decode cX1_gain 8 = .ok (.getfield 31, 3) := dk_180 0 31 (dk_at dksX1_gain_0 8 rfl rfl)
theorem dX1_gain_11 : decode cX1_gain 11 = .ok (.iload_n 1, 1) := dk_27 (dk_at dksX1_gain_0 11 rfl rfl)
theorem dX1_gain_12 : decode cX1_gain 12 = .ok (.iload_n 3, 1) := dk_29 (dk_at dksX1_gain_0 12 rfl rfl)
theorem dX1_gain_13 : decode cX1_gain 13 = .ok (.invokevirtual 100, 3) := dk_182 0 100 (dk_at dksX1_gain_0 13 rfl rfl)
theorem dX1_gain_16 : decode cX1_gain 16 = .ok (.istore 6, 2) := dk_54 6 (dk_at dksX1_gain_0 16 rfl rfl)
theorem dX1_gain_18 : decode cX1_gain 18 = .ok (.aload_n 0, 1) := dk_42 (dk_at dksX1_gain_0 18 rfl rfl)
theorem dX1_gain_19 : decode cX1_gain 19 = .ok (.getfield 31, 3) := dk_180 0 31 (dk_at dksX1_gain_0 19 rfl rfl)
theorem dX1_gain_22 : decode cX1_gain 22 = .ok (.iload_n 2, 1) := dk_28 (dk_at dksX1_gain_0 22 rfl rfl)
theorem dX1_gain_23 : decode cX1_gain 23 = .ok (.iload_n 3, 1) := dk_29 (dk_at dksX1_gain_0 23 rfl rfl)
theorem dX1_gain_24 : decode cX1_gain 24 = .ok (.invokevirtual 100, 3) := dk_182 0 100 (dk_at dksX1_gain_1 0 rfl rfl)
theorem dX1_gain_27 : decode cX1_gain 27 = .ok (.istore 7, 2) := dk_54 7 (dk_at dksX1_gain_1 3 rfl rfl)
theorem dX1_gain_29 : decode cX1_gain 29 = .ok (.iload 5, 2) := dk_21 5 (dk_at dksX1_gain_1 5 rfl rfl)
theorem dX1_gain_31 : decode cX1_gain 31 = .ok (.ifCond .eq 22, 3) := dk_153 0 22 (dk_at dksX1_gain_1 7 rfl rfl)
theorem dX1_gain_34 : decode cX1_gain 34 = .ok (.iload 6, 2) := dk_21 6 (dk_at dksX1_gain_1 10 rfl rfl)
theorem dX1_gain_36 : decode cX1_gain 36 = .ok (.iload 7, 2) := dk_21 7 (dk_at dksX1_gain_1 12 rfl rfl)
theorem dX1_gain_38 : decode cX1_gain 38 = .ok (.if_icmp .lt 15, 3) := dk_161 0 15 (dk_at dksX1_gain_1 14 rfl rfl)
theorem dX1_gain_41 : decode cX1_gain 41 = .ok (.iload 6, 2) := dk_21 6 (dk_at dksX1_gain_1 17 rfl rfl)
theorem dX1_gain_43 : decode cX1_gain 43 = .ok (.iload 7, 2) := dk_21 7 (dk_at dksX1_gain_1 19 rfl rfl)
theorem dX1_gain_45 : decode cX1_gain 45 = .ok (.if_icmp .ne 12, 3) := dk_160 0 12 (dk_at dksX1_gain_1 21 rfl rfl)
theorem dX1_gain_48 : decode cX1_gain 48 = .ok (.iload_n 1, 1) := dk_27 (dk_at dksX1_gain_2 0 rfl rfl)
theorem dX1_gain_49 : decode cX1_gain 49 = .ok (.iload_n 2, 1) := dk_28 (dk_at dksX1_gain_2 1 rfl rfl)
theorem dX1_gain_50 : decode cX1_gain 50 = .ok (.if_icmp .ge 7, 3) := dk_162 0 7 (dk_at dksX1_gain_2 2 rfl rfl)
theorem dX1_gain_53 : decode cX1_gain 53 = .ok (.iconst 1, 1) := dk_4 (dk_at dksX1_gain_2 5 rfl rfl)
theorem dX1_gain_54 : decode cX1_gain 54 = .ok (.goto 4, 3) := dk_167 0 4 (dk_at dksX1_gain_2 6 rfl rfl)
theorem dX1_gain_57 : decode cX1_gain 57 = .ok (.iconst 0, 1) := dk_3 (dk_at dksX1_gain_2 9 rfl rfl)
theorem dX1_gain_58 : decode cX1_gain 58 = .ok (.istore 8, 2) := dk_54 8 (dk_at dksX1_gain_2 10 rfl rfl)
theorem dX1_gain_60 : decode cX1_gain 60 = .ok (.iload 8, 2) := dk_21 8 (dk_at dksX1_gain_2 12 rfl rfl)
theorem dX1_gain_62 : decode cX1_gain 62 = .ok (.ifCond .eq 12, 3) := dk_153 0 12 (dk_at dksX1_gain_2 14 rfl rfl)
theorem dX1_gain_65 : decode cX1_gain 65 = .ok (.aload_n 0, 1) := dk_42 (dk_at dksX1_gain_2 17 rfl rfl)
theorem dX1_gain_66 : decode cX1_gain 66 = .ok (.iload_n 1, 1) := dk_27 (dk_at dksX1_gain_2 18 rfl rfl)
theorem dX1_gain_67 : decode cX1_gain 67 = .ok (.iload_n 3, 1) := dk_29 (dk_at dksX1_gain_2 19 rfl rfl)
theorem dX1_gain_68 : decode cX1_gain 68 = .ok (.invokevirtual 297, 3) := dk_182 1 41 (dk_at dksX1_gain_2 20 rfl rfl)
theorem dX1_gain_71 : decode cX1_gain 71 = .ok (.goto 5, 3) := dk_167 0 5 (dk_at dksX1_gain_3 0 rfl rfl)
theorem dX1_gain_74 : decode cX1_gain 74 = .ok (.bipush (-5), 2) := dk_16 251 (dk_at dksX1_gain_3 3 rfl rfl)
theorem dX1_gain_76 : decode cX1_gain 76 = .ok (.ireturn, 1) := dk_172 (dk_at dksX1_gain_3 5 rfl rfl)
abbrev cX1_alone : ByteArray := prog_1_method_63_code
def yX1_alone : MethodName := ⟨RX1, "alone", "(II)I"⟩
def dkwX1_alone_1 : List UInt8 := [104, 100, 167, 0, 5, 16, 253, 172]
abbrev dktX1_alone_1 : List UInt8 := dkwX1_alone_1 ++ []
def dkwX1_alone_0 : List UInt8 := [42, 180, 0, 31, 27, 28, 182, 0, 233, 153, 0, 20, 16, 20, 5, 42, 180, 0, 31, 27, 28, 182, 0, 100]
abbrev dktX1_alone_0 : List UInt8 := dkwX1_alone_0 ++ dktX1_alone_1
theorem dksX1_alone_0 : cX1_alone.data.toList.drop 0 = dktX1_alone_0 := by decide +kernel
theorem dksX1_alone_1 : cX1_alone.data.toList.drop 24 = dktX1_alone_1 := dk_seg dksX1_alone_0 24 rfl rfl
theorem dX1_alone_0 : decode cX1_alone 0 = .ok (.aload_n 0, 1) := dk_42 (dk_at dksX1_alone_0 0 rfl rfl)
theorem dX1_alone_1 : decode cX1_alone 1 = .ok (.getfield 31, 3) := dk_180 0 31 (dk_at dksX1_alone_0 1 rfl rfl)
theorem dX1_alone_4 : decode cX1_alone 4 = .ok (.iload_n 1, 1) := dk_27 (dk_at dksX1_alone_0 4 rfl rfl)
theorem dX1_alone_5 : decode cX1_alone 5 = .ok (.iload_n 2, 1) := dk_28 (dk_at dksX1_alone_0 5 rfl rfl)
theorem dX1_alone_6 : decode cX1_alone 6 = .ok (.invokevirtual 233, 3) := dk_182 0 233 (dk_at dksX1_alone_0 6 rfl rfl)
theorem dX1_alone_9 : decode cX1_alone 9 = .ok (.ifCond .eq 20, 3) := dk_153 0 20 (dk_at dksX1_alone_0 9 rfl rfl)
theorem dX1_alone_12 : decode cX1_alone 12 = .ok (.bipush 20, 2) := dk_16 20 (dk_at dksX1_alone_0 12 rfl rfl)
theorem dX1_alone_14 : decode cX1_alone 14 = .ok (.iconst 2, 1) := dk_5 (dk_at dksX1_alone_0 14 rfl rfl)
theorem dX1_alone_15 : decode cX1_alone 15 = .ok (.aload_n 0, 1) := dk_42 (dk_at dksX1_alone_0 15 rfl rfl)
theorem dX1_alone_16 : decode cX1_alone 16 = .ok (.getfield 31, 3) := dk_180 0 31 (dk_at dksX1_alone_0 16 rfl rfl)
theorem dX1_alone_19 : decode cX1_alone 19 = .ok (.iload_n 1, 1) := dk_27 (dk_at dksX1_alone_0 19 rfl rfl)
theorem dX1_alone_20 : decode cX1_alone 20 = .ok (.iload_n 2, 1) := dk_28 (dk_at dksX1_alone_0 20 rfl rfl)
theorem dX1_alone_21 : decode cX1_alone 21 = .ok (.invokevirtual 100, 3) := dk_182 0 100 (dk_at dksX1_alone_0 21 rfl rfl)
theorem dX1_alone_24 : decode cX1_alone 24 = .ok (.imul, 1) := dk_104 (dk_at dksX1_alone_1 0 rfl rfl)
theorem dX1_alone_25 : decode cX1_alone 25 = .ok (.isub, 1) := dk_100 (dk_at dksX1_alone_1 1 rfl rfl)
theorem dX1_alone_26 : decode cX1_alone 26 = .ok (.goto 5, 3) := dk_167 0 5 (dk_at dksX1_alone_1 2 rfl rfl)
theorem dX1_alone_29 : decode cX1_alone 29 = .ok (.bipush (-3), 2) := dk_16 253 (dk_at dksX1_alone_1 5 rfl rfl)
theorem dX1_alone_31 : decode cX1_alone 31 = .ok (.ireturn, 1) := dk_172 (dk_at dksX1_alone_1 7 rfl rfl)
abbrev cX1_years : ByteArray := prog_1_method_68_code
def yX1_years : MethodName := ⟨RX1, "years", "(III)I"⟩
def dkwX1_years_4 : List UInt8 := [180, 0, 35, 182, 0, 122, 184, 1, 58, 172]
abbrev dktX1_years_4 : List UInt8 := dkwX1_years_4 ++ []
def dkwX1_years_3 : List UInt8 := [184, 1, 58, 167, 0, 28, 29, 4, 160, 0, 13, 42, 180, 0, 35, 182, 0, 125, 167, 0, 13, 42]
abbrev dktX1_years_3 : List UInt8 := dkwX1_years_3 ++ dktX1_years_4
def dkwX1_years_2 : List UInt8 := [180, 0, 35, 182, 0, 251, 87, 132, 4, 1, 167, 255, 235, 29, 154, 0, 16, 42, 180, 0, 35, 180, 0, 116]
abbrev dktX1_years_2 : List UInt8 := dkwX1_years_2 ++ dktX1_years_3
def dkwX1_years_1 : List UInt8 := [42, 180, 0, 31, 182, 0, 244, 87, 3, 54, 4, 21, 4, 28, 162, 0, 21, 42, 182, 1, 55, 42]
abbrev dktX1_years_1 : List UInt8 := dkwX1_years_1 ++ dktX1_years_2
def dkwX1_years_0 : List UInt8 := [29, 5, 184, 0, 196, 28, 3, 16, 40, 184, 0, 139, 184, 0, 62, 42, 27, 181, 1, 48, 42, 180, 0, 35]
abbrev dktX1_years_0 : List UInt8 := dkwX1_years_0 ++ dktX1_years_1
theorem dksX1_years_0 : cX1_years.data.toList.drop 0 = dktX1_years_0 := by decide +kernel
theorem dksX1_years_1 : cX1_years.data.toList.drop 24 = dktX1_years_1 := dk_seg dksX1_years_0 24 rfl rfl
theorem dksX1_years_2 : cX1_years.data.toList.drop 46 = dktX1_years_2 := dk_seg dksX1_years_1 22 rfl rfl
theorem dksX1_years_3 : cX1_years.data.toList.drop 70 = dktX1_years_3 := dk_seg dksX1_years_2 24 rfl rfl
theorem dksX1_years_4 : cX1_years.data.toList.drop 92 = dktX1_years_4 := dk_seg dksX1_years_3 22 rfl rfl
theorem dX1_years_0 : decode cX1_years 0 = .ok (.iload_n 3, 1) := dk_29 (dk_at dksX1_years_0 0 rfl rfl)
theorem dX1_years_1 : decode cX1_years 1 = .ok (.iconst 2, 1) := dk_5 (dk_at dksX1_years_0 1 rfl rfl)
theorem dX1_years_2 : decode cX1_years 2 = .ok (.invokestatic 196, 3) := dk_184 0 196 (dk_at dksX1_years_0 2 rfl rfl)
theorem dX1_years_5 : decode cX1_years 5 = .ok (.iload_n 2, 1) := dk_28 (dk_at dksX1_years_0 5 rfl rfl)
theorem dX1_years_6 : decode cX1_years 6 = .ok (.iconst 0, 1) := dk_3 (dk_at dksX1_years_0 6 rfl rfl)
theorem dX1_years_7 : decode cX1_years 7 = .ok (.bipush 40, 2) := dk_16 40 (dk_at dksX1_years_0 7 rfl rfl)
theorem dX1_years_9 : decode cX1_years 9 = .ok (.invokestatic 139, 3) := dk_184 0 139 (dk_at dksX1_years_0 9 rfl rfl)
theorem dX1_years_12 : decode cX1_years 12 = .ok (.invokestatic 62, 3) := dk_184 0 62 (dk_at dksX1_years_0 12 rfl rfl)
theorem dX1_years_15 : decode cX1_years 15 = .ok (.aload_n 0, 1) := dk_42 (dk_at dksX1_years_0 15 rfl rfl)
theorem dX1_years_16 : decode cX1_years 16 = .ok (.iload_n 1, 1) := dk_27 (dk_at dksX1_years_0 16 rfl rfl)
theorem dX1_years_17 : decode cX1_years 17 = .ok (.putfield 304, 3) := dk_181 1 48 (dk_at dksX1_years_0 17 rfl rfl)
theorem dX1_years_20 : decode cX1_years 20 = .ok (.aload_n 0, 1) := dk_42 (dk_at dksX1_years_0 20 rfl rfl)
theorem dX1_years_21 : decode cX1_years 21 = .ok (.getfield 35, 3) := dk_180 0 35 (dk_at dksX1_years_0 21 rfl rfl)
theorem dX1_years_24 : decode cX1_years 24 = .ok (.aload_n 0, 1) := dk_42 (dk_at dksX1_years_1 0 rfl rfl)
theorem dX1_years_25 : decode cX1_years 25 = .ok (.getfield 31, 3) := dk_180 0 31 (dk_at dksX1_years_1 1 rfl rfl)
theorem dX1_years_28 : decode cX1_years 28 = .ok (.invokevirtual 244, 3) := dk_182 0 244 (dk_at dksX1_years_1 4 rfl rfl)
theorem dX1_years_31 : decode cX1_years 31 = .ok (.pop, 1) := dk_87 (dk_at dksX1_years_1 7 rfl rfl)
theorem dX1_years_32 : decode cX1_years 32 = .ok (.iconst 0, 1) := dk_3 (dk_at dksX1_years_1 8 rfl rfl)
theorem dX1_years_33 : decode cX1_years 33 = .ok (.istore 4, 2) := dk_54 4 (dk_at dksX1_years_1 9 rfl rfl)
theorem dX1_years_35 : decode cX1_years 35 = .ok (.iload 4, 2) := dk_21 4 (dk_at dksX1_years_1 11 rfl rfl)
theorem dX1_years_37 : decode cX1_years 37 = .ok (.iload_n 2, 1) := dk_28 (dk_at dksX1_years_1 13 rfl rfl)
theorem dX1_years_38 : decode cX1_years 38 = .ok (.if_icmp .ge 21, 3) := dk_162 0 21 (dk_at dksX1_years_1 14 rfl rfl)
theorem dX1_years_41 : decode cX1_years 41 = .ok (.aload_n 0, 1) := dk_42 (dk_at dksX1_years_1 17 rfl rfl)
theorem dX1_years_42 : decode cX1_years 42 = .ok (.invokevirtual 311, 3) := dk_182 1 55 (dk_at dksX1_years_1 18 rfl rfl)
theorem dX1_years_45 : decode cX1_years 45 = .ok (.aload_n 0, 1) := dk_42 (dk_at dksX1_years_1 21 rfl rfl)
theorem dX1_years_46 : decode cX1_years 46 = .ok (.getfield 35, 3) := dk_180 0 35 (dk_at dksX1_years_2 0 rfl rfl)
theorem dX1_years_49 : decode cX1_years 49 = .ok (.invokevirtual 251, 3) := dk_182 0 251 (dk_at dksX1_years_2 3 rfl rfl)
theorem dX1_years_52 : decode cX1_years 52 = .ok (.pop, 1) := dk_87 (dk_at dksX1_years_2 6 rfl rfl)
theorem dX1_years_53 : decode cX1_years 53 = .ok (.iinc 4 1, 3) := dk_132 4 1 (dk_at dksX1_years_2 7 rfl rfl)
theorem dX1_years_56 : decode cX1_years 56 = .ok (.goto (-21), 3) := dk_167 255 235 (dk_at dksX1_years_2 10 rfl rfl)
theorem dX1_years_59 : decode cX1_years 59 = .ok (.iload_n 3, 1) := dk_29 (dk_at dksX1_years_2 13 rfl rfl)
theorem dX1_years_60 : decode cX1_years 60 = .ok (.ifCond .ne 16, 3) := dk_154 0 16 (dk_at dksX1_years_2 14 rfl rfl)
theorem dX1_years_63 : decode cX1_years 63 = .ok (.aload_n 0, 1) := dk_42 (dk_at dksX1_years_2 17 rfl rfl)
theorem dX1_years_64 : decode cX1_years 64 = .ok (.getfield 35, 3) := dk_180 0 35 (dk_at dksX1_years_2 18 rfl rfl)
theorem dX1_years_67 : decode cX1_years 67 = .ok (.getfield 116, 3) := dk_180 0 116 (dk_at dksX1_years_2 21 rfl rfl)
theorem dX1_years_70 : decode cX1_years 70 = .ok (.invokestatic 314, 3) := dk_184 1 58 (dk_at dksX1_years_3 0 rfl rfl)
theorem dX1_years_73 : decode cX1_years 73 = .ok (.goto 28, 3) := dk_167 0 28 (dk_at dksX1_years_3 3 rfl rfl)
theorem dX1_years_76 : decode cX1_years 76 = .ok (.iload_n 3, 1) := dk_29 (dk_at dksX1_years_3 6 rfl rfl)
theorem dX1_years_77 : decode cX1_years 77 = .ok (.iconst 1, 1) := dk_4 (dk_at dksX1_years_3 7 rfl rfl)
theorem dX1_years_78 : decode cX1_years 78 = .ok (.if_icmp .ne 13, 3) := dk_160 0 13 (dk_at dksX1_years_3 8 rfl rfl)
theorem dX1_years_81 : decode cX1_years 81 = .ok (.aload_n 0, 1) := dk_42 (dk_at dksX1_years_3 11 rfl rfl)
theorem dX1_years_82 : decode cX1_years 82 = .ok (.getfield 35, 3) := dk_180 0 35 (dk_at dksX1_years_3 12 rfl rfl)
theorem dX1_years_85 : decode cX1_years 85 = .ok (.invokevirtual 125, 3) := dk_182 0 125 (dk_at dksX1_years_3 15 rfl rfl)
theorem dX1_years_88 : decode cX1_years 88 = .ok (.goto 13, 3) := dk_167 0 13 (dk_at dksX1_years_3 18 rfl rfl)
theorem dX1_years_91 : decode cX1_years 91 = .ok (.aload_n 0, 1) := dk_42 (dk_at dksX1_years_3 21 rfl rfl)
theorem dX1_years_92 : decode cX1_years 92 = .ok (.getfield 35, 3) := dk_180 0 35 (dk_at dksX1_years_4 0 rfl rfl)
theorem dX1_years_95 : decode cX1_years 95 = .ok (.invokevirtual 122, 3) := dk_182 0 122 (dk_at dksX1_years_4 3 rfl rfl)
theorem dX1_years_98 : decode cX1_years 98 = .ok (.invokestatic 314, 3) := dk_184 1 58 (dk_at dksX1_years_4 6 rfl rfl)
theorem dX1_years_101 : decode cX1_years 101 = .ok (.ireturn, 1) := dk_172 (dk_at dksX1_years_4 9 rfl rfl)
abbrev cX1_befalls : ByteArray := prog_1_method_67_code
def yX1_befalls : MethodName := ⟨RX1, "befalls", "()V"⟩
def dkwX1_befalls_3 : List UInt8 := [180, 0, 35, 180, 0, 97, 27, 28, 79, 177]
abbrev dktX1_befalls_3 : List UInt8 := dkwX1_befalls_3 ++ []
def dkwX1_befalls_2 : List UInt8 := [180, 0, 22, 182, 0, 89, 182, 1, 52, 61, 42, 180, 0, 35, 27, 28, 182, 0, 230, 153, 0, 13, 42]
abbrev dktX1_befalls_2 : List UInt8 := dkwX1_befalls_2 ++ dktX1_befalls_3
def dkwX1_befalls_1 : List UInt8 := [180, 0, 22, 182, 0, 89, 154, 0, 4, 177, 42, 42, 180, 0, 22, 182, 0, 104, 182, 1, 52, 60, 42, 42]
abbrev dktX1_befalls_1 : List UInt8 := dkwX1_befalls_1 ++ dktX1_befalls_2
def dkwX1_befalls_0 : List UInt8 := [42, 180, 0, 35, 42, 16, 10, 182, 1, 52, 181, 1, 39, 42, 180, 0, 22, 182, 0, 104, 153, 0, 13, 42]
abbrev dktX1_befalls_0 : List UInt8 := dkwX1_befalls_0 ++ dktX1_befalls_1
theorem dksX1_befalls_0 : cX1_befalls.data.toList.drop 0 = dktX1_befalls_0 := by decide +kernel
theorem dksX1_befalls_1 : cX1_befalls.data.toList.drop 24 = dktX1_befalls_1 := dk_seg dksX1_befalls_0 24 rfl rfl
theorem dksX1_befalls_2 : cX1_befalls.data.toList.drop 48 = dktX1_befalls_2 := dk_seg dksX1_befalls_1 24 rfl rfl
theorem dksX1_befalls_3 : cX1_befalls.data.toList.drop 71 = dktX1_befalls_3 := dk_seg dksX1_befalls_2 23 rfl rfl
theorem dX1_befalls_0 : decode cX1_befalls 0 = .ok (.aload_n 0, 1) := dk_42 (dk_at dksX1_befalls_0 0 rfl rfl)
theorem dX1_befalls_1 : decode cX1_befalls 1 = .ok (.getfield 35, 3) := dk_180 0 35 (dk_at dksX1_befalls_0 1 rfl rfl)
theorem dX1_befalls_4 : decode cX1_befalls 4 = .ok (.aload_n 0, 1) := dk_42 (dk_at dksX1_befalls_0 4 rfl rfl)
theorem dX1_befalls_5 : decode cX1_befalls 5 = .ok (.bipush 10, 2) := dk_16 10 (dk_at dksX1_befalls_0 5 rfl rfl)
theorem dX1_befalls_7 : decode cX1_befalls 7 = .ok (.invokevirtual 308, 3) := dk_182 1 52 (dk_at dksX1_befalls_0 7 rfl rfl)
theorem dX1_befalls_10 : decode cX1_befalls 10 = .ok (.putfield 295, 3) := dk_181 1 39 (dk_at dksX1_befalls_0 10 rfl rfl)
theorem dX1_befalls_13 : decode cX1_befalls 13 = .ok (.aload_n 0, 1) := dk_42 (dk_at dksX1_befalls_0 13 rfl rfl)
theorem dX1_befalls_14 : decode cX1_befalls 14 = .ok (.getfield 22, 3) := dk_180 0 22 (dk_at dksX1_befalls_0 14 rfl rfl)
theorem dX1_befalls_17 : decode cX1_befalls 17 = .ok (.invokevirtual 104, 3) := dk_182 0 104 (dk_at dksX1_befalls_0 17 rfl rfl)
theorem dX1_befalls_20 : decode cX1_befalls 20 = .ok (.ifCond .eq 13, 3) := dk_153 0 13 (dk_at dksX1_befalls_0 20 rfl rfl)
theorem dX1_befalls_23 : decode cX1_befalls 23 = .ok (.aload_n 0, 1) := dk_42 (dk_at dksX1_befalls_0 23 rfl rfl)
theorem dX1_befalls_24 : decode cX1_befalls 24 = .ok (.getfield 22, 3) := dk_180 0 22 (dk_at dksX1_befalls_1 0 rfl rfl)
theorem dX1_befalls_27 : decode cX1_befalls 27 = .ok (.invokevirtual 89, 3) := dk_182 0 89 (dk_at dksX1_befalls_1 3 rfl rfl)
theorem dX1_befalls_30 : decode cX1_befalls 30 = .ok (.ifCond .ne 4, 3) := dk_154 0 4 (dk_at dksX1_befalls_1 6 rfl rfl)
theorem dX1_befalls_33 : decode cX1_befalls 33 = .ok (.return_, 1) := dk_177 (dk_at dksX1_befalls_1 9 rfl rfl)
theorem dX1_befalls_34 : decode cX1_befalls 34 = .ok (.aload_n 0, 1) := dk_42 (dk_at dksX1_befalls_1 10 rfl rfl)
theorem dX1_befalls_35 : decode cX1_befalls 35 = .ok (.aload_n 0, 1) := dk_42 (dk_at dksX1_befalls_1 11 rfl rfl)
theorem dX1_befalls_36 : decode cX1_befalls 36 = .ok (.getfield 22, 3) := dk_180 0 22 (dk_at dksX1_befalls_1 12 rfl rfl)
theorem dX1_befalls_39 : decode cX1_befalls 39 = .ok (.invokevirtual 104, 3) := dk_182 0 104 (dk_at dksX1_befalls_1 15 rfl rfl)
theorem dX1_befalls_42 : decode cX1_befalls 42 = .ok (.invokevirtual 308, 3) := dk_182 1 52 (dk_at dksX1_befalls_1 18 rfl rfl)
theorem dX1_befalls_45 : decode cX1_befalls 45 = .ok (.istore_n 1, 1) := dk_60 (dk_at dksX1_befalls_1 21 rfl rfl)
theorem dX1_befalls_46 : decode cX1_befalls 46 = .ok (.aload_n 0, 1) := dk_42 (dk_at dksX1_befalls_1 22 rfl rfl)
theorem dX1_befalls_47 : decode cX1_befalls 47 = .ok (.aload_n 0, 1) := dk_42 (dk_at dksX1_befalls_1 23 rfl rfl)
theorem dX1_befalls_48 : decode cX1_befalls 48 = .ok (.getfield 22, 3) := dk_180 0 22 (dk_at dksX1_befalls_2 0 rfl rfl)
theorem dX1_befalls_51 : decode cX1_befalls 51 = .ok (.invokevirtual 89, 3) := dk_182 0 89 (dk_at dksX1_befalls_2 3 rfl rfl)
theorem dX1_befalls_54 : decode cX1_befalls 54 = .ok (.invokevirtual 308, 3) := dk_182 1 52 (dk_at dksX1_befalls_2 6 rfl rfl)
theorem dX1_befalls_57 : decode cX1_befalls 57 = .ok (.istore_n 2, 1) := dk_61 (dk_at dksX1_befalls_2 9 rfl rfl)
theorem dX1_befalls_58 : decode cX1_befalls 58 = .ok (.aload_n 0, 1) := dk_42 (dk_at dksX1_befalls_2 10 rfl rfl)
theorem dX1_befalls_59 : decode cX1_befalls 59 = .ok (.getfield 35, 3) := dk_180 0 35 (dk_at dksX1_befalls_2 11 rfl rfl)
theorem dX1_befalls_62 : decode cX1_befalls 62 = .ok (.iload_n 1, 1) := dk_27 (dk_at dksX1_befalls_2 14 rfl rfl)
theorem dX1_befalls_63 : decode cX1_befalls 63 = .ok (.iload_n 2, 1) := dk_28 (dk_at dksX1_befalls_2 15 rfl rfl)
theorem dX1_befalls_64 : decode cX1_befalls 64 = .ok (.invokevirtual 230, 3) := dk_182 0 230 (dk_at dksX1_befalls_2 16 rfl rfl)
theorem dX1_befalls_67 : decode cX1_befalls 67 = .ok (.ifCond .eq 13, 3) := dk_153 0 13 (dk_at dksX1_befalls_2 19 rfl rfl)
theorem dX1_befalls_70 : decode cX1_befalls 70 = .ok (.aload_n 0, 1) := dk_42 (dk_at dksX1_befalls_2 22 rfl rfl)
theorem dX1_befalls_71 : decode cX1_befalls 71 = .ok (.getfield 35, 3) := dk_180 0 35 (dk_at dksX1_befalls_3 0 rfl rfl)
theorem dX1_befalls_74 : decode cX1_befalls 74 = .ok (.getfield 97, 3) := dk_180 0 97 (dk_at dksX1_befalls_3 3 rfl rfl)
theorem dX1_befalls_77 : decode cX1_befalls 77 = .ok (.iload_n 1, 1) := dk_27 (dk_at dksX1_befalls_3 6 rfl rfl)
theorem dX1_befalls_78 : decode cX1_befalls 78 = .ok (.iload_n 2, 1) := dk_28 (dk_at dksX1_befalls_3 7 rfl rfl)
theorem dX1_befalls_79 : decode cX1_befalls 79 = .ok (.iastore, 1) := dk_79 (dk_at dksX1_befalls_3 8 rfl rfl)
theorem dX1_befalls_80 : decode cX1_befalls 80 = .ok (.return_, 1) := dk_177 (dk_at dksX1_befalls_3 9 rfl rfl)
abbrev cX1_draw : ByteArray := prog_1_method_66_code
def yX1_draw : MethodName := ⟨RX1, "draw", "(I)I"⟩
def dkwX1_draw_1 : List UInt8 := [17, 127, 255, 126, 27, 112, 172]
abbrev dktX1_draw_1 : List UInt8 := dkwX1_draw_1 ++ []
def dkwX1_draw_0 : List UInt8 := [42, 42, 180, 1, 48, 19, 1, 51, 104, 17, 48, 57, 96, 181, 1, 48, 42, 180, 1, 48, 16, 16, 122]
abbrev dktX1_draw_0 : List UInt8 := dkwX1_draw_0 ++ dktX1_draw_1
theorem dksX1_draw_0 : cX1_draw.data.toList.drop 0 = dktX1_draw_0 := by decide +kernel
theorem dksX1_draw_1 : cX1_draw.data.toList.drop 23 = dktX1_draw_1 := dk_seg dksX1_draw_0 23 rfl rfl
theorem dX1_draw_0 : decode cX1_draw 0 = .ok (.aload_n 0, 1) := dk_42 (dk_at dksX1_draw_0 0 rfl rfl)
theorem dX1_draw_1 : decode cX1_draw 1 = .ok (.aload_n 0, 1) := dk_42 (dk_at dksX1_draw_0 1 rfl rfl)
theorem dX1_draw_2 : decode cX1_draw 2 = .ok (.getfield 304, 3) := dk_180 1 48 (dk_at dksX1_draw_0 2 rfl rfl)
theorem dX1_draw_5 : decode cX1_draw 5 = .ok (.ldc_w 307, 3) := dk_19 1 51 (dk_at dksX1_draw_0 5 rfl rfl)
theorem dX1_draw_8 : decode cX1_draw 8 = .ok (.imul, 1) := dk_104 (dk_at dksX1_draw_0 8 rfl rfl)
theorem dX1_draw_9 : decode cX1_draw 9 = .ok (.sipush 12345, 3) := dk_17 48 57 (dk_at dksX1_draw_0 9 rfl rfl)
theorem dX1_draw_12 : decode cX1_draw 12 = .ok (.iadd, 1) := dk_96 (dk_at dksX1_draw_0 12 rfl rfl)
theorem dX1_draw_13 : decode cX1_draw 13 = .ok (.putfield 304, 3) := dk_181 1 48 (dk_at dksX1_draw_0 13 rfl rfl)
theorem dX1_draw_16 : decode cX1_draw 16 = .ok (.aload_n 0, 1) := dk_42 (dk_at dksX1_draw_0 16 rfl rfl)
theorem dX1_draw_17 : decode cX1_draw 17 = .ok (.getfield 304, 3) := dk_180 1 48 (dk_at dksX1_draw_0 17 rfl rfl)
theorem dX1_draw_20 : decode cX1_draw 20 = .ok (.bipush 16, 2) := dk_16 16 (dk_at dksX1_draw_0 20 rfl rfl)
theorem dX1_draw_22 : decode cX1_draw 22 = .ok (.ishr, 1) := dk_122 (dk_at dksX1_draw_0 22 rfl rfl)
theorem dX1_draw_23 : decode cX1_draw 23 = .ok (.sipush 32767, 3) := dk_17 127 255 (dk_at dksX1_draw_1 0 rfl rfl)
theorem dX1_draw_26 : decode cX1_draw 26 = .ok (.iand, 1) := dk_126 (dk_at dksX1_draw_1 3 rfl rfl)
theorem dX1_draw_27 : decode cX1_draw 27 = .ok (.iload_n 1, 1) := dk_27 (dk_at dksX1_draw_1 4 rfl rfl)
theorem dX1_draw_28 : decode cX1_draw 28 = .ok (.irem, 1) := dk_112 (dk_at dksX1_draw_1 5 rfl rfl)
theorem dX1_draw_29 : decode cX1_draw 29 = .ok (.ireturn, 1) := dk_172 (dk_at dksX1_draw_1 6 rfl rfl)
abbrev cX1_heirs : ByteArray := prog_1_method_40_code
def yX1_heirs : MethodName := ⟨RX1, "heirs", "(I)I"⟩
def dkwX1_heirs_1 : List UInt8 := [29, 27, 182, 0, 233, 153, 0, 9, 28, 4, 29, 120, 128, 61, 132, 3, 1, 167, 255, 224, 28, 172]
abbrev dktX1_heirs_1 : List UInt8 := dkwX1_heirs_1 ++ []
def dkwX1_heirs_0 : List UInt8 := [42, 27, 182, 0, 173, 3, 61, 3, 62, 29, 42, 180, 0, 22, 182, 0, 104, 162, 0, 27, 42, 180, 0, 31]
abbrev dktX1_heirs_0 : List UInt8 := dkwX1_heirs_0 ++ dktX1_heirs_1
theorem dksX1_heirs_0 : cX1_heirs.data.toList.drop 0 = dktX1_heirs_0 := by decide +kernel
theorem dksX1_heirs_1 : cX1_heirs.data.toList.drop 24 = dktX1_heirs_1 := dk_seg dksX1_heirs_0 24 rfl rfl
theorem dX1_heirs_0 : decode cX1_heirs 0 = .ok (.aload_n 0, 1) := dk_42 (dk_at dksX1_heirs_0 0 rfl rfl)
theorem dX1_heirs_1 : decode cX1_heirs 1 = .ok (.iload_n 1, 1) := dk_27 (dk_at dksX1_heirs_0 1 rfl rfl)
theorem dX1_heirs_2 : decode cX1_heirs 2 = .ok (.invokevirtual 173, 3) := dk_182 0 173 (dk_at dksX1_heirs_0 2 rfl rfl)
theorem dX1_heirs_5 : decode cX1_heirs 5 = .ok (.iconst 0, 1) := dk_3 (dk_at dksX1_heirs_0 5 rfl rfl)
theorem dX1_heirs_6 : decode cX1_heirs 6 = .ok (.istore_n 2, 1) := dk_61 (dk_at dksX1_heirs_0 6 rfl rfl)
theorem dX1_heirs_7 : decode cX1_heirs 7 = .ok (.iconst 0, 1) := dk_3 (dk_at dksX1_heirs_0 7 rfl rfl)
theorem dX1_heirs_8 : decode cX1_heirs 8 = .ok (.istore_n 3, 1) := dk_62 (dk_at dksX1_heirs_0 8 rfl rfl)
theorem dX1_heirs_9 : decode cX1_heirs 9 = .ok (.iload_n 3, 1) := dk_29 (dk_at dksX1_heirs_0 9 rfl rfl)
theorem dX1_heirs_10 : decode cX1_heirs 10 = .ok (.aload_n 0, 1) := dk_42 (dk_at dksX1_heirs_0 10 rfl rfl)
theorem dX1_heirs_11 : decode cX1_heirs 11 = .ok (.getfield 22, 3) := dk_180 0 22 (dk_at dksX1_heirs_0 11 rfl rfl)
theorem dX1_heirs_14 : decode cX1_heirs 14 = .ok (.invokevirtual 104, 3) := dk_182 0 104 (dk_at dksX1_heirs_0 14 rfl rfl)
theorem dX1_heirs_17 : decode cX1_heirs 17 = .ok (.if_icmp .ge 27, 3) := dk_162 0 27 (dk_at dksX1_heirs_0 17 rfl rfl)
theorem dX1_heirs_20 : decode cX1_heirs 20 = .ok (.aload_n 0, 1) := dk_42 (dk_at dksX1_heirs_0 20 rfl rfl)
theorem dX1_heirs_21 : decode cX1_heirs 21 = .ok (.getfield 31, 3) := dk_180 0 31 (dk_at dksX1_heirs_0 21 rfl rfl)
theorem dX1_heirs_24 : decode cX1_heirs 24 = .ok (.iload_n 3, 1) := dk_29 (dk_at dksX1_heirs_1 0 rfl rfl)
theorem dX1_heirs_25 : decode cX1_heirs 25 = .ok (.iload_n 1, 1) := dk_27 (dk_at dksX1_heirs_1 1 rfl rfl)
theorem dX1_heirs_26 : decode cX1_heirs 26 = .ok (.invokevirtual 233, 3) := dk_182 0 233 (dk_at dksX1_heirs_1 2 rfl rfl)
theorem dX1_heirs_29 : decode cX1_heirs 29 = .ok (.ifCond .eq 9, 3) := dk_153 0 9 (dk_at dksX1_heirs_1 5 rfl rfl)
theorem dX1_heirs_32 : decode cX1_heirs 32 = .ok (.iload_n 2, 1) := dk_28 (dk_at dksX1_heirs_1 8 rfl rfl)
theorem dX1_heirs_33 : decode cX1_heirs 33 = .ok (.iconst 1, 1) := dk_4 (dk_at dksX1_heirs_1 9 rfl rfl)
theorem dX1_heirs_34 : decode cX1_heirs 34 = .ok (.iload_n 3, 1) := dk_29 (dk_at dksX1_heirs_1 10 rfl rfl)
theorem dX1_heirs_35 : decode cX1_heirs 35 = .ok (.ishl, 1) := dk_120 (dk_at dksX1_heirs_1 11 rfl rfl)
theorem dX1_heirs_36 : decode cX1_heirs 36 = .ok (.ior, 1) := dk_128 (dk_at dksX1_heirs_1 12 rfl rfl)
theorem dX1_heirs_37 : decode cX1_heirs 37 = .ok (.istore_n 2, 1) := dk_61 (dk_at dksX1_heirs_1 13 rfl rfl)
theorem dX1_heirs_38 : decode cX1_heirs 38 = .ok (.iinc 3 1, 3) := dk_132 3 1 (dk_at dksX1_heirs_1 14 rfl rfl)
theorem dX1_heirs_41 : decode cX1_heirs 41 = .ok (.goto (-32), 3) := dk_167 255 224 (dk_at dksX1_heirs_1 17 rfl rfl)
theorem dX1_heirs_44 : decode cX1_heirs 44 = .ok (.iload_n 2, 1) := dk_28 (dk_at dksX1_heirs_1 20 rfl rfl)
theorem dX1_heirs_45 : decode cX1_heirs 45 = .ok (.ireturn, 1) := dk_172 (dk_at dksX1_heirs_1 21 rfl rfl)
abbrev cX1_toGrow : ByteArray := prog_1_method_54_code
def yX1_toGrow : MethodName := ⟨RX1, "toGrow", "(II)I"⟩
def dkwX1_toGrow_2 : List UInt8 := [161, 0, 5, 29, 172, 42, 180, 0, 35, 182, 0, 251, 87, 132, 3, 1, 167, 255, 216, 2, 172]
abbrev dktX1_toGrow_2 : List UInt8 := dkwX1_toGrow_2 ++ []
def dkwX1_toGrow_1 : List UInt8 := [29, 16, 40, 163, 0, 40, 42, 180, 0, 35, 180, 0, 167, 27, 46, 42, 180, 0, 35, 180, 0, 165, 28, 46]
abbrev dktX1_toGrow_1 : List UInt8 := dkwX1_toGrow_1 ++ dktX1_toGrow_2
def dkwX1_toGrow_0 : List UInt8 := [42, 27, 182, 0, 193, 42, 28, 182, 0, 173, 42, 180, 0, 35, 42, 180, 0, 31, 182, 0, 244, 87, 3, 62]
abbrev dktX1_toGrow_0 : List UInt8 := dkwX1_toGrow_0 ++ dktX1_toGrow_1
theorem dksX1_toGrow_0 : cX1_toGrow.data.toList.drop 0 = dktX1_toGrow_0 := by decide +kernel
theorem dksX1_toGrow_1 : cX1_toGrow.data.toList.drop 24 = dktX1_toGrow_1 := dk_seg dksX1_toGrow_0 24 rfl rfl
theorem dksX1_toGrow_2 : cX1_toGrow.data.toList.drop 48 = dktX1_toGrow_2 := dk_seg dksX1_toGrow_1 24 rfl rfl
theorem dX1_toGrow_0 : decode cX1_toGrow 0 = .ok (.aload_n 0, 1) := dk_42 (dk_at dksX1_toGrow_0 0 rfl rfl)
theorem dX1_toGrow_1 : decode cX1_toGrow 1 = .ok (.iload_n 1, 1) := dk_27 (dk_at dksX1_toGrow_0 1 rfl rfl)
theorem dX1_toGrow_2 : decode cX1_toGrow 2 = .ok (.invokevirtual 193, 3) := dk_182 0 193 (dk_at dksX1_toGrow_0 2 rfl rfl)
theorem dX1_toGrow_5 : decode cX1_toGrow 5 = .ok (.aload_n 0, 1) := dk_42 (dk_at dksX1_toGrow_0 5 rfl rfl)
theorem dX1_toGrow_6 : decode cX1_toGrow 6 = .ok (.iload_n 2, 1) := dk_28 (dk_at dksX1_toGrow_0 6 rfl rfl)
theorem dX1_toGrow_7 : decode cX1_toGrow 7 = .ok (.invokevirtual 173, 3) := dk_182 0 173 (dk_at dksX1_toGrow_0 7 rfl rfl)
theorem dX1_toGrow_10 : decode cX1_toGrow 10 = .ok (.aload_n 0, 1) := dk_42 (dk_at dksX1_toGrow_0 10 rfl rfl)
theorem dX1_toGrow_11 : decode cX1_toGrow 11 = .ok (.getfield 35, 3) := dk_180 0 35 (dk_at dksX1_toGrow_0 11 rfl rfl)
theorem dX1_toGrow_14 : decode cX1_toGrow 14 = .ok (.aload_n 0, 1) := dk_42 (dk_at dksX1_toGrow_0 14 rfl rfl)
theorem dX1_toGrow_15 : decode cX1_toGrow 15 = .ok (.getfield 31, 3) := dk_180 0 31 (dk_at dksX1_toGrow_0 15 rfl rfl)
theorem dX1_toGrow_18 : decode cX1_toGrow 18 = .ok (.invokevirtual 244, 3) := dk_182 0 244 (dk_at dksX1_toGrow_0 18 rfl rfl)
theorem dX1_toGrow_21 : decode cX1_toGrow 21 = .ok (.pop, 1) := dk_87 (dk_at dksX1_toGrow_0 21 rfl rfl)
theorem dX1_toGrow_22 : decode cX1_toGrow 22 = .ok (.iconst 0, 1) := dk_3 (dk_at dksX1_toGrow_0 22 rfl rfl)
theorem dX1_toGrow_23 : decode cX1_toGrow 23 = .ok (.istore_n 3, 1) := dk_62 (dk_at dksX1_toGrow_0 23 rfl rfl)
theorem dX1_toGrow_24 : decode cX1_toGrow 24 = .ok (.iload_n 3, 1) := dk_29 (dk_at dksX1_toGrow_1 0 rfl rfl)
theorem dX1_toGrow_25 : decode cX1_toGrow 25 = .ok (.bipush 40, 2) := dk_16 40 (dk_at dksX1_toGrow_1 1 rfl rfl)
theorem dX1_toGrow_27 : decode cX1_toGrow 27 = .ok (.if_icmp .gt 40, 3) := dk_163 0 40 (dk_at dksX1_toGrow_1 3 rfl rfl)
theorem dX1_toGrow_30 : decode cX1_toGrow 30 = .ok (.aload_n 0, 1) := dk_42 (dk_at dksX1_toGrow_1 6 rfl rfl)
theorem dX1_toGrow_31 : decode cX1_toGrow 31 = .ok (.getfield 35, 3) := dk_180 0 35 (dk_at dksX1_toGrow_1 7 rfl rfl)
theorem dX1_toGrow_34 : decode cX1_toGrow 34 = .ok (.getfield 167, 3) := dk_180 0 167 (dk_at dksX1_toGrow_1 10 rfl rfl)
theorem dX1_toGrow_37 : decode cX1_toGrow 37 = .ok (.iload_n 1, 1) := dk_27 (dk_at dksX1_toGrow_1 13 rfl rfl)
theorem dX1_toGrow_38 : decode cX1_toGrow 38 = .ok (.iaload, 1) := dk_46 (dk_at dksX1_toGrow_1 14 rfl rfl)
theorem dX1_toGrow_39 : decode cX1_toGrow 39 = .ok (.aload_n 0, 1) := dk_42 (dk_at dksX1_toGrow_1 15 rfl rfl)
theorem dX1_toGrow_40 : decode cX1_toGrow 40 = .ok (.getfield 35, 3) := dk_180 0 35 (dk_at dksX1_toGrow_1 16 rfl rfl)
theorem dX1_toGrow_43 : decode cX1_toGrow 43 = .ok (.getfield 165, 3) := dk_180 0 165 (dk_at dksX1_toGrow_1 19 rfl rfl)
theorem dX1_toGrow_46 : decode cX1_toGrow 46 = .ok (.iload_n 2, 1) := dk_28 (dk_at dksX1_toGrow_1 22 rfl rfl)
theorem dX1_toGrow_47 : decode cX1_toGrow 47 = .ok (.iaload, 1) := dk_46 (dk_at dksX1_toGrow_1 23 rfl rfl)
theorem dX1_toGrow_48 : decode cX1_toGrow 48 = .ok (.if_icmp .lt 5, 3) := dk_161 0 5 (dk_at dksX1_toGrow_2 0 rfl rfl)
theorem dX1_toGrow_51 : decode cX1_toGrow 51 = .ok (.iload_n 3, 1) := dk_29 (dk_at dksX1_toGrow_2 3 rfl rfl)
theorem dX1_toGrow_52 : decode cX1_toGrow 52 = .ok (.ireturn, 1) := dk_172 (dk_at dksX1_toGrow_2 4 rfl rfl)
theorem dX1_toGrow_53 : decode cX1_toGrow 53 = .ok (.aload_n 0, 1) := dk_42 (dk_at dksX1_toGrow_2 5 rfl rfl)
theorem dX1_toGrow_54 : decode cX1_toGrow 54 = .ok (.getfield 35, 3) := dk_180 0 35 (dk_at dksX1_toGrow_2 6 rfl rfl)
theorem dX1_toGrow_57 : decode cX1_toGrow 57 = .ok (.invokevirtual 251, 3) := dk_182 0 251 (dk_at dksX1_toGrow_2 9 rfl rfl)
theorem dX1_toGrow_60 : decode cX1_toGrow 60 = .ok (.pop, 1) := dk_87 (dk_at dksX1_toGrow_2 12 rfl rfl)
theorem dX1_toGrow_61 : decode cX1_toGrow 61 = .ok (.iinc 3 1, 3) := dk_132 3 1 (dk_at dksX1_toGrow_2 13 rfl rfl)
theorem dX1_toGrow_64 : decode cX1_toGrow 64 = .ok (.goto (-40), 3) := dk_167 255 216 (dk_at dksX1_toGrow_2 16 rfl rfl)
theorem dX1_toGrow_67 : decode cX1_toGrow 67 = .ok (.iconst (-1), 1) := dk_2 (dk_at dksX1_toGrow_2 19 rfl rfl)
theorem dX1_toGrow_68 : decode cX1_toGrow 68 = .ok (.ireturn, 1) := dk_172 (dk_at dksX1_toGrow_2 20 rfl rfl)
abbrev cX1_paid : ByteArray := prog_1_method_69_code
def yX1_paid : MethodName := ⟨RX1, "paid", "(I)I"⟩
def dkwX1_paid_1 : List UInt8 := [182, 0, 125, 100, 172]
abbrev dktX1_paid_1 : List UInt8 := dkwX1_paid_1 ++ []
def dkwX1_paid_0 : List UInt8 := [27, 3, 16, 40, 184, 0, 139, 184, 0, 62, 42, 27, 182, 0, 248, 182, 0, 125, 42, 180, 0, 31]
abbrev dktX1_paid_0 : List UInt8 := dkwX1_paid_0 ++ dktX1_paid_1
theorem dksX1_paid_0 : cX1_paid.data.toList.drop 0 = dktX1_paid_0 := by decide +kernel
theorem dksX1_paid_1 : cX1_paid.data.toList.drop 22 = dktX1_paid_1 := dk_seg dksX1_paid_0 22 rfl rfl
theorem dX1_paid_0 : decode cX1_paid 0 = .ok (.iload_n 1, 1) := dk_27 (dk_at dksX1_paid_0 0 rfl rfl)
theorem dX1_paid_1 : decode cX1_paid 1 = .ok (.iconst 0, 1) := dk_3 (dk_at dksX1_paid_0 1 rfl rfl)
theorem dX1_paid_2 : decode cX1_paid 2 = .ok (.bipush 40, 2) := dk_16 40 (dk_at dksX1_paid_0 2 rfl rfl)
theorem dX1_paid_4 : decode cX1_paid 4 = .ok (.invokestatic 139, 3) := dk_184 0 139 (dk_at dksX1_paid_0 4 rfl rfl)
theorem dX1_paid_7 : decode cX1_paid 7 = .ok (.invokestatic 62, 3) := dk_184 0 62 (dk_at dksX1_paid_0 7 rfl rfl)
theorem dX1_paid_10 : decode cX1_paid 10 = .ok (.aload_n 0, 1) := dk_42 (dk_at dksX1_paid_0 10 rfl rfl)
theorem dX1_paid_11 : decode cX1_paid 11 = .ok (.iload_n 1, 1) := dk_27 (dk_at dksX1_paid_0 11 rfl rfl)
theorem dX1_paid_12 : decode cX1_paid 12 = .ok (.invokevirtual 248, 3) := dk_182 0 248 (dk_at dksX1_paid_0 12 rfl rfl)
theorem dX1_paid_15 : decode cX1_paid 15 = .ok (.invokevirtual 125, 3) := dk_182 0 125 (dk_at dksX1_paid_0 15 rfl rfl)
theorem dX1_paid_18 : decode cX1_paid 18 = .ok (.aload_n 0, 1) := dk_42 (dk_at dksX1_paid_0 18 rfl rfl)
theorem dX1_paid_19 : decode cX1_paid 19 = .ok (.getfield 31, 3) := dk_180 0 31 (dk_at dksX1_paid_0 19 rfl rfl)
theorem dX1_paid_22 : decode cX1_paid 22 = .ok (.invokevirtual 125, 3) := dk_182 0 125 (dk_at dksX1_paid_1 0 rfl rfl)
theorem dX1_paid_25 : decode cX1_paid 25 = .ok (.isub, 1) := dk_100 (dk_at dksX1_paid_1 3 rfl rfl)
theorem dX1_paid_26 : decode cX1_paid 26 = .ok (.ireturn, 1) := dk_172 (dk_at dksX1_paid_1 4 rfl rfl)
abbrev cX1_wornest : ByteArray := prog_1_method_70_code
def yX1_wornest : MethodName := ⟨RX1, "wornest", "(I)I"⟩
def dkwX1_wornest_2 : List UInt8 := [180, 0, 35, 180, 0, 180, 28, 46, 164, 0, 5, 29, 61, 132, 3, 1, 167, 255, 214, 28, 172]
abbrev dktX1_wornest_2 : List UInt8 := dkwX1_wornest_2 ++ []
def dkwX1_wornest_1 : List UInt8 := [180, 0, 22, 182, 0, 89, 162, 0, 37, 28, 2, 159, 0, 24, 42, 180, 0, 35, 180, 0, 180, 29, 46, 42]
abbrev dktX1_wornest_1 : List UInt8 := dkwX1_wornest_1 ++ dktX1_wornest_2
def dkwX1_wornest_0 : List UInt8 := [27, 3, 16, 40, 184, 0, 139, 184, 0, 62, 42, 27, 182, 0, 248, 87, 2, 61, 3, 62, 29, 42]
abbrev dktX1_wornest_0 : List UInt8 := dkwX1_wornest_0 ++ dktX1_wornest_1
theorem dksX1_wornest_0 : cX1_wornest.data.toList.drop 0 = dktX1_wornest_0 := by decide +kernel
theorem dksX1_wornest_1 : cX1_wornest.data.toList.drop 22 = dktX1_wornest_1 := dk_seg dksX1_wornest_0 22 rfl rfl
theorem dksX1_wornest_2 : cX1_wornest.data.toList.drop 46 = dktX1_wornest_2 := dk_seg dksX1_wornest_1 24 rfl rfl
theorem dX1_wornest_0 : decode cX1_wornest 0 = .ok (.iload_n 1, 1) := dk_27 (dk_at dksX1_wornest_0 0 rfl rfl)
theorem dX1_wornest_1 : decode cX1_wornest 1 = .ok (.iconst 0, 1) := dk_3 (dk_at dksX1_wornest_0 1 rfl rfl)
theorem dX1_wornest_2 : decode cX1_wornest 2 = .ok (.bipush 40, 2) := dk_16 40 (dk_at dksX1_wornest_0 2 rfl rfl)
theorem dX1_wornest_4 : decode cX1_wornest 4 = .ok (.invokestatic 139, 3) := dk_184 0 139 (dk_at dksX1_wornest_0 4 rfl rfl)
theorem dX1_wornest_7 : decode cX1_wornest 7 = .ok (.invokestatic 62, 3) := dk_184 0 62 (dk_at dksX1_wornest_0 7 rfl rfl)
theorem dX1_wornest_10 : decode cX1_wornest 10 = .ok (.aload_n 0, 1) := dk_42 (dk_at dksX1_wornest_0 10 rfl rfl)
theorem dX1_wornest_11 : decode cX1_wornest 11 = .ok (.iload_n 1, 1) := dk_27 (dk_at dksX1_wornest_0 11 rfl rfl)
theorem dX1_wornest_12 : decode cX1_wornest 12 = .ok (.invokevirtual 248, 3) := dk_182 0 248 (dk_at dksX1_wornest_0 12 rfl rfl)
theorem dX1_wornest_15 : decode cX1_wornest 15 = .ok (.pop, 1) := dk_87 (dk_at dksX1_wornest_0 15 rfl rfl)
theorem dX1_wornest_16 : decode cX1_wornest 16 = .ok (.iconst (-1), 1) := dk_2 (dk_at dksX1_wornest_0 16 rfl rfl)
theorem dX1_wornest_17 : decode cX1_wornest 17 = .ok (.istore_n 2, 1) := dk_61 (dk_at dksX1_wornest_0 17 rfl rfl)
theorem dX1_wornest_18 : decode cX1_wornest 18 = .ok (.iconst 0, 1) := dk_3 (dk_at dksX1_wornest_0 18 rfl rfl)
theorem dX1_wornest_19 : decode cX1_wornest 19 = .ok (.istore_n 3, 1) := dk_62 (dk_at dksX1_wornest_0 19 rfl rfl)
theorem dX1_wornest_20 : decode cX1_wornest 20 = .ok (.iload_n 3, 1) := dk_29 (dk_at dksX1_wornest_0 20 rfl rfl)
theorem dX1_wornest_21 : decode cX1_wornest 21 = .ok (.aload_n 0, 1) := dk_42 (dk_at dksX1_wornest_0 21 rfl rfl)
theorem dX1_wornest_22 : decode cX1_wornest 22 = .ok (.getfield 22, 3) := dk_180 0 22 (dk_at dksX1_wornest_1 0 rfl rfl)
theorem dX1_wornest_25 : decode cX1_wornest 25 = .ok (.invokevirtual 89, 3) := dk_182 0 89 (dk_at dksX1_wornest_1 3 rfl rfl)
theorem dX1_wornest_28 : decode cX1_wornest 28 = .ok (.if_icmp .ge 37, 3) := dk_162 0 37 (dk_at dksX1_wornest_1 6 rfl rfl)
theorem dX1_wornest_31 : decode cX1_wornest 31 = .ok (.iload_n 2, 1) := dk_28 (dk_at dksX1_wornest_1 9 rfl rfl)
theorem dX1_wornest_32 : decode cX1_wornest 32 = .ok (.iconst (-1), 1) := dk_2 (dk_at dksX1_wornest_1 10 rfl rfl)
theorem dX1_wornest_33 : decode cX1_wornest 33 = .ok (.if_icmp .eq 24, 3) := dk_159 0 24 (dk_at dksX1_wornest_1 11 rfl rfl)
theorem dX1_wornest_36 : decode cX1_wornest 36 = .ok (.aload_n 0, 1) := dk_42 (dk_at dksX1_wornest_1 14 rfl rfl)
theorem dX1_wornest_37 : decode cX1_wornest 37 = .ok (.getfield 35, 3) := dk_180 0 35 (dk_at dksX1_wornest_1 15 rfl rfl)
theorem dX1_wornest_40 : decode cX1_wornest 40 = .ok (.getfield 180, 3) := dk_180 0 180 (dk_at dksX1_wornest_1 18 rfl rfl)
theorem dX1_wornest_43 : decode cX1_wornest 43 = .ok (.iload_n 3, 1) := dk_29 (dk_at dksX1_wornest_1 21 rfl rfl)
theorem dX1_wornest_44 : decode cX1_wornest 44 = .ok (.iaload, 1) := dk_46 (dk_at dksX1_wornest_1 22 rfl rfl)
theorem dX1_wornest_45 : decode cX1_wornest 45 = .ok (.aload_n 0, 1) := dk_42 (dk_at dksX1_wornest_1 23 rfl rfl)
theorem dX1_wornest_46 : decode cX1_wornest 46 = .ok (.getfield 35, 3) := dk_180 0 35 (dk_at dksX1_wornest_2 0 rfl rfl)
theorem dX1_wornest_49 : decode cX1_wornest 49 = .ok (.getfield 180, 3) := dk_180 0 180 (dk_at dksX1_wornest_2 3 rfl rfl)
theorem dX1_wornest_52 : decode cX1_wornest 52 = .ok (.iload_n 2, 1) := dk_28 (dk_at dksX1_wornest_2 6 rfl rfl)
theorem dX1_wornest_53 : decode cX1_wornest 53 = .ok (.iaload, 1) := dk_46 (dk_at dksX1_wornest_2 7 rfl rfl)
theorem dX1_wornest_54 : decode cX1_wornest 54 = .ok (.if_icmp .le 5, 3) := dk_164 0 5 (dk_at dksX1_wornest_2 8 rfl rfl)
theorem dX1_wornest_57 : decode cX1_wornest 57 = .ok (.iload_n 3, 1) := dk_29 (dk_at dksX1_wornest_2 11 rfl rfl)
theorem dX1_wornest_58 : decode cX1_wornest 58 = .ok (.istore_n 2, 1) := dk_61 (dk_at dksX1_wornest_2 12 rfl rfl)
theorem dX1_wornest_59 : decode cX1_wornest 59 = .ok (.iinc 3 1, 3) := dk_132 3 1 (dk_at dksX1_wornest_2 13 rfl rfl)
theorem dX1_wornest_62 : decode cX1_wornest 62 = .ok (.goto (-42), 3) := dk_167 255 214 (dk_at dksX1_wornest_2 16 rfl rfl)
theorem dX1_wornest_65 : decode cX1_wornest 65 = .ok (.iload_n 2, 1) := dk_28 (dk_at dksX1_wornest_2 19 rfl rfl)
theorem dX1_wornest_66 : decode cX1_wornest 66 = .ok (.ireturn, 1) := dk_172 (dk_at dksX1_wornest_2 20 rfl rfl)
abbrev cX1_dampest : ByteArray := prog_1_method_71_code
def yX1_dampest : MethodName := ⟨RX1, "dampest", "(I)I"⟩
def dkwX1_dampest_3 : List UInt8 := [28, 172]
abbrev dktX1_dampest_3 : List UInt8 := dkwX1_dampest_3 ++ []
def dkwX1_dampest_2 : List UInt8 := [180, 0, 35, 182, 0, 113, 62, 21, 4, 61, 42, 180, 0, 35, 182, 0, 251, 87, 132, 4, 1, 167, 255, 217]
abbrev dktX1_dampest_2 : List UInt8 := dkwX1_dampest_2 ++ dktX1_dampest_3
def dkwX1_dampest_1 : List UInt8 := [2, 62, 3, 54, 4, 21, 4, 27, 162, 0, 39, 42, 180, 0, 35, 182, 0, 113, 29, 164, 0, 14, 42]
abbrev dktX1_dampest_1 : List UInt8 := dkwX1_dampest_1 ++ dktX1_dampest_2
def dkwX1_dampest_0 : List UInt8 := [27, 4, 16, 40, 184, 0, 139, 184, 0, 62, 42, 180, 0, 35, 42, 180, 0, 31, 182, 0, 244, 87, 3, 61]
abbrev dktX1_dampest_0 : List UInt8 := dkwX1_dampest_0 ++ dktX1_dampest_1
theorem dksX1_dampest_0 : cX1_dampest.data.toList.drop 0 = dktX1_dampest_0 := by decide +kernel
theorem dksX1_dampest_1 : cX1_dampest.data.toList.drop 24 = dktX1_dampest_1 := dk_seg dksX1_dampest_0 24 rfl rfl
theorem dksX1_dampest_2 : cX1_dampest.data.toList.drop 47 = dktX1_dampest_2 := dk_seg dksX1_dampest_1 23 rfl rfl
theorem dksX1_dampest_3 : cX1_dampest.data.toList.drop 71 = dktX1_dampest_3 := dk_seg dksX1_dampest_2 24 rfl rfl
theorem dX1_dampest_0 : decode cX1_dampest 0 = .ok (.iload_n 1, 1) := dk_27 (dk_at dksX1_dampest_0 0 rfl rfl)
theorem dX1_dampest_1 : decode cX1_dampest 1 = .ok (.iconst 1, 1) := dk_4 (dk_at dksX1_dampest_0 1 rfl rfl)
theorem dX1_dampest_2 : decode cX1_dampest 2 = .ok (.bipush 40, 2) := dk_16 40 (dk_at dksX1_dampest_0 2 rfl rfl)
theorem dX1_dampest_4 : decode cX1_dampest 4 = .ok (.invokestatic 139, 3) := dk_184 0 139 (dk_at dksX1_dampest_0 4 rfl rfl)
theorem dX1_dampest_7 : decode cX1_dampest 7 = .ok (.invokestatic 62, 3) := dk_184 0 62 (dk_at dksX1_dampest_0 7 rfl rfl)
theorem dX1_dampest_10 : decode cX1_dampest 10 = .ok (.aload_n 0, 1) := dk_42 (dk_at dksX1_dampest_0 10 rfl rfl)
theorem dX1_dampest_11 : decode cX1_dampest 11 = .ok (.getfield 35, 3) := dk_180 0 35 (dk_at dksX1_dampest_0 11 rfl rfl)
theorem dX1_dampest_14 : decode cX1_dampest 14 = .ok (.aload_n 0, 1) := dk_42 (dk_at dksX1_dampest_0 14 rfl rfl)
theorem dX1_dampest_15 : decode cX1_dampest 15 = .ok (.getfield 31, 3) := dk_180 0 31 (dk_at dksX1_dampest_0 15 rfl rfl)
theorem dX1_dampest_18 : decode cX1_dampest 18 = .ok (.invokevirtual 244, 3) := dk_182 0 244 (dk_at dksX1_dampest_0 18 rfl rfl)
theorem dX1_dampest_21 : decode cX1_dampest 21 = .ok (.pop, 1) := dk_87 (dk_at dksX1_dampest_0 21 rfl rfl)
theorem dX1_dampest_22 : decode cX1_dampest 22 = .ok (.iconst 0, 1) := dk_3 (dk_at dksX1_dampest_0 22 rfl rfl)
theorem dX1_dampest_23 : decode cX1_dampest 23 = .ok (.istore_n 2, 1) := dk_61 (dk_at dksX1_dampest_0 23 rfl rfl)
theorem dX1_dampest_24 : decode cX1_dampest 24 = .ok (.iconst (-1), 1) := dk_2 (dk_at dksX1_dampest_1 0 rfl rfl)
theorem dX1_dampest_25 : decode cX1_dampest 25 = .ok (.istore_n 3, 1) := dk_62 (dk_at dksX1_dampest_1 1 rfl rfl)
theorem dX1_dampest_26 : decode cX1_dampest 26 = .ok (.iconst 0, 1) := dk_3 (dk_at dksX1_dampest_1 2 rfl rfl)
theorem dX1_dampest_27 : decode cX1_dampest 27 = .ok (.istore 4, 2) := dk_54 4 (dk_at dksX1_dampest_1 3 rfl rfl)
theorem dX1_dampest_29 : decode cX1_dampest 29 = .ok (.iload 4, 2) := dk_21 4 (dk_at dksX1_dampest_1 5 rfl rfl)
theorem dX1_dampest_31 : decode cX1_dampest 31 = .ok (.iload_n 1, 1) := dk_27 (dk_at dksX1_dampest_1 7 rfl rfl)
theorem dX1_dampest_32 : decode cX1_dampest 32 = .ok (.if_icmp .ge 39, 3) := dk_162 0 39 (dk_at dksX1_dampest_1 8 rfl rfl)
theorem dX1_dampest_35 : decode cX1_dampest 35 = .ok (.aload_n 0, 1) := dk_42 (dk_at dksX1_dampest_1 11 rfl rfl)
theorem dX1_dampest_36 : decode cX1_dampest 36 = .ok (.getfield 35, 3) := dk_180 0 35 (dk_at dksX1_dampest_1 12 rfl rfl)
theorem dX1_dampest_39 : decode cX1_dampest 39 = .ok (.invokevirtual 113, 3) := dk_182 0 113 (dk_at dksX1_dampest_1 15 rfl rfl)
theorem dX1_dampest_42 : decode cX1_dampest 42 = .ok (.iload_n 3, 1) := dk_29 (dk_at dksX1_dampest_1 18 rfl rfl)
theorem dX1_dampest_43 : decode cX1_dampest 43 = .ok (.if_icmp .le 14, 3) := dk_164 0 14 (dk_at dksX1_dampest_1 19 rfl rfl)
theorem dX1_dampest_46 : decode cX1_dampest 46 = .ok (.aload_n 0, 1) := dk_42 (dk_at dksX1_dampest_1 22 rfl rfl)
theorem dX1_dampest_47 : decode cX1_dampest 47 = .ok (.getfield 35, 3) := dk_180 0 35 (dk_at dksX1_dampest_2 0 rfl rfl)
theorem dX1_dampest_50 : decode cX1_dampest 50 = .ok (.invokevirtual 113, 3) := dk_182 0 113 (dk_at dksX1_dampest_2 3 rfl rfl)
theorem dX1_dampest_53 : decode cX1_dampest 53 = .ok (.istore_n 3, 1) := dk_62 (dk_at dksX1_dampest_2 6 rfl rfl)
theorem dX1_dampest_54 : decode cX1_dampest 54 = .ok (.iload 4, 2) := dk_21 4 (dk_at dksX1_dampest_2 7 rfl rfl)
theorem dX1_dampest_56 : decode cX1_dampest 56 = .ok (.istore_n 2, 1) := dk_61 (dk_at dksX1_dampest_2 9 rfl rfl)
theorem dX1_dampest_57 : decode cX1_dampest 57 = .ok (.aload_n 0, 1) := dk_42 (dk_at dksX1_dampest_2 10 rfl rfl)
theorem dX1_dampest_58 : decode cX1_dampest 58 = .ok (.getfield 35, 3) := dk_180 0 35 (dk_at dksX1_dampest_2 11 rfl rfl)
theorem dX1_dampest_61 : decode cX1_dampest 61 = .ok (.invokevirtual 251, 3) := dk_182 0 251 (dk_at dksX1_dampest_2 14 rfl rfl)
theorem dX1_dampest_64 : decode cX1_dampest 64 = .ok (.pop, 1) := dk_87 (dk_at dksX1_dampest_2 17 rfl rfl)
theorem dX1_dampest_65 : decode cX1_dampest 65 = .ok (.iinc 4 1, 3) := dk_132 4 1 (dk_at dksX1_dampest_2 18 rfl rfl)
theorem dX1_dampest_68 : decode cX1_dampest 68 = .ok (.goto (-39), 3) := dk_167 255 217 (dk_at dksX1_dampest_2 21 rfl rfl)
theorem dX1_dampest_71 : decode cX1_dampest 71 = .ok (.iload_n 2, 1) := dk_28 (dk_at dksX1_dampest_3 0 rfl rfl)
theorem dX1_dampest_72 : decode cX1_dampest 72 = .ok (.ireturn, 1) := dk_172 (dk_at dksX1_dampest_3 1 rfl rfl)
abbrev cX1_kept : ByteArray := prog_1_method_72_code
def yX1_kept : MethodName := ⟨RX1, "kept", "(I)I"⟩
def dkwX1_kept_3 : List UInt8 := [128, 61, 132, 3, 1, 167, 255, 202, 28, 172]
abbrev dktX1_kept_3 : List UInt8 := dkwX1_kept_3 ++ []
def dkwX1_kept_2 : List UInt8 := [180, 0, 35, 180, 0, 97, 29, 46, 42, 180, 0, 31, 180, 0, 97, 29, 46, 160, 0, 9, 28, 4, 29, 120]
abbrev dktX1_kept_2 : List UInt8 := dkwX1_kept_2 ++ dktX1_kept_3
def dkwX1_kept_1 : List UInt8 := [180, 0, 22, 182, 0, 104, 162, 0, 49, 42, 180, 0, 31, 180, 0, 97, 29, 46, 2, 159, 0, 30, 42]
abbrev dktX1_kept_1 : List UInt8 := dkwX1_kept_1 ++ dktX1_kept_2
def dkwX1_kept_0 : List UInt8 := [27, 3, 16, 40, 184, 0, 139, 184, 0, 62, 42, 27, 182, 0, 248, 87, 3, 61, 3, 62, 29, 42]
abbrev dktX1_kept_0 : List UInt8 := dkwX1_kept_0 ++ dktX1_kept_1
theorem dksX1_kept_0 : cX1_kept.data.toList.drop 0 = dktX1_kept_0 := by decide +kernel
theorem dksX1_kept_1 : cX1_kept.data.toList.drop 22 = dktX1_kept_1 := dk_seg dksX1_kept_0 22 rfl rfl
theorem dksX1_kept_2 : cX1_kept.data.toList.drop 45 = dktX1_kept_2 := dk_seg dksX1_kept_1 23 rfl rfl
theorem dksX1_kept_3 : cX1_kept.data.toList.drop 69 = dktX1_kept_3 := dk_seg dksX1_kept_2 24 rfl rfl
theorem dX1_kept_0 : decode cX1_kept 0 = .ok (.iload_n 1, 1) := dk_27 (dk_at dksX1_kept_0 0 rfl rfl)
theorem dX1_kept_1 : decode cX1_kept 1 = .ok (.iconst 0, 1) := dk_3 (dk_at dksX1_kept_0 1 rfl rfl)
theorem dX1_kept_2 : decode cX1_kept 2 = .ok (.bipush 40, 2) := dk_16 40 (dk_at dksX1_kept_0 2 rfl rfl)
theorem dX1_kept_4 : decode cX1_kept 4 = .ok (.invokestatic 139, 3) := dk_184 0 139 (dk_at dksX1_kept_0 4 rfl rfl)
theorem dX1_kept_7 : decode cX1_kept 7 = .ok (.invokestatic 62, 3) := dk_184 0 62 (dk_at dksX1_kept_0 7 rfl rfl)
theorem dX1_kept_10 : decode cX1_kept 10 = .ok (.aload_n 0, 1) := dk_42 (dk_at dksX1_kept_0 10 rfl rfl)
theorem dX1_kept_11 : decode cX1_kept 11 = .ok (.iload_n 1, 1) := dk_27 (dk_at dksX1_kept_0 11 rfl rfl)
theorem dX1_kept_12 : decode cX1_kept 12 = .ok (.invokevirtual 248, 3) := dk_182 0 248 (dk_at dksX1_kept_0 12 rfl rfl)
theorem dX1_kept_15 : decode cX1_kept 15 = .ok (.pop, 1) := dk_87 (dk_at dksX1_kept_0 15 rfl rfl)
theorem dX1_kept_16 : decode cX1_kept 16 = .ok (.iconst 0, 1) := dk_3 (dk_at dksX1_kept_0 16 rfl rfl)
theorem dX1_kept_17 : decode cX1_kept 17 = .ok (.istore_n 2, 1) := dk_61 (dk_at dksX1_kept_0 17 rfl rfl)
theorem dX1_kept_18 : decode cX1_kept 18 = .ok (.iconst 0, 1) := dk_3 (dk_at dksX1_kept_0 18 rfl rfl)
theorem dX1_kept_19 : decode cX1_kept 19 = .ok (.istore_n 3, 1) := dk_62 (dk_at dksX1_kept_0 19 rfl rfl)
theorem dX1_kept_20 : decode cX1_kept 20 = .ok (.iload_n 3, 1) := dk_29 (dk_at dksX1_kept_0 20 rfl rfl)
theorem dX1_kept_21 : decode cX1_kept 21 = .ok (.aload_n 0, 1) := dk_42 (dk_at dksX1_kept_0 21 rfl rfl)
theorem dX1_kept_22 : decode cX1_kept 22 = .ok (.getfield 22, 3) := dk_180 0 22 (dk_at dksX1_kept_1 0 rfl rfl)
theorem dX1_kept_25 : decode cX1_kept 25 = .ok (.invokevirtual 104, 3) := dk_182 0 104 (dk_at dksX1_kept_1 3 rfl rfl)
theorem dX1_kept_28 : decode cX1_kept 28 = .ok (.if_icmp .ge 49, 3) := dk_162 0 49 (dk_at dksX1_kept_1 6 rfl rfl)
theorem dX1_kept_31 : decode cX1_kept 31 = .ok (.aload_n 0, 1) := dk_42 (dk_at dksX1_kept_1 9 rfl rfl)
theorem dX1_kept_32 : decode cX1_kept 32 = .ok (.getfield 31, 3) := dk_180 0 31 (dk_at dksX1_kept_1 10 rfl rfl)
theorem dX1_kept_35 : decode cX1_kept 35 = .ok (.getfield 97, 3) := dk_180 0 97 (dk_at dksX1_kept_1 13 rfl rfl)
theorem dX1_kept_38 : decode cX1_kept 38 = .ok (.iload_n 3, 1) := dk_29 (dk_at dksX1_kept_1 16 rfl rfl)
theorem dX1_kept_39 : decode cX1_kept 39 = .ok (.iaload, 1) := dk_46 (dk_at dksX1_kept_1 17 rfl rfl)
theorem dX1_kept_40 : decode cX1_kept 40 = .ok (.iconst (-1), 1) := dk_2 (dk_at dksX1_kept_1 18 rfl rfl)
theorem dX1_kept_41 : decode cX1_kept 41 = .ok (.if_icmp .eq 30, 3) := dk_159 0 30 (dk_at dksX1_kept_1 19 rfl rfl)
theorem dX1_kept_44 : decode cX1_kept 44 = .ok (.aload_n 0, 1) := dk_42 (dk_at dksX1_kept_1 22 rfl rfl)
theorem dX1_kept_45 : decode cX1_kept 45 = .ok (.getfield 35, 3) := dk_180 0 35 (dk_at dksX1_kept_2 0 rfl rfl)
theorem dX1_kept_48 : decode cX1_kept 48 = .ok (.getfield 97, 3) := dk_180 0 97 (dk_at dksX1_kept_2 3 rfl rfl)
theorem dX1_kept_51 : decode cX1_kept 51 = .ok (.iload_n 3, 1) := dk_29 (dk_at dksX1_kept_2 6 rfl rfl)
theorem dX1_kept_52 : decode cX1_kept 52 = .ok (.iaload, 1) := dk_46 (dk_at dksX1_kept_2 7 rfl rfl)
theorem dX1_kept_53 : decode cX1_kept 53 = .ok (.aload_n 0, 1) := dk_42 (dk_at dksX1_kept_2 8 rfl rfl)
theorem dX1_kept_54 : decode cX1_kept 54 = .ok (.getfield 31, 3) := dk_180 0 31 (dk_at dksX1_kept_2 9 rfl rfl)
theorem dX1_kept_57 : decode cX1_kept 57 = .ok (.getfield 97, 3) := dk_180 0 97 (dk_at dksX1_kept_2 12 rfl rfl)
theorem dX1_kept_60 : decode cX1_kept 60 = .ok (.iload_n 3, 1) := dk_29 (dk_at dksX1_kept_2 15 rfl rfl)
theorem dX1_kept_61 : decode cX1_kept 61 = .ok (.iaload, 1) := dk_46 (dk_at dksX1_kept_2 16 rfl rfl)
theorem dX1_kept_62 : decode cX1_kept 62 = .ok (.if_icmp .ne 9, 3) := dk_160 0 9 (dk_at dksX1_kept_2 17 rfl rfl)
theorem dX1_kept_65 : decode cX1_kept 65 = .ok (.iload_n 2, 1) := dk_28 (dk_at dksX1_kept_2 20 rfl rfl)
theorem dX1_kept_66 : decode cX1_kept 66 = .ok (.iconst 1, 1) := dk_4 (dk_at dksX1_kept_2 21 rfl rfl)
theorem dX1_kept_67 : decode cX1_kept 67 = .ok (.iload_n 3, 1) := dk_29 (dk_at dksX1_kept_2 22 rfl rfl)
theorem dX1_kept_68 : decode cX1_kept 68 = .ok (.ishl, 1) := dk_120 (dk_at dksX1_kept_2 23 rfl rfl)
theorem dX1_kept_69 : decode cX1_kept 69 = .ok (.ior, 1) := dk_128 (dk_at dksX1_kept_3 0 rfl rfl)
theorem dX1_kept_70 : decode cX1_kept 70 = .ok (.istore_n 2, 1) := dk_61 (dk_at dksX1_kept_3 1 rfl rfl)
theorem dX1_kept_71 : decode cX1_kept 71 = .ok (.iinc 3 1, 3) := dk_132 3 1 (dk_at dksX1_kept_3 2 rfl rfl)
theorem dX1_kept_74 : decode cX1_kept 74 = .ok (.goto (-54), 3) := dk_167 255 202 (dk_at dksX1_kept_3 5 rfl rfl)
theorem dX1_kept_77 : decode cX1_kept 77 = .ok (.iload_n 2, 1) := dk_28 (dk_at dksX1_kept_3 8 rfl rfl)
theorem dX1_kept_78 : decode cX1_kept 78 = .ok (.ireturn, 1) := dk_172 (dk_at dksX1_kept_3 9 rfl rfl)
abbrev cX1_sorest : ByteArray := prog_1_method_73_code
def yX1_sorest : MethodName := ⟨RX1, "sorest", "(I)I"⟩
def dkwX1_sorest_2 : List UInt8 := [180, 0, 35, 180, 0, 203, 28, 46, 164, 0, 5, 29, 61, 132, 3, 1, 167, 255, 214, 28, 172]
abbrev dktX1_sorest_2 : List UInt8 := dkwX1_sorest_2 ++ []
def dkwX1_sorest_1 : List UInt8 := [180, 0, 22, 182, 0, 104, 162, 0, 37, 28, 2, 159, 0, 24, 42, 180, 0, 35, 180, 0, 203, 29, 46, 42]
abbrev dktX1_sorest_1 : List UInt8 := dkwX1_sorest_1 ++ dktX1_sorest_2
def dkwX1_sorest_0 : List UInt8 := [27, 3, 16, 40, 184, 0, 139, 184, 0, 62, 42, 27, 182, 0, 248, 87, 2, 61, 3, 62, 29, 42]
abbrev dktX1_sorest_0 : List UInt8 := dkwX1_sorest_0 ++ dktX1_sorest_1
theorem dksX1_sorest_0 : cX1_sorest.data.toList.drop 0 = dktX1_sorest_0 := by decide +kernel
theorem dksX1_sorest_1 : cX1_sorest.data.toList.drop 22 = dktX1_sorest_1 := dk_seg dksX1_sorest_0 22 rfl rfl
theorem dksX1_sorest_2 : cX1_sorest.data.toList.drop 46 = dktX1_sorest_2 := dk_seg dksX1_sorest_1 24 rfl rfl
theorem dX1_sorest_0 : decode cX1_sorest 0 = .ok (.iload_n 1, 1) := dk_27 (dk_at dksX1_sorest_0 0 rfl rfl)
theorem dX1_sorest_1 : decode cX1_sorest 1 = .ok (.iconst 0, 1) := dk_3 (dk_at dksX1_sorest_0 1 rfl rfl)
theorem dX1_sorest_2 : decode cX1_sorest 2 = .ok (.bipush 40, 2) := dk_16 40 (dk_at dksX1_sorest_0 2 rfl rfl)
theorem dX1_sorest_4 : decode cX1_sorest 4 = .ok (.invokestatic 139, 3) := dk_184 0 139 (dk_at dksX1_sorest_0 4 rfl rfl)
theorem dX1_sorest_7 : decode cX1_sorest 7 = .ok (.invokestatic 62, 3) := dk_184 0 62 (dk_at dksX1_sorest_0 7 rfl rfl)
theorem dX1_sorest_10 : decode cX1_sorest 10 = .ok (.aload_n 0, 1) := dk_42 (dk_at dksX1_sorest_0 10 rfl rfl)
theorem dX1_sorest_11 : decode cX1_sorest 11 = .ok (.iload_n 1, 1) := dk_27 (dk_at dksX1_sorest_0 11 rfl rfl)
theorem dX1_sorest_12 : decode cX1_sorest 12 = .ok (.invokevirtual 248, 3) := dk_182 0 248 (dk_at dksX1_sorest_0 12 rfl rfl)
theorem dX1_sorest_15 : decode cX1_sorest 15 = .ok (.pop, 1) := dk_87 (dk_at dksX1_sorest_0 15 rfl rfl)
theorem dX1_sorest_16 : decode cX1_sorest 16 = .ok (.iconst (-1), 1) := dk_2 (dk_at dksX1_sorest_0 16 rfl rfl)
theorem dX1_sorest_17 : decode cX1_sorest 17 = .ok (.istore_n 2, 1) := dk_61 (dk_at dksX1_sorest_0 17 rfl rfl)
theorem dX1_sorest_18 : decode cX1_sorest 18 = .ok (.iconst 0, 1) := dk_3 (dk_at dksX1_sorest_0 18 rfl rfl)
theorem dX1_sorest_19 : decode cX1_sorest 19 = .ok (.istore_n 3, 1) := dk_62 (dk_at dksX1_sorest_0 19 rfl rfl)
theorem dX1_sorest_20 : decode cX1_sorest 20 = .ok (.iload_n 3, 1) := dk_29 (dk_at dksX1_sorest_0 20 rfl rfl)
theorem dX1_sorest_21 : decode cX1_sorest 21 = .ok (.aload_n 0, 1) := dk_42 (dk_at dksX1_sorest_0 21 rfl rfl)
theorem dX1_sorest_22 : decode cX1_sorest 22 = .ok (.getfield 22, 3) := dk_180 0 22 (dk_at dksX1_sorest_1 0 rfl rfl)
theorem dX1_sorest_25 : decode cX1_sorest 25 = .ok (.invokevirtual 104, 3) := dk_182 0 104 (dk_at dksX1_sorest_1 3 rfl rfl)
theorem dX1_sorest_28 : decode cX1_sorest 28 = .ok (.if_icmp .ge 37, 3) := dk_162 0 37 (dk_at dksX1_sorest_1 6 rfl rfl)
theorem dX1_sorest_31 : decode cX1_sorest 31 = .ok (.iload_n 2, 1) := dk_28 (dk_at dksX1_sorest_1 9 rfl rfl)
theorem dX1_sorest_32 : decode cX1_sorest 32 = .ok (.iconst (-1), 1) := dk_2 (dk_at dksX1_sorest_1 10 rfl rfl)
theorem dX1_sorest_33 : decode cX1_sorest 33 = .ok (.if_icmp .eq 24, 3) := dk_159 0 24 (dk_at dksX1_sorest_1 11 rfl rfl)
theorem dX1_sorest_36 : decode cX1_sorest 36 = .ok (.aload_n 0, 1) := dk_42 (dk_at dksX1_sorest_1 14 rfl rfl)
theorem dX1_sorest_37 : decode cX1_sorest 37 = .ok (.getfield 35, 3) := dk_180 0 35 (dk_at dksX1_sorest_1 15 rfl rfl)
theorem dX1_sorest_40 : decode cX1_sorest 40 = .ok (.getfield 203, 3) := dk_180 0 203 (dk_at dksX1_sorest_1 18 rfl rfl)
theorem dX1_sorest_43 : decode cX1_sorest 43 = .ok (.iload_n 3, 1) := dk_29 (dk_at dksX1_sorest_1 21 rfl rfl)
theorem dX1_sorest_44 : decode cX1_sorest 44 = .ok (.iaload, 1) := dk_46 (dk_at dksX1_sorest_1 22 rfl rfl)
theorem dX1_sorest_45 : decode cX1_sorest 45 = .ok (.aload_n 0, 1) := dk_42 (dk_at dksX1_sorest_1 23 rfl rfl)
theorem dX1_sorest_46 : decode cX1_sorest 46 = .ok (.getfield 35, 3) := dk_180 0 35 (dk_at dksX1_sorest_2 0 rfl rfl)
theorem dX1_sorest_49 : decode cX1_sorest 49 = .ok (.getfield 203, 3) := dk_180 0 203 (dk_at dksX1_sorest_2 3 rfl rfl)
theorem dX1_sorest_52 : decode cX1_sorest 52 = .ok (.iload_n 2, 1) := dk_28 (dk_at dksX1_sorest_2 6 rfl rfl)
theorem dX1_sorest_53 : decode cX1_sorest 53 = .ok (.iaload, 1) := dk_46 (dk_at dksX1_sorest_2 7 rfl rfl)
theorem dX1_sorest_54 : decode cX1_sorest 54 = .ok (.if_icmp .le 5, 3) := dk_164 0 5 (dk_at dksX1_sorest_2 8 rfl rfl)
theorem dX1_sorest_57 : decode cX1_sorest 57 = .ok (.iload_n 3, 1) := dk_29 (dk_at dksX1_sorest_2 11 rfl rfl)
theorem dX1_sorest_58 : decode cX1_sorest 58 = .ok (.istore_n 2, 1) := dk_61 (dk_at dksX1_sorest_2 12 rfl rfl)
theorem dX1_sorest_59 : decode cX1_sorest 59 = .ok (.iinc 3 1, 3) := dk_132 3 1 (dk_at dksX1_sorest_2 13 rfl rfl)
theorem dX1_sorest_62 : decode cX1_sorest 62 = .ok (.goto (-42), 3) := dk_167 255 214 (dk_at dksX1_sorest_2 16 rfl rfl)
theorem dX1_sorest_65 : decode cX1_sorest 65 = .ok (.iload_n 2, 1) := dk_28 (dk_at dksX1_sorest_2 19 rfl rfl)
theorem dX1_sorest_66 : decode cX1_sorest 66 = .ok (.ireturn, 1) := dk_172 (dk_at dksX1_sorest_2 20 rfl rfl)
abbrev cX1_eased : ByteArray := prog_1_method_74_code
def yX1_eased : MethodName := ⟨RX1, "eased", "(III)I"⟩
def dkwX1_eased_3 : List UInt8 := [54, 4, 42, 180, 0, 35, 182, 0, 251, 87, 132, 6, 1, 167, 255, 213, 21, 4, 172]
abbrev dktX1_eased_3 : List UInt8 := dkwX1_eased_3 ++ []
def dkwX1_eased_2 : List UInt8 := [180, 0, 35, 27, 28, 182, 0, 206, 54, 7, 21, 7, 21, 5, 164, 0, 11, 21, 7, 54, 5, 21, 6]
abbrev dktX1_eased_2 : List UInt8 := dkwX1_eased_2 ++ dktX1_eased_3
def dkwX1_eased_1 : List UInt8 := [42, 180, 0, 31, 182, 0, 244, 87, 3, 54, 4, 2, 54, 5, 3, 54, 6, 21, 6, 29, 162, 0, 43, 42]
abbrev dktX1_eased_1 : List UInt8 := dkwX1_eased_1 ++ dktX1_eased_2
def dkwX1_eased_0 : List UInt8 := [42, 27, 182, 0, 193, 42, 28, 182, 0, 173, 29, 4, 16, 40, 184, 0, 139, 184, 0, 62, 42, 180, 0, 35]
abbrev dktX1_eased_0 : List UInt8 := dkwX1_eased_0 ++ dktX1_eased_1
theorem dksX1_eased_0 : cX1_eased.data.toList.drop 0 = dktX1_eased_0 := by decide +kernel
theorem dksX1_eased_1 : cX1_eased.data.toList.drop 24 = dktX1_eased_1 := dk_seg dksX1_eased_0 24 rfl rfl
theorem dksX1_eased_2 : cX1_eased.data.toList.drop 48 = dktX1_eased_2 := dk_seg dksX1_eased_1 24 rfl rfl
theorem dksX1_eased_3 : cX1_eased.data.toList.drop 71 = dktX1_eased_3 := dk_seg dksX1_eased_2 23 rfl rfl
theorem dX1_eased_0 : decode cX1_eased 0 = .ok (.aload_n 0, 1) := dk_42 (dk_at dksX1_eased_0 0 rfl rfl)
theorem dX1_eased_1 : decode cX1_eased 1 = .ok (.iload_n 1, 1) := dk_27 (dk_at dksX1_eased_0 1 rfl rfl)
theorem dX1_eased_2 : decode cX1_eased 2 = .ok (.invokevirtual 193, 3) := dk_182 0 193 (dk_at dksX1_eased_0 2 rfl rfl)
theorem dX1_eased_5 : decode cX1_eased 5 = .ok (.aload_n 0, 1) := dk_42 (dk_at dksX1_eased_0 5 rfl rfl)
theorem dX1_eased_6 : decode cX1_eased 6 = .ok (.iload_n 2, 1) := dk_28 (dk_at dksX1_eased_0 6 rfl rfl)
theorem dX1_eased_7 : decode cX1_eased 7 = .ok (.invokevirtual 173, 3) := dk_182 0 173 (dk_at dksX1_eased_0 7 rfl rfl)
theorem dX1_eased_10 : decode cX1_eased 10 = .ok (.iload_n 3, 1) := dk_29 (dk_at dksX1_eased_0 10 rfl rfl)
theorem dX1_eased_11 : decode cX1_eased 11 = .ok (.iconst 1, 1) := dk_4 (dk_at dksX1_eased_0 11 rfl rfl)
theorem dX1_eased_12 : decode cX1_eased 12 = .ok (.bipush 40, 2) := dk_16 40 (dk_at dksX1_eased_0 12 rfl rfl)
theorem dX1_eased_14 : decode cX1_eased 14 = .ok (.invokestatic 139, 3) := dk_184 0 139 (dk_at dksX1_eased_0 14 rfl rfl)
theorem dX1_eased_17 : decode cX1_eased 17 = .ok (.invokestatic 62, 3) := dk_184 0 62 (dk_at dksX1_eased_0 17 rfl rfl)
theorem dX1_eased_20 : decode cX1_eased 20 = .ok (.aload_n 0, 1) := dk_42 (dk_at dksX1_eased_0 20 rfl rfl)
theorem dX1_eased_21 : decode cX1_eased 21 = .ok (.getfield 35, 3) := dk_180 0 35 (dk_at dksX1_eased_0 21 rfl rfl)
theorem dX1_eased_24 : decode cX1_eased 24 = .ok (.aload_n 0, 1) := dk_42 (dk_at dksX1_eased_1 0 rfl rfl)
theorem dX1_eased_25 : decode cX1_eased 25 = .ok (.getfield 31, 3) := dk_180 0 31 (dk_at dksX1_eased_1 1 rfl rfl)
theorem dX1_eased_28 : decode cX1_eased 28 = .ok (.invokevirtual 244, 3) := dk_182 0 244 (dk_at dksX1_eased_1 4 rfl rfl)
theorem dX1_eased_31 : decode cX1_eased 31 = .ok (.pop, 1) := dk_87 (dk_at dksX1_eased_1 7 rfl rfl)
theorem dX1_eased_32 : decode cX1_eased 32 = .ok (.iconst 0, 1) := dk_3 (dk_at dksX1_eased_1 8 rfl rfl)
theorem dX1_eased_33 : decode cX1_eased 33 = .ok (.istore 4, 2) := dk_54 4 (dk_at dksX1_eased_1 9 rfl rfl)
theorem dX1_eased_35 : decode cX1_eased 35 = .ok (.iconst (-1), 1) := dk_2 (dk_at dksX1_eased_1 11 rfl rfl)
theorem dX1_eased_36 : decode cX1_eased 36 = .ok (.istore 5, 2) := dk_54 5 (dk_at dksX1_eased_1 12 rfl rfl)
theorem dX1_eased_38 : decode cX1_eased 38 = .ok (.iconst 0, 1) := dk_3 (dk_at dksX1_eased_1 14 rfl rfl)
theorem dX1_eased_39 : decode cX1_eased 39 = .ok (.istore 6, 2) := dk_54 6 (dk_at dksX1_eased_1 15 rfl rfl)
theorem dX1_eased_41 : decode cX1_eased 41 = .ok (.iload 6, 2) := dk_21 6 (dk_at dksX1_eased_1 17 rfl rfl)
theorem dX1_eased_43 : decode cX1_eased 43 = .ok (.iload_n 3, 1) := dk_29 (dk_at dksX1_eased_1 19 rfl rfl)
theorem dX1_eased_44 : decode cX1_eased 44 = .ok (.if_icmp .ge 43, 3) := dk_162 0 43 (dk_at dksX1_eased_1 20 rfl rfl)
theorem dX1_eased_47 : decode cX1_eased 47 = .ok (.aload_n 0, 1) := dk_42 (dk_at dksX1_eased_1 23 rfl rfl)
theorem dX1_eased_48 : decode cX1_eased 48 = .ok (.getfield 35, 3) := dk_180 0 35 (dk_at dksX1_eased_2 0 rfl rfl)
theorem dX1_eased_51 : decode cX1_eased 51 = .ok (.iload_n 1, 1) := dk_27 (dk_at dksX1_eased_2 3 rfl rfl)
theorem dX1_eased_52 : decode cX1_eased 52 = .ok (.iload_n 2, 1) := dk_28 (dk_at dksX1_eased_2 4 rfl rfl)
theorem dX1_eased_53 : decode cX1_eased 53 = .ok (.invokevirtual 206, 3) := dk_182 0 206 (dk_at dksX1_eased_2 5 rfl rfl)
theorem dX1_eased_56 : decode cX1_eased 56 = .ok (.istore 7, 2) := dk_54 7 (dk_at dksX1_eased_2 8 rfl rfl)
theorem dX1_eased_58 : decode cX1_eased 58 = .ok (.iload 7, 2) := dk_21 7 (dk_at dksX1_eased_2 10 rfl rfl)
theorem dX1_eased_60 : decode cX1_eased 60 = .ok (.iload 5, 2) := dk_21 5 (dk_at dksX1_eased_2 12 rfl rfl)
theorem dX1_eased_62 : decode cX1_eased 62 = .ok (.if_icmp .le 11, 3) := dk_164 0 11 (dk_at dksX1_eased_2 14 rfl rfl)
theorem dX1_eased_65 : decode cX1_eased 65 = .ok (.iload 7, 2) := dk_21 7 (dk_at dksX1_eased_2 17 rfl rfl)
theorem dX1_eased_67 : decode cX1_eased 67 = .ok (.istore 5, 2) := dk_54 5 (dk_at dksX1_eased_2 19 rfl rfl)
theorem dX1_eased_69 : decode cX1_eased 69 = .ok (.iload 6, 2) := dk_21 6 (dk_at dksX1_eased_2 21 rfl rfl)
theorem dX1_eased_71 : decode cX1_eased 71 = .ok (.istore 4, 2) := dk_54 4 (dk_at dksX1_eased_3 0 rfl rfl)
theorem dX1_eased_73 : decode cX1_eased 73 = .ok (.aload_n 0, 1) := dk_42 (dk_at dksX1_eased_3 2 rfl rfl)
theorem dX1_eased_74 : decode cX1_eased 74 = .ok (.getfield 35, 3) := dk_180 0 35 (dk_at dksX1_eased_3 3 rfl rfl)
theorem dX1_eased_77 : decode cX1_eased 77 = .ok (.invokevirtual 251, 3) := dk_182 0 251 (dk_at dksX1_eased_3 6 rfl rfl)
theorem dX1_eased_80 : decode cX1_eased 80 = .ok (.pop, 1) := dk_87 (dk_at dksX1_eased_3 9 rfl rfl)
theorem dX1_eased_81 : decode cX1_eased 81 = .ok (.iinc 6 1, 3) := dk_132 6 1 (dk_at dksX1_eased_3 10 rfl rfl)
theorem dX1_eased_84 : decode cX1_eased 84 = .ok (.goto (-43), 3) := dk_167 255 213 (dk_at dksX1_eased_3 13 rfl rfl)
theorem dX1_eased_87 : decode cX1_eased 87 = .ok (.iload 4, 2) := dk_21 4 (dk_at dksX1_eased_3 16 rfl rfl)
theorem dX1_eased_89 : decode cX1_eased 89 = .ok (.ireturn, 1) := dk_172 (dk_at dksX1_eased_3 18 rfl rfl)
abbrev cX1_free : ByteArray := prog_1_method_75_code
def yX1_free : MethodName := ⟨RX1, "free", "(I)I"⟩
def dkwX1_free_3 : List UInt8 := [162, 0, 5, 29, 61, 132, 3, 1, 167, 255, 187, 28, 172]
abbrev dktX1_free_3 : List UInt8 := dkwX1_free_3 ++ []
def dkwX1_free_2 : List UInt8 := [2, 159, 0, 24, 42, 180, 0, 31, 27, 29, 182, 0, 100, 42, 180, 0, 31, 27, 28, 182, 0, 100]
abbrev dktX1_free_2 : List UInt8 := dkwX1_free_2 ++ dktX1_free_3
def dkwX1_free_1 : List UInt8 := [29, 182, 0, 93, 2, 160, 0, 46, 42, 180, 0, 31, 27, 29, 182, 0, 233, 154, 0, 6, 167, 0, 31, 28]
abbrev dktX1_free_1 : List UInt8 := dkwX1_free_1 ++ dktX1_free_2
def dkwX1_free_0 : List UInt8 := [42, 27, 182, 0, 193, 2, 61, 3, 62, 29, 42, 180, 0, 22, 182, 0, 89, 162, 0, 64, 42, 180, 0, 31]
abbrev dktX1_free_0 : List UInt8 := dkwX1_free_0 ++ dktX1_free_1
theorem dksX1_free_0 : cX1_free.data.toList.drop 0 = dktX1_free_0 := by decide +kernel
theorem dksX1_free_1 : cX1_free.data.toList.drop 24 = dktX1_free_1 := dk_seg dksX1_free_0 24 rfl rfl
theorem dksX1_free_2 : cX1_free.data.toList.drop 48 = dktX1_free_2 := dk_seg dksX1_free_1 24 rfl rfl
theorem dksX1_free_3 : cX1_free.data.toList.drop 70 = dktX1_free_3 := dk_seg dksX1_free_2 22 rfl rfl
theorem dX1_free_0 : decode cX1_free 0 = .ok (.aload_n 0, 1) := dk_42 (dk_at dksX1_free_0 0 rfl rfl)
theorem dX1_free_1 : decode cX1_free 1 = .ok (.iload_n 1, 1) := dk_27 (dk_at dksX1_free_0 1 rfl rfl)
theorem dX1_free_2 : decode cX1_free 2 = .ok (.invokevirtual 193, 3) := dk_182 0 193 (dk_at dksX1_free_0 2 rfl rfl)
theorem dX1_free_5 : decode cX1_free 5 = .ok (.iconst (-1), 1) := dk_2 (dk_at dksX1_free_0 5 rfl rfl)
theorem dX1_free_6 : decode cX1_free 6 = .ok (.istore_n 2, 1) := dk_61 (dk_at dksX1_free_0 6 rfl rfl)
theorem dX1_free_7 : decode cX1_free 7 = .ok (.iconst 0, 1) := dk_3 (dk_at dksX1_free_0 7 rfl rfl)
theorem dX1_free_8 : decode cX1_free 8 = .ok (.istore_n 3, 1) := dk_62 (dk_at dksX1_free_0 8 rfl rfl)
theorem dX1_free_9 : decode cX1_free 9 = .ok (.iload_n 3, 1) := dk_29 (dk_at dksX1_free_0 9 rfl rfl)
theorem dX1_free_10 : decode cX1_free 10 = .ok (.aload_n 0, 1) := dk_42 (dk_at dksX1_free_0 10 rfl rfl)
theorem dX1_free_11 : decode cX1_free 11 = .ok (.getfield 22, 3) := dk_180 0 22 (dk_at dksX1_free_0 11 rfl rfl)
theorem dX1_free_14 : decode cX1_free 14 = .ok (.invokevirtual 89, 3) := dk_182 0 89 (dk_at dksX1_free_0 14 rfl rfl)
theorem dX1_free_17 : decode cX1_free 17 = .ok (.if_icmp .ge 64, 3) := dk_162 0 64 (dk_at dksX1_free_0 17 rfl rfl)
theorem dX1_free_20 : decode cX1_free 20 = .ok (.aload_n 0, 1) := dk_42 (dk_at dksX1_free_0 20 rfl rfl)
theorem dX1_free_21 : decode cX1_free 21 = .ok (.getfield 31, 3) := dk_180 0 31 (dk_at dksX1_free_0 21 rfl rfl)
theorem dX1_free_24 : decode cX1_free 24 = .ok (.iload_n 3, 1) := dk_29 (dk_at dksX1_free_1 0 rfl rfl)
theorem dX1_free_25 : decode cX1_free 25 = .ok (.invokevirtual 93, 3) := dk_182 0 93 (dk_at dksX1_free_1 1 rfl rfl)
theorem dX1_free_28 : decode cX1_free 28 = .ok (.iconst (-1), 1) := dk_2 (dk_at dksX1_free_1 4 rfl rfl)
theorem dX1_free_29 : decode cX1_free 29 = .ok (.if_icmp .ne 46, 3) := dk_160 0 46 (dk_at dksX1_free_1 5 rfl rfl)
theorem dX1_free_32 : decode cX1_free 32 = .ok (.aload_n 0, 1) := dk_42 (dk_at dksX1_free_1 8 rfl rfl)
theorem dX1_free_33 : decode cX1_free 33 = .ok (.getfield 31, 3) := dk_180 0 31 (dk_at dksX1_free_1 9 rfl rfl)
theorem dX1_free_36 : decode cX1_free 36 = .ok (.iload_n 1, 1) := dk_27 (dk_at dksX1_free_1 12 rfl rfl)
theorem dX1_free_37 : decode cX1_free 37 = .ok (.iload_n 3, 1) := dk_29 (dk_at dksX1_free_1 13 rfl rfl)
theorem dX1_free_38 : decode cX1_free 38 = .ok (.invokevirtual 233, 3) := dk_182 0 233 (dk_at dksX1_free_1 14 rfl rfl)
theorem dX1_free_41 : decode cX1_free 41 = .ok (.ifCond .ne 6, 3) := dk_154 0 6 (dk_at dksX1_free_1 17 rfl rfl)
theorem dX1_free_44 : decode cX1_free 44 = .ok (.goto 31, 3) := dk_167 0 31 (dk_at dksX1_free_1 20 rfl rfl)
theorem dX1_free_47 : decode cX1_free 47 = .ok (.iload_n 2, 1) := dk_28 (dk_at dksX1_free_1 23 rfl rfl)
theorem dX1_free_48 : decode cX1_free 48 = .ok (.iconst (-1), 1) := dk_2 (dk_at dksX1_free_2 0 rfl rfl)
theorem dX1_free_49 : decode cX1_free 49 = .ok (.if_icmp .eq 24, 3) := dk_159 0 24 (dk_at dksX1_free_2 1 rfl rfl)
theorem dX1_free_52 : decode cX1_free 52 = .ok (.aload_n 0, 1) := dk_42 (dk_at dksX1_free_2 4 rfl rfl)
theorem dX1_free_53 : decode cX1_free 53 = .ok (.getfield 31, 3) := dk_180 0 31 (dk_at dksX1_free_2 5 rfl rfl)
theorem dX1_free_56 : decode cX1_free 56 = .ok (.iload_n 1, 1) := dk_27 (dk_at dksX1_free_2 8 rfl rfl)
theorem dX1_free_57 : decode cX1_free 57 = .ok (.iload_n 3, 1) := dk_29 (dk_at dksX1_free_2 9 rfl rfl)
theorem dX1_free_58 : decode cX1_free 58 = .ok (.invokevirtual 100, 3) := dk_182 0 100 (dk_at dksX1_free_2 10 rfl rfl)
theorem dX1_free_61 : decode cX1_free 61 = .ok (.aload_n 0, 1) := dk_42 (dk_at dksX1_free_2 13 rfl rfl)
theorem dX1_free_62 : decode cX1_free 62 = .ok (.getfield 31, 3) := dk_180 0 31 (dk_at dksX1_free_2 14 rfl rfl)
theorem dX1_free_65 : decode cX1_free 65 = .ok (.iload_n 1, 1) := dk_27 (dk_at dksX1_free_2 17 rfl rfl)
theorem dX1_free_66 : decode cX1_free 66 = .ok (.iload_n 2, 1) := dk_28 (dk_at dksX1_free_2 18 rfl rfl)
theorem dX1_free_67 : decode cX1_free 67 = .ok (.invokevirtual 100, 3) := dk_182 0 100 (dk_at dksX1_free_2 19 rfl rfl)
theorem dX1_free_70 : decode cX1_free 70 = .ok (.if_icmp .ge 5, 3) := dk_162 0 5 (dk_at dksX1_free_3 0 rfl rfl)
theorem dX1_free_73 : decode cX1_free 73 = .ok (.iload_n 3, 1) := dk_29 (dk_at dksX1_free_3 3 rfl rfl)
theorem dX1_free_74 : decode cX1_free 74 = .ok (.istore_n 2, 1) := dk_61 (dk_at dksX1_free_3 4 rfl rfl)
theorem dX1_free_75 : decode cX1_free 75 = .ok (.iinc 3 1, 3) := dk_132 3 1 (dk_at dksX1_free_3 5 rfl rfl)
theorem dX1_free_78 : decode cX1_free 78 = .ok (.goto (-69), 3) := dk_167 255 187 (dk_at dksX1_free_3 8 rfl rfl)
theorem dX1_free_81 : decode cX1_free 81 = .ok (.iload_n 2, 1) := dk_28 (dk_at dksX1_free_3 11 rfl rfl)
theorem dX1_free_82 : decode cX1_free 82 = .ok (.ireturn, 1) := dk_172 (dk_at dksX1_free_3 12 rfl rfl)
abbrev cX1_larger : ByteArray := prog_1_method_76_code
def yX1_larger : MethodName := ⟨RX1, "larger", "(I)I"⟩
def dkwX1_larger_2 : List UInt8 := [167, 255, 218, 28, 172]
abbrev dktX1_larger_2 : List UInt8 := dkwX1_larger_2 ++ []
def dkwX1_larger_1 : List UInt8 := [180, 0, 167, 29, 46, 42, 180, 0, 31, 180, 0, 167, 27, 46, 164, 0, 6, 132, 2, 1, 132, 3, 1]
abbrev dktX1_larger_1 : List UInt8 := dkwX1_larger_1 ++ dktX1_larger_2
def dkwX1_larger_0 : List UInt8 := [42, 27, 182, 0, 193, 3, 61, 3, 62, 29, 42, 180, 0, 22, 182, 0, 104, 162, 0, 33, 42, 180, 0, 31]
abbrev dktX1_larger_0 : List UInt8 := dkwX1_larger_0 ++ dktX1_larger_1
theorem dksX1_larger_0 : cX1_larger.data.toList.drop 0 = dktX1_larger_0 := by decide +kernel
theorem dksX1_larger_1 : cX1_larger.data.toList.drop 24 = dktX1_larger_1 := dk_seg dksX1_larger_0 24 rfl rfl
theorem dksX1_larger_2 : cX1_larger.data.toList.drop 47 = dktX1_larger_2 := dk_seg dksX1_larger_1 23 rfl rfl
theorem dX1_larger_0 : decode cX1_larger 0 = .ok (.aload_n 0, 1) := dk_42 (dk_at dksX1_larger_0 0 rfl rfl)
theorem dX1_larger_1 : decode cX1_larger 1 = .ok (.iload_n 1, 1) := dk_27 (dk_at dksX1_larger_0 1 rfl rfl)
theorem dX1_larger_2 : decode cX1_larger 2 = .ok (.invokevirtual 193, 3) := dk_182 0 193 (dk_at dksX1_larger_0 2 rfl rfl)
theorem dX1_larger_5 : decode cX1_larger 5 = .ok (.iconst 0, 1) := dk_3 (dk_at dksX1_larger_0 5 rfl rfl)
theorem dX1_larger_6 : decode cX1_larger 6 = .ok (.istore_n 2, 1) := dk_61 (dk_at dksX1_larger_0 6 rfl rfl)
theorem dX1_larger_7 : decode cX1_larger 7 = .ok (.iconst 0, 1) := dk_3 (dk_at dksX1_larger_0 7 rfl rfl)
theorem dX1_larger_8 : decode cX1_larger 8 = .ok (.istore_n 3, 1) := dk_62 (dk_at dksX1_larger_0 8 rfl rfl)
theorem dX1_larger_9 : decode cX1_larger 9 = .ok (.iload_n 3, 1) := dk_29 (dk_at dksX1_larger_0 9 rfl rfl)
theorem dX1_larger_10 : decode cX1_larger 10 = .ok (.aload_n 0, 1) := dk_42 (dk_at dksX1_larger_0 10 rfl rfl)
theorem dX1_larger_11 : decode cX1_larger 11 = .ok (.getfield 22, 3) := dk_180 0 22 (dk_at dksX1_larger_0 11 rfl rfl)
theorem dX1_larger_14 : decode cX1_larger 14 = .ok (.invokevirtual 104, 3) := dk_182 0 104 (dk_at dksX1_larger_0 14 rfl rfl)
theorem dX1_larger_17 : decode cX1_larger 17 = .ok (.if_icmp .ge 33, 3) := dk_162 0 33 (dk_at dksX1_larger_0 17 rfl rfl)
theorem dX1_larger_20 : decode cX1_larger 20 = .ok (.aload_n 0, 1) := dk_42 (dk_at dksX1_larger_0 20 rfl rfl)
theorem dX1_larger_21 : decode cX1_larger 21 = .ok (.getfield 31, 3) := dk_180 0 31 (dk_at dksX1_larger_0 21 rfl rfl)
theorem dX1_larger_24 : decode cX1_larger 24 = .ok (.getfield 167, 3) := dk_180 0 167 (dk_at dksX1_larger_1 0 rfl rfl)
theorem dX1_larger_27 : decode cX1_larger 27 = .ok (.iload_n 3, 1) := dk_29 (dk_at dksX1_larger_1 3 rfl rfl)
theorem dX1_larger_28 : decode cX1_larger 28 = .ok (.iaload, 1) := dk_46 (dk_at dksX1_larger_1 4 rfl rfl)
theorem dX1_larger_29 : decode cX1_larger 29 = .ok (.aload_n 0, 1) := dk_42 (dk_at dksX1_larger_1 5 rfl rfl)
theorem dX1_larger_30 : decode cX1_larger 30 = .ok (.getfield 31, 3) := dk_180 0 31 (dk_at dksX1_larger_1 6 rfl rfl)
theorem dX1_larger_33 : decode cX1_larger 33 = .ok (.getfield 167, 3) := dk_180 0 167 (dk_at dksX1_larger_1 9 rfl rfl)
theorem dX1_larger_36 : decode cX1_larger 36 = .ok (.iload_n 1, 1) := dk_27 (dk_at dksX1_larger_1 12 rfl rfl)
theorem dX1_larger_37 : decode cX1_larger 37 = .ok (.iaload, 1) := dk_46 (dk_at dksX1_larger_1 13 rfl rfl)
theorem dX1_larger_38 : decode cX1_larger 38 = .ok (.if_icmp .le 6, 3) := dk_164 0 6 (dk_at dksX1_larger_1 14 rfl rfl)
theorem dX1_larger_41 : decode cX1_larger 41 = .ok (.iinc 2 1, 3) := dk_132 2 1 (dk_at dksX1_larger_1 17 rfl rfl)
theorem dX1_larger_44 : decode cX1_larger 44 = .ok (.iinc 3 1, 3) := dk_132 3 1 (dk_at dksX1_larger_1 20 rfl rfl)
theorem dX1_larger_47 : decode cX1_larger 47 = .ok (.goto (-38), 3) := dk_167 255 218 (dk_at dksX1_larger_2 0 rfl rfl)
theorem dX1_larger_50 : decode cX1_larger 50 = .ok (.iload_n 2, 1) := dk_28 (dk_at dksX1_larger_2 3 rfl rfl)
theorem dX1_larger_51 : decode cX1_larger 51 = .ok (.ireturn, 1) := dk_172 (dk_at dksX1_larger_2 4 rfl rfl)
abbrev cX1_wide : ByteArray := prog_1_method_77_code
def yX1_wide : MethodName := ⟨RX1, "wide", "(I)I"⟩
def dkwX1_wide_2 : List UInt8 := [29, 46, 27, 161, 0, 9, 28, 4, 29, 120, 128, 61, 132, 3, 1, 167, 255, 209, 28, 172]
abbrev dktX1_wide_2 : List UInt8 := dkwX1_wide_2 ++ []
def dkwX1_wide_1 : List UInt8 := [162, 0, 42, 42, 180, 0, 31, 180, 0, 116, 29, 184, 0, 183, 154, 0, 22, 42, 180, 0, 31, 180, 0, 165]
abbrev dktX1_wide_1 : List UInt8 := dkwX1_wide_1 ++ dktX1_wide_2
def dkwX1_wide_0 : List UInt8 := [27, 4, 16, 60, 184, 0, 139, 184, 0, 62, 3, 61, 3, 62, 29, 42, 180, 0, 22, 182, 0, 89]
abbrev dktX1_wide_0 : List UInt8 := dkwX1_wide_0 ++ dktX1_wide_1
theorem dksX1_wide_0 : cX1_wide.data.toList.drop 0 = dktX1_wide_0 := by decide +kernel
theorem dksX1_wide_1 : cX1_wide.data.toList.drop 22 = dktX1_wide_1 := dk_seg dksX1_wide_0 22 rfl rfl
theorem dksX1_wide_2 : cX1_wide.data.toList.drop 46 = dktX1_wide_2 := dk_seg dksX1_wide_1 24 rfl rfl
theorem dX1_wide_0 : decode cX1_wide 0 = .ok (.iload_n 1, 1) := dk_27 (dk_at dksX1_wide_0 0 rfl rfl)
theorem dX1_wide_1 : decode cX1_wide 1 = .ok (.iconst 1, 1) := dk_4 (dk_at dksX1_wide_0 1 rfl rfl)
theorem dX1_wide_2 : decode cX1_wide 2 = .ok (.bipush 60, 2) := dk_16 60 (dk_at dksX1_wide_0 2 rfl rfl)
theorem dX1_wide_4 : decode cX1_wide 4 = .ok (.invokestatic 139, 3) := dk_184 0 139 (dk_at dksX1_wide_0 4 rfl rfl)
theorem dX1_wide_7 : decode cX1_wide 7 = .ok (.invokestatic 62, 3) := dk_184 0 62 (dk_at dksX1_wide_0 7 rfl rfl)
theorem dX1_wide_10 : decode cX1_wide 10 = .ok (.iconst 0, 1) := dk_3 (dk_at dksX1_wide_0 10 rfl rfl)
theorem dX1_wide_11 : decode cX1_wide 11 = .ok (.istore_n 2, 1) := dk_61 (dk_at dksX1_wide_0 11 rfl rfl)
theorem dX1_wide_12 : decode cX1_wide 12 = .ok (.iconst 0, 1) := dk_3 (dk_at dksX1_wide_0 12 rfl rfl)
theorem dX1_wide_13 : decode cX1_wide 13 = .ok (.istore_n 3, 1) := dk_62 (dk_at dksX1_wide_0 13 rfl rfl)
theorem dX1_wide_14 : decode cX1_wide 14 = .ok (.iload_n 3, 1) := dk_29 (dk_at dksX1_wide_0 14 rfl rfl)
theorem dX1_wide_15 : decode cX1_wide 15 = .ok (.aload_n 0, 1) := dk_42 (dk_at dksX1_wide_0 15 rfl rfl)
theorem dX1_wide_16 : decode cX1_wide 16 = .ok (.getfield 22, 3) := dk_180 0 22 (dk_at dksX1_wide_0 16 rfl rfl)
theorem dX1_wide_19 : decode cX1_wide 19 = .ok (.invokevirtual 89, 3) := dk_182 0 89 (dk_at dksX1_wide_0 19 rfl rfl)
theorem dX1_wide_22 : decode cX1_wide 22 = .ok (.if_icmp .ge 42, 3) := dk_162 0 42 (dk_at dksX1_wide_1 0 rfl rfl)
theorem dX1_wide_25 : decode cX1_wide 25 = .ok (.aload_n 0, 1) := dk_42 (dk_at dksX1_wide_1 3 rfl rfl)
theorem dX1_wide_26 : decode cX1_wide 26 = .ok (.getfield 31, 3) := dk_180 0 31 (dk_at dksX1_wide_1 4 rfl rfl)
theorem dX1_wide_29 : decode cX1_wide 29 = .ok (.getfield 116, 3) := dk_180 0 116 (dk_at dksX1_wide_1 7 rfl rfl)
theorem dX1_wide_32 : decode cX1_wide 32 = .ok (.iload_n 3, 1) := dk_29 (dk_at dksX1_wide_1 10 rfl rfl)
theorem dX1_wide_33 : decode cX1_wide 33 = .ok (.invokestatic 183, 3) := dk_184 0 183 (dk_at dksX1_wide_1 11 rfl rfl)
theorem dX1_wide_36 : decode cX1_wide 36 = .ok (.ifCond .ne 22, 3) := dk_154 0 22 (dk_at dksX1_wide_1 14 rfl rfl)
theorem dX1_wide_39 : decode cX1_wide 39 = .ok (.aload_n 0, 1) := dk_42 (dk_at dksX1_wide_1 17 rfl rfl)
theorem dX1_wide_40 : decode cX1_wide 40 = .ok (.getfield 31, 3) := dk_180 0 31 (dk_at dksX1_wide_1 18 rfl rfl)
theorem dX1_wide_43 : decode cX1_wide 43 = .ok (.getfield 165, 3) := dk_180 0 165 (dk_at dksX1_wide_1 21 rfl rfl)
theorem dX1_wide_46 : decode cX1_wide 46 = .ok (.iload_n 3, 1) := dk_29 (dk_at dksX1_wide_2 0 rfl rfl)
theorem dX1_wide_47 : decode cX1_wide 47 = .ok (.iaload, 1) := dk_46 (dk_at dksX1_wide_2 1 rfl rfl)
theorem dX1_wide_48 : decode cX1_wide 48 = .ok (.iload_n 1, 1) := dk_27 (dk_at dksX1_wide_2 2 rfl rfl)
theorem dX1_wide_49 : decode cX1_wide 49 = .ok (.if_icmp .lt 9, 3) := dk_161 0 9 (dk_at dksX1_wide_2 3 rfl rfl)
theorem dX1_wide_52 : decode cX1_wide 52 = .ok (.iload_n 2, 1) := dk_28 (dk_at dksX1_wide_2 6 rfl rfl)
theorem dX1_wide_53 : decode cX1_wide 53 = .ok (.iconst 1, 1) := dk_4 (dk_at dksX1_wide_2 7 rfl rfl)
theorem dX1_wide_54 : decode cX1_wide 54 = .ok (.iload_n 3, 1) := dk_29 (dk_at dksX1_wide_2 8 rfl rfl)
theorem dX1_wide_55 : decode cX1_wide 55 = .ok (.ishl, 1) := dk_120 (dk_at dksX1_wide_2 9 rfl rfl)
theorem dX1_wide_56 : decode cX1_wide 56 = .ok (.ior, 1) := dk_128 (dk_at dksX1_wide_2 10 rfl rfl)
theorem dX1_wide_57 : decode cX1_wide 57 = .ok (.istore_n 2, 1) := dk_61 (dk_at dksX1_wide_2 11 rfl rfl)
theorem dX1_wide_58 : decode cX1_wide 58 = .ok (.iinc 3 1, 3) := dk_132 3 1 (dk_at dksX1_wide_2 12 rfl rfl)
theorem dX1_wide_61 : decode cX1_wide 61 = .ok (.goto (-47), 3) := dk_167 255 209 (dk_at dksX1_wide_2 15 rfl rfl)
theorem dX1_wide_64 : decode cX1_wide 64 = .ok (.iload_n 2, 1) := dk_28 (dk_at dksX1_wide_2 18 rfl rfl)
theorem dX1_wide_65 : decode cX1_wide 65 = .ok (.ireturn, 1) := dk_172 (dk_at dksX1_wide_2 19 rfl rfl)
abbrev cX1_endures : ByteArray := prog_1_method_78_code
def yX1_endures : MethodName := ⟨RX1, "endures", "(II)I"⟩
def dkwX1_endures_4 : List UInt8 := [153, 0, 6, 21, 4, 172, 132, 4, 1, 167, 255, 226, 2, 172]
abbrev dktX1_endures_4 : List UInt8 := dkwX1_endures_4 ++ []
def dkwX1_endures_3 : List UInt8 := [4, 54, 4, 21, 4, 16, 40, 163, 0, 29, 42, 180, 0, 35, 182, 0, 251, 180, 0, 116, 28, 184, 0, 183]
abbrev dktX1_endures_3 : List UInt8 := dkwX1_endures_3 ++ dktX1_endures_4
def dkwX1_endures_2 : List UInt8 := [2, 159, 0, 13, 42, 180, 0, 35, 180, 0, 97, 29, 2, 79, 42, 180, 0, 35, 180, 0, 97, 27, 28, 79]
abbrev dktX1_endures_2 : List UInt8 := dkwX1_endures_2 ++ dktX1_endures_3
def dkwX1_endures_1 : List UInt8 := [2, 172, 42, 180, 0, 35, 42, 180, 0, 31, 182, 0, 244, 87, 42, 180, 0, 35, 28, 182, 0, 93, 62, 29]
abbrev dktX1_endures_1 : List UInt8 := dkwX1_endures_1 ++ dktX1_endures_2
def dkwX1_endures_0 : List UInt8 := [42, 27, 182, 0, 193, 42, 28, 182, 0, 173, 42, 180, 0, 31, 180, 0, 116, 28, 184, 0, 183, 153, 0, 5]
abbrev dktX1_endures_0 : List UInt8 := dkwX1_endures_0 ++ dktX1_endures_1
theorem dksX1_endures_0 : cX1_endures.data.toList.drop 0 = dktX1_endures_0 := by decide +kernel
theorem dksX1_endures_1 : cX1_endures.data.toList.drop 24 = dktX1_endures_1 := dk_seg dksX1_endures_0 24 rfl rfl
theorem dksX1_endures_2 : cX1_endures.data.toList.drop 48 = dktX1_endures_2 := dk_seg dksX1_endures_1 24 rfl rfl
theorem dksX1_endures_3 : cX1_endures.data.toList.drop 72 = dktX1_endures_3 := dk_seg dksX1_endures_2 24 rfl rfl
theorem dksX1_endures_4 : cX1_endures.data.toList.drop 96 = dktX1_endures_4 := dk_seg dksX1_endures_3 24 rfl rfl
theorem dX1_endures_0 : decode cX1_endures 0 = .ok (.aload_n 0, 1) := dk_42 (dk_at dksX1_endures_0 0 rfl rfl)
theorem dX1_endures_1 : decode cX1_endures 1 = .ok (.iload_n 1, 1) := dk_27 (dk_at dksX1_endures_0 1 rfl rfl)
theorem dX1_endures_2 : decode cX1_endures 2 = .ok (.invokevirtual 193, 3) := dk_182 0 193 (dk_at dksX1_endures_0 2 rfl rfl)
theorem dX1_endures_5 : decode cX1_endures 5 = .ok (.aload_n 0, 1) := dk_42 (dk_at dksX1_endures_0 5 rfl rfl)
theorem dX1_endures_6 : decode cX1_endures 6 = .ok (.iload_n 2, 1) := dk_28 (dk_at dksX1_endures_0 6 rfl rfl)
theorem dX1_endures_7 : decode cX1_endures 7 = .ok (.invokevirtual 173, 3) := dk_182 0 173 (dk_at dksX1_endures_0 7 rfl rfl)
theorem dX1_endures_10 : decode cX1_endures 10 = .ok (.aload_n 0, 1) := dk_42 (dk_at dksX1_endures_0 10 rfl rfl)
theorem dX1_endures_11 : decode cX1_endures 11 = .ok (.getfield 31, 3) := dk_180 0 31 (dk_at dksX1_endures_0 11 rfl rfl)
theorem dX1_endures_14 : decode cX1_endures 14 = .ok (.getfield 116, 3) := dk_180 0 116 (dk_at dksX1_endures_0 14 rfl rfl)
theorem dX1_endures_17 : decode cX1_endures 17 = .ok (.iload_n 2, 1) := dk_28 (dk_at dksX1_endures_0 17 rfl rfl)
theorem dX1_endures_18 : decode cX1_endures 18 = .ok (.invokestatic 183, 3) := dk_184 0 183 (dk_at dksX1_endures_0 18 rfl rfl)
theorem dX1_endures_21 : decode cX1_endures 21 = .ok (.ifCond .eq 5, 3) := dk_153 0 5 (dk_at dksX1_endures_0 21 rfl rfl)
theorem dX1_endures_24 : decode cX1_endures 24 = .ok (.iconst (-1), 1) := dk_2 (dk_at dksX1_endures_1 0 rfl rfl)
theorem dX1_endures_25 : decode cX1_endures 25 = .ok (.ireturn, 1) := dk_172 (dk_at dksX1_endures_1 1 rfl rfl)
theorem dX1_endures_26 : decode cX1_endures 26 = .ok (.aload_n 0, 1) := dk_42 (dk_at dksX1_endures_1 2 rfl rfl)
theorem dX1_endures_27 : decode cX1_endures 27 = .ok (.getfield 35, 3) := dk_180 0 35 (dk_at dksX1_endures_1 3 rfl rfl)
theorem dX1_endures_30 : decode cX1_endures 30 = .ok (.aload_n 0, 1) := dk_42 (dk_at dksX1_endures_1 6 rfl rfl)
theorem dX1_endures_31 : decode cX1_endures 31 = .ok (.getfield 31, 3) := dk_180 0 31 (dk_at dksX1_endures_1 7 rfl rfl)
theorem dX1_endures_34 : decode cX1_endures 34 = .ok (.invokevirtual 244, 3) := dk_182 0 244 (dk_at dksX1_endures_1 10 rfl rfl)
theorem dX1_endures_37 : decode cX1_endures 37 = .ok (.pop, 1) := dk_87 (dk_at dksX1_endures_1 13 rfl rfl)
theorem dX1_endures_38 : decode cX1_endures 38 = .ok (.aload_n 0, 1) := dk_42 (dk_at dksX1_endures_1 14 rfl rfl)
theorem dX1_endures_39 : decode cX1_endures 39 = .ok (.getfield 35, 3) := dk_180 0 35 (dk_at dksX1_endures_1 15 rfl rfl)
theorem dX1_endures_42 : decode cX1_endures 42 = .ok (.iload_n 2, 1) := dk_28 (dk_at dksX1_endures_1 18 rfl rfl)
theorem dX1_endures_43 : decode cX1_endures 43 = .ok (.invokevirtual 93, 3) := dk_182 0 93 (dk_at dksX1_endures_1 19 rfl rfl)
theorem dX1_endures_46 : decode cX1_endures 46 = .ok (.istore_n 3, 1) := dk_62 (dk_at dksX1_endures_1 22 rfl rfl)
theorem dX1_endures_47 : decode cX1_endures 47 = .ok (.iload_n 3, 1) := dk_29 (dk_at dksX1_endures_1 23 rfl rfl)
theorem dX1_endures_48 : decode cX1_endures 48 = .ok (.iconst (-1), 1) := dk_2 (dk_at dksX1_endures_2 0 rfl rfl)
theorem dX1_endures_49 : decode cX1_endures 49 = .ok (.if_icmp .eq 13, 3) := dk_159 0 13 (dk_at dksX1_endures_2 1 rfl rfl)
theorem dX1_endures_52 : decode cX1_endures 52 = .ok (.aload_n 0, 1) := dk_42 (dk_at dksX1_endures_2 4 rfl rfl)
theorem dX1_endures_53 : decode cX1_endures 53 = .ok (.getfield 35, 3) := dk_180 0 35 (dk_at dksX1_endures_2 5 rfl rfl)
theorem dX1_endures_56 : decode cX1_endures 56 = .ok (.getfield 97, 3) := dk_180 0 97 (dk_at dksX1_endures_2 8 rfl rfl)
theorem dX1_endures_59 : decode cX1_endures 59 = .ok (.iload_n 3, 1) := dk_29 (dk_at dksX1_endures_2 11 rfl rfl)
theorem dX1_endures_60 : decode cX1_endures 60 = .ok (.iconst (-1), 1) := dk_2 (dk_at dksX1_endures_2 12 rfl rfl)
theorem dX1_endures_61 : decode cX1_endures 61 = .ok (.iastore, 1) := dk_79 (dk_at dksX1_endures_2 13 rfl rfl)
theorem dX1_endures_62 : decode cX1_endures 62 = .ok (.aload_n 0, 1) := dk_42 (dk_at dksX1_endures_2 14 rfl rfl)
theorem dX1_endures_63 : decode cX1_endures 63 = .ok (.getfield 35, 3) := dk_180 0 35 (dk_at dksX1_endures_2 15 rfl rfl)
theorem dX1_endures_66 : decode cX1_endures 66 = .ok (.getfield 97, 3) := dk_180 0 97 (dk_at dksX1_endures_2 18 rfl rfl)
theorem dX1_endures_69 : decode cX1_endures 69 = .ok (.iload_n 1, 1) := dk_27 (dk_at dksX1_endures_2 21 rfl rfl)
theorem dX1_endures_70 : decode cX1_endures 70 = .ok (.iload_n 2, 1) := dk_28 (dk_at dksX1_endures_2 22 rfl rfl)
theorem dX1_endures_71 : decode cX1_endures 71 = .ok (.iastore, 1) := dk_79 (dk_at dksX1_endures_2 23 rfl rfl)
theorem dX1_endures_72 : decode cX1_endures 72 = .ok (.iconst 1, 1) := dk_4 (dk_at dksX1_endures_3 0 rfl rfl)
theorem dX1_endures_73 : decode cX1_endures 73 = .ok (.istore 4, 2) := dk_54 4 (dk_at dksX1_endures_3 1 rfl rfl)
theorem dX1_endures_75 : decode cX1_endures 75 = .ok (.iload 4, 2) := dk_21 4 (dk_at dksX1_endures_3 3 rfl rfl)
theorem dX1_endures_77 : decode cX1_endures 77 = .ok (.bipush 40, 2) := dk_16 40 (dk_at dksX1_endures_3 5 rfl rfl)
theorem dX1_endures_79 : decode cX1_endures 79 = .ok (.if_icmp .gt 29, 3) := dk_163 0 29 (dk_at dksX1_endures_3 7 rfl rfl)
theorem dX1_endures_82 : decode cX1_endures 82 = .ok (.aload_n 0, 1) := dk_42 (dk_at dksX1_endures_3 10 rfl rfl)
theorem dX1_endures_83 : decode cX1_endures 83 = .ok (.getfield 35, 3) := dk_180 0 35 (dk_at dksX1_endures_3 11 rfl rfl)
theorem dX1_endures_86 : decode cX1_endures 86 = .ok (.invokevirtual 251, 3) := dk_182 0 251 (dk_at dksX1_endures_3 14 rfl rfl)
theorem dX1_endures_89 : decode cX1_endures 89 = .ok (.getfield 116, 3) := dk_180 0 116 (dk_at dksX1_endures_3 17 rfl rfl)
theorem dX1_endures_92 : decode cX1_endures 92 = .ok (.iload_n 2, 1) := dk_28 (dk_at dksX1_endures_3 20 rfl rfl)
theorem dX1_endures_93 : decode cX1_endures 93 = .ok (.invokestatic 183, 3) := dk_184 0 183 (dk_at dksX1_endures_3 21 rfl rfl)
theorem dX1_endures_96 : decode cX1_endures 96 = .ok (.ifCond .eq 6, 3) := dk_153 0 6 (dk_at dksX1_endures_4 0 rfl rfl)
theorem dX1_endures_99 : decode cX1_endures 99 = .ok (.iload 4, 2) := dk_21 4 (dk_at dksX1_endures_4 3 rfl rfl)
theorem dX1_endures_101 : decode cX1_endures 101 = .ok (.ireturn, 1) := dk_172 (dk_at dksX1_endures_4 5 rfl rfl)
theorem dX1_endures_102 : decode cX1_endures 102 = .ok (.iinc 4 1, 3) := dk_132 4 1 (dk_at dksX1_endures_4 6 rfl rfl)
theorem dX1_endures_105 : decode cX1_endures 105 = .ok (.goto (-30), 3) := dk_167 255 226 (dk_at dksX1_endures_4 9 rfl rfl)
theorem dX1_endures_108 : decode cX1_endures 108 = .ok (.iconst (-1), 1) := dk_2 (dk_at dksX1_endures_4 12 rfl rfl)
theorem dX1_endures_109 : decode cX1_endures 109 = .ok (.ireturn, 1) := dk_172 (dk_at dksX1_endures_4 13 rfl rfl)
abbrev cX1_ringed : ByteArray := prog_1_method_51_code
def yX1_ringed : MethodName := ⟨RX1, "ringed", "(I)I"⟩
def dkwX1_ringed_2 : List UInt8 := [54, 4, 132, 3, 1, 21, 4, 27, 160, 255, 234, 29, 172]
abbrev dktX1_ringed_2 : List UInt8 := dkwX1_ringed_2 ++ []
def dkwX1_ringed_1 : List UInt8 := [182, 1, 24, 61, 3, 62, 27, 54, 4, 42, 180, 0, 31, 42, 21, 4, 28, 182, 1, 18, 182, 0, 93]
abbrev dktX1_ringed_1 : List UInt8 := dkwX1_ringed_1 ++ dktX1_ringed_2
def dkwX1_ringed_0 : List UInt8 := [42, 27, 182, 0, 193, 42, 180, 0, 31, 180, 0, 97, 27, 46, 2, 160, 0, 5, 3, 172, 42, 27]
abbrev dktX1_ringed_0 : List UInt8 := dkwX1_ringed_0 ++ dktX1_ringed_1
theorem dksX1_ringed_0 : cX1_ringed.data.toList.drop 0 = dktX1_ringed_0 := by decide +kernel
theorem dksX1_ringed_1 : cX1_ringed.data.toList.drop 22 = dktX1_ringed_1 := dk_seg dksX1_ringed_0 22 rfl rfl
theorem dksX1_ringed_2 : cX1_ringed.data.toList.drop 45 = dktX1_ringed_2 := dk_seg dksX1_ringed_1 23 rfl rfl
theorem dX1_ringed_0 : decode cX1_ringed 0 = .ok (.aload_n 0, 1) := dk_42 (dk_at dksX1_ringed_0 0 rfl rfl)
theorem dX1_ringed_1 : decode cX1_ringed 1 = .ok (.iload_n 1, 1) := dk_27 (dk_at dksX1_ringed_0 1 rfl rfl)
theorem dX1_ringed_2 : decode cX1_ringed 2 = .ok (.invokevirtual 193, 3) := dk_182 0 193 (dk_at dksX1_ringed_0 2 rfl rfl)
theorem dX1_ringed_5 : decode cX1_ringed 5 = .ok (.aload_n 0, 1) := dk_42 (dk_at dksX1_ringed_0 5 rfl rfl)
theorem dX1_ringed_6 : decode cX1_ringed 6 = .ok (.getfield 31, 3) := dk_180 0 31 (dk_at dksX1_ringed_0 6 rfl rfl)
theorem dX1_ringed_9 : decode cX1_ringed 9 = .ok (.getfield 97, 3) := dk_180 0 97 (dk_at dksX1_ringed_0 9 rfl rfl)
theorem dX1_ringed_12 : decode cX1_ringed 12 = .ok (.iload_n 1, 1) := dk_27 (dk_at dksX1_ringed_0 12 rfl rfl)
theorem dX1_ringed_13 : decode cX1_ringed 13 = .ok (.iaload, 1) := dk_46 (dk_at dksX1_ringed_0 13 rfl rfl)
theorem dX1_ringed_14 : decode cX1_ringed 14 = .ok (.iconst (-1), 1) := dk_2 (dk_at dksX1_ringed_0 14 rfl rfl)
theorem dX1_ringed_15 : decode cX1_ringed 15 = .ok (.if_icmp .ne 5, 3) := dk_160 0 5 (dk_at dksX1_ringed_0 15 rfl rfl)
theorem dX1_ringed_18 : decode cX1_ringed 18 = .ok (.iconst 0, 1) := dk_3 (dk_at dksX1_ringed_0 18 rfl rfl)
theorem dX1_ringed_19 : decode cX1_ringed 19 = .ok (.ireturn, 1) := dk_172 (dk_at dksX1_ringed_0 19 rfl rfl)
theorem dX1_ringed_20 : decode cX1_ringed 20 = .ok (.aload_n 0, 1) := dk_42 (dk_at dksX1_ringed_0 20 rfl rfl)
theorem dX1_ringed_21 : decode cX1_ringed 21 = .ok (.iload_n 1, 1) := dk_27 (dk_at dksX1_ringed_0 21 rfl rfl)
theorem dX1_ringed_22 : decode cX1_ringed 22 = .ok (.invokevirtual 280, 3) := dk_182 1 24 (dk_at dksX1_ringed_1 0 rfl rfl)
theorem dX1_ringed_25 : decode cX1_ringed 25 = .ok (.istore_n 2, 1) := dk_61 (dk_at dksX1_ringed_1 3 rfl rfl)
theorem dX1_ringed_26 : decode cX1_ringed 26 = .ok (.iconst 0, 1) := dk_3 (dk_at dksX1_ringed_1 4 rfl rfl)
theorem dX1_ringed_27 : decode cX1_ringed 27 = .ok (.istore_n 3, 1) := dk_62 (dk_at dksX1_ringed_1 5 rfl rfl)
theorem dX1_ringed_28 : decode cX1_ringed 28 = .ok (.iload_n 1, 1) := dk_27 (dk_at dksX1_ringed_1 6 rfl rfl)
theorem dX1_ringed_29 : decode cX1_ringed 29 = .ok (.istore 4, 2) := dk_54 4 (dk_at dksX1_ringed_1 7 rfl rfl)
theorem dX1_ringed_31 : decode cX1_ringed 31 = .ok (.aload_n 0, 1) := dk_42 (dk_at dksX1_ringed_1 9 rfl rfl)
theorem dX1_ringed_32 : decode cX1_ringed 32 = .ok (.getfield 31, 3) := dk_180 0 31 (dk_at dksX1_ringed_1 10 rfl rfl)
theorem dX1_ringed_35 : decode cX1_ringed 35 = .ok (.aload_n 0, 1) := dk_42 (dk_at dksX1_ringed_1 13 rfl rfl)
theorem dX1_ringed_36 : decode cX1_ringed 36 = .ok (.iload 4, 2) := dk_21 4 (dk_at dksX1_ringed_1 14 rfl rfl)
theorem dX1_ringed_38 : decode cX1_ringed 38 = .ok (.iload_n 2, 1) := dk_28 (dk_at dksX1_ringed_1 16 rfl rfl)
theorem dX1_ringed_39 : decode cX1_ringed 39 = .ok (.invokevirtual 274, 3) := dk_182 1 18 (dk_at dksX1_ringed_1 17 rfl rfl)
theorem dX1_ringed_42 : decode cX1_ringed 42 = .ok (.invokevirtual 93, 3) := dk_182 0 93 (dk_at dksX1_ringed_1 20 rfl rfl)
theorem dX1_ringed_45 : decode cX1_ringed 45 = .ok (.istore 4, 2) := dk_54 4 (dk_at dksX1_ringed_2 0 rfl rfl)
theorem dX1_ringed_47 : decode cX1_ringed 47 = .ok (.iinc 3 1, 3) := dk_132 3 1 (dk_at dksX1_ringed_2 2 rfl rfl)
theorem dX1_ringed_50 : decode cX1_ringed 50 = .ok (.iload 4, 2) := dk_21 4 (dk_at dksX1_ringed_2 5 rfl rfl)
theorem dX1_ringed_52 : decode cX1_ringed 52 = .ok (.iload_n 1, 1) := dk_27 (dk_at dksX1_ringed_2 7 rfl rfl)
theorem dX1_ringed_53 : decode cX1_ringed 53 = .ok (.if_icmp .ne (-22), 3) := dk_160 255 234 (dk_at dksX1_ringed_2 8 rfl rfl)
theorem dX1_ringed_56 : decode cX1_ringed 56 = .ok (.iload_n 3, 1) := dk_29 (dk_at dksX1_ringed_2 11 rfl rfl)
theorem dX1_ringed_57 : decode cX1_ringed 57 = .ok (.ireturn, 1) := dk_172 (dk_at dksX1_ringed_2 12 rfl rfl)
theorem q122 : (Jvm.Cond.initialized "HornHouses") ∈ lw_all := lw_g (lw_at lw_m1 1 rfl) rfl
theorem q156 : (Jvm.Cond.instantiable "HornHouses" (14 : Nat)) ∈ lw_all := lw_g (lw_at lw_m1 35 rfl) rfl
theorem q158 : (Jvm.Cond.instanceMethod ({ cls := "HornHouses", name := "<init>", desc := "()V" } : Jvm.MethodName)) ∈ lw_all := lw_g (lw_at lw_m1 37 rfl) rfl
theorem q159 : (Jvm.Cond.code ({ cls := "HornHouses", name := "<init>", desc := "()V" } : Jvm.MethodName) prog_1_method_5_code (1 : Nat) (Option.none : Option Jvm.ClassFile.FieldType)) ∈ lw_all := lw_g (lw_at lw_m1 38 rfl) rfl
theorem q160 : (Jvm.Cond.methodLink "HornHouses" (10 : Nat) ({ cls := "java/lang/Object", name := "<init>", desc := "()V" } : Jvm.MethodName)) ∈ lw_all := lw_g (lw_at lw_m1 39 rfl) rfl
theorem q163 : (Jvm.Cond.classLink "HornHouses" (19 : Nat) "HornHouses$Town") ∈ lw_all := lw_g (lw_at lw_m1 42 rfl) rfl
theorem q165 : (Jvm.Cond.methodLinkNest "HornHouses" (21 : Nat) ({ cls := "HornHouses$Town", name := "<init>", desc := "()V" } : Jvm.MethodName) "HornHouses") ∈ lw_tbl := lw_at lw_m1 44 rfl
theorem q198 : (Jvm.Cond.fieldLinkNest "HornHouses" (177 : Nat) "HornHouses$Town" "gives" "Ljava/util/List;" "HornHouses") ∈ lw_tbl := lw_at lw_m1 77 rfl
theorem q201 : (Jvm.Cond.fieldLinkNest "HornHouses" (145 : Nat) "HornHouses$Town" "places" "Ljava/util/List;" "HornHouses") ∈ lw_tbl := lw_at lw_m1 80 rfl
theorem q205 : (Jvm.Cond.fieldLinkNest "HornHouses" (200 : Nat) "HornHouses$Town" "grows" "Ljava/util/List;" "HornHouses") ∈ lw_tbl := lw_at lw_m1 84 rfl
theorem q226 : (Jvm.Cond.classLink "HornHouses" (26 : Nat) "HornHouses$Street") ∈ lw_all := lw_g (lw_at lw_m1 105 rfl) rfl
theorem q228 : (Jvm.Cond.methodLinkNest "HornHouses" (28 : Nat) ({ cls := "HornHouses$Street", name := "<init>", desc := "(LHornHouses;)V" } : Jvm.MethodName) "HornHouses") ∈ lw_tbl := lw_at lw_m1 107 rfl
theorem q233 : (Jvm.Cond.fieldLinkNest "HornHouses" (165 : Nat) "HornHouses$Street" "size" "[I" "HornHouses") ∈ lw_tbl := lw_at lw_m1 112 rfl
theorem q236 : (Jvm.Cond.fieldLinkNest "HornHouses" (180 : Nat) "HornHouses$Street" "worn" "[I" "HornHouses") ∈ lw_tbl := lw_at lw_m1 115 rfl
theorem q238 : (Jvm.Cond.fieldLinkNest "HornHouses" (167 : Nat) "HornHouses$Street" "heel" "[I" "HornHouses") ∈ lw_tbl := lw_at lw_m1 117 rfl
theorem q241 : (Jvm.Cond.fieldLinkNest "HornHouses" (97 : Nat) "HornHouses$Street" "house" "[I" "HornHouses") ∈ lw_tbl := lw_at lw_m1 120 rfl
theorem q244 : (Jvm.Cond.fieldLinkNest "HornHouses" (203 : Nat) "HornHouses$Street" "blisters" "[I" "HornHouses") ∈ lw_tbl := lw_at lw_m1 123 rfl
theorem q246 : (Jvm.Cond.fieldLinkNest "HornHouses" (110 : Nat) "HornHouses$Street" "day" "I" "HornHouses") ∈ lw_tbl := lw_at lw_m1 125 rfl
theorem q248 : (Jvm.Cond.fieldLinkNest "HornHouses" (116 : Nat) "HornHouses$Street" "burst" "I" "HornHouses") ∈ lw_tbl := lw_at lw_m1 127 rfl
theorem q250 : (Jvm.Cond.fieldLinkNest "HornHouses" (236 : Nat) "HornHouses$Street" "letIn" "Z" "HornHouses") ∈ lw_tbl := lw_at lw_m1 129 rfl
theorem q252 : (Jvm.Cond.fieldLinkNest "HornHouses" (295 : Nat) "HornHouses$Street" "damp" "I" "HornHouses") ∈ lw_tbl := lw_at lw_m1 131 rfl
theorem q275 : (Jvm.Cond.classLink "HornHouses" (49 : Nat) "java/util/ArrayList") ∈ lw_all := lw_g (lw_at lw_m1 154 rfl) rfl
theorem q276 : (Jvm.Cond.methodLink "HornHouses" (51 : Nat) ({ cls := "java/util/ArrayList", name := "<init>", desc := "()V" } : Jvm.MethodName)) ∈ lw_all := lw_g (lw_at lw_m1 155 rfl) rfl
theorem q277 : (Jvm.Cond.fieldLink "HornHouses" (13 : Nat) "HornHouses" "values" "[I") ∈ lw_all := lw_g (lw_at lw_m1 156 rfl) rfl
theorem q280 : (Jvm.Cond.fieldLink "HornHouses" (22 : Nat) "HornHouses" "town" "LHornHouses$Town;") ∈ lw_all := lw_g (lw_at lw_m1 159 rfl) rfl
theorem q281 : (Jvm.Cond.fieldLink "HornHouses" (31 : Nat) "HornHouses" "street" "LHornHouses$Street;") ∈ lw_all := lw_g (lw_at lw_m1 160 rfl) rfl
theorem q282 : (Jvm.Cond.fieldLink "HornHouses" (35 : Nat) "HornHouses" "tried" "LHornHouses$Street;") ∈ lw_all := lw_g (lw_at lw_m1 161 rfl) rfl
theorem q284 : (Jvm.Cond.fieldLink "HornHouses" (38 : Nat) "HornHouses" "tape" "[B") ∈ lw_all := lw_g (lw_at lw_m1 163 rfl) rfl
theorem q285 : (Jvm.Cond.fieldLink "HornHouses" (59 : Nat) "HornHouses" "taped" "I") ∈ lw_all := lw_g (lw_at lw_m1 164 rfl) rfl
theorem q286 : (Jvm.Cond.fieldLink "HornHouses" (42 : Nat) "HornHouses" "faultPlace" "I") ∈ lw_all := lw_g (lw_at lw_m1 165 rfl) rfl
theorem q287 : (Jvm.Cond.fieldLink "HornHouses" (46 : Nat) "HornHouses" "refused" "[I") ∈ lw_all := lw_g (lw_at lw_m1 166 rfl) rfl
theorem q288 : (Jvm.Cond.fieldLink "HornHouses" (52 : Nat) "HornHouses" "acts" "Ljava/util/List;") ∈ lw_all := lw_g (lw_at lw_m1 167 rfl) rfl
theorem q289 : (Jvm.Cond.fieldLink "HornHouses" (56 : Nat) "HornHouses" "seen" "Ljava/util/List;") ∈ lw_all := lw_g (lw_at lw_m1 168 rfl) rfl
theorem q290 : (Jvm.Cond.fieldLink "HornHouses" (86 : Nat) "HornHouses" "streetThen" "LHornHouses$Street;") ∈ lw_all := lw_g (lw_at lw_m1 169 rfl) rfl
theorem q291 : (Jvm.Cond.fieldLink "HornHouses" (320 : Nat) "HornHouses" "actsThen" "Ljava/util/List;") ∈ lw_all := lw_g (lw_at lw_m1 170 rfl) rfl
theorem q292 : (Jvm.Cond.fieldLink "HornHouses" (323 : Nat) "HornHouses" "seenThen" "Ljava/util/List;") ∈ lw_all := lw_g (lw_at lw_m1 171 rfl) rfl
theorem q293 : (Jvm.Cond.fieldLink "HornHouses" (304 : Nat) "HornHouses" "seed" "I") ∈ lw_all := lw_g (lw_at lw_m1 172 rfl) rfl
theorem q294 : (Jvm.Cond.laysFinal "HornHouses" "HornHouses" "values" "[I") ∈ lw_all := lw_g (lw_at lw_m1 173 rfl) rfl
theorem q295 : (Jvm.Cond.soleField "HornHouses" "values") ∈ lw_all := lw_g (lw_at lw_m1 174 rfl) rfl
theorem q296 : (Jvm.Cond.lays "HornHouses" "HornHouses" "town" "LHornHouses$Town;") ∈ lw_all := lw_g (lw_at lw_m1 175 rfl) rfl
theorem q297 : (Jvm.Cond.soleField "HornHouses" "town") ∈ lw_all := lw_g (lw_at lw_m1 176 rfl) rfl
theorem q298 : (Jvm.Cond.lays "HornHouses" "HornHouses" "street" "LHornHouses$Street;") ∈ lw_all := lw_g (lw_at lw_m1 177 rfl) rfl
theorem q299 : (Jvm.Cond.soleField "HornHouses" "street") ∈ lw_all := lw_g (lw_at lw_m1 178 rfl) rfl
theorem q300 : (Jvm.Cond.laysFinal "HornHouses" "HornHouses" "tried" "LHornHouses$Street;") ∈ lw_all := lw_g (lw_at lw_m1 179 rfl) rfl
theorem q301 : (Jvm.Cond.soleField "HornHouses" "tried") ∈ lw_all := lw_g (lw_at lw_m1 180 rfl) rfl
theorem q302 : (Jvm.Cond.laysFinal "HornHouses" "HornHouses" "tape" "[B") ∈ lw_all := lw_g (lw_at lw_m1 181 rfl) rfl
theorem q303 : (Jvm.Cond.soleField "HornHouses" "tape") ∈ lw_all := lw_g (lw_at lw_m1 182 rfl) rfl
theorem q304 : (Jvm.Cond.lays "HornHouses" "HornHouses" "taped" "I") ∈ lw_all := lw_g (lw_at lw_m1 183 rfl) rfl
theorem q305 : (Jvm.Cond.soleField "HornHouses" "taped") ∈ lw_all := lw_g (lw_at lw_m1 184 rfl) rfl
theorem q306 : (Jvm.Cond.lays "HornHouses" "HornHouses" "faultPlace" "I") ∈ lw_all := lw_g (lw_at lw_m1 185 rfl) rfl
theorem q307 : (Jvm.Cond.soleField "HornHouses" "faultPlace") ∈ lw_all := lw_g (lw_at lw_m1 186 rfl) rfl
theorem q308 : (Jvm.Cond.laysFinal "HornHouses" "HornHouses" "refused" "[I") ∈ lw_all := lw_g (lw_at lw_m1 187 rfl) rfl
theorem q309 : (Jvm.Cond.soleField "HornHouses" "refused") ∈ lw_all := lw_g (lw_at lw_m1 188 rfl) rfl
theorem q310 : (Jvm.Cond.lays "HornHouses" "HornHouses" "acts" "Ljava/util/List;") ∈ lw_all := lw_g (lw_at lw_m1 189 rfl) rfl
theorem q311 : (Jvm.Cond.soleField "HornHouses" "acts") ∈ lw_all := lw_g (lw_at lw_m1 190 rfl) rfl
theorem q312 : (Jvm.Cond.lays "HornHouses" "HornHouses" "seen" "Ljava/util/List;") ∈ lw_all := lw_g (lw_at lw_m1 191 rfl) rfl
theorem q313 : (Jvm.Cond.soleField "HornHouses" "seen") ∈ lw_all := lw_g (lw_at lw_m1 192 rfl) rfl
theorem q314 : (Jvm.Cond.lays "HornHouses" "HornHouses" "streetThen" "LHornHouses$Street;") ∈ lw_all := lw_g (lw_at lw_m1 193 rfl) rfl
theorem q315 : (Jvm.Cond.soleField "HornHouses" "streetThen") ∈ lw_all := lw_g (lw_at lw_m1 194 rfl) rfl
theorem q316 : (Jvm.Cond.lays "HornHouses" "HornHouses" "actsThen" "Ljava/util/List;") ∈ lw_all := lw_g (lw_at lw_m1 195 rfl) rfl
theorem q317 : (Jvm.Cond.soleField "HornHouses" "actsThen") ∈ lw_all := lw_g (lw_at lw_m1 196 rfl) rfl
theorem q318 : (Jvm.Cond.lays "HornHouses" "HornHouses" "seenThen" "Ljava/util/List;") ∈ lw_all := lw_g (lw_at lw_m1 197 rfl) rfl
theorem q319 : (Jvm.Cond.soleField "HornHouses" "seenThen") ∈ lw_all := lw_g (lw_at lw_m1 198 rfl) rfl
theorem q320 : (Jvm.Cond.lays "HornHouses" "HornHouses" "seed" "I") ∈ lw_all := lw_g (lw_at lw_m1 199 rfl) rfl
theorem q321 : (Jvm.Cond.soleField "HornHouses" "seed") ∈ lw_all := lw_g (lw_at lw_m1 200 rfl) rfl
theorem q322 : (Jvm.Cond.superclass "HornHouses" "java/lang/Object") ∈ lw_all := lw_g (lw_at lw_m1 201 rfl) rfl
theorem q325 : (Jvm.Cond.instanceMethod ({ cls := "HornHouses", name := "feed", desc := "(IIIII)I" } : Jvm.MethodName)) ∈ lw_all := lw_g (lw_at lw_m1 204 rfl) rfl
theorem q326 : (Jvm.Cond.selects "HornHouses" ({ cls := "HornHouses", name := "feed", desc := "(IIIII)I" } : Jvm.MethodName) ({ cls := "HornHouses", name := "feed", desc := "(IIIII)I" } : Jvm.MethodName)) ∈ lw_all := lw_g (lw_at lw_m1 205 rfl) rfl
theorem q327 : (Jvm.Cond.code ({ cls := "HornHouses", name := "feed", desc := "(IIIII)I" } : Jvm.MethodName) prog_1_method_6_code (8 : Nat) (Option.some Jvm.ClassFile.FieldType.int)) ∈ lw_all := lw_g (lw_at lw_m1 206 rfl) rfl
theorem q329 : (Jvm.Cond.instanceMethod ({ cls := "HornHouses", name := "fault", desc := "()I" } : Jvm.MethodName)) ∈ lw_all := lw_g (lw_at lw_m1 208 rfl) rfl
theorem q330 : (Jvm.Cond.selects "HornHouses" ({ cls := "HornHouses", name := "fault", desc := "()I" } : Jvm.MethodName) ({ cls := "HornHouses", name := "fault", desc := "()I" } : Jvm.MethodName)) ∈ lw_all := lw_g (lw_at lw_m1 209 rfl) rfl
theorem q331 : (Jvm.Cond.code ({ cls := "HornHouses", name := "fault", desc := "()I" } : Jvm.MethodName) prog_1_method_8_code (1 : Nat) (Option.some Jvm.ClassFile.FieldType.int)) ∈ lw_all := lw_g (lw_at lw_m1 210 rfl) rfl
theorem q333 : (Jvm.Cond.instanceMethod ({ cls := "HornHouses", name := "days", desc := "(I)I" } : Jvm.MethodName)) ∈ lw_all := lw_g (lw_at lw_m1 212 rfl) rfl
theorem q334 : (Jvm.Cond.selects "HornHouses" ({ cls := "HornHouses", name := "days", desc := "(I)I" } : Jvm.MethodName) ({ cls := "HornHouses", name := "days", desc := "(I)I" } : Jvm.MethodName)) ∈ lw_all := lw_g (lw_at lw_m1 213 rfl) rfl
theorem q335 : (Jvm.Cond.code ({ cls := "HornHouses", name := "days", desc := "(I)I" } : Jvm.MethodName) prog_1_method_24_code (2 : Nat) (Option.some Jvm.ClassFile.FieldType.int)) ∈ lw_all := lw_g (lw_at lw_m1 214 rfl) rfl
theorem q336 : (Jvm.Cond.methodLink "HornHouses" (139 : Nat) ({ cls := "HornHouses", name := "in", desc := "(III)Z" } : Jvm.MethodName)) ∈ lw_all := lw_g (lw_at lw_m1 215 rfl) rfl
theorem q337 : (Jvm.Cond.static ({ cls := "HornHouses", name := "in", desc := "(III)Z" } : Jvm.MethodName)) ∈ lw_all := lw_g (lw_at lw_m1 216 rfl) rfl
theorem q338 : (Jvm.Cond.code ({ cls := "HornHouses", name := "in", desc := "(III)Z" } : Jvm.MethodName) prog_1_method_1_code (3 : Nat) (Option.some Jvm.ClassFile.FieldType.boolean)) ∈ lw_all := lw_g (lw_at lw_m1 217 rfl) rfl
theorem q339 : (Jvm.Cond.methodLink "HornHouses" (220 : Nat) ({ cls := "HornHouses", name := "refuse", desc := "(I)I" } : Jvm.MethodName)) ∈ lw_all := lw_g (lw_at lw_m1 218 rfl) rfl
theorem q340 : (Jvm.Cond.privateMethod ({ cls := "HornHouses", name := "refuse", desc := "(I)I" } : Jvm.MethodName)) ∈ lw_tbl := lw_at lw_m1 219 rfl
theorem q341 : (Jvm.Cond.instanceMethod ({ cls := "HornHouses", name := "refuse", desc := "(I)I" } : Jvm.MethodName)) ∈ lw_all := lw_g (lw_at lw_m1 220 rfl) rfl
theorem q342 : (Jvm.Cond.code ({ cls := "HornHouses", name := "refuse", desc := "(I)I" } : Jvm.MethodName) prog_1_method_23_code (2 : Nat) (Option.some Jvm.ClassFile.FieldType.int)) ∈ lw_all := lw_g (lw_at lw_m1 221 rfl) rfl
theorem q343 : (Jvm.Cond.methodLink "HornHouses" (223 : Nat) ({ cls := "HornHouses", name := "keep", desc := "()V" } : Jvm.MethodName)) ∈ lw_all := lw_g (lw_at lw_m1 222 rfl) rfl
theorem q344 : (Jvm.Cond.privateMethod ({ cls := "HornHouses", name := "keep", desc := "()V" } : Jvm.MethodName)) ∈ lw_tbl := lw_at lw_m1 223 rfl
theorem q345 : (Jvm.Cond.instanceMethod ({ cls := "HornHouses", name := "keep", desc := "()V" } : Jvm.MethodName)) ∈ lw_all := lw_g (lw_at lw_m1 224 rfl) rfl
theorem q346 : (Jvm.Cond.code ({ cls := "HornHouses", name := "keep", desc := "()V" } : Jvm.MethodName) prog_1_method_22_code (1 : Nat) (Option.none : Option Jvm.ClassFile.FieldType)) ∈ lw_all := lw_g (lw_at lw_m1 225 rfl) rfl
theorem q347 : (Jvm.Cond.methodLink "HornHouses" (209 : Nat) ({ cls := "HornHouses$Street", name := "copy", desc := "()LHornHouses$Street;" } : Jvm.MethodName)) ∈ lw_all := lw_g (lw_at lw_m1 226 rfl) rfl
theorem q357 : (Jvm.Cond.interfaceEntry "HornHouses" (213 : Nat)) ∈ lw_tbl := lw_at lw_m1 236 rfl
theorem q358 : (Jvm.Cond.methodLink "HornHouses" (213 : Nat) ({ cls := "java/util/List", name := "add", desc := "(Ljava/lang/Object;)Z" } : Jvm.MethodName)) ∈ lw_all := lw_g (lw_at lw_m1 237 rfl) rfl
theorem q395 : (Jvm.Cond.selects "HornHouses" ({ cls := "java/lang/Object", name := "getClass", desc := "()Ljava/lang/Class;" } : Jvm.MethodName) ({ cls := "java/lang/Object", name := "getClass", desc := "()Ljava/lang/Class;" } : Jvm.MethodName)) ∈ lw_all := lw_g (lw_at lw_m2 34 rfl) rfl
theorem q425 : (Jvm.Cond.interfaceEntry "HornHouses" (134 : Nat)) ∈ lw_tbl := lw_at lw_m2 64 rfl
theorem q426 : (Jvm.Cond.methodLink "HornHouses" (134 : Nat) ({ cls := "java/util/List", name := "size", desc := "()I" } : Jvm.MethodName)) ∈ lw_all := lw_g (lw_at lw_m2 65 rfl) rfl
theorem q434 : (Jvm.Cond.interfaceEntry "HornHouses" (217 : Nat)) ∈ lw_tbl := lw_at lw_m2 73 rfl
theorem q435 : (Jvm.Cond.methodLink "HornHouses" (217 : Nat) ({ cls := "java/util/List", name := "remove", desc := "(I)Ljava/lang/Object;" } : Jvm.MethodName)) ∈ lw_all := lw_g (lw_at lw_m2 74 rfl) rfl
theorem q454 : (Jvm.Cond.methodLink "HornHouses" (226 : Nat) ({ cls := "HornHouses$Street", name := "after", desc := "(I)LHornHouses$Street;" } : Jvm.MethodName)) ∈ lw_all := lw_g (lw_at lw_m2 93 rfl) rfl
theorem q601 : (Jvm.Cond.instanceMethod ({ cls := "HornHouses", name := "letIn", desc := "()I" } : Jvm.MethodName)) ∈ lw_all := lw_g (lw_at lw_m3 0 rfl) rfl
theorem q602 : (Jvm.Cond.selects "HornHouses" ({ cls := "HornHouses", name := "letIn", desc := "()I" } : Jvm.MethodName) ({ cls := "HornHouses", name := "letIn", desc := "()I" } : Jvm.MethodName)) ∈ lw_all := lw_g (lw_at lw_m3 1 rfl) rfl
theorem q603 : (Jvm.Cond.code ({ cls := "HornHouses", name := "letIn", desc := "()I" } : Jvm.MethodName) prog_1_method_29_code (2 : Nat) (Option.some Jvm.ClassFile.FieldType.int)) ∈ lw_all := lw_g (lw_at lw_m3 2 rfl) rfl
theorem q604 : (Jvm.Cond.methodLink "HornHouses" (113 : Nat) ({ cls := "HornHouses$Street", name := "damp", desc := "()I" } : Jvm.MethodName)) ∈ lw_all := lw_g (lw_at lw_m3 3 rfl) rfl
theorem q606 : (Jvm.Cond.instanceMethod ({ cls := "HornHouses", name := "undo", desc := "()I" } : Jvm.MethodName)) ∈ lw_all := lw_g (lw_at lw_m3 5 rfl) rfl
theorem q607 : (Jvm.Cond.selects "HornHouses" ({ cls := "HornHouses", name := "undo", desc := "()I" } : Jvm.MethodName) ({ cls := "HornHouses", name := "undo", desc := "()I" } : Jvm.MethodName)) ∈ lw_all := lw_g (lw_at lw_m3 6 rfl) rfl
theorem q608 : (Jvm.Cond.code ({ cls := "HornHouses", name := "undo", desc := "()I" } : Jvm.MethodName) prog_1_method_30_code (1 : Nat) (Option.some Jvm.ClassFile.FieldType.int)) ∈ lw_all := lw_g (lw_at lw_m3 7 rfl) rfl
theorem q609 : (Jvm.Cond.interfaceEntry "HornHouses" (240 : Nat)) ∈ lw_tbl := lw_at lw_m3 8 rfl
theorem q610 : (Jvm.Cond.methodLink "HornHouses" (240 : Nat) ({ cls := "java/util/List", name := "isEmpty", desc := "()Z" } : Jvm.MethodName)) ∈ lw_all := lw_g (lw_at lw_m3 9 rfl) rfl
theorem q612 : (Jvm.Cond.instanceMethod ({ cls := "HornHouses", name := "forget", desc := "()V" } : Jvm.MethodName)) ∈ lw_all := lw_g (lw_at lw_m3 11 rfl) rfl
theorem q613 : (Jvm.Cond.selects "HornHouses" ({ cls := "HornHouses", name := "forget", desc := "()V" } : Jvm.MethodName) ({ cls := "HornHouses", name := "forget", desc := "()V" } : Jvm.MethodName)) ∈ lw_all := lw_g (lw_at lw_m3 12 rfl) rfl
theorem q614 : (Jvm.Cond.code ({ cls := "HornHouses", name := "forget", desc := "()V" } : Jvm.MethodName) prog_1_method_57_code (1 : Nat) (Option.none : Option Jvm.ClassFile.FieldType)) ∈ lw_all := lw_g (lw_at lw_m3 13 rfl) rfl
theorem q616 : (Jvm.Cond.instanceMethod ({ cls := "HornHouses", name := "image", desc := "()V" } : Jvm.MethodName)) ∈ lw_all := lw_g (lw_at lw_m3 15 rfl) rfl
theorem q617 : (Jvm.Cond.selects "HornHouses" ({ cls := "HornHouses", name := "image", desc := "()V" } : Jvm.MethodName) ({ cls := "HornHouses", name := "image", desc := "()V" } : Jvm.MethodName)) ∈ lw_all := lw_g (lw_at lw_m3 16 rfl) rfl
theorem q618 : (Jvm.Cond.code ({ cls := "HornHouses", name := "image", desc := "()V" } : Jvm.MethodName) prog_1_method_79_code (1 : Nat) (Option.none : Option Jvm.ClassFile.FieldType)) ∈ lw_all := lw_g (lw_at lw_m3 17 rfl) rfl
theorem q619 : (Jvm.Cond.methodLink "HornHouses" (317 : Nat) ({ cls := "java/util/ArrayList", name := "<init>", desc := "(Ljava/util/Collection;)V" } : Jvm.MethodName)) ∈ lw_all := lw_g (lw_at lw_m3 18 rfl) rfl
theorem q644 : (Jvm.Cond.instanceMethod ({ cls := "HornHouses", name := "restore", desc := "()Z" } : Jvm.MethodName)) ∈ lw_all := lw_g (lw_at lw_m3 43 rfl) rfl
theorem q645 : (Jvm.Cond.selects "HornHouses" ({ cls := "HornHouses", name := "restore", desc := "()Z" } : Jvm.MethodName) ({ cls := "HornHouses", name := "restore", desc := "()Z" } : Jvm.MethodName)) ∈ lw_all := lw_g (lw_at lw_m3 44 rfl) rfl
theorem q646 : (Jvm.Cond.code ({ cls := "HornHouses", name := "restore", desc := "()Z" } : Jvm.MethodName) prog_1_method_80_code (1 : Nat) (Option.some Jvm.ClassFile.FieldType.boolean)) ∈ lw_all := lw_g (lw_at lw_m3 45 rfl) rfl
theorem q652 : (Jvm.Cond.instanceMethod ({ cls := "HornHouses", name := "town", desc := "(I)I" } : Jvm.MethodName)) ∈ lw_all := lw_g (lw_at lw_m3 51 rfl) rfl
theorem q653 : (Jvm.Cond.selects "HornHouses" ({ cls := "HornHouses", name := "town", desc := "(I)I" } : Jvm.MethodName) ({ cls := "HornHouses", name := "town", desc := "(I)I" } : Jvm.MethodName)) ∈ lw_all := lw_g (lw_at lw_m3 52 rfl) rfl
theorem q654 : (Jvm.Cond.codeWith ({ cls := "HornHouses", name := "town", desc := "(I)I" } : Jvm.MethodName) prog_1_method_7_code (4 : Nat) (Option.some Jvm.ClassFile.FieldType.int) [((40 : Nat), (48 : Nat), (51 : Nat), (75 : Nat))]) ∈ lw_all := lw_g (lw_at lw_m3 53 rfl) rfl
theorem q655 : (Jvm.Cond.classLink "HornHouses" (75 : Nat) "HornHouses$Wrong") ∈ lw_all := lw_g (lw_at lw_m3 54 rfl) rfl
theorem q656 : (Jvm.Cond.methodLink "HornHouses" (62 : Nat) ({ cls := "HornHouses", name := "right", desc := "(Z)V" } : Jvm.MethodName)) ∈ lw_all := lw_g (lw_at lw_m3 55 rfl) rfl
theorem q657 : (Jvm.Cond.static ({ cls := "HornHouses", name := "right", desc := "(Z)V" } : Jvm.MethodName)) ∈ lw_all := lw_g (lw_at lw_m3 56 rfl) rfl
theorem q658 : (Jvm.Cond.code ({ cls := "HornHouses", name := "right", desc := "(Z)V" } : Jvm.MethodName) prog_1_method_3_code (1 : Nat) (Option.none : Option Jvm.ClassFile.FieldType)) ∈ lw_all := lw_g (lw_at lw_m3 57 rfl) rfl
theorem q659 : (Jvm.Cond.classLink "HornHouses" (7 : Nat) "java/lang/IllegalArgumentException") ∈ lw_all := lw_g (lw_at lw_m3 58 rfl) rfl
theorem q700 : (Jvm.Cond.methodLink "HornHouses" (9 : Nat) ({ cls := "java/lang/IllegalArgumentException", name := "<init>", desc := "()V" } : Jvm.MethodName)) ∈ lw_all := lw_g (lw_at lw_m3 99 rfl) rfl
theorem q723 : (Jvm.Cond.classLink "HornHouses" (66 : Nat) "HornHouses$Reader") ∈ lw_all := lw_g (lw_at lw_m3 122 rfl) rfl
theorem q725 : (Jvm.Cond.methodLink "HornHouses" (68 : Nat) ({ cls := "HornHouses$Reader", name := "<init>", desc := "(LHornHouses;I)V" } : Jvm.MethodName)) ∈ lw_all := lw_g (lw_at lw_m3 124 rfl) rfl
theorem q747 : (Jvm.Cond.fieldLinkNest "HornHouses" (83 : Nat) "HornHouses$Reader" "begun" "LHornHouses$Street;" "HornHouses") ∈ lw_tbl := lw_at lw_m3 146 rfl
theorem q755 : (Jvm.Cond.fieldLinkNest "HornHouses" (77 : Nat) "HornHouses$Reader" "begins" "I" "HornHouses") ∈ lw_tbl := lw_at lw_m3 154 rfl
theorem q792 : (Jvm.Cond.methodLink "HornHouses" (71 : Nat) ({ cls := "HornHouses$Reader", name := "read", desc := "()LHornHouses$Town;" } : Jvm.MethodName)) ∈ lw_all := lw_g (lw_at lw_m3 191 rfl) rfl
theorem q918 : (Jvm.Cond.static ({ cls := "HornHouses", name := "isOf", desc := "(II)Z" } : Jvm.MethodName)) ∈ lw_all := lw_g (lw_at lw_m4 77 rfl) rfl
theorem q919 : (Jvm.Cond.code ({ cls := "HornHouses", name := "isOf", desc := "(II)Z" } : Jvm.MethodName) prog_1_method_4_code (2 : Nat) (Option.some Jvm.ClassFile.FieldType.boolean)) ∈ lw_all := lw_g (lw_at lw_m4 78 rfl) rfl
theorem q943 : (Jvm.Cond.fieldLinkNest "HornHouses" (80 : Nat) "HornHouses$Wrong" "kind" "I" "HornHouses") ∈ lw_tbl := lw_at lw_m4 102 rfl
theorem q1184 : (Jvm.Cond.instanceMethod ({ cls := "HornHouses", name := "count", desc := "(I)I" } : Jvm.MethodName)) ∈ lw_all := lw_g (lw_at lw_m5 103 rfl) rfl
theorem q1185 : (Jvm.Cond.selects "HornHouses" ({ cls := "HornHouses", name := "count", desc := "(I)I" } : Jvm.MethodName) ({ cls := "HornHouses", name := "count", desc := "(I)I" } : Jvm.MethodName)) ∈ lw_all := lw_g (lw_at lw_m5 104 rfl) rfl
theorem q1186 : (Jvm.Cond.code ({ cls := "HornHouses", name := "count", desc := "(I)I" } : Jvm.MethodName) prog_1_method_12_code (2 : Nat) (Option.some Jvm.ClassFile.FieldType.int)) ∈ lw_all := lw_g (lw_at lw_m5 105 rfl) rfl
theorem q1187 : (Jvm.Cond.methodLink "HornHouses" (89 : Nat) ({ cls := "HornHouses$Town", name := "houses", desc := "()I" } : Jvm.MethodName)) ∈ lw_all := lw_g (lw_at lw_m5 106 rfl) rfl
theorem q1188 : (Jvm.Cond.methodLink "HornHouses" (104 : Nat) ({ cls := "HornHouses$Town", name := "people", desc := "()I" } : Jvm.MethodName)) ∈ lw_all := lw_g (lw_at lw_m5 107 rfl) rfl
theorem q1189 : (Jvm.Cond.methodLink "HornHouses" (119 : Nat) ({ cls := "HornHouses", name := "taken", desc := "()I" } : Jvm.MethodName)) ∈ lw_all := lw_g (lw_at lw_m5 108 rfl) rfl
theorem q1190 : (Jvm.Cond.privateMethod ({ cls := "HornHouses", name := "taken", desc := "()I" } : Jvm.MethodName)) ∈ lw_tbl := lw_at lw_m5 109 rfl
theorem q1191 : (Jvm.Cond.instanceMethod ({ cls := "HornHouses", name := "taken", desc := "()I" } : Jvm.MethodName)) ∈ lw_all := lw_g (lw_at lw_m5 110 rfl) rfl
theorem q1192 : (Jvm.Cond.code ({ cls := "HornHouses", name := "taken", desc := "()I" } : Jvm.MethodName) prog_1_method_9_code (3 : Nat) (Option.some Jvm.ClassFile.FieldType.int)) ∈ lw_all := lw_g (lw_at lw_m5 111 rfl) rfl
theorem q1193 : (Jvm.Cond.methodLink "HornHouses" (93 : Nat) ({ cls := "HornHouses$Street", name := "in", desc := "(I)I" } : Jvm.MethodName)) ∈ lw_all := lw_g (lw_at lw_m5 112 rfl) rfl
theorem q1194 : (Jvm.Cond.methodLink "HornHouses" (122 : Nat) ({ cls := "HornHouses$Street", name := "lodging", desc := "()I" } : Jvm.MethodName)) ∈ lw_all := lw_g (lw_at lw_m5 113 rfl) rfl
theorem q1198 : (Jvm.Cond.methodLink "HornHouses" (125 : Nat) ({ cls := "HornHouses$Street", name := "allBlisters", desc := "()I" } : Jvm.MethodName)) ∈ lw_all := lw_g (lw_at lw_m5 117 rfl) rfl
theorem q1202 : (Jvm.Cond.methodLink "HornHouses" (128 : Nat) ({ cls := "HornHouses", name := "tightest", desc := "()I" } : Jvm.MethodName)) ∈ lw_all := lw_g (lw_at lw_m5 121 rfl) rfl
theorem q1203 : (Jvm.Cond.privateMethod ({ cls := "HornHouses", name := "tightest", desc := "()I" } : Jvm.MethodName)) ∈ lw_tbl := lw_at lw_m5 122 rfl
theorem q1204 : (Jvm.Cond.instanceMethod ({ cls := "HornHouses", name := "tightest", desc := "()I" } : Jvm.MethodName)) ∈ lw_all := lw_g (lw_at lw_m5 123 rfl) rfl
theorem q1205 : (Jvm.Cond.code ({ cls := "HornHouses", name := "tightest", desc := "()I" } : Jvm.MethodName) prog_1_method_11_code (3 : Nat) (Option.some Jvm.ClassFile.FieldType.int)) ∈ lw_all := lw_g (lw_at lw_m5 124 rfl) rfl
theorem q1206 : (Jvm.Cond.methodLink "HornHouses" (107 : Nat) ({ cls := "HornHouses", name := "tightOf", desc := "(I)I" } : Jvm.MethodName)) ∈ lw_all := lw_g (lw_at lw_m5 125 rfl) rfl
theorem q1207 : (Jvm.Cond.privateMethod ({ cls := "HornHouses", name := "tightOf", desc := "(I)I" } : Jvm.MethodName)) ∈ lw_tbl := lw_at lw_m5 126 rfl
theorem q1208 : (Jvm.Cond.instanceMethod ({ cls := "HornHouses", name := "tightOf", desc := "(I)I" } : Jvm.MethodName)) ∈ lw_all := lw_g (lw_at lw_m5 127 rfl) rfl
theorem q1209 : (Jvm.Cond.code ({ cls := "HornHouses", name := "tightOf", desc := "(I)I" } : Jvm.MethodName) prog_1_method_10_code (2 : Nat) (Option.some Jvm.ClassFile.FieldType.int)) ∈ lw_all := lw_g (lw_at lw_m5 128 rfl) rfl
theorem q1210 : (Jvm.Cond.methodLink "HornHouses" (100 : Nat) ({ cls := "HornHouses$Street", name := "tight", desc := "(II)I" } : Jvm.MethodName)) ∈ lw_all := lw_g (lw_at lw_m5 129 rfl) rfl
theorem q1211 : (Jvm.Cond.methodLink "HornHouses" (131 : Nat) ({ cls := "HornHouses", name := "needed", desc := "()I" } : Jvm.MethodName)) ∈ lw_all := lw_g (lw_at lw_m5 130 rfl) rfl
theorem q1212 : (Jvm.Cond.privateMethod ({ cls := "HornHouses", name := "needed", desc := "()I" } : Jvm.MethodName)) ∈ lw_tbl := lw_at lw_m5 131 rfl
theorem q1213 : (Jvm.Cond.instanceMethod ({ cls := "HornHouses", name := "needed", desc := "()I" } : Jvm.MethodName)) ∈ lw_all := lw_g (lw_at lw_m5 132 rfl) rfl
theorem q1214 : (Jvm.Cond.code ({ cls := "HornHouses", name := "needed", desc := "()I" } : Jvm.MethodName) prog_1_method_46_code (4 : Nat) (Option.some Jvm.ClassFile.FieldType.int)) ∈ lw_all := lw_g (lw_at lw_m5 133 rfl) rfl
theorem q1215 : (Jvm.Cond.methodLink "HornHouses" (270 : Nat) ({ cls := "HornHouses", name := "least", desc := "()[[I" } : Jvm.MethodName)) ∈ lw_all := lw_g (lw_at lw_m5 134 rfl) rfl
theorem q1216 : (Jvm.Cond.privateMethod ({ cls := "HornHouses", name := "least", desc := "()[[I" } : Jvm.MethodName)) ∈ lw_tbl := lw_at lw_m5 135 rfl
theorem q1217 : (Jvm.Cond.instanceMethod ({ cls := "HornHouses", name := "least", desc := "()[[I" } : Jvm.MethodName)) ∈ lw_all := lw_g (lw_at lw_m5 136 rfl) rfl
theorem q1218 : (Jvm.Cond.code ({ cls := "HornHouses", name := "least", desc := "()[[I" } : Jvm.MethodName) prog_1_method_43_code (6 : Nat) (Option.some (Jvm.ClassFile.FieldType.array (Jvm.ClassFile.FieldType.array Jvm.ClassFile.FieldType.int)))) ∈ lw_all := lw_g (lw_at lw_m5 137 rfl) rfl
theorem q1219 : (Jvm.Cond.classLink "HornHouses" (258 : Nat) "[[I") ∈ lw_all := lw_g (lw_at lw_m5 138 rfl) rfl
theorem q1221 : (Jvm.Cond.methodLink "HornHouses" (260 : Nat) ({ cls := "HornHouses", name := "may", desc := "(III)Z" } : Jvm.MethodName)) ∈ lw_all := lw_g (lw_at lw_m5 140 rfl) rfl
theorem q1222 : (Jvm.Cond.privateMethod ({ cls := "HornHouses", name := "may", desc := "(III)Z" } : Jvm.MethodName)) ∈ lw_tbl := lw_at lw_m5 141 rfl
theorem q1223 : (Jvm.Cond.instanceMethod ({ cls := "HornHouses", name := "may", desc := "(III)Z" } : Jvm.MethodName)) ∈ lw_all := lw_g (lw_at lw_m5 142 rfl) rfl
theorem q1224 : (Jvm.Cond.code ({ cls := "HornHouses", name := "may", desc := "(III)Z" } : Jvm.MethodName) prog_1_method_42_code (4 : Nat) (Option.some Jvm.ClassFile.FieldType.boolean)) ∈ lw_all := lw_g (lw_at lw_m5 143 rfl) rfl
theorem q1225 : (Jvm.Cond.methodLink "HornHouses" (183 : Nat) ({ cls := "HornHouses", name := "isOf", desc := "(II)Z" } : Jvm.MethodName)) ∈ lw_all := lw_g (lw_at lw_m5 144 rfl) rfl
theorem q1226 : (Jvm.Cond.methodLink "HornHouses" (233 : Nat) ({ cls := "HornHouses$Street", name := "goesIn", desc := "(II)Z" } : Jvm.MethodName)) ∈ lw_all := lw_g (lw_at lw_m5 145 rfl) rfl
theorem q1235 : (Jvm.Cond.methodLink "HornHouses" (263 : Nat) ({ cls := "HornHouses", name := "with", desc := "([[IIII)I" } : Jvm.MethodName)) ∈ lw_all := lw_g (lw_at lw_m5 154 rfl) rfl
theorem q1236 : (Jvm.Cond.privateMethod ({ cls := "HornHouses", name := "with", desc := "([[IIII)I" } : Jvm.MethodName)) ∈ lw_tbl := lw_at lw_m5 155 rfl
theorem q1237 : (Jvm.Cond.instanceMethod ({ cls := "HornHouses", name := "with", desc := "([[IIII)I" } : Jvm.MethodName)) ∈ lw_all := lw_g (lw_at lw_m5 156 rfl) rfl
theorem q1238 : (Jvm.Cond.code ({ cls := "HornHouses", name := "with", desc := "([[IIII)I" } : Jvm.MethodName) prog_1_method_41_code (5 : Nat) (Option.some Jvm.ClassFile.FieldType.int)) ∈ lw_all := lw_g (lw_at lw_m5 157 rfl) rfl
theorem q1239 : (Jvm.Cond.methodLink "HornHouses" (267 : Nat) ({ cls := "java/lang/Math", name := "min", desc := "(II)I" } : Jvm.MethodName)) ∈ lw_all := lw_g (lw_at lw_m5 158 rfl) rfl
theorem q1240 : (Jvm.Cond.methodLink "HornHouses" (142 : Nat) ({ cls := "HornHouses", name := "found", desc := "(Z)V" } : Jvm.MethodName)) ∈ lw_all := lw_g (lw_at lw_m5 159 rfl) rfl
theorem q1241 : (Jvm.Cond.static ({ cls := "HornHouses", name := "found", desc := "(Z)V" } : Jvm.MethodName)) ∈ lw_all := lw_g (lw_at lw_m5 160 rfl) rfl
theorem q1242 : (Jvm.Cond.code ({ cls := "HornHouses", name := "found", desc := "(Z)V" } : Jvm.MethodName) prog_1_method_2_code (1 : Nat) (Option.none : Option Jvm.ClassFile.FieldType)) ∈ lw_all := lw_g (lw_at lw_m5 161 rfl) rfl
theorem q1243 : (Jvm.Cond.classLink "HornHouses" (1 : Nat) "java/util/NoSuchElementException") ∈ lw_all := lw_g (lw_at lw_m5 162 rfl) rfl
theorem q1252 : (Jvm.Cond.methodLink "HornHouses" (3 : Nat) ({ cls := "java/util/NoSuchElementException", name := "<init>", desc := "()V" } : Jvm.MethodName)) ∈ lw_all := lw_g (lw_at lw_m5 171 rfl) rfl
theorem q1262 : (Jvm.Cond.instanceMethod ({ cls := "HornHouses", name := "house", desc := "(II)I" } : Jvm.MethodName)) ∈ lw_all := lw_g (lw_at lw_m5 181 rfl) rfl
theorem q1263 : (Jvm.Cond.selects "HornHouses" ({ cls := "HornHouses", name := "house", desc := "(II)I" } : Jvm.MethodName) ({ cls := "HornHouses", name := "house", desc := "(II)I" } : Jvm.MethodName)) ∈ lw_all := lw_g (lw_at lw_m5 182 rfl) rfl
theorem q1264 : (Jvm.Cond.code ({ cls := "HornHouses", name := "house", desc := "(II)I" } : Jvm.MethodName) prog_1_method_19_code (3 : Nat) (Option.some Jvm.ClassFile.FieldType.int)) ∈ lw_all := lw_g (lw_at lw_m5 183 rfl) rfl
theorem q1265 : (Jvm.Cond.methodLink "HornHouses" (173 : Nat) ({ cls := "HornHouses", name := "aHouse", desc := "(I)V" } : Jvm.MethodName)) ∈ lw_all := lw_g (lw_at lw_m5 184 rfl) rfl
theorem q1266 : (Jvm.Cond.privateMethod ({ cls := "HornHouses", name := "aHouse", desc := "(I)V" } : Jvm.MethodName)) ∈ lw_tbl := lw_at lw_m5 185 rfl
theorem q1267 : (Jvm.Cond.instanceMethod ({ cls := "HornHouses", name := "aHouse", desc := "(I)V" } : Jvm.MethodName)) ∈ lw_all := lw_g (lw_at lw_m5 186 rfl) rfl
theorem q1268 : (Jvm.Cond.code ({ cls := "HornHouses", name := "aHouse", desc := "(I)V" } : Jvm.MethodName) prog_1_method_13_code (2 : Nat) (Option.none : Option Jvm.ClassFile.FieldType)) ∈ lw_all := lw_g (lw_at lw_m5 187 rfl) rfl
theorem q1269 : (Jvm.Cond.interfaceEntry "HornHouses" (148 : Nat)) ∈ lw_tbl := lw_at lw_m5 188 rfl
theorem q1270 : (Jvm.Cond.methodLink "HornHouses" (148 : Nat) ({ cls := "java/util/List", name := "get", desc := "(I)Ljava/lang/Object;" } : Jvm.MethodName)) ∈ lw_all := lw_g (lw_at lw_m5 189 rfl) rfl
theorem q1271 : (Jvm.Cond.classLink "HornHouses" (152 : Nat) "java/lang/Integer") ∈ lw_all := lw_g (lw_at lw_m5 190 rfl) rfl
theorem q1272 : (Jvm.Cond.methodLink "HornHouses" (154 : Nat) ({ cls := "java/lang/Integer", name := "intValue", desc := "()I" } : Jvm.MethodName)) ∈ lw_all := lw_g (lw_at lw_m5 191 rfl) rfl
theorem q1273 : (Jvm.Cond.methodLink "HornHouses" (187 : Nat) ({ cls := "HornHouses", name := "room", desc := "(I)I" } : Jvm.MethodName)) ∈ lw_all := lw_g (lw_at lw_m5 192 rfl) rfl
theorem q1274 : (Jvm.Cond.privateMethod ({ cls := "HornHouses", name := "room", desc := "(I)I" } : Jvm.MethodName)) ∈ lw_tbl := lw_at lw_m5 193 rfl
theorem q1275 : (Jvm.Cond.instanceMethod ({ cls := "HornHouses", name := "room", desc := "(I)I" } : Jvm.MethodName)) ∈ lw_all := lw_g (lw_at lw_m5 194 rfl) rfl
theorem q1276 : (Jvm.Cond.code ({ cls := "HornHouses", name := "room", desc := "(I)I" } : Jvm.MethodName) prog_1_method_18_code (3 : Nat) (Option.some Jvm.ClassFile.FieldType.int)) ∈ lw_all := lw_g (lw_at lw_m5 195 rfl) rfl
theorem q1277 : (Jvm.Cond.methodLink "HornHouses" (170 : Nat) ({ cls := "java/lang/Math", name := "max", desc := "(II)I" } : Jvm.MethodName)) ∈ lw_all := lw_g (lw_at lw_m5 196 rfl) rfl
theorem q1278 : (Jvm.Cond.methodLink "HornHouses" (190 : Nat) ({ cls := "HornHouses", name := "nextDoor", desc := "(I)I" } : Jvm.MethodName)) ∈ lw_all := lw_g (lw_at lw_m5 197 rfl) rfl
theorem q1279 : (Jvm.Cond.privateMethod ({ cls := "HornHouses", name := "nextDoor", desc := "(I)I" } : Jvm.MethodName)) ∈ lw_tbl := lw_at lw_m5 198 rfl
theorem q1280 : (Jvm.Cond.instanceMethod ({ cls := "HornHouses", name := "nextDoor", desc := "(I)I" } : Jvm.MethodName)) ∈ lw_all := lw_g (lw_at lw_m5 199 rfl) rfl
theorem q1281 : (Jvm.Cond.code ({ cls := "HornHouses", name := "nextDoor", desc := "(I)I" } : Jvm.MethodName) prog_1_method_17_code (4 : Nat) (Option.some Jvm.ClassFile.FieldType.int)) ∈ lw_all := lw_g (lw_at lw_m5 200 rfl) rfl
theorem q1282 : (Jvm.Cond.methodLink "HornHouses" (162 : Nat) ({ cls := "HornHouses", name := "far", desc := "(II)I" } : Jvm.MethodName)) ∈ lw_all := lw_g (lw_at lw_m5 201 rfl) rfl
theorem q1283 : (Jvm.Cond.privateMethod ({ cls := "HornHouses", name := "far", desc := "(II)I" } : Jvm.MethodName)) ∈ lw_tbl := lw_at lw_m5 202 rfl
theorem q1284 : (Jvm.Cond.instanceMethod ({ cls := "HornHouses", name := "far", desc := "(II)I" } : Jvm.MethodName)) ∈ lw_all := lw_g (lw_at lw_m5 203 rfl) rfl
theorem q1285 : (Jvm.Cond.code ({ cls := "HornHouses", name := "far", desc := "(II)I" } : Jvm.MethodName) prog_1_method_16_code (3 : Nat) (Option.some Jvm.ClassFile.FieldType.int)) ∈ lw_all := lw_g (lw_at lw_m5 204 rfl) rfl
theorem q1286 : (Jvm.Cond.methodLink "HornHouses" (157 : Nat) ({ cls := "java/lang/Math", name := "abs", desc := "(I)I" } : Jvm.MethodName)) ∈ lw_all := lw_g (lw_at lw_m5 205 rfl) rfl
theorem q1293 : (Jvm.Cond.instanceMethod ({ cls := "HornHouses", name := "person", desc := "(II)I" } : Jvm.MethodName)) ∈ lw_all := lw_g (lw_at lw_m5 212 rfl) rfl
theorem q1294 : (Jvm.Cond.selects "HornHouses" ({ cls := "HornHouses", name := "person", desc := "(II)I" } : Jvm.MethodName) ({ cls := "HornHouses", name := "person", desc := "(II)I" } : Jvm.MethodName)) ∈ lw_all := lw_g (lw_at lw_m5 213 rfl) rfl
theorem q1295 : (Jvm.Cond.code ({ cls := "HornHouses", name := "person", desc := "(II)I" } : Jvm.MethodName) prog_1_method_20_code (3 : Nat) (Option.some Jvm.ClassFile.FieldType.int)) ∈ lw_all := lw_g (lw_at lw_m5 214 rfl) rfl
theorem q1296 : (Jvm.Cond.methodLink "HornHouses" (193 : Nat) ({ cls := "HornHouses", name := "aPerson", desc := "(I)V" } : Jvm.MethodName)) ∈ lw_all := lw_g (lw_at lw_m5 215 rfl) rfl
theorem q1297 : (Jvm.Cond.privateMethod ({ cls := "HornHouses", name := "aPerson", desc := "(I)V" } : Jvm.MethodName)) ∈ lw_tbl := lw_at lw_m5 216 rfl
theorem q1298 : (Jvm.Cond.instanceMethod ({ cls := "HornHouses", name := "aPerson", desc := "(I)V" } : Jvm.MethodName)) ∈ lw_all := lw_g (lw_at lw_m5 217 rfl) rfl
theorem q1299 : (Jvm.Cond.code ({ cls := "HornHouses", name := "aPerson", desc := "(I)V" } : Jvm.MethodName) prog_1_method_14_code (2 : Nat) (Option.none : Option Jvm.ClassFile.FieldType)) ∈ lw_all := lw_g (lw_at lw_m5 218 rfl) rfl
theorem q1300 : (Jvm.Cond.methodLink "HornHouses" (196 : Nat) ({ cls := "HornHouses", name := "oneOf", desc := "(II)V" } : Jvm.MethodName)) ∈ lw_all := lw_g (lw_at lw_m5 219 rfl) rfl
theorem q1301 : (Jvm.Cond.static ({ cls := "HornHouses", name := "oneOf", desc := "(II)V" } : Jvm.MethodName)) ∈ lw_all := lw_g (lw_at lw_m5 220 rfl) rfl
theorem q1302 : (Jvm.Cond.code ({ cls := "HornHouses", name := "oneOf", desc := "(II)V" } : Jvm.MethodName) prog_1_method_15_code (2 : Nat) (Option.none : Option Jvm.ClassFile.FieldType)) ∈ lw_all := lw_g (lw_at lw_m5 221 rfl) rfl
theorem q1307 : (Jvm.Cond.instanceMethod ({ cls := "HornHouses", name := "eases", desc := "(II)I" } : Jvm.MethodName)) ∈ lw_all := lw_g (lw_at lw_m5 226 rfl) rfl
theorem q1308 : (Jvm.Cond.selects "HornHouses" ({ cls := "HornHouses", name := "eases", desc := "(II)I" } : Jvm.MethodName) ({ cls := "HornHouses", name := "eases", desc := "(II)I" } : Jvm.MethodName)) ∈ lw_all := lw_g (lw_at lw_m5 227 rfl) rfl
theorem q1309 : (Jvm.Cond.code ({ cls := "HornHouses", name := "eases", desc := "(II)I" } : Jvm.MethodName) prog_1_method_21_code (3 : Nat) (Option.some Jvm.ClassFile.FieldType.int)) ∈ lw_all := lw_g (lw_at lw_m5 228 rfl) rfl
theorem q1310 : (Jvm.Cond.methodLink "HornHouses" (206 : Nat) ({ cls := "HornHouses$Street", name := "eases", desc := "(II)I" } : Jvm.MethodName)) ∈ lw_all := lw_g (lw_at lw_m5 229 rfl) rfl
theorem q1315 : (Jvm.Cond.instanceMethod ({ cls := "HornHouses", name := "putIn", desc := "(II)I" } : Jvm.MethodName)) ∈ lw_all := lw_g (lw_at lw_m5 234 rfl) rfl
theorem q1316 : (Jvm.Cond.selects "HornHouses" ({ cls := "HornHouses", name := "putIn", desc := "(II)I" } : Jvm.MethodName) ({ cls := "HornHouses", name := "putIn", desc := "(II)I" } : Jvm.MethodName)) ∈ lw_all := lw_g (lw_at lw_m5 235 rfl) rfl
theorem q1317 : (Jvm.Cond.code ({ cls := "HornHouses", name := "putIn", desc := "(II)I" } : Jvm.MethodName) prog_1_method_25_code (3 : Nat) (Option.some Jvm.ClassFile.FieldType.int)) ∈ lw_all := lw_g (lw_at lw_m5 236 rfl) rfl
theorem q1318 : (Jvm.Cond.methodLink "HornHouses" (230 : Nat) ({ cls := "HornHouses$Street", name := "canPut", desc := "(II)Z" } : Jvm.MethodName)) ∈ lw_all := lw_g (lw_at lw_m5 237 rfl) rfl
theorem q1327 : (Jvm.Cond.instanceMethod ({ cls := "HornHouses", name := "out", desc := "(I)I" } : Jvm.MethodName)) ∈ lw_all := lw_g (lw_at lw_m6 6 rfl) rfl
theorem q1328 : (Jvm.Cond.selects "HornHouses" ({ cls := "HornHouses", name := "out", desc := "(I)I" } : Jvm.MethodName) ({ cls := "HornHouses", name := "out", desc := "(I)I" } : Jvm.MethodName)) ∈ lw_all := lw_g (lw_at lw_m6 7 rfl) rfl
theorem q1329 : (Jvm.Cond.code ({ cls := "HornHouses", name := "out", desc := "(I)I" } : Jvm.MethodName) prog_1_method_26_code (3 : Nat) (Option.some Jvm.ClassFile.FieldType.int)) ∈ lw_all := lw_g (lw_at lw_m6 8 rfl) rfl
theorem q1334 : (Jvm.Cond.instanceMethod ({ cls := "HornHouses", name := "stuff", desc := "(II)I" } : Jvm.MethodName)) ∈ lw_all := lw_g (lw_at lw_m6 13 rfl) rfl
theorem q1335 : (Jvm.Cond.selects "HornHouses" ({ cls := "HornHouses", name := "stuff", desc := "(II)I" } : Jvm.MethodName) ({ cls := "HornHouses", name := "stuff", desc := "(II)I" } : Jvm.MethodName)) ∈ lw_all := lw_g (lw_at lw_m6 14 rfl) rfl
theorem q1336 : (Jvm.Cond.code ({ cls := "HornHouses", name := "stuff", desc := "(II)I" } : Jvm.MethodName) prog_1_method_27_code (3 : Nat) (Option.some Jvm.ClassFile.FieldType.int)) ∈ lw_all := lw_g (lw_at lw_m6 15 rfl) rfl
theorem q1341 : (Jvm.Cond.instanceMethod ({ cls := "HornHouses", name := "change", desc := "(II)Z" } : Jvm.MethodName)) ∈ lw_all := lw_g (lw_at lw_m6 20 rfl) rfl
theorem q1342 : (Jvm.Cond.selects "HornHouses" ({ cls := "HornHouses", name := "change", desc := "(II)Z" } : Jvm.MethodName) ({ cls := "HornHouses", name := "change", desc := "(II)Z" } : Jvm.MethodName)) ∈ lw_all := lw_g (lw_at lw_m6 21 rfl) rfl
theorem q1343 : (Jvm.Cond.code ({ cls := "HornHouses", name := "change", desc := "(II)Z" } : Jvm.MethodName) prog_1_method_28_code (6 : Nat) (Option.some Jvm.ClassFile.FieldType.boolean)) ∈ lw_all := lw_g (lw_at lw_m6 22 rfl) rfl
theorem q1348 : (Jvm.Cond.instanceMethod ({ cls := "HornHouses", name := "then", desc := "(III)I" } : Jvm.MethodName)) ∈ lw_all := lw_g (lw_at lw_m6 27 rfl) rfl
theorem q1349 : (Jvm.Cond.selects "HornHouses" ({ cls := "HornHouses", name := "then", desc := "(III)I" } : Jvm.MethodName) ({ cls := "HornHouses", name := "then", desc := "(III)I" } : Jvm.MethodName)) ∈ lw_all := lw_g (lw_at lw_m6 28 rfl) rfl
theorem q1350 : (Jvm.Cond.code ({ cls := "HornHouses", name := "then", desc := "(III)I" } : Jvm.MethodName) prog_1_method_32_code (4 : Nat) (Option.some Jvm.ClassFile.FieldType.int)) ∈ lw_all := lw_g (lw_at lw_m6 29 rfl) rfl
theorem q1351 : (Jvm.Cond.methodLink "HornHouses" (248 : Nat) ({ cls := "HornHouses", name := "later", desc := "(I)LHornHouses$Street;" } : Jvm.MethodName)) ∈ lw_all := lw_g (lw_at lw_m6 30 rfl) rfl
theorem q1352 : (Jvm.Cond.privateMethod ({ cls := "HornHouses", name := "later", desc := "(I)LHornHouses$Street;" } : Jvm.MethodName)) ∈ lw_tbl := lw_at lw_m6 31 rfl
theorem q1353 : (Jvm.Cond.instanceMethod ({ cls := "HornHouses", name := "later", desc := "(I)LHornHouses$Street;" } : Jvm.MethodName)) ∈ lw_all := lw_g (lw_at lw_m6 32 rfl) rfl
theorem q1354 : (Jvm.Cond.code ({ cls := "HornHouses", name := "later", desc := "(I)LHornHouses$Street;" } : Jvm.MethodName) prog_1_method_31_code (2 : Nat) (Option.some (Jvm.ClassFile.FieldType.object "HornHouses$Street"))) ∈ lw_all := lw_g (lw_at lw_m6 33 rfl) rfl
theorem q1355 : (Jvm.Cond.methodLink "HornHouses" (244 : Nat) ({ cls := "HornHouses$Street", name := "be", desc := "(LHornHouses$Street;)LHornHouses$Street;" } : Jvm.MethodName)) ∈ lw_all := lw_g (lw_at lw_m6 34 rfl) rfl
theorem q1360 : (Jvm.Cond.instanceMethod ({ cls := "HornHouses", name := "worn", desc := "(II)I" } : Jvm.MethodName)) ∈ lw_all := lw_g (lw_at lw_m6 39 rfl) rfl
theorem q1361 : (Jvm.Cond.selects "HornHouses" ({ cls := "HornHouses", name := "worn", desc := "(II)I" } : Jvm.MethodName) ({ cls := "HornHouses", name := "worn", desc := "(II)I" } : Jvm.MethodName)) ∈ lw_all := lw_g (lw_at lw_m6 40 rfl) rfl
theorem q1362 : (Jvm.Cond.code ({ cls := "HornHouses", name := "worn", desc := "(II)I" } : Jvm.MethodName) prog_1_method_33_code (3 : Nat) (Option.some Jvm.ClassFile.FieldType.int)) ∈ lw_all := lw_g (lw_at lw_m6 41 rfl) rfl
theorem q1367 : (Jvm.Cond.instanceMethod ({ cls := "HornHouses", name := "burst", desc := "(I)I" } : Jvm.MethodName)) ∈ lw_all := lw_g (lw_at lw_m6 46 rfl) rfl
theorem q1368 : (Jvm.Cond.selects "HornHouses" ({ cls := "HornHouses", name := "burst", desc := "(I)I" } : Jvm.MethodName) ({ cls := "HornHouses", name := "burst", desc := "(I)I" } : Jvm.MethodName)) ∈ lw_all := lw_g (lw_at lw_m6 47 rfl) rfl
theorem q1369 : (Jvm.Cond.code ({ cls := "HornHouses", name := "burst", desc := "(I)I" } : Jvm.MethodName) prog_1_method_35_code (2 : Nat) (Option.some Jvm.ClassFile.FieldType.int)) ∈ lw_all := lw_g (lw_at lw_m6 48 rfl) rfl
theorem q1370 : (Jvm.Cond.methodLink "HornHouses" (254 : Nat) ({ cls := "HornHouses", name := "burstIn", desc := "(I)I" } : Jvm.MethodName)) ∈ lw_all := lw_g (lw_at lw_m6 49 rfl) rfl
theorem q1371 : (Jvm.Cond.privateMethod ({ cls := "HornHouses", name := "burstIn", desc := "(I)I" } : Jvm.MethodName)) ∈ lw_tbl := lw_at lw_m6 50 rfl
theorem q1372 : (Jvm.Cond.instanceMethod ({ cls := "HornHouses", name := "burstIn", desc := "(I)I" } : Jvm.MethodName)) ∈ lw_all := lw_g (lw_at lw_m6 51 rfl) rfl
theorem q1373 : (Jvm.Cond.code ({ cls := "HornHouses", name := "burstIn", desc := "(I)I" } : Jvm.MethodName) prog_1_method_34_code (3 : Nat) (Option.some Jvm.ClassFile.FieldType.int)) ∈ lw_all := lw_g (lw_at lw_m6 52 rfl) rfl
theorem q1374 : (Jvm.Cond.methodLink "HornHouses" (251 : Nat) ({ cls := "HornHouses$Street", name := "pass", desc := "()LHornHouses$Street;" } : Jvm.MethodName)) ∈ lw_all := lw_g (lw_at lw_m6 53 rfl) rfl
theorem q1379 : (Jvm.Cond.instanceMethod ({ cls := "HornHouses", name := "wriggles", desc := "(I)I" } : Jvm.MethodName)) ∈ lw_all := lw_g (lw_at lw_m6 58 rfl) rfl
theorem q1380 : (Jvm.Cond.selects "HornHouses" ({ cls := "HornHouses", name := "wriggles", desc := "(I)I" } : Jvm.MethodName) ({ cls := "HornHouses", name := "wriggles", desc := "(I)I" } : Jvm.MethodName)) ∈ lw_all := lw_g (lw_at lw_m6 59 rfl) rfl
theorem q1381 : (Jvm.Cond.code ({ cls := "HornHouses", name := "wriggles", desc := "(I)I" } : Jvm.MethodName) prog_1_method_36_code (3 : Nat) (Option.some Jvm.ClassFile.FieldType.int)) ∈ lw_all := lw_g (lw_at lw_m6 60 rfl) rfl
theorem q1386 : (Jvm.Cond.instanceMethod ({ cls := "HornHouses", name := "barefoot", desc := "(I)I" } : Jvm.MethodName)) ∈ lw_all := lw_g (lw_at lw_m6 65 rfl) rfl
theorem q1387 : (Jvm.Cond.selects "HornHouses" ({ cls := "HornHouses", name := "barefoot", desc := "(I)I" } : Jvm.MethodName) ({ cls := "HornHouses", name := "barefoot", desc := "(I)I" } : Jvm.MethodName)) ∈ lw_all := lw_g (lw_at lw_m6 66 rfl) rfl
theorem q1388 : (Jvm.Cond.code ({ cls := "HornHouses", name := "barefoot", desc := "(I)I" } : Jvm.MethodName) prog_1_method_37_code (2 : Nat) (Option.some Jvm.ClassFile.FieldType.int)) ∈ lw_all := lw_g (lw_at lw_m6 67 rfl) rfl
theorem q1393 : (Jvm.Cond.instanceMethod ({ cls := "HornHouses", name := "last", desc := "(I)I" } : Jvm.MethodName)) ∈ lw_all := lw_g (lw_at lw_m6 72 rfl) rfl
theorem q1394 : (Jvm.Cond.selects "HornHouses" ({ cls := "HornHouses", name := "last", desc := "(I)I" } : Jvm.MethodName) ({ cls := "HornHouses", name := "last", desc := "(I)I" } : Jvm.MethodName)) ∈ lw_all := lw_g (lw_at lw_m6 73 rfl) rfl
theorem q1395 : (Jvm.Cond.code ({ cls := "HornHouses", name := "last", desc := "(I)I" } : Jvm.MethodName) prog_1_method_38_code (7 : Nat) (Option.some Jvm.ClassFile.FieldType.int)) ∈ lw_all := lw_g (lw_at lw_m6 74 rfl) rfl
theorem q1396 : (Jvm.Cond.constant "HornHouses" (257 : Nat) (100000 : Int32)) ∈ lw_all := lw_g (lw_at lw_m6 75 rfl) rfl
theorem q1401 : (Jvm.Cond.instanceMethod ({ cls := "HornHouses", name := "goes", desc := "(I)I" } : Jvm.MethodName)) ∈ lw_all := lw_g (lw_at lw_m6 80 rfl) rfl
theorem q1402 : (Jvm.Cond.selects "HornHouses" ({ cls := "HornHouses", name := "goes", desc := "(I)I" } : Jvm.MethodName) ({ cls := "HornHouses", name := "goes", desc := "(I)I" } : Jvm.MethodName)) ∈ lw_all := lw_g (lw_at lw_m6 81 rfl) rfl
theorem q1403 : (Jvm.Cond.code ({ cls := "HornHouses", name := "goes", desc := "(I)I" } : Jvm.MethodName) prog_1_method_39_code (4 : Nat) (Option.some Jvm.ClassFile.FieldType.int)) ∈ lw_all := lw_g (lw_at lw_m6 82 rfl) rfl
theorem q1408 : (Jvm.Cond.instanceMethod ({ cls := "HornHouses", name := "match", desc := "(I)I" } : Jvm.MethodName)) ∈ lw_all := lw_g (lw_at lw_m6 87 rfl) rfl
theorem q1409 : (Jvm.Cond.selects "HornHouses" ({ cls := "HornHouses", name := "match", desc := "(I)I" } : Jvm.MethodName) ({ cls := "HornHouses", name := "match", desc := "(I)I" } : Jvm.MethodName)) ∈ lw_all := lw_g (lw_at lw_m6 88 rfl) rfl
theorem q1410 : (Jvm.Cond.code ({ cls := "HornHouses", name := "match", desc := "(I)I" } : Jvm.MethodName) prog_1_method_44_code (3 : Nat) (Option.some Jvm.ClassFile.FieldType.int)) ∈ lw_all := lw_g (lw_at lw_m6 89 rfl) rfl
theorem q1415 : (Jvm.Cond.instanceMethod ({ cls := "HornHouses", name := "matched", desc := "(I)I" } : Jvm.MethodName)) ∈ lw_all := lw_g (lw_at lw_m6 94 rfl) rfl
theorem q1416 : (Jvm.Cond.selects "HornHouses" ({ cls := "HornHouses", name := "matched", desc := "(I)I" } : Jvm.MethodName) ({ cls := "HornHouses", name := "matched", desc := "(I)I" } : Jvm.MethodName)) ∈ lw_all := lw_g (lw_at lw_m6 95 rfl) rfl
theorem q1417 : (Jvm.Cond.code ({ cls := "HornHouses", name := "matched", desc := "(I)I" } : Jvm.MethodName) prog_1_method_45_code (7 : Nat) (Option.some Jvm.ClassFile.FieldType.int)) ∈ lw_all := lw_g (lw_at lw_m6 96 rfl) rfl
theorem q1422 : (Jvm.Cond.instanceMethod ({ cls := "HornHouses", name := "trade", desc := "(I)I" } : Jvm.MethodName)) ∈ lw_all := lw_g (lw_at lw_m6 101 rfl) rfl
theorem q1423 : (Jvm.Cond.selects "HornHouses" ({ cls := "HornHouses", name := "trade", desc := "(I)I" } : Jvm.MethodName) ({ cls := "HornHouses", name := "trade", desc := "(I)I" } : Jvm.MethodName)) ∈ lw_all := lw_g (lw_at lw_m6 102 rfl) rfl
theorem q1424 : (Jvm.Cond.code ({ cls := "HornHouses", name := "trade", desc := "(I)I" } : Jvm.MethodName) prog_1_method_50_code (2 : Nat) (Option.some Jvm.ClassFile.FieldType.int)) ∈ lw_all := lw_g (lw_at lw_m6 103 rfl) rfl
theorem q1425 : (Jvm.Cond.methodLink "HornHouses" (280 : Nat) ({ cls := "HornHouses", name := "leftFor", desc := "(I)I" } : Jvm.MethodName)) ∈ lw_all := lw_g (lw_at lw_m6 104 rfl) rfl
theorem q1426 : (Jvm.Cond.privateMethod ({ cls := "HornHouses", name := "leftFor", desc := "(I)I" } : Jvm.MethodName)) ∈ lw_tbl := lw_at lw_m6 105 rfl
theorem q1427 : (Jvm.Cond.instanceMethod ({ cls := "HornHouses", name := "leftFor", desc := "(I)I" } : Jvm.MethodName)) ∈ lw_all := lw_g (lw_at lw_m6 106 rfl) rfl
theorem q1428 : (Jvm.Cond.code ({ cls := "HornHouses", name := "leftFor", desc := "(I)I" } : Jvm.MethodName) prog_1_method_49_code (5 : Nat) (Option.some Jvm.ClassFile.FieldType.int)) ∈ lw_all := lw_g (lw_at lw_m6 107 rfl) rfl
theorem q1429 : (Jvm.Cond.methodLink "HornHouses" (277 : Nat) ({ cls := "HornHouses", name := "isInRing", desc := "(II)Z" } : Jvm.MethodName)) ∈ lw_all := lw_g (lw_at lw_m6 108 rfl) rfl
theorem q1430 : (Jvm.Cond.privateMethod ({ cls := "HornHouses", name := "isInRing", desc := "(II)Z" } : Jvm.MethodName)) ∈ lw_tbl := lw_at lw_m6 109 rfl
theorem q1431 : (Jvm.Cond.instanceMethod ({ cls := "HornHouses", name := "isInRing", desc := "(II)Z" } : Jvm.MethodName)) ∈ lw_all := lw_g (lw_at lw_m6 110 rfl) rfl
theorem q1432 : (Jvm.Cond.code ({ cls := "HornHouses", name := "isInRing", desc := "(II)Z" } : Jvm.MethodName) prog_1_method_48_code (5 : Nat) (Option.some Jvm.ClassFile.FieldType.boolean)) ∈ lw_all := lw_g (lw_at lw_m6 111 rfl) rfl
theorem q1433 : (Jvm.Cond.methodLink "HornHouses" (274 : Nat) ({ cls := "HornHouses", name := "wanted", desc := "(II)I" } : Jvm.MethodName)) ∈ lw_all := lw_g (lw_at lw_m6 112 rfl) rfl
theorem q1434 : (Jvm.Cond.privateMethod ({ cls := "HornHouses", name := "wanted", desc := "(II)I" } : Jvm.MethodName)) ∈ lw_tbl := lw_at lw_m6 113 rfl
theorem q1435 : (Jvm.Cond.instanceMethod ({ cls := "HornHouses", name := "wanted", desc := "(II)I" } : Jvm.MethodName)) ∈ lw_all := lw_g (lw_at lw_m6 114 rfl) rfl
theorem q1436 : (Jvm.Cond.code ({ cls := "HornHouses", name := "wanted", desc := "(II)I" } : Jvm.MethodName) prog_1_method_47_code (7 : Nat) (Option.some Jvm.ClassFile.FieldType.int)) ∈ lw_all := lw_g (lw_at lw_m6 115 rfl) rfl
theorem q1441 : (Jvm.Cond.instanceMethod ({ cls := "HornHouses", name := "toStuff", desc := "(II)I" } : Jvm.MethodName)) ∈ lw_all := lw_g (lw_at lw_m6 120 rfl) rfl
theorem q1442 : (Jvm.Cond.selects "HornHouses" ({ cls := "HornHouses", name := "toStuff", desc := "(II)I" } : Jvm.MethodName) ({ cls := "HornHouses", name := "toStuff", desc := "(II)I" } : Jvm.MethodName)) ∈ lw_all := lw_g (lw_at lw_m6 121 rfl) rfl
theorem q1443 : (Jvm.Cond.code ({ cls := "HornHouses", name := "toStuff", desc := "(II)I" } : Jvm.MethodName) prog_1_method_52_code (4 : Nat) (Option.some Jvm.ClassFile.FieldType.int)) ∈ lw_all := lw_g (lw_at lw_m6 122 rfl) rfl
theorem q1448 : (Jvm.Cond.instanceMethod ({ cls := "HornHouses", name := "toWait", desc := "(II)I" } : Jvm.MethodName)) ∈ lw_all := lw_g (lw_at lw_m6 127 rfl) rfl
theorem q1449 : (Jvm.Cond.selects "HornHouses" ({ cls := "HornHouses", name := "toWait", desc := "(II)I" } : Jvm.MethodName) ({ cls := "HornHouses", name := "toWait", desc := "(II)I" } : Jvm.MethodName)) ∈ lw_all := lw_g (lw_at lw_m6 128 rfl) rfl
theorem q1450 : (Jvm.Cond.code ({ cls := "HornHouses", name := "toWait", desc := "(II)I" } : Jvm.MethodName) prog_1_method_53_code (4 : Nat) (Option.some Jvm.ClassFile.FieldType.int)) ∈ lw_all := lw_g (lw_at lw_m6 129 rfl) rfl
theorem q1455 : (Jvm.Cond.instanceMethod ({ cls := "HornHouses", name := "round", desc := "(I)I" } : Jvm.MethodName)) ∈ lw_all := lw_g (lw_at lw_m6 134 rfl) rfl
theorem q1456 : (Jvm.Cond.selects "HornHouses" ({ cls := "HornHouses", name := "round", desc := "(I)I" } : Jvm.MethodName) ({ cls := "HornHouses", name := "round", desc := "(I)I" } : Jvm.MethodName)) ∈ lw_all := lw_g (lw_at lw_m6 135 rfl) rfl
theorem q1457 : (Jvm.Cond.code ({ cls := "HornHouses", name := "round", desc := "(I)I" } : Jvm.MethodName) prog_1_method_55_code (5 : Nat) (Option.some Jvm.ClassFile.FieldType.int)) ∈ lw_all := lw_g (lw_at lw_m6 136 rfl) rfl
theorem q1462 : (Jvm.Cond.instanceMethod ({ cls := "HornHouses", name := "see", desc := "(III)I" } : Jvm.MethodName)) ∈ lw_all := lw_g (lw_at lw_m6 141 rfl) rfl
theorem q1463 : (Jvm.Cond.selects "HornHouses" ({ cls := "HornHouses", name := "see", desc := "(III)I" } : Jvm.MethodName) ({ cls := "HornHouses", name := "see", desc := "(III)I" } : Jvm.MethodName)) ∈ lw_all := lw_g (lw_at lw_m6 142 rfl) rfl
theorem q1464 : (Jvm.Cond.code ({ cls := "HornHouses", name := "see", desc := "(III)I" } : Jvm.MethodName) prog_1_method_56_code (4 : Nat) (Option.some Jvm.ClassFile.FieldType.int)) ∈ lw_all := lw_g (lw_at lw_m6 143 rfl) rfl
theorem q1469 : (Jvm.Cond.instanceMethod ({ cls := "HornHouses", name := "large", desc := "(I)I" } : Jvm.MethodName)) ∈ lw_all := lw_g (lw_at lw_m6 148 rfl) rfl
theorem q1470 : (Jvm.Cond.selects "HornHouses" ({ cls := "HornHouses", name := "large", desc := "(I)I" } : Jvm.MethodName) ({ cls := "HornHouses", name := "large", desc := "(I)I" } : Jvm.MethodName)) ∈ lw_all := lw_g (lw_at lw_m6 149 rfl) rfl
theorem q1471 : (Jvm.Cond.code ({ cls := "HornHouses", name := "large", desc := "(I)I" } : Jvm.MethodName) prog_1_method_60_code (3 : Nat) (Option.some Jvm.ClassFile.FieldType.int)) ∈ lw_all := lw_g (lw_at lw_m6 150 rfl) rfl
theorem q1472 : (Jvm.Cond.methodLink "HornHouses" (284 : Nat) ({ cls := "HornHouses", name := "isSo", desc := "()Z" } : Jvm.MethodName)) ∈ lw_all := lw_g (lw_at lw_m6 151 rfl) rfl
theorem q1473 : (Jvm.Cond.privateMethod ({ cls := "HornHouses", name := "isSo", desc := "()Z" } : Jvm.MethodName)) ∈ lw_tbl := lw_at lw_m6 152 rfl
theorem q1474 : (Jvm.Cond.instanceMethod ({ cls := "HornHouses", name := "isSo", desc := "()Z" } : Jvm.MethodName)) ∈ lw_all := lw_g (lw_at lw_m6 153 rfl) rfl
theorem q1475 : (Jvm.Cond.code ({ cls := "HornHouses", name := "isSo", desc := "()Z" } : Jvm.MethodName) prog_1_method_58_code (5 : Nat) (Option.some Jvm.ClassFile.FieldType.boolean)) ∈ lw_all := lw_g (lw_at lw_m6 154 rfl) rfl
theorem q1476 : (Jvm.Cond.classLink "HornHouses" (283 : Nat) "[I") ∈ lw_all := lw_g (lw_at lw_m6 155 rfl) rfl
theorem q1477 : (Jvm.Cond.methodLink "HornHouses" (291 : Nat) ({ cls := "HornHouses", name := "others", desc := "()Ljava/util/List;" } : Jvm.MethodName)) ∈ lw_all := lw_g (lw_at lw_m6 156 rfl) rfl
theorem q1478 : (Jvm.Cond.privateMethod ({ cls := "HornHouses", name := "others", desc := "()Ljava/util/List;" } : Jvm.MethodName)) ∈ lw_tbl := lw_at lw_m6 157 rfl
theorem q1479 : (Jvm.Cond.instanceMethod ({ cls := "HornHouses", name := "others", desc := "()Ljava/util/List;" } : Jvm.MethodName)) ∈ lw_all := lw_g (lw_at lw_m6 158 rfl) rfl
theorem q1480 : (Jvm.Cond.code ({ cls := "HornHouses", name := "others", desc := "()Ljava/util/List;" } : Jvm.MethodName) prog_1_method_59_code (4 : Nat) (Option.some (Jvm.ClassFile.FieldType.object "java/util/List"))) ∈ lw_all := lw_g (lw_at lw_m6 159 rfl) rfl
theorem q1481 : (Jvm.Cond.methodLink "HornHouses" (287 : Nat) ({ cls := "java/lang/Integer", name := "valueOf", desc := "(I)Ljava/lang/Integer;" } : Jvm.MethodName)) ∈ lw_all := lw_g (lw_at lw_m6 160 rfl) rfl
theorem q1486 : (Jvm.Cond.instanceMethod ({ cls := "HornHouses", name := "next", desc := "(I)I" } : Jvm.MethodName)) ∈ lw_all := lw_g (lw_at lw_m6 165 rfl) rfl
theorem q1487 : (Jvm.Cond.selects "HornHouses" ({ cls := "HornHouses", name := "next", desc := "(I)I" } : Jvm.MethodName) ({ cls := "HornHouses", name := "next", desc := "(I)I" } : Jvm.MethodName)) ∈ lw_all := lw_g (lw_at lw_m6 166 rfl) rfl
theorem q1488 : (Jvm.Cond.code ({ cls := "HornHouses", name := "next", desc := "(I)I" } : Jvm.MethodName) prog_1_method_61_code (11 : Nat) (Option.some Jvm.ClassFile.FieldType.int)) ∈ lw_all := lw_g (lw_at lw_m6 167 rfl) rfl
theorem q1493 : (Jvm.Cond.instanceMethod ({ cls := "HornHouses", name := "byDamp", desc := "(III)I" } : Jvm.MethodName)) ∈ lw_all := lw_g (lw_at lw_m6 172 rfl) rfl
theorem q1494 : (Jvm.Cond.selects "HornHouses" ({ cls := "HornHouses", name := "byDamp", desc := "(III)I" } : Jvm.MethodName) ({ cls := "HornHouses", name := "byDamp", desc := "(III)I" } : Jvm.MethodName)) ∈ lw_all := lw_g (lw_at lw_m6 173 rfl) rfl
theorem q1495 : (Jvm.Cond.code ({ cls := "HornHouses", name := "byDamp", desc := "(III)I" } : Jvm.MethodName) prog_1_method_62_code (8 : Nat) (Option.some Jvm.ClassFile.FieldType.int)) ∈ lw_all := lw_g (lw_at lw_m6 174 rfl) rfl
theorem q1500 : (Jvm.Cond.instanceMethod ({ cls := "HornHouses", name := "game", desc := "(IIII)I" } : Jvm.MethodName)) ∈ lw_all := lw_g (lw_at lw_m6 179 rfl) rfl
theorem q1501 : (Jvm.Cond.selects "HornHouses" ({ cls := "HornHouses", name := "game", desc := "(IIII)I" } : Jvm.MethodName) ({ cls := "HornHouses", name := "game", desc := "(IIII)I" } : Jvm.MethodName)) ∈ lw_all := lw_g (lw_at lw_m6 180 rfl) rfl
theorem q1502 : (Jvm.Cond.code ({ cls := "HornHouses", name := "game", desc := "(IIII)I" } : Jvm.MethodName) prog_1_method_65_code (9 : Nat) (Option.some Jvm.ClassFile.FieldType.int)) ∈ lw_all := lw_g (lw_at lw_m6 181 rfl) rfl
theorem q1503 : (Jvm.Cond.methodLink "HornHouses" (300 : Nat) ({ cls := "HornHouses", name := "gain", desc := "(IIIII)I" } : Jvm.MethodName)) ∈ lw_all := lw_g (lw_at lw_m6 182 rfl) rfl
theorem q1504 : (Jvm.Cond.privateMethod ({ cls := "HornHouses", name := "gain", desc := "(IIIII)I" } : Jvm.MethodName)) ∈ lw_tbl := lw_at lw_m6 183 rfl
theorem q1505 : (Jvm.Cond.instanceMethod ({ cls := "HornHouses", name := "gain", desc := "(IIIII)I" } : Jvm.MethodName)) ∈ lw_all := lw_g (lw_at lw_m6 184 rfl) rfl
theorem q1506 : (Jvm.Cond.code ({ cls := "HornHouses", name := "gain", desc := "(IIIII)I" } : Jvm.MethodName) prog_1_method_64_code (9 : Nat) (Option.some Jvm.ClassFile.FieldType.int)) ∈ lw_all := lw_g (lw_at lw_m6 185 rfl) rfl
theorem q1507 : (Jvm.Cond.methodLink "HornHouses" (297 : Nat) ({ cls := "HornHouses", name := "alone", desc := "(II)I" } : Jvm.MethodName)) ∈ lw_all := lw_g (lw_at lw_m6 186 rfl) rfl
theorem q1508 : (Jvm.Cond.privateMethod ({ cls := "HornHouses", name := "alone", desc := "(II)I" } : Jvm.MethodName)) ∈ lw_tbl := lw_at lw_m6 187 rfl
theorem q1509 : (Jvm.Cond.instanceMethod ({ cls := "HornHouses", name := "alone", desc := "(II)I" } : Jvm.MethodName)) ∈ lw_all := lw_g (lw_at lw_m6 188 rfl) rfl
theorem q1510 : (Jvm.Cond.code ({ cls := "HornHouses", name := "alone", desc := "(II)I" } : Jvm.MethodName) prog_1_method_63_code (3 : Nat) (Option.some Jvm.ClassFile.FieldType.int)) ∈ lw_all := lw_g (lw_at lw_m6 189 rfl) rfl
theorem q1515 : (Jvm.Cond.instanceMethod ({ cls := "HornHouses", name := "years", desc := "(III)I" } : Jvm.MethodName)) ∈ lw_all := lw_g (lw_at lw_m6 194 rfl) rfl
theorem q1516 : (Jvm.Cond.selects "HornHouses" ({ cls := "HornHouses", name := "years", desc := "(III)I" } : Jvm.MethodName) ({ cls := "HornHouses", name := "years", desc := "(III)I" } : Jvm.MethodName)) ∈ lw_all := lw_g (lw_at lw_m6 195 rfl) rfl
theorem q1517 : (Jvm.Cond.code ({ cls := "HornHouses", name := "years", desc := "(III)I" } : Jvm.MethodName) prog_1_method_68_code (5 : Nat) (Option.some Jvm.ClassFile.FieldType.int)) ∈ lw_all := lw_g (lw_at lw_m6 196 rfl) rfl
theorem q1518 : (Jvm.Cond.methodLink "HornHouses" (311 : Nat) ({ cls := "HornHouses", name := "befalls", desc := "()V" } : Jvm.MethodName)) ∈ lw_all := lw_g (lw_at lw_m6 197 rfl) rfl
theorem q1519 : (Jvm.Cond.privateMethod ({ cls := "HornHouses", name := "befalls", desc := "()V" } : Jvm.MethodName)) ∈ lw_tbl := lw_at lw_m6 198 rfl
theorem q1520 : (Jvm.Cond.instanceMethod ({ cls := "HornHouses", name := "befalls", desc := "()V" } : Jvm.MethodName)) ∈ lw_all := lw_g (lw_at lw_m6 199 rfl) rfl
theorem q1521 : (Jvm.Cond.code ({ cls := "HornHouses", name := "befalls", desc := "()V" } : Jvm.MethodName) prog_1_method_67_code (3 : Nat) (Option.none : Option Jvm.ClassFile.FieldType)) ∈ lw_all := lw_g (lw_at lw_m6 200 rfl) rfl
theorem q1522 : (Jvm.Cond.methodLink "HornHouses" (308 : Nat) ({ cls := "HornHouses", name := "draw", desc := "(I)I" } : Jvm.MethodName)) ∈ lw_all := lw_g (lw_at lw_m6 201 rfl) rfl
theorem q1523 : (Jvm.Cond.privateMethod ({ cls := "HornHouses", name := "draw", desc := "(I)I" } : Jvm.MethodName)) ∈ lw_tbl := lw_at lw_m6 202 rfl
theorem q1524 : (Jvm.Cond.instanceMethod ({ cls := "HornHouses", name := "draw", desc := "(I)I" } : Jvm.MethodName)) ∈ lw_all := lw_g (lw_at lw_m6 203 rfl) rfl
theorem q1525 : (Jvm.Cond.code ({ cls := "HornHouses", name := "draw", desc := "(I)I" } : Jvm.MethodName) prog_1_method_66_code (2 : Nat) (Option.some Jvm.ClassFile.FieldType.int)) ∈ lw_all := lw_g (lw_at lw_m6 204 rfl) rfl
theorem q1526 : (Jvm.Cond.constant "HornHouses" (307 : Nat) (1103515245 : Int32)) ∈ lw_all := lw_g (lw_at lw_m6 205 rfl) rfl
theorem q1527 : (Jvm.Cond.methodLink "HornHouses" (314 : Nat) ({ cls := "java/lang/Integer", name := "bitCount", desc := "(I)I" } : Jvm.MethodName)) ∈ lw_all := lw_g (lw_at lw_m6 206 rfl) rfl
theorem q1537 : (Jvm.Cond.instanceMethod ({ cls := "HornHouses", name := "heirs", desc := "(I)I" } : Jvm.MethodName)) ∈ lw_all := lw_g (lw_at lw_m6 216 rfl) rfl
theorem q1538 : (Jvm.Cond.selects "HornHouses" ({ cls := "HornHouses", name := "heirs", desc := "(I)I" } : Jvm.MethodName) ({ cls := "HornHouses", name := "heirs", desc := "(I)I" } : Jvm.MethodName)) ∈ lw_all := lw_g (lw_at lw_m6 217 rfl) rfl
theorem q1539 : (Jvm.Cond.code ({ cls := "HornHouses", name := "heirs", desc := "(I)I" } : Jvm.MethodName) prog_1_method_40_code (4 : Nat) (Option.some Jvm.ClassFile.FieldType.int)) ∈ lw_all := lw_g (lw_at lw_m6 218 rfl) rfl
theorem q1544 : (Jvm.Cond.instanceMethod ({ cls := "HornHouses", name := "toGrow", desc := "(II)I" } : Jvm.MethodName)) ∈ lw_all := lw_g (lw_at lw_m6 223 rfl) rfl
theorem q1545 : (Jvm.Cond.selects "HornHouses" ({ cls := "HornHouses", name := "toGrow", desc := "(II)I" } : Jvm.MethodName) ({ cls := "HornHouses", name := "toGrow", desc := "(II)I" } : Jvm.MethodName)) ∈ lw_all := lw_g (lw_at lw_m6 224 rfl) rfl
theorem q1546 : (Jvm.Cond.code ({ cls := "HornHouses", name := "toGrow", desc := "(II)I" } : Jvm.MethodName) prog_1_method_54_code (4 : Nat) (Option.some Jvm.ClassFile.FieldType.int)) ∈ lw_all := lw_g (lw_at lw_m6 225 rfl) rfl
theorem q1551 : (Jvm.Cond.instanceMethod ({ cls := "HornHouses", name := "paid", desc := "(I)I" } : Jvm.MethodName)) ∈ lw_all := lw_g (lw_at lw_m6 230 rfl) rfl
theorem q1552 : (Jvm.Cond.selects "HornHouses" ({ cls := "HornHouses", name := "paid", desc := "(I)I" } : Jvm.MethodName) ({ cls := "HornHouses", name := "paid", desc := "(I)I" } : Jvm.MethodName)) ∈ lw_all := lw_g (lw_at lw_m6 231 rfl) rfl
theorem q1553 : (Jvm.Cond.code ({ cls := "HornHouses", name := "paid", desc := "(I)I" } : Jvm.MethodName) prog_1_method_69_code (2 : Nat) (Option.some Jvm.ClassFile.FieldType.int)) ∈ lw_all := lw_g (lw_at lw_m6 232 rfl) rfl
theorem q1558 : (Jvm.Cond.instanceMethod ({ cls := "HornHouses", name := "wornest", desc := "(I)I" } : Jvm.MethodName)) ∈ lw_all := lw_g (lw_at lw_m6 237 rfl) rfl
theorem q1559 : (Jvm.Cond.selects "HornHouses" ({ cls := "HornHouses", name := "wornest", desc := "(I)I" } : Jvm.MethodName) ({ cls := "HornHouses", name := "wornest", desc := "(I)I" } : Jvm.MethodName)) ∈ lw_all := lw_g (lw_at lw_m6 238 rfl) rfl
theorem q1560 : (Jvm.Cond.code ({ cls := "HornHouses", name := "wornest", desc := "(I)I" } : Jvm.MethodName) prog_1_method_70_code (4 : Nat) (Option.some Jvm.ClassFile.FieldType.int)) ∈ lw_all := lw_g (lw_at lw_m6 239 rfl) rfl
theorem q1565 : (Jvm.Cond.instanceMethod ({ cls := "HornHouses", name := "dampest", desc := "(I)I" } : Jvm.MethodName)) ∈ lw_all := lw_g (lw_at lw_m7 4 rfl) rfl
theorem q1566 : (Jvm.Cond.selects "HornHouses" ({ cls := "HornHouses", name := "dampest", desc := "(I)I" } : Jvm.MethodName) ({ cls := "HornHouses", name := "dampest", desc := "(I)I" } : Jvm.MethodName)) ∈ lw_all := lw_g (lw_at lw_m7 5 rfl) rfl
theorem q1567 : (Jvm.Cond.code ({ cls := "HornHouses", name := "dampest", desc := "(I)I" } : Jvm.MethodName) prog_1_method_71_code (5 : Nat) (Option.some Jvm.ClassFile.FieldType.int)) ∈ lw_all := lw_g (lw_at lw_m7 6 rfl) rfl
theorem q1572 : (Jvm.Cond.instanceMethod ({ cls := "HornHouses", name := "kept", desc := "(I)I" } : Jvm.MethodName)) ∈ lw_all := lw_g (lw_at lw_m7 11 rfl) rfl
theorem q1573 : (Jvm.Cond.selects "HornHouses" ({ cls := "HornHouses", name := "kept", desc := "(I)I" } : Jvm.MethodName) ({ cls := "HornHouses", name := "kept", desc := "(I)I" } : Jvm.MethodName)) ∈ lw_all := lw_g (lw_at lw_m7 12 rfl) rfl
theorem q1574 : (Jvm.Cond.code ({ cls := "HornHouses", name := "kept", desc := "(I)I" } : Jvm.MethodName) prog_1_method_72_code (4 : Nat) (Option.some Jvm.ClassFile.FieldType.int)) ∈ lw_all := lw_g (lw_at lw_m7 13 rfl) rfl
theorem q1579 : (Jvm.Cond.instanceMethod ({ cls := "HornHouses", name := "sorest", desc := "(I)I" } : Jvm.MethodName)) ∈ lw_all := lw_g (lw_at lw_m7 18 rfl) rfl
theorem q1580 : (Jvm.Cond.selects "HornHouses" ({ cls := "HornHouses", name := "sorest", desc := "(I)I" } : Jvm.MethodName) ({ cls := "HornHouses", name := "sorest", desc := "(I)I" } : Jvm.MethodName)) ∈ lw_all := lw_g (lw_at lw_m7 19 rfl) rfl
theorem q1581 : (Jvm.Cond.code ({ cls := "HornHouses", name := "sorest", desc := "(I)I" } : Jvm.MethodName) prog_1_method_73_code (4 : Nat) (Option.some Jvm.ClassFile.FieldType.int)) ∈ lw_all := lw_g (lw_at lw_m7 20 rfl) rfl
theorem q1586 : (Jvm.Cond.instanceMethod ({ cls := "HornHouses", name := "eased", desc := "(III)I" } : Jvm.MethodName)) ∈ lw_all := lw_g (lw_at lw_m7 25 rfl) rfl
theorem q1587 : (Jvm.Cond.selects "HornHouses" ({ cls := "HornHouses", name := "eased", desc := "(III)I" } : Jvm.MethodName) ({ cls := "HornHouses", name := "eased", desc := "(III)I" } : Jvm.MethodName)) ∈ lw_all := lw_g (lw_at lw_m7 26 rfl) rfl
theorem q1588 : (Jvm.Cond.code ({ cls := "HornHouses", name := "eased", desc := "(III)I" } : Jvm.MethodName) prog_1_method_74_code (8 : Nat) (Option.some Jvm.ClassFile.FieldType.int)) ∈ lw_all := lw_g (lw_at lw_m7 27 rfl) rfl
theorem q1593 : (Jvm.Cond.instanceMethod ({ cls := "HornHouses", name := "free", desc := "(I)I" } : Jvm.MethodName)) ∈ lw_all := lw_g (lw_at lw_m7 32 rfl) rfl
theorem q1594 : (Jvm.Cond.selects "HornHouses" ({ cls := "HornHouses", name := "free", desc := "(I)I" } : Jvm.MethodName) ({ cls := "HornHouses", name := "free", desc := "(I)I" } : Jvm.MethodName)) ∈ lw_all := lw_g (lw_at lw_m7 33 rfl) rfl
theorem q1595 : (Jvm.Cond.code ({ cls := "HornHouses", name := "free", desc := "(I)I" } : Jvm.MethodName) prog_1_method_75_code (4 : Nat) (Option.some Jvm.ClassFile.FieldType.int)) ∈ lw_all := lw_g (lw_at lw_m7 34 rfl) rfl
theorem q1600 : (Jvm.Cond.instanceMethod ({ cls := "HornHouses", name := "larger", desc := "(I)I" } : Jvm.MethodName)) ∈ lw_all := lw_g (lw_at lw_m7 39 rfl) rfl
theorem q1601 : (Jvm.Cond.selects "HornHouses" ({ cls := "HornHouses", name := "larger", desc := "(I)I" } : Jvm.MethodName) ({ cls := "HornHouses", name := "larger", desc := "(I)I" } : Jvm.MethodName)) ∈ lw_all := lw_g (lw_at lw_m7 40 rfl) rfl
theorem q1602 : (Jvm.Cond.code ({ cls := "HornHouses", name := "larger", desc := "(I)I" } : Jvm.MethodName) prog_1_method_76_code (4 : Nat) (Option.some Jvm.ClassFile.FieldType.int)) ∈ lw_all := lw_g (lw_at lw_m7 41 rfl) rfl
theorem q1607 : (Jvm.Cond.instanceMethod ({ cls := "HornHouses", name := "wide", desc := "(I)I" } : Jvm.MethodName)) ∈ lw_all := lw_g (lw_at lw_m7 46 rfl) rfl
theorem q1608 : (Jvm.Cond.selects "HornHouses" ({ cls := "HornHouses", name := "wide", desc := "(I)I" } : Jvm.MethodName) ({ cls := "HornHouses", name := "wide", desc := "(I)I" } : Jvm.MethodName)) ∈ lw_all := lw_g (lw_at lw_m7 47 rfl) rfl
theorem q1609 : (Jvm.Cond.code ({ cls := "HornHouses", name := "wide", desc := "(I)I" } : Jvm.MethodName) prog_1_method_77_code (4 : Nat) (Option.some Jvm.ClassFile.FieldType.int)) ∈ lw_all := lw_g (lw_at lw_m7 48 rfl) rfl
theorem q1614 : (Jvm.Cond.instanceMethod ({ cls := "HornHouses", name := "endures", desc := "(II)I" } : Jvm.MethodName)) ∈ lw_all := lw_g (lw_at lw_m7 53 rfl) rfl
theorem q1615 : (Jvm.Cond.selects "HornHouses" ({ cls := "HornHouses", name := "endures", desc := "(II)I" } : Jvm.MethodName) ({ cls := "HornHouses", name := "endures", desc := "(II)I" } : Jvm.MethodName)) ∈ lw_all := lw_g (lw_at lw_m7 54 rfl) rfl
theorem q1616 : (Jvm.Cond.code ({ cls := "HornHouses", name := "endures", desc := "(II)I" } : Jvm.MethodName) prog_1_method_78_code (5 : Nat) (Option.some Jvm.ClassFile.FieldType.int)) ∈ lw_all := lw_g (lw_at lw_m7 55 rfl) rfl
theorem q1621 : (Jvm.Cond.instanceMethod ({ cls := "HornHouses", name := "ringed", desc := "(I)I" } : Jvm.MethodName)) ∈ lw_all := lw_g (lw_at lw_m7 60 rfl) rfl
theorem q1622 : (Jvm.Cond.selects "HornHouses" ({ cls := "HornHouses", name := "ringed", desc := "(I)I" } : Jvm.MethodName) ({ cls := "HornHouses", name := "ringed", desc := "(I)I" } : Jvm.MethodName)) ∈ lw_all := lw_g (lw_at lw_m7 61 rfl) rfl
theorem q1623 : (Jvm.Cond.code ({ cls := "HornHouses", name := "ringed", desc := "(I)I" } : Jvm.MethodName) prog_1_method_51_code (5 : Nat) (Option.some Jvm.ClassFile.FieldType.int)) ∈ lw_all := lw_g (lw_at lw_m7 62 rfl) rfl
theorem q2326 : (Jvm.Cond.castable "HornHouses" "java/lang/Object") ∈ lw_tbl := lw_at lw_m10 45 rfl
theorem in_X1 : ∀ w ∈ wsX10, w ∈ lw_all := lw_in wsX10 [294, 296, 298, 300, 302, 304, 306, 308, 310, 312, 314, 316, 318, 320] (by decide +kernel) (by decide +kernel)
