/-! HornHousesModel -/
set_option maxRecDepth 100000
def RX4 : String := "HornHousesModel"
def TX4 : u_T := fun k => match k with
  | 0 => ("HornHousesModel", "thrown", "I", false)
  | 1 => ("HornHousesModel", "houses", "I", false)
  | 2 => ("HornHousesModel", "people", "I", false)
  | 3 => ("HornHousesModel", "numbers", "I", false)
  | 4 => ("HornHousesModel", "easesAt", "I", false)
  | 5 => ("HornHousesModel", "burstsAt", "I", false)
  | 6 => ("HornHousesModel", "give", "[I", true)
  | 7 => ("HornHousesModel", "street", "[I", true)
  | 8 => ("HornHousesModel", "grows", "[I", true)
  | 9 => ("HornHousesModel", "damps", "[I", true)
  | 10 => ("HornHousesModel", "code", "[I", true)
  | 11 => ("HornHousesModel", "tape", "[I", true)
  | 12 => ("HornHousesModel", "taped", "I", false)
  | 13 => ("HornHousesModel", "faultKind", "I", false)
  | 14 => ("HornHousesModel", "faultPlace", "I", false)
  | 15 => ("HornHousesModel", "refused", "[I", true)
  | 16 => ("HornHousesModel", "long1", "I", false)
  | 17 => ("HornHousesModel", "next0", "I", false)
  | 18 => ("HornHousesModel", "sort", "I", false)
  | 19 => ("HornHousesModel", "place", "I", false)
  | 20 => ("HornHousesModel", "long0", "I", false)
  | 21 => ("HornHousesModel", "value", "I", false)
  | 22 => ("HornHousesModel", "sign", "I", false)
  | 23 => ("HornHousesModel", "word", "J", false)
  | 24 => ("HornHousesModel", "newHouses", "I", false)
  | 25 => ("HornHousesModel", "newPeople", "I", false)
  | 26 => ("HornHousesModel", "newNumbers", "I", false)
  | 27 => ("HornHousesModel", "newEasesAt", "I", false)
  | 28 => ("HornHousesModel", "newBurstsAt", "I", false)
  | 29 => ("HornHousesModel", "top", "I", false)
  | 30 => ("HornHousesModel", "lastValue", "I", false)
  | 31 => ("HornHousesModel", "waiting", "I", false)
  | 32 => ("HornHousesModel", "depth", "I", false)
  | 33 => ("HornHousesModel", "newGive", "[I", true)
  | 34 => ("HornHousesModel", "newStreet", "[I", true)
  | 35 => ("HornHousesModel", "newGrows", "[I", true)
  | 36 => ("HornHousesModel", "newDamps", "[I", true)
  | 37 => ("HornHousesModel", "newRow", "[I", true)
  | 38 => ("HornHousesModel", "readCode", "[I", true)
  | 39 => ("HornHousesModel", "waits", "[I", true)
  | 40 => ("HornHousesModel", "tested", "[Z", true)
  | 41 => ("HornHousesModel", "rows", "[I", true)
  | 42 => ("HornHousesModel", "ahead", "[I", true)
  | 43 => ("HornHousesModel", "acts", "I", false)
  | 44 => ("HornHousesModel", "told", "[I", true)
  | 45 => ("HornHousesModel", "pile", "[I", true)
  | 46 => ("HornHousesModel", "otherDamp", "I", false)
  | 47 => ("HornHousesModel", "least", "[I", true)
  | 48 => ("HornHousesModel", "wants", "[I", true)
  | 49 => ("HornHousesModel", "traded", "[I", true)
  | 50 => ("HornHousesModel", "rings", "[I", true)
  | 51 => ("HornHousesModel", "seenMany", "I", false)
  | 52 => ("HornHousesModel", "seen", "[I", true)
  | 53 => ("HornHousesModel", "soon", "[I", true)
  | 54 => ("HornHousesModel", "soonAll", "[I", true)
  | 55 => ("HornHousesModel", "its0", "I", false)
  | 56 => ("HornHousesModel", "hasImage", "Z", false)
  | 57 => ("HornHousesModel", "imageActs", "I", false)
  | 58 => ("HornHousesModel", "imageSeen", "I", false)
  | 59 => ("HornHousesModel", "imageRow", "[I", true)
  | 60 => ("HornHousesModel", "imageAhead", "[I", true)
  | _ => ("HornHousesModel", "imageSees", "[I", true)
def tyX4 : Nat → FieldType := fun k => match k with
  | 0 => .int
  | 1 => .int
  | 2 => .int
  | 3 => .int
  | 4 => .int
  | 5 => .int
  | 6 => .array .int
  | 7 => .array .int
  | 8 => .array .int
  | 9 => .array .int
  | 10 => .array .int
  | 11 => .array .int
  | 12 => .int
  | 13 => .int
  | 14 => .int
  | 15 => .array .int
  | 16 => .int
  | 17 => .int
  | 18 => .int
  | 19 => .int
  | 20 => .int
  | 21 => .int
  | 22 => .int
  | 23 => .long
  | 24 => .int
  | 25 => .int
  | 26 => .int
  | 27 => .int
  | 28 => .int
  | 29 => .int
  | 30 => .int
  | 31 => .int
  | 32 => .int
  | 33 => .array .int
  | 34 => .array .int
  | 35 => .array .int
  | 36 => .array .int
  | 37 => .array .int
  | 38 => .array .int
  | 39 => .array .int
  | 40 => .array .boolean
  | 41 => .array .int
  | 42 => .array .int
  | 43 => .int
  | 44 => .array .int
  | 45 => .array .int
  | 46 => .int
  | 47 => .array .int
  | 48 => .array .int
  | 49 => .array .int
  | 50 => .array .int
  | 51 => .int
  | 52 => .array .int
  | 53 => .array .int
  | 54 => .array .int
  | 55 => .int
  | 56 => .boolean
  | 57 => .int
  | 58 => .int
  | 59 => .array .int
  | 60 => .array .int
  | _ => .array .int
abbrev wsX40 : List Cond := u_ws RX4 TX4 62
set_option maxRecDepth 100000 in
theorem nmX4 : ∀ a, a < 62 → ∀ b, b < 62 → a ≠ b → (TX4 a).2.1 ≠ (TX4 b).2.1 := by decide +kernel
set_option maxRecDepth 100000 in
theorem tyX4_ok : ∀ k, k < 62 → parseFieldDescriptor (TX4 k).2.2.1 = some (tyX4 k) := by decide +kernel
abbrev cX4_init : ByteArray := prog_12_method_1_code
def yX4_init : MethodName := ⟨RX4, "<init>", "()V"⟩
def dkwX4_init_11 : List UInt8 := [181, 0, 105, 42, 16, 24, 188, 10, 181, 0, 108, 177]
abbrev dktX4_init_11 : List UInt8 := dkwX4_init_11 ++ []
def dkwX4_init_10 : List UInt8 := [17, 15, 0, 188, 10, 181, 0, 99, 42, 16, 43, 188, 10, 181, 0, 102, 42, 17, 6, 184, 188, 10]
abbrev dktX4_init_10 : List UInt8 := dkwX4_init_10 ++ dktX4_init_11
def dkwX4_init_9 : List UInt8 := [188, 10, 181, 0, 90, 42, 16, 24, 188, 10, 181, 0, 93, 42, 16, 8, 188, 10, 181, 0, 96, 42]
abbrev dktX4_init_9 : List UInt8 := dkwX4_init_9 ++ dktX4_init_10
def dkwX4_init_8 : List UInt8 := [188, 10, 181, 0, 81, 42, 16, 8, 188, 10, 181, 0, 84, 42, 16, 8, 188, 10, 181, 0, 87, 42, 16, 8]
abbrev dktX4_init_8 : List UInt8 := dkwX4_init_8 ++ dktX4_init_9
def dkwX4_init_7 : List UInt8 := [188, 10, 181, 0, 72, 42, 17, 3, 182, 188, 10, 181, 0, 75, 42, 2, 181, 0, 78, 42, 17, 9, 0]
abbrev dktX4_init_7 : List UInt8 := dkwX4_init_7 ++ dktX4_init_8
def dkwX4_init_6 : List UInt8 := [181, 0, 62, 42, 16, 86, 188, 10, 181, 0, 66, 42, 17, 6, 184, 188, 10, 181, 0, 69, 42, 16, 7]
abbrev dktX4_init_6 : List UInt8 := dkwX4_init_6 ++ dktX4_init_7
def dkwX4_init_5 : List UInt8 := [17, 5, 120, 188, 10, 181, 0, 56, 42, 17, 3, 182, 188, 10, 181, 0, 59, 42, 16, 9, 188, 4]
abbrev dktX4_init_5 : List UInt8 := dkwX4_init_5 ++ dktX4_init_6
def dkwX4_init_4 : List UInt8 := [188, 10, 181, 0, 47, 42, 16, 8, 188, 10, 181, 0, 50, 42, 16, 43, 188, 10, 181, 0, 53, 42]
abbrev dktX4_init_4 : List UInt8 := dkwX4_init_4 ++ dktX4_init_5
def dkwX4_init_3 : List UInt8 := [188, 10, 181, 0, 38, 42, 16, 8, 188, 10, 181, 0, 41, 42, 16, 8, 188, 10, 181, 0, 44, 42, 16, 8]
abbrev dktX4_init_3 : List UInt8 := dkwX4_init_3 ++ dktX4_init_4
def dkwX4_init_2 : List UInt8 := [17, 5, 120, 188, 10, 181, 0, 29, 42, 17, 2, 188, 188, 10, 181, 0, 32, 42, 2, 181, 0, 35, 42, 6]
abbrev dktX4_init_2 : List UInt8 := dkwX4_init_2 ++ dktX4_init_3
def dkwX4_init_1 : List UInt8 := [16, 8, 188, 10, 181, 0, 20, 42, 16, 8, 188, 10, 181, 0, 23, 42, 16, 8, 188, 10, 181, 0, 26, 42]
abbrev dktX4_init_1 : List UInt8 := dkwX4_init_1 ++ dktX4_init_2
def dkwX4_init_0 : List UInt8 := [42, 183, 0, 1, 42, 2, 181, 0, 9, 42, 2, 181, 0, 13, 42, 16, 8, 188, 10, 181, 0, 16, 42]
abbrev dktX4_init_0 : List UInt8 := dkwX4_init_0 ++ dktX4_init_1
theorem dksX4_init_0 : cX4_init.data.toList.drop 0 = dktX4_init_0 := by decide +kernel
theorem dksX4_init_1 : cX4_init.data.toList.drop 23 = dktX4_init_1 := dk_seg dksX4_init_0 23 rfl rfl
theorem dksX4_init_2 : cX4_init.data.toList.drop 47 = dktX4_init_2 := dk_seg dksX4_init_1 24 rfl rfl
theorem dksX4_init_3 : cX4_init.data.toList.drop 71 = dktX4_init_3 := dk_seg dksX4_init_2 24 rfl rfl
theorem dksX4_init_4 : cX4_init.data.toList.drop 95 = dktX4_init_4 := dk_seg dksX4_init_3 24 rfl rfl
theorem dksX4_init_5 : cX4_init.data.toList.drop 117 = dktX4_init_5 := dk_seg dksX4_init_4 22 rfl rfl
theorem dksX4_init_6 : cX4_init.data.toList.drop 139 = dktX4_init_6 := dk_seg dksX4_init_5 22 rfl rfl
theorem dksX4_init_7 : cX4_init.data.toList.drop 162 = dktX4_init_7 := dk_seg dksX4_init_6 23 rfl rfl
theorem dksX4_init_8 : cX4_init.data.toList.drop 185 = dktX4_init_8 := dk_seg dksX4_init_7 23 rfl rfl
theorem dksX4_init_9 : cX4_init.data.toList.drop 209 = dktX4_init_9 := dk_seg dksX4_init_8 24 rfl rfl
theorem dksX4_init_10 : cX4_init.data.toList.drop 231 = dktX4_init_10 := dk_seg dksX4_init_9 22 rfl rfl
theorem dksX4_init_11 : cX4_init.data.toList.drop 253 = dktX4_init_11 := dk_seg dksX4_init_10 22 rfl rfl
theorem dX4_init_0 : decode cX4_init 0 = .ok (.aload_n 0, 1) := dk_42 (dk_at dksX4_init_0 0 rfl rfl)
theorem dX4_init_1 : decode cX4_init 1 = .ok (.invokespecial 1, 3) := dk_183 0 1 (dk_at dksX4_init_0 1 rfl rfl)
theorem dX4_init_4 : decode cX4_init 4 = .ok (.aload_n 0, 1) := dk_42 (dk_at dksX4_init_0 4 rfl rfl)
theorem dX4_init_5 : decode cX4_init 5 = .ok (.iconst (-1), 1) := dk_2 (dk_at dksX4_init_0 5 rfl rfl)
theorem dX4_init_6 : decode cX4_init 6 = .ok (.putfield 9, 3) := dk_181 0 9 (dk_at dksX4_init_0 6 rfl rfl)
theorem dX4_init_9 : decode cX4_init 9 = .ok (.aload_n 0, 1) := dk_42 (dk_at dksX4_init_0 9 rfl rfl)
theorem dX4_init_10 : decode cX4_init 10 = .ok (.iconst (-1), 1) := dk_2 (dk_at dksX4_init_0 10 rfl rfl)
theorem dX4_init_11 : decode cX4_init 11 = .ok (.putfield 13, 3) := dk_181 0 13 (dk_at dksX4_init_0 11 rfl rfl)
theorem dX4_init_14 : decode cX4_init 14 = .ok (.aload_n 0, 1) := dk_42 (dk_at dksX4_init_0 14 rfl rfl)
theorem dX4_init_15 : decode cX4_init 15 = .ok (.bipush 8, 2) := dk_16 8 (dk_at dksX4_init_0 15 rfl rfl)
theorem dX4_init_17 : decode cX4_init 17 = .ok (.newarray .int, 2) := dk_188_10 (dk_at dksX4_init_0 17 rfl rfl)
theorem dX4_init_19 : decode cX4_init 19 = .ok (.putfield 16, 3) := dk_181 0 16 (dk_at dksX4_init_0 19 rfl rfl)
theorem dX4_init_22 : decode cX4_init 22 = .ok (.aload_n 0, 1) := dk_42 (dk_at dksX4_init_0 22 rfl rfl)
theorem dX4_init_23 : decode cX4_init 23 = .ok (.bipush 8, 2) := dk_16 8 (dk_at dksX4_init_1 0 rfl rfl)
theorem dX4_init_25 : decode cX4_init 25 = .ok (.newarray .int, 2) := dk_188_10 (dk_at dksX4_init_1 2 rfl rfl)
theorem dX4_init_27 : decode cX4_init 27 = .ok (.putfield 20, 3) := dk_181 0 20 (dk_at dksX4_init_1 4 rfl rfl)
theorem dX4_init_30 : decode cX4_init 30 = .ok (.aload_n 0, 1) := dk_42 (dk_at dksX4_init_1 7 rfl rfl)
theorem dX4_init_31 : decode cX4_init 31 = .ok (.bipush 8, 2) := dk_16 8 (dk_at dksX4_init_1 8 rfl rfl)
theorem dX4_init_33 : decode cX4_init 33 = .ok (.newarray .int, 2) := dk_188_10 (dk_at dksX4_init_1 10 rfl rfl)
theorem dX4_init_35 : decode cX4_init 35 = .ok (.putfield 23, 3) := dk_181 0 23 (dk_at dksX4_init_1 12 rfl rfl)
theorem dX4_init_38 : decode cX4_init 38 = .ok (.aload_n 0, 1) := dk_42 (dk_at dksX4_init_1 15 rfl rfl)
theorem dX4_init_39 : decode cX4_init 39 = .ok (.bipush 8, 2) := dk_16 8 (dk_at dksX4_init_1 16 rfl rfl)
theorem dX4_init_41 : decode cX4_init 41 = .ok (.newarray .int, 2) := dk_188_10 (dk_at dksX4_init_1 18 rfl rfl)
theorem dX4_init_43 : decode cX4_init 43 = .ok (.putfield 26, 3) := dk_181 0 26 (dk_at dksX4_init_1 20 rfl rfl)
theorem dX4_init_46 : decode cX4_init 46 = .ok (.aload_n 0, 1) := dk_42 (dk_at dksX4_init_1 23 rfl rfl)
theorem dX4_init_47 : decode cX4_init 47 = .ok (.sipush 1400, 3) := dk_17 5 120 (dk_at dksX4_init_2 0 rfl rfl)
theorem dX4_init_50 : decode cX4_init 50 = .ok (.newarray .int, 2) := dk_188_10 (dk_at dksX4_init_2 3 rfl rfl)
theorem dX4_init_52 : decode cX4_init 52 = .ok (.putfield 29, 3) := dk_181 0 29 (dk_at dksX4_init_2 5 rfl rfl)
theorem dX4_init_55 : decode cX4_init 55 = .ok (.aload_n 0, 1) := dk_42 (dk_at dksX4_init_2 8 rfl rfl)
theorem dX4_init_56 : decode cX4_init 56 = .ok (.sipush 700, 3) := dk_17 2 188 (dk_at dksX4_init_2 9 rfl rfl)
theorem dX4_init_59 : decode cX4_init 59 = .ok (.newarray .int, 2) := dk_188_10 (dk_at dksX4_init_2 12 rfl rfl)
theorem dX4_init_61 : decode cX4_init 61 = .ok (.putfield 32, 3) := dk_181 0 32 (dk_at dksX4_init_2 14 rfl rfl)
theorem dX4_init_64 : decode cX4_init 64 = .ok (.aload_n 0, 1) := dk_42 (dk_at dksX4_init_2 17 rfl rfl)
theorem dX4_init_65 : decode cX4_init 65 = .ok (.iconst (-1), 1) := dk_2 (dk_at dksX4_init_2 18 rfl rfl)
theorem dX4_init_66 : decode cX4_init 66 = .ok (.putfield 35, 3) := dk_181 0 35 (dk_at dksX4_init_2 19 rfl rfl)
theorem dX4_init_69 : decode cX4_init 69 = .ok (.aload_n 0, 1) := dk_42 (dk_at dksX4_init_2 22 rfl rfl)
theorem dX4_init_70 : decode cX4_init 70 = .ok (.iconst 3, 1) := dk_6 (dk_at dksX4_init_2 23 rfl rfl)
theorem dX4_init_71 : decode cX4_init 71 = .ok (.newarray .int, 2) := dk_188_10 (dk_at dksX4_init_3 0 rfl rfl)
theorem dX4_init_73 : decode cX4_init 73 = .ok (.putfield 38, 3) := dk_181 0 38 (dk_at dksX4_init_3 2 rfl rfl)
theorem dX4_init_76 : decode cX4_init 76 = .ok (.aload_n 0, 1) := dk_42 (dk_at dksX4_init_3 5 rfl rfl)
theorem dX4_init_77 : decode cX4_init 77 = .ok (.bipush 8, 2) := dk_16 8 (dk_at dksX4_init_3 6 rfl rfl)
theorem dX4_init_79 : decode cX4_init 79 = .ok (.newarray .int, 2) := dk_188_10 (dk_at dksX4_init_3 8 rfl rfl)
theorem dX4_init_81 : decode cX4_init 81 = .ok (.putfield 41, 3) := dk_181 0 41 (dk_at dksX4_init_3 10 rfl rfl)
theorem dX4_init_84 : decode cX4_init 84 = .ok (.aload_n 0, 1) := dk_42 (dk_at dksX4_init_3 13 rfl rfl)
theorem dX4_init_85 : decode cX4_init 85 = .ok (.bipush 8, 2) := dk_16 8 (dk_at dksX4_init_3 14 rfl rfl)
theorem dX4_init_87 : decode cX4_init 87 = .ok (.newarray .int, 2) := dk_188_10 (dk_at dksX4_init_3 16 rfl rfl)
theorem dX4_init_89 : decode cX4_init 89 = .ok (.putfield 44, 3) := dk_181 0 44 (dk_at dksX4_init_3 18 rfl rfl)
theorem dX4_init_92 : decode cX4_init 92 = .ok (.aload_n 0, 1) := dk_42 (dk_at dksX4_init_3 21 rfl rfl)
theorem dX4_init_93 : decode cX4_init 93 = .ok (.bipush 8, 2) := dk_16 8 (dk_at dksX4_init_3 22 rfl rfl)
theorem dX4_init_95 : decode cX4_init 95 = .ok (.newarray .int, 2) := dk_188_10 (dk_at dksX4_init_4 0 rfl rfl)
theorem dX4_init_97 : decode cX4_init 97 = .ok (.putfield 47, 3) := dk_181 0 47 (dk_at dksX4_init_4 2 rfl rfl)
theorem dX4_init_100 : decode cX4_init 100 = .ok (.aload_n 0, 1) := dk_42 (dk_at dksX4_init_4 5 rfl rfl)
theorem dX4_init_101 : decode cX4_init 101 = .ok (.bipush 8, 2) := dk_16 8 (dk_at dksX4_init_4 6 rfl rfl)
theorem dX4_init_103 : decode cX4_init 103 = .ok (.newarray .int, 2) := dk_188_10 (dk_at dksX4_init_4 8 rfl rfl)
theorem dX4_init_105 : decode cX4_init 105 = .ok (.putfield 50, 3) := dk_181 0 50 (dk_at dksX4_init_4 10 rfl rfl)
theorem dX4_init_108 : decode cX4_init 108 = .ok (.aload_n 0, 1) := dk_42 (dk_at dksX4_init_4 13 rfl rfl)
theorem dX4_init_109 : decode cX4_init 109 = .ok (.bipush 43, 2) := dk_16 43 (dk_at dksX4_init_4 14 rfl rfl)
theorem dX4_init_111 : decode cX4_init 111 = .ok (.newarray .int, 2) := dk_188_10 (dk_at dksX4_init_4 16 rfl rfl)
theorem dX4_init_113 : decode cX4_init 113 = .ok (.putfield 53, 3) := dk_181 0 53 (dk_at dksX4_init_4 18 rfl rfl)
theorem dX4_init_116 : decode cX4_init 116 = .ok (.aload_n 0, 1) := dk_42 (dk_at dksX4_init_4 21 rfl rfl)
theorem dX4_init_117 : decode cX4_init 117 = .ok (.sipush 1400, 3) := dk_17 5 120 (dk_at dksX4_init_5 0 rfl rfl)
theorem dX4_init_120 : decode cX4_init 120 = .ok (.newarray .int, 2) := dk_188_10 (dk_at dksX4_init_5 3 rfl rfl)
theorem dX4_init_122 : decode cX4_init 122 = .ok (.putfield 56, 3) := dk_181 0 56 (dk_at dksX4_init_5 5 rfl rfl)
theorem dX4_init_125 : decode cX4_init 125 = .ok (.aload_n 0, 1) := dk_42 (dk_at dksX4_init_5 8 rfl rfl)
theorem dX4_init_126 : decode cX4_init 126 = .ok (.sipush 950, 3) := dk_17 3 182 (dk_at dksX4_init_5 9 rfl rfl)
theorem dX4_init_129 : decode cX4_init 129 = .ok (.newarray .int, 2) := dk_188_10 (dk_at dksX4_init_5 12 rfl rfl)
theorem dX4_init_131 : decode cX4_init 131 = .ok (.putfield 59, 3) := dk_181 0 59 (dk_at dksX4_init_5 14 rfl rfl)
theorem dX4_init_134 : decode cX4_init 134 = .ok (.aload_n 0, 1) := dk_42 (dk_at dksX4_init_5 17 rfl rfl)
theorem dX4_init_135 : decode cX4_init 135 = .ok (.bipush 9, 2) := dk_16 9 (dk_at dksX4_init_5 18 rfl rfl)
theorem dX4_init_137 : decode cX4_init 137 = .ok (.newarray .boolean, 2) := dk_188_4 (dk_at dksX4_init_5 20 rfl rfl)
theorem dX4_init_139 : decode cX4_init 139 = .ok (.putfield 62, 3) := dk_181 0 62 (dk_at dksX4_init_6 0 rfl rfl)
theorem dX4_init_142 : decode cX4_init 142 = .ok (.aload_n 0, 1) := dk_42 (dk_at dksX4_init_6 3 rfl rfl)
theorem dX4_init_143 : decode cX4_init 143 = .ok (.bipush 86, 2) := dk_16 86 (dk_at dksX4_init_6 4 rfl rfl)
theorem dX4_init_145 : decode cX4_init 145 = .ok (.newarray .int, 2) := dk_188_10 (dk_at dksX4_init_6 6 rfl rfl)
theorem dX4_init_147 : decode cX4_init 147 = .ok (.putfield 66, 3) := dk_181 0 66 (dk_at dksX4_init_6 8 rfl rfl)
theorem dX4_init_150 : decode cX4_init 150 = .ok (.aload_n 0, 1) := dk_42 (dk_at dksX4_init_6 11 rfl rfl)
theorem dX4_init_151 : decode cX4_init 151 = .ok (.sipush 1720, 3) := dk_17 6 184 (dk_at dksX4_init_6 12 rfl rfl)
theorem dX4_init_154 : decode cX4_init 154 = .ok (.newarray .int, 2) := dk_188_10 (dk_at dksX4_init_6 15 rfl rfl)
theorem dX4_init_156 : decode cX4_init 156 = .ok (.putfield 69, 3) := dk_181 0 69 (dk_at dksX4_init_6 17 rfl rfl)
theorem dX4_init_159 : decode cX4_init 159 = .ok (.aload_n 0, 1) := dk_42 (dk_at dksX4_init_6 20 rfl rfl)
theorem dX4_init_160 : decode cX4_init 160 = .ok (.bipush 7, 2) := dk_16 7 (dk_at dksX4_init_6 21 rfl rfl)
theorem dX4_init_162 : decode cX4_init 162 = .ok (.newarray .int, 2) := dk_188_10 (dk_at dksX4_init_7 0 rfl rfl)
theorem dX4_init_164 : decode cX4_init 164 = .ok (.putfield 72, 3) := dk_181 0 72 (dk_at dksX4_init_7 2 rfl rfl)
theorem dX4_init_167 : decode cX4_init 167 = .ok (.aload_n 0, 1) := dk_42 (dk_at dksX4_init_7 5 rfl rfl)
theorem dX4_init_168 : decode cX4_init 168 = .ok (.sipush 950, 3) := dk_17 3 182 (dk_at dksX4_init_7 6 rfl rfl)
theorem dX4_init_171 : decode cX4_init 171 = .ok (.newarray .int, 2) := dk_188_10 (dk_at dksX4_init_7 9 rfl rfl)
theorem dX4_init_173 : decode cX4_init 173 = .ok (.putfield 75, 3) := dk_181 0 75 (dk_at dksX4_init_7 11 rfl rfl)
theorem dX4_init_176 : decode cX4_init 176 = .ok (.aload_n 0, 1) := dk_42 (dk_at dksX4_init_7 14 rfl rfl)
theorem dX4_init_177 : decode cX4_init 177 = .ok (.iconst (-1), 1) := dk_2 (dk_at dksX4_init_7 15 rfl rfl)
theorem dX4_init_178 : decode cX4_init 178 = .ok (.putfield 78, 3) := dk_181 0 78 (dk_at dksX4_init_7 16 rfl rfl)
theorem dX4_init_181 : decode cX4_init 181 = .ok (.aload_n 0, 1) := dk_42 (dk_at dksX4_init_7 19 rfl rfl)
theorem dX4_init_182 : decode cX4_init 182 = .ok (.sipush 2304, 3) := dk_17 9 0 (dk_at dksX4_init_7 20 rfl rfl)
theorem dX4_init_185 : decode cX4_init 185 = .ok (.newarray .int, 2) := dk_188_10 (dk_at dksX4_init_8 0 rfl rfl)
theorem dX4_init_187 : decode cX4_init 187 = .ok (.putfield 81, 3) := dk_181 0 81 (dk_at dksX4_init_8 2 rfl rfl)
theorem dX4_init_190 : decode cX4_init 190 = .ok (.aload_n 0, 1) := dk_42 (dk_at dksX4_init_8 5 rfl rfl)
theorem dX4_init_191 : decode cX4_init 191 = .ok (.bipush 8, 2) := dk_16 8 (dk_at dksX4_init_8 6 rfl rfl)
theorem dX4_init_193 : decode cX4_init 193 = .ok (.newarray .int, 2) := dk_188_10 (dk_at dksX4_init_8 8 rfl rfl)
theorem dX4_init_195 : decode cX4_init 195 = .ok (.putfield 84, 3) := dk_181 0 84 (dk_at dksX4_init_8 10 rfl rfl)
theorem dX4_init_198 : decode cX4_init 198 = .ok (.aload_n 0, 1) := dk_42 (dk_at dksX4_init_8 13 rfl rfl)
theorem dX4_init_199 : decode cX4_init 199 = .ok (.bipush 8, 2) := dk_16 8 (dk_at dksX4_init_8 14 rfl rfl)
theorem dX4_init_201 : decode cX4_init 201 = .ok (.newarray .int, 2) := dk_188_10 (dk_at dksX4_init_8 16 rfl rfl)
theorem dX4_init_203 : decode cX4_init 203 = .ok (.putfield 87, 3) := dk_181 0 87 (dk_at dksX4_init_8 18 rfl rfl)
theorem dX4_init_206 : decode cX4_init 206 = .ok (.aload_n 0, 1) := dk_42 (dk_at dksX4_init_8 21 rfl rfl)
theorem dX4_init_207 : decode cX4_init 207 = .ok (.bipush 8, 2) := dk_16 8 (dk_at dksX4_init_8 22 rfl rfl)
theorem dX4_init_209 : decode cX4_init 209 = .ok (.newarray .int, 2) := dk_188_10 (dk_at dksX4_init_9 0 rfl rfl)
theorem dX4_init_211 : decode cX4_init 211 = .ok (.putfield 90, 3) := dk_181 0 90 (dk_at dksX4_init_9 2 rfl rfl)
theorem dX4_init_214 : decode cX4_init 214 = .ok (.aload_n 0, 1) := dk_42 (dk_at dksX4_init_9 5 rfl rfl)
theorem dX4_init_215 : decode cX4_init 215 = .ok (.bipush 24, 2) := dk_16 24 (dk_at dksX4_init_9 6 rfl rfl)
theorem dX4_init_217 : decode cX4_init 217 = .ok (.newarray .int, 2) := dk_188_10 (dk_at dksX4_init_9 8 rfl rfl)
theorem dX4_init_219 : decode cX4_init 219 = .ok (.putfield 93, 3) := dk_181 0 93 (dk_at dksX4_init_9 10 rfl rfl)
theorem dX4_init_222 : decode cX4_init 222 = .ok (.aload_n 0, 1) := dk_42 (dk_at dksX4_init_9 13 rfl rfl)
theorem dX4_init_223 : decode cX4_init 223 = .ok (.bipush 8, 2) := dk_16 8 (dk_at dksX4_init_9 14 rfl rfl)
theorem dX4_init_225 : decode cX4_init 225 = .ok (.newarray .int, 2) := dk_188_10 (dk_at dksX4_init_9 16 rfl rfl)
theorem dX4_init_227 : decode cX4_init 227 = .ok (.putfield 96, 3) := dk_181 0 96 (dk_at dksX4_init_9 18 rfl rfl)
theorem dX4_init_230 : decode cX4_init 230 = .ok (.aload_n 0, 1) := dk_42 (dk_at dksX4_init_9 21 rfl rfl)
theorem dX4_init_231 : decode cX4_init 231 = .ok (.sipush 3840, 3) := dk_17 15 0 (dk_at dksX4_init_10 0 rfl rfl)
theorem dX4_init_234 : decode cX4_init 234 = .ok (.newarray .int, 2) := dk_188_10 (dk_at dksX4_init_10 3 rfl rfl)
theorem dX4_init_236 : decode cX4_init 236 = .ok (.putfield 99, 3) := dk_181 0 99 (dk_at dksX4_init_10 5 rfl rfl)
theorem dX4_init_239 : decode cX4_init 239 = .ok (.aload_n 0, 1) := dk_42 (dk_at dksX4_init_10 8 rfl rfl)
theorem dX4_init_240 : decode cX4_init 240 = .ok (.bipush 43, 2) := dk_16 43 (dk_at dksX4_init_10 9 rfl rfl)
theorem dX4_init_242 : decode cX4_init 242 = .ok (.newarray .int, 2) := dk_188_10 (dk_at dksX4_init_10 11 rfl rfl)
theorem dX4_init_244 : decode cX4_init 244 = .ok (.putfield 102, 3) := dk_181 0 102 (dk_at dksX4_init_10 13 rfl rfl)
theorem dX4_init_247 : decode cX4_init 247 = .ok (.aload_n 0, 1) := dk_42 (dk_at dksX4_init_10 16 rfl rfl)
theorem dX4_init_248 : decode cX4_init 248 = .ok (.sipush 1720, 3) := dk_17 6 184 (dk_at dksX4_init_10 17 rfl rfl)
theorem dX4_init_251 : decode cX4_init 251 = .ok (.newarray .int, 2) := dk_188_10 (dk_at dksX4_init_10 20 rfl rfl)
theorem dX4_init_253 : decode cX4_init 253 = .ok (.putfield 105, 3) := dk_181 0 105 (dk_at dksX4_init_11 0 rfl rfl)
theorem dX4_init_256 : decode cX4_init 256 = .ok (.aload_n 0, 1) := dk_42 (dk_at dksX4_init_11 3 rfl rfl)
theorem dX4_init_257 : decode cX4_init 257 = .ok (.bipush 24, 2) := dk_16 24 (dk_at dksX4_init_11 4 rfl rfl)
theorem dX4_init_259 : decode cX4_init 259 = .ok (.newarray .int, 2) := dk_188_10 (dk_at dksX4_init_11 6 rfl rfl)
theorem dX4_init_261 : decode cX4_init 261 = .ok (.putfield 108, 3) := dk_181 0 108 (dk_at dksX4_init_11 8 rfl rfl)
theorem dX4_init_264 : decode cX4_init 264 = .ok (.return_, 1) := dk_177 (dk_at dksX4_init_11 11 rfl rfl)
abbrev cX4_thrown : ByteArray := prog_12_method_2_code
def yX4_thrown : MethodName := ⟨RX4, "thrown", "()I"⟩
theorem dX4_thrown_0 : decode cX4_thrown 0 = .ok (.aload_n 0, 1) := by decide +kernel
theorem dX4_thrown_1 : decode cX4_thrown 1 = .ok (.getfield 111, 3) := by decide +kernel
theorem dX4_thrown_4 : decode cX4_thrown 4 = .ok (.ireturn, 1) := by decide +kernel
abbrev cX4_feed : ByteArray := prog_12_method_10_code
def yX4_feed : MethodName := ⟨RX4, "feed", "(IIIII)I"⟩
def dkwX4_feed_2 : List UInt8 := [182, 0, 117, 42, 180, 0, 114, 172]
abbrev dktX4_feed_2 : List UInt8 := dkwX4_feed_2 ++ []
def dkwX4_feed_1 : List UInt8 := [182, 0, 117, 42, 28, 182, 0, 117, 42, 29, 182, 0, 117, 42, 21, 4, 182, 0, 117, 42, 21, 5]
abbrev dktX4_feed_1 : List UInt8 := dkwX4_feed_1 ++ dktX4_feed_2
def dkwX4_feed_0 : List UInt8 := [42, 3, 181, 0, 111, 42, 180, 0, 114, 16, 20, 96, 17, 2, 188, 164, 0, 5, 2, 172, 42, 27]
abbrev dktX4_feed_0 : List UInt8 := dkwX4_feed_0 ++ dktX4_feed_1
theorem dksX4_feed_0 : cX4_feed.data.toList.drop 0 = dktX4_feed_0 := by decide +kernel
theorem dksX4_feed_1 : cX4_feed.data.toList.drop 22 = dktX4_feed_1 := dk_seg dksX4_feed_0 22 rfl rfl
theorem dksX4_feed_2 : cX4_feed.data.toList.drop 44 = dktX4_feed_2 := dk_seg dksX4_feed_1 22 rfl rfl
theorem dX4_feed_0 : decode cX4_feed 0 = .ok (.aload_n 0, 1) := dk_42 (dk_at dksX4_feed_0 0 rfl rfl)
theorem dX4_feed_1 : decode cX4_feed 1 = .ok (.iconst 0, 1) := dk_3 (dk_at dksX4_feed_0 1 rfl rfl)
theorem dX4_feed_2 : decode cX4_feed 2 = .ok (.putfield 111, 3) := dk_181 0 111 (dk_at dksX4_feed_0 2 rfl rfl)
theorem dX4_feed_5 : decode cX4_feed 5 = .ok (.aload_n 0, 1) := dk_42 (dk_at dksX4_feed_0 5 rfl rfl)
theorem dX4_feed_6 : decode cX4_feed 6 = .ok (.getfield 114, 3) := dk_180 0 114 (dk_at dksX4_feed_0 6 rfl rfl)
theorem dX4_feed_9 : decode cX4_feed 9 = .ok (.bipush 20, 2) := dk_16 20 (dk_at dksX4_feed_0 9 rfl rfl)
theorem dX4_feed_11 : decode cX4_feed 11 = .ok (.iadd, 1) := dk_96 (dk_at dksX4_feed_0 11 rfl rfl)
theorem dX4_feed_12 : decode cX4_feed 12 = .ok (.sipush 700, 3) := dk_17 2 188 (dk_at dksX4_feed_0 12 rfl rfl)
theorem dX4_feed_15 : decode cX4_feed 15 = .ok (.if_icmp .le 5, 3) := dk_164 0 5 (dk_at dksX4_feed_0 15 rfl rfl)
theorem dX4_feed_18 : decode cX4_feed 18 = .ok (.iconst (-1), 1) := dk_2 (dk_at dksX4_feed_0 18 rfl rfl)
theorem dX4_feed_19 : decode cX4_feed 19 = .ok (.ireturn, 1) := dk_172 (dk_at dksX4_feed_0 19 rfl rfl)
theorem dX4_feed_20 : decode cX4_feed 20 = .ok (.aload_n 0, 1) := dk_42 (dk_at dksX4_feed_0 20 rfl rfl)
theorem dX4_feed_21 : decode cX4_feed 21 = .ok (.iload_n 1, 1) := dk_27 (dk_at dksX4_feed_0 21 rfl rfl)
theorem dX4_feed_22 : decode cX4_feed 22 = .ok (.invokevirtual 117, 3) := dk_182 0 117 (dk_at dksX4_feed_1 0 rfl rfl)
theorem dX4_feed_25 : decode cX4_feed 25 = .ok (.aload_n 0, 1) := dk_42 (dk_at dksX4_feed_1 3 rfl rfl)
theorem dX4_feed_26 : decode cX4_feed 26 = .ok (.iload_n 2, 1) := dk_28 (dk_at dksX4_feed_1 4 rfl rfl)
theorem dX4_feed_27 : decode cX4_feed 27 = .ok (.invokevirtual 117, 3) := dk_182 0 117 (dk_at dksX4_feed_1 5 rfl rfl)
theorem dX4_feed_30 : decode cX4_feed 30 = .ok (.aload_n 0, 1) := dk_42 (dk_at dksX4_feed_1 8 rfl rfl)
theorem dX4_feed_31 : decode cX4_feed 31 = .ok (.iload_n 3, 1) := dk_29 (dk_at dksX4_feed_1 9 rfl rfl)
theorem dX4_feed_32 : decode cX4_feed 32 = .ok (.invokevirtual 117, 3) := dk_182 0 117 (dk_at dksX4_feed_1 10 rfl rfl)
theorem dX4_feed_35 : decode cX4_feed 35 = .ok (.aload_n 0, 1) := dk_42 (dk_at dksX4_feed_1 13 rfl rfl)
theorem dX4_feed_36 : decode cX4_feed 36 = .ok (.iload 4, 2) := dk_21 4 (dk_at dksX4_feed_1 14 rfl rfl)
theorem dX4_feed_38 : decode cX4_feed 38 = .ok (.invokevirtual 117, 3) := dk_182 0 117 (dk_at dksX4_feed_1 16 rfl rfl)
theorem dX4_feed_41 : decode cX4_feed 41 = .ok (.aload_n 0, 1) := dk_42 (dk_at dksX4_feed_1 19 rfl rfl)
theorem dX4_feed_42 : decode cX4_feed 42 = .ok (.iload 5, 2) := dk_21 5 (dk_at dksX4_feed_1 20 rfl rfl)
theorem dX4_feed_44 : decode cX4_feed 44 = .ok (.invokevirtual 117, 3) := dk_182 0 117 (dk_at dksX4_feed_2 0 rfl rfl)
theorem dX4_feed_47 : decode cX4_feed 47 = .ok (.aload_n 0, 1) := dk_42 (dk_at dksX4_feed_2 3 rfl rfl)
theorem dX4_feed_48 : decode cX4_feed 48 = .ok (.getfield 114, 3) := dk_180 0 114 (dk_at dksX4_feed_2 4 rfl rfl)
theorem dX4_feed_51 : decode cX4_feed 51 = .ok (.ireturn, 1) := dk_172 (dk_at dksX4_feed_2 7 rfl rfl)
abbrev cX4_lays : ByteArray := prog_12_method_11_code
def yX4_lays : MethodName := ⟨RX4, "lays", "(I)V"⟩
def dkwX4_lays_1 : List UInt8 := [89, 180, 0, 114, 4, 96, 181, 0, 114, 132, 2, 248, 167, 255, 223, 177]
abbrev dktX4_lays_1 : List UInt8 := dkwX4_lays_1 ++ []
def dkwX4_lays_0 : List UInt8 := [16, 24, 61, 28, 155, 0, 35, 42, 180, 0, 32, 42, 180, 0, 114, 27, 28, 122, 17, 0, 255, 126, 79, 42]
abbrev dktX4_lays_0 : List UInt8 := dkwX4_lays_0 ++ dktX4_lays_1
theorem dksX4_lays_0 : cX4_lays.data.toList.drop 0 = dktX4_lays_0 := by decide +kernel
theorem dksX4_lays_1 : cX4_lays.data.toList.drop 24 = dktX4_lays_1 := dk_seg dksX4_lays_0 24 rfl rfl
theorem dX4_lays_0 : decode cX4_lays 0 = .ok (.bipush 24, 2) := dk_16 24 (dk_at dksX4_lays_0 0 rfl rfl)
theorem dX4_lays_2 : decode cX4_lays 2 = .ok (.istore_n 2, 1) := dk_61 (dk_at dksX4_lays_0 2 rfl rfl)
theorem dX4_lays_3 : decode cX4_lays 3 = .ok (.iload_n 2, 1) := dk_28 (dk_at dksX4_lays_0 3 rfl rfl)
theorem dX4_lays_4 : decode cX4_lays 4 = .ok (.ifCond .lt 35, 3) := dk_155 0 35 (dk_at dksX4_lays_0 4 rfl rfl)
theorem dX4_lays_7 : decode cX4_lays 7 = .ok (.aload_n 0, 1) := dk_42 (dk_at dksX4_lays_0 7 rfl rfl)
theorem dX4_lays_8 : decode cX4_lays 8 = .ok (.getfield 32, 3) := dk_180 0 32 (dk_at dksX4_lays_0 8 rfl rfl)
theorem dX4_lays_11 : decode cX4_lays 11 = .ok (.aload_n 0, 1) := dk_42 (dk_at dksX4_lays_0 11 rfl rfl)
theorem dX4_lays_12 : decode cX4_lays 12 = .ok (.getfield 114, 3) := dk_180 0 114 (dk_at dksX4_lays_0 12 rfl rfl)
theorem dX4_lays_15 : decode cX4_lays 15 = .ok (.iload_n 1, 1) := dk_27 (dk_at dksX4_lays_0 15 rfl rfl)
theorem dX4_lays_16 : decode cX4_lays 16 = .ok (.iload_n 2, 1) := dk_28 (dk_at dksX4_lays_0 16 rfl rfl)
theorem dX4_lays_17 : decode cX4_lays 17 = .ok (.ishr, 1) := dk_122 (dk_at dksX4_lays_0 17 rfl rfl)
theorem dX4_lays_18 : decode cX4_lays 18 = .ok (.sipush 255, 3) := dk_17 0 255 (dk_at dksX4_lays_0 18 rfl rfl)
theorem dX4_lays_21 : decode cX4_lays 21 = .ok (.iand, 1) := dk_126 (dk_at dksX4_lays_0 21 rfl rfl)
theorem dX4_lays_22 : decode cX4_lays 22 = .ok (.iastore, 1) := dk_79 (dk_at dksX4_lays_0 22 rfl rfl)
theorem dX4_lays_23 : decode cX4_lays 23 = .ok (.aload_n 0, 1) := dk_42 (dk_at dksX4_lays_0 23 rfl rfl)
theorem dX4_lays_24 : decode cX4_lays 24 = .ok (.dup, 1) := dk_89 (dk_at dksX4_lays_1 0 rfl rfl)
theorem dX4_lays_25 : decode cX4_lays 25 = .ok (.getfield 114, 3) := dk_180 0 114 (dk_at dksX4_lays_1 1 rfl rfl)
theorem dX4_lays_28 : decode cX4_lays 28 = .ok (.iconst 1, 1) := dk_4 (dk_at dksX4_lays_1 4 rfl rfl)
theorem dX4_lays_29 : decode cX4_lays 29 = .ok (.iadd, 1) := dk_96 (dk_at dksX4_lays_1 5 rfl rfl)
theorem dX4_lays_30 : decode cX4_lays 30 = .ok (.putfield 114, 3) := dk_181 0 114 (dk_at dksX4_lays_1 6 rfl rfl)
theorem dX4_lays_33 : decode cX4_lays 33 = .ok (.iinc 2 (-8), 3) := dk_132 2 248 (dk_at dksX4_lays_1 9 rfl rfl)
theorem dX4_lays_36 : decode cX4_lays 36 = .ok (.goto (-33), 3) := dk_167 255 223 (dk_at dksX4_lays_1 12 rfl rfl)
theorem dX4_lays_39 : decode cX4_lays 39 = .ok (.return_, 1) := dk_177 (dk_at dksX4_lays_1 15 rfl rfl)
abbrev cX4_town : ByteArray := prog_12_method_40_code
def yX4_town : MethodName := ⟨RX4, "town", "(I)I"⟩
def dkwX4_town_12 : List UInt8 := [181, 1, 35, 42, 3, 181, 1, 38, 3, 172]
abbrev dktX4_town_12 : List UInt8 := dkwX4_town_12 ++ []
def dkwX4_town_11 : List UInt8 := [180, 0, 66, 28, 42, 180, 0, 53, 28, 46, 79, 132, 2, 1, 167, 255, 235, 42, 3, 181, 1, 32, 42, 3]
abbrev dktX4_town_11 : List UInt8 := dkwX4_town_11 ++ dktX4_town_12
def dkwX4_town_10 : List UInt8 := [182, 1, 28, 42, 42, 180, 0, 56, 42, 180, 0, 29, 182, 1, 28, 3, 61, 28, 16, 43, 162, 0, 21, 42]
abbrev dktX4_town_10 : List UInt8 := dkwX4_town_10 ++ dktX4_town_11
def dkwX4_town_9 : List UInt8 := [182, 1, 28, 42, 42, 180, 0, 47, 42, 180, 0, 23, 182, 1, 28, 42, 42, 180, 0, 50, 42, 180, 0, 26]
abbrev dktX4_town_9 : List UInt8 := dkwX4_town_9 ++ dktX4_town_10
def dkwX4_town_8 : List UInt8 := [181, 0, 13, 42, 42, 180, 0, 41, 42, 180, 0, 16, 182, 1, 28, 42, 42, 180, 0, 44, 42, 180, 0, 20]
abbrev dktX4_town_8 : List UInt8 := dkwX4_town_8 ++ dktX4_town_9
def dkwX4_town_7 : List UInt8 := [181, 1, 22, 42, 42, 180, 0, 240, 181, 1, 25, 42, 42, 180, 1, 0, 181, 0, 9, 42, 42, 180, 1, 6]
abbrev dktX4_town_7 : List UInt8 := dkwX4_town_7 ++ dktX4_town_8
def dkwX4_town_6 : List UInt8 := [3, 92, 46, 4, 96, 79, 42, 180, 0, 167, 172, 42, 42, 180, 0, 230, 181, 1, 19, 42, 42, 180, 0, 237]
abbrev dktX4_town_6 : List UInt8 := dkwX4_town_6 ++ dktX4_town_7
def dkwX4_town_5 : List UInt8 := [180, 0, 144, 153, 0, 10, 42, 182, 1, 16, 167, 255, 238, 42, 182, 0, 170, 154, 0, 18, 42, 180, 0, 38]
abbrev dktX4_town_5 : List UInt8 := dkwX4_town_5 ++ dktX4_town_6
def dkwX4_town_4 : List UInt8 := [79, 132, 2, 1, 167, 255, 240, 42, 3, 181, 0, 180, 42, 182, 0, 174, 42, 182, 0, 170, 153, 0, 17, 42]
abbrev dktX4_town_4 : List UInt8 := dkwX4_town_4 ++ dktX4_town_5
def dkwX4_town_3 : List UInt8 := [42, 2, 181, 1, 0, 42, 2, 181, 1, 6, 3, 61, 28, 16, 43, 162, 0, 16, 42, 180, 0, 53, 28, 3]
abbrev dktX4_town_3 : List UInt8 := dkwX4_town_3 ++ dktX4_town_4
def dkwX4_town_2 : List UInt8 := [27, 181, 0, 121, 42, 3, 181, 0, 124, 42, 3, 181, 0, 230, 42, 3, 181, 0, 237, 42, 3, 181, 0, 240]
abbrev dktX4_town_2 : List UInt8 := dkwX4_town_2 ++ dktX4_town_3
def dkwX4_town_1 : List UInt8 := [182, 1, 12, 154, 0, 5, 3, 172, 42, 3, 181, 0, 114, 42, 2, 181, 0, 35, 42, 3, 181, 0, 167, 42]
abbrev dktX4_town_1 : List UInt8 := dkwX4_town_1 ++ dktX4_town_2
def dkwX4_town_0 : List UInt8 := [42, 3, 181, 0, 111, 42, 27, 155, 0, 15, 27, 42, 180, 0, 114, 163, 0, 7, 4, 167, 0, 4, 3, 4]
abbrev dktX4_town_0 : List UInt8 := dkwX4_town_0 ++ dktX4_town_1
theorem dksX4_town_0 : cX4_town.data.toList.drop 0 = dktX4_town_0 := by decide +kernel
theorem dksX4_town_1 : cX4_town.data.toList.drop 24 = dktX4_town_1 := dk_seg dksX4_town_0 24 rfl rfl
theorem dksX4_town_2 : cX4_town.data.toList.drop 48 = dktX4_town_2 := dk_seg dksX4_town_1 24 rfl rfl
theorem dksX4_town_3 : cX4_town.data.toList.drop 72 = dktX4_town_3 := dk_seg dksX4_town_2 24 rfl rfl
theorem dksX4_town_4 : cX4_town.data.toList.drop 96 = dktX4_town_4 := dk_seg dksX4_town_3 24 rfl rfl
theorem dksX4_town_5 : cX4_town.data.toList.drop 120 = dktX4_town_5 := dk_seg dksX4_town_4 24 rfl rfl
theorem dksX4_town_6 : cX4_town.data.toList.drop 144 = dktX4_town_6 := dk_seg dksX4_town_5 24 rfl rfl
theorem dksX4_town_7 : cX4_town.data.toList.drop 168 = dktX4_town_7 := dk_seg dksX4_town_6 24 rfl rfl
theorem dksX4_town_8 : cX4_town.data.toList.drop 192 = dktX4_town_8 := dk_seg dksX4_town_7 24 rfl rfl
theorem dksX4_town_9 : cX4_town.data.toList.drop 216 = dktX4_town_9 := dk_seg dksX4_town_8 24 rfl rfl
theorem dksX4_town_10 : cX4_town.data.toList.drop 240 = dktX4_town_10 := dk_seg dksX4_town_9 24 rfl rfl
theorem dksX4_town_11 : cX4_town.data.toList.drop 264 = dktX4_town_11 := dk_seg dksX4_town_10 24 rfl rfl
theorem dksX4_town_12 : cX4_town.data.toList.drop 288 = dktX4_town_12 := dk_seg dksX4_town_11 24 rfl rfl
theorem dX4_town_0 : decode cX4_town 0 = .ok (.aload_n 0, 1) := dk_42 (dk_at dksX4_town_0 0 rfl rfl)
theorem dX4_town_1 : decode cX4_town 1 = .ok (.iconst 0, 1) := dk_3 (dk_at dksX4_town_0 1 rfl rfl)
theorem dX4_town_2 : decode cX4_town 2 = .ok (.putfield 111, 3) := dk_181 0 111 (dk_at dksX4_town_0 2 rfl rfl)
theorem dX4_town_5 : decode cX4_town 5 = .ok (.aload_n 0, 1) := dk_42 (dk_at dksX4_town_0 5 rfl rfl)
theorem dX4_town_6 : decode cX4_town 6 = .ok (.iload_n 1, 1) := dk_27 (dk_at dksX4_town_0 6 rfl rfl)
theorem dX4_town_7 : decode cX4_town 7 = .ok (.ifCond .lt 15, 3) := dk_155 0 15 (dk_at dksX4_town_0 7 rfl rfl)
theorem dX4_town_10 : decode cX4_town 10 = .ok (.iload_n 1, 1) := dk_27 (dk_at dksX4_town_0 10 rfl rfl)
theorem dX4_town_11 : decode cX4_town 11 = .ok (.aload_n 0, 1) := dk_42 (dk_at dksX4_town_0 11 rfl rfl)
theorem dX4_town_12 : decode cX4_town 12 = .ok (.getfield 114, 3) := dk_180 0 114 (dk_at dksX4_town_0 12 rfl rfl)
theorem dX4_town_15 : decode cX4_town 15 = .ok (.if_icmp .gt 7, 3) := dk_163 0 7 (dk_at dksX4_town_0 15 rfl rfl)
theorem dX4_town_18 : decode cX4_town 18 = .ok (.iconst 1, 1) := dk_4 (dk_at dksX4_town_0 18 rfl rfl)
theorem dX4_town_19 : decode cX4_town 19 = .ok (.goto 4, 3) := dk_167 0 4 (dk_at dksX4_town_0 19 rfl rfl)
theorem dX4_town_22 : decode cX4_town 22 = .ok (.iconst 0, 1) := dk_3 (dk_at dksX4_town_0 22 rfl rfl)
theorem dX4_town_23 : decode cX4_town 23 = .ok (.iconst 1, 1) := dk_4 (dk_at dksX4_town_0 23 rfl rfl)
theorem dX4_town_24 : decode cX4_town 24 = .ok (.invokevirtual 268, 3) := dk_182 1 12 (dk_at dksX4_town_1 0 rfl rfl)
theorem dX4_town_27 : decode cX4_town 27 = .ok (.ifCond .ne 5, 3) := dk_154 0 5 (dk_at dksX4_town_1 3 rfl rfl)
theorem dX4_town_30 : decode cX4_town 30 = .ok (.iconst 0, 1) := dk_3 (dk_at dksX4_town_1 6 rfl rfl)
theorem dX4_town_31 : decode cX4_town 31 = .ok (.ireturn, 1) := dk_172 (dk_at dksX4_town_1 7 rfl rfl)
theorem dX4_town_32 : decode cX4_town 32 = .ok (.aload_n 0, 1) := dk_42 (dk_at dksX4_town_1 8 rfl rfl)
theorem dX4_town_33 : decode cX4_town 33 = .ok (.iconst 0, 1) := dk_3 (dk_at dksX4_town_1 9 rfl rfl)
theorem dX4_town_34 : decode cX4_town 34 = .ok (.putfield 114, 3) := dk_181 0 114 (dk_at dksX4_town_1 10 rfl rfl)
theorem dX4_town_37 : decode cX4_town 37 = .ok (.aload_n 0, 1) := dk_42 (dk_at dksX4_town_1 13 rfl rfl)
theorem dX4_town_38 : decode cX4_town 38 = .ok (.iconst (-1), 1) := dk_2 (dk_at dksX4_town_1 14 rfl rfl)
theorem dX4_town_39 : decode cX4_town 39 = .ok (.putfield 35, 3) := dk_181 0 35 (dk_at dksX4_town_1 15 rfl rfl)
theorem dX4_town_42 : decode cX4_town 42 = .ok (.aload_n 0, 1) := dk_42 (dk_at dksX4_town_1 18 rfl rfl)
theorem dX4_town_43 : decode cX4_town 43 = .ok (.iconst 0, 1) := dk_3 (dk_at dksX4_town_1 19 rfl rfl)
theorem dX4_town_44 : decode cX4_town 44 = .ok (.putfield 167, 3) := dk_181 0 167 (dk_at dksX4_town_1 20 rfl rfl)
theorem dX4_town_47 : decode cX4_town 47 = .ok (.aload_n 0, 1) := dk_42 (dk_at dksX4_town_1 23 rfl rfl)
theorem dX4_town_48 : decode cX4_town 48 = .ok (.iload_n 1, 1) := dk_27 (dk_at dksX4_town_2 0 rfl rfl)
theorem dX4_town_49 : decode cX4_town 49 = .ok (.putfield 121, 3) := dk_181 0 121 (dk_at dksX4_town_2 1 rfl rfl)
theorem dX4_town_52 : decode cX4_town 52 = .ok (.aload_n 0, 1) := dk_42 (dk_at dksX4_town_2 4 rfl rfl)
theorem dX4_town_53 : decode cX4_town 53 = .ok (.iconst 0, 1) := dk_3 (dk_at dksX4_town_2 5 rfl rfl)
theorem dX4_town_54 : decode cX4_town 54 = .ok (.putfield 124, 3) := dk_181 0 124 (dk_at dksX4_town_2 6 rfl rfl)
theorem dX4_town_57 : decode cX4_town 57 = .ok (.aload_n 0, 1) := dk_42 (dk_at dksX4_town_2 9 rfl rfl)
theorem dX4_town_58 : decode cX4_town 58 = .ok (.iconst 0, 1) := dk_3 (dk_at dksX4_town_2 10 rfl rfl)
theorem dX4_town_59 : decode cX4_town 59 = .ok (.putfield 230, 3) := dk_181 0 230 (dk_at dksX4_town_2 11 rfl rfl)
theorem dX4_town_62 : decode cX4_town 62 = .ok (.aload_n 0, 1) := dk_42 (dk_at dksX4_town_2 14 rfl rfl)
theorem dX4_town_63 : decode cX4_town 63 = .ok (.iconst 0, 1) := dk_3 (dk_at dksX4_town_2 15 rfl rfl)
theorem dX4_town_64 : decode cX4_town 64 = .ok (.putfield 237, 3) := dk_181 0 237 (dk_at dksX4_town_2 16 rfl rfl)
theorem dX4_town_67 : decode cX4_town 67 = .ok (.aload_n 0, 1) := dk_42 (dk_at dksX4_town_2 19 rfl rfl)
theorem dX4_town_68 : decode cX4_town 68 = .ok (.iconst 0, 1) := dk_3 (dk_at dksX4_town_2 20 rfl rfl)
theorem dX4_town_69 : decode cX4_town 69 = .ok (.putfield 240, 3) := dk_181 0 240 (dk_at dksX4_town_2 21 rfl rfl)
theorem dX4_town_72 : decode cX4_town 72 = .ok (.aload_n 0, 1) := dk_42 (dk_at dksX4_town_3 0 rfl rfl)
theorem dX4_town_73 : decode cX4_town 73 = .ok (.iconst (-1), 1) := dk_2 (dk_at dksX4_town_3 1 rfl rfl)
theorem dX4_town_74 : decode cX4_town 74 = .ok (.putfield 256, 3) := dk_181 1 0 (dk_at dksX4_town_3 2 rfl rfl)
theorem dX4_town_77 : decode cX4_town 77 = .ok (.aload_n 0, 1) := dk_42 (dk_at dksX4_town_3 5 rfl rfl)
theorem dX4_town_78 : decode cX4_town 78 = .ok (.iconst (-1), 1) := dk_2 (dk_at dksX4_town_3 6 rfl rfl)
theorem dX4_town_79 : decode cX4_town 79 = .ok (.putfield 262, 3) := dk_181 1 6 (dk_at dksX4_town_3 7 rfl rfl)
theorem dX4_town_82 : decode cX4_town 82 = .ok (.iconst 0, 1) := dk_3 (dk_at dksX4_town_3 10 rfl rfl)
theorem dX4_town_83 : decode cX4_town 83 = .ok (.istore_n 2, 1) := dk_61 (dk_at dksX4_town_3 11 rfl rfl)
theorem dX4_town_84 : decode cX4_town 84 = .ok (.iload_n 2, 1) := dk_28 (dk_at dksX4_town_3 12 rfl rfl)
theorem dX4_town_85 : decode cX4_town 85 = .ok (.bipush 43, 2) := dk_16 43 (dk_at dksX4_town_3 13 rfl rfl)
theorem dX4_town_87 : decode cX4_town 87 = .ok (.if_icmp .ge 16, 3) := dk_162 0 16 (dk_at dksX4_town_3 15 rfl rfl)
theorem dX4_town_90 : decode cX4_town 90 = .ok (.aload_n 0, 1) := dk_42 (dk_at dksX4_town_3 18 rfl rfl)
theorem dX4_town_91 : decode cX4_town 91 = .ok (.getfield 53, 3) := dk_180 0 53 (dk_at dksX4_town_3 19 rfl rfl)
theorem dX4_town_94 : decode cX4_town 94 = .ok (.iload_n 2, 1) := dk_28 (dk_at dksX4_town_3 22 rfl rfl)
theorem dX4_town_95 : decode cX4_town 95 = .ok (.iconst 0, 1) := dk_3 (dk_at dksX4_town_3 23 rfl rfl)
theorem dX4_town_96 : decode cX4_town 96 = .ok (.iastore, 1) := dk_79 (dk_at dksX4_town_4 0 rfl rfl)
theorem dX4_town_97 : decode cX4_town 97 = .ok (.iinc 2 1, 3) := dk_132 2 1 (dk_at dksX4_town_4 1 rfl rfl)
theorem dX4_town_100 : decode cX4_town 100 = .ok (.goto (-16), 3) := dk_167 255 240 (dk_at dksX4_town_4 4 rfl rfl)
theorem dX4_town_103 : decode cX4_town 103 = .ok (.aload_n 0, 1) := dk_42 (dk_at dksX4_town_4 7 rfl rfl)
theorem dX4_town_104 : decode cX4_town 104 = .ok (.iconst 0, 1) := dk_3 (dk_at dksX4_town_4 8 rfl rfl)
theorem dX4_town_105 : decode cX4_town 105 = .ok (.putfield 180, 3) := dk_181 0 180 (dk_at dksX4_town_4 9 rfl rfl)
theorem dX4_town_108 : decode cX4_town 108 = .ok (.aload_n 0, 1) := dk_42 (dk_at dksX4_town_4 12 rfl rfl)
theorem dX4_town_109 : decode cX4_town 109 = .ok (.invokevirtual 174, 3) := dk_182 0 174 (dk_at dksX4_town_4 13 rfl rfl)
theorem dX4_town_112 : decode cX4_town 112 = .ok (.aload_n 0, 1) := dk_42 (dk_at dksX4_town_4 16 rfl rfl)
theorem dX4_town_113 : decode cX4_town 113 = .ok (.invokevirtual 170, 3) := dk_182 0 170 (dk_at dksX4_town_4 17 rfl rfl)
theorem dX4_town_116 : decode cX4_town 116 = .ok (.ifCond .eq 17, 3) := dk_153 0 17 (dk_at dksX4_town_4 20 rfl rfl)
theorem dX4_town_119 : decode cX4_town 119 = .ok (.aload_n 0, 1) := dk_42 (dk_at dksX4_town_4 23 rfl rfl)
theorem dX4_town_120 : decode cX4_town 120 = .ok (.getfield 144, 3) := dk_180 0 144 (dk_at dksX4_town_5 0 rfl rfl)
theorem dX4_town_123 : decode cX4_town 123 = .ok (.ifCond .eq 10, 3) := dk_153 0 10 (dk_at dksX4_town_5 3 rfl rfl)
theorem dX4_town_126 : decode cX4_town 126 = .ok (.aload_n 0, 1) := dk_42 (dk_at dksX4_town_5 6 rfl rfl)
theorem dX4_town_127 : decode cX4_town 127 = .ok (.invokevirtual 272, 3) := dk_182 1 16 (dk_at dksX4_town_5 7 rfl rfl)
theorem dX4_town_130 : decode cX4_town 130 = .ok (.goto (-18), 3) := dk_167 255 238 (dk_at dksX4_town_5 10 rfl rfl)
theorem dX4_town_133 : decode cX4_town 133 = .ok (.aload_n 0, 1) := dk_42 (dk_at dksX4_town_5 13 rfl rfl)
theorem dX4_town_134 : decode cX4_town 134 = .ok (.invokevirtual 170, 3) := dk_182 0 170 (dk_at dksX4_town_5 14 rfl rfl)
theorem dX4_town_137 : decode cX4_town 137 = .ok (.ifCond .ne 18, 3) := dk_154 0 18 (dk_at dksX4_town_5 17 rfl rfl)
theorem dX4_town_140 : decode cX4_town 140 = .ok (.aload_n 0, 1) := dk_42 (dk_at dksX4_town_5 20 rfl rfl)
theorem dX4_town_141 : decode cX4_town 141 = .ok (.getfield 38, 3) := dk_180 0 38 (dk_at dksX4_town_5 21 rfl rfl)
theorem dX4_town_144 : decode cX4_town 144 = .ok (.iconst 0, 1) := dk_3 (dk_at dksX4_town_6 0 rfl rfl)
theorem dX4_town_145 : decode cX4_town 145 = .ok (.dup2, 1) := dk_92 (dk_at dksX4_town_6 1 rfl rfl)
theorem dX4_town_146 : decode cX4_town 146 = .ok (.iaload, 1) := dk_46 (dk_at dksX4_town_6 2 rfl rfl)
theorem dX4_town_147 : decode cX4_town 147 = .ok (.iconst 1, 1) := dk_4 (dk_at dksX4_town_6 3 rfl rfl)
theorem dX4_town_148 : decode cX4_town 148 = .ok (.iadd, 1) := dk_96 (dk_at dksX4_town_6 4 rfl rfl)
theorem dX4_town_149 : decode cX4_town 149 = .ok (.iastore, 1) := dk_79 (dk_at dksX4_town_6 5 rfl rfl)
theorem dX4_town_150 : decode cX4_town 150 = .ok (.aload_n 0, 1) := dk_42 (dk_at dksX4_town_6 6 rfl rfl)
theorem dX4_town_151 : decode cX4_town 151 = .ok (.getfield 167, 3) := dk_180 0 167 (dk_at dksX4_town_6 7 rfl rfl)
theorem dX4_town_154 : decode cX4_town 154 = .ok (.ireturn, 1) := dk_172 (dk_at dksX4_town_6 10 rfl rfl)
theorem dX4_town_155 : decode cX4_town 155 = .ok (.aload_n 0, 1) := dk_42 (dk_at dksX4_town_6 11 rfl rfl)
theorem dX4_town_156 : decode cX4_town 156 = .ok (.aload_n 0, 1) := dk_42 (dk_at dksX4_town_6 12 rfl rfl)
theorem dX4_town_157 : decode cX4_town 157 = .ok (.getfield 230, 3) := dk_180 0 230 (dk_at dksX4_town_6 13 rfl rfl)
theorem dX4_town_160 : decode cX4_town 160 = .ok (.putfield 275, 3) := dk_181 1 19 (dk_at dksX4_town_6 16 rfl rfl)
theorem dX4_town_163 : decode cX4_town 163 = .ok (.aload_n 0, 1) := dk_42 (dk_at dksX4_town_6 19 rfl rfl)
theorem dX4_town_164 : decode cX4_town 164 = .ok (.aload_n 0, 1) := dk_42 (dk_at dksX4_town_6 20 rfl rfl)
theorem dX4_town_165 : decode cX4_town 165 = .ok (.getfield 237, 3) := dk_180 0 237 (dk_at dksX4_town_6 21 rfl rfl)
theorem dX4_town_168 : decode cX4_town 168 = .ok (.putfield 278, 3) := dk_181 1 22 (dk_at dksX4_town_7 0 rfl rfl)
theorem dX4_town_171 : decode cX4_town 171 = .ok (.aload_n 0, 1) := dk_42 (dk_at dksX4_town_7 3 rfl rfl)
theorem dX4_town_172 : decode cX4_town 172 = .ok (.aload_n 0, 1) := dk_42 (dk_at dksX4_town_7 4 rfl rfl)
theorem dX4_town_173 : decode cX4_town 173 = .ok (.getfield 240, 3) := dk_180 0 240 (dk_at dksX4_town_7 5 rfl rfl)
theorem dX4_town_176 : decode cX4_town 176 = .ok (.putfield 281, 3) := dk_181 1 25 (dk_at dksX4_town_7 8 rfl rfl)
theorem dX4_town_179 : decode cX4_town 179 = .ok (.aload_n 0, 1) := dk_42 (dk_at dksX4_town_7 11 rfl rfl)
theorem dX4_town_180 : decode cX4_town 180 = .ok (.aload_n 0, 1) := dk_42 (dk_at dksX4_town_7 12 rfl rfl)
theorem dX4_town_181 : decode cX4_town 181 = .ok (.getfield 256, 3) := dk_180 1 0 (dk_at dksX4_town_7 13 rfl rfl)
theorem dX4_town_184 : decode cX4_town 184 = .ok (.putfield 9, 3) := dk_181 0 9 (dk_at dksX4_town_7 16 rfl rfl)
theorem dX4_town_187 : decode cX4_town 187 = .ok (.aload_n 0, 1) := dk_42 (dk_at dksX4_town_7 19 rfl rfl)
theorem dX4_town_188 : decode cX4_town 188 = .ok (.aload_n 0, 1) := dk_42 (dk_at dksX4_town_7 20 rfl rfl)
theorem dX4_town_189 : decode cX4_town 189 = .ok (.getfield 262, 3) := dk_180 1 6 (dk_at dksX4_town_7 21 rfl rfl)
theorem dX4_town_192 : decode cX4_town 192 = .ok (.putfield 13, 3) := dk_181 0 13 (dk_at dksX4_town_8 0 rfl rfl)
theorem dX4_town_195 : decode cX4_town 195 = .ok (.aload_n 0, 1) := dk_42 (dk_at dksX4_town_8 3 rfl rfl)
theorem dX4_town_196 : decode cX4_town 196 = .ok (.aload_n 0, 1) := dk_42 (dk_at dksX4_town_8 4 rfl rfl)
theorem dX4_town_197 : decode cX4_town 197 = .ok (.getfield 41, 3) := dk_180 0 41 (dk_at dksX4_town_8 5 rfl rfl)
theorem dX4_town_200 : decode cX4_town 200 = .ok (.aload_n 0, 1) := dk_42 (dk_at dksX4_town_8 8 rfl rfl)
theorem dX4_town_201 : decode cX4_town 201 = .ok (.getfield 16, 3) := dk_180 0 16 (dk_at dksX4_town_8 9 rfl rfl)
theorem dX4_town_204 : decode cX4_town 204 = .ok (.invokevirtual 284, 3) := dk_182 1 28 (dk_at dksX4_town_8 12 rfl rfl)
theorem dX4_town_207 : decode cX4_town 207 = .ok (.aload_n 0, 1) := dk_42 (dk_at dksX4_town_8 15 rfl rfl)
theorem dX4_town_208 : decode cX4_town 208 = .ok (.aload_n 0, 1) := dk_42 (dk_at dksX4_town_8 16 rfl rfl)
theorem dX4_town_209 : decode cX4_town 209 = .ok (.getfield 44, 3) := dk_180 0 44 (dk_at dksX4_town_8 17 rfl rfl)
theorem dX4_town_212 : decode cX4_town 212 = .ok (.aload_n 0, 1) := dk_42 (dk_at dksX4_town_8 20 rfl rfl)
theorem dX4_town_213 : decode cX4_town 213 = .ok (.getfield 20, 3) := dk_180 0 20 (dk_at dksX4_town_8 21 rfl rfl)
theorem dX4_town_216 : decode cX4_town 216 = .ok (.invokevirtual 284, 3) := dk_182 1 28 (dk_at dksX4_town_9 0 rfl rfl)
theorem dX4_town_219 : decode cX4_town 219 = .ok (.aload_n 0, 1) := dk_42 (dk_at dksX4_town_9 3 rfl rfl)
theorem dX4_town_220 : decode cX4_town 220 = .ok (.aload_n 0, 1) := dk_42 (dk_at dksX4_town_9 4 rfl rfl)
theorem dX4_town_221 : decode cX4_town 221 = .ok (.getfield 47, 3) := dk_180 0 47 (dk_at dksX4_town_9 5 rfl rfl)
theorem dX4_town_224 : decode cX4_town 224 = .ok (.aload_n 0, 1) := dk_42 (dk_at dksX4_town_9 8 rfl rfl)
theorem dX4_town_225 : decode cX4_town 225 = .ok (.getfield 23, 3) := dk_180 0 23 (dk_at dksX4_town_9 9 rfl rfl)
theorem dX4_town_228 : decode cX4_town 228 = .ok (.invokevirtual 284, 3) := dk_182 1 28 (dk_at dksX4_town_9 12 rfl rfl)
theorem dX4_town_231 : decode cX4_town 231 = .ok (.aload_n 0, 1) := dk_42 (dk_at dksX4_town_9 15 rfl rfl)
theorem dX4_town_232 : decode cX4_town 232 = .ok (.aload_n 0, 1) := dk_42 (dk_at dksX4_town_9 16 rfl rfl)
theorem dX4_town_233 : decode cX4_town 233 = .ok (.getfield 50, 3) := dk_180 0 50 (dk_at dksX4_town_9 17 rfl rfl)
theorem dX4_town_236 : decode cX4_town 236 = .ok (.aload_n 0, 1) := dk_42 (dk_at dksX4_town_9 20 rfl rfl)
theorem dX4_town_237 : decode cX4_town 237 = .ok (.getfield 26, 3) := dk_180 0 26 (dk_at dksX4_town_9 21 rfl rfl)
theorem dX4_town_240 : decode cX4_town 240 = .ok (.invokevirtual 284, 3) := dk_182 1 28 (dk_at dksX4_town_10 0 rfl rfl)
theorem dX4_town_243 : decode cX4_town 243 = .ok (.aload_n 0, 1) := dk_42 (dk_at dksX4_town_10 3 rfl rfl)
theorem dX4_town_244 : decode cX4_town 244 = .ok (.aload_n 0, 1) := dk_42 (dk_at dksX4_town_10 4 rfl rfl)
theorem dX4_town_245 : decode cX4_town 245 = .ok (.getfield 56, 3) := dk_180 0 56 (dk_at dksX4_town_10 5 rfl rfl)
theorem dX4_town_248 : decode cX4_town 248 = .ok (.aload_n 0, 1) := dk_42 (dk_at dksX4_town_10 8 rfl rfl)
theorem dX4_town_249 : decode cX4_town 249 = .ok (.getfield 29, 3) := dk_180 0 29 (dk_at dksX4_town_10 9 rfl rfl)
theorem dX4_town_252 : decode cX4_town 252 = .ok (.invokevirtual 284, 3) := dk_182 1 28 (dk_at dksX4_town_10 12 rfl rfl)
theorem dX4_town_255 : decode cX4_town 255 = .ok (.iconst 0, 1) := dk_3 (dk_at dksX4_town_10 15 rfl rfl)
theorem dX4_town_256 : decode cX4_town 256 = .ok (.istore_n 2, 1) := dk_61 (dk_at dksX4_town_10 16 rfl rfl)
theorem dX4_town_257 : decode cX4_town 257 = .ok (.iload_n 2, 1) := dk_28 (dk_at dksX4_town_10 17 rfl rfl)
theorem dX4_town_258 : decode cX4_town 258 = .ok (.bipush 43, 2) := dk_16 43 (dk_at dksX4_town_10 18 rfl rfl)
theorem dX4_town_260 : decode cX4_town 260 = .ok (.if_icmp .ge 21, 3) := dk_162 0 21 (dk_at dksX4_town_10 20 rfl rfl)
theorem dX4_town_263 : decode cX4_town 263 = .ok (.aload_n 0, 1) := dk_42 (dk_at dksX4_town_10 23 rfl rfl)
theorem dX4_town_264 : decode cX4_town 264 = .ok (.getfield 66, 3) := dk_180 0 66 (dk_at dksX4_town_11 0 rfl rfl)
theorem dX4_town_267 : decode cX4_town 267 = .ok (.iload_n 2, 1) := dk_28 (dk_at dksX4_town_11 3 rfl rfl)
theorem dX4_town_268 : decode cX4_town 268 = .ok (.aload_n 0, 1) := dk_42 (dk_at dksX4_town_11 4 rfl rfl)
theorem dX4_town_269 : decode cX4_town 269 = .ok (.getfield 53, 3) := dk_180 0 53 (dk_at dksX4_town_11 5 rfl rfl)
theorem dX4_town_272 : decode cX4_town 272 = .ok (.iload_n 2, 1) := dk_28 (dk_at dksX4_town_11 8 rfl rfl)
theorem dX4_town_273 : decode cX4_town 273 = .ok (.iaload, 1) := dk_46 (dk_at dksX4_town_11 9 rfl rfl)
theorem dX4_town_274 : decode cX4_town 274 = .ok (.iastore, 1) := dk_79 (dk_at dksX4_town_11 10 rfl rfl)
theorem dX4_town_275 : decode cX4_town 275 = .ok (.iinc 2 1, 3) := dk_132 2 1 (dk_at dksX4_town_11 11 rfl rfl)
theorem dX4_town_278 : decode cX4_town 278 = .ok (.goto (-21), 3) := dk_167 255 235 (dk_at dksX4_town_11 14 rfl rfl)
theorem dX4_town_281 : decode cX4_town 281 = .ok (.aload_n 0, 1) := dk_42 (dk_at dksX4_town_11 17 rfl rfl)
theorem dX4_town_282 : decode cX4_town 282 = .ok (.iconst 0, 1) := dk_3 (dk_at dksX4_town_11 18 rfl rfl)
theorem dX4_town_283 : decode cX4_town 283 = .ok (.putfield 288, 3) := dk_181 1 32 (dk_at dksX4_town_11 19 rfl rfl)
theorem dX4_town_286 : decode cX4_town 286 = .ok (.aload_n 0, 1) := dk_42 (dk_at dksX4_town_11 22 rfl rfl)
theorem dX4_town_287 : decode cX4_town 287 = .ok (.iconst 0, 1) := dk_3 (dk_at dksX4_town_11 23 rfl rfl)
theorem dX4_town_288 : decode cX4_town 288 = .ok (.putfield 291, 3) := dk_181 1 35 (dk_at dksX4_town_12 0 rfl rfl)
theorem dX4_town_291 : decode cX4_town 291 = .ok (.aload_n 0, 1) := dk_42 (dk_at dksX4_town_12 3 rfl rfl)
theorem dX4_town_292 : decode cX4_town 292 = .ok (.iconst 0, 1) := dk_3 (dk_at dksX4_town_12 4 rfl rfl)
theorem dX4_town_293 : decode cX4_town 293 = .ok (.putfield 294, 3) := dk_181 1 38 (dk_at dksX4_town_12 5 rfl rfl)
theorem dX4_town_296 : decode cX4_town 296 = .ok (.iconst 0, 1) := dk_3 (dk_at dksX4_town_12 8 rfl rfl)
theorem dX4_town_297 : decode cX4_town 297 = .ok (.ireturn, 1) := dk_172 (dk_at dksX4_town_12 9 rfl rfl)
abbrev cX4_right : ByteArray := prog_12_method_3_code
def yX4_right : MethodName := ⟨RX4, "right", "(ZI)Z"⟩
def dkwX4_right_1 : List UInt8 := [167, 0, 4, 3, 172]
abbrev dktX4_right_1 : List UInt8 := dkwX4_right_1 ++ []
def dkwX4_right_0 : List UInt8 := [42, 180, 0, 111, 154, 0, 12, 27, 154, 0, 8, 42, 28, 181, 0, 111, 42, 180, 0, 111, 154, 0, 7, 4]
abbrev dktX4_right_0 : List UInt8 := dkwX4_right_0 ++ dktX4_right_1
theorem dksX4_right_0 : cX4_right.data.toList.drop 0 = dktX4_right_0 := by decide +kernel
theorem dksX4_right_1 : cX4_right.data.toList.drop 24 = dktX4_right_1 := dk_seg dksX4_right_0 24 rfl rfl
theorem dX4_right_0 : decode cX4_right 0 = .ok (.aload_n 0, 1) := dk_42 (dk_at dksX4_right_0 0 rfl rfl)
theorem dX4_right_1 : decode cX4_right 1 = .ok (.getfield 111, 3) := dk_180 0 111 (dk_at dksX4_right_0 1 rfl rfl)
theorem dX4_right_4 : decode cX4_right 4 = .ok (.ifCond .ne 12, 3) := dk_154 0 12 (dk_at dksX4_right_0 4 rfl rfl)
theorem dX4_right_7 : decode cX4_right 7 = .ok (.iload_n 1, 1) := dk_27 (dk_at dksX4_right_0 7 rfl rfl)
theorem dX4_right_8 : decode cX4_right 8 = .ok (.ifCond .ne 8, 3) := dk_154 0 8 (dk_at dksX4_right_0 8 rfl rfl)
theorem dX4_right_11 : decode cX4_right 11 = .ok (.aload_n 0, 1) := dk_42 (dk_at dksX4_right_0 11 rfl rfl)
theorem dX4_right_12 : decode cX4_right 12 = .ok (.iload_n 2, 1) := dk_28 (dk_at dksX4_right_0 12 rfl rfl)
theorem dX4_right_13 : decode cX4_right 13 = .ok (.putfield 111, 3) := dk_181 0 111 (dk_at dksX4_right_0 13 rfl rfl)
theorem dX4_right_16 : decode cX4_right 16 = .ok (.aload_n 0, 1) := dk_42 (dk_at dksX4_right_0 16 rfl rfl)
theorem dX4_right_17 : decode cX4_right 17 = .ok (.getfield 111, 3) := dk_180 0 111 (dk_at dksX4_right_0 17 rfl rfl)
theorem dX4_right_20 : decode cX4_right 20 = .ok (.ifCond .ne 7, 3) := dk_154 0 7 (dk_at dksX4_right_0 20 rfl rfl)
theorem dX4_right_23 : decode cX4_right 23 = .ok (.iconst 1, 1) := dk_4 (dk_at dksX4_right_0 23 rfl rfl)
theorem dX4_right_24 : decode cX4_right 24 = .ok (.goto 4, 3) := dk_167 0 4 (dk_at dksX4_right_1 0 rfl rfl)
theorem dX4_right_27 : decode cX4_right 27 = .ok (.iconst 0, 1) := dk_3 (dk_at dksX4_right_1 3 rfl rfl)
theorem dX4_right_28 : decode cX4_right 28 = .ok (.ireturn, 1) := dk_172 (dk_at dksX4_right_1 4 rfl rfl)
abbrev cX4_takes : ByteArray := prog_12_method_15_code
def yX4_takes : MethodName := ⟨RX4, "takes", "()V"⟩
def dkwX4_takes_14 : List UInt8 := [167, 0, 4, 7, 181, 0, 144, 42, 42, 180, 0, 124, 42, 180, 0, 131, 100, 181, 0, 154, 177]
abbrev dktX4_takes_14 : List UInt8 := dkwX4_takes_14 ++ []
def dkwX4_takes_13 : List UInt8 := [16, 42, 159, 0, 21, 27, 16, 47, 159, 0, 15, 27, 16, 60, 159, 0, 9, 27, 16, 61, 160, 0, 7, 6]
abbrev dktX4_takes_13 : List UInt8 := dkwX4_takes_13 ++ dktX4_takes_14
def dkwX4_takes_12 : List UInt8 := [16, 40, 159, 0, 45, 27, 16, 41, 159, 0, 39, 27, 16, 43, 159, 0, 33, 27, 16, 45, 159, 0, 27, 27]
abbrev dktX4_takes_12 : List UInt8 := dkwX4_takes_12 ++ dktX4_takes_13
def dkwX4_takes_11 : List UInt8 := [181, 0, 144, 167, 0, 76, 42, 89, 180, 0, 124, 4, 96, 181, 0, 124, 42, 27, 16, 59, 159, 0, 51, 27]
abbrev dktX4_takes_11 : List UInt8 := dkwX4_takes_11 ++ dktX4_takes_12
def dkwX4_takes_10 : List UInt8 := [96, 16, 48, 100, 181, 0, 138, 42, 89, 180, 0, 124, 4, 96, 181, 0, 124, 167, 255, 196, 42, 5]
abbrev dktX4_takes_10 : List UInt8 := dkwX4_takes_10 ++ dktX4_takes_11
def dkwX4_takes_9 : List UInt8 := [180, 0, 131, 100, 7, 162, 0, 26, 42, 16, 10, 42, 180, 0, 138, 104, 42, 42, 180, 0, 124, 182, 0, 127]
abbrev dktX4_takes_9 : List UInt8 := dkwX4_takes_9 ++ dktX4_takes_10
def dkwX4_takes_8 : List UInt8 := [153, 0, 74, 42, 42, 180, 0, 124, 182, 0, 127, 184, 0, 151, 153, 0, 52, 42, 180, 0, 124, 42]
abbrev dktX4_takes_8 : List UInt8 := dkwX4_takes_8 ++ dktX4_takes_9
def dkwX4_takes_7 : List UInt8 := [180, 0, 124, 4, 96, 181, 0, 124, 167, 255, 195, 42, 4, 181, 0, 144, 167, 0, 154, 27, 184, 0, 151]
abbrev dktX4_takes_7 : List UInt8 := dkwX4_takes_7 ++ dktX4_takes_8
def dkwX4_takes_6 : List UInt8 := [180, 0, 134, 8, 121, 42, 42, 180, 0, 124, 182, 0, 127, 16, 96, 100, 133, 129, 181, 0, 134, 42, 89]
abbrev dktX4_takes_6 : List UInt8 := dkwX4_takes_6 ++ dktX4_takes_7
def dkwX4_takes_5 : List UInt8 := [184, 0, 147, 153, 0, 53, 42, 180, 0, 124, 42, 180, 0, 131, 100, 16, 6, 162, 0, 26, 42, 42]
abbrev dktX4_takes_5 : List UInt8 := dkwX4_takes_5 ++ dktX4_takes_6
def dkwX4_takes_4 : List UInt8 := [3, 181, 0, 144, 167, 0, 233, 27, 184, 0, 147, 153, 0, 75, 42, 42, 180, 0, 124, 182, 0, 127]
abbrev dktX4_takes_4 : List UInt8 := dkwX4_takes_4 ++ dktX4_takes_5
def dkwX4_takes_3 : List UInt8 := [180, 0, 124, 182, 0, 127, 60, 42, 27, 181, 0, 141, 42, 180, 0, 124, 42, 180, 0, 121, 161, 0, 11, 42]
abbrev dktX4_takes_3 : List UInt8 := dkwX4_takes_3 ++ dktX4_takes_4
def dkwX4_takes_2 : List UInt8 := [167, 255, 209, 42, 42, 180, 0, 124, 181, 0, 131, 42, 9, 181, 0, 134, 42, 3, 181, 0, 138, 42, 42]
abbrev dktX4_takes_2 : List UInt8 := dkwX4_takes_2 ++ dktX4_takes_3
def dkwX4_takes_1 : List UInt8 := [42, 42, 180, 0, 124, 182, 0, 127, 16, 10, 160, 0, 16, 42, 89, 180, 0, 124, 4, 96, 181, 0, 124]
abbrev dktX4_takes_1 : List UInt8 := dkwX4_takes_1 ++ dktX4_takes_2
def dkwX4_takes_0 : List UInt8 := [42, 180, 0, 124, 42, 180, 0, 121, 162, 0, 42, 42, 42, 180, 0, 124, 182, 0, 127, 16, 32, 159, 0, 16]
abbrev dktX4_takes_0 : List UInt8 := dkwX4_takes_0 ++ dktX4_takes_1
theorem dksX4_takes_0 : cX4_takes.data.toList.drop 0 = dktX4_takes_0 := by decide +kernel
theorem dksX4_takes_1 : cX4_takes.data.toList.drop 24 = dktX4_takes_1 := dk_seg dksX4_takes_0 24 rfl rfl
theorem dksX4_takes_2 : cX4_takes.data.toList.drop 47 = dktX4_takes_2 := dk_seg dksX4_takes_1 23 rfl rfl
theorem dksX4_takes_3 : cX4_takes.data.toList.drop 70 = dktX4_takes_3 := dk_seg dksX4_takes_2 23 rfl rfl
theorem dksX4_takes_4 : cX4_takes.data.toList.drop 94 = dktX4_takes_4 := dk_seg dksX4_takes_3 24 rfl rfl
theorem dksX4_takes_5 : cX4_takes.data.toList.drop 116 = dktX4_takes_5 := dk_seg dksX4_takes_4 22 rfl rfl
theorem dksX4_takes_6 : cX4_takes.data.toList.drop 138 = dktX4_takes_6 := dk_seg dksX4_takes_5 22 rfl rfl
theorem dksX4_takes_7 : cX4_takes.data.toList.drop 161 = dktX4_takes_7 := dk_seg dksX4_takes_6 23 rfl rfl
theorem dksX4_takes_8 : cX4_takes.data.toList.drop 184 = dktX4_takes_8 := dk_seg dksX4_takes_7 23 rfl rfl
theorem dksX4_takes_9 : cX4_takes.data.toList.drop 206 = dktX4_takes_9 := dk_seg dksX4_takes_8 22 rfl rfl
theorem dksX4_takes_10 : cX4_takes.data.toList.drop 230 = dktX4_takes_10 := dk_seg dksX4_takes_9 24 rfl rfl
theorem dksX4_takes_11 : cX4_takes.data.toList.drop 252 = dktX4_takes_11 := dk_seg dksX4_takes_10 22 rfl rfl
theorem dksX4_takes_12 : cX4_takes.data.toList.drop 276 = dktX4_takes_12 := dk_seg dksX4_takes_11 24 rfl rfl
theorem dksX4_takes_13 : cX4_takes.data.toList.drop 300 = dktX4_takes_13 := dk_seg dksX4_takes_12 24 rfl rfl
theorem dksX4_takes_14 : cX4_takes.data.toList.drop 324 = dktX4_takes_14 := dk_seg dksX4_takes_13 24 rfl rfl
theorem dX4_takes_0 : decode cX4_takes 0 = .ok (.aload_n 0, 1) := dk_42 (dk_at dksX4_takes_0 0 rfl rfl)
theorem dX4_takes_1 : decode cX4_takes 1 = .ok (.getfield 124, 3) := dk_180 0 124 (dk_at dksX4_takes_0 1 rfl rfl)
theorem dX4_takes_4 : decode cX4_takes 4 = .ok (.aload_n 0, 1) := dk_42 (dk_at dksX4_takes_0 4 rfl rfl)
theorem dX4_takes_5 : decode cX4_takes 5 = .ok (.getfield 121, 3) := dk_180 0 121 (dk_at dksX4_takes_0 5 rfl rfl)
theorem dX4_takes_8 : decode cX4_takes 8 = .ok (.if_icmp .ge 42, 3) := dk_162 0 42 (dk_at dksX4_takes_0 8 rfl rfl)
theorem dX4_takes_11 : decode cX4_takes 11 = .ok (.aload_n 0, 1) := dk_42 (dk_at dksX4_takes_0 11 rfl rfl)
theorem dX4_takes_12 : decode cX4_takes 12 = .ok (.aload_n 0, 1) := dk_42 (dk_at dksX4_takes_0 12 rfl rfl)
theorem dX4_takes_13 : decode cX4_takes 13 = .ok (.getfield 124, 3) := dk_180 0 124 (dk_at dksX4_takes_0 13 rfl rfl)
theorem dX4_takes_16 : decode cX4_takes 16 = .ok (.invokevirtual 127, 3) := dk_182 0 127 (dk_at dksX4_takes_0 16 rfl rfl)
theorem dX4_takes_19 : decode cX4_takes 19 = .ok (.bipush 32, 2) := dk_16 32 (dk_at dksX4_takes_0 19 rfl rfl)
theorem dX4_takes_21 : decode cX4_takes 21 = .ok (.if_icmp .eq 16, 3) := dk_159 0 16 (dk_at dksX4_takes_0 21 rfl rfl)
theorem dX4_takes_24 : decode cX4_takes 24 = .ok (.aload_n 0, 1) := dk_42 (dk_at dksX4_takes_1 0 rfl rfl)
theorem dX4_takes_25 : decode cX4_takes 25 = .ok (.aload_n 0, 1) := dk_42 (dk_at dksX4_takes_1 1 rfl rfl)
theorem dX4_takes_26 : decode cX4_takes 26 = .ok (.getfield 124, 3) := dk_180 0 124 (dk_at dksX4_takes_1 2 rfl rfl)
theorem dX4_takes_29 : decode cX4_takes 29 = .ok (.invokevirtual 127, 3) := dk_182 0 127 (dk_at dksX4_takes_1 5 rfl rfl)
theorem dX4_takes_32 : decode cX4_takes 32 = .ok (.bipush 10, 2) := dk_16 10 (dk_at dksX4_takes_1 8 rfl rfl)
theorem dX4_takes_34 : decode cX4_takes 34 = .ok (.if_icmp .ne 16, 3) := dk_160 0 16 (dk_at dksX4_takes_1 10 rfl rfl)
theorem dX4_takes_37 : decode cX4_takes 37 = .ok (.aload_n 0, 1) := dk_42 (dk_at dksX4_takes_1 13 rfl rfl)
theorem dX4_takes_38 : decode cX4_takes 38 = .ok (.dup, 1) := dk_89 (dk_at dksX4_takes_1 14 rfl rfl)
theorem dX4_takes_39 : decode cX4_takes 39 = .ok (.getfield 124, 3) := dk_180 0 124 (dk_at dksX4_takes_1 15 rfl rfl)
theorem dX4_takes_42 : decode cX4_takes 42 = .ok (.iconst 1, 1) := dk_4 (dk_at dksX4_takes_1 18 rfl rfl)
theorem dX4_takes_43 : decode cX4_takes 43 = .ok (.iadd, 1) := dk_96 (dk_at dksX4_takes_1 19 rfl rfl)
theorem dX4_takes_44 : decode cX4_takes 44 = .ok (.putfield 124, 3) := dk_181 0 124 (dk_at dksX4_takes_1 20 rfl rfl)
theorem dX4_takes_47 : decode cX4_takes 47 = .ok (.goto (-47), 3) := dk_167 255 209 (dk_at dksX4_takes_2 0 rfl rfl)
theorem dX4_takes_50 : decode cX4_takes 50 = .ok (.aload_n 0, 1) := dk_42 (dk_at dksX4_takes_2 3 rfl rfl)
theorem dX4_takes_51 : decode cX4_takes 51 = .ok (.aload_n 0, 1) := dk_42 (dk_at dksX4_takes_2 4 rfl rfl)
theorem dX4_takes_52 : decode cX4_takes 52 = .ok (.getfield 124, 3) := dk_180 0 124 (dk_at dksX4_takes_2 5 rfl rfl)
theorem dX4_takes_55 : decode cX4_takes 55 = .ok (.putfield 131, 3) := dk_181 0 131 (dk_at dksX4_takes_2 8 rfl rfl)
theorem dX4_takes_58 : decode cX4_takes 58 = .ok (.aload_n 0, 1) := dk_42 (dk_at dksX4_takes_2 11 rfl rfl)
theorem dX4_takes_59 : decode cX4_takes 59 = .ok (.lconst 0, 1) := dk_9 (dk_at dksX4_takes_2 12 rfl rfl)
theorem dX4_takes_60 : decode cX4_takes 60 = .ok (.putfield 134, 3) := dk_181 0 134 (dk_at dksX4_takes_2 13 rfl rfl)
theorem dX4_takes_63 : decode cX4_takes 63 = .ok (.aload_n 0, 1) := dk_42 (dk_at dksX4_takes_2 16 rfl rfl)
theorem dX4_takes_64 : decode cX4_takes 64 = .ok (.iconst 0, 1) := dk_3 (dk_at dksX4_takes_2 17 rfl rfl)
theorem dX4_takes_65 : decode cX4_takes 65 = .ok (.putfield 138, 3) := dk_181 0 138 (dk_at dksX4_takes_2 18 rfl rfl)
theorem dX4_takes_68 : decode cX4_takes 68 = .ok (.aload_n 0, 1) := dk_42 (dk_at dksX4_takes_2 21 rfl rfl)
theorem dX4_takes_69 : decode cX4_takes 69 = .ok (.aload_n 0, 1) := dk_42 (dk_at dksX4_takes_2 22 rfl rfl)
theorem dX4_takes_70 : decode cX4_takes 70 = .ok (.getfield 124, 3) := dk_180 0 124 (dk_at dksX4_takes_3 0 rfl rfl)
theorem dX4_takes_73 : decode cX4_takes 73 = .ok (.invokevirtual 127, 3) := dk_182 0 127 (dk_at dksX4_takes_3 3 rfl rfl)
theorem dX4_takes_76 : decode cX4_takes 76 = .ok (.istore_n 1, 1) := dk_60 (dk_at dksX4_takes_3 6 rfl rfl)
theorem dX4_takes_77 : decode cX4_takes 77 = .ok (.aload_n 0, 1) := dk_42 (dk_at dksX4_takes_3 7 rfl rfl)
theorem dX4_takes_78 : decode cX4_takes 78 = .ok (.iload_n 1, 1) := dk_27 (dk_at dksX4_takes_3 8 rfl rfl)
theorem dX4_takes_79 : decode cX4_takes 79 = .ok (.putfield 141, 3) := dk_181 0 141 (dk_at dksX4_takes_3 9 rfl rfl)
theorem dX4_takes_82 : decode cX4_takes 82 = .ok (.aload_n 0, 1) := dk_42 (dk_at dksX4_takes_3 12 rfl rfl)
theorem dX4_takes_83 : decode cX4_takes 83 = .ok (.getfield 124, 3) := dk_180 0 124 (dk_at dksX4_takes_3 13 rfl rfl)
theorem dX4_takes_86 : decode cX4_takes 86 = .ok (.aload_n 0, 1) := dk_42 (dk_at dksX4_takes_3 16 rfl rfl)
theorem dX4_takes_87 : decode cX4_takes 87 = .ok (.getfield 121, 3) := dk_180 0 121 (dk_at dksX4_takes_3 17 rfl rfl)
theorem dX4_takes_90 : decode cX4_takes 90 = .ok (.if_icmp .lt 11, 3) := dk_161 0 11 (dk_at dksX4_takes_3 20 rfl rfl)
theorem dX4_takes_93 : decode cX4_takes 93 = .ok (.aload_n 0, 1) := dk_42 (dk_at dksX4_takes_3 23 rfl rfl)
theorem dX4_takes_94 : decode cX4_takes 94 = .ok (.iconst 0, 1) := dk_3 (dk_at dksX4_takes_4 0 rfl rfl)
theorem dX4_takes_95 : decode cX4_takes 95 = .ok (.putfield 144, 3) := dk_181 0 144 (dk_at dksX4_takes_4 1 rfl rfl)
theorem dX4_takes_98 : decode cX4_takes 98 = .ok (.goto 233, 3) := dk_167 0 233 (dk_at dksX4_takes_4 4 rfl rfl)
theorem dX4_takes_101 : decode cX4_takes 101 = .ok (.iload_n 1, 1) := dk_27 (dk_at dksX4_takes_4 7 rfl rfl)
theorem dX4_takes_102 : decode cX4_takes 102 = .ok (.invokestatic 147, 3) := dk_184 0 147 (dk_at dksX4_takes_4 8 rfl rfl)
theorem dX4_takes_105 : decode cX4_takes 105 = .ok (.ifCond .eq 75, 3) := dk_153 0 75 (dk_at dksX4_takes_4 11 rfl rfl)
theorem dX4_takes_108 : decode cX4_takes 108 = .ok (.aload_n 0, 1) := dk_42 (dk_at dksX4_takes_4 14 rfl rfl)
theorem dX4_takes_109 : decode cX4_takes 109 = .ok (.aload_n 0, 1) := dk_42 (dk_at dksX4_takes_4 15 rfl rfl)
theorem dX4_takes_110 : decode cX4_takes 110 = .ok (.getfield 124, 3) := dk_180 0 124 (dk_at dksX4_takes_4 16 rfl rfl)
theorem dX4_takes_113 : decode cX4_takes 113 = .ok (.invokevirtual 127, 3) := dk_182 0 127 (dk_at dksX4_takes_4 19 rfl rfl)
theorem dX4_takes_116 : decode cX4_takes 116 = .ok (.invokestatic 147, 3) := dk_184 0 147 (dk_at dksX4_takes_5 0 rfl rfl)
theorem dX4_takes_119 : decode cX4_takes 119 = .ok (.ifCond .eq 53, 3) := dk_153 0 53 (dk_at dksX4_takes_5 3 rfl rfl)
theorem dX4_takes_122 : decode cX4_takes 122 = .ok (.aload_n 0, 1) := dk_42 (dk_at dksX4_takes_5 6 rfl rfl)
theorem dX4_takes_123 : decode cX4_takes 123 = .ok (.getfield 124, 3) := dk_180 0 124 (dk_at dksX4_takes_5 7 rfl rfl)
theorem dX4_takes_126 : decode cX4_takes 126 = .ok (.aload_n 0, 1) := dk_42 (dk_at dksX4_takes_5 10 rfl rfl)
theorem dX4_takes_127 : decode cX4_takes 127 = .ok (.getfield 131, 3) := dk_180 0 131 (dk_at dksX4_takes_5 11 rfl rfl)
theorem dX4_takes_130 : decode cX4_takes 130 = .ok (.isub, 1) := dk_100 (dk_at dksX4_takes_5 14 rfl rfl)
theorem dX4_takes_131 : decode cX4_takes 131 = .ok (.bipush 6, 2) := dk_16 6 (dk_at dksX4_takes_5 15 rfl rfl)
theorem dX4_takes_133 : decode cX4_takes 133 = .ok (.if_icmp .ge 26, 3) := dk_162 0 26 (dk_at dksX4_takes_5 17 rfl rfl)
theorem dX4_takes_136 : decode cX4_takes 136 = .ok (.aload_n 0, 1) := dk_42 (dk_at dksX4_takes_5 20 rfl rfl)
theorem dX4_takes_137 : decode cX4_takes 137 = .ok (.aload_n 0, 1) := dk_42 (dk_at dksX4_takes_5 21 rfl rfl)
theorem dX4_takes_138 : decode cX4_takes 138 = .ok (.getfield 134, 3) := dk_180 0 134 (dk_at dksX4_takes_6 0 rfl rfl)
theorem dX4_takes_141 : decode cX4_takes 141 = .ok (.iconst 5, 1) := dk_8 (dk_at dksX4_takes_6 3 rfl rfl)
theorem dX4_takes_142 : decode cX4_takes 142 = .ok (.lshl, 1) := dk_121 (dk_at dksX4_takes_6 4 rfl rfl)
theorem dX4_takes_143 : decode cX4_takes 143 = .ok (.aload_n 0, 1) := dk_42 (dk_at dksX4_takes_6 5 rfl rfl)
theorem dX4_takes_144 : decode cX4_takes 144 = .ok (.aload_n 0, 1) := dk_42 (dk_at dksX4_takes_6 6 rfl rfl)
theorem dX4_takes_145 : decode cX4_takes 145 = .ok (.getfield 124, 3) := dk_180 0 124 (dk_at dksX4_takes_6 7 rfl rfl)
theorem dX4_takes_148 : decode cX4_takes 148 = .ok (.invokevirtual 127, 3) := dk_182 0 127 (dk_at dksX4_takes_6 10 rfl rfl)
theorem dX4_takes_151 : decode cX4_takes 151 = .ok (.bipush 96, 2) := dk_16 96 (dk_at dksX4_takes_6 13 rfl rfl)
theorem dX4_takes_153 : decode cX4_takes 153 = .ok (.isub, 1) := dk_100 (dk_at dksX4_takes_6 15 rfl rfl)
theorem dX4_takes_154 : decode cX4_takes 154 = .ok (.i2l, 1) := dk_133 (dk_at dksX4_takes_6 16 rfl rfl)
theorem dX4_takes_155 : decode cX4_takes 155 = .ok (.lor, 1) := dk_129 (dk_at dksX4_takes_6 17 rfl rfl)
theorem dX4_takes_156 : decode cX4_takes 156 = .ok (.putfield 134, 3) := dk_181 0 134 (dk_at dksX4_takes_6 18 rfl rfl)
theorem dX4_takes_159 : decode cX4_takes 159 = .ok (.aload_n 0, 1) := dk_42 (dk_at dksX4_takes_6 21 rfl rfl)
theorem dX4_takes_160 : decode cX4_takes 160 = .ok (.dup, 1) := dk_89 (dk_at dksX4_takes_6 22 rfl rfl)
theorem dX4_takes_161 : decode cX4_takes 161 = .ok (.getfield 124, 3) := dk_180 0 124 (dk_at dksX4_takes_7 0 rfl rfl)
theorem dX4_takes_164 : decode cX4_takes 164 = .ok (.iconst 1, 1) := dk_4 (dk_at dksX4_takes_7 3 rfl rfl)
theorem dX4_takes_165 : decode cX4_takes 165 = .ok (.iadd, 1) := dk_96 (dk_at dksX4_takes_7 4 rfl rfl)
theorem dX4_takes_166 : decode cX4_takes 166 = .ok (.putfield 124, 3) := dk_181 0 124 (dk_at dksX4_takes_7 5 rfl rfl)
theorem dX4_takes_169 : decode cX4_takes 169 = .ok (.goto (-61), 3) := dk_167 255 195 (dk_at dksX4_takes_7 8 rfl rfl)
theorem dX4_takes_172 : decode cX4_takes 172 = .ok (.aload_n 0, 1) := dk_42 (dk_at dksX4_takes_7 11 rfl rfl)
theorem dX4_takes_173 : decode cX4_takes 173 = .ok (.iconst 1, 1) := dk_4 (dk_at dksX4_takes_7 12 rfl rfl)
theorem dX4_takes_174 : decode cX4_takes 174 = .ok (.putfield 144, 3) := dk_181 0 144 (dk_at dksX4_takes_7 13 rfl rfl)
theorem dX4_takes_177 : decode cX4_takes 177 = .ok (.goto 154, 3) := dk_167 0 154 (dk_at dksX4_takes_7 16 rfl rfl)
theorem dX4_takes_180 : decode cX4_takes 180 = .ok (.iload_n 1, 1) := dk_27 (dk_at dksX4_takes_7 19 rfl rfl)
theorem dX4_takes_181 : decode cX4_takes 181 = .ok (.invokestatic 151, 3) := dk_184 0 151 (dk_at dksX4_takes_7 20 rfl rfl)
theorem dX4_takes_184 : decode cX4_takes 184 = .ok (.ifCond .eq 74, 3) := dk_153 0 74 (dk_at dksX4_takes_8 0 rfl rfl)
theorem dX4_takes_187 : decode cX4_takes 187 = .ok (.aload_n 0, 1) := dk_42 (dk_at dksX4_takes_8 3 rfl rfl)
theorem dX4_takes_188 : decode cX4_takes 188 = .ok (.aload_n 0, 1) := dk_42 (dk_at dksX4_takes_8 4 rfl rfl)
theorem dX4_takes_189 : decode cX4_takes 189 = .ok (.getfield 124, 3) := dk_180 0 124 (dk_at dksX4_takes_8 5 rfl rfl)
theorem dX4_takes_192 : decode cX4_takes 192 = .ok (.invokevirtual 127, 3) := dk_182 0 127 (dk_at dksX4_takes_8 8 rfl rfl)
theorem dX4_takes_195 : decode cX4_takes 195 = .ok (.invokestatic 151, 3) := dk_184 0 151 (dk_at dksX4_takes_8 11 rfl rfl)
theorem dX4_takes_198 : decode cX4_takes 198 = .ok (.ifCond .eq 52, 3) := dk_153 0 52 (dk_at dksX4_takes_8 14 rfl rfl)
theorem dX4_takes_201 : decode cX4_takes 201 = .ok (.aload_n 0, 1) := dk_42 (dk_at dksX4_takes_8 17 rfl rfl)
theorem dX4_takes_202 : decode cX4_takes 202 = .ok (.getfield 124, 3) := dk_180 0 124 (dk_at dksX4_takes_8 18 rfl rfl)
theorem dX4_takes_205 : decode cX4_takes 205 = .ok (.aload_n 0, 1) := dk_42 (dk_at dksX4_takes_8 21 rfl rfl)
theorem dX4_takes_206 : decode cX4_takes 206 = .ok (.getfield 131, 3) := dk_180 0 131 (dk_at dksX4_takes_9 0 rfl rfl)
theorem dX4_takes_209 : decode cX4_takes 209 = .ok (.isub, 1) := dk_100 (dk_at dksX4_takes_9 3 rfl rfl)
theorem dX4_takes_210 : decode cX4_takes 210 = .ok (.iconst 4, 1) := dk_7 (dk_at dksX4_takes_9 4 rfl rfl)
theorem dX4_takes_211 : decode cX4_takes 211 = .ok (.if_icmp .ge 26, 3) := dk_162 0 26 (dk_at dksX4_takes_9 5 rfl rfl)
theorem dX4_takes_214 : decode cX4_takes 214 = .ok (.aload_n 0, 1) := dk_42 (dk_at dksX4_takes_9 8 rfl rfl)
theorem dX4_takes_215 : decode cX4_takes 215 = .ok (.bipush 10, 2) := dk_16 10 (dk_at dksX4_takes_9 9 rfl rfl)
theorem dX4_takes_217 : decode cX4_takes 217 = .ok (.aload_n 0, 1) := dk_42 (dk_at dksX4_takes_9 11 rfl rfl)
theorem dX4_takes_218 : decode cX4_takes 218 = .ok (.getfield 138, 3) := dk_180 0 138 (dk_at dksX4_takes_9 12 rfl rfl)
theorem dX4_takes_221 : decode cX4_takes 221 = .ok (.imul, 1) := dk_104 (dk_at dksX4_takes_9 15 rfl rfl)
theorem dX4_takes_222 : decode cX4_takes 222 = .ok (.aload_n 0, 1) := dk_42 (dk_at dksX4_takes_9 16 rfl rfl)
theorem dX4_takes_223 : decode cX4_takes 223 = .ok (.aload_n 0, 1) := dk_42 (dk_at dksX4_takes_9 17 rfl rfl)
theorem dX4_takes_224 : decode cX4_takes 224 = .ok (.getfield 124, 3) := dk_180 0 124 (dk_at dksX4_takes_9 18 rfl rfl)
theorem dX4_takes_227 : decode cX4_takes 227 = .ok (.invokevirtual 127, 3) := dk_182 0 127 (dk_at dksX4_takes_9 21 rfl rfl)
theorem dX4_takes_230 : decode cX4_takes 230 = .ok (.iadd, 1) := dk_96 (dk_at dksX4_takes_10 0 rfl rfl)
theorem dX4_takes_231 : decode cX4_takes 231 = .ok (.bipush 48, 2) := dk_16 48 (dk_at dksX4_takes_10 1 rfl rfl)
theorem dX4_takes_233 : decode cX4_takes 233 = .ok (.isub, 1) := dk_100 (dk_at dksX4_takes_10 3 rfl rfl)
theorem dX4_takes_234 : decode cX4_takes 234 = .ok (.putfield 138, 3) := dk_181 0 138 (dk_at dksX4_takes_10 4 rfl rfl)
theorem dX4_takes_237 : decode cX4_takes 237 = .ok (.aload_n 0, 1) := dk_42 (dk_at dksX4_takes_10 7 rfl rfl)
theorem dX4_takes_238 : decode cX4_takes 238 = .ok (.dup, 1) := dk_89 (dk_at dksX4_takes_10 8 rfl rfl)
theorem dX4_takes_239 : decode cX4_takes 239 = .ok (.getfield 124, 3) := dk_180 0 124 (dk_at dksX4_takes_10 9 rfl rfl)
theorem dX4_takes_242 : decode cX4_takes 242 = .ok (.iconst 1, 1) := dk_4 (dk_at dksX4_takes_10 12 rfl rfl)
theorem dX4_takes_243 : decode cX4_takes 243 = .ok (.iadd, 1) := dk_96 (dk_at dksX4_takes_10 13 rfl rfl)
theorem dX4_takes_244 : decode cX4_takes 244 = .ok (.putfield 124, 3) := dk_181 0 124 (dk_at dksX4_takes_10 14 rfl rfl)
theorem dX4_takes_247 : decode cX4_takes 247 = .ok (.goto (-60), 3) := dk_167 255 196 (dk_at dksX4_takes_10 17 rfl rfl)
theorem dX4_takes_250 : decode cX4_takes 250 = .ok (.aload_n 0, 1) := dk_42 (dk_at dksX4_takes_10 20 rfl rfl)
theorem dX4_takes_251 : decode cX4_takes 251 = .ok (.iconst 2, 1) := dk_5 (dk_at dksX4_takes_10 21 rfl rfl)
theorem dX4_takes_252 : decode cX4_takes 252 = .ok (.putfield 144, 3) := dk_181 0 144 (dk_at dksX4_takes_11 0 rfl rfl)
theorem dX4_takes_255 : decode cX4_takes 255 = .ok (.goto 76, 3) := dk_167 0 76 (dk_at dksX4_takes_11 3 rfl rfl)
theorem dX4_takes_258 : decode cX4_takes 258 = .ok (.aload_n 0, 1) := dk_42 (dk_at dksX4_takes_11 6 rfl rfl)
theorem dX4_takes_259 : decode cX4_takes 259 = .ok (.dup, 1) := dk_89 (dk_at dksX4_takes_11 7 rfl rfl)
theorem dX4_takes_260 : decode cX4_takes 260 = .ok (.getfield 124, 3) := dk_180 0 124 (dk_at dksX4_takes_11 8 rfl rfl)
theorem dX4_takes_263 : decode cX4_takes 263 = .ok (.iconst 1, 1) := dk_4 (dk_at dksX4_takes_11 11 rfl rfl)
theorem dX4_takes_264 : decode cX4_takes 264 = .ok (.iadd, 1) := dk_96 (dk_at dksX4_takes_11 12 rfl rfl)
theorem dX4_takes_265 : decode cX4_takes 265 = .ok (.putfield 124, 3) := dk_181 0 124 (dk_at dksX4_takes_11 13 rfl rfl)
theorem dX4_takes_268 : decode cX4_takes 268 = .ok (.aload_n 0, 1) := dk_42 (dk_at dksX4_takes_11 16 rfl rfl)
theorem dX4_takes_269 : decode cX4_takes 269 = .ok (.iload_n 1, 1) := dk_27 (dk_at dksX4_takes_11 17 rfl rfl)
theorem dX4_takes_270 : decode cX4_takes 270 = .ok (.bipush 59, 2) := dk_16 59 (dk_at dksX4_takes_11 18 rfl rfl)
theorem dX4_takes_272 : decode cX4_takes 272 = .ok (.if_icmp .eq 51, 3) := dk_159 0 51 (dk_at dksX4_takes_11 20 rfl rfl)
theorem dX4_takes_275 : decode cX4_takes 275 = .ok (.iload_n 1, 1) := dk_27 (dk_at dksX4_takes_11 23 rfl rfl)
theorem dX4_takes_276 : decode cX4_takes 276 = .ok (.bipush 40, 2) := dk_16 40 (dk_at dksX4_takes_12 0 rfl rfl)
theorem dX4_takes_278 : decode cX4_takes 278 = .ok (.if_icmp .eq 45, 3) := dk_159 0 45 (dk_at dksX4_takes_12 2 rfl rfl)
theorem dX4_takes_281 : decode cX4_takes 281 = .ok (.iload_n 1, 1) := dk_27 (dk_at dksX4_takes_12 5 rfl rfl)
theorem dX4_takes_282 : decode cX4_takes 282 = .ok (.bipush 41, 2) := dk_16 41 (dk_at dksX4_takes_12 6 rfl rfl)
theorem dX4_takes_284 : decode cX4_takes 284 = .ok (.if_icmp .eq 39, 3) := dk_159 0 39 (dk_at dksX4_takes_12 8 rfl rfl)
theorem dX4_takes_287 : decode cX4_takes 287 = .ok (.iload_n 1, 1) := dk_27 (dk_at dksX4_takes_12 11 rfl rfl)
theorem dX4_takes_288 : decode cX4_takes 288 = .ok (.bipush 43, 2) := dk_16 43 (dk_at dksX4_takes_12 12 rfl rfl)
theorem dX4_takes_290 : decode cX4_takes 290 = .ok (.if_icmp .eq 33, 3) := dk_159 0 33 (dk_at dksX4_takes_12 14 rfl rfl)
theorem dX4_takes_293 : decode cX4_takes 293 = .ok (.iload_n 1, 1) := dk_27 (dk_at dksX4_takes_12 17 rfl rfl)
theorem dX4_takes_294 : decode cX4_takes 294 = .ok (.bipush 45, 2) := dk_16 45 (dk_at dksX4_takes_12 18 rfl rfl)
theorem dX4_takes_296 : decode cX4_takes 296 = .ok (.if_icmp .eq 27, 3) := dk_159 0 27 (dk_at dksX4_takes_12 20 rfl rfl)
theorem dX4_takes_299 : decode cX4_takes 299 = .ok (.iload_n 1, 1) := dk_27 (dk_at dksX4_takes_12 23 rfl rfl)
theorem dX4_takes_300 : decode cX4_takes 300 = .ok (.bipush 42, 2) := dk_16 42 (dk_at dksX4_takes_13 0 rfl rfl)
theorem dX4_takes_302 : decode cX4_takes 302 = .ok (.if_icmp .eq 21, 3) := dk_159 0 21 (dk_at dksX4_takes_13 2 rfl rfl)
theorem dX4_takes_305 : decode cX4_takes 305 = .ok (.iload_n 1, 1) := dk_27 (dk_at dksX4_takes_13 5 rfl rfl)
theorem dX4_takes_306 : decode cX4_takes 306 = .ok (.bipush 47, 2) := dk_16 47 (dk_at dksX4_takes_13 6 rfl rfl)
theorem dX4_takes_308 : decode cX4_takes 308 = .ok (.if_icmp .eq 15, 3) := dk_159 0 15 (dk_at dksX4_takes_13 8 rfl rfl)
theorem dX4_takes_311 : decode cX4_takes 311 = .ok (.iload_n 1, 1) := dk_27 (dk_at dksX4_takes_13 11 rfl rfl)
theorem dX4_takes_312 : decode cX4_takes 312 = .ok (.bipush 60, 2) := dk_16 60 (dk_at dksX4_takes_13 12 rfl rfl)
theorem dX4_takes_314 : decode cX4_takes 314 = .ok (.if_icmp .eq 9, 3) := dk_159 0 9 (dk_at dksX4_takes_13 14 rfl rfl)
theorem dX4_takes_317 : decode cX4_takes 317 = .ok (.iload_n 1, 1) := dk_27 (dk_at dksX4_takes_13 17 rfl rfl)
theorem dX4_takes_318 : decode cX4_takes 318 = .ok (.bipush 61, 2) := dk_16 61 (dk_at dksX4_takes_13 18 rfl rfl)
theorem dX4_takes_320 : decode cX4_takes 320 = .ok (.if_icmp .ne 7, 3) := dk_160 0 7 (dk_at dksX4_takes_13 20 rfl rfl)
theorem dX4_takes_323 : decode cX4_takes 323 = .ok (.iconst 3, 1) := dk_6 (dk_at dksX4_takes_13 23 rfl rfl)
theorem dX4_takes_324 : decode cX4_takes 324 = .ok (.goto 4, 3) := dk_167 0 4 (dk_at dksX4_takes_14 0 rfl rfl)
theorem dX4_takes_327 : decode cX4_takes 327 = .ok (.iconst 4, 1) := dk_7 (dk_at dksX4_takes_14 3 rfl rfl)
theorem dX4_takes_328 : decode cX4_takes 328 = .ok (.putfield 144, 3) := dk_181 0 144 (dk_at dksX4_takes_14 4 rfl rfl)
theorem dX4_takes_331 : decode cX4_takes 331 = .ok (.aload_n 0, 1) := dk_42 (dk_at dksX4_takes_14 7 rfl rfl)
theorem dX4_takes_332 : decode cX4_takes 332 = .ok (.aload_n 0, 1) := dk_42 (dk_at dksX4_takes_14 8 rfl rfl)
theorem dX4_takes_333 : decode cX4_takes 333 = .ok (.getfield 124, 3) := dk_180 0 124 (dk_at dksX4_takes_14 9 rfl rfl)
theorem dX4_takes_336 : decode cX4_takes 336 = .ok (.aload_n 0, 1) := dk_42 (dk_at dksX4_takes_14 12 rfl rfl)
theorem dX4_takes_337 : decode cX4_takes 337 = .ok (.getfield 131, 3) := dk_180 0 131 (dk_at dksX4_takes_14 13 rfl rfl)
theorem dX4_takes_340 : decode cX4_takes 340 = .ok (.isub, 1) := dk_100 (dk_at dksX4_takes_14 16 rfl rfl)
theorem dX4_takes_341 : decode cX4_takes 341 = .ok (.putfield 154, 3) := dk_181 0 154 (dk_at dksX4_takes_14 17 rfl rfl)
theorem dX4_takes_344 : decode cX4_takes 344 = .ok (.return_, 1) := dk_177 (dk_at dksX4_takes_14 20 rfl rfl)
abbrev cX4_byteAt : ByteArray := prog_12_method_12_code
def yX4_byteAt : MethodName := ⟨RX4, "byteAt", "(I)I"⟩
def dkwX4_byteAt_0 : List UInt8 := [27, 42, 180, 0, 121, 162, 0, 12, 42, 180, 0, 32, 27, 46, 167, 0, 4, 3, 172]
abbrev dktX4_byteAt_0 : List UInt8 := dkwX4_byteAt_0 ++ []
theorem dksX4_byteAt_0 : cX4_byteAt.data.toList.drop 0 = dktX4_byteAt_0 := by decide +kernel
theorem dX4_byteAt_0 : decode cX4_byteAt 0 = .ok (.iload_n 1, 1) := dk_27 (dk_at dksX4_byteAt_0 0 rfl rfl)
theorem dX4_byteAt_1 : decode cX4_byteAt 1 = .ok (.aload_n 0, 1) := dk_42 (dk_at dksX4_byteAt_0 1 rfl rfl)
theorem dX4_byteAt_2 : decode cX4_byteAt 2 = .ok (.getfield 121, 3) := dk_180 0 121 (dk_at dksX4_byteAt_0 2 rfl rfl)
theorem dX4_byteAt_5 : decode cX4_byteAt 5 = .ok (.if_icmp .ge 12, 3) := dk_162 0 12 (dk_at dksX4_byteAt_0 5 rfl rfl)
theorem dX4_byteAt_8 : decode cX4_byteAt 8 = .ok (.aload_n 0, 1) := dk_42 (dk_at dksX4_byteAt_0 8 rfl rfl)
theorem dX4_byteAt_9 : decode cX4_byteAt 9 = .ok (.getfield 32, 3) := dk_180 0 32 (dk_at dksX4_byteAt_0 9 rfl rfl)
theorem dX4_byteAt_12 : decode cX4_byteAt 12 = .ok (.iload_n 1, 1) := dk_27 (dk_at dksX4_byteAt_0 12 rfl rfl)
theorem dX4_byteAt_13 : decode cX4_byteAt 13 = .ok (.iaload, 1) := dk_46 (dk_at dksX4_byteAt_0 13 rfl rfl)
theorem dX4_byteAt_14 : decode cX4_byteAt 14 = .ok (.goto 4, 3) := dk_167 0 4 (dk_at dksX4_byteAt_0 14 rfl rfl)
theorem dX4_byteAt_17 : decode cX4_byteAt 17 = .ok (.iconst 0, 1) := dk_3 (dk_at dksX4_byteAt_0 17 rfl rfl)
theorem dX4_byteAt_18 : decode cX4_byteAt 18 = .ok (.ireturn, 1) := dk_172 (dk_at dksX4_byteAt_0 18 rfl rfl)
abbrev cX4_isLetter : ByteArray := prog_12_method_13_code
def yX4_isLetter : MethodName := ⟨RX4, "isLetter", "(I)Z"⟩
def dkwX4_isLetter_0 : List UInt8 := [26, 16, 97, 161, 0, 13, 26, 16, 122, 163, 0, 7, 4, 167, 0, 4, 3, 172]
abbrev dktX4_isLetter_0 : List UInt8 := dkwX4_isLetter_0 ++ []
theorem dksX4_isLetter_0 : cX4_isLetter.data.toList.drop 0 = dktX4_isLetter_0 := by decide +kernel
theorem dX4_isLetter_0 : decode cX4_isLetter 0 = .ok (.iload_n 0, 1) := dk_26 (dk_at dksX4_isLetter_0 0 rfl rfl)
theorem dX4_isLetter_1 : decode cX4_isLetter 1 = .ok (.bipush 97, 2) := dk_16 97 (dk_at dksX4_isLetter_0 1 rfl rfl)
theorem dX4_isLetter_3 : decode cX4_isLetter 3 = .ok (.if_icmp .lt 13, 3) := dk_161 0 13 (dk_at dksX4_isLetter_0 3 rfl rfl)
theorem dX4_isLetter_6 : decode cX4_isLetter 6 = .ok (.iload_n 0, 1) := dk_26 (dk_at dksX4_isLetter_0 6 rfl rfl)
theorem dX4_isLetter_7 : decode cX4_isLetter 7 = .ok (.bipush 122, 2) := dk_16 122 (dk_at dksX4_isLetter_0 7 rfl rfl)
theorem dX4_isLetter_9 : decode cX4_isLetter 9 = .ok (.if_icmp .gt 7, 3) := dk_163 0 7 (dk_at dksX4_isLetter_0 9 rfl rfl)
theorem dX4_isLetter_12 : decode cX4_isLetter 12 = .ok (.iconst 1, 1) := dk_4 (dk_at dksX4_isLetter_0 12 rfl rfl)
theorem dX4_isLetter_13 : decode cX4_isLetter 13 = .ok (.goto 4, 3) := dk_167 0 4 (dk_at dksX4_isLetter_0 13 rfl rfl)
theorem dX4_isLetter_16 : decode cX4_isLetter 16 = .ok (.iconst 0, 1) := dk_3 (dk_at dksX4_isLetter_0 16 rfl rfl)
theorem dX4_isLetter_17 : decode cX4_isLetter 17 = .ok (.ireturn, 1) := dk_172 (dk_at dksX4_isLetter_0 17 rfl rfl)
abbrev cX4_isDigit : ByteArray := prog_12_method_14_code
def yX4_isDigit : MethodName := ⟨RX4, "isDigit", "(I)Z"⟩
def dkwX4_isDigit_0 : List UInt8 := [26, 16, 48, 161, 0, 13, 26, 16, 57, 163, 0, 7, 4, 167, 0, 4, 3, 172]
abbrev dktX4_isDigit_0 : List UInt8 := dkwX4_isDigit_0 ++ []
theorem dksX4_isDigit_0 : cX4_isDigit.data.toList.drop 0 = dktX4_isDigit_0 := by decide +kernel
theorem dX4_isDigit_0 : decode cX4_isDigit 0 = .ok (.iload_n 0, 1) := dk_26 (dk_at dksX4_isDigit_0 0 rfl rfl)
theorem dX4_isDigit_1 : decode cX4_isDigit 1 = .ok (.bipush 48, 2) := dk_16 48 (dk_at dksX4_isDigit_0 1 rfl rfl)
theorem dX4_isDigit_3 : decode cX4_isDigit 3 = .ok (.if_icmp .lt 13, 3) := dk_161 0 13 (dk_at dksX4_isDigit_0 3 rfl rfl)
theorem dX4_isDigit_6 : decode cX4_isDigit 6 = .ok (.iload_n 0, 1) := dk_26 (dk_at dksX4_isDigit_0 6 rfl rfl)
theorem dX4_isDigit_7 : decode cX4_isDigit 7 = .ok (.bipush 57, 2) := dk_16 57 (dk_at dksX4_isDigit_0 7 rfl rfl)
theorem dX4_isDigit_9 : decode cX4_isDigit 9 = .ok (.if_icmp .gt 7, 3) := dk_163 0 7 (dk_at dksX4_isDigit_0 9 rfl rfl)
theorem dX4_isDigit_12 : decode cX4_isDigit 12 = .ok (.iconst 1, 1) := dk_4 (dk_at dksX4_isDigit_0 12 rfl rfl)
theorem dX4_isDigit_13 : decode cX4_isDigit 13 = .ok (.goto 4, 3) := dk_167 0 4 (dk_at dksX4_isDigit_0 13 rfl rfl)
theorem dX4_isDigit_16 : decode cX4_isDigit 16 = .ok (.iconst 0, 1) := dk_3 (dk_at dksX4_isDigit_0 16 rfl rfl)
theorem dX4_isDigit_17 : decode cX4_isDigit 17 = .ok (.ireturn, 1) := dk_172 (dk_at dksX4_isDigit_0 17 rfl rfl)
abbrev cX4_isGood : ByteArray := prog_12_method_20_code
def yX4_isGood : MethodName := ⟨RX4, "isGood", "()Z"⟩
def dkwX4_isGood_0 : List UInt8 := [42, 180, 0, 167, 154, 0, 7, 4, 167, 0, 4, 3, 172]
abbrev dktX4_isGood_0 : List UInt8 := dkwX4_isGood_0 ++ []
theorem dksX4_isGood_0 : cX4_isGood.data.toList.drop 0 = dktX4_isGood_0 := by decide +kernel
theorem dX4_isGood_0 : decode cX4_isGood 0 = .ok (.aload_n 0, 1) := dk_42 (dk_at dksX4_isGood_0 0 rfl rfl)
theorem dX4_isGood_1 : decode cX4_isGood 1 = .ok (.getfield 167, 3) := dk_180 0 167 (dk_at dksX4_isGood_0 1 rfl rfl)
theorem dX4_isGood_4 : decode cX4_isGood 4 = .ok (.ifCond .ne 7, 3) := dk_154 0 7 (dk_at dksX4_isGood_0 4 rfl rfl)
theorem dX4_isGood_7 : decode cX4_isGood 7 = .ok (.iconst 1, 1) := dk_4 (dk_at dksX4_isGood_0 7 rfl rfl)
theorem dX4_isGood_8 : decode cX4_isGood 8 = .ok (.goto 4, 3) := dk_167 0 4 (dk_at dksX4_isGood_0 8 rfl rfl)
theorem dX4_isGood_11 : decode cX4_isGood 11 = .ok (.iconst 0, 1) := dk_3 (dk_at dksX4_isGood_0 11 rfl rfl)
theorem dX4_isGood_12 : decode cX4_isGood 12 = .ok (.ireturn, 1) := dk_172 (dk_at dksX4_isGood_0 12 rfl rfl)
abbrev cX4_line : ByteArray := prog_12_method_39_code
def yX4_line : MethodName := ⟨RX4, "line", "()V"⟩
def dkwX4_line_8 : List UInt8 := [16, 6, 182, 1, 3, 167, 0, 8, 42, 4, 182, 0, 177, 42, 42, 16, 59, 182, 0, 205, 182, 1, 9, 177]
abbrev dktX4_line_8 : List UInt8 := dkwX4_line_8 ++ []
def dkwX4_line_7 : List UInt8 := [159, 0, 7, 4, 167, 0, 4, 3, 182, 0, 243, 153, 0, 25, 42, 42, 180, 0, 180, 181, 1, 6, 42]
abbrev dktX4_line_7 : List UInt8 := dkwX4_line_7 ++ dktX4_line_8
def dkwX4_line_6 : List UInt8 := [181, 1, 0, 42, 8, 182, 1, 3, 167, 0, 52, 27, 16, 11, 160, 0, 41, 42, 3, 42, 180, 1, 6, 2]
abbrev dktX4_line_6 : List UInt8 := dkwX4_line_6 ++ dktX4_line_7
def dkwX4_line_5 : List UInt8 := [180, 1, 0, 2, 159, 0, 7, 4, 167, 0, 4, 3, 182, 0, 243, 153, 0, 68, 42, 42, 180, 0, 180]
abbrev dktX4_line_5 : List UInt8 := dkwX4_line_5 ++ dktX4_line_6
def dkwX4_line_4 : List UInt8 := [3, 182, 0, 243, 153, 0, 102, 42, 182, 0, 253, 167, 0, 95, 27, 16, 10, 160, 0, 40, 42, 3, 42]
abbrev dktX4_line_4 : List UInt8 := dkwX4_line_4 ++ dktX4_line_5
def dkwX4_line_3 : List UInt8 := [182, 0, 250, 167, 0, 127, 27, 7, 160, 0, 30, 42, 3, 42, 180, 0, 240, 158, 0, 7, 4, 167, 0, 4]
abbrev dktX4_line_3 : List UInt8 := dkwX4_line_3 ++ dktX4_line_4
def dkwX4_line_2 : List UInt8 := [42, 42, 180, 0, 237, 16, 8, 160, 0, 7, 4, 167, 0, 4, 3, 3, 182, 0, 243, 153, 0, 134, 42]
abbrev dktX4_line_2 : List UInt8 := dkwX4_line_2 ++ dktX4_line_3
def dkwX4_line_1 : List UInt8 := [167, 0, 4, 3, 3, 182, 0, 243, 153, 0, 169, 42, 182, 0, 247, 167, 0, 162, 27, 16, 8, 160, 0, 32]
abbrev dktX4_line_1 : List UInt8 := dkwX4_line_1 ++ dktX4_line_2
def dkwX4_line_0 : List UInt8 := [42, 182, 0, 195, 60, 27, 16, 7, 160, 0, 32, 42, 42, 180, 0, 230, 16, 8, 160, 0, 7, 4]
abbrev dktX4_line_0 : List UInt8 := dkwX4_line_0 ++ dktX4_line_1
theorem dksX4_line_0 : cX4_line.data.toList.drop 0 = dktX4_line_0 := by decide +kernel
theorem dksX4_line_1 : cX4_line.data.toList.drop 22 = dktX4_line_1 := dk_seg dksX4_line_0 22 rfl rfl
theorem dksX4_line_2 : cX4_line.data.toList.drop 46 = dktX4_line_2 := dk_seg dksX4_line_1 24 rfl rfl
theorem dksX4_line_3 : cX4_line.data.toList.drop 69 = dktX4_line_3 := dk_seg dksX4_line_2 23 rfl rfl
theorem dksX4_line_4 : cX4_line.data.toList.drop 93 = dktX4_line_4 := dk_seg dksX4_line_3 24 rfl rfl
theorem dksX4_line_5 : cX4_line.data.toList.drop 116 = dktX4_line_5 := dk_seg dksX4_line_4 23 rfl rfl
theorem dksX4_line_6 : cX4_line.data.toList.drop 139 = dktX4_line_6 := dk_seg dksX4_line_5 23 rfl rfl
theorem dksX4_line_7 : cX4_line.data.toList.drop 163 = dktX4_line_7 := dk_seg dksX4_line_6 24 rfl rfl
theorem dksX4_line_8 : cX4_line.data.toList.drop 186 = dktX4_line_8 := dk_seg dksX4_line_7 23 rfl rfl
theorem dX4_line_0 : decode cX4_line 0 = .ok (.aload_n 0, 1) := dk_42 (dk_at dksX4_line_0 0 rfl rfl)
theorem dX4_line_1 : decode cX4_line 1 = .ok (.invokevirtual 195, 3) := dk_182 0 195 (dk_at dksX4_line_0 1 rfl rfl)
theorem dX4_line_4 : decode cX4_line 4 = .ok (.istore_n 1, 1) := dk_60 (dk_at dksX4_line_0 4 rfl rfl)
theorem dX4_line_5 : decode cX4_line 5 = .ok (.iload_n 1, 1) := dk_27 (dk_at dksX4_line_0 5 rfl rfl)
theorem dX4_line_6 : decode cX4_line 6 = .ok (.bipush 7, 2) := dk_16 7 (dk_at dksX4_line_0 6 rfl rfl)
theorem dX4_line_8 : decode cX4_line 8 = .ok (.if_icmp .ne 32, 3) := dk_160 0 32 (dk_at dksX4_line_0 8 rfl rfl)
theorem dX4_line_11 : decode cX4_line 11 = .ok (.aload_n 0, 1) := dk_42 (dk_at dksX4_line_0 11 rfl rfl)
theorem dX4_line_12 : decode cX4_line 12 = .ok (.aload_n 0, 1) := dk_42 (dk_at dksX4_line_0 12 rfl rfl)
theorem dX4_line_13 : decode cX4_line 13 = .ok (.getfield 230, 3) := dk_180 0 230 (dk_at dksX4_line_0 13 rfl rfl)
theorem dX4_line_16 : decode cX4_line 16 = .ok (.bipush 8, 2) := dk_16 8 (dk_at dksX4_line_0 16 rfl rfl)
theorem dX4_line_18 : decode cX4_line 18 = .ok (.if_icmp .ne 7, 3) := dk_160 0 7 (dk_at dksX4_line_0 18 rfl rfl)
theorem dX4_line_21 : decode cX4_line 21 = .ok (.iconst 1, 1) := dk_4 (dk_at dksX4_line_0 21 rfl rfl)
theorem dX4_line_22 : decode cX4_line 22 = .ok (.goto 4, 3) := dk_167 0 4 (dk_at dksX4_line_1 0 rfl rfl)
theorem dX4_line_25 : decode cX4_line 25 = .ok (.iconst 0, 1) := dk_3 (dk_at dksX4_line_1 3 rfl rfl)
theorem dX4_line_26 : decode cX4_line 26 = .ok (.iconst 0, 1) := dk_3 (dk_at dksX4_line_1 4 rfl rfl)
theorem dX4_line_27 : decode cX4_line 27 = .ok (.invokevirtual 243, 3) := dk_182 0 243 (dk_at dksX4_line_1 5 rfl rfl)
theorem dX4_line_30 : decode cX4_line 30 = .ok (.ifCond .eq 169, 3) := dk_153 0 169 (dk_at dksX4_line_1 8 rfl rfl)
theorem dX4_line_33 : decode cX4_line 33 = .ok (.aload_n 0, 1) := dk_42 (dk_at dksX4_line_1 11 rfl rfl)
theorem dX4_line_34 : decode cX4_line 34 = .ok (.invokevirtual 247, 3) := dk_182 0 247 (dk_at dksX4_line_1 12 rfl rfl)
theorem dX4_line_37 : decode cX4_line 37 = .ok (.goto 162, 3) := dk_167 0 162 (dk_at dksX4_line_1 15 rfl rfl)
theorem dX4_line_40 : decode cX4_line 40 = .ok (.iload_n 1, 1) := dk_27 (dk_at dksX4_line_1 18 rfl rfl)
theorem dX4_line_41 : decode cX4_line 41 = .ok (.bipush 8, 2) := dk_16 8 (dk_at dksX4_line_1 19 rfl rfl)
theorem dX4_line_43 : decode cX4_line 43 = .ok (.if_icmp .ne 32, 3) := dk_160 0 32 (dk_at dksX4_line_1 21 rfl rfl)
theorem dX4_line_46 : decode cX4_line 46 = .ok (.aload_n 0, 1) := dk_42 (dk_at dksX4_line_2 0 rfl rfl)
theorem dX4_line_47 : decode cX4_line 47 = .ok (.aload_n 0, 1) := dk_42 (dk_at dksX4_line_2 1 rfl rfl)
theorem dX4_line_48 : decode cX4_line 48 = .ok (.getfield 237, 3) := dk_180 0 237 (dk_at dksX4_line_2 2 rfl rfl)
theorem dX4_line_51 : decode cX4_line 51 = .ok (.bipush 8, 2) := dk_16 8 (dk_at dksX4_line_2 5 rfl rfl)
theorem dX4_line_53 : decode cX4_line 53 = .ok (.if_icmp .ne 7, 3) := dk_160 0 7 (dk_at dksX4_line_2 7 rfl rfl)
theorem dX4_line_56 : decode cX4_line 56 = .ok (.iconst 1, 1) := dk_4 (dk_at dksX4_line_2 10 rfl rfl)
theorem dX4_line_57 : decode cX4_line 57 = .ok (.goto 4, 3) := dk_167 0 4 (dk_at dksX4_line_2 11 rfl rfl)
theorem dX4_line_60 : decode cX4_line 60 = .ok (.iconst 0, 1) := dk_3 (dk_at dksX4_line_2 14 rfl rfl)
theorem dX4_line_61 : decode cX4_line 61 = .ok (.iconst 0, 1) := dk_3 (dk_at dksX4_line_2 15 rfl rfl)
theorem dX4_line_62 : decode cX4_line 62 = .ok (.invokevirtual 243, 3) := dk_182 0 243 (dk_at dksX4_line_2 16 rfl rfl)
theorem dX4_line_65 : decode cX4_line 65 = .ok (.ifCond .eq 134, 3) := dk_153 0 134 (dk_at dksX4_line_2 19 rfl rfl)
theorem dX4_line_68 : decode cX4_line 68 = .ok (.aload_n 0, 1) := dk_42 (dk_at dksX4_line_2 22 rfl rfl)
theorem dX4_line_69 : decode cX4_line 69 = .ok (.invokevirtual 250, 3) := dk_182 0 250 (dk_at dksX4_line_3 0 rfl rfl)
theorem dX4_line_72 : decode cX4_line 72 = .ok (.goto 127, 3) := dk_167 0 127 (dk_at dksX4_line_3 3 rfl rfl)
theorem dX4_line_75 : decode cX4_line 75 = .ok (.iload_n 1, 1) := dk_27 (dk_at dksX4_line_3 6 rfl rfl)
theorem dX4_line_76 : decode cX4_line 76 = .ok (.iconst 4, 1) := dk_7 (dk_at dksX4_line_3 7 rfl rfl)
theorem dX4_line_77 : decode cX4_line 77 = .ok (.if_icmp .ne 30, 3) := dk_160 0 30 (dk_at dksX4_line_3 8 rfl rfl)
theorem dX4_line_80 : decode cX4_line 80 = .ok (.aload_n 0, 1) := dk_42 (dk_at dksX4_line_3 11 rfl rfl)
theorem dX4_line_81 : decode cX4_line 81 = .ok (.iconst 0, 1) := dk_3 (dk_at dksX4_line_3 12 rfl rfl)
theorem dX4_line_82 : decode cX4_line 82 = .ok (.aload_n 0, 1) := dk_42 (dk_at dksX4_line_3 13 rfl rfl)
theorem dX4_line_83 : decode cX4_line 83 = .ok (.getfield 240, 3) := dk_180 0 240 (dk_at dksX4_line_3 14 rfl rfl)
theorem dX4_line_86 : decode cX4_line 86 = .ok (.ifCond .le 7, 3) := dk_158 0 7 (dk_at dksX4_line_3 17 rfl rfl)
theorem dX4_line_89 : decode cX4_line 89 = .ok (.iconst 1, 1) := dk_4 (dk_at dksX4_line_3 20 rfl rfl)
theorem dX4_line_90 : decode cX4_line 90 = .ok (.goto 4, 3) := dk_167 0 4 (dk_at dksX4_line_3 21 rfl rfl)
theorem dX4_line_93 : decode cX4_line 93 = .ok (.iconst 0, 1) := dk_3 (dk_at dksX4_line_4 0 rfl rfl)
theorem dX4_line_94 : decode cX4_line 94 = .ok (.invokevirtual 243, 3) := dk_182 0 243 (dk_at dksX4_line_4 1 rfl rfl)
theorem dX4_line_97 : decode cX4_line 97 = .ok (.ifCond .eq 102, 3) := dk_153 0 102 (dk_at dksX4_line_4 4 rfl rfl)
theorem dX4_line_100 : decode cX4_line 100 = .ok (.aload_n 0, 1) := dk_42 (dk_at dksX4_line_4 7 rfl rfl)
theorem dX4_line_101 : decode cX4_line 101 = .ok (.invokevirtual 253, 3) := dk_182 0 253 (dk_at dksX4_line_4 8 rfl rfl)
theorem dX4_line_104 : decode cX4_line 104 = .ok (.goto 95, 3) := dk_167 0 95 (dk_at dksX4_line_4 11 rfl rfl)
theorem dX4_line_107 : decode cX4_line 107 = .ok (.iload_n 1, 1) := dk_27 (dk_at dksX4_line_4 14 rfl rfl)
theorem dX4_line_108 : decode cX4_line 108 = .ok (.bipush 10, 2) := dk_16 10 (dk_at dksX4_line_4 15 rfl rfl)
theorem dX4_line_110 : decode cX4_line 110 = .ok (.if_icmp .ne 40, 3) := dk_160 0 40 (dk_at dksX4_line_4 17 rfl rfl)
theorem dX4_line_113 : decode cX4_line 113 = .ok (.aload_n 0, 1) := dk_42 (dk_at dksX4_line_4 20 rfl rfl)
theorem dX4_line_114 : decode cX4_line 114 = .ok (.iconst 0, 1) := dk_3 (dk_at dksX4_line_4 21 rfl rfl)
theorem dX4_line_115 : decode cX4_line 115 = .ok (.aload_n 0, 1) := dk_42 (dk_at dksX4_line_4 22 rfl rfl)
theorem dX4_line_116 : decode cX4_line 116 = .ok (.getfield 256, 3) := dk_180 1 0 (dk_at dksX4_line_5 0 rfl rfl)
theorem dX4_line_119 : decode cX4_line 119 = .ok (.iconst (-1), 1) := dk_2 (dk_at dksX4_line_5 3 rfl rfl)
theorem dX4_line_120 : decode cX4_line 120 = .ok (.if_icmp .eq 7, 3) := dk_159 0 7 (dk_at dksX4_line_5 4 rfl rfl)
theorem dX4_line_123 : decode cX4_line 123 = .ok (.iconst 1, 1) := dk_4 (dk_at dksX4_line_5 7 rfl rfl)
theorem dX4_line_124 : decode cX4_line 124 = .ok (.goto 4, 3) := dk_167 0 4 (dk_at dksX4_line_5 8 rfl rfl)
theorem dX4_line_127 : decode cX4_line 127 = .ok (.iconst 0, 1) := dk_3 (dk_at dksX4_line_5 11 rfl rfl)
theorem dX4_line_128 : decode cX4_line 128 = .ok (.invokevirtual 243, 3) := dk_182 0 243 (dk_at dksX4_line_5 12 rfl rfl)
theorem dX4_line_131 : decode cX4_line 131 = .ok (.ifCond .eq 68, 3) := dk_153 0 68 (dk_at dksX4_line_5 15 rfl rfl)
theorem dX4_line_134 : decode cX4_line 134 = .ok (.aload_n 0, 1) := dk_42 (dk_at dksX4_line_5 18 rfl rfl)
theorem dX4_line_135 : decode cX4_line 135 = .ok (.aload_n 0, 1) := dk_42 (dk_at dksX4_line_5 19 rfl rfl)
theorem dX4_line_136 : decode cX4_line 136 = .ok (.getfield 180, 3) := dk_180 0 180 (dk_at dksX4_line_5 20 rfl rfl)
theorem dX4_line_139 : decode cX4_line 139 = .ok (.putfield 256, 3) := dk_181 1 0 (dk_at dksX4_line_6 0 rfl rfl)
theorem dX4_line_142 : decode cX4_line 142 = .ok (.aload_n 0, 1) := dk_42 (dk_at dksX4_line_6 3 rfl rfl)
theorem dX4_line_143 : decode cX4_line 143 = .ok (.iconst 5, 1) := dk_8 (dk_at dksX4_line_6 4 rfl rfl)
theorem dX4_line_144 : decode cX4_line 144 = .ok (.invokevirtual 259, 3) := dk_182 1 3 (dk_at dksX4_line_6 5 rfl rfl)
theorem dX4_line_147 : decode cX4_line 147 = .ok (.goto 52, 3) := dk_167 0 52 (dk_at dksX4_line_6 8 rfl rfl)
theorem dX4_line_150 : decode cX4_line 150 = .ok (.iload_n 1, 1) := dk_27 (dk_at dksX4_line_6 11 rfl rfl)
theorem dX4_line_151 : decode cX4_line 151 = .ok (.bipush 11, 2) := dk_16 11 (dk_at dksX4_line_6 12 rfl rfl)
theorem dX4_line_153 : decode cX4_line 153 = .ok (.if_icmp .ne 41, 3) := dk_160 0 41 (dk_at dksX4_line_6 14 rfl rfl)
theorem dX4_line_156 : decode cX4_line 156 = .ok (.aload_n 0, 1) := dk_42 (dk_at dksX4_line_6 17 rfl rfl)
theorem dX4_line_157 : decode cX4_line 157 = .ok (.iconst 0, 1) := dk_3 (dk_at dksX4_line_6 18 rfl rfl)
theorem dX4_line_158 : decode cX4_line 158 = .ok (.aload_n 0, 1) := dk_42 (dk_at dksX4_line_6 19 rfl rfl)
theorem dX4_line_159 : decode cX4_line 159 = .ok (.getfield 262, 3) := dk_180 1 6 (dk_at dksX4_line_6 20 rfl rfl)
theorem dX4_line_162 : decode cX4_line 162 = .ok (.iconst (-1), 1) := dk_2 (dk_at dksX4_line_6 23 rfl rfl)
theorem dX4_line_163 : decode cX4_line 163 = .ok (.if_icmp .eq 7, 3) := dk_159 0 7 (dk_at dksX4_line_7 0 rfl rfl)
theorem dX4_line_166 : decode cX4_line 166 = .ok (.iconst 1, 1) := dk_4 (dk_at dksX4_line_7 3 rfl rfl)
theorem dX4_line_167 : decode cX4_line 167 = .ok (.goto 4, 3) := dk_167 0 4 (dk_at dksX4_line_7 4 rfl rfl)
theorem dX4_line_170 : decode cX4_line 170 = .ok (.iconst 0, 1) := dk_3 (dk_at dksX4_line_7 7 rfl rfl)
theorem dX4_line_171 : decode cX4_line 171 = .ok (.invokevirtual 243, 3) := dk_182 0 243 (dk_at dksX4_line_7 8 rfl rfl)
theorem dX4_line_174 : decode cX4_line 174 = .ok (.ifCond .eq 25, 3) := dk_153 0 25 (dk_at dksX4_line_7 11 rfl rfl)
theorem dX4_line_177 : decode cX4_line 177 = .ok (.aload_n 0, 1) := dk_42 (dk_at dksX4_line_7 14 rfl rfl)
theorem dX4_line_178 : decode cX4_line 178 = .ok (.aload_n 0, 1) := dk_42 (dk_at dksX4_line_7 15 rfl rfl)
theorem dX4_line_179 : decode cX4_line 179 = .ok (.getfield 180, 3) := dk_180 0 180 (dk_at dksX4_line_7 16 rfl rfl)
theorem dX4_line_182 : decode cX4_line 182 = .ok (.putfield 262, 3) := dk_181 1 6 (dk_at dksX4_line_7 19 rfl rfl)
theorem dX4_line_185 : decode cX4_line 185 = .ok (.aload_n 0, 1) := dk_42 (dk_at dksX4_line_7 22 rfl rfl)
theorem dX4_line_186 : decode cX4_line 186 = .ok (.bipush 6, 2) := dk_16 6 (dk_at dksX4_line_8 0 rfl rfl)
theorem dX4_line_188 : decode cX4_line 188 = .ok (.invokevirtual 259, 3) := dk_182 1 3 (dk_at dksX4_line_8 2 rfl rfl)
theorem dX4_line_191 : decode cX4_line 191 = .ok (.goto 8, 3) := dk_167 0 8 (dk_at dksX4_line_8 5 rfl rfl)
theorem dX4_line_194 : decode cX4_line 194 = .ok (.aload_n 0, 1) := dk_42 (dk_at dksX4_line_8 8 rfl rfl)
theorem dX4_line_195 : decode cX4_line 195 = .ok (.iconst 1, 1) := dk_4 (dk_at dksX4_line_8 9 rfl rfl)
theorem dX4_line_196 : decode cX4_line 196 = .ok (.invokevirtual 177, 3) := dk_182 0 177 (dk_at dksX4_line_8 10 rfl rfl)
theorem dX4_line_199 : decode cX4_line 199 = .ok (.aload_n 0, 1) := dk_42 (dk_at dksX4_line_8 13 rfl rfl)
theorem dX4_line_200 : decode cX4_line 200 = .ok (.aload_n 0, 1) := dk_42 (dk_at dksX4_line_8 14 rfl rfl)
theorem dX4_line_201 : decode cX4_line 201 = .ok (.bipush 59, 2) := dk_16 59 (dk_at dksX4_line_8 15 rfl rfl)
theorem dX4_line_203 : decode cX4_line 203 = .ok (.invokevirtual 205, 3) := dk_182 0 205 (dk_at dksX4_line_8 17 rfl rfl)
theorem dX4_line_206 : decode cX4_line 206 = .ok (.invokevirtual 265, 3) := dk_182 1 9 (dk_at dksX4_line_8 20 rfl rfl)
theorem dX4_line_209 : decode cX4_line 209 = .ok (.return_, 1) := dk_177 (dk_at dksX4_line_8 23 rfl rfl)
abbrev cX4_knownWord : ByteArray := prog_12_method_18_code
def yX4_knownWord : MethodName := ⟨RX4, "knownWord", "()I"⟩
def dkwX4_knownWord_2 : List UInt8 := [172]
abbrev dktX4_knownWord_2 : List UInt8 := dkwX4_knownWord_2 ++ []
def dkwX4_knownWord_1 : List UInt8 := [162, 0, 23, 27, 184, 0, 163, 42, 180, 0, 134, 148, 154, 0, 5, 27, 172, 132, 1, 1, 167, 255, 233, 2]
abbrev dktX4_knownWord_1 : List UInt8 := dkwX4_knownWord_1 ++ dktX4_knownWord_2
def dkwX4_knownWord_0 : List UInt8 := [42, 180, 0, 144, 4, 160, 0, 12, 42, 180, 0, 154, 16, 6, 164, 0, 5, 2, 172, 3, 60, 27, 16, 15]
abbrev dktX4_knownWord_0 : List UInt8 := dkwX4_knownWord_0 ++ dktX4_knownWord_1
theorem dksX4_knownWord_0 : cX4_knownWord.data.toList.drop 0 = dktX4_knownWord_0 := by decide +kernel
theorem dksX4_knownWord_1 : cX4_knownWord.data.toList.drop 24 = dktX4_knownWord_1 := dk_seg dksX4_knownWord_0 24 rfl rfl
theorem dksX4_knownWord_2 : cX4_knownWord.data.toList.drop 48 = dktX4_knownWord_2 := dk_seg dksX4_knownWord_1 24 rfl rfl
theorem dX4_knownWord_0 : decode cX4_knownWord 0 = .ok (.aload_n 0, 1) := dk_42 (dk_at dksX4_knownWord_0 0 rfl rfl)
theorem dX4_knownWord_1 : decode cX4_knownWord 1 = .ok (.getfield 144, 3) := dk_180 0 144 (dk_at dksX4_knownWord_0 1 rfl rfl)
theorem dX4_knownWord_4 : decode cX4_knownWord 4 = .ok (.iconst 1, 1) := dk_4 (dk_at dksX4_knownWord_0 4 rfl rfl)
theorem dX4_knownWord_5 : decode cX4_knownWord 5 = .ok (.if_icmp .ne 12, 3) := dk_160 0 12 (dk_at dksX4_knownWord_0 5 rfl rfl)
theorem dX4_knownWord_8 : decode cX4_knownWord 8 = .ok (.aload_n 0, 1) := dk_42 (dk_at dksX4_knownWord_0 8 rfl rfl)
theorem dX4_knownWord_9 : decode cX4_knownWord 9 = .ok (.getfield 154, 3) := dk_180 0 154 (dk_at dksX4_knownWord_0 9 rfl rfl)
theorem dX4_knownWord_12 : decode cX4_knownWord 12 = .ok (.bipush 6, 2) := dk_16 6 (dk_at dksX4_knownWord_0 12 rfl rfl)
theorem dX4_knownWord_14 : decode cX4_knownWord 14 = .ok (.if_icmp .le 5, 3) := dk_164 0 5 (dk_at dksX4_knownWord_0 14 rfl rfl)
theorem dX4_knownWord_17 : decode cX4_knownWord 17 = .ok (.iconst (-1), 1) := dk_2 (dk_at dksX4_knownWord_0 17 rfl rfl)
theorem dX4_knownWord_18 : decode cX4_knownWord 18 = .ok (.ireturn, 1) := dk_172 (dk_at dksX4_knownWord_0 18 rfl rfl)
theorem dX4_knownWord_19 : decode cX4_knownWord 19 = .ok (.iconst 0, 1) := dk_3 (dk_at dksX4_knownWord_0 19 rfl rfl)
theorem dX4_knownWord_20 : decode cX4_knownWord 20 = .ok (.istore_n 1, 1) := dk_60 (dk_at dksX4_knownWord_0 20 rfl rfl)
theorem dX4_knownWord_21 : decode cX4_knownWord 21 = .ok (.iload_n 1, 1) := dk_27 (dk_at dksX4_knownWord_0 21 rfl rfl)
theorem dX4_knownWord_22 : decode cX4_knownWord 22 = .ok (.bipush 15, 2) := dk_16 15 (dk_at dksX4_knownWord_0 22 rfl rfl)
theorem dX4_knownWord_24 : decode cX4_knownWord 24 = .ok (.if_icmp .ge 23, 3) := dk_162 0 23 (dk_at dksX4_knownWord_1 0 rfl rfl)
theorem dX4_knownWord_27 : decode cX4_knownWord 27 = .ok (.iload_n 1, 1) := dk_27 (dk_at dksX4_knownWord_1 3 rfl rfl)
theorem dX4_knownWord_28 : decode cX4_knownWord 28 = .ok (.invokestatic 163, 3) := dk_184 0 163 (dk_at dksX4_knownWord_1 4 rfl rfl)
theorem dX4_knownWord_31 : decode cX4_knownWord 31 = .ok (.aload_n 0, 1) := dk_42 (dk_at dksX4_knownWord_1 7 rfl rfl)
theorem dX4_knownWord_32 : decode cX4_knownWord 32 = .ok (.getfield 134, 3) := dk_180 0 134 (dk_at dksX4_knownWord_1 8 rfl rfl)
theorem dX4_knownWord_35 : decode cX4_knownWord 35 = .ok (.lcmp, 1) := dk_148 (dk_at dksX4_knownWord_1 11 rfl rfl)
theorem dX4_knownWord_36 : decode cX4_knownWord 36 = .ok (.ifCond .ne 5, 3) := dk_154 0 5 (dk_at dksX4_knownWord_1 12 rfl rfl)
theorem dX4_knownWord_39 : decode cX4_knownWord 39 = .ok (.iload_n 1, 1) := dk_27 (dk_at dksX4_knownWord_1 15 rfl rfl)
theorem dX4_knownWord_40 : decode cX4_knownWord 40 = .ok (.ireturn, 1) := dk_172 (dk_at dksX4_knownWord_1 16 rfl rfl)
theorem dX4_knownWord_41 : decode cX4_knownWord 41 = .ok (.iinc 1 1, 3) := dk_132 1 1 (dk_at dksX4_knownWord_1 17 rfl rfl)
theorem dX4_knownWord_44 : decode cX4_knownWord 44 = .ok (.goto (-23), 3) := dk_167 255 233 (dk_at dksX4_knownWord_1 20 rfl rfl)
theorem dX4_knownWord_47 : decode cX4_knownWord 47 = .ok (.iconst (-1), 1) := dk_2 (dk_at dksX4_knownWord_1 23 rfl rfl)
theorem dX4_knownWord_48 : decode cX4_knownWord 48 = .ok (.ireturn, 1) := dk_172 (dk_at dksX4_knownWord_2 0 rfl rfl)
abbrev cX4_letters : ByteArray := prog_12_method_17_code
def yX4_letters : MethodName := ⟨RX4, "letters", "(I)J"⟩
def dkwX4_letters_10 : List UInt8 := [16, 114, 3, 3, 3, 3, 184, 0, 159, 173, 16, 110, 16, 111, 16, 116, 3, 3, 3, 184, 0, 159, 173]
abbrev dktX4_letters_10 : List UInt8 := dkwX4_letters_10 ++ []
def dkwX4_letters_9 : List UInt8 := [16, 116, 16, 115, 184, 0, 159, 173, 16, 97, 16, 110, 16, 100, 3, 3, 3, 184, 0, 159, 173, 16, 111]
abbrev dktX4_letters_9 : List UInt8 := dkwX4_letters_9 ++ dktX4_letters_10
def dkwX4_letters_8 : List UInt8 := [16, 101, 16, 97, 16, 115, 16, 101, 16, 115, 3, 184, 0, 159, 173, 16, 98, 16, 117, 16, 114, 16, 115]
abbrev dktX4_letters_8 : List UInt8 := dkwX4_letters_8 ++ dktX4_letters_9
def dkwX4_letters_7 : List UInt8 := [16, 114, 16, 115, 16, 111, 16, 110, 184, 0, 159, 173, 16, 105, 16, 110, 3, 3, 3, 3, 184, 0, 159, 173]
abbrev dktX4_letters_7 : List UInt8 := dkwX4_letters_7 ++ dktX4_letters_8
def dkwX4_letters_6 : List UInt8 := [184, 0, 159, 173, 16, 104, 16, 111, 16, 117, 16, 115, 16, 101, 3, 184, 0, 159, 173, 16, 112, 16, 101]
abbrev dktX4_letters_6 : List UInt8 := dkwX4_letters_6 ++ dktX4_letters_7
def dkwX4_letters_5 : List UInt8 := [16, 97, 16, 121, 3, 3, 3, 184, 0, 159, 173, 16, 116, 16, 105, 16, 103, 16, 104, 16, 116, 3]
abbrev dktX4_letters_5 : List UInt8 := dkwX4_letters_5 ++ dktX4_letters_6
def dkwX4_letters_4 : List UInt8 := [16, 110, 3, 3, 184, 0, 159, 173, 16, 100, 16, 97, 16, 109, 16, 112, 3, 3, 184, 0, 159, 173, 16, 100]
abbrev dktX4_letters_4 : List UInt8 := dkwX4_letters_4 ++ dktX4_letters_5
def dkwX4_letters_3 : List UInt8 := [184, 0, 159, 173, 16, 103, 16, 105, 16, 118, 16, 101, 3, 3, 184, 0, 159, 173, 16, 119, 16, 111, 16, 114]
abbrev dktX4_letters_3 : List UInt8 := dkwX4_letters_3 ++ dktX4_letters_4
def dkwX4_letters_2 : List UInt8 := [16, 104, 16, 101, 16, 101, 16, 108, 3, 3, 184, 0, 159, 173, 16, 115, 16, 105, 16, 122, 16, 101, 3, 3]
abbrev dktX4_letters_2 : List UInt8 := dkwX4_letters_2 ++ dktX4_letters_3
def dkwX4_letters_1 : List UInt8 := [170, 0, 0, 0, 0, 1, 12, 0, 0, 0, 0, 0, 0, 0, 13, 0, 0, 0, 71, 0, 0, 0, 85, 0, 0, 0, 99, 0, 0, 0, 113, 0, 0, 0, 127, 0, 0, 0, 141, 0, 0, 0, 154, 0, 0, 0, 169, 0, 0, 0, 184, 0, 0, 0, 200, 0, 0, 0, 212, 0, 0, 0, 227, 0, 0, 0, 243, 0, 0, 1, 0]
abbrev dktX4_letters_1 : List UInt8 := dkwX4_letters_1 ++ dktX4_letters_2
def dkwX4_letters_0 : List UInt8 := [26]
abbrev dktX4_letters_0 : List UInt8 := dkwX4_letters_0 ++ dktX4_letters_1
theorem dksX4_letters_0 : cX4_letters.data.toList.drop 0 = dktX4_letters_0 := by decide +kernel
theorem dksX4_letters_1 : cX4_letters.data.toList.drop 1 = dktX4_letters_1 := dk_seg dksX4_letters_0 1 rfl rfl
theorem dksX4_letters_2 : cX4_letters.data.toList.drop 72 = dktX4_letters_2 := dk_seg dksX4_letters_1 71 rfl rfl
theorem dksX4_letters_3 : cX4_letters.data.toList.drop 96 = dktX4_letters_3 := dk_seg dksX4_letters_2 24 rfl rfl
theorem dksX4_letters_4 : cX4_letters.data.toList.drop 120 = dktX4_letters_4 := dk_seg dksX4_letters_3 24 rfl rfl
theorem dksX4_letters_5 : cX4_letters.data.toList.drop 144 = dktX4_letters_5 := dk_seg dksX4_letters_4 24 rfl rfl
theorem dksX4_letters_6 : cX4_letters.data.toList.drop 166 = dktX4_letters_6 := dk_seg dksX4_letters_5 22 rfl rfl
theorem dksX4_letters_7 : cX4_letters.data.toList.drop 189 = dktX4_letters_7 := dk_seg dksX4_letters_6 23 rfl rfl
theorem dksX4_letters_8 : cX4_letters.data.toList.drop 213 = dktX4_letters_8 := dk_seg dksX4_letters_7 24 rfl rfl
theorem dksX4_letters_9 : cX4_letters.data.toList.drop 236 = dktX4_letters_9 := dk_seg dksX4_letters_8 23 rfl rfl
theorem dksX4_letters_10 : cX4_letters.data.toList.drop 259 = dktX4_letters_10 := dk_seg dksX4_letters_9 23 rfl rfl
theorem dX4_letters_0 : decode cX4_letters 0 = .ok (.iload_n 0, 1) := dk_26 (dk_at dksX4_letters_0 0 rfl rfl)
theorem dX4_letters_1 : decode cX4_letters 1 = .ok (.tableswitch 268 0 13 #[71, 85, 99, 113, 127, 141, 154, 169, 184, 200, 212, 227, 243, 256], 71) := by decide +kernel
theorem dX4_letters_72 : decode cX4_letters 72 = .ok (.bipush 104, 2) := dk_16 104 (dk_at dksX4_letters_2 0 rfl rfl)
theorem dX4_letters_74 : decode cX4_letters 74 = .ok (.bipush 101, 2) := dk_16 101 (dk_at dksX4_letters_2 2 rfl rfl)
theorem dX4_letters_76 : decode cX4_letters 76 = .ok (.bipush 101, 2) := dk_16 101 (dk_at dksX4_letters_2 4 rfl rfl)
theorem dX4_letters_78 : decode cX4_letters 78 = .ok (.bipush 108, 2) := dk_16 108 (dk_at dksX4_letters_2 6 rfl rfl)
theorem dX4_letters_80 : decode cX4_letters 80 = .ok (.iconst 0, 1) := dk_3 (dk_at dksX4_letters_2 8 rfl rfl)
theorem dX4_letters_81 : decode cX4_letters 81 = .ok (.iconst 0, 1) := dk_3 (dk_at dksX4_letters_2 9 rfl rfl)
theorem dX4_letters_82 : decode cX4_letters 82 = .ok (.invokestatic 159, 3) := dk_184 0 159 (dk_at dksX4_letters_2 10 rfl rfl)
theorem dX4_letters_85 : decode cX4_letters 85 = .ok (.lreturn, 1) := dk_173 (dk_at dksX4_letters_2 13 rfl rfl)
theorem dX4_letters_86 : decode cX4_letters 86 = .ok (.bipush 115, 2) := dk_16 115 (dk_at dksX4_letters_2 14 rfl rfl)
theorem dX4_letters_88 : decode cX4_letters 88 = .ok (.bipush 105, 2) := dk_16 105 (dk_at dksX4_letters_2 16 rfl rfl)
theorem dX4_letters_90 : decode cX4_letters 90 = .ok (.bipush 122, 2) := dk_16 122 (dk_at dksX4_letters_2 18 rfl rfl)
theorem dX4_letters_92 : decode cX4_letters 92 = .ok (.bipush 101, 2) := dk_16 101 (dk_at dksX4_letters_2 20 rfl rfl)
theorem dX4_letters_94 : decode cX4_letters 94 = .ok (.iconst 0, 1) := dk_3 (dk_at dksX4_letters_2 22 rfl rfl)
theorem dX4_letters_95 : decode cX4_letters 95 = .ok (.iconst 0, 1) := dk_3 (dk_at dksX4_letters_2 23 rfl rfl)
theorem dX4_letters_96 : decode cX4_letters 96 = .ok (.invokestatic 159, 3) := dk_184 0 159 (dk_at dksX4_letters_3 0 rfl rfl)
theorem dX4_letters_99 : decode cX4_letters 99 = .ok (.lreturn, 1) := dk_173 (dk_at dksX4_letters_3 3 rfl rfl)
theorem dX4_letters_100 : decode cX4_letters 100 = .ok (.bipush 103, 2) := dk_16 103 (dk_at dksX4_letters_3 4 rfl rfl)
theorem dX4_letters_102 : decode cX4_letters 102 = .ok (.bipush 105, 2) := dk_16 105 (dk_at dksX4_letters_3 6 rfl rfl)
theorem dX4_letters_104 : decode cX4_letters 104 = .ok (.bipush 118, 2) := dk_16 118 (dk_at dksX4_letters_3 8 rfl rfl)
theorem dX4_letters_106 : decode cX4_letters 106 = .ok (.bipush 101, 2) := dk_16 101 (dk_at dksX4_letters_3 10 rfl rfl)
theorem dX4_letters_108 : decode cX4_letters 108 = .ok (.iconst 0, 1) := dk_3 (dk_at dksX4_letters_3 12 rfl rfl)
theorem dX4_letters_109 : decode cX4_letters 109 = .ok (.iconst 0, 1) := dk_3 (dk_at dksX4_letters_3 13 rfl rfl)
theorem dX4_letters_110 : decode cX4_letters 110 = .ok (.invokestatic 159, 3) := dk_184 0 159 (dk_at dksX4_letters_3 14 rfl rfl)
theorem dX4_letters_113 : decode cX4_letters 113 = .ok (.lreturn, 1) := dk_173 (dk_at dksX4_letters_3 17 rfl rfl)
theorem dX4_letters_114 : decode cX4_letters 114 = .ok (.bipush 119, 2) := dk_16 119 (dk_at dksX4_letters_3 18 rfl rfl)
theorem dX4_letters_116 : decode cX4_letters 116 = .ok (.bipush 111, 2) := dk_16 111 (dk_at dksX4_letters_3 20 rfl rfl)
theorem dX4_letters_118 : decode cX4_letters 118 = .ok (.bipush 114, 2) := dk_16 114 (dk_at dksX4_letters_3 22 rfl rfl)
theorem dX4_letters_120 : decode cX4_letters 120 = .ok (.bipush 110, 2) := dk_16 110 (dk_at dksX4_letters_4 0 rfl rfl)
theorem dX4_letters_122 : decode cX4_letters 122 = .ok (.iconst 0, 1) := dk_3 (dk_at dksX4_letters_4 2 rfl rfl)
theorem dX4_letters_123 : decode cX4_letters 123 = .ok (.iconst 0, 1) := dk_3 (dk_at dksX4_letters_4 3 rfl rfl)
theorem dX4_letters_124 : decode cX4_letters 124 = .ok (.invokestatic 159, 3) := dk_184 0 159 (dk_at dksX4_letters_4 4 rfl rfl)
theorem dX4_letters_127 : decode cX4_letters 127 = .ok (.lreturn, 1) := dk_173 (dk_at dksX4_letters_4 7 rfl rfl)
theorem dX4_letters_128 : decode cX4_letters 128 = .ok (.bipush 100, 2) := dk_16 100 (dk_at dksX4_letters_4 8 rfl rfl)
theorem dX4_letters_130 : decode cX4_letters 130 = .ok (.bipush 97, 2) := dk_16 97 (dk_at dksX4_letters_4 10 rfl rfl)
theorem dX4_letters_132 : decode cX4_letters 132 = .ok (.bipush 109, 2) := dk_16 109 (dk_at dksX4_letters_4 12 rfl rfl)
theorem dX4_letters_134 : decode cX4_letters 134 = .ok (.bipush 112, 2) := dk_16 112 (dk_at dksX4_letters_4 14 rfl rfl)
theorem dX4_letters_136 : decode cX4_letters 136 = .ok (.iconst 0, 1) := dk_3 (dk_at dksX4_letters_4 16 rfl rfl)
theorem dX4_letters_137 : decode cX4_letters 137 = .ok (.iconst 0, 1) := dk_3 (dk_at dksX4_letters_4 17 rfl rfl)
theorem dX4_letters_138 : decode cX4_letters 138 = .ok (.invokestatic 159, 3) := dk_184 0 159 (dk_at dksX4_letters_4 18 rfl rfl)
theorem dX4_letters_141 : decode cX4_letters 141 = .ok (.lreturn, 1) := dk_173 (dk_at dksX4_letters_4 21 rfl rfl)
theorem dX4_letters_142 : decode cX4_letters 142 = .ok (.bipush 100, 2) := dk_16 100 (dk_at dksX4_letters_4 22 rfl rfl)
theorem dX4_letters_144 : decode cX4_letters 144 = .ok (.bipush 97, 2) := dk_16 97 (dk_at dksX4_letters_5 0 rfl rfl)
theorem dX4_letters_146 : decode cX4_letters 146 = .ok (.bipush 121, 2) := dk_16 121 (dk_at dksX4_letters_5 2 rfl rfl)
theorem dX4_letters_148 : decode cX4_letters 148 = .ok (.iconst 0, 1) := dk_3 (dk_at dksX4_letters_5 4 rfl rfl)
theorem dX4_letters_149 : decode cX4_letters 149 = .ok (.iconst 0, 1) := dk_3 (dk_at dksX4_letters_5 5 rfl rfl)
theorem dX4_letters_150 : decode cX4_letters 150 = .ok (.iconst 0, 1) := dk_3 (dk_at dksX4_letters_5 6 rfl rfl)
theorem dX4_letters_151 : decode cX4_letters 151 = .ok (.invokestatic 159, 3) := dk_184 0 159 (dk_at dksX4_letters_5 7 rfl rfl)
theorem dX4_letters_154 : decode cX4_letters 154 = .ok (.lreturn, 1) := dk_173 (dk_at dksX4_letters_5 10 rfl rfl)
theorem dX4_letters_155 : decode cX4_letters 155 = .ok (.bipush 116, 2) := dk_16 116 (dk_at dksX4_letters_5 11 rfl rfl)
theorem dX4_letters_157 : decode cX4_letters 157 = .ok (.bipush 105, 2) := dk_16 105 (dk_at dksX4_letters_5 13 rfl rfl)
theorem dX4_letters_159 : decode cX4_letters 159 = .ok (.bipush 103, 2) := dk_16 103 (dk_at dksX4_letters_5 15 rfl rfl)
theorem dX4_letters_161 : decode cX4_letters 161 = .ok (.bipush 104, 2) := dk_16 104 (dk_at dksX4_letters_5 17 rfl rfl)
theorem dX4_letters_163 : decode cX4_letters 163 = .ok (.bipush 116, 2) := dk_16 116 (dk_at dksX4_letters_5 19 rfl rfl)
theorem dX4_letters_165 : decode cX4_letters 165 = .ok (.iconst 0, 1) := dk_3 (dk_at dksX4_letters_5 21 rfl rfl)
theorem dX4_letters_166 : decode cX4_letters 166 = .ok (.invokestatic 159, 3) := dk_184 0 159 (dk_at dksX4_letters_6 0 rfl rfl)
theorem dX4_letters_169 : decode cX4_letters 169 = .ok (.lreturn, 1) := dk_173 (dk_at dksX4_letters_6 3 rfl rfl)
theorem dX4_letters_170 : decode cX4_letters 170 = .ok (.bipush 104, 2) := dk_16 104 (dk_at dksX4_letters_6 4 rfl rfl)
theorem dX4_letters_172 : decode cX4_letters 172 = .ok (.bipush 111, 2) := dk_16 111 (dk_at dksX4_letters_6 6 rfl rfl)
theorem dX4_letters_174 : decode cX4_letters 174 = .ok (.bipush 117, 2) := dk_16 117 (dk_at dksX4_letters_6 8 rfl rfl)
theorem dX4_letters_176 : decode cX4_letters 176 = .ok (.bipush 115, 2) := dk_16 115 (dk_at dksX4_letters_6 10 rfl rfl)
theorem dX4_letters_178 : decode cX4_letters 178 = .ok (.bipush 101, 2) := dk_16 101 (dk_at dksX4_letters_6 12 rfl rfl)
theorem dX4_letters_180 : decode cX4_letters 180 = .ok (.iconst 0, 1) := dk_3 (dk_at dksX4_letters_6 14 rfl rfl)
theorem dX4_letters_181 : decode cX4_letters 181 = .ok (.invokestatic 159, 3) := dk_184 0 159 (dk_at dksX4_letters_6 15 rfl rfl)
theorem dX4_letters_184 : decode cX4_letters 184 = .ok (.lreturn, 1) := dk_173 (dk_at dksX4_letters_6 18 rfl rfl)
theorem dX4_letters_185 : decode cX4_letters 185 = .ok (.bipush 112, 2) := dk_16 112 (dk_at dksX4_letters_6 19 rfl rfl)
theorem dX4_letters_187 : decode cX4_letters 187 = .ok (.bipush 101, 2) := dk_16 101 (dk_at dksX4_letters_6 21 rfl rfl)
theorem dX4_letters_189 : decode cX4_letters 189 = .ok (.bipush 114, 2) := dk_16 114 (dk_at dksX4_letters_7 0 rfl rfl)
theorem dX4_letters_191 : decode cX4_letters 191 = .ok (.bipush 115, 2) := dk_16 115 (dk_at dksX4_letters_7 2 rfl rfl)
theorem dX4_letters_193 : decode cX4_letters 193 = .ok (.bipush 111, 2) := dk_16 111 (dk_at dksX4_letters_7 4 rfl rfl)
theorem dX4_letters_195 : decode cX4_letters 195 = .ok (.bipush 110, 2) := dk_16 110 (dk_at dksX4_letters_7 6 rfl rfl)
theorem dX4_letters_197 : decode cX4_letters 197 = .ok (.invokestatic 159, 3) := dk_184 0 159 (dk_at dksX4_letters_7 8 rfl rfl)
theorem dX4_letters_200 : decode cX4_letters 200 = .ok (.lreturn, 1) := dk_173 (dk_at dksX4_letters_7 11 rfl rfl)
theorem dX4_letters_201 : decode cX4_letters 201 = .ok (.bipush 105, 2) := dk_16 105 (dk_at dksX4_letters_7 12 rfl rfl)
theorem dX4_letters_203 : decode cX4_letters 203 = .ok (.bipush 110, 2) := dk_16 110 (dk_at dksX4_letters_7 14 rfl rfl)
theorem dX4_letters_205 : decode cX4_letters 205 = .ok (.iconst 0, 1) := dk_3 (dk_at dksX4_letters_7 16 rfl rfl)
theorem dX4_letters_206 : decode cX4_letters 206 = .ok (.iconst 0, 1) := dk_3 (dk_at dksX4_letters_7 17 rfl rfl)
theorem dX4_letters_207 : decode cX4_letters 207 = .ok (.iconst 0, 1) := dk_3 (dk_at dksX4_letters_7 18 rfl rfl)
theorem dX4_letters_208 : decode cX4_letters 208 = .ok (.iconst 0, 1) := dk_3 (dk_at dksX4_letters_7 19 rfl rfl)
theorem dX4_letters_209 : decode cX4_letters 209 = .ok (.invokestatic 159, 3) := dk_184 0 159 (dk_at dksX4_letters_7 20 rfl rfl)
theorem dX4_letters_212 : decode cX4_letters 212 = .ok (.lreturn, 1) := dk_173 (dk_at dksX4_letters_7 23 rfl rfl)
theorem dX4_letters_213 : decode cX4_letters 213 = .ok (.bipush 101, 2) := dk_16 101 (dk_at dksX4_letters_8 0 rfl rfl)
theorem dX4_letters_215 : decode cX4_letters 215 = .ok (.bipush 97, 2) := dk_16 97 (dk_at dksX4_letters_8 2 rfl rfl)
theorem dX4_letters_217 : decode cX4_letters 217 = .ok (.bipush 115, 2) := dk_16 115 (dk_at dksX4_letters_8 4 rfl rfl)
theorem dX4_letters_219 : decode cX4_letters 219 = .ok (.bipush 101, 2) := dk_16 101 (dk_at dksX4_letters_8 6 rfl rfl)
theorem dX4_letters_221 : decode cX4_letters 221 = .ok (.bipush 115, 2) := dk_16 115 (dk_at dksX4_letters_8 8 rfl rfl)
theorem dX4_letters_223 : decode cX4_letters 223 = .ok (.iconst 0, 1) := dk_3 (dk_at dksX4_letters_8 10 rfl rfl)
theorem dX4_letters_224 : decode cX4_letters 224 = .ok (.invokestatic 159, 3) := dk_184 0 159 (dk_at dksX4_letters_8 11 rfl rfl)
theorem dX4_letters_227 : decode cX4_letters 227 = .ok (.lreturn, 1) := dk_173 (dk_at dksX4_letters_8 14 rfl rfl)
theorem dX4_letters_228 : decode cX4_letters 228 = .ok (.bipush 98, 2) := dk_16 98 (dk_at dksX4_letters_8 15 rfl rfl)
theorem dX4_letters_230 : decode cX4_letters 230 = .ok (.bipush 117, 2) := dk_16 117 (dk_at dksX4_letters_8 17 rfl rfl)
theorem dX4_letters_232 : decode cX4_letters 232 = .ok (.bipush 114, 2) := dk_16 114 (dk_at dksX4_letters_8 19 rfl rfl)
theorem dX4_letters_234 : decode cX4_letters 234 = .ok (.bipush 115, 2) := dk_16 115 (dk_at dksX4_letters_8 21 rfl rfl)
theorem dX4_letters_236 : decode cX4_letters 236 = .ok (.bipush 116, 2) := dk_16 116 (dk_at dksX4_letters_9 0 rfl rfl)
theorem dX4_letters_238 : decode cX4_letters 238 = .ok (.bipush 115, 2) := dk_16 115 (dk_at dksX4_letters_9 2 rfl rfl)
theorem dX4_letters_240 : decode cX4_letters 240 = .ok (.invokestatic 159, 3) := dk_184 0 159 (dk_at dksX4_letters_9 4 rfl rfl)
theorem dX4_letters_243 : decode cX4_letters 243 = .ok (.lreturn, 1) := dk_173 (dk_at dksX4_letters_9 7 rfl rfl)
theorem dX4_letters_244 : decode cX4_letters 244 = .ok (.bipush 97, 2) := dk_16 97 (dk_at dksX4_letters_9 8 rfl rfl)
theorem dX4_letters_246 : decode cX4_letters 246 = .ok (.bipush 110, 2) := dk_16 110 (dk_at dksX4_letters_9 10 rfl rfl)
theorem dX4_letters_248 : decode cX4_letters 248 = .ok (.bipush 100, 2) := dk_16 100 (dk_at dksX4_letters_9 12 rfl rfl)
theorem dX4_letters_250 : decode cX4_letters 250 = .ok (.iconst 0, 1) := dk_3 (dk_at dksX4_letters_9 14 rfl rfl)
theorem dX4_letters_251 : decode cX4_letters 251 = .ok (.iconst 0, 1) := dk_3 (dk_at dksX4_letters_9 15 rfl rfl)
theorem dX4_letters_252 : decode cX4_letters 252 = .ok (.iconst 0, 1) := dk_3 (dk_at dksX4_letters_9 16 rfl rfl)
theorem dX4_letters_253 : decode cX4_letters 253 = .ok (.invokestatic 159, 3) := dk_184 0 159 (dk_at dksX4_letters_9 17 rfl rfl)
theorem dX4_letters_256 : decode cX4_letters 256 = .ok (.lreturn, 1) := dk_173 (dk_at dksX4_letters_9 20 rfl rfl)
theorem dX4_letters_257 : decode cX4_letters 257 = .ok (.bipush 111, 2) := dk_16 111 (dk_at dksX4_letters_9 21 rfl rfl)
theorem dX4_letters_259 : decode cX4_letters 259 = .ok (.bipush 114, 2) := dk_16 114 (dk_at dksX4_letters_10 0 rfl rfl)
theorem dX4_letters_261 : decode cX4_letters 261 = .ok (.iconst 0, 1) := dk_3 (dk_at dksX4_letters_10 2 rfl rfl)
theorem dX4_letters_262 : decode cX4_letters 262 = .ok (.iconst 0, 1) := dk_3 (dk_at dksX4_letters_10 3 rfl rfl)
theorem dX4_letters_263 : decode cX4_letters 263 = .ok (.iconst 0, 1) := dk_3 (dk_at dksX4_letters_10 4 rfl rfl)
theorem dX4_letters_264 : decode cX4_letters 264 = .ok (.iconst 0, 1) := dk_3 (dk_at dksX4_letters_10 5 rfl rfl)
theorem dX4_letters_265 : decode cX4_letters 265 = .ok (.invokestatic 159, 3) := dk_184 0 159 (dk_at dksX4_letters_10 6 rfl rfl)
theorem dX4_letters_268 : decode cX4_letters 268 = .ok (.lreturn, 1) := dk_173 (dk_at dksX4_letters_10 9 rfl rfl)
theorem dX4_letters_269 : decode cX4_letters 269 = .ok (.bipush 110, 2) := dk_16 110 (dk_at dksX4_letters_10 10 rfl rfl)
theorem dX4_letters_271 : decode cX4_letters 271 = .ok (.bipush 111, 2) := dk_16 111 (dk_at dksX4_letters_10 12 rfl rfl)
theorem dX4_letters_273 : decode cX4_letters 273 = .ok (.bipush 116, 2) := dk_16 116 (dk_at dksX4_letters_10 14 rfl rfl)
theorem dX4_letters_275 : decode cX4_letters 275 = .ok (.iconst 0, 1) := dk_3 (dk_at dksX4_letters_10 16 rfl rfl)
theorem dX4_letters_276 : decode cX4_letters 276 = .ok (.iconst 0, 1) := dk_3 (dk_at dksX4_letters_10 17 rfl rfl)
theorem dX4_letters_277 : decode cX4_letters 277 = .ok (.iconst 0, 1) := dk_3 (dk_at dksX4_letters_10 18 rfl rfl)
theorem dX4_letters_278 : decode cX4_letters 278 = .ok (.invokestatic 159, 3) := dk_184 0 159 (dk_at dksX4_letters_10 19 rfl rfl)
theorem dX4_letters_281 : decode cX4_letters 281 = .ok (.lreturn, 1) := dk_173 (dk_at dksX4_letters_10 22 rfl rfl)
abbrev cX4_spelled : ByteArray := prog_12_method_16_code
def yX4_spelled : MethodName := ⟨RX4, "spelled", "(IIIIII)J"⟩
def dkwX4_spelled_3 : List UInt8 := [22, 6, 8, 121, 21, 5, 16, 96, 100, 133, 129, 55, 6, 22, 6, 173]
abbrev dktX4_spelled_3 : List UInt8 := dkwX4_spelled_3 ++ []
def dkwX4_spelled_2 : List UInt8 := [21, 4, 153, 0, 16, 22, 6, 8, 121, 21, 4, 16, 96, 100, 133, 129, 55, 6, 21, 5, 153, 0, 16]
abbrev dktX4_spelled_2 : List UInt8 := dkwX4_spelled_2 ++ dktX4_spelled_3
def dkwX4_spelled_1 : List UInt8 := [28, 16, 96, 100, 133, 129, 55, 6, 29, 153, 0, 15, 22, 6, 8, 121, 29, 16, 96, 100, 133, 129, 55, 6]
abbrev dktX4_spelled_1 : List UInt8 := dkwX4_spelled_1 ++ dktX4_spelled_2
def dkwX4_spelled_0 : List UInt8 := [26, 133, 20, 0, 157, 101, 8, 121, 27, 16, 96, 100, 133, 129, 55, 6, 28, 153, 0, 15, 22, 6, 8, 121]
abbrev dktX4_spelled_0 : List UInt8 := dkwX4_spelled_0 ++ dktX4_spelled_1
theorem dksX4_spelled_0 : cX4_spelled.data.toList.drop 0 = dktX4_spelled_0 := by decide +kernel
theorem dksX4_spelled_1 : cX4_spelled.data.toList.drop 24 = dktX4_spelled_1 := dk_seg dksX4_spelled_0 24 rfl rfl
theorem dksX4_spelled_2 : cX4_spelled.data.toList.drop 48 = dktX4_spelled_2 := dk_seg dksX4_spelled_1 24 rfl rfl
theorem dksX4_spelled_3 : cX4_spelled.data.toList.drop 71 = dktX4_spelled_3 := dk_seg dksX4_spelled_2 23 rfl rfl
theorem dX4_spelled_0 : decode cX4_spelled 0 = .ok (.iload_n 0, 1) := dk_26 (dk_at dksX4_spelled_0 0 rfl rfl)
theorem dX4_spelled_1 : decode cX4_spelled 1 = .ok (.i2l, 1) := dk_133 (dk_at dksX4_spelled_0 1 rfl rfl)
theorem dX4_spelled_2 : decode cX4_spelled 2 = .ok (.ldc2_w 157, 3) := dk_20 0 157 (dk_at dksX4_spelled_0 2 rfl rfl)
theorem dX4_spelled_5 : decode cX4_spelled 5 = .ok (.lsub, 1) := dk_101 (dk_at dksX4_spelled_0 5 rfl rfl)
theorem dX4_spelled_6 : decode cX4_spelled 6 = .ok (.iconst 5, 1) := dk_8 (dk_at dksX4_spelled_0 6 rfl rfl)
theorem dX4_spelled_7 : decode cX4_spelled 7 = .ok (.lshl, 1) := dk_121 (dk_at dksX4_spelled_0 7 rfl rfl)
theorem dX4_spelled_8 : decode cX4_spelled 8 = .ok (.iload_n 1, 1) := dk_27 (dk_at dksX4_spelled_0 8 rfl rfl)
theorem dX4_spelled_9 : decode cX4_spelled 9 = .ok (.bipush 96, 2) := dk_16 96 (dk_at dksX4_spelled_0 9 rfl rfl)
theorem dX4_spelled_11 : decode cX4_spelled 11 = .ok (.isub, 1) := dk_100 (dk_at dksX4_spelled_0 11 rfl rfl)
theorem dX4_spelled_12 : decode cX4_spelled 12 = .ok (.i2l, 1) := dk_133 (dk_at dksX4_spelled_0 12 rfl rfl)
theorem dX4_spelled_13 : decode cX4_spelled 13 = .ok (.lor, 1) := dk_129 (dk_at dksX4_spelled_0 13 rfl rfl)
theorem dX4_spelled_14 : decode cX4_spelled 14 = .ok (.lstore 6, 2) := dk_55 6 (dk_at dksX4_spelled_0 14 rfl rfl)
theorem dX4_spelled_16 : decode cX4_spelled 16 = .ok (.iload_n 2, 1) := dk_28 (dk_at dksX4_spelled_0 16 rfl rfl)
theorem dX4_spelled_17 : decode cX4_spelled 17 = .ok (.ifCond .eq 15, 3) := dk_153 0 15 (dk_at dksX4_spelled_0 17 rfl rfl)
theorem dX4_spelled_20 : decode cX4_spelled 20 = .ok (.lload 6, 2) := dk_22 6 (dk_at dksX4_spelled_0 20 rfl rfl)
theorem dX4_spelled_22 : decode cX4_spelled 22 = .ok (.iconst 5, 1) := dk_8 (dk_at dksX4_spelled_0 22 rfl rfl)
theorem dX4_spelled_23 : decode cX4_spelled 23 = .ok (.lshl, 1) := dk_121 (dk_at dksX4_spelled_0 23 rfl rfl)
theorem dX4_spelled_24 : decode cX4_spelled 24 = .ok (.iload_n 2, 1) := dk_28 (dk_at dksX4_spelled_1 0 rfl rfl)
theorem dX4_spelled_25 : decode cX4_spelled 25 = .ok (.bipush 96, 2) := dk_16 96 (dk_at dksX4_spelled_1 1 rfl rfl)
theorem dX4_spelled_27 : decode cX4_spelled 27 = .ok (.isub, 1) := dk_100 (dk_at dksX4_spelled_1 3 rfl rfl)
theorem dX4_spelled_28 : decode cX4_spelled 28 = .ok (.i2l, 1) := dk_133 (dk_at dksX4_spelled_1 4 rfl rfl)
theorem dX4_spelled_29 : decode cX4_spelled 29 = .ok (.lor, 1) := dk_129 (dk_at dksX4_spelled_1 5 rfl rfl)
theorem dX4_spelled_30 : decode cX4_spelled 30 = .ok (.lstore 6, 2) := dk_55 6 (dk_at dksX4_spelled_1 6 rfl rfl)
theorem dX4_spelled_32 : decode cX4_spelled 32 = .ok (.iload_n 3, 1) := dk_29 (dk_at dksX4_spelled_1 8 rfl rfl)
theorem dX4_spelled_33 : decode cX4_spelled 33 = .ok (.ifCond .eq 15, 3) := dk_153 0 15 (dk_at dksX4_spelled_1 9 rfl rfl)
theorem dX4_spelled_36 : decode cX4_spelled 36 = .ok (.lload 6, 2) := dk_22 6 (dk_at dksX4_spelled_1 12 rfl rfl)
theorem dX4_spelled_38 : decode cX4_spelled 38 = .ok (.iconst 5, 1) := dk_8 (dk_at dksX4_spelled_1 14 rfl rfl)
theorem dX4_spelled_39 : decode cX4_spelled 39 = .ok (.lshl, 1) := dk_121 (dk_at dksX4_spelled_1 15 rfl rfl)
theorem dX4_spelled_40 : decode cX4_spelled 40 = .ok (.iload_n 3, 1) := dk_29 (dk_at dksX4_spelled_1 16 rfl rfl)
theorem dX4_spelled_41 : decode cX4_spelled 41 = .ok (.bipush 96, 2) := dk_16 96 (dk_at dksX4_spelled_1 17 rfl rfl)
theorem dX4_spelled_43 : decode cX4_spelled 43 = .ok (.isub, 1) := dk_100 (dk_at dksX4_spelled_1 19 rfl rfl)
theorem dX4_spelled_44 : decode cX4_spelled 44 = .ok (.i2l, 1) := dk_133 (dk_at dksX4_spelled_1 20 rfl rfl)
theorem dX4_spelled_45 : decode cX4_spelled 45 = .ok (.lor, 1) := dk_129 (dk_at dksX4_spelled_1 21 rfl rfl)
theorem dX4_spelled_46 : decode cX4_spelled 46 = .ok (.lstore 6, 2) := dk_55 6 (dk_at dksX4_spelled_1 22 rfl rfl)
theorem dX4_spelled_48 : decode cX4_spelled 48 = .ok (.iload 4, 2) := dk_21 4 (dk_at dksX4_spelled_2 0 rfl rfl)
theorem dX4_spelled_50 : decode cX4_spelled 50 = .ok (.ifCond .eq 16, 3) := dk_153 0 16 (dk_at dksX4_spelled_2 2 rfl rfl)
theorem dX4_spelled_53 : decode cX4_spelled 53 = .ok (.lload 6, 2) := dk_22 6 (dk_at dksX4_spelled_2 5 rfl rfl)
theorem dX4_spelled_55 : decode cX4_spelled 55 = .ok (.iconst 5, 1) := dk_8 (dk_at dksX4_spelled_2 7 rfl rfl)
theorem dX4_spelled_56 : decode cX4_spelled 56 = .ok (.lshl, 1) := dk_121 (dk_at dksX4_spelled_2 8 rfl rfl)
theorem dX4_spelled_57 : decode cX4_spelled 57 = .ok (.iload 4, 2) := dk_21 4 (dk_at dksX4_spelled_2 9 rfl rfl)
theorem dX4_spelled_59 : decode cX4_spelled 59 = .ok (.bipush 96, 2) := dk_16 96 (dk_at dksX4_spelled_2 11 rfl rfl)
theorem dX4_spelled_61 : decode cX4_spelled 61 = .ok (.isub, 1) := dk_100 (dk_at dksX4_spelled_2 13 rfl rfl)
theorem dX4_spelled_62 : decode cX4_spelled 62 = .ok (.i2l, 1) := dk_133 (dk_at dksX4_spelled_2 14 rfl rfl)
theorem dX4_spelled_63 : decode cX4_spelled 63 = .ok (.lor, 1) := dk_129 (dk_at dksX4_spelled_2 15 rfl rfl)
theorem dX4_spelled_64 : decode cX4_spelled 64 = .ok (.lstore 6, 2) := dk_55 6 (dk_at dksX4_spelled_2 16 rfl rfl)
theorem dX4_spelled_66 : decode cX4_spelled 66 = .ok (.iload 5, 2) := dk_21 5 (dk_at dksX4_spelled_2 18 rfl rfl)
theorem dX4_spelled_68 : decode cX4_spelled 68 = .ok (.ifCond .eq 16, 3) := dk_153 0 16 (dk_at dksX4_spelled_2 20 rfl rfl)
theorem dX4_spelled_71 : decode cX4_spelled 71 = .ok (.lload 6, 2) := dk_22 6 (dk_at dksX4_spelled_3 0 rfl rfl)
theorem dX4_spelled_73 : decode cX4_spelled 73 = .ok (.iconst 5, 1) := dk_8 (dk_at dksX4_spelled_3 2 rfl rfl)
theorem dX4_spelled_74 : decode cX4_spelled 74 = .ok (.lshl, 1) := dk_121 (dk_at dksX4_spelled_3 3 rfl rfl)
theorem dX4_spelled_75 : decode cX4_spelled 75 = .ok (.iload 5, 2) := dk_21 5 (dk_at dksX4_spelled_3 4 rfl rfl)
theorem dX4_spelled_77 : decode cX4_spelled 77 = .ok (.bipush 96, 2) := dk_16 96 (dk_at dksX4_spelled_3 6 rfl rfl)
theorem dX4_spelled_79 : decode cX4_spelled 79 = .ok (.isub, 1) := dk_100 (dk_at dksX4_spelled_3 8 rfl rfl)
theorem dX4_spelled_80 : decode cX4_spelled 80 = .ok (.i2l, 1) := dk_133 (dk_at dksX4_spelled_3 9 rfl rfl)
theorem dX4_spelled_81 : decode cX4_spelled 81 = .ok (.lor, 1) := dk_129 (dk_at dksX4_spelled_3 10 rfl rfl)
theorem dX4_spelled_82 : decode cX4_spelled 82 = .ok (.lstore 6, 2) := dk_55 6 (dk_at dksX4_spelled_3 11 rfl rfl)
theorem dX4_spelled_84 : decode cX4_spelled 84 = .ok (.lload 6, 2) := dk_22 6 (dk_at dksX4_spelled_3 13 rfl rfl)
theorem dX4_spelled_86 : decode cX4_spelled 86 = .ok (.lreturn, 1) := dk_173 (dk_at dksX4_spelled_3 15 rfl rfl)
abbrev cX4_begins : ByteArray := prog_12_method_35_code
def yX4_begins : MethodName := ⟨RX4, "begins", "(ZZ)Z"⟩
def dkwX4_begins_1 : List UInt8 := [154, 0, 5, 3, 172, 42, 182, 0, 174, 4, 172]
abbrev dktX4_begins_1 : List UInt8 := dkwX4_begins_1 ++ []
def dkwX4_begins_0 : List UInt8 := [27, 153, 0, 8, 42, 5, 182, 0, 177, 28, 153, 0, 8, 42, 8, 182, 0, 177, 42, 182, 0, 170]
abbrev dktX4_begins_0 : List UInt8 := dkwX4_begins_0 ++ dktX4_begins_1
theorem dksX4_begins_0 : cX4_begins.data.toList.drop 0 = dktX4_begins_0 := by decide +kernel
theorem dksX4_begins_1 : cX4_begins.data.toList.drop 22 = dktX4_begins_1 := dk_seg dksX4_begins_0 22 rfl rfl
theorem dX4_begins_0 : decode cX4_begins 0 = .ok (.iload_n 1, 1) := dk_27 (dk_at dksX4_begins_0 0 rfl rfl)
theorem dX4_begins_1 : decode cX4_begins 1 = .ok (.ifCond .eq 8, 3) := dk_153 0 8 (dk_at dksX4_begins_0 1 rfl rfl)
theorem dX4_begins_4 : decode cX4_begins 4 = .ok (.aload_n 0, 1) := dk_42 (dk_at dksX4_begins_0 4 rfl rfl)
theorem dX4_begins_5 : decode cX4_begins 5 = .ok (.iconst 2, 1) := dk_5 (dk_at dksX4_begins_0 5 rfl rfl)
theorem dX4_begins_6 : decode cX4_begins 6 = .ok (.invokevirtual 177, 3) := dk_182 0 177 (dk_at dksX4_begins_0 6 rfl rfl)
theorem dX4_begins_9 : decode cX4_begins 9 = .ok (.iload_n 2, 1) := dk_28 (dk_at dksX4_begins_0 9 rfl rfl)
theorem dX4_begins_10 : decode cX4_begins 10 = .ok (.ifCond .eq 8, 3) := dk_153 0 8 (dk_at dksX4_begins_0 10 rfl rfl)
theorem dX4_begins_13 : decode cX4_begins 13 = .ok (.aload_n 0, 1) := dk_42 (dk_at dksX4_begins_0 13 rfl rfl)
theorem dX4_begins_14 : decode cX4_begins 14 = .ok (.iconst 5, 1) := dk_8 (dk_at dksX4_begins_0 14 rfl rfl)
theorem dX4_begins_15 : decode cX4_begins 15 = .ok (.invokevirtual 177, 3) := dk_182 0 177 (dk_at dksX4_begins_0 15 rfl rfl)
theorem dX4_begins_18 : decode cX4_begins 18 = .ok (.aload_n 0, 1) := dk_42 (dk_at dksX4_begins_0 18 rfl rfl)
theorem dX4_begins_19 : decode cX4_begins 19 = .ok (.invokevirtual 170, 3) := dk_182 0 170 (dk_at dksX4_begins_0 19 rfl rfl)
theorem dX4_begins_22 : decode cX4_begins 22 = .ok (.ifCond .ne 5, 3) := dk_154 0 5 (dk_at dksX4_begins_1 0 rfl rfl)
theorem dX4_begins_25 : decode cX4_begins 25 = .ok (.iconst 0, 1) := dk_3 (dk_at dksX4_begins_1 3 rfl rfl)
theorem dX4_begins_26 : decode cX4_begins 26 = .ok (.ireturn, 1) := dk_172 (dk_at dksX4_begins_1 4 rfl rfl)
theorem dX4_begins_27 : decode cX4_begins 27 = .ok (.aload_n 0, 1) := dk_42 (dk_at dksX4_begins_1 5 rfl rfl)
theorem dX4_begins_28 : decode cX4_begins 28 = .ok (.invokevirtual 174, 3) := dk_182 0 174 (dk_at dksX4_begins_1 6 rfl rfl)
theorem dX4_begins_31 : decode cX4_begins 31 = .ok (.iconst 1, 1) := dk_4 (dk_at dksX4_begins_1 9 rfl rfl)
theorem dX4_begins_32 : decode cX4_begins 32 = .ok (.ireturn, 1) := dk_172 (dk_at dksX4_begins_1 10 rfl rfl)
abbrev cX4_wrong : ByteArray := prog_12_method_19_code
def yX4_wrong : MethodName := ⟨RX4, "wrong", "(I)V"⟩
def dkwX4_wrong_0 : List UInt8 := [42, 180, 0, 167, 153, 0, 4, 177, 42, 27, 181, 0, 167, 42, 42, 180, 0, 131, 181, 0, 35, 177]
abbrev dktX4_wrong_0 : List UInt8 := dkwX4_wrong_0 ++ []
theorem dksX4_wrong_0 : cX4_wrong.data.toList.drop 0 = dktX4_wrong_0 := by decide +kernel
theorem dX4_wrong_0 : decode cX4_wrong 0 = .ok (.aload_n 0, 1) := dk_42 (dk_at dksX4_wrong_0 0 rfl rfl)
theorem dX4_wrong_1 : decode cX4_wrong 1 = .ok (.getfield 167, 3) := dk_180 0 167 (dk_at dksX4_wrong_0 1 rfl rfl)
theorem dX4_wrong_4 : decode cX4_wrong 4 = .ok (.ifCond .eq 4, 3) := dk_153 0 4 (dk_at dksX4_wrong_0 4 rfl rfl)
theorem dX4_wrong_7 : decode cX4_wrong 7 = .ok (.return_, 1) := dk_177 (dk_at dksX4_wrong_0 7 rfl rfl)
theorem dX4_wrong_8 : decode cX4_wrong 8 = .ok (.aload_n 0, 1) := dk_42 (dk_at dksX4_wrong_0 8 rfl rfl)
theorem dX4_wrong_9 : decode cX4_wrong 9 = .ok (.iload_n 1, 1) := dk_27 (dk_at dksX4_wrong_0 9 rfl rfl)
theorem dX4_wrong_10 : decode cX4_wrong 10 = .ok (.putfield 167, 3) := dk_181 0 167 (dk_at dksX4_wrong_0 10 rfl rfl)
theorem dX4_wrong_13 : decode cX4_wrong 13 = .ok (.aload_n 0, 1) := dk_42 (dk_at dksX4_wrong_0 13 rfl rfl)
theorem dX4_wrong_14 : decode cX4_wrong 14 = .ok (.aload_n 0, 1) := dk_42 (dk_at dksX4_wrong_0 14 rfl rfl)
theorem dX4_wrong_15 : decode cX4_wrong 15 = .ok (.getfield 131, 3) := dk_180 0 131 (dk_at dksX4_wrong_0 15 rfl rfl)
theorem dX4_wrong_18 : decode cX4_wrong 18 = .ok (.putfield 35, 3) := dk_181 0 35 (dk_at dksX4_wrong_0 18 rfl rfl)
theorem dX4_wrong_21 : decode cX4_wrong 21 = .ok (.return_, 1) := dk_177 (dk_at dksX4_wrong_0 21 rfl rfl)
abbrev cX4_readsHouse : ByteArray := prog_12_method_36_code
def yX4_readsHouse : MethodName := ⟨RX4, "readsHouse", "()V"⟩
def dkwX4_readsHouse_3 : List UInt8 := [153, 0, 13, 42, 89, 180, 0, 230, 4, 96, 181, 0, 230, 177]
abbrev dktX4_readsHouse_3 : List UInt8 := dkwX4_readsHouse_3 ++ []
def dkwX4_readsHouse_2 : List UInt8 := [180, 0, 53, 16, 11, 27, 96, 3, 79, 42, 180, 0, 53, 16, 19, 27, 96, 2, 79, 42, 182, 0, 170]
abbrev dktX4_readsHouse_2 : List UInt8 := dkwX4_readsHouse_2 ++ dktX4_readsHouse_3
def dkwX4_readsHouse_1 : List UInt8 := [27, 42, 3, 16, 9, 182, 0, 233, 79, 42, 180, 0, 44, 27, 42, 3, 16, 30, 182, 0, 233, 79, 42]
abbrev dktX4_readsHouse_1 : List UInt8 := dkwX4_readsHouse_1 ++ dktX4_readsHouse_2
def dkwX4_readsHouse_0 : List UInt8 := [42, 180, 0, 230, 60, 42, 180, 0, 53, 6, 27, 96, 42, 4, 16, 60, 182, 0, 233, 79, 42, 180, 0, 41]
abbrev dktX4_readsHouse_0 : List UInt8 := dkwX4_readsHouse_0 ++ dktX4_readsHouse_1
theorem dksX4_readsHouse_0 : cX4_readsHouse.data.toList.drop 0 = dktX4_readsHouse_0 := by decide +kernel
theorem dksX4_readsHouse_1 : cX4_readsHouse.data.toList.drop 24 = dktX4_readsHouse_1 := dk_seg dksX4_readsHouse_0 24 rfl rfl
theorem dksX4_readsHouse_2 : cX4_readsHouse.data.toList.drop 47 = dktX4_readsHouse_2 := dk_seg dksX4_readsHouse_1 23 rfl rfl
theorem dksX4_readsHouse_3 : cX4_readsHouse.data.toList.drop 70 = dktX4_readsHouse_3 := dk_seg dksX4_readsHouse_2 23 rfl rfl
theorem dX4_readsHouse_0 : decode cX4_readsHouse 0 = .ok (.aload_n 0, 1) := dk_42 (dk_at dksX4_readsHouse_0 0 rfl rfl)
theorem dX4_readsHouse_1 : decode cX4_readsHouse 1 = .ok (.getfield 230, 3) := dk_180 0 230 (dk_at dksX4_readsHouse_0 1 rfl rfl)
theorem dX4_readsHouse_4 : decode cX4_readsHouse 4 = .ok (.istore_n 1, 1) := dk_60 (dk_at dksX4_readsHouse_0 4 rfl rfl)
theorem dX4_readsHouse_5 : decode cX4_readsHouse 5 = .ok (.aload_n 0, 1) := dk_42 (dk_at dksX4_readsHouse_0 5 rfl rfl)
theorem dX4_readsHouse_6 : decode cX4_readsHouse 6 = .ok (.getfield 53, 3) := dk_180 0 53 (dk_at dksX4_readsHouse_0 6 rfl rfl)
theorem dX4_readsHouse_9 : decode cX4_readsHouse 9 = .ok (.iconst 3, 1) := dk_6 (dk_at dksX4_readsHouse_0 9 rfl rfl)
theorem dX4_readsHouse_10 : decode cX4_readsHouse 10 = .ok (.iload_n 1, 1) := dk_27 (dk_at dksX4_readsHouse_0 10 rfl rfl)
theorem dX4_readsHouse_11 : decode cX4_readsHouse 11 = .ok (.iadd, 1) := dk_96 (dk_at dksX4_readsHouse_0 11 rfl rfl)
theorem dX4_readsHouse_12 : decode cX4_readsHouse 12 = .ok (.aload_n 0, 1) := dk_42 (dk_at dksX4_readsHouse_0 12 rfl rfl)
theorem dX4_readsHouse_13 : decode cX4_readsHouse 13 = .ok (.iconst 1, 1) := dk_4 (dk_at dksX4_readsHouse_0 13 rfl rfl)
theorem dX4_readsHouse_14 : decode cX4_readsHouse 14 = .ok (.bipush 60, 2) := dk_16 60 (dk_at dksX4_readsHouse_0 14 rfl rfl)
theorem dX4_readsHouse_16 : decode cX4_readsHouse 16 = .ok (.invokevirtual 233, 3) := dk_182 0 233 (dk_at dksX4_readsHouse_0 16 rfl rfl)
theorem dX4_readsHouse_19 : decode cX4_readsHouse 19 = .ok (.iastore, 1) := dk_79 (dk_at dksX4_readsHouse_0 19 rfl rfl)
theorem dX4_readsHouse_20 : decode cX4_readsHouse 20 = .ok (.aload_n 0, 1) := dk_42 (dk_at dksX4_readsHouse_0 20 rfl rfl)
theorem dX4_readsHouse_21 : decode cX4_readsHouse 21 = .ok (.getfield 41, 3) := dk_180 0 41 (dk_at dksX4_readsHouse_0 21 rfl rfl)
theorem dX4_readsHouse_24 : decode cX4_readsHouse 24 = .ok (.iload_n 1, 1) := dk_27 (dk_at dksX4_readsHouse_1 0 rfl rfl)
theorem dX4_readsHouse_25 : decode cX4_readsHouse 25 = .ok (.aload_n 0, 1) := dk_42 (dk_at dksX4_readsHouse_1 1 rfl rfl)
theorem dX4_readsHouse_26 : decode cX4_readsHouse 26 = .ok (.iconst 0, 1) := dk_3 (dk_at dksX4_readsHouse_1 2 rfl rfl)
theorem dX4_readsHouse_27 : decode cX4_readsHouse 27 = .ok (.bipush 9, 2) := dk_16 9 (dk_at dksX4_readsHouse_1 3 rfl rfl)
theorem dX4_readsHouse_29 : decode cX4_readsHouse 29 = .ok (.invokevirtual 233, 3) := dk_182 0 233 (dk_at dksX4_readsHouse_1 5 rfl rfl)
theorem dX4_readsHouse_32 : decode cX4_readsHouse 32 = .ok (.iastore, 1) := dk_79 (dk_at dksX4_readsHouse_1 8 rfl rfl)
theorem dX4_readsHouse_33 : decode cX4_readsHouse 33 = .ok (.aload_n 0, 1) := dk_42 (dk_at dksX4_readsHouse_1 9 rfl rfl)
theorem dX4_readsHouse_34 : decode cX4_readsHouse 34 = .ok (.getfield 44, 3) := dk_180 0 44 (dk_at dksX4_readsHouse_1 10 rfl rfl)
theorem dX4_readsHouse_37 : decode cX4_readsHouse 37 = .ok (.iload_n 1, 1) := dk_27 (dk_at dksX4_readsHouse_1 13 rfl rfl)
theorem dX4_readsHouse_38 : decode cX4_readsHouse 38 = .ok (.aload_n 0, 1) := dk_42 (dk_at dksX4_readsHouse_1 14 rfl rfl)
theorem dX4_readsHouse_39 : decode cX4_readsHouse 39 = .ok (.iconst 0, 1) := dk_3 (dk_at dksX4_readsHouse_1 15 rfl rfl)
theorem dX4_readsHouse_40 : decode cX4_readsHouse 40 = .ok (.bipush 30, 2) := dk_16 30 (dk_at dksX4_readsHouse_1 16 rfl rfl)
theorem dX4_readsHouse_42 : decode cX4_readsHouse 42 = .ok (.invokevirtual 233, 3) := dk_182 0 233 (dk_at dksX4_readsHouse_1 18 rfl rfl)
theorem dX4_readsHouse_45 : decode cX4_readsHouse 45 = .ok (.iastore, 1) := dk_79 (dk_at dksX4_readsHouse_1 21 rfl rfl)
theorem dX4_readsHouse_46 : decode cX4_readsHouse 46 = .ok (.aload_n 0, 1) := dk_42 (dk_at dksX4_readsHouse_1 22 rfl rfl)
theorem dX4_readsHouse_47 : decode cX4_readsHouse 47 = .ok (.getfield 53, 3) := dk_180 0 53 (dk_at dksX4_readsHouse_2 0 rfl rfl)
theorem dX4_readsHouse_50 : decode cX4_readsHouse 50 = .ok (.bipush 11, 2) := dk_16 11 (dk_at dksX4_readsHouse_2 3 rfl rfl)
theorem dX4_readsHouse_52 : decode cX4_readsHouse 52 = .ok (.iload_n 1, 1) := dk_27 (dk_at dksX4_readsHouse_2 5 rfl rfl)
theorem dX4_readsHouse_53 : decode cX4_readsHouse 53 = .ok (.iadd, 1) := dk_96 (dk_at dksX4_readsHouse_2 6 rfl rfl)
theorem dX4_readsHouse_54 : decode cX4_readsHouse 54 = .ok (.iconst 0, 1) := dk_3 (dk_at dksX4_readsHouse_2 7 rfl rfl)
theorem dX4_readsHouse_55 : decode cX4_readsHouse 55 = .ok (.iastore, 1) := dk_79 (dk_at dksX4_readsHouse_2 8 rfl rfl)
theorem dX4_readsHouse_56 : decode cX4_readsHouse 56 = .ok (.aload_n 0, 1) := dk_42 (dk_at dksX4_readsHouse_2 9 rfl rfl)
theorem dX4_readsHouse_57 : decode cX4_readsHouse 57 = .ok (.getfield 53, 3) := dk_180 0 53 (dk_at dksX4_readsHouse_2 10 rfl rfl)
theorem dX4_readsHouse_60 : decode cX4_readsHouse 60 = .ok (.bipush 19, 2) := dk_16 19 (dk_at dksX4_readsHouse_2 13 rfl rfl)
theorem dX4_readsHouse_62 : decode cX4_readsHouse 62 = .ok (.iload_n 1, 1) := dk_27 (dk_at dksX4_readsHouse_2 15 rfl rfl)
theorem dX4_readsHouse_63 : decode cX4_readsHouse 63 = .ok (.iadd, 1) := dk_96 (dk_at dksX4_readsHouse_2 16 rfl rfl)
theorem dX4_readsHouse_64 : decode cX4_readsHouse 64 = .ok (.iconst (-1), 1) := dk_2 (dk_at dksX4_readsHouse_2 17 rfl rfl)
theorem dX4_readsHouse_65 : decode cX4_readsHouse 65 = .ok (.iastore, 1) := dk_79 (dk_at dksX4_readsHouse_2 18 rfl rfl)
theorem dX4_readsHouse_66 : decode cX4_readsHouse 66 = .ok (.aload_n 0, 1) := dk_42 (dk_at dksX4_readsHouse_2 19 rfl rfl)
theorem dX4_readsHouse_67 : decode cX4_readsHouse 67 = .ok (.invokevirtual 170, 3) := dk_182 0 170 (dk_at dksX4_readsHouse_2 20 rfl rfl)
theorem dX4_readsHouse_70 : decode cX4_readsHouse 70 = .ok (.ifCond .eq 13, 3) := dk_153 0 13 (dk_at dksX4_readsHouse_3 0 rfl rfl)
theorem dX4_readsHouse_73 : decode cX4_readsHouse 73 = .ok (.aload_n 0, 1) := dk_42 (dk_at dksX4_readsHouse_3 3 rfl rfl)
theorem dX4_readsHouse_74 : decode cX4_readsHouse 74 = .ok (.dup, 1) := dk_89 (dk_at dksX4_readsHouse_3 4 rfl rfl)
theorem dX4_readsHouse_75 : decode cX4_readsHouse 75 = .ok (.getfield 230, 3) := dk_180 0 230 (dk_at dksX4_readsHouse_3 5 rfl rfl)
theorem dX4_readsHouse_78 : decode cX4_readsHouse 78 = .ok (.iconst 1, 1) := dk_4 (dk_at dksX4_readsHouse_3 8 rfl rfl)
theorem dX4_readsHouse_79 : decode cX4_readsHouse 79 = .ok (.iadd, 1) := dk_96 (dk_at dksX4_readsHouse_3 9 rfl rfl)
theorem dX4_readsHouse_80 : decode cX4_readsHouse 80 = .ok (.putfield 230, 3) := dk_181 0 230 (dk_at dksX4_readsHouse_3 10 rfl rfl)
theorem dX4_readsHouse_83 : decode cX4_readsHouse 83 = .ok (.return_, 1) := dk_177 (dk_at dksX4_readsHouse_3 13 rfl rfl)
abbrev cX4_number : ByteArray := prog_12_method_23_code
def yX4_number : MethodName := ⟨RX4, "number", "(II)I"⟩
def dkwX4_number_3 : List UInt8 := [29, 172]
abbrev dktX4_number_3 : List UInt8 := dkwX4_number_3 ++ []
def dkwX4_number_2 : List UInt8 := [164, 0, 8, 42, 5, 182, 0, 177, 42, 180, 0, 138, 62, 42, 182, 0, 170, 153, 0, 7, 42, 182, 0, 174]
abbrev dktX4_number_2 : List UInt8 := dkwX4_number_2 ++ dktX4_number_3
def dkwX4_number_1 : List UInt8 := [167, 0, 32, 42, 180, 0, 154, 7, 163, 0, 19, 42, 180, 0, 138, 27, 161, 0, 11, 42, 180, 0, 138, 28]
abbrev dktX4_number_1 : List UInt8 := dkwX4_number_1 ++ dktX4_number_2
def dkwX4_number_0 : List UInt8 := [42, 182, 0, 170, 154, 0, 5, 3, 172, 42, 180, 0, 144, 5, 159, 0, 11, 42, 4, 182, 0, 177]
abbrev dktX4_number_0 : List UInt8 := dkwX4_number_0 ++ dktX4_number_1
theorem dksX4_number_0 : cX4_number.data.toList.drop 0 = dktX4_number_0 := by decide +kernel
theorem dksX4_number_1 : cX4_number.data.toList.drop 22 = dktX4_number_1 := dk_seg dksX4_number_0 22 rfl rfl
theorem dksX4_number_2 : cX4_number.data.toList.drop 46 = dktX4_number_2 := dk_seg dksX4_number_1 24 rfl rfl
theorem dksX4_number_3 : cX4_number.data.toList.drop 70 = dktX4_number_3 := dk_seg dksX4_number_2 24 rfl rfl
theorem dX4_number_0 : decode cX4_number 0 = .ok (.aload_n 0, 1) := dk_42 (dk_at dksX4_number_0 0 rfl rfl)
theorem dX4_number_1 : decode cX4_number 1 = .ok (.invokevirtual 170, 3) := dk_182 0 170 (dk_at dksX4_number_0 1 rfl rfl)
theorem dX4_number_4 : decode cX4_number 4 = .ok (.ifCond .ne 5, 3) := dk_154 0 5 (dk_at dksX4_number_0 4 rfl rfl)
theorem dX4_number_7 : decode cX4_number 7 = .ok (.iconst 0, 1) := dk_3 (dk_at dksX4_number_0 7 rfl rfl)
theorem dX4_number_8 : decode cX4_number 8 = .ok (.ireturn, 1) := dk_172 (dk_at dksX4_number_0 8 rfl rfl)
theorem dX4_number_9 : decode cX4_number 9 = .ok (.aload_n 0, 1) := dk_42 (dk_at dksX4_number_0 9 rfl rfl)
theorem dX4_number_10 : decode cX4_number 10 = .ok (.getfield 144, 3) := dk_180 0 144 (dk_at dksX4_number_0 10 rfl rfl)
theorem dX4_number_13 : decode cX4_number 13 = .ok (.iconst 2, 1) := dk_5 (dk_at dksX4_number_0 13 rfl rfl)
theorem dX4_number_14 : decode cX4_number 14 = .ok (.if_icmp .eq 11, 3) := dk_159 0 11 (dk_at dksX4_number_0 14 rfl rfl)
theorem dX4_number_17 : decode cX4_number 17 = .ok (.aload_n 0, 1) := dk_42 (dk_at dksX4_number_0 17 rfl rfl)
theorem dX4_number_18 : decode cX4_number 18 = .ok (.iconst 1, 1) := dk_4 (dk_at dksX4_number_0 18 rfl rfl)
theorem dX4_number_19 : decode cX4_number 19 = .ok (.invokevirtual 177, 3) := dk_182 0 177 (dk_at dksX4_number_0 19 rfl rfl)
theorem dX4_number_22 : decode cX4_number 22 = .ok (.goto 32, 3) := dk_167 0 32 (dk_at dksX4_number_1 0 rfl rfl)
theorem dX4_number_25 : decode cX4_number 25 = .ok (.aload_n 0, 1) := dk_42 (dk_at dksX4_number_1 3 rfl rfl)
theorem dX4_number_26 : decode cX4_number 26 = .ok (.getfield 154, 3) := dk_180 0 154 (dk_at dksX4_number_1 4 rfl rfl)
theorem dX4_number_29 : decode cX4_number 29 = .ok (.iconst 4, 1) := dk_7 (dk_at dksX4_number_1 7 rfl rfl)
theorem dX4_number_30 : decode cX4_number 30 = .ok (.if_icmp .gt 19, 3) := dk_163 0 19 (dk_at dksX4_number_1 8 rfl rfl)
theorem dX4_number_33 : decode cX4_number 33 = .ok (.aload_n 0, 1) := dk_42 (dk_at dksX4_number_1 11 rfl rfl)
theorem dX4_number_34 : decode cX4_number 34 = .ok (.getfield 138, 3) := dk_180 0 138 (dk_at dksX4_number_1 12 rfl rfl)
theorem dX4_number_37 : decode cX4_number 37 = .ok (.iload_n 1, 1) := dk_27 (dk_at dksX4_number_1 15 rfl rfl)
theorem dX4_number_38 : decode cX4_number 38 = .ok (.if_icmp .lt 11, 3) := dk_161 0 11 (dk_at dksX4_number_1 16 rfl rfl)
theorem dX4_number_41 : decode cX4_number 41 = .ok (.aload_n 0, 1) := dk_42 (dk_at dksX4_number_1 19 rfl rfl)
theorem dX4_number_42 : decode cX4_number 42 = .ok (.getfield 138, 3) := dk_180 0 138 (dk_at dksX4_number_1 20 rfl rfl)
theorem dX4_number_45 : decode cX4_number 45 = .ok (.iload_n 2, 1) := dk_28 (dk_at dksX4_number_1 23 rfl rfl)
theorem dX4_number_46 : decode cX4_number 46 = .ok (.if_icmp .le 8, 3) := dk_164 0 8 (dk_at dksX4_number_2 0 rfl rfl)
theorem dX4_number_49 : decode cX4_number 49 = .ok (.aload_n 0, 1) := dk_42 (dk_at dksX4_number_2 3 rfl rfl)
theorem dX4_number_50 : decode cX4_number 50 = .ok (.iconst 2, 1) := dk_5 (dk_at dksX4_number_2 4 rfl rfl)
theorem dX4_number_51 : decode cX4_number 51 = .ok (.invokevirtual 177, 3) := dk_182 0 177 (dk_at dksX4_number_2 5 rfl rfl)
theorem dX4_number_54 : decode cX4_number 54 = .ok (.aload_n 0, 1) := dk_42 (dk_at dksX4_number_2 8 rfl rfl)
theorem dX4_number_55 : decode cX4_number 55 = .ok (.getfield 138, 3) := dk_180 0 138 (dk_at dksX4_number_2 9 rfl rfl)
theorem dX4_number_58 : decode cX4_number 58 = .ok (.istore_n 3, 1) := dk_62 (dk_at dksX4_number_2 12 rfl rfl)
theorem dX4_number_59 : decode cX4_number 59 = .ok (.aload_n 0, 1) := dk_42 (dk_at dksX4_number_2 13 rfl rfl)
theorem dX4_number_60 : decode cX4_number 60 = .ok (.invokevirtual 170, 3) := dk_182 0 170 (dk_at dksX4_number_2 14 rfl rfl)
theorem dX4_number_63 : decode cX4_number 63 = .ok (.ifCond .eq 7, 3) := dk_153 0 7 (dk_at dksX4_number_2 17 rfl rfl)
theorem dX4_number_66 : decode cX4_number 66 = .ok (.aload_n 0, 1) := dk_42 (dk_at dksX4_number_2 20 rfl rfl)
theorem dX4_number_67 : decode cX4_number 67 = .ok (.invokevirtual 174, 3) := dk_182 0 174 (dk_at dksX4_number_2 21 rfl rfl)
theorem dX4_number_70 : decode cX4_number 70 = .ok (.iload_n 3, 1) := dk_29 (dk_at dksX4_number_3 0 rfl rfl)
theorem dX4_number_71 : decode cX4_number 71 = .ok (.ireturn, 1) := dk_172 (dk_at dksX4_number_3 1 rfl rfl)
abbrev cX4_readsPerson : ByteArray := prog_12_method_37_code
def yX4_readsPerson : MethodName := ⟨RX4, "readsPerson", "()V"⟩
def dkwX4_readsPerson_7 : List UInt8 := [182, 0, 170, 153, 0, 13, 42, 89, 180, 0, 237, 4, 96, 181, 0, 237, 177]
abbrev dktX4_readsPerson_7 : List UInt8 := dkwX4_readsPerson_7 ++ []
def dkwX4_readsPerson_6 : List UInt8 := [154, 0, 4, 177, 42, 180, 0, 53, 16, 19, 42, 180, 0, 138, 96, 27, 79, 42, 182, 0, 174, 42]
abbrev dktX4_readsPerson_6 : List UInt8 := dkwX4_readsPerson_6 ++ dktX4_readsPerson_7
def dkwX4_readsPerson_5 : List UInt8 := [180, 0, 53, 16, 19, 42, 180, 0, 138, 96, 46, 2, 159, 0, 8, 42, 7, 182, 0, 177, 42, 182, 0, 170]
abbrev dktX4_readsPerson_5 : List UInt8 := dkwX4_readsPerson_5 ++ dktX4_readsPerson_6
def dkwX4_readsPerson_4 : List UInt8 := [167, 0, 43, 42, 180, 0, 138, 42, 180, 0, 230, 161, 0, 11, 42, 6, 182, 0, 177, 167, 0, 24, 42]
abbrev dktX4_readsPerson_4 : List UInt8 := dkwX4_readsPerson_4 ++ dktX4_readsPerson_5
def dkwX4_readsPerson_3 : List UInt8 := [159, 0, 11, 42, 4, 182, 0, 177, 167, 0, 59, 42, 180, 0, 154, 7, 164, 0, 11, 42, 5, 182, 0, 177]
abbrev dktX4_readsPerson_3 : List UInt8 := dkwX4_readsPerson_3 ++ dktX4_readsPerson_4
def dkwX4_readsPerson_2 : List UInt8 := [182, 0, 170, 153, 0, 113, 42, 182, 0, 195, 16, 9, 160, 0, 104, 42, 182, 0, 174, 42, 180, 0, 144, 5]
abbrev dktX4_readsPerson_2 : List UInt8 := dkwX4_readsPerson_2 ++ dktX4_readsPerson_3
def dkwX4_readsPerson_1 : List UInt8 := [180, 0, 47, 27, 42, 3, 16, 9, 182, 0, 233, 79, 42, 180, 0, 53, 16, 35, 27, 96, 3, 79, 42]
abbrev dktX4_readsPerson_1 : List UInt8 := dkwX4_readsPerson_1 ++ dktX4_readsPerson_2
def dkwX4_readsPerson_0 : List UInt8 := [42, 180, 0, 237, 60, 42, 180, 0, 53, 16, 27, 27, 96, 42, 4, 16, 60, 182, 0, 233, 79, 42]
abbrev dktX4_readsPerson_0 : List UInt8 := dkwX4_readsPerson_0 ++ dktX4_readsPerson_1
theorem dksX4_readsPerson_0 : cX4_readsPerson.data.toList.drop 0 = dktX4_readsPerson_0 := by decide +kernel
theorem dksX4_readsPerson_1 : cX4_readsPerson.data.toList.drop 22 = dktX4_readsPerson_1 := dk_seg dksX4_readsPerson_0 22 rfl rfl
theorem dksX4_readsPerson_2 : cX4_readsPerson.data.toList.drop 45 = dktX4_readsPerson_2 := dk_seg dksX4_readsPerson_1 23 rfl rfl
theorem dksX4_readsPerson_3 : cX4_readsPerson.data.toList.drop 69 = dktX4_readsPerson_3 := dk_seg dksX4_readsPerson_2 24 rfl rfl
theorem dksX4_readsPerson_4 : cX4_readsPerson.data.toList.drop 93 = dktX4_readsPerson_4 := dk_seg dksX4_readsPerson_3 24 rfl rfl
theorem dksX4_readsPerson_5 : cX4_readsPerson.data.toList.drop 116 = dktX4_readsPerson_5 := dk_seg dksX4_readsPerson_4 23 rfl rfl
theorem dksX4_readsPerson_6 : cX4_readsPerson.data.toList.drop 140 = dktX4_readsPerson_6 := dk_seg dksX4_readsPerson_5 24 rfl rfl
theorem dksX4_readsPerson_7 : cX4_readsPerson.data.toList.drop 162 = dktX4_readsPerson_7 := dk_seg dksX4_readsPerson_6 22 rfl rfl
theorem dX4_readsPerson_0 : decode cX4_readsPerson 0 = .ok (.aload_n 0, 1) := dk_42 (dk_at dksX4_readsPerson_0 0 rfl rfl)
theorem dX4_readsPerson_1 : decode cX4_readsPerson 1 = .ok (.getfield 237, 3) := dk_180 0 237 (dk_at dksX4_readsPerson_0 1 rfl rfl)
theorem dX4_readsPerson_4 : decode cX4_readsPerson 4 = .ok (.istore_n 1, 1) := dk_60 (dk_at dksX4_readsPerson_0 4 rfl rfl)
theorem dX4_readsPerson_5 : decode cX4_readsPerson 5 = .ok (.aload_n 0, 1) := dk_42 (dk_at dksX4_readsPerson_0 5 rfl rfl)
theorem dX4_readsPerson_6 : decode cX4_readsPerson 6 = .ok (.getfield 53, 3) := dk_180 0 53 (dk_at dksX4_readsPerson_0 6 rfl rfl)
theorem dX4_readsPerson_9 : decode cX4_readsPerson 9 = .ok (.bipush 27, 2) := dk_16 27 (dk_at dksX4_readsPerson_0 9 rfl rfl)
theorem dX4_readsPerson_11 : decode cX4_readsPerson 11 = .ok (.iload_n 1, 1) := dk_27 (dk_at dksX4_readsPerson_0 11 rfl rfl)
theorem dX4_readsPerson_12 : decode cX4_readsPerson 12 = .ok (.iadd, 1) := dk_96 (dk_at dksX4_readsPerson_0 12 rfl rfl)
theorem dX4_readsPerson_13 : decode cX4_readsPerson 13 = .ok (.aload_n 0, 1) := dk_42 (dk_at dksX4_readsPerson_0 13 rfl rfl)
theorem dX4_readsPerson_14 : decode cX4_readsPerson 14 = .ok (.iconst 1, 1) := dk_4 (dk_at dksX4_readsPerson_0 14 rfl rfl)
theorem dX4_readsPerson_15 : decode cX4_readsPerson 15 = .ok (.bipush 60, 2) := dk_16 60 (dk_at dksX4_readsPerson_0 15 rfl rfl)
theorem dX4_readsPerson_17 : decode cX4_readsPerson 17 = .ok (.invokevirtual 233, 3) := dk_182 0 233 (dk_at dksX4_readsPerson_0 17 rfl rfl)
theorem dX4_readsPerson_20 : decode cX4_readsPerson 20 = .ok (.iastore, 1) := dk_79 (dk_at dksX4_readsPerson_0 20 rfl rfl)
theorem dX4_readsPerson_21 : decode cX4_readsPerson 21 = .ok (.aload_n 0, 1) := dk_42 (dk_at dksX4_readsPerson_0 21 rfl rfl)
theorem dX4_readsPerson_22 : decode cX4_readsPerson 22 = .ok (.getfield 47, 3) := dk_180 0 47 (dk_at dksX4_readsPerson_1 0 rfl rfl)
theorem dX4_readsPerson_25 : decode cX4_readsPerson 25 = .ok (.iload_n 1, 1) := dk_27 (dk_at dksX4_readsPerson_1 3 rfl rfl)
theorem dX4_readsPerson_26 : decode cX4_readsPerson 26 = .ok (.aload_n 0, 1) := dk_42 (dk_at dksX4_readsPerson_1 4 rfl rfl)
theorem dX4_readsPerson_27 : decode cX4_readsPerson 27 = .ok (.iconst 0, 1) := dk_3 (dk_at dksX4_readsPerson_1 5 rfl rfl)
theorem dX4_readsPerson_28 : decode cX4_readsPerson 28 = .ok (.bipush 9, 2) := dk_16 9 (dk_at dksX4_readsPerson_1 6 rfl rfl)
theorem dX4_readsPerson_30 : decode cX4_readsPerson 30 = .ok (.invokevirtual 233, 3) := dk_182 0 233 (dk_at dksX4_readsPerson_1 8 rfl rfl)
theorem dX4_readsPerson_33 : decode cX4_readsPerson 33 = .ok (.iastore, 1) := dk_79 (dk_at dksX4_readsPerson_1 11 rfl rfl)
theorem dX4_readsPerson_34 : decode cX4_readsPerson 34 = .ok (.aload_n 0, 1) := dk_42 (dk_at dksX4_readsPerson_1 12 rfl rfl)
theorem dX4_readsPerson_35 : decode cX4_readsPerson 35 = .ok (.getfield 53, 3) := dk_180 0 53 (dk_at dksX4_readsPerson_1 13 rfl rfl)
theorem dX4_readsPerson_38 : decode cX4_readsPerson 38 = .ok (.bipush 35, 2) := dk_16 35 (dk_at dksX4_readsPerson_1 16 rfl rfl)
theorem dX4_readsPerson_40 : decode cX4_readsPerson 40 = .ok (.iload_n 1, 1) := dk_27 (dk_at dksX4_readsPerson_1 18 rfl rfl)
theorem dX4_readsPerson_41 : decode cX4_readsPerson 41 = .ok (.iadd, 1) := dk_96 (dk_at dksX4_readsPerson_1 19 rfl rfl)
theorem dX4_readsPerson_42 : decode cX4_readsPerson 42 = .ok (.iconst 0, 1) := dk_3 (dk_at dksX4_readsPerson_1 20 rfl rfl)
theorem dX4_readsPerson_43 : decode cX4_readsPerson 43 = .ok (.iastore, 1) := dk_79 (dk_at dksX4_readsPerson_1 21 rfl rfl)
theorem dX4_readsPerson_44 : decode cX4_readsPerson 44 = .ok (.aload_n 0, 1) := dk_42 (dk_at dksX4_readsPerson_1 22 rfl rfl)
theorem dX4_readsPerson_45 : decode cX4_readsPerson 45 = .ok (.invokevirtual 170, 3) := dk_182 0 170 (dk_at dksX4_readsPerson_2 0 rfl rfl)
theorem dX4_readsPerson_48 : decode cX4_readsPerson 48 = .ok (.ifCond .eq 113, 3) := dk_153 0 113 (dk_at dksX4_readsPerson_2 3 rfl rfl)
theorem dX4_readsPerson_51 : decode cX4_readsPerson 51 = .ok (.aload_n 0, 1) := dk_42 (dk_at dksX4_readsPerson_2 6 rfl rfl)
theorem dX4_readsPerson_52 : decode cX4_readsPerson 52 = .ok (.invokevirtual 195, 3) := dk_182 0 195 (dk_at dksX4_readsPerson_2 7 rfl rfl)
theorem dX4_readsPerson_55 : decode cX4_readsPerson 55 = .ok (.bipush 9, 2) := dk_16 9 (dk_at dksX4_readsPerson_2 10 rfl rfl)
theorem dX4_readsPerson_57 : decode cX4_readsPerson 57 = .ok (.if_icmp .ne 104, 3) := dk_160 0 104 (dk_at dksX4_readsPerson_2 12 rfl rfl)
theorem dX4_readsPerson_60 : decode cX4_readsPerson 60 = .ok (.aload_n 0, 1) := dk_42 (dk_at dksX4_readsPerson_2 15 rfl rfl)
theorem dX4_readsPerson_61 : decode cX4_readsPerson 61 = .ok (.invokevirtual 174, 3) := dk_182 0 174 (dk_at dksX4_readsPerson_2 16 rfl rfl)
theorem dX4_readsPerson_64 : decode cX4_readsPerson 64 = .ok (.aload_n 0, 1) := dk_42 (dk_at dksX4_readsPerson_2 19 rfl rfl)
theorem dX4_readsPerson_65 : decode cX4_readsPerson 65 = .ok (.getfield 144, 3) := dk_180 0 144 (dk_at dksX4_readsPerson_2 20 rfl rfl)
theorem dX4_readsPerson_68 : decode cX4_readsPerson 68 = .ok (.iconst 2, 1) := dk_5 (dk_at dksX4_readsPerson_2 23 rfl rfl)
theorem dX4_readsPerson_69 : decode cX4_readsPerson 69 = .ok (.if_icmp .eq 11, 3) := dk_159 0 11 (dk_at dksX4_readsPerson_3 0 rfl rfl)
theorem dX4_readsPerson_72 : decode cX4_readsPerson 72 = .ok (.aload_n 0, 1) := dk_42 (dk_at dksX4_readsPerson_3 3 rfl rfl)
theorem dX4_readsPerson_73 : decode cX4_readsPerson 73 = .ok (.iconst 1, 1) := dk_4 (dk_at dksX4_readsPerson_3 4 rfl rfl)
theorem dX4_readsPerson_74 : decode cX4_readsPerson 74 = .ok (.invokevirtual 177, 3) := dk_182 0 177 (dk_at dksX4_readsPerson_3 5 rfl rfl)
theorem dX4_readsPerson_77 : decode cX4_readsPerson 77 = .ok (.goto 59, 3) := dk_167 0 59 (dk_at dksX4_readsPerson_3 8 rfl rfl)
theorem dX4_readsPerson_80 : decode cX4_readsPerson 80 = .ok (.aload_n 0, 1) := dk_42 (dk_at dksX4_readsPerson_3 11 rfl rfl)
theorem dX4_readsPerson_81 : decode cX4_readsPerson 81 = .ok (.getfield 154, 3) := dk_180 0 154 (dk_at dksX4_readsPerson_3 12 rfl rfl)
theorem dX4_readsPerson_84 : decode cX4_readsPerson 84 = .ok (.iconst 4, 1) := dk_7 (dk_at dksX4_readsPerson_3 15 rfl rfl)
theorem dX4_readsPerson_85 : decode cX4_readsPerson 85 = .ok (.if_icmp .le 11, 3) := dk_164 0 11 (dk_at dksX4_readsPerson_3 16 rfl rfl)
theorem dX4_readsPerson_88 : decode cX4_readsPerson 88 = .ok (.aload_n 0, 1) := dk_42 (dk_at dksX4_readsPerson_3 19 rfl rfl)
theorem dX4_readsPerson_89 : decode cX4_readsPerson 89 = .ok (.iconst 2, 1) := dk_5 (dk_at dksX4_readsPerson_3 20 rfl rfl)
theorem dX4_readsPerson_90 : decode cX4_readsPerson 90 = .ok (.invokevirtual 177, 3) := dk_182 0 177 (dk_at dksX4_readsPerson_3 21 rfl rfl)
theorem dX4_readsPerson_93 : decode cX4_readsPerson 93 = .ok (.goto 43, 3) := dk_167 0 43 (dk_at dksX4_readsPerson_4 0 rfl rfl)
theorem dX4_readsPerson_96 : decode cX4_readsPerson 96 = .ok (.aload_n 0, 1) := dk_42 (dk_at dksX4_readsPerson_4 3 rfl rfl)
theorem dX4_readsPerson_97 : decode cX4_readsPerson 97 = .ok (.getfield 138, 3) := dk_180 0 138 (dk_at dksX4_readsPerson_4 4 rfl rfl)
theorem dX4_readsPerson_100 : decode cX4_readsPerson 100 = .ok (.aload_n 0, 1) := dk_42 (dk_at dksX4_readsPerson_4 7 rfl rfl)
theorem dX4_readsPerson_101 : decode cX4_readsPerson 101 = .ok (.getfield 230, 3) := dk_180 0 230 (dk_at dksX4_readsPerson_4 8 rfl rfl)
theorem dX4_readsPerson_104 : decode cX4_readsPerson 104 = .ok (.if_icmp .lt 11, 3) := dk_161 0 11 (dk_at dksX4_readsPerson_4 11 rfl rfl)
theorem dX4_readsPerson_107 : decode cX4_readsPerson 107 = .ok (.aload_n 0, 1) := dk_42 (dk_at dksX4_readsPerson_4 14 rfl rfl)
theorem dX4_readsPerson_108 : decode cX4_readsPerson 108 = .ok (.iconst 3, 1) := dk_6 (dk_at dksX4_readsPerson_4 15 rfl rfl)
theorem dX4_readsPerson_109 : decode cX4_readsPerson 109 = .ok (.invokevirtual 177, 3) := dk_182 0 177 (dk_at dksX4_readsPerson_4 16 rfl rfl)
theorem dX4_readsPerson_112 : decode cX4_readsPerson 112 = .ok (.goto 24, 3) := dk_167 0 24 (dk_at dksX4_readsPerson_4 19 rfl rfl)
theorem dX4_readsPerson_115 : decode cX4_readsPerson 115 = .ok (.aload_n 0, 1) := dk_42 (dk_at dksX4_readsPerson_4 22 rfl rfl)
theorem dX4_readsPerson_116 : decode cX4_readsPerson 116 = .ok (.getfield 53, 3) := dk_180 0 53 (dk_at dksX4_readsPerson_5 0 rfl rfl)
theorem dX4_readsPerson_119 : decode cX4_readsPerson 119 = .ok (.bipush 19, 2) := dk_16 19 (dk_at dksX4_readsPerson_5 3 rfl rfl)
theorem dX4_readsPerson_121 : decode cX4_readsPerson 121 = .ok (.aload_n 0, 1) := dk_42 (dk_at dksX4_readsPerson_5 5 rfl rfl)
theorem dX4_readsPerson_122 : decode cX4_readsPerson 122 = .ok (.getfield 138, 3) := dk_180 0 138 (dk_at dksX4_readsPerson_5 6 rfl rfl)
theorem dX4_readsPerson_125 : decode cX4_readsPerson 125 = .ok (.iadd, 1) := dk_96 (dk_at dksX4_readsPerson_5 9 rfl rfl)
theorem dX4_readsPerson_126 : decode cX4_readsPerson 126 = .ok (.iaload, 1) := dk_46 (dk_at dksX4_readsPerson_5 10 rfl rfl)
theorem dX4_readsPerson_127 : decode cX4_readsPerson 127 = .ok (.iconst (-1), 1) := dk_2 (dk_at dksX4_readsPerson_5 11 rfl rfl)
theorem dX4_readsPerson_128 : decode cX4_readsPerson 128 = .ok (.if_icmp .eq 8, 3) := dk_159 0 8 (dk_at dksX4_readsPerson_5 12 rfl rfl)
theorem dX4_readsPerson_131 : decode cX4_readsPerson 131 = .ok (.aload_n 0, 1) := dk_42 (dk_at dksX4_readsPerson_5 15 rfl rfl)
theorem dX4_readsPerson_132 : decode cX4_readsPerson 132 = .ok (.iconst 4, 1) := dk_7 (dk_at dksX4_readsPerson_5 16 rfl rfl)
theorem dX4_readsPerson_133 : decode cX4_readsPerson 133 = .ok (.invokevirtual 177, 3) := dk_182 0 177 (dk_at dksX4_readsPerson_5 17 rfl rfl)
theorem dX4_readsPerson_136 : decode cX4_readsPerson 136 = .ok (.aload_n 0, 1) := dk_42 (dk_at dksX4_readsPerson_5 20 rfl rfl)
theorem dX4_readsPerson_137 : decode cX4_readsPerson 137 = .ok (.invokevirtual 170, 3) := dk_182 0 170 (dk_at dksX4_readsPerson_5 21 rfl rfl)
theorem dX4_readsPerson_140 : decode cX4_readsPerson 140 = .ok (.ifCond .ne 4, 3) := dk_154 0 4 (dk_at dksX4_readsPerson_6 0 rfl rfl)
theorem dX4_readsPerson_143 : decode cX4_readsPerson 143 = .ok (.return_, 1) := dk_177 (dk_at dksX4_readsPerson_6 3 rfl rfl)
theorem dX4_readsPerson_144 : decode cX4_readsPerson 144 = .ok (.aload_n 0, 1) := dk_42 (dk_at dksX4_readsPerson_6 4 rfl rfl)
theorem dX4_readsPerson_145 : decode cX4_readsPerson 145 = .ok (.getfield 53, 3) := dk_180 0 53 (dk_at dksX4_readsPerson_6 5 rfl rfl)
theorem dX4_readsPerson_148 : decode cX4_readsPerson 148 = .ok (.bipush 19, 2) := dk_16 19 (dk_at dksX4_readsPerson_6 8 rfl rfl)
theorem dX4_readsPerson_150 : decode cX4_readsPerson 150 = .ok (.aload_n 0, 1) := dk_42 (dk_at dksX4_readsPerson_6 10 rfl rfl)
theorem dX4_readsPerson_151 : decode cX4_readsPerson 151 = .ok (.getfield 138, 3) := dk_180 0 138 (dk_at dksX4_readsPerson_6 11 rfl rfl)
theorem dX4_readsPerson_154 : decode cX4_readsPerson 154 = .ok (.iadd, 1) := dk_96 (dk_at dksX4_readsPerson_6 14 rfl rfl)
theorem dX4_readsPerson_155 : decode cX4_readsPerson 155 = .ok (.iload_n 1, 1) := dk_27 (dk_at dksX4_readsPerson_6 15 rfl rfl)
theorem dX4_readsPerson_156 : decode cX4_readsPerson 156 = .ok (.iastore, 1) := dk_79 (dk_at dksX4_readsPerson_6 16 rfl rfl)
theorem dX4_readsPerson_157 : decode cX4_readsPerson 157 = .ok (.aload_n 0, 1) := dk_42 (dk_at dksX4_readsPerson_6 17 rfl rfl)
theorem dX4_readsPerson_158 : decode cX4_readsPerson 158 = .ok (.invokevirtual 174, 3) := dk_182 0 174 (dk_at dksX4_readsPerson_6 18 rfl rfl)
theorem dX4_readsPerson_161 : decode cX4_readsPerson 161 = .ok (.aload_n 0, 1) := dk_42 (dk_at dksX4_readsPerson_6 21 rfl rfl)
theorem dX4_readsPerson_162 : decode cX4_readsPerson 162 = .ok (.invokevirtual 170, 3) := dk_182 0 170 (dk_at dksX4_readsPerson_7 0 rfl rfl)
theorem dX4_readsPerson_165 : decode cX4_readsPerson 165 = .ok (.ifCond .eq 13, 3) := dk_153 0 13 (dk_at dksX4_readsPerson_7 3 rfl rfl)
theorem dX4_readsPerson_168 : decode cX4_readsPerson 168 = .ok (.aload_n 0, 1) := dk_42 (dk_at dksX4_readsPerson_7 6 rfl rfl)
theorem dX4_readsPerson_169 : decode cX4_readsPerson 169 = .ok (.dup, 1) := dk_89 (dk_at dksX4_readsPerson_7 7 rfl rfl)
theorem dX4_readsPerson_170 : decode cX4_readsPerson 170 = .ok (.getfield 237, 3) := dk_180 0 237 (dk_at dksX4_readsPerson_7 8 rfl rfl)
theorem dX4_readsPerson_173 : decode cX4_readsPerson 173 = .ok (.iconst 1, 1) := dk_4 (dk_at dksX4_readsPerson_7 11 rfl rfl)
theorem dX4_readsPerson_174 : decode cX4_readsPerson 174 = .ok (.iadd, 1) := dk_96 (dk_at dksX4_readsPerson_7 12 rfl rfl)
theorem dX4_readsPerson_175 : decode cX4_readsPerson 175 = .ok (.putfield 237, 3) := dk_181 0 237 (dk_at dksX4_readsPerson_7 13 rfl rfl)
theorem dX4_readsPerson_178 : decode cX4_readsPerson 178 = .ok (.return_, 1) := dk_177 (dk_at dksX4_readsPerson_7 16 rfl rfl)
abbrev cX4_readsDamp : ByteArray := prog_12_method_38_code
def yX4_readsDamp : MethodName := ⟨RX4, "readsDamp", "()V"⟩
def dkwX4_readsDamp_3 : List UInt8 := [42, 180, 0, 144, 5, 160, 0, 7, 4, 167, 0, 4, 3, 60, 167, 255, 173, 177]
abbrev dktX4_readsDamp_3 : List UInt8 := dkwX4_readsDamp_3 ++ []
def dkwX4_readsDamp_2 : List UInt8 := [154, 0, 4, 177, 42, 180, 0, 50, 42, 180, 0, 240, 28, 79, 42, 89, 180, 0, 240, 4, 96, 181, 0, 240]
abbrev dktX4_readsDamp_2 : List UInt8 := dkwX4_readsDamp_2 ++ dktX4_readsDamp_3
def dkwX4_readsDamp_1 : List UInt8 := [180, 0, 144, 5, 160, 0, 8, 42, 5, 182, 0, 177, 42, 3, 16, 9, 182, 0, 233, 61, 42, 182, 0, 170]
abbrev dktX4_readsDamp_1 : List UInt8 := dkwX4_readsDamp_1 ++ dktX4_readsDamp_2
def dkwX4_readsDamp_0 : List UInt8 := [4, 60, 27, 153, 0, 85, 42, 182, 0, 170, 153, 0, 78, 42, 180, 0, 240, 16, 8, 160, 0, 16, 42]
abbrev dktX4_readsDamp_0 : List UInt8 := dkwX4_readsDamp_0 ++ dktX4_readsDamp_1
theorem dksX4_readsDamp_0 : cX4_readsDamp.data.toList.drop 0 = dktX4_readsDamp_0 := by decide +kernel
theorem dksX4_readsDamp_1 : cX4_readsDamp.data.toList.drop 23 = dktX4_readsDamp_1 := dk_seg dksX4_readsDamp_0 23 rfl rfl
theorem dksX4_readsDamp_2 : cX4_readsDamp.data.toList.drop 47 = dktX4_readsDamp_2 := dk_seg dksX4_readsDamp_1 24 rfl rfl
theorem dksX4_readsDamp_3 : cX4_readsDamp.data.toList.drop 71 = dktX4_readsDamp_3 := dk_seg dksX4_readsDamp_2 24 rfl rfl
theorem dX4_readsDamp_0 : decode cX4_readsDamp 0 = .ok (.iconst 1, 1) := dk_4 (dk_at dksX4_readsDamp_0 0 rfl rfl)
theorem dX4_readsDamp_1 : decode cX4_readsDamp 1 = .ok (.istore_n 1, 1) := dk_60 (dk_at dksX4_readsDamp_0 1 rfl rfl)
theorem dX4_readsDamp_2 : decode cX4_readsDamp 2 = .ok (.iload_n 1, 1) := dk_27 (dk_at dksX4_readsDamp_0 2 rfl rfl)
theorem dX4_readsDamp_3 : decode cX4_readsDamp 3 = .ok (.ifCond .eq 85, 3) := dk_153 0 85 (dk_at dksX4_readsDamp_0 3 rfl rfl)
theorem dX4_readsDamp_6 : decode cX4_readsDamp 6 = .ok (.aload_n 0, 1) := dk_42 (dk_at dksX4_readsDamp_0 6 rfl rfl)
theorem dX4_readsDamp_7 : decode cX4_readsDamp 7 = .ok (.invokevirtual 170, 3) := dk_182 0 170 (dk_at dksX4_readsDamp_0 7 rfl rfl)
theorem dX4_readsDamp_10 : decode cX4_readsDamp 10 = .ok (.ifCond .eq 78, 3) := dk_153 0 78 (dk_at dksX4_readsDamp_0 10 rfl rfl)
theorem dX4_readsDamp_13 : decode cX4_readsDamp 13 = .ok (.aload_n 0, 1) := dk_42 (dk_at dksX4_readsDamp_0 13 rfl rfl)
theorem dX4_readsDamp_14 : decode cX4_readsDamp 14 = .ok (.getfield 240, 3) := dk_180 0 240 (dk_at dksX4_readsDamp_0 14 rfl rfl)
theorem dX4_readsDamp_17 : decode cX4_readsDamp 17 = .ok (.bipush 8, 2) := dk_16 8 (dk_at dksX4_readsDamp_0 17 rfl rfl)
theorem dX4_readsDamp_19 : decode cX4_readsDamp 19 = .ok (.if_icmp .ne 16, 3) := dk_160 0 16 (dk_at dksX4_readsDamp_0 19 rfl rfl)
theorem dX4_readsDamp_22 : decode cX4_readsDamp 22 = .ok (.aload_n 0, 1) := dk_42 (dk_at dksX4_readsDamp_0 22 rfl rfl)
theorem dX4_readsDamp_23 : decode cX4_readsDamp 23 = .ok (.getfield 144, 3) := dk_180 0 144 (dk_at dksX4_readsDamp_1 0 rfl rfl)
theorem dX4_readsDamp_26 : decode cX4_readsDamp 26 = .ok (.iconst 2, 1) := dk_5 (dk_at dksX4_readsDamp_1 3 rfl rfl)
theorem dX4_readsDamp_27 : decode cX4_readsDamp 27 = .ok (.if_icmp .ne 8, 3) := dk_160 0 8 (dk_at dksX4_readsDamp_1 4 rfl rfl)
theorem dX4_readsDamp_30 : decode cX4_readsDamp 30 = .ok (.aload_n 0, 1) := dk_42 (dk_at dksX4_readsDamp_1 7 rfl rfl)
theorem dX4_readsDamp_31 : decode cX4_readsDamp 31 = .ok (.iconst 2, 1) := dk_5 (dk_at dksX4_readsDamp_1 8 rfl rfl)
theorem dX4_readsDamp_32 : decode cX4_readsDamp 32 = .ok (.invokevirtual 177, 3) := dk_182 0 177 (dk_at dksX4_readsDamp_1 9 rfl rfl)
theorem dX4_readsDamp_35 : decode cX4_readsDamp 35 = .ok (.aload_n 0, 1) := dk_42 (dk_at dksX4_readsDamp_1 12 rfl rfl)
theorem dX4_readsDamp_36 : decode cX4_readsDamp 36 = .ok (.iconst 0, 1) := dk_3 (dk_at dksX4_readsDamp_1 13 rfl rfl)
theorem dX4_readsDamp_37 : decode cX4_readsDamp 37 = .ok (.bipush 9, 2) := dk_16 9 (dk_at dksX4_readsDamp_1 14 rfl rfl)
theorem dX4_readsDamp_39 : decode cX4_readsDamp 39 = .ok (.invokevirtual 233, 3) := dk_182 0 233 (dk_at dksX4_readsDamp_1 16 rfl rfl)
theorem dX4_readsDamp_42 : decode cX4_readsDamp 42 = .ok (.istore_n 2, 1) := dk_61 (dk_at dksX4_readsDamp_1 19 rfl rfl)
theorem dX4_readsDamp_43 : decode cX4_readsDamp 43 = .ok (.aload_n 0, 1) := dk_42 (dk_at dksX4_readsDamp_1 20 rfl rfl)
theorem dX4_readsDamp_44 : decode cX4_readsDamp 44 = .ok (.invokevirtual 170, 3) := dk_182 0 170 (dk_at dksX4_readsDamp_1 21 rfl rfl)
theorem dX4_readsDamp_47 : decode cX4_readsDamp 47 = .ok (.ifCond .ne 4, 3) := dk_154 0 4 (dk_at dksX4_readsDamp_2 0 rfl rfl)
theorem dX4_readsDamp_50 : decode cX4_readsDamp 50 = .ok (.return_, 1) := dk_177 (dk_at dksX4_readsDamp_2 3 rfl rfl)
theorem dX4_readsDamp_51 : decode cX4_readsDamp 51 = .ok (.aload_n 0, 1) := dk_42 (dk_at dksX4_readsDamp_2 4 rfl rfl)
theorem dX4_readsDamp_52 : decode cX4_readsDamp 52 = .ok (.getfield 50, 3) := dk_180 0 50 (dk_at dksX4_readsDamp_2 5 rfl rfl)
theorem dX4_readsDamp_55 : decode cX4_readsDamp 55 = .ok (.aload_n 0, 1) := dk_42 (dk_at dksX4_readsDamp_2 8 rfl rfl)
theorem dX4_readsDamp_56 : decode cX4_readsDamp 56 = .ok (.getfield 240, 3) := dk_180 0 240 (dk_at dksX4_readsDamp_2 9 rfl rfl)
theorem dX4_readsDamp_59 : decode cX4_readsDamp 59 = .ok (.iload_n 2, 1) := dk_28 (dk_at dksX4_readsDamp_2 12 rfl rfl)
theorem dX4_readsDamp_60 : decode cX4_readsDamp 60 = .ok (.iastore, 1) := dk_79 (dk_at dksX4_readsDamp_2 13 rfl rfl)
theorem dX4_readsDamp_61 : decode cX4_readsDamp 61 = .ok (.aload_n 0, 1) := dk_42 (dk_at dksX4_readsDamp_2 14 rfl rfl)
theorem dX4_readsDamp_62 : decode cX4_readsDamp 62 = .ok (.dup, 1) := dk_89 (dk_at dksX4_readsDamp_2 15 rfl rfl)
theorem dX4_readsDamp_63 : decode cX4_readsDamp 63 = .ok (.getfield 240, 3) := dk_180 0 240 (dk_at dksX4_readsDamp_2 16 rfl rfl)
theorem dX4_readsDamp_66 : decode cX4_readsDamp 66 = .ok (.iconst 1, 1) := dk_4 (dk_at dksX4_readsDamp_2 19 rfl rfl)
theorem dX4_readsDamp_67 : decode cX4_readsDamp 67 = .ok (.iadd, 1) := dk_96 (dk_at dksX4_readsDamp_2 20 rfl rfl)
theorem dX4_readsDamp_68 : decode cX4_readsDamp 68 = .ok (.putfield 240, 3) := dk_181 0 240 (dk_at dksX4_readsDamp_2 21 rfl rfl)
theorem dX4_readsDamp_71 : decode cX4_readsDamp 71 = .ok (.aload_n 0, 1) := dk_42 (dk_at dksX4_readsDamp_3 0 rfl rfl)
theorem dX4_readsDamp_72 : decode cX4_readsDamp 72 = .ok (.getfield 144, 3) := dk_180 0 144 (dk_at dksX4_readsDamp_3 1 rfl rfl)
theorem dX4_readsDamp_75 : decode cX4_readsDamp 75 = .ok (.iconst 2, 1) := dk_5 (dk_at dksX4_readsDamp_3 4 rfl rfl)
theorem dX4_readsDamp_76 : decode cX4_readsDamp 76 = .ok (.if_icmp .ne 7, 3) := dk_160 0 7 (dk_at dksX4_readsDamp_3 5 rfl rfl)
theorem dX4_readsDamp_79 : decode cX4_readsDamp 79 = .ok (.iconst 1, 1) := dk_4 (dk_at dksX4_readsDamp_3 8 rfl rfl)
theorem dX4_readsDamp_80 : decode cX4_readsDamp 80 = .ok (.goto 4, 3) := dk_167 0 4 (dk_at dksX4_readsDamp_3 9 rfl rfl)
theorem dX4_readsDamp_83 : decode cX4_readsDamp 83 = .ok (.iconst 0, 1) := dk_3 (dk_at dksX4_readsDamp_3 12 rfl rfl)
theorem dX4_readsDamp_84 : decode cX4_readsDamp 84 = .ok (.istore_n 1, 1) := dk_60 (dk_at dksX4_readsDamp_3 13 rfl rfl)
theorem dX4_readsDamp_85 : decode cX4_readsDamp 85 = .ok (.goto (-83), 3) := dk_167 255 173 (dk_at dksX4_readsDamp_3 14 rfl rfl)
theorem dX4_readsDamp_88 : decode cX4_readsDamp 88 = .ok (.return_, 1) := dk_177 (dk_at dksX4_readsDamp_3 17 rfl rfl)
abbrev cX4_expression : ByteArray := prog_12_method_34_code
def yX4_expression : MethodName := ⟨RX4, "expression", "(I)V"⟩
def dkwX4_expression_15 : List UInt8 := [3, 182, 0, 217, 42, 3, 182, 0, 192, 177]
abbrev dktX4_expression_15 : List UInt8 := dkwX4_expression_15 ++ []
def dkwX4_expression_14 : List UInt8 := [167, 254, 219, 42, 182, 0, 170, 153, 0, 16, 42, 180, 0, 202, 4, 164, 0, 8, 42, 4, 182, 0, 177, 42]
abbrev dktX4_expression_14 : List UInt8 := dkwX4_expression_14 ++ dktX4_expression_15
def dkwX4_expression_13 : List UInt8 := [182, 0, 205, 153, 0, 17, 42, 182, 0, 224, 153, 0, 10, 42, 182, 0, 227, 167, 0, 5, 3, 61]
abbrev dktX4_expression_13 : List UInt8 := dkwX4_expression_13 ++ dktX4_expression_14
def dkwX4_expression_12 : List UInt8 := [167, 0, 5, 16, 11, 182, 0, 208, 42, 182, 0, 174, 42, 3, 182, 0, 220, 167, 0, 28, 42, 16, 41]
abbrev dktX4_expression_12 : List UInt8 := dkwX4_expression_12 ++ dktX4_expression_13
def dkwX4_expression_11 : List UInt8 := [182, 0, 205, 153, 0, 41, 42, 16, 6, 182, 0, 217, 42, 42, 16, 42, 182, 0, 205, 153, 0, 8, 16, 10]
abbrev dktX4_expression_11 : List UInt8 := dkwX4_expression_11 ++ dktX4_expression_12
def dkwX4_expression_10 : List UInt8 := [182, 0, 174, 42, 3, 182, 0, 220, 167, 0, 84, 42, 16, 42, 182, 0, 205, 154, 0, 12, 42, 16, 47]
abbrev dktX4_expression_10 : List UInt8 := dkwX4_expression_10 ++ dktX4_expression_11
def dkwX4_expression_9 : List UInt8 := [182, 0, 217, 42, 42, 16, 43, 182, 0, 205, 153, 0, 8, 16, 8, 167, 0, 5, 16, 9, 182, 0, 208, 42]
abbrev dktX4_expression_9 : List UInt8 := dkwX4_expression_9 ++ dktX4_expression_10
def dkwX4_expression_8 : List UInt8 := [167, 0, 139, 42, 16, 43, 182, 0, 205, 154, 0, 12, 42, 16, 45, 182, 0, 205, 153, 0, 40, 42, 8]
abbrev dktX4_expression_8 : List UInt8 := dkwX4_expression_8 ++ dktX4_expression_9
def dkwX4_expression_7 : List UInt8 := [16, 7, 182, 0, 208, 42, 180, 0, 62, 42, 180, 0, 202, 4, 84, 42, 182, 0, 174, 42, 3, 182, 0, 220]
abbrev dktX4_expression_7 : List UInt8 := dkwX4_expression_7 ++ dktX4_expression_8
def dkwX4_expression_6 : List UInt8 := [154, 0, 50, 42, 7, 182, 0, 217, 42, 42, 16, 60, 182, 0, 205, 153, 0, 8, 16, 6, 167, 0, 5]
abbrev dktX4_expression_6 : List UInt8 := dkwX4_expression_6 ++ dktX4_expression_7
def dkwX4_expression_5 : List UInt8 := [182, 0, 205, 154, 0, 12, 42, 16, 61, 182, 0, 205, 153, 0, 62, 42, 180, 0, 62, 42, 180, 0, 202, 51]
abbrev dktX4_expression_5 : List UInt8 := dkwX4_expression_5 ++ dktX4_expression_6
def dkwX4_expression_4 : List UInt8 := [180, 0, 62, 42, 180, 0, 202, 3, 84, 42, 182, 0, 174, 42, 4, 182, 0, 220, 167, 0, 216, 42, 16, 60]
abbrev dktX4_expression_4 : List UInt8 := dkwX4_expression_4 ++ dktX4_expression_5
def dkwX4_expression_3 : List UInt8 := [167, 0, 4, 4, 182, 0, 217, 42, 29, 16, 12, 160, 0, 7, 7, 167, 0, 4, 8, 182, 0, 208, 42]
abbrev dktX4_expression_3 : List UInt8 := dkwX4_expression_3 ++ dktX4_expression_4
def dkwX4_expression_2 : List UInt8 := [182, 0, 195, 62, 29, 16, 12, 159, 0, 9, 29, 16, 13, 160, 0, 55, 42, 29, 16, 12, 160, 0, 7, 5]
abbrev dktX4_expression_2 : List UInt8 := dkwX4_expression_2 ++ dktX4_expression_3
def dkwX4_expression_1 : List UInt8 := [182, 0, 211, 42, 4, 182, 0, 220, 4, 61, 28, 153, 1, 39, 42, 182, 0, 170, 153, 1, 32, 42]
abbrev dktX4_expression_1 : List UInt8 := dkwX4_expression_1 ++ dktX4_expression_2
def dkwX4_expression_0 : List UInt8 := [42, 182, 0, 170, 154, 0, 4, 177, 42, 27, 181, 0, 199, 42, 3, 181, 0, 183, 42, 3, 181, 0, 202, 42]
abbrev dktX4_expression_0 : List UInt8 := dkwX4_expression_0 ++ dktX4_expression_1
theorem dksX4_expression_0 : cX4_expression.data.toList.drop 0 = dktX4_expression_0 := by decide +kernel
theorem dksX4_expression_1 : cX4_expression.data.toList.drop 24 = dktX4_expression_1 := dk_seg dksX4_expression_0 24 rfl rfl
theorem dksX4_expression_2 : cX4_expression.data.toList.drop 46 = dktX4_expression_2 := dk_seg dksX4_expression_1 22 rfl rfl
theorem dksX4_expression_3 : cX4_expression.data.toList.drop 70 = dktX4_expression_3 := dk_seg dksX4_expression_2 24 rfl rfl
theorem dksX4_expression_4 : cX4_expression.data.toList.drop 93 = dktX4_expression_4 := dk_seg dksX4_expression_3 23 rfl rfl
theorem dksX4_expression_5 : cX4_expression.data.toList.drop 117 = dktX4_expression_5 := dk_seg dksX4_expression_4 24 rfl rfl
theorem dksX4_expression_6 : cX4_expression.data.toList.drop 141 = dktX4_expression_6 := dk_seg dksX4_expression_5 24 rfl rfl
theorem dksX4_expression_7 : cX4_expression.data.toList.drop 164 = dktX4_expression_7 := dk_seg dksX4_expression_6 23 rfl rfl
theorem dksX4_expression_8 : cX4_expression.data.toList.drop 188 = dktX4_expression_8 := dk_seg dksX4_expression_7 24 rfl rfl
theorem dksX4_expression_9 : cX4_expression.data.toList.drop 211 = dktX4_expression_9 := dk_seg dksX4_expression_8 23 rfl rfl
theorem dksX4_expression_10 : cX4_expression.data.toList.drop 235 = dktX4_expression_10 := dk_seg dksX4_expression_9 24 rfl rfl
theorem dksX4_expression_11 : cX4_expression.data.toList.drop 258 = dktX4_expression_11 := dk_seg dksX4_expression_10 23 rfl rfl
theorem dksX4_expression_12 : cX4_expression.data.toList.drop 282 = dktX4_expression_12 := dk_seg dksX4_expression_11 24 rfl rfl
theorem dksX4_expression_13 : cX4_expression.data.toList.drop 305 = dktX4_expression_13 := dk_seg dksX4_expression_12 23 rfl rfl
theorem dksX4_expression_14 : cX4_expression.data.toList.drop 327 = dktX4_expression_14 := dk_seg dksX4_expression_13 22 rfl rfl
theorem dksX4_expression_15 : cX4_expression.data.toList.drop 351 = dktX4_expression_15 := dk_seg dksX4_expression_14 24 rfl rfl
theorem dX4_expression_0 : decode cX4_expression 0 = .ok (.aload_n 0, 1) := dk_42 (dk_at dksX4_expression_0 0 rfl rfl)
theorem dX4_expression_1 : decode cX4_expression 1 = .ok (.invokevirtual 170, 3) := dk_182 0 170 (dk_at dksX4_expression_0 1 rfl rfl)
theorem dX4_expression_4 : decode cX4_expression 4 = .ok (.ifCond .ne 4, 3) := dk_154 0 4 (dk_at dksX4_expression_0 4 rfl rfl)
theorem dX4_expression_7 : decode cX4_expression 7 = .ok (.return_, 1) := dk_177 (dk_at dksX4_expression_0 7 rfl rfl)
theorem dX4_expression_8 : decode cX4_expression 8 = .ok (.aload_n 0, 1) := dk_42 (dk_at dksX4_expression_0 8 rfl rfl)
theorem dX4_expression_9 : decode cX4_expression 9 = .ok (.iload_n 1, 1) := dk_27 (dk_at dksX4_expression_0 9 rfl rfl)
theorem dX4_expression_10 : decode cX4_expression 10 = .ok (.putfield 199, 3) := dk_181 0 199 (dk_at dksX4_expression_0 10 rfl rfl)
theorem dX4_expression_13 : decode cX4_expression 13 = .ok (.aload_n 0, 1) := dk_42 (dk_at dksX4_expression_0 13 rfl rfl)
theorem dX4_expression_14 : decode cX4_expression 14 = .ok (.iconst 0, 1) := dk_3 (dk_at dksX4_expression_0 14 rfl rfl)
theorem dX4_expression_15 : decode cX4_expression 15 = .ok (.putfield 183, 3) := dk_181 0 183 (dk_at dksX4_expression_0 15 rfl rfl)
theorem dX4_expression_18 : decode cX4_expression 18 = .ok (.aload_n 0, 1) := dk_42 (dk_at dksX4_expression_0 18 rfl rfl)
theorem dX4_expression_19 : decode cX4_expression 19 = .ok (.iconst 0, 1) := dk_3 (dk_at dksX4_expression_0 19 rfl rfl)
theorem dX4_expression_20 : decode cX4_expression 20 = .ok (.putfield 202, 3) := dk_181 0 202 (dk_at dksX4_expression_0 20 rfl rfl)
theorem dX4_expression_23 : decode cX4_expression 23 = .ok (.aload_n 0, 1) := dk_42 (dk_at dksX4_expression_0 23 rfl rfl)
theorem dX4_expression_24 : decode cX4_expression 24 = .ok (.invokevirtual 211, 3) := dk_182 0 211 (dk_at dksX4_expression_1 0 rfl rfl)
theorem dX4_expression_27 : decode cX4_expression 27 = .ok (.aload_n 0, 1) := dk_42 (dk_at dksX4_expression_1 3 rfl rfl)
theorem dX4_expression_28 : decode cX4_expression 28 = .ok (.iconst 1, 1) := dk_4 (dk_at dksX4_expression_1 4 rfl rfl)
theorem dX4_expression_29 : decode cX4_expression 29 = .ok (.invokevirtual 220, 3) := dk_182 0 220 (dk_at dksX4_expression_1 5 rfl rfl)
theorem dX4_expression_32 : decode cX4_expression 32 = .ok (.iconst 1, 1) := dk_4 (dk_at dksX4_expression_1 8 rfl rfl)
theorem dX4_expression_33 : decode cX4_expression 33 = .ok (.istore_n 2, 1) := dk_61 (dk_at dksX4_expression_1 9 rfl rfl)
theorem dX4_expression_34 : decode cX4_expression 34 = .ok (.iload_n 2, 1) := dk_28 (dk_at dksX4_expression_1 10 rfl rfl)
theorem dX4_expression_35 : decode cX4_expression 35 = .ok (.ifCond .eq 295, 3) := dk_153 1 39 (dk_at dksX4_expression_1 11 rfl rfl)
theorem dX4_expression_38 : decode cX4_expression 38 = .ok (.aload_n 0, 1) := dk_42 (dk_at dksX4_expression_1 14 rfl rfl)
theorem dX4_expression_39 : decode cX4_expression 39 = .ok (.invokevirtual 170, 3) := dk_182 0 170 (dk_at dksX4_expression_1 15 rfl rfl)
theorem dX4_expression_42 : decode cX4_expression 42 = .ok (.ifCond .eq 288, 3) := dk_153 1 32 (dk_at dksX4_expression_1 18 rfl rfl)
theorem dX4_expression_45 : decode cX4_expression 45 = .ok (.aload_n 0, 1) := dk_42 (dk_at dksX4_expression_1 21 rfl rfl)
theorem dX4_expression_46 : decode cX4_expression 46 = .ok (.invokevirtual 195, 3) := dk_182 0 195 (dk_at dksX4_expression_2 0 rfl rfl)
theorem dX4_expression_49 : decode cX4_expression 49 = .ok (.istore_n 3, 1) := dk_62 (dk_at dksX4_expression_2 3 rfl rfl)
theorem dX4_expression_50 : decode cX4_expression 50 = .ok (.iload_n 3, 1) := dk_29 (dk_at dksX4_expression_2 4 rfl rfl)
theorem dX4_expression_51 : decode cX4_expression 51 = .ok (.bipush 12, 2) := dk_16 12 (dk_at dksX4_expression_2 5 rfl rfl)
theorem dX4_expression_53 : decode cX4_expression 53 = .ok (.if_icmp .eq 9, 3) := dk_159 0 9 (dk_at dksX4_expression_2 7 rfl rfl)
theorem dX4_expression_56 : decode cX4_expression 56 = .ok (.iload_n 3, 1) := dk_29 (dk_at dksX4_expression_2 10 rfl rfl)
theorem dX4_expression_57 : decode cX4_expression 57 = .ok (.bipush 13, 2) := dk_16 13 (dk_at dksX4_expression_2 11 rfl rfl)
theorem dX4_expression_59 : decode cX4_expression 59 = .ok (.if_icmp .ne 55, 3) := dk_160 0 55 (dk_at dksX4_expression_2 13 rfl rfl)
theorem dX4_expression_62 : decode cX4_expression 62 = .ok (.aload_n 0, 1) := dk_42 (dk_at dksX4_expression_2 16 rfl rfl)
theorem dX4_expression_63 : decode cX4_expression 63 = .ok (.iload_n 3, 1) := dk_29 (dk_at dksX4_expression_2 17 rfl rfl)
theorem dX4_expression_64 : decode cX4_expression 64 = .ok (.bipush 12, 2) := dk_16 12 (dk_at dksX4_expression_2 18 rfl rfl)
theorem dX4_expression_66 : decode cX4_expression 66 = .ok (.if_icmp .ne 7, 3) := dk_160 0 7 (dk_at dksX4_expression_2 20 rfl rfl)
theorem dX4_expression_69 : decode cX4_expression 69 = .ok (.iconst 2, 1) := dk_5 (dk_at dksX4_expression_2 23 rfl rfl)
theorem dX4_expression_70 : decode cX4_expression 70 = .ok (.goto 4, 3) := dk_167 0 4 (dk_at dksX4_expression_3 0 rfl rfl)
theorem dX4_expression_73 : decode cX4_expression 73 = .ok (.iconst 1, 1) := dk_4 (dk_at dksX4_expression_3 3 rfl rfl)
theorem dX4_expression_74 : decode cX4_expression 74 = .ok (.invokevirtual 217, 3) := dk_182 0 217 (dk_at dksX4_expression_3 4 rfl rfl)
theorem dX4_expression_77 : decode cX4_expression 77 = .ok (.aload_n 0, 1) := dk_42 (dk_at dksX4_expression_3 7 rfl rfl)
theorem dX4_expression_78 : decode cX4_expression 78 = .ok (.iload_n 3, 1) := dk_29 (dk_at dksX4_expression_3 8 rfl rfl)
theorem dX4_expression_79 : decode cX4_expression 79 = .ok (.bipush 12, 2) := dk_16 12 (dk_at dksX4_expression_3 9 rfl rfl)
theorem dX4_expression_81 : decode cX4_expression 81 = .ok (.if_icmp .ne 7, 3) := dk_160 0 7 (dk_at dksX4_expression_3 11 rfl rfl)
theorem dX4_expression_84 : decode cX4_expression 84 = .ok (.iconst 4, 1) := dk_7 (dk_at dksX4_expression_3 14 rfl rfl)
theorem dX4_expression_85 : decode cX4_expression 85 = .ok (.goto 4, 3) := dk_167 0 4 (dk_at dksX4_expression_3 15 rfl rfl)
theorem dX4_expression_88 : decode cX4_expression 88 = .ok (.iconst 5, 1) := dk_8 (dk_at dksX4_expression_3 18 rfl rfl)
theorem dX4_expression_89 : decode cX4_expression 89 = .ok (.invokevirtual 208, 3) := dk_182 0 208 (dk_at dksX4_expression_3 19 rfl rfl)
theorem dX4_expression_92 : decode cX4_expression 92 = .ok (.aload_n 0, 1) := dk_42 (dk_at dksX4_expression_3 22 rfl rfl)
theorem dX4_expression_93 : decode cX4_expression 93 = .ok (.getfield 62, 3) := dk_180 0 62 (dk_at dksX4_expression_4 0 rfl rfl)
theorem dX4_expression_96 : decode cX4_expression 96 = .ok (.aload_n 0, 1) := dk_42 (dk_at dksX4_expression_4 3 rfl rfl)
theorem dX4_expression_97 : decode cX4_expression 97 = .ok (.getfield 202, 3) := dk_180 0 202 (dk_at dksX4_expression_4 4 rfl rfl)
theorem dX4_expression_100 : decode cX4_expression 100 = .ok (.iconst 0, 1) := dk_3 (dk_at dksX4_expression_4 7 rfl rfl)
theorem dX4_expression_101 : decode cX4_expression 101 = .ok (.bastore, 1) := dk_84 (dk_at dksX4_expression_4 8 rfl rfl)
theorem dX4_expression_102 : decode cX4_expression 102 = .ok (.aload_n 0, 1) := dk_42 (dk_at dksX4_expression_4 9 rfl rfl)
theorem dX4_expression_103 : decode cX4_expression 103 = .ok (.invokevirtual 174, 3) := dk_182 0 174 (dk_at dksX4_expression_4 10 rfl rfl)
theorem dX4_expression_106 : decode cX4_expression 106 = .ok (.aload_n 0, 1) := dk_42 (dk_at dksX4_expression_4 13 rfl rfl)
theorem dX4_expression_107 : decode cX4_expression 107 = .ok (.iconst 1, 1) := dk_4 (dk_at dksX4_expression_4 14 rfl rfl)
theorem dX4_expression_108 : decode cX4_expression 108 = .ok (.invokevirtual 220, 3) := dk_182 0 220 (dk_at dksX4_expression_4 15 rfl rfl)
theorem dX4_expression_111 : decode cX4_expression 111 = .ok (.goto 216, 3) := dk_167 0 216 (dk_at dksX4_expression_4 18 rfl rfl)
theorem dX4_expression_114 : decode cX4_expression 114 = .ok (.aload_n 0, 1) := dk_42 (dk_at dksX4_expression_4 21 rfl rfl)
theorem dX4_expression_115 : decode cX4_expression 115 = .ok (.bipush 60, 2) := dk_16 60 (dk_at dksX4_expression_4 22 rfl rfl)
theorem dX4_expression_117 : decode cX4_expression 117 = .ok (.invokevirtual 205, 3) := dk_182 0 205 (dk_at dksX4_expression_5 0 rfl rfl)
theorem dX4_expression_120 : decode cX4_expression 120 = .ok (.ifCond .ne 12, 3) := dk_154 0 12 (dk_at dksX4_expression_5 3 rfl rfl)
theorem dX4_expression_123 : decode cX4_expression 123 = .ok (.aload_n 0, 1) := dk_42 (dk_at dksX4_expression_5 6 rfl rfl)
theorem dX4_expression_124 : decode cX4_expression 124 = .ok (.bipush 61, 2) := dk_16 61 (dk_at dksX4_expression_5 7 rfl rfl)
theorem dX4_expression_126 : decode cX4_expression 126 = .ok (.invokevirtual 205, 3) := dk_182 0 205 (dk_at dksX4_expression_5 9 rfl rfl)
theorem dX4_expression_129 : decode cX4_expression 129 = .ok (.ifCond .eq 62, 3) := dk_153 0 62 (dk_at dksX4_expression_5 12 rfl rfl)
theorem dX4_expression_132 : decode cX4_expression 132 = .ok (.aload_n 0, 1) := dk_42 (dk_at dksX4_expression_5 15 rfl rfl)
theorem dX4_expression_133 : decode cX4_expression 133 = .ok (.getfield 62, 3) := dk_180 0 62 (dk_at dksX4_expression_5 16 rfl rfl)
theorem dX4_expression_136 : decode cX4_expression 136 = .ok (.aload_n 0, 1) := dk_42 (dk_at dksX4_expression_5 19 rfl rfl)
theorem dX4_expression_137 : decode cX4_expression 137 = .ok (.getfield 202, 3) := dk_180 0 202 (dk_at dksX4_expression_5 20 rfl rfl)
theorem dX4_expression_140 : decode cX4_expression 140 = .ok (.baload, 1) := dk_51 (dk_at dksX4_expression_5 23 rfl rfl)
theorem dX4_expression_141 : decode cX4_expression 141 = .ok (.ifCond .ne 50, 3) := dk_154 0 50 (dk_at dksX4_expression_6 0 rfl rfl)
theorem dX4_expression_144 : decode cX4_expression 144 = .ok (.aload_n 0, 1) := dk_42 (dk_at dksX4_expression_6 3 rfl rfl)
theorem dX4_expression_145 : decode cX4_expression 145 = .ok (.iconst 4, 1) := dk_7 (dk_at dksX4_expression_6 4 rfl rfl)
theorem dX4_expression_146 : decode cX4_expression 146 = .ok (.invokevirtual 217, 3) := dk_182 0 217 (dk_at dksX4_expression_6 5 rfl rfl)
theorem dX4_expression_149 : decode cX4_expression 149 = .ok (.aload_n 0, 1) := dk_42 (dk_at dksX4_expression_6 8 rfl rfl)
theorem dX4_expression_150 : decode cX4_expression 150 = .ok (.aload_n 0, 1) := dk_42 (dk_at dksX4_expression_6 9 rfl rfl)
theorem dX4_expression_151 : decode cX4_expression 151 = .ok (.bipush 60, 2) := dk_16 60 (dk_at dksX4_expression_6 10 rfl rfl)
theorem dX4_expression_153 : decode cX4_expression 153 = .ok (.invokevirtual 205, 3) := dk_182 0 205 (dk_at dksX4_expression_6 12 rfl rfl)
theorem dX4_expression_156 : decode cX4_expression 156 = .ok (.ifCond .eq 8, 3) := dk_153 0 8 (dk_at dksX4_expression_6 15 rfl rfl)
theorem dX4_expression_159 : decode cX4_expression 159 = .ok (.bipush 6, 2) := dk_16 6 (dk_at dksX4_expression_6 18 rfl rfl)
theorem dX4_expression_161 : decode cX4_expression 161 = .ok (.goto 5, 3) := dk_167 0 5 (dk_at dksX4_expression_6 20 rfl rfl)
theorem dX4_expression_164 : decode cX4_expression 164 = .ok (.bipush 7, 2) := dk_16 7 (dk_at dksX4_expression_7 0 rfl rfl)
theorem dX4_expression_166 : decode cX4_expression 166 = .ok (.invokevirtual 208, 3) := dk_182 0 208 (dk_at dksX4_expression_7 2 rfl rfl)
theorem dX4_expression_169 : decode cX4_expression 169 = .ok (.aload_n 0, 1) := dk_42 (dk_at dksX4_expression_7 5 rfl rfl)
theorem dX4_expression_170 : decode cX4_expression 170 = .ok (.getfield 62, 3) := dk_180 0 62 (dk_at dksX4_expression_7 6 rfl rfl)
theorem dX4_expression_173 : decode cX4_expression 173 = .ok (.aload_n 0, 1) := dk_42 (dk_at dksX4_expression_7 9 rfl rfl)
theorem dX4_expression_174 : decode cX4_expression 174 = .ok (.getfield 202, 3) := dk_180 0 202 (dk_at dksX4_expression_7 10 rfl rfl)
theorem dX4_expression_177 : decode cX4_expression 177 = .ok (.iconst 1, 1) := dk_4 (dk_at dksX4_expression_7 13 rfl rfl)
theorem dX4_expression_178 : decode cX4_expression 178 = .ok (.bastore, 1) := dk_84 (dk_at dksX4_expression_7 14 rfl rfl)
theorem dX4_expression_179 : decode cX4_expression 179 = .ok (.aload_n 0, 1) := dk_42 (dk_at dksX4_expression_7 15 rfl rfl)
theorem dX4_expression_180 : decode cX4_expression 180 = .ok (.invokevirtual 174, 3) := dk_182 0 174 (dk_at dksX4_expression_7 16 rfl rfl)
theorem dX4_expression_183 : decode cX4_expression 183 = .ok (.aload_n 0, 1) := dk_42 (dk_at dksX4_expression_7 19 rfl rfl)
theorem dX4_expression_184 : decode cX4_expression 184 = .ok (.iconst 0, 1) := dk_3 (dk_at dksX4_expression_7 20 rfl rfl)
theorem dX4_expression_185 : decode cX4_expression 185 = .ok (.invokevirtual 220, 3) := dk_182 0 220 (dk_at dksX4_expression_7 21 rfl rfl)
theorem dX4_expression_188 : decode cX4_expression 188 = .ok (.goto 139, 3) := dk_167 0 139 (dk_at dksX4_expression_8 0 rfl rfl)
theorem dX4_expression_191 : decode cX4_expression 191 = .ok (.aload_n 0, 1) := dk_42 (dk_at dksX4_expression_8 3 rfl rfl)
theorem dX4_expression_192 : decode cX4_expression 192 = .ok (.bipush 43, 2) := dk_16 43 (dk_at dksX4_expression_8 4 rfl rfl)
theorem dX4_expression_194 : decode cX4_expression 194 = .ok (.invokevirtual 205, 3) := dk_182 0 205 (dk_at dksX4_expression_8 6 rfl rfl)
theorem dX4_expression_197 : decode cX4_expression 197 = .ok (.ifCond .ne 12, 3) := dk_154 0 12 (dk_at dksX4_expression_8 9 rfl rfl)
theorem dX4_expression_200 : decode cX4_expression 200 = .ok (.aload_n 0, 1) := dk_42 (dk_at dksX4_expression_8 12 rfl rfl)
theorem dX4_expression_201 : decode cX4_expression 201 = .ok (.bipush 45, 2) := dk_16 45 (dk_at dksX4_expression_8 13 rfl rfl)
theorem dX4_expression_203 : decode cX4_expression 203 = .ok (.invokevirtual 205, 3) := dk_182 0 205 (dk_at dksX4_expression_8 15 rfl rfl)
theorem dX4_expression_206 : decode cX4_expression 206 = .ok (.ifCond .eq 40, 3) := dk_153 0 40 (dk_at dksX4_expression_8 18 rfl rfl)
theorem dX4_expression_209 : decode cX4_expression 209 = .ok (.aload_n 0, 1) := dk_42 (dk_at dksX4_expression_8 21 rfl rfl)
theorem dX4_expression_210 : decode cX4_expression 210 = .ok (.iconst 5, 1) := dk_8 (dk_at dksX4_expression_8 22 rfl rfl)
theorem dX4_expression_211 : decode cX4_expression 211 = .ok (.invokevirtual 217, 3) := dk_182 0 217 (dk_at dksX4_expression_9 0 rfl rfl)
theorem dX4_expression_214 : decode cX4_expression 214 = .ok (.aload_n 0, 1) := dk_42 (dk_at dksX4_expression_9 3 rfl rfl)
theorem dX4_expression_215 : decode cX4_expression 215 = .ok (.aload_n 0, 1) := dk_42 (dk_at dksX4_expression_9 4 rfl rfl)
theorem dX4_expression_216 : decode cX4_expression 216 = .ok (.bipush 43, 2) := dk_16 43 (dk_at dksX4_expression_9 5 rfl rfl)
theorem dX4_expression_218 : decode cX4_expression 218 = .ok (.invokevirtual 205, 3) := dk_182 0 205 (dk_at dksX4_expression_9 7 rfl rfl)
theorem dX4_expression_221 : decode cX4_expression 221 = .ok (.ifCond .eq 8, 3) := dk_153 0 8 (dk_at dksX4_expression_9 10 rfl rfl)
theorem dX4_expression_224 : decode cX4_expression 224 = .ok (.bipush 8, 2) := dk_16 8 (dk_at dksX4_expression_9 13 rfl rfl)
theorem dX4_expression_226 : decode cX4_expression 226 = .ok (.goto 5, 3) := dk_167 0 5 (dk_at dksX4_expression_9 15 rfl rfl)
theorem dX4_expression_229 : decode cX4_expression 229 = .ok (.bipush 9, 2) := dk_16 9 (dk_at dksX4_expression_9 18 rfl rfl)
theorem dX4_expression_231 : decode cX4_expression 231 = .ok (.invokevirtual 208, 3) := dk_182 0 208 (dk_at dksX4_expression_9 20 rfl rfl)
theorem dX4_expression_234 : decode cX4_expression 234 = .ok (.aload_n 0, 1) := dk_42 (dk_at dksX4_expression_9 23 rfl rfl)
theorem dX4_expression_235 : decode cX4_expression 235 = .ok (.invokevirtual 174, 3) := dk_182 0 174 (dk_at dksX4_expression_10 0 rfl rfl)
theorem dX4_expression_238 : decode cX4_expression 238 = .ok (.aload_n 0, 1) := dk_42 (dk_at dksX4_expression_10 3 rfl rfl)
theorem dX4_expression_239 : decode cX4_expression 239 = .ok (.iconst 0, 1) := dk_3 (dk_at dksX4_expression_10 4 rfl rfl)
theorem dX4_expression_240 : decode cX4_expression 240 = .ok (.invokevirtual 220, 3) := dk_182 0 220 (dk_at dksX4_expression_10 5 rfl rfl)
theorem dX4_expression_243 : decode cX4_expression 243 = .ok (.goto 84, 3) := dk_167 0 84 (dk_at dksX4_expression_10 8 rfl rfl)
theorem dX4_expression_246 : decode cX4_expression 246 = .ok (.aload_n 0, 1) := dk_42 (dk_at dksX4_expression_10 11 rfl rfl)
theorem dX4_expression_247 : decode cX4_expression 247 = .ok (.bipush 42, 2) := dk_16 42 (dk_at dksX4_expression_10 12 rfl rfl)
theorem dX4_expression_249 : decode cX4_expression 249 = .ok (.invokevirtual 205, 3) := dk_182 0 205 (dk_at dksX4_expression_10 14 rfl rfl)
theorem dX4_expression_252 : decode cX4_expression 252 = .ok (.ifCond .ne 12, 3) := dk_154 0 12 (dk_at dksX4_expression_10 17 rfl rfl)
theorem dX4_expression_255 : decode cX4_expression 255 = .ok (.aload_n 0, 1) := dk_42 (dk_at dksX4_expression_10 20 rfl rfl)
theorem dX4_expression_256 : decode cX4_expression 256 = .ok (.bipush 47, 2) := dk_16 47 (dk_at dksX4_expression_10 21 rfl rfl)
theorem dX4_expression_258 : decode cX4_expression 258 = .ok (.invokevirtual 205, 3) := dk_182 0 205 (dk_at dksX4_expression_11 0 rfl rfl)
theorem dX4_expression_261 : decode cX4_expression 261 = .ok (.ifCond .eq 41, 3) := dk_153 0 41 (dk_at dksX4_expression_11 3 rfl rfl)
theorem dX4_expression_264 : decode cX4_expression 264 = .ok (.aload_n 0, 1) := dk_42 (dk_at dksX4_expression_11 6 rfl rfl)
theorem dX4_expression_265 : decode cX4_expression 265 = .ok (.bipush 6, 2) := dk_16 6 (dk_at dksX4_expression_11 7 rfl rfl)
theorem dX4_expression_267 : decode cX4_expression 267 = .ok (.invokevirtual 217, 3) := dk_182 0 217 (dk_at dksX4_expression_11 9 rfl rfl)
theorem dX4_expression_270 : decode cX4_expression 270 = .ok (.aload_n 0, 1) := dk_42 (dk_at dksX4_expression_11 12 rfl rfl)
theorem dX4_expression_271 : decode cX4_expression 271 = .ok (.aload_n 0, 1) := dk_42 (dk_at dksX4_expression_11 13 rfl rfl)
theorem dX4_expression_272 : decode cX4_expression 272 = .ok (.bipush 42, 2) := dk_16 42 (dk_at dksX4_expression_11 14 rfl rfl)
theorem dX4_expression_274 : decode cX4_expression 274 = .ok (.invokevirtual 205, 3) := dk_182 0 205 (dk_at dksX4_expression_11 16 rfl rfl)
theorem dX4_expression_277 : decode cX4_expression 277 = .ok (.ifCond .eq 8, 3) := dk_153 0 8 (dk_at dksX4_expression_11 19 rfl rfl)
theorem dX4_expression_280 : decode cX4_expression 280 = .ok (.bipush 10, 2) := dk_16 10 (dk_at dksX4_expression_11 22 rfl rfl)
theorem dX4_expression_282 : decode cX4_expression 282 = .ok (.goto 5, 3) := dk_167 0 5 (dk_at dksX4_expression_12 0 rfl rfl)
theorem dX4_expression_285 : decode cX4_expression 285 = .ok (.bipush 11, 2) := dk_16 11 (dk_at dksX4_expression_12 3 rfl rfl)
theorem dX4_expression_287 : decode cX4_expression 287 = .ok (.invokevirtual 208, 3) := dk_182 0 208 (dk_at dksX4_expression_12 5 rfl rfl)
theorem dX4_expression_290 : decode cX4_expression 290 = .ok (.aload_n 0, 1) := dk_42 (dk_at dksX4_expression_12 8 rfl rfl)
theorem dX4_expression_291 : decode cX4_expression 291 = .ok (.invokevirtual 174, 3) := dk_182 0 174 (dk_at dksX4_expression_12 9 rfl rfl)
theorem dX4_expression_294 : decode cX4_expression 294 = .ok (.aload_n 0, 1) := dk_42 (dk_at dksX4_expression_12 12 rfl rfl)
theorem dX4_expression_295 : decode cX4_expression 295 = .ok (.iconst 0, 1) := dk_3 (dk_at dksX4_expression_12 13 rfl rfl)
theorem dX4_expression_296 : decode cX4_expression 296 = .ok (.invokevirtual 220, 3) := dk_182 0 220 (dk_at dksX4_expression_12 14 rfl rfl)
theorem dX4_expression_299 : decode cX4_expression 299 = .ok (.goto 28, 3) := dk_167 0 28 (dk_at dksX4_expression_12 17 rfl rfl)
theorem dX4_expression_302 : decode cX4_expression 302 = .ok (.aload_n 0, 1) := dk_42 (dk_at dksX4_expression_12 20 rfl rfl)
theorem dX4_expression_303 : decode cX4_expression 303 = .ok (.bipush 41, 2) := dk_16 41 (dk_at dksX4_expression_12 21 rfl rfl)
theorem dX4_expression_305 : decode cX4_expression 305 = .ok (.invokevirtual 205, 3) := dk_182 0 205 (dk_at dksX4_expression_13 0 rfl rfl)
theorem dX4_expression_308 : decode cX4_expression 308 = .ok (.ifCond .eq 17, 3) := dk_153 0 17 (dk_at dksX4_expression_13 3 rfl rfl)
theorem dX4_expression_311 : decode cX4_expression 311 = .ok (.aload_n 0, 1) := dk_42 (dk_at dksX4_expression_13 6 rfl rfl)
theorem dX4_expression_312 : decode cX4_expression 312 = .ok (.invokevirtual 224, 3) := dk_182 0 224 (dk_at dksX4_expression_13 7 rfl rfl)
theorem dX4_expression_315 : decode cX4_expression 315 = .ok (.ifCond .eq 10, 3) := dk_153 0 10 (dk_at dksX4_expression_13 10 rfl rfl)
theorem dX4_expression_318 : decode cX4_expression 318 = .ok (.aload_n 0, 1) := dk_42 (dk_at dksX4_expression_13 13 rfl rfl)
theorem dX4_expression_319 : decode cX4_expression 319 = .ok (.invokevirtual 227, 3) := dk_182 0 227 (dk_at dksX4_expression_13 14 rfl rfl)
theorem dX4_expression_322 : decode cX4_expression 322 = .ok (.goto 5, 3) := dk_167 0 5 (dk_at dksX4_expression_13 17 rfl rfl)
theorem dX4_expression_325 : decode cX4_expression 325 = .ok (.iconst 0, 1) := dk_3 (dk_at dksX4_expression_13 20 rfl rfl)
theorem dX4_expression_326 : decode cX4_expression 326 = .ok (.istore_n 2, 1) := dk_61 (dk_at dksX4_expression_13 21 rfl rfl)
theorem dX4_expression_327 : decode cX4_expression 327 = .ok (.goto (-293), 3) := dk_167 254 219 (dk_at dksX4_expression_14 0 rfl rfl)
theorem dX4_expression_330 : decode cX4_expression 330 = .ok (.aload_n 0, 1) := dk_42 (dk_at dksX4_expression_14 3 rfl rfl)
theorem dX4_expression_331 : decode cX4_expression 331 = .ok (.invokevirtual 170, 3) := dk_182 0 170 (dk_at dksX4_expression_14 4 rfl rfl)
theorem dX4_expression_334 : decode cX4_expression 334 = .ok (.ifCond .eq 16, 3) := dk_153 0 16 (dk_at dksX4_expression_14 7 rfl rfl)
theorem dX4_expression_337 : decode cX4_expression 337 = .ok (.aload_n 0, 1) := dk_42 (dk_at dksX4_expression_14 10 rfl rfl)
theorem dX4_expression_338 : decode cX4_expression 338 = .ok (.getfield 202, 3) := dk_180 0 202 (dk_at dksX4_expression_14 11 rfl rfl)
theorem dX4_expression_341 : decode cX4_expression 341 = .ok (.iconst 1, 1) := dk_4 (dk_at dksX4_expression_14 14 rfl rfl)
theorem dX4_expression_342 : decode cX4_expression 342 = .ok (.if_icmp .le 8, 3) := dk_164 0 8 (dk_at dksX4_expression_14 15 rfl rfl)
theorem dX4_expression_345 : decode cX4_expression 345 = .ok (.aload_n 0, 1) := dk_42 (dk_at dksX4_expression_14 18 rfl rfl)
theorem dX4_expression_346 : decode cX4_expression 346 = .ok (.iconst 1, 1) := dk_4 (dk_at dksX4_expression_14 19 rfl rfl)
theorem dX4_expression_347 : decode cX4_expression 347 = .ok (.invokevirtual 177, 3) := dk_182 0 177 (dk_at dksX4_expression_14 20 rfl rfl)
theorem dX4_expression_350 : decode cX4_expression 350 = .ok (.aload_n 0, 1) := dk_42 (dk_at dksX4_expression_14 23 rfl rfl)
theorem dX4_expression_351 : decode cX4_expression 351 = .ok (.iconst 0, 1) := dk_3 (dk_at dksX4_expression_15 0 rfl rfl)
theorem dX4_expression_352 : decode cX4_expression 352 = .ok (.invokevirtual 217, 3) := dk_182 0 217 (dk_at dksX4_expression_15 1 rfl rfl)
theorem dX4_expression_355 : decode cX4_expression 355 = .ok (.aload_n 0, 1) := dk_42 (dk_at dksX4_expression_15 4 rfl rfl)
theorem dX4_expression_356 : decode cX4_expression 356 = .ok (.iconst 0, 1) := dk_3 (dk_at dksX4_expression_15 5 rfl rfl)
theorem dX4_expression_357 : decode cX4_expression 357 = .ok (.invokevirtual 192, 3) := dk_182 0 192 (dk_at dksX4_expression_15 6 rfl rfl)
theorem dX4_expression_360 : decode cX4_expression 360 = .ok (.return_, 1) := dk_177 (dk_at dksX4_expression_15 9 rfl rfl)
abbrev cX4_deeper : ByteArray := prog_12_method_30_code
def yX4_deeper : MethodName := ⟨RX4, "deeper", "()V"⟩
def dkwX4_deeper_2 : List UInt8 := [16, 40, 182, 0, 205, 153, 0, 7, 5, 167, 0, 4, 4, 182, 0, 177, 177]
abbrev dktX4_deeper_2 : List UInt8 := dkwX4_deeper_2 ++ []
def dkwX4_deeper_1 : List UInt8 := [180, 0, 202, 3, 84, 177, 42, 42, 180, 0, 144, 5, 159, 0, 20, 42, 180, 0, 144, 4, 159, 0, 12, 42]
abbrev dktX4_deeper_1 : List UInt8 := dkwX4_deeper_1 ++ dktX4_deeper_2
def dkwX4_deeper_0 : List UInt8 := [42, 180, 0, 202, 16, 6, 162, 0, 24, 42, 89, 180, 0, 202, 4, 96, 181, 0, 202, 42, 180, 0, 62, 42]
abbrev dktX4_deeper_0 : List UInt8 := dkwX4_deeper_0 ++ dktX4_deeper_1
theorem dksX4_deeper_0 : cX4_deeper.data.toList.drop 0 = dktX4_deeper_0 := by decide +kernel
theorem dksX4_deeper_1 : cX4_deeper.data.toList.drop 24 = dktX4_deeper_1 := dk_seg dksX4_deeper_0 24 rfl rfl
theorem dksX4_deeper_2 : cX4_deeper.data.toList.drop 48 = dktX4_deeper_2 := dk_seg dksX4_deeper_1 24 rfl rfl
theorem dX4_deeper_0 : decode cX4_deeper 0 = .ok (.aload_n 0, 1) := dk_42 (dk_at dksX4_deeper_0 0 rfl rfl)
theorem dX4_deeper_1 : decode cX4_deeper 1 = .ok (.getfield 202, 3) := dk_180 0 202 (dk_at dksX4_deeper_0 1 rfl rfl)
theorem dX4_deeper_4 : decode cX4_deeper 4 = .ok (.bipush 6, 2) := dk_16 6 (dk_at dksX4_deeper_0 4 rfl rfl)
theorem dX4_deeper_6 : decode cX4_deeper 6 = .ok (.if_icmp .ge 24, 3) := dk_162 0 24 (dk_at dksX4_deeper_0 6 rfl rfl)
theorem dX4_deeper_9 : decode cX4_deeper 9 = .ok (.aload_n 0, 1) := dk_42 (dk_at dksX4_deeper_0 9 rfl rfl)
theorem dX4_deeper_10 : decode cX4_deeper 10 = .ok (.dup, 1) := dk_89 (dk_at dksX4_deeper_0 10 rfl rfl)
theorem dX4_deeper_11 : decode cX4_deeper 11 = .ok (.getfield 202, 3) := dk_180 0 202 (dk_at dksX4_deeper_0 11 rfl rfl)
theorem dX4_deeper_14 : decode cX4_deeper 14 = .ok (.iconst 1, 1) := dk_4 (dk_at dksX4_deeper_0 14 rfl rfl)
theorem dX4_deeper_15 : decode cX4_deeper 15 = .ok (.iadd, 1) := dk_96 (dk_at dksX4_deeper_0 15 rfl rfl)
theorem dX4_deeper_16 : decode cX4_deeper 16 = .ok (.putfield 202, 3) := dk_181 0 202 (dk_at dksX4_deeper_0 16 rfl rfl)
theorem dX4_deeper_19 : decode cX4_deeper 19 = .ok (.aload_n 0, 1) := dk_42 (dk_at dksX4_deeper_0 19 rfl rfl)
theorem dX4_deeper_20 : decode cX4_deeper 20 = .ok (.getfield 62, 3) := dk_180 0 62 (dk_at dksX4_deeper_0 20 rfl rfl)
theorem dX4_deeper_23 : decode cX4_deeper 23 = .ok (.aload_n 0, 1) := dk_42 (dk_at dksX4_deeper_0 23 rfl rfl)
theorem dX4_deeper_24 : decode cX4_deeper 24 = .ok (.getfield 202, 3) := dk_180 0 202 (dk_at dksX4_deeper_1 0 rfl rfl)
theorem dX4_deeper_27 : decode cX4_deeper 27 = .ok (.iconst 0, 1) := dk_3 (dk_at dksX4_deeper_1 3 rfl rfl)
theorem dX4_deeper_28 : decode cX4_deeper 28 = .ok (.bastore, 1) := dk_84 (dk_at dksX4_deeper_1 4 rfl rfl)
theorem dX4_deeper_29 : decode cX4_deeper 29 = .ok (.return_, 1) := dk_177 (dk_at dksX4_deeper_1 5 rfl rfl)
theorem dX4_deeper_30 : decode cX4_deeper 30 = .ok (.aload_n 0, 1) := dk_42 (dk_at dksX4_deeper_1 6 rfl rfl)
theorem dX4_deeper_31 : decode cX4_deeper 31 = .ok (.aload_n 0, 1) := dk_42 (dk_at dksX4_deeper_1 7 rfl rfl)
theorem dX4_deeper_32 : decode cX4_deeper 32 = .ok (.getfield 144, 3) := dk_180 0 144 (dk_at dksX4_deeper_1 8 rfl rfl)
theorem dX4_deeper_35 : decode cX4_deeper 35 = .ok (.iconst 2, 1) := dk_5 (dk_at dksX4_deeper_1 11 rfl rfl)
theorem dX4_deeper_36 : decode cX4_deeper 36 = .ok (.if_icmp .eq 20, 3) := dk_159 0 20 (dk_at dksX4_deeper_1 12 rfl rfl)
theorem dX4_deeper_39 : decode cX4_deeper 39 = .ok (.aload_n 0, 1) := dk_42 (dk_at dksX4_deeper_1 15 rfl rfl)
theorem dX4_deeper_40 : decode cX4_deeper 40 = .ok (.getfield 144, 3) := dk_180 0 144 (dk_at dksX4_deeper_1 16 rfl rfl)
theorem dX4_deeper_43 : decode cX4_deeper 43 = .ok (.iconst 1, 1) := dk_4 (dk_at dksX4_deeper_1 19 rfl rfl)
theorem dX4_deeper_44 : decode cX4_deeper 44 = .ok (.if_icmp .eq 12, 3) := dk_159 0 12 (dk_at dksX4_deeper_1 20 rfl rfl)
theorem dX4_deeper_47 : decode cX4_deeper 47 = .ok (.aload_n 0, 1) := dk_42 (dk_at dksX4_deeper_1 23 rfl rfl)
theorem dX4_deeper_48 : decode cX4_deeper 48 = .ok (.bipush 40, 2) := dk_16 40 (dk_at dksX4_deeper_2 0 rfl rfl)
theorem dX4_deeper_50 : decode cX4_deeper 50 = .ok (.invokevirtual 205, 3) := dk_182 0 205 (dk_at dksX4_deeper_2 2 rfl rfl)
theorem dX4_deeper_53 : decode cX4_deeper 53 = .ok (.ifCond .eq 7, 3) := dk_153 0 7 (dk_at dksX4_deeper_2 5 rfl rfl)
theorem dX4_deeper_56 : decode cX4_deeper 56 = .ok (.iconst 2, 1) := dk_5 (dk_at dksX4_deeper_2 8 rfl rfl)
theorem dX4_deeper_57 : decode cX4_deeper 57 = .ok (.goto 4, 3) := dk_167 0 4 (dk_at dksX4_deeper_2 9 rfl rfl)
theorem dX4_deeper_60 : decode cX4_deeper 60 = .ok (.iconst 1, 1) := dk_4 (dk_at dksX4_deeper_2 12 rfl rfl)
theorem dX4_deeper_61 : decode cX4_deeper 61 = .ok (.invokevirtual 177, 3) := dk_182 0 177 (dk_at dksX4_deeper_2 13 rfl rfl)
theorem dX4_deeper_64 : decode cX4_deeper 64 = .ok (.return_, 1) := dk_177 (dk_at dksX4_deeper_2 16 rfl rfl)
abbrev cX4_isSign : ByteArray := prog_12_method_21_code
def yX4_isSign : MethodName := ⟨RX4, "isSign", "(I)Z"⟩
def dkwX4_isSign_0 : List UInt8 := [42, 180, 0, 144, 6, 160, 0, 15, 42, 180, 0, 141, 27, 160, 0, 7, 4, 167, 0, 4, 3, 172]
abbrev dktX4_isSign_0 : List UInt8 := dkwX4_isSign_0 ++ []
theorem dksX4_isSign_0 : cX4_isSign.data.toList.drop 0 = dktX4_isSign_0 := by decide +kernel
theorem dX4_isSign_0 : decode cX4_isSign 0 = .ok (.aload_n 0, 1) := dk_42 (dk_at dksX4_isSign_0 0 rfl rfl)
theorem dX4_isSign_1 : decode cX4_isSign 1 = .ok (.getfield 144, 3) := dk_180 0 144 (dk_at dksX4_isSign_0 1 rfl rfl)
theorem dX4_isSign_4 : decode cX4_isSign 4 = .ok (.iconst 3, 1) := dk_6 (dk_at dksX4_isSign_0 4 rfl rfl)
theorem dX4_isSign_5 : decode cX4_isSign 5 = .ok (.if_icmp .ne 15, 3) := dk_160 0 15 (dk_at dksX4_isSign_0 5 rfl rfl)
theorem dX4_isSign_8 : decode cX4_isSign 8 = .ok (.aload_n 0, 1) := dk_42 (dk_at dksX4_isSign_0 8 rfl rfl)
theorem dX4_isSign_9 : decode cX4_isSign 9 = .ok (.getfield 141, 3) := dk_180 0 141 (dk_at dksX4_isSign_0 9 rfl rfl)
theorem dX4_isSign_12 : decode cX4_isSign 12 = .ok (.iload_n 1, 1) := dk_27 (dk_at dksX4_isSign_0 12 rfl rfl)
theorem dX4_isSign_13 : decode cX4_isSign 13 = .ok (.if_icmp .ne 7, 3) := dk_160 0 7 (dk_at dksX4_isSign_0 13 rfl rfl)
theorem dX4_isSign_16 : decode cX4_isSign 16 = .ok (.iconst 1, 1) := dk_4 (dk_at dksX4_isSign_0 16 rfl rfl)
theorem dX4_isSign_17 : decode cX4_isSign 17 = .ok (.goto 4, 3) := dk_167 0 4 (dk_at dksX4_isSign_0 17 rfl rfl)
theorem dX4_isSign_20 : decode cX4_isSign 20 = .ok (.iconst 0, 1) := dk_3 (dk_at dksX4_isSign_0 20 rfl rfl)
theorem dX4_isSign_21 : decode cX4_isSign 21 = .ok (.ireturn, 1) := dk_172 (dk_at dksX4_isSign_0 21 rfl rfl)
abbrev cX4_operand : ByteArray := prog_12_method_31_code
def yX4_operand : MethodName := ⟨RX4, "operand", "(Z)V"⟩
def dkwX4_operand_5 : List UInt8 := [61, 167, 255, 143, 42, 182, 0, 214, 177]
abbrev dktX4_operand_5 : List UInt8 := dkwX4_operand_5 ++ []
def dkwX4_operand_4 : List UInt8 := [167, 0, 4, 3, 62, 29, 153, 0, 19, 42, 16, 14, 182, 0, 208, 42, 182, 0, 174, 42, 182, 0, 211, 4]
abbrev dktX4_operand_4 : List UInt8 := dkwX4_operand_4 ++ dktX4_operand_5
def dkwX4_operand_3 : List UInt8 := [182, 0, 174, 167, 255, 202, 42, 182, 0, 170, 153, 0, 16, 42, 16, 40, 182, 0, 205, 153, 0, 7, 4]
abbrev dktX4_operand_3 : List UInt8 := dkwX4_operand_3 ++ dktX4_operand_4
def dkwX4_operand_2 : List UInt8 := [5, 182, 0, 177, 132, 4, 1, 42, 182, 0, 170, 154, 0, 6, 167, 255, 214, 42, 6, 182, 0, 208, 42]
abbrev dktX4_operand_2 : List UInt8 := dkwX4_operand_2 ++ dktX4_operand_3
def dkwX4_operand_1 : List UInt8 := [153, 0, 53, 28, 153, 0, 49, 42, 182, 0, 195, 16, 14, 160, 0, 40, 21, 4, 16, 6, 160, 0, 8, 42]
abbrev dktX4_operand_1 : List UInt8 := dkwX4_operand_1 ++ dktX4_operand_2
def dkwX4_operand_0 : List UInt8 := [27, 61, 4, 62, 29, 153, 0, 115, 42, 182, 0, 170, 153, 0, 108, 3, 54, 4, 42, 182, 0, 170]
abbrev dktX4_operand_0 : List UInt8 := dkwX4_operand_0 ++ dktX4_operand_1
theorem dksX4_operand_0 : cX4_operand.data.toList.drop 0 = dktX4_operand_0 := by decide +kernel
theorem dksX4_operand_1 : cX4_operand.data.toList.drop 22 = dktX4_operand_1 := dk_seg dksX4_operand_0 22 rfl rfl
theorem dksX4_operand_2 : cX4_operand.data.toList.drop 46 = dktX4_operand_2 := dk_seg dksX4_operand_1 24 rfl rfl
theorem dksX4_operand_3 : cX4_operand.data.toList.drop 69 = dktX4_operand_3 := dk_seg dksX4_operand_2 23 rfl rfl
theorem dksX4_operand_4 : cX4_operand.data.toList.drop 92 = dktX4_operand_4 := dk_seg dksX4_operand_3 23 rfl rfl
theorem dksX4_operand_5 : cX4_operand.data.toList.drop 116 = dktX4_operand_5 := dk_seg dksX4_operand_4 24 rfl rfl
theorem dX4_operand_0 : decode cX4_operand 0 = .ok (.iload_n 1, 1) := dk_27 (dk_at dksX4_operand_0 0 rfl rfl)
theorem dX4_operand_1 : decode cX4_operand 1 = .ok (.istore_n 2, 1) := dk_61 (dk_at dksX4_operand_0 1 rfl rfl)
theorem dX4_operand_2 : decode cX4_operand 2 = .ok (.iconst 1, 1) := dk_4 (dk_at dksX4_operand_0 2 rfl rfl)
theorem dX4_operand_3 : decode cX4_operand 3 = .ok (.istore_n 3, 1) := dk_62 (dk_at dksX4_operand_0 3 rfl rfl)
theorem dX4_operand_4 : decode cX4_operand 4 = .ok (.iload_n 3, 1) := dk_29 (dk_at dksX4_operand_0 4 rfl rfl)
theorem dX4_operand_5 : decode cX4_operand 5 = .ok (.ifCond .eq 115, 3) := dk_153 0 115 (dk_at dksX4_operand_0 5 rfl rfl)
theorem dX4_operand_8 : decode cX4_operand 8 = .ok (.aload_n 0, 1) := dk_42 (dk_at dksX4_operand_0 8 rfl rfl)
theorem dX4_operand_9 : decode cX4_operand 9 = .ok (.invokevirtual 170, 3) := dk_182 0 170 (dk_at dksX4_operand_0 9 rfl rfl)
theorem dX4_operand_12 : decode cX4_operand 12 = .ok (.ifCond .eq 108, 3) := dk_153 0 108 (dk_at dksX4_operand_0 12 rfl rfl)
theorem dX4_operand_15 : decode cX4_operand 15 = .ok (.iconst 0, 1) := dk_3 (dk_at dksX4_operand_0 15 rfl rfl)
theorem dX4_operand_16 : decode cX4_operand 16 = .ok (.istore 4, 2) := dk_54 4 (dk_at dksX4_operand_0 16 rfl rfl)
theorem dX4_operand_18 : decode cX4_operand 18 = .ok (.aload_n 0, 1) := dk_42 (dk_at dksX4_operand_0 18 rfl rfl)
theorem dX4_operand_19 : decode cX4_operand 19 = .ok (.invokevirtual 170, 3) := dk_182 0 170 (dk_at dksX4_operand_0 19 rfl rfl)
theorem dX4_operand_22 : decode cX4_operand 22 = .ok (.ifCond .eq 53, 3) := dk_153 0 53 (dk_at dksX4_operand_1 0 rfl rfl)
theorem dX4_operand_25 : decode cX4_operand 25 = .ok (.iload_n 2, 1) := dk_28 (dk_at dksX4_operand_1 3 rfl rfl)
theorem dX4_operand_26 : decode cX4_operand 26 = .ok (.ifCond .eq 49, 3) := dk_153 0 49 (dk_at dksX4_operand_1 4 rfl rfl)
theorem dX4_operand_29 : decode cX4_operand 29 = .ok (.aload_n 0, 1) := dk_42 (dk_at dksX4_operand_1 7 rfl rfl)
theorem dX4_operand_30 : decode cX4_operand 30 = .ok (.invokevirtual 195, 3) := dk_182 0 195 (dk_at dksX4_operand_1 8 rfl rfl)
theorem dX4_operand_33 : decode cX4_operand 33 = .ok (.bipush 14, 2) := dk_16 14 (dk_at dksX4_operand_1 11 rfl rfl)
theorem dX4_operand_35 : decode cX4_operand 35 = .ok (.if_icmp .ne 40, 3) := dk_160 0 40 (dk_at dksX4_operand_1 13 rfl rfl)
theorem dX4_operand_38 : decode cX4_operand 38 = .ok (.iload 4, 2) := dk_21 4 (dk_at dksX4_operand_1 16 rfl rfl)
theorem dX4_operand_40 : decode cX4_operand 40 = .ok (.bipush 6, 2) := dk_16 6 (dk_at dksX4_operand_1 18 rfl rfl)
theorem dX4_operand_42 : decode cX4_operand 42 = .ok (.if_icmp .ne 8, 3) := dk_160 0 8 (dk_at dksX4_operand_1 20 rfl rfl)
theorem dX4_operand_45 : decode cX4_operand 45 = .ok (.aload_n 0, 1) := dk_42 (dk_at dksX4_operand_1 23 rfl rfl)
theorem dX4_operand_46 : decode cX4_operand 46 = .ok (.iconst 2, 1) := dk_5 (dk_at dksX4_operand_2 0 rfl rfl)
theorem dX4_operand_47 : decode cX4_operand 47 = .ok (.invokevirtual 177, 3) := dk_182 0 177 (dk_at dksX4_operand_2 1 rfl rfl)
theorem dX4_operand_50 : decode cX4_operand 50 = .ok (.iinc 4 1, 3) := dk_132 4 1 (dk_at dksX4_operand_2 4 rfl rfl)
theorem dX4_operand_53 : decode cX4_operand 53 = .ok (.aload_n 0, 1) := dk_42 (dk_at dksX4_operand_2 7 rfl rfl)
theorem dX4_operand_54 : decode cX4_operand 54 = .ok (.invokevirtual 170, 3) := dk_182 0 170 (dk_at dksX4_operand_2 8 rfl rfl)
theorem dX4_operand_57 : decode cX4_operand 57 = .ok (.ifCond .ne 6, 3) := dk_154 0 6 (dk_at dksX4_operand_2 11 rfl rfl)
theorem dX4_operand_60 : decode cX4_operand 60 = .ok (.goto (-42), 3) := dk_167 255 214 (dk_at dksX4_operand_2 14 rfl rfl)
theorem dX4_operand_63 : decode cX4_operand 63 = .ok (.aload_n 0, 1) := dk_42 (dk_at dksX4_operand_2 17 rfl rfl)
theorem dX4_operand_64 : decode cX4_operand 64 = .ok (.iconst 3, 1) := dk_6 (dk_at dksX4_operand_2 18 rfl rfl)
theorem dX4_operand_65 : decode cX4_operand 65 = .ok (.invokevirtual 208, 3) := dk_182 0 208 (dk_at dksX4_operand_2 19 rfl rfl)
theorem dX4_operand_68 : decode cX4_operand 68 = .ok (.aload_n 0, 1) := dk_42 (dk_at dksX4_operand_2 22 rfl rfl)
theorem dX4_operand_69 : decode cX4_operand 69 = .ok (.invokevirtual 174, 3) := dk_182 0 174 (dk_at dksX4_operand_3 0 rfl rfl)
theorem dX4_operand_72 : decode cX4_operand 72 = .ok (.goto (-54), 3) := dk_167 255 202 (dk_at dksX4_operand_3 3 rfl rfl)
theorem dX4_operand_75 : decode cX4_operand 75 = .ok (.aload_n 0, 1) := dk_42 (dk_at dksX4_operand_3 6 rfl rfl)
theorem dX4_operand_76 : decode cX4_operand 76 = .ok (.invokevirtual 170, 3) := dk_182 0 170 (dk_at dksX4_operand_3 7 rfl rfl)
theorem dX4_operand_79 : decode cX4_operand 79 = .ok (.ifCond .eq 16, 3) := dk_153 0 16 (dk_at dksX4_operand_3 10 rfl rfl)
theorem dX4_operand_82 : decode cX4_operand 82 = .ok (.aload_n 0, 1) := dk_42 (dk_at dksX4_operand_3 13 rfl rfl)
theorem dX4_operand_83 : decode cX4_operand 83 = .ok (.bipush 40, 2) := dk_16 40 (dk_at dksX4_operand_3 14 rfl rfl)
theorem dX4_operand_85 : decode cX4_operand 85 = .ok (.invokevirtual 205, 3) := dk_182 0 205 (dk_at dksX4_operand_3 16 rfl rfl)
theorem dX4_operand_88 : decode cX4_operand 88 = .ok (.ifCond .eq 7, 3) := dk_153 0 7 (dk_at dksX4_operand_3 19 rfl rfl)
theorem dX4_operand_91 : decode cX4_operand 91 = .ok (.iconst 1, 1) := dk_4 (dk_at dksX4_operand_3 22 rfl rfl)
theorem dX4_operand_92 : decode cX4_operand 92 = .ok (.goto 4, 3) := dk_167 0 4 (dk_at dksX4_operand_4 0 rfl rfl)
theorem dX4_operand_95 : decode cX4_operand 95 = .ok (.iconst 0, 1) := dk_3 (dk_at dksX4_operand_4 3 rfl rfl)
theorem dX4_operand_96 : decode cX4_operand 96 = .ok (.istore_n 3, 1) := dk_62 (dk_at dksX4_operand_4 4 rfl rfl)
theorem dX4_operand_97 : decode cX4_operand 97 = .ok (.iload_n 3, 1) := dk_29 (dk_at dksX4_operand_4 5 rfl rfl)
theorem dX4_operand_98 : decode cX4_operand 98 = .ok (.ifCond .eq 19, 3) := dk_153 0 19 (dk_at dksX4_operand_4 6 rfl rfl)
theorem dX4_operand_101 : decode cX4_operand 101 = .ok (.aload_n 0, 1) := dk_42 (dk_at dksX4_operand_4 9 rfl rfl)
theorem dX4_operand_102 : decode cX4_operand 102 = .ok (.bipush 14, 2) := dk_16 14 (dk_at dksX4_operand_4 10 rfl rfl)
theorem dX4_operand_104 : decode cX4_operand 104 = .ok (.invokevirtual 208, 3) := dk_182 0 208 (dk_at dksX4_operand_4 12 rfl rfl)
theorem dX4_operand_107 : decode cX4_operand 107 = .ok (.aload_n 0, 1) := dk_42 (dk_at dksX4_operand_4 15 rfl rfl)
theorem dX4_operand_108 : decode cX4_operand 108 = .ok (.invokevirtual 174, 3) := dk_182 0 174 (dk_at dksX4_operand_4 16 rfl rfl)
theorem dX4_operand_111 : decode cX4_operand 111 = .ok (.aload_n 0, 1) := dk_42 (dk_at dksX4_operand_4 19 rfl rfl)
theorem dX4_operand_112 : decode cX4_operand 112 = .ok (.invokevirtual 211, 3) := dk_182 0 211 (dk_at dksX4_operand_4 20 rfl rfl)
theorem dX4_operand_115 : decode cX4_operand 115 = .ok (.iconst 1, 1) := dk_4 (dk_at dksX4_operand_4 23 rfl rfl)
theorem dX4_operand_116 : decode cX4_operand 116 = .ok (.istore_n 2, 1) := dk_61 (dk_at dksX4_operand_5 0 rfl rfl)
theorem dX4_operand_117 : decode cX4_operand 117 = .ok (.goto (-113), 3) := dk_167 255 143 (dk_at dksX4_operand_5 1 rfl rfl)
theorem dX4_operand_120 : decode cX4_operand 120 = .ok (.aload_n 0, 1) := dk_42 (dk_at dksX4_operand_5 4 rfl rfl)
theorem dX4_operand_121 : decode cX4_operand 121 = .ok (.invokevirtual 214, 3) := dk_182 0 214 (dk_at dksX4_operand_5 5 rfl rfl)
theorem dX4_operand_124 : decode cX4_operand 124 = .ok (.return_, 1) := dk_177 (dk_at dksX4_operand_5 8 rfl rfl)
abbrev cX4_waitsFor : ByteArray := prog_12_method_28_code
def yX4_waitsFor : MethodName := ⟨RX4, "waitsFor", "(I)V"⟩
def dkwX4_waitsFor_0 : List UInt8 := [42, 180, 0, 59, 42, 180, 0, 183, 27, 79, 42, 89, 180, 0, 183, 4, 96, 181, 0, 183, 177]
abbrev dktX4_waitsFor_0 : List UInt8 := dkwX4_waitsFor_0 ++ []
theorem dksX4_waitsFor_0 : cX4_waitsFor.data.toList.drop 0 = dktX4_waitsFor_0 := by decide +kernel
theorem dX4_waitsFor_0 : decode cX4_waitsFor 0 = .ok (.aload_n 0, 1) := dk_42 (dk_at dksX4_waitsFor_0 0 rfl rfl)
theorem dX4_waitsFor_1 : decode cX4_waitsFor 1 = .ok (.getfield 59, 3) := dk_180 0 59 (dk_at dksX4_waitsFor_0 1 rfl rfl)
theorem dX4_waitsFor_4 : decode cX4_waitsFor 4 = .ok (.aload_n 0, 1) := dk_42 (dk_at dksX4_waitsFor_0 4 rfl rfl)
theorem dX4_waitsFor_5 : decode cX4_waitsFor 5 = .ok (.getfield 183, 3) := dk_180 0 183 (dk_at dksX4_waitsFor_0 5 rfl rfl)
theorem dX4_waitsFor_8 : decode cX4_waitsFor 8 = .ok (.iload_n 1, 1) := dk_27 (dk_at dksX4_waitsFor_0 8 rfl rfl)
theorem dX4_waitsFor_9 : decode cX4_waitsFor 9 = .ok (.iastore, 1) := dk_79 (dk_at dksX4_waitsFor_0 9 rfl rfl)
theorem dX4_waitsFor_10 : decode cX4_waitsFor 10 = .ok (.aload_n 0, 1) := dk_42 (dk_at dksX4_waitsFor_0 10 rfl rfl)
theorem dX4_waitsFor_11 : decode cX4_waitsFor 11 = .ok (.dup, 1) := dk_89 (dk_at dksX4_waitsFor_0 11 rfl rfl)
theorem dX4_waitsFor_12 : decode cX4_waitsFor 12 = .ok (.getfield 183, 3) := dk_180 0 183 (dk_at dksX4_waitsFor_0 12 rfl rfl)
theorem dX4_waitsFor_15 : decode cX4_waitsFor 15 = .ok (.iconst 1, 1) := dk_4 (dk_at dksX4_waitsFor_0 15 rfl rfl)
theorem dX4_waitsFor_16 : decode cX4_waitsFor 16 = .ok (.iadd, 1) := dk_96 (dk_at dksX4_waitsFor_0 16 rfl rfl)
theorem dX4_waitsFor_17 : decode cX4_waitsFor 17 = .ok (.putfield 183, 3) := dk_181 0 183 (dk_at dksX4_waitsFor_0 17 rfl rfl)
theorem dX4_waitsFor_20 : decode cX4_waitsFor 20 = .ok (.return_, 1) := dk_177 (dk_at dksX4_waitsFor_0 20 rfl rfl)
abbrev cX4_part : ByteArray := prog_12_method_29_code
def yX4_part : MethodName := ⟨RX4, "part", "()V"⟩
def dkwX4_part_4 : List UInt8 := [182, 0, 170, 153, 0, 7, 42, 182, 0, 174, 177]
abbrev dktX4_part_4 : List UInt8 := dkwX4_part_4 ++ []
def dkwX4_part_3 : List UInt8 := [42, 6, 182, 0, 177, 42, 5, 182, 0, 192, 42, 27, 182, 0, 192, 167, 0, 8, 42, 4, 182, 0, 177, 42]
abbrev dktX4_part_3 : List UInt8 := dkwX4_part_3 ++ dktX4_part_4
def dkwX4_part_2 : List UInt8 := [180, 0, 144, 4, 160, 0, 38, 42, 182, 0, 195, 60, 27, 155, 0, 11, 27, 42, 180, 0, 199, 164, 0, 8]
abbrev dktX4_part_2 : List UInt8 := dkwX4_part_2 ++ dktX4_part_3
def dkwX4_part_1 : List UInt8 := [42, 5, 182, 0, 177, 42, 4, 182, 0, 192, 42, 42, 180, 0, 138, 182, 0, 192, 167, 0, 51, 42]
abbrev dktX4_part_1 : List UInt8 := dkwX4_part_1 ++ dktX4_part_2
def dkwX4_part_0 : List UInt8 := [42, 182, 0, 170, 154, 0, 4, 177, 42, 180, 0, 144, 5, 160, 0, 32, 42, 180, 0, 154, 7, 164, 0, 8]
abbrev dktX4_part_0 : List UInt8 := dkwX4_part_0 ++ dktX4_part_1
theorem dksX4_part_0 : cX4_part.data.toList.drop 0 = dktX4_part_0 := by decide +kernel
theorem dksX4_part_1 : cX4_part.data.toList.drop 24 = dktX4_part_1 := dk_seg dksX4_part_0 24 rfl rfl
theorem dksX4_part_2 : cX4_part.data.toList.drop 46 = dktX4_part_2 := dk_seg dksX4_part_1 22 rfl rfl
theorem dksX4_part_3 : cX4_part.data.toList.drop 70 = dktX4_part_3 := dk_seg dksX4_part_2 24 rfl rfl
theorem dksX4_part_4 : cX4_part.data.toList.drop 94 = dktX4_part_4 := dk_seg dksX4_part_3 24 rfl rfl
theorem dX4_part_0 : decode cX4_part 0 = .ok (.aload_n 0, 1) := dk_42 (dk_at dksX4_part_0 0 rfl rfl)
theorem dX4_part_1 : decode cX4_part 1 = .ok (.invokevirtual 170, 3) := dk_182 0 170 (dk_at dksX4_part_0 1 rfl rfl)
theorem dX4_part_4 : decode cX4_part 4 = .ok (.ifCond .ne 4, 3) := dk_154 0 4 (dk_at dksX4_part_0 4 rfl rfl)
theorem dX4_part_7 : decode cX4_part 7 = .ok (.return_, 1) := dk_177 (dk_at dksX4_part_0 7 rfl rfl)
theorem dX4_part_8 : decode cX4_part 8 = .ok (.aload_n 0, 1) := dk_42 (dk_at dksX4_part_0 8 rfl rfl)
theorem dX4_part_9 : decode cX4_part 9 = .ok (.getfield 144, 3) := dk_180 0 144 (dk_at dksX4_part_0 9 rfl rfl)
theorem dX4_part_12 : decode cX4_part 12 = .ok (.iconst 2, 1) := dk_5 (dk_at dksX4_part_0 12 rfl rfl)
theorem dX4_part_13 : decode cX4_part 13 = .ok (.if_icmp .ne 32, 3) := dk_160 0 32 (dk_at dksX4_part_0 13 rfl rfl)
theorem dX4_part_16 : decode cX4_part 16 = .ok (.aload_n 0, 1) := dk_42 (dk_at dksX4_part_0 16 rfl rfl)
theorem dX4_part_17 : decode cX4_part 17 = .ok (.getfield 154, 3) := dk_180 0 154 (dk_at dksX4_part_0 17 rfl rfl)
theorem dX4_part_20 : decode cX4_part 20 = .ok (.iconst 4, 1) := dk_7 (dk_at dksX4_part_0 20 rfl rfl)
theorem dX4_part_21 : decode cX4_part 21 = .ok (.if_icmp .le 8, 3) := dk_164 0 8 (dk_at dksX4_part_0 21 rfl rfl)
theorem dX4_part_24 : decode cX4_part 24 = .ok (.aload_n 0, 1) := dk_42 (dk_at dksX4_part_1 0 rfl rfl)
theorem dX4_part_25 : decode cX4_part 25 = .ok (.iconst 2, 1) := dk_5 (dk_at dksX4_part_1 1 rfl rfl)
theorem dX4_part_26 : decode cX4_part 26 = .ok (.invokevirtual 177, 3) := dk_182 0 177 (dk_at dksX4_part_1 2 rfl rfl)
theorem dX4_part_29 : decode cX4_part 29 = .ok (.aload_n 0, 1) := dk_42 (dk_at dksX4_part_1 5 rfl rfl)
theorem dX4_part_30 : decode cX4_part 30 = .ok (.iconst 1, 1) := dk_4 (dk_at dksX4_part_1 6 rfl rfl)
theorem dX4_part_31 : decode cX4_part 31 = .ok (.invokevirtual 192, 3) := dk_182 0 192 (dk_at dksX4_part_1 7 rfl rfl)
theorem dX4_part_34 : decode cX4_part 34 = .ok (.aload_n 0, 1) := dk_42 (dk_at dksX4_part_1 10 rfl rfl)
theorem dX4_part_35 : decode cX4_part 35 = .ok (.aload_n 0, 1) := dk_42 (dk_at dksX4_part_1 11 rfl rfl)
theorem dX4_part_36 : decode cX4_part 36 = .ok (.getfield 138, 3) := dk_180 0 138 (dk_at dksX4_part_1 12 rfl rfl)
theorem dX4_part_39 : decode cX4_part 39 = .ok (.invokevirtual 192, 3) := dk_182 0 192 (dk_at dksX4_part_1 15 rfl rfl)
theorem dX4_part_42 : decode cX4_part 42 = .ok (.goto 51, 3) := dk_167 0 51 (dk_at dksX4_part_1 18 rfl rfl)
theorem dX4_part_45 : decode cX4_part 45 = .ok (.aload_n 0, 1) := dk_42 (dk_at dksX4_part_1 21 rfl rfl)
theorem dX4_part_46 : decode cX4_part 46 = .ok (.getfield 144, 3) := dk_180 0 144 (dk_at dksX4_part_2 0 rfl rfl)
theorem dX4_part_49 : decode cX4_part 49 = .ok (.iconst 1, 1) := dk_4 (dk_at dksX4_part_2 3 rfl rfl)
theorem dX4_part_50 : decode cX4_part 50 = .ok (.if_icmp .ne 38, 3) := dk_160 0 38 (dk_at dksX4_part_2 4 rfl rfl)
theorem dX4_part_53 : decode cX4_part 53 = .ok (.aload_n 0, 1) := dk_42 (dk_at dksX4_part_2 7 rfl rfl)
theorem dX4_part_54 : decode cX4_part 54 = .ok (.invokevirtual 195, 3) := dk_182 0 195 (dk_at dksX4_part_2 8 rfl rfl)
theorem dX4_part_57 : decode cX4_part 57 = .ok (.istore_n 1, 1) := dk_60 (dk_at dksX4_part_2 11 rfl rfl)
theorem dX4_part_58 : decode cX4_part 58 = .ok (.iload_n 1, 1) := dk_27 (dk_at dksX4_part_2 12 rfl rfl)
theorem dX4_part_59 : decode cX4_part 59 = .ok (.ifCond .lt 11, 3) := dk_155 0 11 (dk_at dksX4_part_2 13 rfl rfl)
theorem dX4_part_62 : decode cX4_part 62 = .ok (.iload_n 1, 1) := dk_27 (dk_at dksX4_part_2 16 rfl rfl)
theorem dX4_part_63 : decode cX4_part 63 = .ok (.aload_n 0, 1) := dk_42 (dk_at dksX4_part_2 17 rfl rfl)
theorem dX4_part_64 : decode cX4_part 64 = .ok (.getfield 199, 3) := dk_180 0 199 (dk_at dksX4_part_2 18 rfl rfl)
theorem dX4_part_67 : decode cX4_part 67 = .ok (.if_icmp .le 8, 3) := dk_164 0 8 (dk_at dksX4_part_2 21 rfl rfl)
theorem dX4_part_70 : decode cX4_part 70 = .ok (.aload_n 0, 1) := dk_42 (dk_at dksX4_part_3 0 rfl rfl)
theorem dX4_part_71 : decode cX4_part 71 = .ok (.iconst 3, 1) := dk_6 (dk_at dksX4_part_3 1 rfl rfl)
theorem dX4_part_72 : decode cX4_part 72 = .ok (.invokevirtual 177, 3) := dk_182 0 177 (dk_at dksX4_part_3 2 rfl rfl)
theorem dX4_part_75 : decode cX4_part 75 = .ok (.aload_n 0, 1) := dk_42 (dk_at dksX4_part_3 5 rfl rfl)
theorem dX4_part_76 : decode cX4_part 76 = .ok (.iconst 2, 1) := dk_5 (dk_at dksX4_part_3 6 rfl rfl)
theorem dX4_part_77 : decode cX4_part 77 = .ok (.invokevirtual 192, 3) := dk_182 0 192 (dk_at dksX4_part_3 7 rfl rfl)
theorem dX4_part_80 : decode cX4_part 80 = .ok (.aload_n 0, 1) := dk_42 (dk_at dksX4_part_3 10 rfl rfl)
theorem dX4_part_81 : decode cX4_part 81 = .ok (.iload_n 1, 1) := dk_27 (dk_at dksX4_part_3 11 rfl rfl)
theorem dX4_part_82 : decode cX4_part 82 = .ok (.invokevirtual 192, 3) := dk_182 0 192 (dk_at dksX4_part_3 12 rfl rfl)
theorem dX4_part_85 : decode cX4_part 85 = .ok (.goto 8, 3) := dk_167 0 8 (dk_at dksX4_part_3 15 rfl rfl)
theorem dX4_part_88 : decode cX4_part 88 = .ok (.aload_n 0, 1) := dk_42 (dk_at dksX4_part_3 18 rfl rfl)
theorem dX4_part_89 : decode cX4_part 89 = .ok (.iconst 1, 1) := dk_4 (dk_at dksX4_part_3 19 rfl rfl)
theorem dX4_part_90 : decode cX4_part 90 = .ok (.invokevirtual 177, 3) := dk_182 0 177 (dk_at dksX4_part_3 20 rfl rfl)
theorem dX4_part_93 : decode cX4_part 93 = .ok (.aload_n 0, 1) := dk_42 (dk_at dksX4_part_3 23 rfl rfl)
theorem dX4_part_94 : decode cX4_part 94 = .ok (.invokevirtual 170, 3) := dk_182 0 170 (dk_at dksX4_part_4 0 rfl rfl)
theorem dX4_part_97 : decode cX4_part 97 = .ok (.ifCond .eq 7, 3) := dk_153 0 7 (dk_at dksX4_part_4 3 rfl rfl)
theorem dX4_part_100 : decode cX4_part 100 = .ok (.aload_n 0, 1) := dk_42 (dk_at dksX4_part_4 6 rfl rfl)
theorem dX4_part_101 : decode cX4_part 101 = .ok (.invokevirtual 174, 3) := dk_182 0 174 (dk_at dksX4_part_4 7 rfl rfl)
theorem dX4_part_104 : decode cX4_part 104 = .ok (.return_, 1) := dk_177 (dk_at dksX4_part_4 10 rfl rfl)
abbrev cX4_puts : ByteArray := prog_12_method_24_code
def yX4_puts : MethodName := ⟨RX4, "puts", "(I)V"⟩
def dkwX4_puts_0 : List UInt8 := [42, 180, 0, 56, 42, 180, 0, 180, 27, 79, 42, 89, 180, 0, 180, 4, 96, 181, 0, 180, 177]
abbrev dktX4_puts_0 : List UInt8 := dkwX4_puts_0 ++ []
theorem dksX4_puts_0 : cX4_puts.data.toList.drop 0 = dktX4_puts_0 := by decide +kernel
theorem dX4_puts_0 : decode cX4_puts 0 = .ok (.aload_n 0, 1) := dk_42 (dk_at dksX4_puts_0 0 rfl rfl)
theorem dX4_puts_1 : decode cX4_puts 1 = .ok (.getfield 56, 3) := dk_180 0 56 (dk_at dksX4_puts_0 1 rfl rfl)
theorem dX4_puts_4 : decode cX4_puts 4 = .ok (.aload_n 0, 1) := dk_42 (dk_at dksX4_puts_0 4 rfl rfl)
theorem dX4_puts_5 : decode cX4_puts 5 = .ok (.getfield 180, 3) := dk_180 0 180 (dk_at dksX4_puts_0 5 rfl rfl)
theorem dX4_puts_8 : decode cX4_puts 8 = .ok (.iload_n 1, 1) := dk_27 (dk_at dksX4_puts_0 8 rfl rfl)
theorem dX4_puts_9 : decode cX4_puts 9 = .ok (.iastore, 1) := dk_79 (dk_at dksX4_puts_0 9 rfl rfl)
theorem dX4_puts_10 : decode cX4_puts 10 = .ok (.aload_n 0, 1) := dk_42 (dk_at dksX4_puts_0 10 rfl rfl)
theorem dX4_puts_11 : decode cX4_puts 11 = .ok (.dup, 1) := dk_89 (dk_at dksX4_puts_0 11 rfl rfl)
theorem dX4_puts_12 : decode cX4_puts 12 = .ok (.getfield 180, 3) := dk_180 0 180 (dk_at dksX4_puts_0 12 rfl rfl)
theorem dX4_puts_15 : decode cX4_puts 15 = .ok (.iconst 1, 1) := dk_4 (dk_at dksX4_puts_0 15 rfl rfl)
theorem dX4_puts_16 : decode cX4_puts 16 = .ok (.iadd, 1) := dk_96 (dk_at dksX4_puts_0 16 rfl rfl)
theorem dX4_puts_17 : decode cX4_puts 17 = .ok (.putfield 180, 3) := dk_181 0 180 (dk_at dksX4_puts_0 17 rfl rfl)
theorem dX4_puts_20 : decode cX4_puts 20 = .ok (.return_, 1) := dk_177 (dk_at dksX4_puts_0 20 rfl rfl)
abbrev cX4_drops : ByteArray := prog_12_method_27_code
def yX4_drops : MethodName := ⟨RX4, "drops", "(I)V"⟩
def dkwX4_drops_2 : List UInt8 := [100, 181, 0, 183, 42, 42, 180, 0, 59, 42, 180, 0, 183, 46, 182, 0, 192, 167, 255, 191, 177]
abbrev dktX4_drops_2 : List UInt8 := dkwX4_drops_2 ++ []
def dkwX4_drops_1 : List UInt8 := [42, 180, 0, 59, 42, 180, 0, 183, 4, 100, 46, 184, 0, 189, 27, 161, 0, 29, 42, 89, 180, 0, 183, 4]
abbrev dktX4_drops_1 : List UInt8 := dkwX4_drops_1 ++ dktX4_drops_2
def dkwX4_drops_0 : List UInt8 := [42, 180, 0, 183, 158, 0, 64, 42, 180, 0, 59, 42, 180, 0, 183, 4, 100, 46, 184, 0, 186, 154, 0, 47]
abbrev dktX4_drops_0 : List UInt8 := dkwX4_drops_0 ++ dktX4_drops_1
theorem dksX4_drops_0 : cX4_drops.data.toList.drop 0 = dktX4_drops_0 := by decide +kernel
theorem dksX4_drops_1 : cX4_drops.data.toList.drop 24 = dktX4_drops_1 := dk_seg dksX4_drops_0 24 rfl rfl
theorem dksX4_drops_2 : cX4_drops.data.toList.drop 48 = dktX4_drops_2 := dk_seg dksX4_drops_1 24 rfl rfl
theorem dX4_drops_0 : decode cX4_drops 0 = .ok (.aload_n 0, 1) := dk_42 (dk_at dksX4_drops_0 0 rfl rfl)
theorem dX4_drops_1 : decode cX4_drops 1 = .ok (.getfield 183, 3) := dk_180 0 183 (dk_at dksX4_drops_0 1 rfl rfl)
theorem dX4_drops_4 : decode cX4_drops 4 = .ok (.ifCond .le 64, 3) := dk_158 0 64 (dk_at dksX4_drops_0 4 rfl rfl)
theorem dX4_drops_7 : decode cX4_drops 7 = .ok (.aload_n 0, 1) := dk_42 (dk_at dksX4_drops_0 7 rfl rfl)
theorem dX4_drops_8 : decode cX4_drops 8 = .ok (.getfield 59, 3) := dk_180 0 59 (dk_at dksX4_drops_0 8 rfl rfl)
theorem dX4_drops_11 : decode cX4_drops 11 = .ok (.aload_n 0, 1) := dk_42 (dk_at dksX4_drops_0 11 rfl rfl)
theorem dX4_drops_12 : decode cX4_drops 12 = .ok (.getfield 183, 3) := dk_180 0 183 (dk_at dksX4_drops_0 12 rfl rfl)
theorem dX4_drops_15 : decode cX4_drops 15 = .ok (.iconst 1, 1) := dk_4 (dk_at dksX4_drops_0 15 rfl rfl)
theorem dX4_drops_16 : decode cX4_drops 16 = .ok (.isub, 1) := dk_100 (dk_at dksX4_drops_0 16 rfl rfl)
theorem dX4_drops_17 : decode cX4_drops 17 = .ok (.iaload, 1) := dk_46 (dk_at dksX4_drops_0 17 rfl rfl)
theorem dX4_drops_18 : decode cX4_drops 18 = .ok (.invokestatic 186, 3) := dk_184 0 186 (dk_at dksX4_drops_0 18 rfl rfl)
theorem dX4_drops_21 : decode cX4_drops 21 = .ok (.ifCond .ne 47, 3) := dk_154 0 47 (dk_at dksX4_drops_0 21 rfl rfl)
theorem dX4_drops_24 : decode cX4_drops 24 = .ok (.aload_n 0, 1) := dk_42 (dk_at dksX4_drops_1 0 rfl rfl)
theorem dX4_drops_25 : decode cX4_drops 25 = .ok (.getfield 59, 3) := dk_180 0 59 (dk_at dksX4_drops_1 1 rfl rfl)
theorem dX4_drops_28 : decode cX4_drops 28 = .ok (.aload_n 0, 1) := dk_42 (dk_at dksX4_drops_1 4 rfl rfl)
theorem dX4_drops_29 : decode cX4_drops 29 = .ok (.getfield 183, 3) := dk_180 0 183 (dk_at dksX4_drops_1 5 rfl rfl)
theorem dX4_drops_32 : decode cX4_drops 32 = .ok (.iconst 1, 1) := dk_4 (dk_at dksX4_drops_1 8 rfl rfl)
theorem dX4_drops_33 : decode cX4_drops 33 = .ok (.isub, 1) := dk_100 (dk_at dksX4_drops_1 9 rfl rfl)
theorem dX4_drops_34 : decode cX4_drops 34 = .ok (.iaload, 1) := dk_46 (dk_at dksX4_drops_1 10 rfl rfl)
theorem dX4_drops_35 : decode cX4_drops 35 = .ok (.invokestatic 189, 3) := dk_184 0 189 (dk_at dksX4_drops_1 11 rfl rfl)
theorem dX4_drops_38 : decode cX4_drops 38 = .ok (.iload_n 1, 1) := dk_27 (dk_at dksX4_drops_1 14 rfl rfl)
theorem dX4_drops_39 : decode cX4_drops 39 = .ok (.if_icmp .lt 29, 3) := dk_161 0 29 (dk_at dksX4_drops_1 15 rfl rfl)
theorem dX4_drops_42 : decode cX4_drops 42 = .ok (.aload_n 0, 1) := dk_42 (dk_at dksX4_drops_1 18 rfl rfl)
theorem dX4_drops_43 : decode cX4_drops 43 = .ok (.dup, 1) := dk_89 (dk_at dksX4_drops_1 19 rfl rfl)
theorem dX4_drops_44 : decode cX4_drops 44 = .ok (.getfield 183, 3) := dk_180 0 183 (dk_at dksX4_drops_1 20 rfl rfl)
theorem dX4_drops_47 : decode cX4_drops 47 = .ok (.iconst 1, 1) := dk_4 (dk_at dksX4_drops_1 23 rfl rfl)
theorem dX4_drops_48 : decode cX4_drops 48 = .ok (.isub, 1) := dk_100 (dk_at dksX4_drops_2 0 rfl rfl)
theorem dX4_drops_49 : decode cX4_drops 49 = .ok (.putfield 183, 3) := dk_181 0 183 (dk_at dksX4_drops_2 1 rfl rfl)
theorem dX4_drops_52 : decode cX4_drops 52 = .ok (.aload_n 0, 1) := dk_42 (dk_at dksX4_drops_2 4 rfl rfl)
theorem dX4_drops_53 : decode cX4_drops 53 = .ok (.aload_n 0, 1) := dk_42 (dk_at dksX4_drops_2 5 rfl rfl)
theorem dX4_drops_54 : decode cX4_drops 54 = .ok (.getfield 59, 3) := dk_180 0 59 (dk_at dksX4_drops_2 6 rfl rfl)
theorem dX4_drops_57 : decode cX4_drops 57 = .ok (.aload_n 0, 1) := dk_42 (dk_at dksX4_drops_2 9 rfl rfl)
theorem dX4_drops_58 : decode cX4_drops 58 = .ok (.getfield 183, 3) := dk_180 0 183 (dk_at dksX4_drops_2 10 rfl rfl)
theorem dX4_drops_61 : decode cX4_drops 61 = .ok (.iaload, 1) := dk_46 (dk_at dksX4_drops_2 13 rfl rfl)
theorem dX4_drops_62 : decode cX4_drops 62 = .ok (.invokevirtual 192, 3) := dk_182 0 192 (dk_at dksX4_drops_2 14 rfl rfl)
theorem dX4_drops_65 : decode cX4_drops 65 = .ok (.goto (-65), 3) := dk_167 255 191 (dk_at dksX4_drops_2 17 rfl rfl)
theorem dX4_drops_68 : decode cX4_drops 68 = .ok (.return_, 1) := dk_177 (dk_at dksX4_drops_2 20 rfl rfl)
abbrev cX4_isOpen : ByteArray := prog_12_method_25_code
def yX4_isOpen : MethodName := ⟨RX4, "isOpen", "(I)Z"⟩
def dkwX4_isOpen_0 : List UInt8 := [26, 16, 14, 161, 0, 7, 4, 167, 0, 4, 3, 172]
abbrev dktX4_isOpen_0 : List UInt8 := dkwX4_isOpen_0 ++ []
theorem dksX4_isOpen_0 : cX4_isOpen.data.toList.drop 0 = dktX4_isOpen_0 := by decide +kernel
theorem dX4_isOpen_0 : decode cX4_isOpen 0 = .ok (.iload_n 0, 1) := dk_26 (dk_at dksX4_isOpen_0 0 rfl rfl)
theorem dX4_isOpen_1 : decode cX4_isOpen 1 = .ok (.bipush 14, 2) := dk_16 14 (dk_at dksX4_isOpen_0 1 rfl rfl)
theorem dX4_isOpen_3 : decode cX4_isOpen 3 = .ok (.if_icmp .lt 7, 3) := dk_161 0 7 (dk_at dksX4_isOpen_0 3 rfl rfl)
theorem dX4_isOpen_6 : decode cX4_isOpen 6 = .ok (.iconst 1, 1) := dk_4 (dk_at dksX4_isOpen_0 6 rfl rfl)
theorem dX4_isOpen_7 : decode cX4_isOpen 7 = .ok (.goto 4, 3) := dk_167 0 4 (dk_at dksX4_isOpen_0 7 rfl rfl)
theorem dX4_isOpen_10 : decode cX4_isOpen 10 = .ok (.iconst 0, 1) := dk_3 (dk_at dksX4_isOpen_0 10 rfl rfl)
theorem dX4_isOpen_11 : decode cX4_isOpen 11 = .ok (.ireturn, 1) := dk_172 (dk_at dksX4_isOpen_0 11 rfl rfl)
abbrev cX4_strength : ByteArray := prog_12_method_26_code
def yX4_strength : MethodName := ⟨RX4, "strength", "(I)I"⟩
def dkwX4_strength_2 : List UInt8 := [159, 0, 9, 26, 16, 9, 160, 0, 7, 8, 167, 0, 5, 16, 6, 172]
abbrev dktX4_strength_2 : List UInt8 := dkwX4_strength_2 ++ []
def dkwX4_strength_1 : List UInt8 := [167, 0, 37, 26, 16, 6, 159, 0, 9, 26, 16, 7, 160, 0, 7, 7, 167, 0, 21, 26, 16, 8]
abbrev dktX4_strength_1 : List UInt8 := dkwX4_strength_1 ++ dktX4_strength_2
def dkwX4_strength_0 : List UInt8 := [26, 8, 160, 0, 7, 4, 167, 0, 55, 26, 7, 160, 0, 7, 5, 167, 0, 46, 26, 6, 160, 0, 7, 6]
abbrev dktX4_strength_0 : List UInt8 := dkwX4_strength_0 ++ dktX4_strength_1
theorem dksX4_strength_0 : cX4_strength.data.toList.drop 0 = dktX4_strength_0 := by decide +kernel
theorem dksX4_strength_1 : cX4_strength.data.toList.drop 24 = dktX4_strength_1 := dk_seg dksX4_strength_0 24 rfl rfl
theorem dksX4_strength_2 : cX4_strength.data.toList.drop 46 = dktX4_strength_2 := dk_seg dksX4_strength_1 22 rfl rfl
theorem dX4_strength_0 : decode cX4_strength 0 = .ok (.iload_n 0, 1) := dk_26 (dk_at dksX4_strength_0 0 rfl rfl)
theorem dX4_strength_1 : decode cX4_strength 1 = .ok (.iconst 5, 1) := dk_8 (dk_at dksX4_strength_0 1 rfl rfl)
theorem dX4_strength_2 : decode cX4_strength 2 = .ok (.if_icmp .ne 7, 3) := dk_160 0 7 (dk_at dksX4_strength_0 2 rfl rfl)
theorem dX4_strength_5 : decode cX4_strength 5 = .ok (.iconst 1, 1) := dk_4 (dk_at dksX4_strength_0 5 rfl rfl)
theorem dX4_strength_6 : decode cX4_strength 6 = .ok (.goto 55, 3) := dk_167 0 55 (dk_at dksX4_strength_0 6 rfl rfl)
theorem dX4_strength_9 : decode cX4_strength 9 = .ok (.iload_n 0, 1) := dk_26 (dk_at dksX4_strength_0 9 rfl rfl)
theorem dX4_strength_10 : decode cX4_strength 10 = .ok (.iconst 4, 1) := dk_7 (dk_at dksX4_strength_0 10 rfl rfl)
theorem dX4_strength_11 : decode cX4_strength 11 = .ok (.if_icmp .ne 7, 3) := dk_160 0 7 (dk_at dksX4_strength_0 11 rfl rfl)
theorem dX4_strength_14 : decode cX4_strength 14 = .ok (.iconst 2, 1) := dk_5 (dk_at dksX4_strength_0 14 rfl rfl)
theorem dX4_strength_15 : decode cX4_strength 15 = .ok (.goto 46, 3) := dk_167 0 46 (dk_at dksX4_strength_0 15 rfl rfl)
theorem dX4_strength_18 : decode cX4_strength 18 = .ok (.iload_n 0, 1) := dk_26 (dk_at dksX4_strength_0 18 rfl rfl)
theorem dX4_strength_19 : decode cX4_strength 19 = .ok (.iconst 3, 1) := dk_6 (dk_at dksX4_strength_0 19 rfl rfl)
theorem dX4_strength_20 : decode cX4_strength 20 = .ok (.if_icmp .ne 7, 3) := dk_160 0 7 (dk_at dksX4_strength_0 20 rfl rfl)
theorem dX4_strength_23 : decode cX4_strength 23 = .ok (.iconst 3, 1) := dk_6 (dk_at dksX4_strength_0 23 rfl rfl)
theorem dX4_strength_24 : decode cX4_strength 24 = .ok (.goto 37, 3) := dk_167 0 37 (dk_at dksX4_strength_1 0 rfl rfl)
theorem dX4_strength_27 : decode cX4_strength 27 = .ok (.iload_n 0, 1) := dk_26 (dk_at dksX4_strength_1 3 rfl rfl)
theorem dX4_strength_28 : decode cX4_strength 28 = .ok (.bipush 6, 2) := dk_16 6 (dk_at dksX4_strength_1 4 rfl rfl)
theorem dX4_strength_30 : decode cX4_strength 30 = .ok (.if_icmp .eq 9, 3) := dk_159 0 9 (dk_at dksX4_strength_1 6 rfl rfl)
theorem dX4_strength_33 : decode cX4_strength 33 = .ok (.iload_n 0, 1) := dk_26 (dk_at dksX4_strength_1 9 rfl rfl)
theorem dX4_strength_34 : decode cX4_strength 34 = .ok (.bipush 7, 2) := dk_16 7 (dk_at dksX4_strength_1 10 rfl rfl)
theorem dX4_strength_36 : decode cX4_strength 36 = .ok (.if_icmp .ne 7, 3) := dk_160 0 7 (dk_at dksX4_strength_1 12 rfl rfl)
theorem dX4_strength_39 : decode cX4_strength 39 = .ok (.iconst 4, 1) := dk_7 (dk_at dksX4_strength_1 15 rfl rfl)
theorem dX4_strength_40 : decode cX4_strength 40 = .ok (.goto 21, 3) := dk_167 0 21 (dk_at dksX4_strength_1 16 rfl rfl)
theorem dX4_strength_43 : decode cX4_strength 43 = .ok (.iload_n 0, 1) := dk_26 (dk_at dksX4_strength_1 19 rfl rfl)
theorem dX4_strength_44 : decode cX4_strength 44 = .ok (.bipush 8, 2) := dk_16 8 (dk_at dksX4_strength_1 20 rfl rfl)
theorem dX4_strength_46 : decode cX4_strength 46 = .ok (.if_icmp .eq 9, 3) := dk_159 0 9 (dk_at dksX4_strength_2 0 rfl rfl)
theorem dX4_strength_49 : decode cX4_strength 49 = .ok (.iload_n 0, 1) := dk_26 (dk_at dksX4_strength_2 3 rfl rfl)
theorem dX4_strength_50 : decode cX4_strength 50 = .ok (.bipush 9, 2) := dk_16 9 (dk_at dksX4_strength_2 4 rfl rfl)
theorem dX4_strength_52 : decode cX4_strength 52 = .ok (.if_icmp .ne 7, 3) := dk_160 0 7 (dk_at dksX4_strength_2 6 rfl rfl)
theorem dX4_strength_55 : decode cX4_strength 55 = .ok (.iconst 5, 1) := dk_8 (dk_at dksX4_strength_2 9 rfl rfl)
theorem dX4_strength_56 : decode cX4_strength 56 = .ok (.goto 5, 3) := dk_167 0 5 (dk_at dksX4_strength_2 10 rfl rfl)
theorem dX4_strength_59 : decode cX4_strength 59 = .ok (.bipush 6, 2) := dk_16 6 (dk_at dksX4_strength_2 13 rfl rfl)
theorem dX4_strength_61 : decode cX4_strength 61 = .ok (.ireturn, 1) := dk_172 (dk_at dksX4_strength_2 15 rfl rfl)
abbrev cX4_isOpened : ByteArray := prog_12_method_32_code
def yX4_isOpened : MethodName := ⟨RX4, "isOpened", "()Z"⟩
def dkwX4_isOpened_1 : List UInt8 := [132, 1, 255, 167, 255, 237, 27, 155, 0, 7, 4, 167, 0, 4, 3, 172]
abbrev dktX4_isOpened_1 : List UInt8 := dkwX4_isOpened_1 ++ []
def dkwX4_isOpened_0 : List UInt8 := [42, 180, 0, 183, 4, 100, 60, 27, 155, 0, 21, 42, 180, 0, 59, 27, 46, 184, 0, 186, 154, 0, 9]
abbrev dktX4_isOpened_0 : List UInt8 := dkwX4_isOpened_0 ++ dktX4_isOpened_1
theorem dksX4_isOpened_0 : cX4_isOpened.data.toList.drop 0 = dktX4_isOpened_0 := by decide +kernel
theorem dksX4_isOpened_1 : cX4_isOpened.data.toList.drop 23 = dktX4_isOpened_1 := dk_seg dksX4_isOpened_0 23 rfl rfl
theorem dX4_isOpened_0 : decode cX4_isOpened 0 = .ok (.aload_n 0, 1) := dk_42 (dk_at dksX4_isOpened_0 0 rfl rfl)
theorem dX4_isOpened_1 : decode cX4_isOpened 1 = .ok (.getfield 183, 3) := dk_180 0 183 (dk_at dksX4_isOpened_0 1 rfl rfl)
theorem dX4_isOpened_4 : decode cX4_isOpened 4 = .ok (.iconst 1, 1) := dk_4 (dk_at dksX4_isOpened_0 4 rfl rfl)
theorem dX4_isOpened_5 : decode cX4_isOpened 5 = .ok (.isub, 1) := dk_100 (dk_at dksX4_isOpened_0 5 rfl rfl)
theorem dX4_isOpened_6 : decode cX4_isOpened 6 = .ok (.istore_n 1, 1) := dk_60 (dk_at dksX4_isOpened_0 6 rfl rfl)
theorem dX4_isOpened_7 : decode cX4_isOpened 7 = .ok (.iload_n 1, 1) := dk_27 (dk_at dksX4_isOpened_0 7 rfl rfl)
theorem dX4_isOpened_8 : decode cX4_isOpened 8 = .ok (.ifCond .lt 21, 3) := dk_155 0 21 (dk_at dksX4_isOpened_0 8 rfl rfl)
theorem dX4_isOpened_11 : decode cX4_isOpened 11 = .ok (.aload_n 0, 1) := dk_42 (dk_at dksX4_isOpened_0 11 rfl rfl)
theorem dX4_isOpened_12 : decode cX4_isOpened 12 = .ok (.getfield 59, 3) := dk_180 0 59 (dk_at dksX4_isOpened_0 12 rfl rfl)
theorem dX4_isOpened_15 : decode cX4_isOpened 15 = .ok (.iload_n 1, 1) := dk_27 (dk_at dksX4_isOpened_0 15 rfl rfl)
theorem dX4_isOpened_16 : decode cX4_isOpened 16 = .ok (.iaload, 1) := dk_46 (dk_at dksX4_isOpened_0 16 rfl rfl)
theorem dX4_isOpened_17 : decode cX4_isOpened 17 = .ok (.invokestatic 186, 3) := dk_184 0 186 (dk_at dksX4_isOpened_0 17 rfl rfl)
theorem dX4_isOpened_20 : decode cX4_isOpened 20 = .ok (.ifCond .ne 9, 3) := dk_154 0 9 (dk_at dksX4_isOpened_0 20 rfl rfl)
theorem dX4_isOpened_23 : decode cX4_isOpened 23 = .ok (.iinc 1 (-1), 3) := dk_132 1 255 (dk_at dksX4_isOpened_1 0 rfl rfl)
theorem dX4_isOpened_26 : decode cX4_isOpened 26 = .ok (.goto (-19), 3) := dk_167 255 237 (dk_at dksX4_isOpened_1 3 rfl rfl)
theorem dX4_isOpened_29 : decode cX4_isOpened 29 = .ok (.iload_n 1, 1) := dk_27 (dk_at dksX4_isOpened_1 6 rfl rfl)
theorem dX4_isOpened_30 : decode cX4_isOpened 30 = .ok (.ifCond .lt 7, 3) := dk_155 0 7 (dk_at dksX4_isOpened_1 7 rfl rfl)
theorem dX4_isOpened_33 : decode cX4_isOpened 33 = .ok (.iconst 1, 1) := dk_4 (dk_at dksX4_isOpened_1 10 rfl rfl)
theorem dX4_isOpened_34 : decode cX4_isOpened 34 = .ok (.goto 4, 3) := dk_167 0 4 (dk_at dksX4_isOpened_1 11 rfl rfl)
theorem dX4_isOpened_37 : decode cX4_isOpened 37 = .ok (.iconst 0, 1) := dk_3 (dk_at dksX4_isOpened_1 14 rfl rfl)
theorem dX4_isOpened_38 : decode cX4_isOpened 38 = .ok (.ireturn, 1) := dk_172 (dk_at dksX4_isOpened_1 15 rfl rfl)
abbrev cX4_closes : ByteArray := prog_12_method_33_code
def yX4_closes : MethodName := ⟨RX4, "closes", "()V"⟩
def dkwX4_closes_1 : List UInt8 := [181, 0, 202, 42, 182, 0, 174, 177]
abbrev dktX4_closes_1 : List UInt8 := dkwX4_closes_1 ++ []
def dkwX4_closes_0 : List UInt8 := [42, 3, 182, 0, 217, 42, 89, 180, 0, 183, 4, 100, 181, 0, 183, 42, 89, 180, 0, 202, 4, 100]
abbrev dktX4_closes_0 : List UInt8 := dkwX4_closes_0 ++ dktX4_closes_1
theorem dksX4_closes_0 : cX4_closes.data.toList.drop 0 = dktX4_closes_0 := by decide +kernel
theorem dksX4_closes_1 : cX4_closes.data.toList.drop 22 = dktX4_closes_1 := dk_seg dksX4_closes_0 22 rfl rfl
theorem dX4_closes_0 : decode cX4_closes 0 = .ok (.aload_n 0, 1) := dk_42 (dk_at dksX4_closes_0 0 rfl rfl)
theorem dX4_closes_1 : decode cX4_closes 1 = .ok (.iconst 0, 1) := dk_3 (dk_at dksX4_closes_0 1 rfl rfl)
theorem dX4_closes_2 : decode cX4_closes 2 = .ok (.invokevirtual 217, 3) := dk_182 0 217 (dk_at dksX4_closes_0 2 rfl rfl)
theorem dX4_closes_5 : decode cX4_closes 5 = .ok (.aload_n 0, 1) := dk_42 (dk_at dksX4_closes_0 5 rfl rfl)
theorem dX4_closes_6 : decode cX4_closes 6 = .ok (.dup, 1) := dk_89 (dk_at dksX4_closes_0 6 rfl rfl)
theorem dX4_closes_7 : decode cX4_closes 7 = .ok (.getfield 183, 3) := dk_180 0 183 (dk_at dksX4_closes_0 7 rfl rfl)
theorem dX4_closes_10 : decode cX4_closes 10 = .ok (.iconst 1, 1) := dk_4 (dk_at dksX4_closes_0 10 rfl rfl)
theorem dX4_closes_11 : decode cX4_closes 11 = .ok (.isub, 1) := dk_100 (dk_at dksX4_closes_0 11 rfl rfl)
theorem dX4_closes_12 : decode cX4_closes 12 = .ok (.putfield 183, 3) := dk_181 0 183 (dk_at dksX4_closes_0 12 rfl rfl)
theorem dX4_closes_15 : decode cX4_closes 15 = .ok (.aload_n 0, 1) := dk_42 (dk_at dksX4_closes_0 15 rfl rfl)
theorem dX4_closes_16 : decode cX4_closes 16 = .ok (.dup, 1) := dk_89 (dk_at dksX4_closes_0 16 rfl rfl)
theorem dX4_closes_17 : decode cX4_closes 17 = .ok (.getfield 202, 3) := dk_180 0 202 (dk_at dksX4_closes_0 17 rfl rfl)
theorem dX4_closes_20 : decode cX4_closes 20 = .ok (.iconst 1, 1) := dk_4 (dk_at dksX4_closes_0 20 rfl rfl)
theorem dX4_closes_21 : decode cX4_closes 21 = .ok (.isub, 1) := dk_100 (dk_at dksX4_closes_0 21 rfl rfl)
theorem dX4_closes_22 : decode cX4_closes 22 = .ok (.putfield 202, 3) := dk_181 0 202 (dk_at dksX4_closes_1 0 rfl rfl)
theorem dX4_closes_25 : decode cX4_closes 25 = .ok (.aload_n 0, 1) := dk_42 (dk_at dksX4_closes_1 3 rfl rfl)
theorem dX4_closes_26 : decode cX4_closes 26 = .ok (.invokevirtual 174, 3) := dk_182 0 174 (dk_at dksX4_closes_1 4 rfl rfl)
theorem dX4_closes_29 : decode cX4_closes 29 = .ok (.return_, 1) := dk_177 (dk_at dksX4_closes_1 7 rfl rfl)
abbrev cX4_need : ByteArray := prog_12_method_22_code
def yX4_need : MethodName := ⟨RX4, "need", "(Z)V"⟩
def dkwX4_need_1 : List UInt8 := [177]
abbrev dktX4_need_1 : List UInt8 := dkwX4_need_1 ++ []
def dkwX4_need_0 : List UInt8 := [42, 182, 0, 170, 154, 0, 4, 177, 27, 153, 0, 10, 42, 182, 0, 174, 167, 0, 8, 42, 4, 182, 0, 177]
abbrev dktX4_need_0 : List UInt8 := dkwX4_need_0 ++ dktX4_need_1
theorem dksX4_need_0 : cX4_need.data.toList.drop 0 = dktX4_need_0 := by decide +kernel
theorem dksX4_need_1 : cX4_need.data.toList.drop 24 = dktX4_need_1 := dk_seg dksX4_need_0 24 rfl rfl
theorem dX4_need_0 : decode cX4_need 0 = .ok (.aload_n 0, 1) := dk_42 (dk_at dksX4_need_0 0 rfl rfl)
theorem dX4_need_1 : decode cX4_need 1 = .ok (.invokevirtual 170, 3) := dk_182 0 170 (dk_at dksX4_need_0 1 rfl rfl)
theorem dX4_need_4 : decode cX4_need 4 = .ok (.ifCond .ne 4, 3) := dk_154 0 4 (dk_at dksX4_need_0 4 rfl rfl)
theorem dX4_need_7 : decode cX4_need 7 = .ok (.return_, 1) := dk_177 (dk_at dksX4_need_0 7 rfl rfl)
theorem dX4_need_8 : decode cX4_need 8 = .ok (.iload_n 1, 1) := dk_27 (dk_at dksX4_need_0 8 rfl rfl)
theorem dX4_need_9 : decode cX4_need 9 = .ok (.ifCond .eq 10, 3) := dk_153 0 10 (dk_at dksX4_need_0 9 rfl rfl)
theorem dX4_need_12 : decode cX4_need 12 = .ok (.aload_n 0, 1) := dk_42 (dk_at dksX4_need_0 12 rfl rfl)
theorem dX4_need_13 : decode cX4_need 13 = .ok (.invokevirtual 174, 3) := dk_182 0 174 (dk_at dksX4_need_0 13 rfl rfl)
theorem dX4_need_16 : decode cX4_need 16 = .ok (.goto 8, 3) := dk_167 0 8 (dk_at dksX4_need_0 16 rfl rfl)
theorem dX4_need_19 : decode cX4_need 19 = .ok (.aload_n 0, 1) := dk_42 (dk_at dksX4_need_0 19 rfl rfl)
theorem dX4_need_20 : decode cX4_need 20 = .ok (.iconst 1, 1) := dk_4 (dk_at dksX4_need_0 20 rfl rfl)
theorem dX4_need_21 : decode cX4_need 21 = .ok (.invokevirtual 177, 3) := dk_182 0 177 (dk_at dksX4_need_0 21 rfl rfl)
theorem dX4_need_24 : decode cX4_need 24 = .ok (.return_, 1) := dk_177 (dk_at dksX4_need_1 0 rfl rfl)
abbrev cX4_copies : ByteArray := prog_12_method_8_code
def yX4_copies : MethodName := ⟨RX4, "copies", "([I[I)V"⟩
def dkwX4_copies_0 : List UInt8 := [3, 62, 29, 43, 190, 162, 0, 15, 44, 29, 43, 29, 46, 79, 132, 3, 1, 167, 255, 241, 177]
abbrev dktX4_copies_0 : List UInt8 := dkwX4_copies_0 ++ []
theorem dksX4_copies_0 : cX4_copies.data.toList.drop 0 = dktX4_copies_0 := by decide +kernel
theorem dX4_copies_0 : decode cX4_copies 0 = .ok (.iconst 0, 1) := dk_3 (dk_at dksX4_copies_0 0 rfl rfl)
theorem dX4_copies_1 : decode cX4_copies 1 = .ok (.istore_n 3, 1) := dk_62 (dk_at dksX4_copies_0 1 rfl rfl)
theorem dX4_copies_2 : decode cX4_copies 2 = .ok (.iload_n 3, 1) := dk_29 (dk_at dksX4_copies_0 2 rfl rfl)
theorem dX4_copies_3 : decode cX4_copies 3 = .ok (.aload_n 1, 1) := dk_43 (dk_at dksX4_copies_0 3 rfl rfl)
theorem dX4_copies_4 : decode cX4_copies 4 = .ok (.arraylength, 1) := dk_190 (dk_at dksX4_copies_0 4 rfl rfl)
theorem dX4_copies_5 : decode cX4_copies 5 = .ok (.if_icmp .ge 15, 3) := dk_162 0 15 (dk_at dksX4_copies_0 5 rfl rfl)
theorem dX4_copies_8 : decode cX4_copies 8 = .ok (.aload_n 2, 1) := dk_44 (dk_at dksX4_copies_0 8 rfl rfl)
theorem dX4_copies_9 : decode cX4_copies 9 = .ok (.iload_n 3, 1) := dk_29 (dk_at dksX4_copies_0 9 rfl rfl)
theorem dX4_copies_10 : decode cX4_copies 10 = .ok (.aload_n 1, 1) := dk_43 (dk_at dksX4_copies_0 10 rfl rfl)
theorem dX4_copies_11 : decode cX4_copies 11 = .ok (.iload_n 3, 1) := dk_29 (dk_at dksX4_copies_0 11 rfl rfl)
theorem dX4_copies_12 : decode cX4_copies 12 = .ok (.iaload, 1) := dk_46 (dk_at dksX4_copies_0 12 rfl rfl)
theorem dX4_copies_13 : decode cX4_copies 13 = .ok (.iastore, 1) := dk_79 (dk_at dksX4_copies_0 13 rfl rfl)
theorem dX4_copies_14 : decode cX4_copies 14 = .ok (.iinc 3 1, 3) := dk_132 3 1 (dk_at dksX4_copies_0 14 rfl rfl)
theorem dX4_copies_17 : decode cX4_copies 17 = .ok (.goto (-15), 3) := dk_167 255 241 (dk_at dksX4_copies_0 17 rfl rfl)
theorem dX4_copies_20 : decode cX4_copies 20 = .ok (.return_, 1) := dk_177 (dk_at dksX4_copies_0 20 rfl rfl)
abbrev cX4_fault : ByteArray := prog_12_method_41_code
def yX4_fault : MethodName := ⟨RX4, "fault", "()I"⟩
def dkwX4_fault_0 : List UInt8 := [42, 3, 181, 0, 111, 42, 180, 0, 35, 172]
abbrev dktX4_fault_0 : List UInt8 := dkwX4_fault_0 ++ []
theorem dksX4_fault_0 : cX4_fault.data.toList.drop 0 = dktX4_fault_0 := by decide +kernel
theorem dX4_fault_0 : decode cX4_fault 0 = .ok (.aload_n 0, 1) := dk_42 (dk_at dksX4_fault_0 0 rfl rfl)
theorem dX4_fault_1 : decode cX4_fault 1 = .ok (.iconst 0, 1) := dk_3 (dk_at dksX4_fault_0 1 rfl rfl)
theorem dX4_fault_2 : decode cX4_fault 2 = .ok (.putfield 111, 3) := dk_181 0 111 (dk_at dksX4_fault_0 2 rfl rfl)
theorem dX4_fault_5 : decode cX4_fault 5 = .ok (.aload_n 0, 1) := dk_42 (dk_at dksX4_fault_0 5 rfl rfl)
theorem dX4_fault_6 : decode cX4_fault 6 = .ok (.getfield 35, 3) := dk_180 0 35 (dk_at dksX4_fault_0 6 rfl rfl)
theorem dX4_fault_9 : decode cX4_fault 9 = .ok (.ireturn, 1) := dk_172 (dk_at dksX4_fault_0 9 rfl rfl)
abbrev cX4_undo : ByteArray := prog_12_method_44_code
def yX4_undo : MethodName := ⟨RX4, "undo", "()I"⟩
def dkwX4_undo_2 : List UInt8 := [27, 96, 46, 79, 132, 1, 1, 167, 255, 227, 42, 180, 1, 32, 172]
abbrev dktX4_undo_2 : List UInt8 := dkwX4_undo_2 ++ []
def dkwX4_undo_1 : List UInt8 := [3, 60, 27, 16, 43, 162, 0, 29, 42, 180, 0, 66, 27, 42, 180, 0, 69, 16, 43, 42, 180, 1, 32, 104]
abbrev dktX4_undo_1 : List UInt8 := dkwX4_undo_1 ++ dktX4_undo_2
def dkwX4_undo_0 : List UInt8 := [42, 3, 181, 0, 111, 42, 180, 1, 32, 154, 0, 5, 2, 172, 42, 89, 180, 1, 32, 4, 100, 181, 1, 32]
abbrev dktX4_undo_0 : List UInt8 := dkwX4_undo_0 ++ dktX4_undo_1
theorem dksX4_undo_0 : cX4_undo.data.toList.drop 0 = dktX4_undo_0 := by decide +kernel
theorem dksX4_undo_1 : cX4_undo.data.toList.drop 24 = dktX4_undo_1 := dk_seg dksX4_undo_0 24 rfl rfl
theorem dksX4_undo_2 : cX4_undo.data.toList.drop 48 = dktX4_undo_2 := dk_seg dksX4_undo_1 24 rfl rfl
theorem dX4_undo_0 : decode cX4_undo 0 = .ok (.aload_n 0, 1) := dk_42 (dk_at dksX4_undo_0 0 rfl rfl)
theorem dX4_undo_1 : decode cX4_undo 1 = .ok (.iconst 0, 1) := dk_3 (dk_at dksX4_undo_0 1 rfl rfl)
theorem dX4_undo_2 : decode cX4_undo 2 = .ok (.putfield 111, 3) := dk_181 0 111 (dk_at dksX4_undo_0 2 rfl rfl)
theorem dX4_undo_5 : decode cX4_undo 5 = .ok (.aload_n 0, 1) := dk_42 (dk_at dksX4_undo_0 5 rfl rfl)
theorem dX4_undo_6 : decode cX4_undo 6 = .ok (.getfield 288, 3) := dk_180 1 32 (dk_at dksX4_undo_0 6 rfl rfl)
theorem dX4_undo_9 : decode cX4_undo 9 = .ok (.ifCond .ne 5, 3) := dk_154 0 5 (dk_at dksX4_undo_0 9 rfl rfl)
theorem dX4_undo_12 : decode cX4_undo 12 = .ok (.iconst (-1), 1) := dk_2 (dk_at dksX4_undo_0 12 rfl rfl)
theorem dX4_undo_13 : decode cX4_undo 13 = .ok (.ireturn, 1) := dk_172 (dk_at dksX4_undo_0 13 rfl rfl)
theorem dX4_undo_14 : decode cX4_undo 14 = .ok (.aload_n 0, 1) := dk_42 (dk_at dksX4_undo_0 14 rfl rfl)
theorem dX4_undo_15 : decode cX4_undo 15 = .ok (.dup, 1) := dk_89 (dk_at dksX4_undo_0 15 rfl rfl)
theorem dX4_undo_16 : decode cX4_undo 16 = .ok (.getfield 288, 3) := dk_180 1 32 (dk_at dksX4_undo_0 16 rfl rfl)
theorem dX4_undo_19 : decode cX4_undo 19 = .ok (.iconst 1, 1) := dk_4 (dk_at dksX4_undo_0 19 rfl rfl)
theorem dX4_undo_20 : decode cX4_undo 20 = .ok (.isub, 1) := dk_100 (dk_at dksX4_undo_0 20 rfl rfl)
theorem dX4_undo_21 : decode cX4_undo 21 = .ok (.putfield 288, 3) := dk_181 1 32 (dk_at dksX4_undo_0 21 rfl rfl)
theorem dX4_undo_24 : decode cX4_undo 24 = .ok (.iconst 0, 1) := dk_3 (dk_at dksX4_undo_1 0 rfl rfl)
theorem dX4_undo_25 : decode cX4_undo 25 = .ok (.istore_n 1, 1) := dk_60 (dk_at dksX4_undo_1 1 rfl rfl)
theorem dX4_undo_26 : decode cX4_undo 26 = .ok (.iload_n 1, 1) := dk_27 (dk_at dksX4_undo_1 2 rfl rfl)
theorem dX4_undo_27 : decode cX4_undo 27 = .ok (.bipush 43, 2) := dk_16 43 (dk_at dksX4_undo_1 3 rfl rfl)
theorem dX4_undo_29 : decode cX4_undo 29 = .ok (.if_icmp .ge 29, 3) := dk_162 0 29 (dk_at dksX4_undo_1 5 rfl rfl)
theorem dX4_undo_32 : decode cX4_undo 32 = .ok (.aload_n 0, 1) := dk_42 (dk_at dksX4_undo_1 8 rfl rfl)
theorem dX4_undo_33 : decode cX4_undo 33 = .ok (.getfield 66, 3) := dk_180 0 66 (dk_at dksX4_undo_1 9 rfl rfl)
theorem dX4_undo_36 : decode cX4_undo 36 = .ok (.iload_n 1, 1) := dk_27 (dk_at dksX4_undo_1 12 rfl rfl)
theorem dX4_undo_37 : decode cX4_undo 37 = .ok (.aload_n 0, 1) := dk_42 (dk_at dksX4_undo_1 13 rfl rfl)
theorem dX4_undo_38 : decode cX4_undo 38 = .ok (.getfield 69, 3) := dk_180 0 69 (dk_at dksX4_undo_1 14 rfl rfl)
theorem dX4_undo_41 : decode cX4_undo 41 = .ok (.bipush 43, 2) := dk_16 43 (dk_at dksX4_undo_1 17 rfl rfl)
theorem dX4_undo_43 : decode cX4_undo 43 = .ok (.aload_n 0, 1) := dk_42 (dk_at dksX4_undo_1 19 rfl rfl)
theorem dX4_undo_44 : decode cX4_undo 44 = .ok (.getfield 288, 3) := dk_180 1 32 (dk_at dksX4_undo_1 20 rfl rfl)
theorem dX4_undo_47 : decode cX4_undo 47 = .ok (.imul, 1) := dk_104 (dk_at dksX4_undo_1 23 rfl rfl)
theorem dX4_undo_48 : decode cX4_undo 48 = .ok (.iload_n 1, 1) := dk_27 (dk_at dksX4_undo_2 0 rfl rfl)
theorem dX4_undo_49 : decode cX4_undo 49 = .ok (.iadd, 1) := dk_96 (dk_at dksX4_undo_2 1 rfl rfl)
theorem dX4_undo_50 : decode cX4_undo 50 = .ok (.iaload, 1) := dk_46 (dk_at dksX4_undo_2 2 rfl rfl)
theorem dX4_undo_51 : decode cX4_undo 51 = .ok (.iastore, 1) := dk_79 (dk_at dksX4_undo_2 3 rfl rfl)
theorem dX4_undo_52 : decode cX4_undo 52 = .ok (.iinc 1 1, 3) := dk_132 1 1 (dk_at dksX4_undo_2 4 rfl rfl)
theorem dX4_undo_55 : decode cX4_undo 55 = .ok (.goto (-29), 3) := dk_167 255 227 (dk_at dksX4_undo_2 7 rfl rfl)
theorem dX4_undo_58 : decode cX4_undo 58 = .ok (.aload_n 0, 1) := dk_42 (dk_at dksX4_undo_2 10 rfl rfl)
theorem dX4_undo_59 : decode cX4_undo 59 = .ok (.getfield 288, 3) := dk_180 1 32 (dk_at dksX4_undo_2 11 rfl rfl)
theorem dX4_undo_62 : decode cX4_undo 62 = .ok (.ireturn, 1) := dk_172 (dk_at dksX4_undo_2 14 rfl rfl)
abbrev cX4_count : ByteArray := prog_12_method_64_code
def yX4_count : MethodName := ⟨RX4, "count", "(I)I"⟩
def dkwX4_count_5 : List UInt8 := [42, 180, 0, 38, 27, 16, 13, 100, 46, 172]
abbrev dktX4_count_5 : List UInt8 := dkwX4_count_5 ++ []
def dkwX4_count_4 : List UInt8 := [182, 1, 102, 172, 42, 182, 1, 105, 172, 42, 180, 1, 32, 172, 42, 180, 1, 35, 172, 42, 180, 0, 114, 172]
abbrev dktX4_count_4 : List UInt8 := dkwX4_count_4 ++ dktX4_count_5
def dkwX4_count_3 : List UInt8 := [180, 0, 66, 4, 46, 172, 42, 182, 1, 93, 172, 42, 3, 182, 1, 96, 172, 42, 3, 182, 1, 99, 172, 42]
abbrev dktX4_count_3 : List UInt8 := dkwX4_count_3 ++ dktX4_count_4
def dkwX4_count_2 : List UInt8 := [42, 180, 1, 19, 172, 42, 180, 1, 22, 172, 42, 180, 0, 66, 3, 46, 172, 42, 3, 182, 1, 53, 172, 42]
abbrev dktX4_count_2 : List UInt8 := dkwX4_count_2 ++ dktX4_count_3
def dkwX4_count_1 : List UInt8 := [170, 0, 0, 0, 137, 0, 0, 0, 0, 0, 0, 0, 12, 0, 0, 0, 65, 0, 0, 0, 70, 0, 0, 0, 75, 0, 0, 0, 82, 0, 0, 0, 88, 0, 0, 0, 95, 0, 0, 0, 100, 0, 0, 0, 106, 0, 0, 0, 112, 0, 0, 0, 117, 0, 0, 0, 122, 0, 0, 0, 127, 0, 0, 0, 132]
abbrev dktX4_count_1 : List UInt8 := dkwX4_count_1 ++ dktX4_count_2
def dkwX4_count_0 : List UInt8 := [42, 3, 181, 0, 111, 42, 27, 3, 16, 15, 184, 1, 89, 4, 182, 1, 12, 154, 0, 5, 3, 172, 27]
abbrev dktX4_count_0 : List UInt8 := dkwX4_count_0 ++ dktX4_count_1
theorem dksX4_count_0 : cX4_count.data.toList.drop 0 = dktX4_count_0 := by decide +kernel
theorem dksX4_count_1 : cX4_count.data.toList.drop 23 = dktX4_count_1 := dk_seg dksX4_count_0 23 rfl rfl
theorem dksX4_count_2 : cX4_count.data.toList.drop 88 = dktX4_count_2 := dk_seg dksX4_count_1 65 rfl rfl
theorem dksX4_count_3 : cX4_count.data.toList.drop 112 = dktX4_count_3 := dk_seg dksX4_count_2 24 rfl rfl
theorem dksX4_count_4 : cX4_count.data.toList.drop 136 = dktX4_count_4 := dk_seg dksX4_count_3 24 rfl rfl
theorem dksX4_count_5 : cX4_count.data.toList.drop 160 = dktX4_count_5 := dk_seg dksX4_count_4 24 rfl rfl
theorem dX4_count_0 : decode cX4_count 0 = .ok (.aload_n 0, 1) := dk_42 (dk_at dksX4_count_0 0 rfl rfl)
theorem dX4_count_1 : decode cX4_count 1 = .ok (.iconst 0, 1) := dk_3 (dk_at dksX4_count_0 1 rfl rfl)
theorem dX4_count_2 : decode cX4_count 2 = .ok (.putfield 111, 3) := dk_181 0 111 (dk_at dksX4_count_0 2 rfl rfl)
theorem dX4_count_5 : decode cX4_count 5 = .ok (.aload_n 0, 1) := dk_42 (dk_at dksX4_count_0 5 rfl rfl)
theorem dX4_count_6 : decode cX4_count 6 = .ok (.iload_n 1, 1) := dk_27 (dk_at dksX4_count_0 6 rfl rfl)
theorem dX4_count_7 : decode cX4_count 7 = .ok (.iconst 0, 1) := dk_3 (dk_at dksX4_count_0 7 rfl rfl)
theorem dX4_count_8 : decode cX4_count 8 = .ok (.bipush 15, 2) := dk_16 15 (dk_at dksX4_count_0 8 rfl rfl)
theorem dX4_count_10 : decode cX4_count 10 = .ok (.invokestatic 345, 3) := dk_184 1 89 (dk_at dksX4_count_0 10 rfl rfl)
theorem dX4_count_13 : decode cX4_count 13 = .ok (.iconst 1, 1) := dk_4 (dk_at dksX4_count_0 13 rfl rfl)
theorem dX4_count_14 : decode cX4_count 14 = .ok (.invokevirtual 268, 3) := dk_182 1 12 (dk_at dksX4_count_0 14 rfl rfl)
theorem dX4_count_17 : decode cX4_count 17 = .ok (.ifCond .ne 5, 3) := dk_154 0 5 (dk_at dksX4_count_0 17 rfl rfl)
theorem dX4_count_20 : decode cX4_count 20 = .ok (.iconst 0, 1) := dk_3 (dk_at dksX4_count_0 20 rfl rfl)
theorem dX4_count_21 : decode cX4_count 21 = .ok (.ireturn, 1) := dk_172 (dk_at dksX4_count_0 21 rfl rfl)
theorem dX4_count_22 : decode cX4_count 22 = .ok (.iload_n 1, 1) := dk_27 (dk_at dksX4_count_0 22 rfl rfl)
theorem dX4_count_23 : decode cX4_count 23 = .ok (.tableswitch 137 0 12 #[65, 70, 75, 82, 88, 95, 100, 106, 112, 117, 122, 127, 132], 65) := by decide +kernel
theorem dX4_count_88 : decode cX4_count 88 = .ok (.aload_n 0, 1) := dk_42 (dk_at dksX4_count_2 0 rfl rfl)
theorem dX4_count_89 : decode cX4_count 89 = .ok (.getfield 275, 3) := dk_180 1 19 (dk_at dksX4_count_2 1 rfl rfl)
theorem dX4_count_92 : decode cX4_count 92 = .ok (.ireturn, 1) := dk_172 (dk_at dksX4_count_2 4 rfl rfl)
theorem dX4_count_93 : decode cX4_count 93 = .ok (.aload_n 0, 1) := dk_42 (dk_at dksX4_count_2 5 rfl rfl)
theorem dX4_count_94 : decode cX4_count 94 = .ok (.getfield 278, 3) := dk_180 1 22 (dk_at dksX4_count_2 6 rfl rfl)
theorem dX4_count_97 : decode cX4_count 97 = .ok (.ireturn, 1) := dk_172 (dk_at dksX4_count_2 9 rfl rfl)
theorem dX4_count_98 : decode cX4_count 98 = .ok (.aload_n 0, 1) := dk_42 (dk_at dksX4_count_2 10 rfl rfl)
theorem dX4_count_99 : decode cX4_count 99 = .ok (.getfield 66, 3) := dk_180 0 66 (dk_at dksX4_count_2 11 rfl rfl)
theorem dX4_count_102 : decode cX4_count 102 = .ok (.iconst 0, 1) := dk_3 (dk_at dksX4_count_2 14 rfl rfl)
theorem dX4_count_103 : decode cX4_count 103 = .ok (.iaload, 1) := dk_46 (dk_at dksX4_count_2 15 rfl rfl)
theorem dX4_count_104 : decode cX4_count 104 = .ok (.ireturn, 1) := dk_172 (dk_at dksX4_count_2 16 rfl rfl)
theorem dX4_count_105 : decode cX4_count 105 = .ok (.aload_n 0, 1) := dk_42 (dk_at dksX4_count_2 17 rfl rfl)
theorem dX4_count_106 : decode cX4_count 106 = .ok (.iconst 0, 1) := dk_3 (dk_at dksX4_count_2 18 rfl rfl)
theorem dX4_count_107 : decode cX4_count 107 = .ok (.invokevirtual 309, 3) := dk_182 1 53 (dk_at dksX4_count_2 19 rfl rfl)
theorem dX4_count_110 : decode cX4_count 110 = .ok (.ireturn, 1) := dk_172 (dk_at dksX4_count_2 22 rfl rfl)
theorem dX4_count_111 : decode cX4_count 111 = .ok (.aload_n 0, 1) := dk_42 (dk_at dksX4_count_2 23 rfl rfl)
theorem dX4_count_112 : decode cX4_count 112 = .ok (.getfield 66, 3) := dk_180 0 66 (dk_at dksX4_count_3 0 rfl rfl)
theorem dX4_count_115 : decode cX4_count 115 = .ok (.iconst 1, 1) := dk_4 (dk_at dksX4_count_3 3 rfl rfl)
theorem dX4_count_116 : decode cX4_count 116 = .ok (.iaload, 1) := dk_46 (dk_at dksX4_count_3 4 rfl rfl)
theorem dX4_count_117 : decode cX4_count 117 = .ok (.ireturn, 1) := dk_172 (dk_at dksX4_count_3 5 rfl rfl)
theorem dX4_count_118 : decode cX4_count 118 = .ok (.aload_n 0, 1) := dk_42 (dk_at dksX4_count_3 6 rfl rfl)
theorem dX4_count_119 : decode cX4_count 119 = .ok (.invokevirtual 349, 3) := dk_182 1 93 (dk_at dksX4_count_3 7 rfl rfl)
theorem dX4_count_122 : decode cX4_count 122 = .ok (.ireturn, 1) := dk_172 (dk_at dksX4_count_3 10 rfl rfl)
theorem dX4_count_123 : decode cX4_count 123 = .ok (.aload_n 0, 1) := dk_42 (dk_at dksX4_count_3 11 rfl rfl)
theorem dX4_count_124 : decode cX4_count 124 = .ok (.iconst 0, 1) := dk_3 (dk_at dksX4_count_3 12 rfl rfl)
theorem dX4_count_125 : decode cX4_count 125 = .ok (.invokevirtual 352, 3) := dk_182 1 96 (dk_at dksX4_count_3 13 rfl rfl)
theorem dX4_count_128 : decode cX4_count 128 = .ok (.ireturn, 1) := dk_172 (dk_at dksX4_count_3 16 rfl rfl)
theorem dX4_count_129 : decode cX4_count 129 = .ok (.aload_n 0, 1) := dk_42 (dk_at dksX4_count_3 17 rfl rfl)
theorem dX4_count_130 : decode cX4_count 130 = .ok (.iconst 0, 1) := dk_3 (dk_at dksX4_count_3 18 rfl rfl)
theorem dX4_count_131 : decode cX4_count 131 = .ok (.invokevirtual 355, 3) := dk_182 1 99 (dk_at dksX4_count_3 19 rfl rfl)
theorem dX4_count_134 : decode cX4_count 134 = .ok (.ireturn, 1) := dk_172 (dk_at dksX4_count_3 22 rfl rfl)
theorem dX4_count_135 : decode cX4_count 135 = .ok (.aload_n 0, 1) := dk_42 (dk_at dksX4_count_3 23 rfl rfl)
theorem dX4_count_136 : decode cX4_count 136 = .ok (.invokevirtual 358, 3) := dk_182 1 102 (dk_at dksX4_count_4 0 rfl rfl)
theorem dX4_count_139 : decode cX4_count 139 = .ok (.ireturn, 1) := dk_172 (dk_at dksX4_count_4 3 rfl rfl)
theorem dX4_count_140 : decode cX4_count 140 = .ok (.aload_n 0, 1) := dk_42 (dk_at dksX4_count_4 4 rfl rfl)
theorem dX4_count_141 : decode cX4_count 141 = .ok (.invokevirtual 361, 3) := dk_182 1 105 (dk_at dksX4_count_4 5 rfl rfl)
theorem dX4_count_144 : decode cX4_count 144 = .ok (.ireturn, 1) := dk_172 (dk_at dksX4_count_4 8 rfl rfl)
theorem dX4_count_145 : decode cX4_count 145 = .ok (.aload_n 0, 1) := dk_42 (dk_at dksX4_count_4 9 rfl rfl)
theorem dX4_count_146 : decode cX4_count 146 = .ok (.getfield 288, 3) := dk_180 1 32 (dk_at dksX4_count_4 10 rfl rfl)
theorem dX4_count_149 : decode cX4_count 149 = .ok (.ireturn, 1) := dk_172 (dk_at dksX4_count_4 13 rfl rfl)
theorem dX4_count_150 : decode cX4_count 150 = .ok (.aload_n 0, 1) := dk_42 (dk_at dksX4_count_4 14 rfl rfl)
theorem dX4_count_151 : decode cX4_count 151 = .ok (.getfield 291, 3) := dk_180 1 35 (dk_at dksX4_count_4 15 rfl rfl)
theorem dX4_count_154 : decode cX4_count 154 = .ok (.ireturn, 1) := dk_172 (dk_at dksX4_count_4 18 rfl rfl)
theorem dX4_count_155 : decode cX4_count 155 = .ok (.aload_n 0, 1) := dk_42 (dk_at dksX4_count_4 19 rfl rfl)
theorem dX4_count_156 : decode cX4_count 156 = .ok (.getfield 114, 3) := dk_180 0 114 (dk_at dksX4_count_4 20 rfl rfl)
theorem dX4_count_159 : decode cX4_count 159 = .ok (.ireturn, 1) := dk_172 (dk_at dksX4_count_4 23 rfl rfl)
theorem dX4_count_160 : decode cX4_count 160 = .ok (.aload_n 0, 1) := dk_42 (dk_at dksX4_count_5 0 rfl rfl)
theorem dX4_count_161 : decode cX4_count 161 = .ok (.getfield 38, 3) := dk_180 0 38 (dk_at dksX4_count_5 1 rfl rfl)
theorem dX4_count_164 : decode cX4_count 164 = .ok (.iload_n 1, 1) := dk_27 (dk_at dksX4_count_5 4 rfl rfl)
theorem dX4_count_165 : decode cX4_count 165 = .ok (.bipush 13, 2) := dk_16 13 (dk_at dksX4_count_5 5 rfl rfl)
theorem dX4_count_167 : decode cX4_count 167 = .ok (.isub, 1) := dk_100 (dk_at dksX4_count_5 7 rfl rfl)
theorem dX4_count_168 : decode cX4_count 168 = .ok (.iaload, 1) := dk_46 (dk_at dksX4_count_5 8 rfl rfl)
theorem dX4_count_169 : decode cX4_count 169 = .ok (.ireturn, 1) := dk_172 (dk_at dksX4_count_5 9 rfl rfl)
abbrev cX4_within : ByteArray := prog_12_method_4_code
def yX4_within : MethodName := ⟨RX4, "within", "(III)Z"⟩
def dkwX4_within_0 : List UInt8 := [26, 27, 161, 0, 12, 26, 28, 163, 0, 7, 4, 167, 0, 4, 3, 172]
abbrev dktX4_within_0 : List UInt8 := dkwX4_within_0 ++ []
theorem dksX4_within_0 : cX4_within.data.toList.drop 0 = dktX4_within_0 := by decide +kernel
theorem dX4_within_0 : decode cX4_within 0 = .ok (.iload_n 0, 1) := dk_26 (dk_at dksX4_within_0 0 rfl rfl)
theorem dX4_within_1 : decode cX4_within 1 = .ok (.iload_n 1, 1) := dk_27 (dk_at dksX4_within_0 1 rfl rfl)
theorem dX4_within_2 : decode cX4_within 2 = .ok (.if_icmp .lt 12, 3) := dk_161 0 12 (dk_at dksX4_within_0 2 rfl rfl)
theorem dX4_within_5 : decode cX4_within 5 = .ok (.iload_n 0, 1) := dk_26 (dk_at dksX4_within_0 5 rfl rfl)
theorem dX4_within_6 : decode cX4_within 6 = .ok (.iload_n 2, 1) := dk_28 (dk_at dksX4_within_0 6 rfl rfl)
theorem dX4_within_7 : decode cX4_within 7 = .ok (.if_icmp .gt 7, 3) := dk_163 0 7 (dk_at dksX4_within_0 7 rfl rfl)
theorem dX4_within_10 : decode cX4_within 10 = .ok (.iconst 1, 1) := dk_4 (dk_at dksX4_within_0 10 rfl rfl)
theorem dX4_within_11 : decode cX4_within 11 = .ok (.goto 4, 3) := dk_167 0 4 (dk_at dksX4_within_0 11 rfl rfl)
theorem dX4_within_14 : decode cX4_within 14 = .ok (.iconst 0, 1) := dk_3 (dk_at dksX4_within_0 14 rfl rfl)
theorem dX4_within_15 : decode cX4_within 15 = .ok (.ireturn, 1) := dk_172 (dk_at dksX4_within_0 15 rfl rfl)
abbrev cX4_dampIn : ByteArray := prog_12_method_49_code
def yX4_dampIn : MethodName := ⟨RX4, "dampIn", "(I)I"⟩
def dkwX4_dampIn_1 : List UInt8 := [160, 0, 8, 16, 9, 167, 0, 15, 42, 42, 180, 0, 66, 27, 3, 96, 46, 182, 1, 46, 172]
abbrev dktX4_dampIn_1 : List UInt8 := dkwX4_dampIn_1 ++ []
def dkwX4_dampIn_0 : List UInt8 := [42, 180, 0, 78, 2, 159, 0, 10, 42, 180, 0, 78, 167, 0, 32, 42, 180, 0, 66, 27, 5, 96, 46, 4]
abbrev dktX4_dampIn_0 : List UInt8 := dkwX4_dampIn_0 ++ dktX4_dampIn_1
theorem dksX4_dampIn_0 : cX4_dampIn.data.toList.drop 0 = dktX4_dampIn_0 := by decide +kernel
theorem dksX4_dampIn_1 : cX4_dampIn.data.toList.drop 24 = dktX4_dampIn_1 := dk_seg dksX4_dampIn_0 24 rfl rfl
theorem dX4_dampIn_0 : decode cX4_dampIn 0 = .ok (.aload_n 0, 1) := dk_42 (dk_at dksX4_dampIn_0 0 rfl rfl)
theorem dX4_dampIn_1 : decode cX4_dampIn 1 = .ok (.getfield 78, 3) := dk_180 0 78 (dk_at dksX4_dampIn_0 1 rfl rfl)
theorem dX4_dampIn_4 : decode cX4_dampIn 4 = .ok (.iconst (-1), 1) := dk_2 (dk_at dksX4_dampIn_0 4 rfl rfl)
theorem dX4_dampIn_5 : decode cX4_dampIn 5 = .ok (.if_icmp .eq 10, 3) := dk_159 0 10 (dk_at dksX4_dampIn_0 5 rfl rfl)
theorem dX4_dampIn_8 : decode cX4_dampIn 8 = .ok (.aload_n 0, 1) := dk_42 (dk_at dksX4_dampIn_0 8 rfl rfl)
theorem dX4_dampIn_9 : decode cX4_dampIn 9 = .ok (.getfield 78, 3) := dk_180 0 78 (dk_at dksX4_dampIn_0 9 rfl rfl)
theorem dX4_dampIn_12 : decode cX4_dampIn 12 = .ok (.goto 32, 3) := dk_167 0 32 (dk_at dksX4_dampIn_0 12 rfl rfl)
theorem dX4_dampIn_15 : decode cX4_dampIn 15 = .ok (.aload_n 0, 1) := dk_42 (dk_at dksX4_dampIn_0 15 rfl rfl)
theorem dX4_dampIn_16 : decode cX4_dampIn 16 = .ok (.getfield 66, 3) := dk_180 0 66 (dk_at dksX4_dampIn_0 16 rfl rfl)
theorem dX4_dampIn_19 : decode cX4_dampIn 19 = .ok (.iload_n 1, 1) := dk_27 (dk_at dksX4_dampIn_0 19 rfl rfl)
theorem dX4_dampIn_20 : decode cX4_dampIn 20 = .ok (.iconst 2, 1) := dk_5 (dk_at dksX4_dampIn_0 20 rfl rfl)
theorem dX4_dampIn_21 : decode cX4_dampIn 21 = .ok (.iadd, 1) := dk_96 (dk_at dksX4_dampIn_0 21 rfl rfl)
theorem dX4_dampIn_22 : decode cX4_dampIn 22 = .ok (.iaload, 1) := dk_46 (dk_at dksX4_dampIn_0 22 rfl rfl)
theorem dX4_dampIn_23 : decode cX4_dampIn 23 = .ok (.iconst 1, 1) := dk_4 (dk_at dksX4_dampIn_0 23 rfl rfl)
theorem dX4_dampIn_24 : decode cX4_dampIn 24 = .ok (.if_icmp .ne 8, 3) := dk_160 0 8 (dk_at dksX4_dampIn_1 0 rfl rfl)
theorem dX4_dampIn_27 : decode cX4_dampIn 27 = .ok (.bipush 9, 2) := dk_16 9 (dk_at dksX4_dampIn_1 3 rfl rfl)
theorem dX4_dampIn_29 : decode cX4_dampIn 29 = .ok (.goto 15, 3) := dk_167 0 15 (dk_at dksX4_dampIn_1 5 rfl rfl)
theorem dX4_dampIn_32 : decode cX4_dampIn 32 = .ok (.aload_n 0, 1) := dk_42 (dk_at dksX4_dampIn_1 8 rfl rfl)
theorem dX4_dampIn_33 : decode cX4_dampIn 33 = .ok (.aload_n 0, 1) := dk_42 (dk_at dksX4_dampIn_1 9 rfl rfl)
theorem dX4_dampIn_34 : decode cX4_dampIn 34 = .ok (.getfield 66, 3) := dk_180 0 66 (dk_at dksX4_dampIn_1 10 rfl rfl)
theorem dX4_dampIn_37 : decode cX4_dampIn 37 = .ok (.iload_n 1, 1) := dk_27 (dk_at dksX4_dampIn_1 13 rfl rfl)
theorem dX4_dampIn_38 : decode cX4_dampIn 38 = .ok (.iconst 0, 1) := dk_3 (dk_at dksX4_dampIn_1 14 rfl rfl)
theorem dX4_dampIn_39 : decode cX4_dampIn 39 = .ok (.iadd, 1) := dk_96 (dk_at dksX4_dampIn_1 15 rfl rfl)
theorem dX4_dampIn_40 : decode cX4_dampIn 40 = .ok (.iaload, 1) := dk_46 (dk_at dksX4_dampIn_1 16 rfl rfl)
theorem dX4_dampIn_41 : decode cX4_dampIn 41 = .ok (.invokevirtual 302, 3) := dk_182 1 46 (dk_at dksX4_dampIn_1 17 rfl rfl)
theorem dX4_dampIn_44 : decode cX4_dampIn 44 = .ok (.ireturn, 1) := dk_172 (dk_at dksX4_dampIn_1 20 rfl rfl)
abbrev cX4_toldDamp : ByteArray := prog_12_method_48_code
def yX4_toldDamp : MethodName := ⟨RX4, "toldDamp", "(I)I"⟩
def dkwX4_toldDamp_0 : List UInt8 := [42, 180, 1, 25, 154, 0, 7, 6, 167, 0, 14, 42, 180, 0, 26, 27, 42, 180, 1, 25, 112, 46, 172]
abbrev dktX4_toldDamp_0 : List UInt8 := dkwX4_toldDamp_0 ++ []
theorem dksX4_toldDamp_0 : cX4_toldDamp.data.toList.drop 0 = dktX4_toldDamp_0 := by decide +kernel
theorem dX4_toldDamp_0 : decode cX4_toldDamp 0 = .ok (.aload_n 0, 1) := dk_42 (dk_at dksX4_toldDamp_0 0 rfl rfl)
theorem dX4_toldDamp_1 : decode cX4_toldDamp 1 = .ok (.getfield 281, 3) := dk_180 1 25 (dk_at dksX4_toldDamp_0 1 rfl rfl)
theorem dX4_toldDamp_4 : decode cX4_toldDamp 4 = .ok (.ifCond .ne 7, 3) := dk_154 0 7 (dk_at dksX4_toldDamp_0 4 rfl rfl)
theorem dX4_toldDamp_7 : decode cX4_toldDamp 7 = .ok (.iconst 3, 1) := dk_6 (dk_at dksX4_toldDamp_0 7 rfl rfl)
theorem dX4_toldDamp_8 : decode cX4_toldDamp 8 = .ok (.goto 14, 3) := dk_167 0 14 (dk_at dksX4_toldDamp_0 8 rfl rfl)
theorem dX4_toldDamp_11 : decode cX4_toldDamp 11 = .ok (.aload_n 0, 1) := dk_42 (dk_at dksX4_toldDamp_0 11 rfl rfl)
theorem dX4_toldDamp_12 : decode cX4_toldDamp 12 = .ok (.getfield 26, 3) := dk_180 0 26 (dk_at dksX4_toldDamp_0 12 rfl rfl)
theorem dX4_toldDamp_15 : decode cX4_toldDamp 15 = .ok (.iload_n 1, 1) := dk_27 (dk_at dksX4_toldDamp_0 15 rfl rfl)
theorem dX4_toldDamp_16 : decode cX4_toldDamp 16 = .ok (.aload_n 0, 1) := dk_42 (dk_at dksX4_toldDamp_0 16 rfl rfl)
theorem dX4_toldDamp_17 : decode cX4_toldDamp 17 = .ok (.getfield 281, 3) := dk_180 1 25 (dk_at dksX4_toldDamp_0 17 rfl rfl)
theorem dX4_toldDamp_20 : decode cX4_toldDamp 20 = .ok (.irem, 1) := dk_112 (dk_at dksX4_toldDamp_0 20 rfl rfl)
theorem dX4_toldDamp_21 : decode cX4_toldDamp 21 = .ok (.iaload, 1) := dk_46 (dk_at dksX4_toldDamp_0 21 rfl rfl)
theorem dX4_toldDamp_22 : decode cX4_toldDamp 22 = .ok (.ireturn, 1) := dk_172 (dk_at dksX4_toldDamp_0 22 rfl rfl)
abbrev cX4_taken : ByteArray := prog_12_method_63_code
def yX4_taken : MethodName := ⟨RX4, "taken", "()I"⟩
def dkwX4_taken_1 : List UInt8 := [159, 0, 9, 4, 28, 120, 167, 0, 4, 3, 128, 60, 132, 2, 1, 167, 255, 222, 27, 172]
abbrev dktX4_taken_1 : List UInt8 := dkwX4_taken_1 ++ []
def dkwX4_taken_0 : List UInt8 := [3, 60, 3, 61, 28, 42, 180, 1, 19, 162, 0, 32, 27, 42, 180, 0, 66, 16, 19, 28, 96, 46, 2]
abbrev dktX4_taken_0 : List UInt8 := dkwX4_taken_0 ++ dktX4_taken_1
theorem dksX4_taken_0 : cX4_taken.data.toList.drop 0 = dktX4_taken_0 := by decide +kernel
theorem dksX4_taken_1 : cX4_taken.data.toList.drop 23 = dktX4_taken_1 := dk_seg dksX4_taken_0 23 rfl rfl
theorem dX4_taken_0 : decode cX4_taken 0 = .ok (.iconst 0, 1) := dk_3 (dk_at dksX4_taken_0 0 rfl rfl)
theorem dX4_taken_1 : decode cX4_taken 1 = .ok (.istore_n 1, 1) := dk_60 (dk_at dksX4_taken_0 1 rfl rfl)
theorem dX4_taken_2 : decode cX4_taken 2 = .ok (.iconst 0, 1) := dk_3 (dk_at dksX4_taken_0 2 rfl rfl)
theorem dX4_taken_3 : decode cX4_taken 3 = .ok (.istore_n 2, 1) := dk_61 (dk_at dksX4_taken_0 3 rfl rfl)
theorem dX4_taken_4 : decode cX4_taken 4 = .ok (.iload_n 2, 1) := dk_28 (dk_at dksX4_taken_0 4 rfl rfl)
theorem dX4_taken_5 : decode cX4_taken 5 = .ok (.aload_n 0, 1) := dk_42 (dk_at dksX4_taken_0 5 rfl rfl)
theorem dX4_taken_6 : decode cX4_taken 6 = .ok (.getfield 275, 3) := dk_180 1 19 (dk_at dksX4_taken_0 6 rfl rfl)
theorem dX4_taken_9 : decode cX4_taken 9 = .ok (.if_icmp .ge 32, 3) := dk_162 0 32 (dk_at dksX4_taken_0 9 rfl rfl)
theorem dX4_taken_12 : decode cX4_taken 12 = .ok (.iload_n 1, 1) := dk_27 (dk_at dksX4_taken_0 12 rfl rfl)
theorem dX4_taken_13 : decode cX4_taken 13 = .ok (.aload_n 0, 1) := dk_42 (dk_at dksX4_taken_0 13 rfl rfl)
theorem dX4_taken_14 : decode cX4_taken 14 = .ok (.getfield 66, 3) := dk_180 0 66 (dk_at dksX4_taken_0 14 rfl rfl)
theorem dX4_taken_17 : decode cX4_taken 17 = .ok (.bipush 19, 2) := dk_16 19 (dk_at dksX4_taken_0 17 rfl rfl)
theorem dX4_taken_19 : decode cX4_taken 19 = .ok (.iload_n 2, 1) := dk_28 (dk_at dksX4_taken_0 19 rfl rfl)
theorem dX4_taken_20 : decode cX4_taken 20 = .ok (.iadd, 1) := dk_96 (dk_at dksX4_taken_0 20 rfl rfl)
theorem dX4_taken_21 : decode cX4_taken 21 = .ok (.iaload, 1) := dk_46 (dk_at dksX4_taken_0 21 rfl rfl)
theorem dX4_taken_22 : decode cX4_taken 22 = .ok (.iconst (-1), 1) := dk_2 (dk_at dksX4_taken_0 22 rfl rfl)
theorem dX4_taken_23 : decode cX4_taken 23 = .ok (.if_icmp .eq 9, 3) := dk_159 0 9 (dk_at dksX4_taken_1 0 rfl rfl)
theorem dX4_taken_26 : decode cX4_taken 26 = .ok (.iconst 1, 1) := dk_4 (dk_at dksX4_taken_1 3 rfl rfl)
theorem dX4_taken_27 : decode cX4_taken 27 = .ok (.iload_n 2, 1) := dk_28 (dk_at dksX4_taken_1 4 rfl rfl)
theorem dX4_taken_28 : decode cX4_taken 28 = .ok (.ishl, 1) := dk_120 (dk_at dksX4_taken_1 5 rfl rfl)
theorem dX4_taken_29 : decode cX4_taken 29 = .ok (.goto 4, 3) := dk_167 0 4 (dk_at dksX4_taken_1 6 rfl rfl)
theorem dX4_taken_32 : decode cX4_taken 32 = .ok (.iconst 0, 1) := dk_3 (dk_at dksX4_taken_1 9 rfl rfl)
theorem dX4_taken_33 : decode cX4_taken 33 = .ok (.ior, 1) := dk_128 (dk_at dksX4_taken_1 10 rfl rfl)
theorem dX4_taken_34 : decode cX4_taken 34 = .ok (.istore_n 1, 1) := dk_60 (dk_at dksX4_taken_1 11 rfl rfl)
theorem dX4_taken_35 : decode cX4_taken 35 = .ok (.iinc 2 1, 3) := dk_132 2 1 (dk_at dksX4_taken_1 12 rfl rfl)
theorem dX4_taken_38 : decode cX4_taken 38 = .ok (.goto (-34), 3) := dk_167 255 222 (dk_at dksX4_taken_1 15 rfl rfl)
theorem dX4_taken_41 : decode cX4_taken 41 = .ok (.iload_n 1, 1) := dk_27 (dk_at dksX4_taken_1 18 rfl rfl)
theorem dX4_taken_42 : decode cX4_taken 42 = .ok (.ireturn, 1) := dk_172 (dk_at dksX4_taken_1 19 rfl rfl)
abbrev cX4_lodgersIn : ByteArray := prog_12_method_59_code
def yX4_lodgersIn : MethodName := ⟨RX4, "lodgersIn", "(I)I"⟩
def dkwX4_lodgersIn_1 : List UInt8 := [29, 120, 167, 0, 4, 3, 128, 61, 132, 3, 1, 167, 255, 225, 28, 172]
abbrev dktX4_lodgersIn_1 : List UInt8 := dkwX4_lodgersIn_1 ++ []
def dkwX4_lodgersIn_0 : List UInt8 := [3, 61, 3, 62, 29, 42, 180, 1, 22, 162, 0, 29, 28, 42, 27, 29, 182, 1, 83, 2, 160, 0, 9, 4]
abbrev dktX4_lodgersIn_0 : List UInt8 := dkwX4_lodgersIn_0 ++ dktX4_lodgersIn_1
theorem dksX4_lodgersIn_0 : cX4_lodgersIn.data.toList.drop 0 = dktX4_lodgersIn_0 := by decide +kernel
theorem dksX4_lodgersIn_1 : cX4_lodgersIn.data.toList.drop 24 = dktX4_lodgersIn_1 := dk_seg dksX4_lodgersIn_0 24 rfl rfl
theorem dX4_lodgersIn_0 : decode cX4_lodgersIn 0 = .ok (.iconst 0, 1) := dk_3 (dk_at dksX4_lodgersIn_0 0 rfl rfl)
theorem dX4_lodgersIn_1 : decode cX4_lodgersIn 1 = .ok (.istore_n 2, 1) := dk_61 (dk_at dksX4_lodgersIn_0 1 rfl rfl)
theorem dX4_lodgersIn_2 : decode cX4_lodgersIn 2 = .ok (.iconst 0, 1) := dk_3 (dk_at dksX4_lodgersIn_0 2 rfl rfl)
theorem dX4_lodgersIn_3 : decode cX4_lodgersIn 3 = .ok (.istore_n 3, 1) := dk_62 (dk_at dksX4_lodgersIn_0 3 rfl rfl)
theorem dX4_lodgersIn_4 : decode cX4_lodgersIn 4 = .ok (.iload_n 3, 1) := dk_29 (dk_at dksX4_lodgersIn_0 4 rfl rfl)
theorem dX4_lodgersIn_5 : decode cX4_lodgersIn 5 = .ok (.aload_n 0, 1) := dk_42 (dk_at dksX4_lodgersIn_0 5 rfl rfl)
theorem dX4_lodgersIn_6 : decode cX4_lodgersIn 6 = .ok (.getfield 278, 3) := dk_180 1 22 (dk_at dksX4_lodgersIn_0 6 rfl rfl)
theorem dX4_lodgersIn_9 : decode cX4_lodgersIn 9 = .ok (.if_icmp .ge 29, 3) := dk_162 0 29 (dk_at dksX4_lodgersIn_0 9 rfl rfl)
theorem dX4_lodgersIn_12 : decode cX4_lodgersIn 12 = .ok (.iload_n 2, 1) := dk_28 (dk_at dksX4_lodgersIn_0 12 rfl rfl)
theorem dX4_lodgersIn_13 : decode cX4_lodgersIn 13 = .ok (.aload_n 0, 1) := dk_42 (dk_at dksX4_lodgersIn_0 13 rfl rfl)
theorem dX4_lodgersIn_14 : decode cX4_lodgersIn 14 = .ok (.iload_n 1, 1) := dk_27 (dk_at dksX4_lodgersIn_0 14 rfl rfl)
theorem dX4_lodgersIn_15 : decode cX4_lodgersIn 15 = .ok (.iload_n 3, 1) := dk_29 (dk_at dksX4_lodgersIn_0 15 rfl rfl)
theorem dX4_lodgersIn_16 : decode cX4_lodgersIn 16 = .ok (.invokevirtual 339, 3) := dk_182 1 83 (dk_at dksX4_lodgersIn_0 16 rfl rfl)
theorem dX4_lodgersIn_19 : decode cX4_lodgersIn 19 = .ok (.iconst (-1), 1) := dk_2 (dk_at dksX4_lodgersIn_0 19 rfl rfl)
theorem dX4_lodgersIn_20 : decode cX4_lodgersIn 20 = .ok (.if_icmp .ne 9, 3) := dk_160 0 9 (dk_at dksX4_lodgersIn_0 20 rfl rfl)
theorem dX4_lodgersIn_23 : decode cX4_lodgersIn 23 = .ok (.iconst 1, 1) := dk_4 (dk_at dksX4_lodgersIn_0 23 rfl rfl)
theorem dX4_lodgersIn_24 : decode cX4_lodgersIn 24 = .ok (.iload_n 3, 1) := dk_29 (dk_at dksX4_lodgersIn_1 0 rfl rfl)
theorem dX4_lodgersIn_25 : decode cX4_lodgersIn 25 = .ok (.ishl, 1) := dk_120 (dk_at dksX4_lodgersIn_1 1 rfl rfl)
theorem dX4_lodgersIn_26 : decode cX4_lodgersIn 26 = .ok (.goto 4, 3) := dk_167 0 4 (dk_at dksX4_lodgersIn_1 2 rfl rfl)
theorem dX4_lodgersIn_29 : decode cX4_lodgersIn 29 = .ok (.iconst 0, 1) := dk_3 (dk_at dksX4_lodgersIn_1 5 rfl rfl)
theorem dX4_lodgersIn_30 : decode cX4_lodgersIn 30 = .ok (.ior, 1) := dk_128 (dk_at dksX4_lodgersIn_1 6 rfl rfl)
theorem dX4_lodgersIn_31 : decode cX4_lodgersIn 31 = .ok (.istore_n 2, 1) := dk_61 (dk_at dksX4_lodgersIn_1 7 rfl rfl)
theorem dX4_lodgersIn_32 : decode cX4_lodgersIn 32 = .ok (.iinc 3 1, 3) := dk_132 3 1 (dk_at dksX4_lodgersIn_1 8 rfl rfl)
theorem dX4_lodgersIn_35 : decode cX4_lodgersIn 35 = .ok (.goto (-31), 3) := dk_167 255 225 (dk_at dksX4_lodgersIn_1 11 rfl rfl)
theorem dX4_lodgersIn_38 : decode cX4_lodgersIn 38 = .ok (.iload_n 2, 1) := dk_28 (dk_at dksX4_lodgersIn_1 14 rfl rfl)
theorem dX4_lodgersIn_39 : decode cX4_lodgersIn 39 = .ok (.ireturn, 1) := dk_172 (dk_at dksX4_lodgersIn_1 15 rfl rfl)
abbrev cX4_houseOf : ByteArray := prog_12_method_55_code
def yX4_houseOf : MethodName := ⟨RX4, "houseOf", "(II)I"⟩
def dkwX4_houseOf_1 : List UInt8 := [160, 0, 5, 29, 172, 132, 3, 1, 167, 255, 228, 2, 172]
abbrev dktX4_houseOf_1 : List UInt8 := dkwX4_houseOf_1 ++ []
def dkwX4_houseOf_0 : List UInt8 := [3, 62, 29, 42, 180, 1, 19, 162, 0, 26, 42, 180, 0, 66, 27, 16, 19, 96, 29, 96, 46, 28]
abbrev dktX4_houseOf_0 : List UInt8 := dkwX4_houseOf_0 ++ dktX4_houseOf_1
theorem dksX4_houseOf_0 : cX4_houseOf.data.toList.drop 0 = dktX4_houseOf_0 := by decide +kernel
theorem dksX4_houseOf_1 : cX4_houseOf.data.toList.drop 22 = dktX4_houseOf_1 := dk_seg dksX4_houseOf_0 22 rfl rfl
theorem dX4_houseOf_0 : decode cX4_houseOf 0 = .ok (.iconst 0, 1) := dk_3 (dk_at dksX4_houseOf_0 0 rfl rfl)
theorem dX4_houseOf_1 : decode cX4_houseOf 1 = .ok (.istore_n 3, 1) := dk_62 (dk_at dksX4_houseOf_0 1 rfl rfl)
theorem dX4_houseOf_2 : decode cX4_houseOf 2 = .ok (.iload_n 3, 1) := dk_29 (dk_at dksX4_houseOf_0 2 rfl rfl)
theorem dX4_houseOf_3 : decode cX4_houseOf 3 = .ok (.aload_n 0, 1) := dk_42 (dk_at dksX4_houseOf_0 3 rfl rfl)
theorem dX4_houseOf_4 : decode cX4_houseOf 4 = .ok (.getfield 275, 3) := dk_180 1 19 (dk_at dksX4_houseOf_0 4 rfl rfl)
theorem dX4_houseOf_7 : decode cX4_houseOf 7 = .ok (.if_icmp .ge 26, 3) := dk_162 0 26 (dk_at dksX4_houseOf_0 7 rfl rfl)
theorem dX4_houseOf_10 : decode cX4_houseOf 10 = .ok (.aload_n 0, 1) := dk_42 (dk_at dksX4_houseOf_0 10 rfl rfl)
theorem dX4_houseOf_11 : decode cX4_houseOf 11 = .ok (.getfield 66, 3) := dk_180 0 66 (dk_at dksX4_houseOf_0 11 rfl rfl)
theorem dX4_houseOf_14 : decode cX4_houseOf 14 = .ok (.iload_n 1, 1) := dk_27 (dk_at dksX4_houseOf_0 14 rfl rfl)
theorem dX4_houseOf_15 : decode cX4_houseOf 15 = .ok (.bipush 19, 2) := dk_16 19 (dk_at dksX4_houseOf_0 15 rfl rfl)
theorem dX4_houseOf_17 : decode cX4_houseOf 17 = .ok (.iadd, 1) := dk_96 (dk_at dksX4_houseOf_0 17 rfl rfl)
theorem dX4_houseOf_18 : decode cX4_houseOf 18 = .ok (.iload_n 3, 1) := dk_29 (dk_at dksX4_houseOf_0 18 rfl rfl)
theorem dX4_houseOf_19 : decode cX4_houseOf 19 = .ok (.iadd, 1) := dk_96 (dk_at dksX4_houseOf_0 19 rfl rfl)
theorem dX4_houseOf_20 : decode cX4_houseOf 20 = .ok (.iaload, 1) := dk_46 (dk_at dksX4_houseOf_0 20 rfl rfl)
theorem dX4_houseOf_21 : decode cX4_houseOf 21 = .ok (.iload_n 2, 1) := dk_28 (dk_at dksX4_houseOf_0 21 rfl rfl)
theorem dX4_houseOf_22 : decode cX4_houseOf 22 = .ok (.if_icmp .ne 5, 3) := dk_160 0 5 (dk_at dksX4_houseOf_1 0 rfl rfl)
theorem dX4_houseOf_25 : decode cX4_houseOf 25 = .ok (.iload_n 3, 1) := dk_29 (dk_at dksX4_houseOf_1 3 rfl rfl)
theorem dX4_houseOf_26 : decode cX4_houseOf 26 = .ok (.ireturn, 1) := dk_172 (dk_at dksX4_houseOf_1 4 rfl rfl)
theorem dX4_houseOf_27 : decode cX4_houseOf 27 = .ok (.iinc 3 1, 3) := dk_132 3 1 (dk_at dksX4_houseOf_1 5 rfl rfl)
theorem dX4_houseOf_30 : decode cX4_houseOf 30 = .ok (.goto (-28), 3) := dk_167 255 228 (dk_at dksX4_houseOf_1 8 rfl rfl)
theorem dX4_houseOf_33 : decode cX4_houseOf 33 = .ok (.iconst (-1), 1) := dk_2 (dk_at dksX4_houseOf_1 11 rfl rfl)
theorem dX4_houseOf_34 : decode cX4_houseOf 34 = .ok (.ireturn, 1) := dk_172 (dk_at dksX4_houseOf_1 12 rfl rfl)
abbrev cX4_soreIn : ByteArray := prog_12_method_60_code
def yX4_soreIn : MethodName := ⟨RX4, "soreIn", "(I)I"⟩
def dkwX4_soreIn_1 : List UInt8 := [96, 61, 132, 3, 1, 167, 255, 231, 28, 172]
abbrev dktX4_soreIn_1 : List UInt8 := dkwX4_soreIn_1 ++ []
def dkwX4_soreIn_0 : List UInt8 := [3, 61, 3, 62, 29, 42, 180, 1, 22, 162, 0, 23, 28, 42, 180, 0, 66, 27, 16, 35, 96, 29, 96, 46]
abbrev dktX4_soreIn_0 : List UInt8 := dkwX4_soreIn_0 ++ dktX4_soreIn_1
theorem dksX4_soreIn_0 : cX4_soreIn.data.toList.drop 0 = dktX4_soreIn_0 := by decide +kernel
theorem dksX4_soreIn_1 : cX4_soreIn.data.toList.drop 24 = dktX4_soreIn_1 := dk_seg dksX4_soreIn_0 24 rfl rfl
theorem dX4_soreIn_0 : decode cX4_soreIn 0 = .ok (.iconst 0, 1) := dk_3 (dk_at dksX4_soreIn_0 0 rfl rfl)
theorem dX4_soreIn_1 : decode cX4_soreIn 1 = .ok (.istore_n 2, 1) := dk_61 (dk_at dksX4_soreIn_0 1 rfl rfl)
theorem dX4_soreIn_2 : decode cX4_soreIn 2 = .ok (.iconst 0, 1) := dk_3 (dk_at dksX4_soreIn_0 2 rfl rfl)
theorem dX4_soreIn_3 : decode cX4_soreIn 3 = .ok (.istore_n 3, 1) := dk_62 (dk_at dksX4_soreIn_0 3 rfl rfl)
theorem dX4_soreIn_4 : decode cX4_soreIn 4 = .ok (.iload_n 3, 1) := dk_29 (dk_at dksX4_soreIn_0 4 rfl rfl)
theorem dX4_soreIn_5 : decode cX4_soreIn 5 = .ok (.aload_n 0, 1) := dk_42 (dk_at dksX4_soreIn_0 5 rfl rfl)
theorem dX4_soreIn_6 : decode cX4_soreIn 6 = .ok (.getfield 278, 3) := dk_180 1 22 (dk_at dksX4_soreIn_0 6 rfl rfl)
theorem dX4_soreIn_9 : decode cX4_soreIn 9 = .ok (.if_icmp .ge 23, 3) := dk_162 0 23 (dk_at dksX4_soreIn_0 9 rfl rfl)
theorem dX4_soreIn_12 : decode cX4_soreIn 12 = .ok (.iload_n 2, 1) := dk_28 (dk_at dksX4_soreIn_0 12 rfl rfl)
theorem dX4_soreIn_13 : decode cX4_soreIn 13 = .ok (.aload_n 0, 1) := dk_42 (dk_at dksX4_soreIn_0 13 rfl rfl)
theorem dX4_soreIn_14 : decode cX4_soreIn 14 = .ok (.getfield 66, 3) := dk_180 0 66 (dk_at dksX4_soreIn_0 14 rfl rfl)
theorem dX4_soreIn_17 : decode cX4_soreIn 17 = .ok (.iload_n 1, 1) := dk_27 (dk_at dksX4_soreIn_0 17 rfl rfl)
theorem dX4_soreIn_18 : decode cX4_soreIn 18 = .ok (.bipush 35, 2) := dk_16 35 (dk_at dksX4_soreIn_0 18 rfl rfl)
theorem dX4_soreIn_20 : decode cX4_soreIn 20 = .ok (.iadd, 1) := dk_96 (dk_at dksX4_soreIn_0 20 rfl rfl)
theorem dX4_soreIn_21 : decode cX4_soreIn 21 = .ok (.iload_n 3, 1) := dk_29 (dk_at dksX4_soreIn_0 21 rfl rfl)
theorem dX4_soreIn_22 : decode cX4_soreIn 22 = .ok (.iadd, 1) := dk_96 (dk_at dksX4_soreIn_0 22 rfl rfl)
theorem dX4_soreIn_23 : decode cX4_soreIn 23 = .ok (.iaload, 1) := dk_46 (dk_at dksX4_soreIn_0 23 rfl rfl)
theorem dX4_soreIn_24 : decode cX4_soreIn 24 = .ok (.iadd, 1) := dk_96 (dk_at dksX4_soreIn_1 0 rfl rfl)
theorem dX4_soreIn_25 : decode cX4_soreIn 25 = .ok (.istore_n 2, 1) := dk_61 (dk_at dksX4_soreIn_1 1 rfl rfl)
theorem dX4_soreIn_26 : decode cX4_soreIn 26 = .ok (.iinc 3 1, 3) := dk_132 3 1 (dk_at dksX4_soreIn_1 2 rfl rfl)
theorem dX4_soreIn_29 : decode cX4_soreIn 29 = .ok (.goto (-25), 3) := dk_167 255 231 (dk_at dksX4_soreIn_1 5 rfl rfl)
theorem dX4_soreIn_32 : decode cX4_soreIn 32 = .ok (.iload_n 2, 1) := dk_28 (dk_at dksX4_soreIn_1 8 rfl rfl)
theorem dX4_soreIn_33 : decode cX4_soreIn 33 = .ok (.ireturn, 1) := dk_172 (dk_at dksX4_soreIn_1 9 rfl rfl)
abbrev cX4_tightest : ByteArray := prog_12_method_62_code
def yX4_tightest : MethodName := ⟨RX4, "tightest", "()I"⟩
def dkwX4_tightest_1 : List UInt8 := [167, 0, 8, 42, 27, 182, 1, 86, 164, 0, 5, 28, 60, 132, 2, 1, 167, 255, 221, 27, 172]
abbrev dktX4_tightest_1 : List UInt8 := dkwX4_tightest_1 ++ []
def dkwX4_tightest_0 : List UInt8 := [2, 60, 3, 61, 28, 42, 180, 1, 22, 162, 0, 33, 42, 28, 182, 1, 86, 27, 2, 160, 0, 7, 3]
abbrev dktX4_tightest_0 : List UInt8 := dkwX4_tightest_0 ++ dktX4_tightest_1
theorem dksX4_tightest_0 : cX4_tightest.data.toList.drop 0 = dktX4_tightest_0 := by decide +kernel
theorem dksX4_tightest_1 : cX4_tightest.data.toList.drop 23 = dktX4_tightest_1 := dk_seg dksX4_tightest_0 23 rfl rfl
theorem dX4_tightest_0 : decode cX4_tightest 0 = .ok (.iconst (-1), 1) := dk_2 (dk_at dksX4_tightest_0 0 rfl rfl)
theorem dX4_tightest_1 : decode cX4_tightest 1 = .ok (.istore_n 1, 1) := dk_60 (dk_at dksX4_tightest_0 1 rfl rfl)
theorem dX4_tightest_2 : decode cX4_tightest 2 = .ok (.iconst 0, 1) := dk_3 (dk_at dksX4_tightest_0 2 rfl rfl)
theorem dX4_tightest_3 : decode cX4_tightest 3 = .ok (.istore_n 2, 1) := dk_61 (dk_at dksX4_tightest_0 3 rfl rfl)
theorem dX4_tightest_4 : decode cX4_tightest 4 = .ok (.iload_n 2, 1) := dk_28 (dk_at dksX4_tightest_0 4 rfl rfl)
theorem dX4_tightest_5 : decode cX4_tightest 5 = .ok (.aload_n 0, 1) := dk_42 (dk_at dksX4_tightest_0 5 rfl rfl)
theorem dX4_tightest_6 : decode cX4_tightest 6 = .ok (.getfield 278, 3) := dk_180 1 22 (dk_at dksX4_tightest_0 6 rfl rfl)
theorem dX4_tightest_9 : decode cX4_tightest 9 = .ok (.if_icmp .ge 33, 3) := dk_162 0 33 (dk_at dksX4_tightest_0 9 rfl rfl)
theorem dX4_tightest_12 : decode cX4_tightest 12 = .ok (.aload_n 0, 1) := dk_42 (dk_at dksX4_tightest_0 12 rfl rfl)
theorem dX4_tightest_13 : decode cX4_tightest 13 = .ok (.iload_n 2, 1) := dk_28 (dk_at dksX4_tightest_0 13 rfl rfl)
theorem dX4_tightest_14 : decode cX4_tightest 14 = .ok (.invokevirtual 342, 3) := dk_182 1 86 (dk_at dksX4_tightest_0 14 rfl rfl)
theorem dX4_tightest_17 : decode cX4_tightest 17 = .ok (.iload_n 1, 1) := dk_27 (dk_at dksX4_tightest_0 17 rfl rfl)
theorem dX4_tightest_18 : decode cX4_tightest 18 = .ok (.iconst (-1), 1) := dk_2 (dk_at dksX4_tightest_0 18 rfl rfl)
theorem dX4_tightest_19 : decode cX4_tightest 19 = .ok (.if_icmp .ne 7, 3) := dk_160 0 7 (dk_at dksX4_tightest_0 19 rfl rfl)
theorem dX4_tightest_22 : decode cX4_tightest 22 = .ok (.iconst 0, 1) := dk_3 (dk_at dksX4_tightest_0 22 rfl rfl)
theorem dX4_tightest_23 : decode cX4_tightest 23 = .ok (.goto 8, 3) := dk_167 0 8 (dk_at dksX4_tightest_1 0 rfl rfl)
theorem dX4_tightest_26 : decode cX4_tightest 26 = .ok (.aload_n 0, 1) := dk_42 (dk_at dksX4_tightest_1 3 rfl rfl)
theorem dX4_tightest_27 : decode cX4_tightest 27 = .ok (.iload_n 1, 1) := dk_27 (dk_at dksX4_tightest_1 4 rfl rfl)
theorem dX4_tightest_28 : decode cX4_tightest 28 = .ok (.invokevirtual 342, 3) := dk_182 1 86 (dk_at dksX4_tightest_1 5 rfl rfl)
theorem dX4_tightest_31 : decode cX4_tightest 31 = .ok (.if_icmp .le 5, 3) := dk_164 0 5 (dk_at dksX4_tightest_1 8 rfl rfl)
theorem dX4_tightest_34 : decode cX4_tightest 34 = .ok (.iload_n 2, 1) := dk_28 (dk_at dksX4_tightest_1 11 rfl rfl)
theorem dX4_tightest_35 : decode cX4_tightest 35 = .ok (.istore_n 1, 1) := dk_60 (dk_at dksX4_tightest_1 12 rfl rfl)
theorem dX4_tightest_36 : decode cX4_tightest 36 = .ok (.iinc 2 1, 3) := dk_132 2 1 (dk_at dksX4_tightest_1 13 rfl rfl)
theorem dX4_tightest_39 : decode cX4_tightest 39 = .ok (.goto (-35), 3) := dk_167 255 221 (dk_at dksX4_tightest_1 16 rfl rfl)
theorem dX4_tightest_42 : decode cX4_tightest 42 = .ok (.iload_n 1, 1) := dk_27 (dk_at dksX4_tightest_1 19 rfl rfl)
theorem dX4_tightest_43 : decode cX4_tightest 43 = .ok (.ireturn, 1) := dk_172 (dk_at dksX4_tightest_1 20 rfl rfl)
abbrev cX4_tightNow : ByteArray := prog_12_method_61_code
def yX4_tightNow : MethodName := ⟨RX4, "tightNow", "(I)I"⟩
def dkwX4_tightNow_0 : List UInt8 := [42, 3, 27, 182, 1, 83, 61, 28, 2, 160, 0, 7, 3, 167, 0, 10, 42, 3, 27, 28, 182, 1, 56, 172]
abbrev dktX4_tightNow_0 : List UInt8 := dkwX4_tightNow_0 ++ []
theorem dksX4_tightNow_0 : cX4_tightNow.data.toList.drop 0 = dktX4_tightNow_0 := by decide +kernel
theorem dX4_tightNow_0 : decode cX4_tightNow 0 = .ok (.aload_n 0, 1) := dk_42 (dk_at dksX4_tightNow_0 0 rfl rfl)
theorem dX4_tightNow_1 : decode cX4_tightNow 1 = .ok (.iconst 0, 1) := dk_3 (dk_at dksX4_tightNow_0 1 rfl rfl)
theorem dX4_tightNow_2 : decode cX4_tightNow 2 = .ok (.iload_n 1, 1) := dk_27 (dk_at dksX4_tightNow_0 2 rfl rfl)
theorem dX4_tightNow_3 : decode cX4_tightNow 3 = .ok (.invokevirtual 339, 3) := dk_182 1 83 (dk_at dksX4_tightNow_0 3 rfl rfl)
theorem dX4_tightNow_6 : decode cX4_tightNow 6 = .ok (.istore_n 2, 1) := dk_61 (dk_at dksX4_tightNow_0 6 rfl rfl)
theorem dX4_tightNow_7 : decode cX4_tightNow 7 = .ok (.iload_n 2, 1) := dk_28 (dk_at dksX4_tightNow_0 7 rfl rfl)
theorem dX4_tightNow_8 : decode cX4_tightNow 8 = .ok (.iconst (-1), 1) := dk_2 (dk_at dksX4_tightNow_0 8 rfl rfl)
theorem dX4_tightNow_9 : decode cX4_tightNow 9 = .ok (.if_icmp .ne 7, 3) := dk_160 0 7 (dk_at dksX4_tightNow_0 9 rfl rfl)
theorem dX4_tightNow_12 : decode cX4_tightNow 12 = .ok (.iconst 0, 1) := dk_3 (dk_at dksX4_tightNow_0 12 rfl rfl)
theorem dX4_tightNow_13 : decode cX4_tightNow 13 = .ok (.goto 10, 3) := dk_167 0 10 (dk_at dksX4_tightNow_0 13 rfl rfl)
theorem dX4_tightNow_16 : decode cX4_tightNow 16 = .ok (.aload_n 0, 1) := dk_42 (dk_at dksX4_tightNow_0 16 rfl rfl)
theorem dX4_tightNow_17 : decode cX4_tightNow 17 = .ok (.iconst 0, 1) := dk_3 (dk_at dksX4_tightNow_0 17 rfl rfl)
theorem dX4_tightNow_18 : decode cX4_tightNow 18 = .ok (.iload_n 1, 1) := dk_27 (dk_at dksX4_tightNow_0 18 rfl rfl)
theorem dX4_tightNow_19 : decode cX4_tightNow 19 = .ok (.iload_n 2, 1) := dk_28 (dk_at dksX4_tightNow_0 19 rfl rfl)
theorem dX4_tightNow_20 : decode cX4_tightNow 20 = .ok (.invokevirtual 312, 3) := dk_182 1 56 (dk_at dksX4_tightNow_0 20 rfl rfl)
theorem dX4_tightNow_23 : decode cX4_tightNow 23 = .ok (.ireturn, 1) := dk_172 (dk_at dksX4_tightNow_0 23 rfl rfl)
abbrev cX4_tightOf : ByteArray := prog_12_method_50_code
def yX4_tightOf : MethodName := ⟨RX4, "tightOf", "(III)I"⟩
def dkwX4_tightOf_1 : List UInt8 := [19, 1, 49, 184, 1, 50, 172]
abbrev dktX4_tightOf_1 : List UInt8 := dkwX4_tightOf_1 ++ []
def dkwX4_tightOf_0 : List UInt8 := [42, 180, 0, 66, 27, 16, 27, 96, 28, 96, 46, 42, 180, 0, 66, 27, 6, 96, 29, 96, 46, 100, 3]
abbrev dktX4_tightOf_0 : List UInt8 := dkwX4_tightOf_0 ++ dktX4_tightOf_1
theorem dksX4_tightOf_0 : cX4_tightOf.data.toList.drop 0 = dktX4_tightOf_0 := by decide +kernel
theorem dksX4_tightOf_1 : cX4_tightOf.data.toList.drop 23 = dktX4_tightOf_1 := dk_seg dksX4_tightOf_0 23 rfl rfl
theorem dX4_tightOf_0 : decode cX4_tightOf 0 = .ok (.aload_n 0, 1) := dk_42 (dk_at dksX4_tightOf_0 0 rfl rfl)
theorem dX4_tightOf_1 : decode cX4_tightOf 1 = .ok (.getfield 66, 3) := dk_180 0 66 (dk_at dksX4_tightOf_0 1 rfl rfl)
theorem dX4_tightOf_4 : decode cX4_tightOf 4 = .ok (.iload_n 1, 1) := dk_27 (dk_at dksX4_tightOf_0 4 rfl rfl)
theorem dX4_tightOf_5 : decode cX4_tightOf 5 = .ok (.bipush 27, 2) := dk_16 27 (dk_at dksX4_tightOf_0 5 rfl rfl)
theorem dX4_tightOf_7 : decode cX4_tightOf 7 = .ok (.iadd, 1) := dk_96 (dk_at dksX4_tightOf_0 7 rfl rfl)
theorem dX4_tightOf_8 : decode cX4_tightOf 8 = .ok (.iload_n 2, 1) := dk_28 (dk_at dksX4_tightOf_0 8 rfl rfl)
theorem dX4_tightOf_9 : decode cX4_tightOf 9 = .ok (.iadd, 1) := dk_96 (dk_at dksX4_tightOf_0 9 rfl rfl)
theorem dX4_tightOf_10 : decode cX4_tightOf 10 = .ok (.iaload, 1) := dk_46 (dk_at dksX4_tightOf_0 10 rfl rfl)
theorem dX4_tightOf_11 : decode cX4_tightOf 11 = .ok (.aload_n 0, 1) := dk_42 (dk_at dksX4_tightOf_0 11 rfl rfl)
theorem dX4_tightOf_12 : decode cX4_tightOf 12 = .ok (.getfield 66, 3) := dk_180 0 66 (dk_at dksX4_tightOf_0 12 rfl rfl)
theorem dX4_tightOf_15 : decode cX4_tightOf 15 = .ok (.iload_n 1, 1) := dk_27 (dk_at dksX4_tightOf_0 15 rfl rfl)
theorem dX4_tightOf_16 : decode cX4_tightOf 16 = .ok (.iconst 3, 1) := dk_6 (dk_at dksX4_tightOf_0 16 rfl rfl)
theorem dX4_tightOf_17 : decode cX4_tightOf 17 = .ok (.iadd, 1) := dk_96 (dk_at dksX4_tightOf_0 17 rfl rfl)
theorem dX4_tightOf_18 : decode cX4_tightOf 18 = .ok (.iload_n 3, 1) := dk_29 (dk_at dksX4_tightOf_0 18 rfl rfl)
theorem dX4_tightOf_19 : decode cX4_tightOf 19 = .ok (.iadd, 1) := dk_96 (dk_at dksX4_tightOf_0 19 rfl rfl)
theorem dX4_tightOf_20 : decode cX4_tightOf 20 = .ok (.iaload, 1) := dk_46 (dk_at dksX4_tightOf_0 20 rfl rfl)
theorem dX4_tightOf_21 : decode cX4_tightOf 21 = .ok (.isub, 1) := dk_100 (dk_at dksX4_tightOf_0 21 rfl rfl)
theorem dX4_tightOf_22 : decode cX4_tightOf 22 = .ok (.iconst 0, 1) := dk_3 (dk_at dksX4_tightOf_0 22 rfl rfl)
theorem dX4_tightOf_23 : decode cX4_tightOf 23 = .ok (.ldc_w 305, 3) := dk_19 1 49 (dk_at dksX4_tightOf_1 0 rfl rfl)
theorem dX4_tightOf_26 : decode cX4_tightOf 26 = .ok (.invokestatic 306, 3) := dk_184 1 50 (dk_at dksX4_tightOf_1 3 rfl rfl)
theorem dX4_tightOf_29 : decode cX4_tightOf 29 = .ok (.ireturn, 1) := dk_172 (dk_at dksX4_tightOf_1 6 rfl rfl)
abbrev cX4_bounded : ByteArray := prog_12_method_5_code
def yX4_bounded : MethodName := ⟨RX4, "bounded", "(III)I"⟩
def dkwX4_bounded_0 : List UInt8 := [26, 27, 162, 0, 7, 27, 167, 0, 13, 26, 28, 164, 0, 7, 28, 167, 0, 4, 26, 172]
abbrev dktX4_bounded_0 : List UInt8 := dkwX4_bounded_0 ++ []
theorem dksX4_bounded_0 : cX4_bounded.data.toList.drop 0 = dktX4_bounded_0 := by decide +kernel
theorem dX4_bounded_0 : decode cX4_bounded 0 = .ok (.iload_n 0, 1) := dk_26 (dk_at dksX4_bounded_0 0 rfl rfl)
theorem dX4_bounded_1 : decode cX4_bounded 1 = .ok (.iload_n 1, 1) := dk_27 (dk_at dksX4_bounded_0 1 rfl rfl)
theorem dX4_bounded_2 : decode cX4_bounded 2 = .ok (.if_icmp .ge 7, 3) := dk_162 0 7 (dk_at dksX4_bounded_0 2 rfl rfl)
theorem dX4_bounded_5 : decode cX4_bounded 5 = .ok (.iload_n 1, 1) := dk_27 (dk_at dksX4_bounded_0 5 rfl rfl)
theorem dX4_bounded_6 : decode cX4_bounded 6 = .ok (.goto 13, 3) := dk_167 0 13 (dk_at dksX4_bounded_0 6 rfl rfl)
theorem dX4_bounded_9 : decode cX4_bounded 9 = .ok (.iload_n 0, 1) := dk_26 (dk_at dksX4_bounded_0 9 rfl rfl)
theorem dX4_bounded_10 : decode cX4_bounded 10 = .ok (.iload_n 2, 1) := dk_28 (dk_at dksX4_bounded_0 10 rfl rfl)
theorem dX4_bounded_11 : decode cX4_bounded 11 = .ok (.if_icmp .le 7, 3) := dk_164 0 7 (dk_at dksX4_bounded_0 11 rfl rfl)
theorem dX4_bounded_14 : decode cX4_bounded 14 = .ok (.iload_n 2, 1) := dk_28 (dk_at dksX4_bounded_0 14 rfl rfl)
theorem dX4_bounded_15 : decode cX4_bounded 15 = .ok (.goto 4, 3) := dk_167 0 4 (dk_at dksX4_bounded_0 15 rfl rfl)
theorem dX4_bounded_18 : decode cX4_bounded 18 = .ok (.iload_n 0, 1) := dk_26 (dk_at dksX4_bounded_0 18 rfl rfl)
theorem dX4_bounded_19 : decode cX4_bounded 19 = .ok (.ireturn, 1) := dk_172 (dk_at dksX4_bounded_0 19 rfl rfl)
abbrev cX4_needed : ByteArray := prog_12_method_95_code
def yX4_needed : MethodName := ⟨RX4, "needed", "()I"⟩
def dkwX4_needed_2 : List UInt8 := [108, 27, 164, 0, 9, 4, 29, 120, 167, 0, 4, 3, 128, 61, 132, 3, 1, 167, 255, 210, 28, 172]
abbrev dktX4_needed_2 : List UInt8 := dkwX4_needed_2 ++ []
def dkwX4_needed_1 : List UInt8 := [162, 0, 44, 28, 42, 3, 29, 182, 1, 66, 154, 0, 25, 42, 3, 4, 29, 120, 182, 1, 150, 17, 39, 16]
abbrev dktX4_needed_1 : List UInt8 := dkwX4_needed_1 ++ dktX4_needed_2
def dkwX4_needed_0 : List UInt8 := [42, 182, 1, 156, 42, 3, 3, 182, 1, 150, 17, 39, 16, 108, 60, 3, 61, 3, 62, 29, 42, 180, 1, 19]
abbrev dktX4_needed_0 : List UInt8 := dkwX4_needed_0 ++ dktX4_needed_1
theorem dksX4_needed_0 : cX4_needed.data.toList.drop 0 = dktX4_needed_0 := by decide +kernel
theorem dksX4_needed_1 : cX4_needed.data.toList.drop 24 = dktX4_needed_1 := dk_seg dksX4_needed_0 24 rfl rfl
theorem dksX4_needed_2 : cX4_needed.data.toList.drop 48 = dktX4_needed_2 := dk_seg dksX4_needed_1 24 rfl rfl
theorem dX4_needed_0 : decode cX4_needed 0 = .ok (.aload_n 0, 1) := dk_42 (dk_at dksX4_needed_0 0 rfl rfl)
theorem dX4_needed_1 : decode cX4_needed 1 = .ok (.invokevirtual 412, 3) := dk_182 1 156 (dk_at dksX4_needed_0 1 rfl rfl)
theorem dX4_needed_4 : decode cX4_needed 4 = .ok (.aload_n 0, 1) := dk_42 (dk_at dksX4_needed_0 4 rfl rfl)
theorem dX4_needed_5 : decode cX4_needed 5 = .ok (.iconst 0, 1) := dk_3 (dk_at dksX4_needed_0 5 rfl rfl)
theorem dX4_needed_6 : decode cX4_needed 6 = .ok (.iconst 0, 1) := dk_3 (dk_at dksX4_needed_0 6 rfl rfl)
theorem dX4_needed_7 : decode cX4_needed 7 = .ok (.invokevirtual 406, 3) := dk_182 1 150 (dk_at dksX4_needed_0 7 rfl rfl)
theorem dX4_needed_10 : decode cX4_needed 10 = .ok (.sipush 10000, 3) := dk_17 39 16 (dk_at dksX4_needed_0 10 rfl rfl)
theorem dX4_needed_13 : decode cX4_needed 13 = .ok (.idiv, 1) := dk_108 (dk_at dksX4_needed_0 13 rfl rfl)
theorem dX4_needed_14 : decode cX4_needed 14 = .ok (.istore_n 1, 1) := dk_60 (dk_at dksX4_needed_0 14 rfl rfl)
theorem dX4_needed_15 : decode cX4_needed 15 = .ok (.iconst 0, 1) := dk_3 (dk_at dksX4_needed_0 15 rfl rfl)
theorem dX4_needed_16 : decode cX4_needed 16 = .ok (.istore_n 2, 1) := dk_61 (dk_at dksX4_needed_0 16 rfl rfl)
theorem dX4_needed_17 : decode cX4_needed 17 = .ok (.iconst 0, 1) := dk_3 (dk_at dksX4_needed_0 17 rfl rfl)
theorem dX4_needed_18 : decode cX4_needed 18 = .ok (.istore_n 3, 1) := dk_62 (dk_at dksX4_needed_0 18 rfl rfl)
theorem dX4_needed_19 : decode cX4_needed 19 = .ok (.iload_n 3, 1) := dk_29 (dk_at dksX4_needed_0 19 rfl rfl)
theorem dX4_needed_20 : decode cX4_needed 20 = .ok (.aload_n 0, 1) := dk_42 (dk_at dksX4_needed_0 20 rfl rfl)
theorem dX4_needed_21 : decode cX4_needed 21 = .ok (.getfield 275, 3) := dk_180 1 19 (dk_at dksX4_needed_0 21 rfl rfl)
theorem dX4_needed_24 : decode cX4_needed 24 = .ok (.if_icmp .ge 44, 3) := dk_162 0 44 (dk_at dksX4_needed_1 0 rfl rfl)
theorem dX4_needed_27 : decode cX4_needed 27 = .ok (.iload_n 2, 1) := dk_28 (dk_at dksX4_needed_1 3 rfl rfl)
theorem dX4_needed_28 : decode cX4_needed 28 = .ok (.aload_n 0, 1) := dk_42 (dk_at dksX4_needed_1 4 rfl rfl)
theorem dX4_needed_29 : decode cX4_needed 29 = .ok (.iconst 0, 1) := dk_3 (dk_at dksX4_needed_1 5 rfl rfl)
theorem dX4_needed_30 : decode cX4_needed 30 = .ok (.iload_n 3, 1) := dk_29 (dk_at dksX4_needed_1 6 rfl rfl)
theorem dX4_needed_31 : decode cX4_needed 31 = .ok (.invokevirtual 322, 3) := dk_182 1 66 (dk_at dksX4_needed_1 7 rfl rfl)
theorem dX4_needed_34 : decode cX4_needed 34 = .ok (.ifCond .ne 25, 3) := dk_154 0 25 (dk_at dksX4_needed_1 10 rfl rfl)
theorem dX4_needed_37 : decode cX4_needed 37 = .ok (.aload_n 0, 1) := dk_42 (dk_at dksX4_needed_1 13 rfl rfl)
theorem dX4_needed_38 : decode cX4_needed 38 = .ok (.iconst 0, 1) := dk_3 (dk_at dksX4_needed_1 14 rfl rfl)
theorem dX4_needed_39 : decode cX4_needed 39 = .ok (.iconst 1, 1) := dk_4 (dk_at dksX4_needed_1 15 rfl rfl)
theorem dX4_needed_40 : decode cX4_needed 40 = .ok (.iload_n 3, 1) := dk_29 (dk_at dksX4_needed_1 16 rfl rfl)
theorem dX4_needed_41 : decode cX4_needed 41 = .ok (.ishl, 1) := dk_120 (dk_at dksX4_needed_1 17 rfl rfl)
theorem dX4_needed_42 : decode cX4_needed 42 = .ok (.invokevirtual 406, 3) := dk_182 1 150 (dk_at dksX4_needed_1 18 rfl rfl)
theorem dX4_needed_45 : decode cX4_needed 45 = .ok (.sipush 10000, 3) := dk_17 39 16 (dk_at dksX4_needed_1 21 rfl rfl)
theorem dX4_needed_48 : decode cX4_needed 48 = .ok (.idiv, 1) := dk_108 (dk_at dksX4_needed_2 0 rfl rfl)
theorem dX4_needed_49 : decode cX4_needed 49 = .ok (.iload_n 1, 1) := dk_27 (dk_at dksX4_needed_2 1 rfl rfl)
theorem dX4_needed_50 : decode cX4_needed 50 = .ok (.if_icmp .le 9, 3) := dk_164 0 9 (dk_at dksX4_needed_2 2 rfl rfl)
theorem dX4_needed_53 : decode cX4_needed 53 = .ok (.iconst 1, 1) := dk_4 (dk_at dksX4_needed_2 5 rfl rfl)
theorem dX4_needed_54 : decode cX4_needed 54 = .ok (.iload_n 3, 1) := dk_29 (dk_at dksX4_needed_2 6 rfl rfl)
theorem dX4_needed_55 : decode cX4_needed 55 = .ok (.ishl, 1) := dk_120 (dk_at dksX4_needed_2 7 rfl rfl)
theorem dX4_needed_56 : decode cX4_needed 56 = .ok (.goto 4, 3) := dk_167 0 4 (dk_at dksX4_needed_2 8 rfl rfl)
theorem dX4_needed_59 : decode cX4_needed 59 = .ok (.iconst 0, 1) := dk_3 (dk_at dksX4_needed_2 11 rfl rfl)
theorem dX4_needed_60 : decode cX4_needed 60 = .ok (.ior, 1) := dk_128 (dk_at dksX4_needed_2 12 rfl rfl)
theorem dX4_needed_61 : decode cX4_needed 61 = .ok (.istore_n 2, 1) := dk_61 (dk_at dksX4_needed_2 13 rfl rfl)
theorem dX4_needed_62 : decode cX4_needed 62 = .ok (.iinc 3 1, 3) := dk_132 3 1 (dk_at dksX4_needed_2 14 rfl rfl)
theorem dX4_needed_65 : decode cX4_needed 65 = .ok (.goto (-46), 3) := dk_167 255 210 (dk_at dksX4_needed_2 17 rfl rfl)
theorem dX4_needed_68 : decode cX4_needed 68 = .ok (.iload_n 2, 1) := dk_28 (dk_at dksX4_needed_2 20 rfl rfl)
theorem dX4_needed_69 : decode cX4_needed 69 = .ok (.ireturn, 1) := dk_172 (dk_at dksX4_needed_2 21 rfl rfl)
abbrev cX4_laysMatch : ByteArray := prog_12_method_92_code
def yX4_laysMatch : MethodName := ⟨RX4, "laysMatch", "()V"⟩
def dkwX4_laysMatch_4 : List UInt8 := [17, 1, 0, 27, 104, 28, 96, 29, 79, 132, 2, 1, 167, 255, 166, 132, 1, 255, 167, 255, 154, 177]
abbrev dktX4_laysMatch_4 : List UInt8 := dkwX4_laysMatch_4 ++ []
def dkwX4_laysMatch_3 : List UInt8 := [42, 27, 21, 4, 28, 182, 1, 153, 184, 1, 73, 62, 132, 4, 1, 167, 255, 211, 42, 180, 0, 81]
abbrev dktX4_laysMatch_3 : List UInt8 := dkwX4_laysMatch_3 ++ dktX4_laysMatch_4
def dkwX4_laysMatch_2 : List UInt8 := [162, 0, 42, 28, 21, 4, 122, 4, 126, 154, 0, 27, 42, 3, 27, 21, 4, 182, 1, 132, 153, 0, 16, 29]
abbrev dktX4_laysMatch_2 : List UInt8 := dkwX4_laysMatch_2 ++ dktX4_laysMatch_3
def dkwX4_laysMatch_1 : List UInt8 := [17, 39, 16, 42, 27, 4, 96, 28, 182, 1, 150, 96, 62, 3, 54, 4, 21, 4, 42, 180, 1, 19]
abbrev dktX4_laysMatch_1 : List UInt8 := dkwX4_laysMatch_1 ++ dktX4_laysMatch_2
def dkwX4_laysMatch_0 : List UInt8 := [42, 180, 1, 22, 4, 100, 60, 27, 155, 0, 104, 3, 61, 28, 4, 42, 180, 1, 19, 120, 162, 0, 86]
abbrev dktX4_laysMatch_0 : List UInt8 := dkwX4_laysMatch_0 ++ dktX4_laysMatch_1
theorem dksX4_laysMatch_0 : cX4_laysMatch.data.toList.drop 0 = dktX4_laysMatch_0 := by decide +kernel
theorem dksX4_laysMatch_1 : cX4_laysMatch.data.toList.drop 23 = dktX4_laysMatch_1 := dk_seg dksX4_laysMatch_0 23 rfl rfl
theorem dksX4_laysMatch_2 : cX4_laysMatch.data.toList.drop 45 = dktX4_laysMatch_2 := dk_seg dksX4_laysMatch_1 22 rfl rfl
theorem dksX4_laysMatch_3 : cX4_laysMatch.data.toList.drop 69 = dktX4_laysMatch_3 := dk_seg dksX4_laysMatch_2 24 rfl rfl
theorem dksX4_laysMatch_4 : cX4_laysMatch.data.toList.drop 91 = dktX4_laysMatch_4 := dk_seg dksX4_laysMatch_3 22 rfl rfl
theorem dX4_laysMatch_0 : decode cX4_laysMatch 0 = .ok (.aload_n 0, 1) := dk_42 (dk_at dksX4_laysMatch_0 0 rfl rfl)
theorem dX4_laysMatch_1 : decode cX4_laysMatch 1 = .ok (.getfield 278, 3) := dk_180 1 22 (dk_at dksX4_laysMatch_0 1 rfl rfl)
theorem dX4_laysMatch_4 : decode cX4_laysMatch 4 = .ok (.iconst 1, 1) := dk_4 (dk_at dksX4_laysMatch_0 4 rfl rfl)
theorem dX4_laysMatch_5 : decode cX4_laysMatch 5 = .ok (.isub, 1) := dk_100 (dk_at dksX4_laysMatch_0 5 rfl rfl)
theorem dX4_laysMatch_6 : decode cX4_laysMatch 6 = .ok (.istore_n 1, 1) := dk_60 (dk_at dksX4_laysMatch_0 6 rfl rfl)
theorem dX4_laysMatch_7 : decode cX4_laysMatch 7 = .ok (.iload_n 1, 1) := dk_27 (dk_at dksX4_laysMatch_0 7 rfl rfl)
theorem dX4_laysMatch_8 : decode cX4_laysMatch 8 = .ok (.ifCond .lt 104, 3) := dk_155 0 104 (dk_at dksX4_laysMatch_0 8 rfl rfl)
theorem dX4_laysMatch_11 : decode cX4_laysMatch 11 = .ok (.iconst 0, 1) := dk_3 (dk_at dksX4_laysMatch_0 11 rfl rfl)
theorem dX4_laysMatch_12 : decode cX4_laysMatch 12 = .ok (.istore_n 2, 1) := dk_61 (dk_at dksX4_laysMatch_0 12 rfl rfl)
theorem dX4_laysMatch_13 : decode cX4_laysMatch 13 = .ok (.iload_n 2, 1) := dk_28 (dk_at dksX4_laysMatch_0 13 rfl rfl)
theorem dX4_laysMatch_14 : decode cX4_laysMatch 14 = .ok (.iconst 1, 1) := dk_4 (dk_at dksX4_laysMatch_0 14 rfl rfl)
theorem dX4_laysMatch_15 : decode cX4_laysMatch 15 = .ok (.aload_n 0, 1) := dk_42 (dk_at dksX4_laysMatch_0 15 rfl rfl)
theorem dX4_laysMatch_16 : decode cX4_laysMatch 16 = .ok (.getfield 275, 3) := dk_180 1 19 (dk_at dksX4_laysMatch_0 16 rfl rfl)
theorem dX4_laysMatch_19 : decode cX4_laysMatch 19 = .ok (.ishl, 1) := dk_120 (dk_at dksX4_laysMatch_0 19 rfl rfl)
theorem dX4_laysMatch_20 : decode cX4_laysMatch 20 = .ok (.if_icmp .ge 86, 3) := dk_162 0 86 (dk_at dksX4_laysMatch_0 20 rfl rfl)
theorem dX4_laysMatch_23 : decode cX4_laysMatch 23 = .ok (.sipush 10000, 3) := dk_17 39 16 (dk_at dksX4_laysMatch_1 0 rfl rfl)
theorem dX4_laysMatch_26 : decode cX4_laysMatch 26 = .ok (.aload_n 0, 1) := dk_42 (dk_at dksX4_laysMatch_1 3 rfl rfl)
theorem dX4_laysMatch_27 : decode cX4_laysMatch 27 = .ok (.iload_n 1, 1) := dk_27 (dk_at dksX4_laysMatch_1 4 rfl rfl)
theorem dX4_laysMatch_28 : decode cX4_laysMatch 28 = .ok (.iconst 1, 1) := dk_4 (dk_at dksX4_laysMatch_1 5 rfl rfl)
theorem dX4_laysMatch_29 : decode cX4_laysMatch 29 = .ok (.iadd, 1) := dk_96 (dk_at dksX4_laysMatch_1 6 rfl rfl)
theorem dX4_laysMatch_30 : decode cX4_laysMatch 30 = .ok (.iload_n 2, 1) := dk_28 (dk_at dksX4_laysMatch_1 7 rfl rfl)
theorem dX4_laysMatch_31 : decode cX4_laysMatch 31 = .ok (.invokevirtual 406, 3) := dk_182 1 150 (dk_at dksX4_laysMatch_1 8 rfl rfl)
theorem dX4_laysMatch_34 : decode cX4_laysMatch 34 = .ok (.iadd, 1) := dk_96 (dk_at dksX4_laysMatch_1 11 rfl rfl)
theorem dX4_laysMatch_35 : decode cX4_laysMatch 35 = .ok (.istore_n 3, 1) := dk_62 (dk_at dksX4_laysMatch_1 12 rfl rfl)
theorem dX4_laysMatch_36 : decode cX4_laysMatch 36 = .ok (.iconst 0, 1) := dk_3 (dk_at dksX4_laysMatch_1 13 rfl rfl)
theorem dX4_laysMatch_37 : decode cX4_laysMatch 37 = .ok (.istore 4, 2) := dk_54 4 (dk_at dksX4_laysMatch_1 14 rfl rfl)
theorem dX4_laysMatch_39 : decode cX4_laysMatch 39 = .ok (.iload 4, 2) := dk_21 4 (dk_at dksX4_laysMatch_1 16 rfl rfl)
theorem dX4_laysMatch_41 : decode cX4_laysMatch 41 = .ok (.aload_n 0, 1) := dk_42 (dk_at dksX4_laysMatch_1 18 rfl rfl)
theorem dX4_laysMatch_42 : decode cX4_laysMatch 42 = .ok (.getfield 275, 3) := dk_180 1 19 (dk_at dksX4_laysMatch_1 19 rfl rfl)
theorem dX4_laysMatch_45 : decode cX4_laysMatch 45 = .ok (.if_icmp .ge 42, 3) := dk_162 0 42 (dk_at dksX4_laysMatch_2 0 rfl rfl)
theorem dX4_laysMatch_48 : decode cX4_laysMatch 48 = .ok (.iload_n 2, 1) := dk_28 (dk_at dksX4_laysMatch_2 3 rfl rfl)
theorem dX4_laysMatch_49 : decode cX4_laysMatch 49 = .ok (.iload 4, 2) := dk_21 4 (dk_at dksX4_laysMatch_2 4 rfl rfl)
theorem dX4_laysMatch_51 : decode cX4_laysMatch 51 = .ok (.ishr, 1) := dk_122 (dk_at dksX4_laysMatch_2 6 rfl rfl)
theorem dX4_laysMatch_52 : decode cX4_laysMatch 52 = .ok (.iconst 1, 1) := dk_4 (dk_at dksX4_laysMatch_2 7 rfl rfl)
theorem dX4_laysMatch_53 : decode cX4_laysMatch 53 = .ok (.iand, 1) := dk_126 (dk_at dksX4_laysMatch_2 8 rfl rfl)
theorem dX4_laysMatch_54 : decode cX4_laysMatch 54 = .ok (.ifCond .ne 27, 3) := dk_154 0 27 (dk_at dksX4_laysMatch_2 9 rfl rfl)
theorem dX4_laysMatch_57 : decode cX4_laysMatch 57 = .ok (.aload_n 0, 1) := dk_42 (dk_at dksX4_laysMatch_2 12 rfl rfl)
theorem dX4_laysMatch_58 : decode cX4_laysMatch 58 = .ok (.iconst 0, 1) := dk_3 (dk_at dksX4_laysMatch_2 13 rfl rfl)
theorem dX4_laysMatch_59 : decode cX4_laysMatch 59 = .ok (.iload_n 1, 1) := dk_27 (dk_at dksX4_laysMatch_2 14 rfl rfl)
theorem dX4_laysMatch_60 : decode cX4_laysMatch 60 = .ok (.iload 4, 2) := dk_21 4 (dk_at dksX4_laysMatch_2 15 rfl rfl)
theorem dX4_laysMatch_62 : decode cX4_laysMatch 62 = .ok (.invokevirtual 388, 3) := dk_182 1 132 (dk_at dksX4_laysMatch_2 17 rfl rfl)
theorem dX4_laysMatch_65 : decode cX4_laysMatch 65 = .ok (.ifCond .eq 16, 3) := dk_153 0 16 (dk_at dksX4_laysMatch_2 20 rfl rfl)
theorem dX4_laysMatch_68 : decode cX4_laysMatch 68 = .ok (.iload_n 3, 1) := dk_29 (dk_at dksX4_laysMatch_2 23 rfl rfl)
theorem dX4_laysMatch_69 : decode cX4_laysMatch 69 = .ok (.aload_n 0, 1) := dk_42 (dk_at dksX4_laysMatch_3 0 rfl rfl)
theorem dX4_laysMatch_70 : decode cX4_laysMatch 70 = .ok (.iload_n 1, 1) := dk_27 (dk_at dksX4_laysMatch_3 1 rfl rfl)
theorem dX4_laysMatch_71 : decode cX4_laysMatch 71 = .ok (.iload 4, 2) := dk_21 4 (dk_at dksX4_laysMatch_3 2 rfl rfl)
theorem dX4_laysMatch_73 : decode cX4_laysMatch 73 = .ok (.iload_n 2, 1) := dk_28 (dk_at dksX4_laysMatch_3 4 rfl rfl)
theorem dX4_laysMatch_74 : decode cX4_laysMatch 74 = .ok (.invokevirtual 409, 3) := dk_182 1 153 (dk_at dksX4_laysMatch_3 5 rfl rfl)
theorem dX4_laysMatch_77 : decode cX4_laysMatch 77 = .ok (.invokestatic 329, 3) := dk_184 1 73 (dk_at dksX4_laysMatch_3 8 rfl rfl)
theorem dX4_laysMatch_80 : decode cX4_laysMatch 80 = .ok (.istore_n 3, 1) := dk_62 (dk_at dksX4_laysMatch_3 11 rfl rfl)
theorem dX4_laysMatch_81 : decode cX4_laysMatch 81 = .ok (.iinc 4 1, 3) := dk_132 4 1 (dk_at dksX4_laysMatch_3 12 rfl rfl)
theorem dX4_laysMatch_84 : decode cX4_laysMatch 84 = .ok (.goto (-45), 3) := dk_167 255 211 (dk_at dksX4_laysMatch_3 15 rfl rfl)
theorem dX4_laysMatch_87 : decode cX4_laysMatch 87 = .ok (.aload_n 0, 1) := dk_42 (dk_at dksX4_laysMatch_3 18 rfl rfl)
theorem dX4_laysMatch_88 : decode cX4_laysMatch 88 = .ok (.getfield 81, 3) := dk_180 0 81 (dk_at dksX4_laysMatch_3 19 rfl rfl)
theorem dX4_laysMatch_91 : decode cX4_laysMatch 91 = .ok (.sipush 256, 3) := dk_17 1 0 (dk_at dksX4_laysMatch_4 0 rfl rfl)
theorem dX4_laysMatch_94 : decode cX4_laysMatch 94 = .ok (.iload_n 1, 1) := dk_27 (dk_at dksX4_laysMatch_4 3 rfl rfl)
theorem dX4_laysMatch_95 : decode cX4_laysMatch 95 = .ok (.imul, 1) := dk_104 (dk_at dksX4_laysMatch_4 4 rfl rfl)
theorem dX4_laysMatch_96 : decode cX4_laysMatch 96 = .ok (.iload_n 2, 1) := dk_28 (dk_at dksX4_laysMatch_4 5 rfl rfl)
theorem dX4_laysMatch_97 : decode cX4_laysMatch 97 = .ok (.iadd, 1) := dk_96 (dk_at dksX4_laysMatch_4 6 rfl rfl)
theorem dX4_laysMatch_98 : decode cX4_laysMatch 98 = .ok (.iload_n 3, 1) := dk_29 (dk_at dksX4_laysMatch_4 7 rfl rfl)
theorem dX4_laysMatch_99 : decode cX4_laysMatch 99 = .ok (.iastore, 1) := dk_79 (dk_at dksX4_laysMatch_4 8 rfl rfl)
theorem dX4_laysMatch_100 : decode cX4_laysMatch 100 = .ok (.iinc 2 1, 3) := dk_132 2 1 (dk_at dksX4_laysMatch_4 9 rfl rfl)
theorem dX4_laysMatch_103 : decode cX4_laysMatch 103 = .ok (.goto (-90), 3) := dk_167 255 166 (dk_at dksX4_laysMatch_4 12 rfl rfl)
theorem dX4_laysMatch_106 : decode cX4_laysMatch 106 = .ok (.iinc 1 (-1), 3) := dk_132 1 255 (dk_at dksX4_laysMatch_4 15 rfl rfl)
theorem dX4_laysMatch_109 : decode cX4_laysMatch 109 = .ok (.goto (-102), 3) := dk_167 255 154 (dk_at dksX4_laysMatch_4 18 rfl rfl)
theorem dX4_laysMatch_112 : decode cX4_laysMatch 112 = .ok (.return_, 1) := dk_177 (dk_at dksX4_laysMatch_4 21 rfl rfl)
abbrev cX4_leastOf : ByteArray := prog_12_method_90_code
def yX4_leastOf : MethodName := ⟨RX4, "leastOf", "(II)I"⟩
def dkwX4_leastOf_1 : List UInt8 := [172]
abbrev dktX4_leastOf_1 : List UInt8 := dkwX4_leastOf_1 ++ []
def dkwX4_leastOf_0 : List UInt8 := [27, 42, 180, 1, 22, 160, 0, 7, 3, 167, 0, 15, 42, 180, 0, 81, 17, 1, 0, 27, 104, 28, 96, 46]
abbrev dktX4_leastOf_0 : List UInt8 := dkwX4_leastOf_0 ++ dktX4_leastOf_1
theorem dksX4_leastOf_0 : cX4_leastOf.data.toList.drop 0 = dktX4_leastOf_0 := by decide +kernel
theorem dksX4_leastOf_1 : cX4_leastOf.data.toList.drop 24 = dktX4_leastOf_1 := dk_seg dksX4_leastOf_0 24 rfl rfl
theorem dX4_leastOf_0 : decode cX4_leastOf 0 = .ok (.iload_n 1, 1) := dk_27 (dk_at dksX4_leastOf_0 0 rfl rfl)
theorem dX4_leastOf_1 : decode cX4_leastOf 1 = .ok (.aload_n 0, 1) := dk_42 (dk_at dksX4_leastOf_0 1 rfl rfl)
theorem dX4_leastOf_2 : decode cX4_leastOf 2 = .ok (.getfield 278, 3) := dk_180 1 22 (dk_at dksX4_leastOf_0 2 rfl rfl)
theorem dX4_leastOf_5 : decode cX4_leastOf 5 = .ok (.if_icmp .ne 7, 3) := dk_160 0 7 (dk_at dksX4_leastOf_0 5 rfl rfl)
theorem dX4_leastOf_8 : decode cX4_leastOf 8 = .ok (.iconst 0, 1) := dk_3 (dk_at dksX4_leastOf_0 8 rfl rfl)
theorem dX4_leastOf_9 : decode cX4_leastOf 9 = .ok (.goto 15, 3) := dk_167 0 15 (dk_at dksX4_leastOf_0 9 rfl rfl)
theorem dX4_leastOf_12 : decode cX4_leastOf 12 = .ok (.aload_n 0, 1) := dk_42 (dk_at dksX4_leastOf_0 12 rfl rfl)
theorem dX4_leastOf_13 : decode cX4_leastOf 13 = .ok (.getfield 81, 3) := dk_180 0 81 (dk_at dksX4_leastOf_0 13 rfl rfl)
theorem dX4_leastOf_16 : decode cX4_leastOf 16 = .ok (.sipush 256, 3) := dk_17 1 0 (dk_at dksX4_leastOf_0 16 rfl rfl)
theorem dX4_leastOf_19 : decode cX4_leastOf 19 = .ok (.iload_n 1, 1) := dk_27 (dk_at dksX4_leastOf_0 19 rfl rfl)
theorem dX4_leastOf_20 : decode cX4_leastOf 20 = .ok (.imul, 1) := dk_104 (dk_at dksX4_leastOf_0 20 rfl rfl)
theorem dX4_leastOf_21 : decode cX4_leastOf 21 = .ok (.iload_n 2, 1) := dk_28 (dk_at dksX4_leastOf_0 21 rfl rfl)
theorem dX4_leastOf_22 : decode cX4_leastOf 22 = .ok (.iadd, 1) := dk_96 (dk_at dksX4_leastOf_0 22 rfl rfl)
theorem dX4_leastOf_23 : decode cX4_leastOf 23 = .ok (.iaload, 1) := dk_46 (dk_at dksX4_leastOf_0 23 rfl rfl)
theorem dX4_leastOf_24 : decode cX4_leastOf 24 = .ok (.ireturn, 1) := dk_172 (dk_at dksX4_leastOf_1 0 rfl rfl)
abbrev cX4_wouldGo : ByteArray := prog_12_method_54_code
def yX4_wouldGo : MethodName := ⟨RX4, "wouldGo", "(III)Z"⟩
def dkwX4_wouldGo_1 : List UInt8 := [163, 0, 7, 4, 167, 0, 4, 3, 172]
abbrev dktX4_wouldGo_1 : List UInt8 := dkwX4_wouldGo_1 ++ []
def dkwX4_wouldGo_0 : List UInt8 := [42, 27, 29, 182, 1, 66, 154, 0, 24, 42, 27, 28, 29, 182, 1, 56, 42, 27, 28, 29, 182, 1, 70]
abbrev dktX4_wouldGo_0 : List UInt8 := dkwX4_wouldGo_0 ++ dktX4_wouldGo_1
theorem dksX4_wouldGo_0 : cX4_wouldGo.data.toList.drop 0 = dktX4_wouldGo_0 := by decide +kernel
theorem dksX4_wouldGo_1 : cX4_wouldGo.data.toList.drop 23 = dktX4_wouldGo_1 := dk_seg dksX4_wouldGo_0 23 rfl rfl
theorem dX4_wouldGo_0 : decode cX4_wouldGo 0 = .ok (.aload_n 0, 1) := dk_42 (dk_at dksX4_wouldGo_0 0 rfl rfl)
theorem dX4_wouldGo_1 : decode cX4_wouldGo 1 = .ok (.iload_n 1, 1) := dk_27 (dk_at dksX4_wouldGo_0 1 rfl rfl)
theorem dX4_wouldGo_2 : decode cX4_wouldGo 2 = .ok (.iload_n 3, 1) := dk_29 (dk_at dksX4_wouldGo_0 2 rfl rfl)
theorem dX4_wouldGo_3 : decode cX4_wouldGo 3 = .ok (.invokevirtual 322, 3) := dk_182 1 66 (dk_at dksX4_wouldGo_0 3 rfl rfl)
theorem dX4_wouldGo_6 : decode cX4_wouldGo 6 = .ok (.ifCond .ne 24, 3) := dk_154 0 24 (dk_at dksX4_wouldGo_0 6 rfl rfl)
theorem dX4_wouldGo_9 : decode cX4_wouldGo 9 = .ok (.aload_n 0, 1) := dk_42 (dk_at dksX4_wouldGo_0 9 rfl rfl)
theorem dX4_wouldGo_10 : decode cX4_wouldGo 10 = .ok (.iload_n 1, 1) := dk_27 (dk_at dksX4_wouldGo_0 10 rfl rfl)
theorem dX4_wouldGo_11 : decode cX4_wouldGo 11 = .ok (.iload_n 2, 1) := dk_28 (dk_at dksX4_wouldGo_0 11 rfl rfl)
theorem dX4_wouldGo_12 : decode cX4_wouldGo 12 = .ok (.iload_n 3, 1) := dk_29 (dk_at dksX4_wouldGo_0 12 rfl rfl)
theorem dX4_wouldGo_13 : decode cX4_wouldGo 13 = .ok (.invokevirtual 312, 3) := dk_182 1 56 (dk_at dksX4_wouldGo_0 13 rfl rfl)
theorem dX4_wouldGo_16 : decode cX4_wouldGo 16 = .ok (.aload_n 0, 1) := dk_42 (dk_at dksX4_wouldGo_0 16 rfl rfl)
theorem dX4_wouldGo_17 : decode cX4_wouldGo 17 = .ok (.iload_n 1, 1) := dk_27 (dk_at dksX4_wouldGo_0 17 rfl rfl)
theorem dX4_wouldGo_18 : decode cX4_wouldGo 18 = .ok (.iload_n 2, 1) := dk_28 (dk_at dksX4_wouldGo_0 18 rfl rfl)
theorem dX4_wouldGo_19 : decode cX4_wouldGo 19 = .ok (.iload_n 3, 1) := dk_29 (dk_at dksX4_wouldGo_0 19 rfl rfl)
theorem dX4_wouldGo_20 : decode cX4_wouldGo 20 = .ok (.invokevirtual 326, 3) := dk_182 1 70 (dk_at dksX4_wouldGo_0 20 rfl rfl)
theorem dX4_wouldGo_23 : decode cX4_wouldGo 23 = .ok (.if_icmp .gt 7, 3) := dk_163 0 7 (dk_at dksX4_wouldGo_1 0 rfl rfl)
theorem dX4_wouldGo_26 : decode cX4_wouldGo 26 = .ok (.iconst 1, 1) := dk_4 (dk_at dksX4_wouldGo_1 3 rfl rfl)
theorem dX4_wouldGo_27 : decode cX4_wouldGo 27 = .ok (.goto 4, 3) := dk_167 0 4 (dk_at dksX4_wouldGo_1 4 rfl rfl)
theorem dX4_wouldGo_30 : decode cX4_wouldGo 30 = .ok (.iconst 0, 1) := dk_3 (dk_at dksX4_wouldGo_1 7 rfl rfl)
theorem dX4_wouldGo_31 : decode cX4_wouldGo 31 = .ok (.ireturn, 1) := dk_172 (dk_at dksX4_wouldGo_1 8 rfl rfl)
abbrev cX4_isBurst : ByteArray := prog_12_method_53_code
def yX4_isBurst : MethodName := ⟨RX4, "isBurst", "(II)Z"⟩
def dkwX4_isBurst_0 : List UInt8 := [42, 180, 0, 66, 27, 4, 96, 46, 28, 122, 4, 126, 4, 160, 0, 7, 4, 167, 0, 4, 3, 172]
abbrev dktX4_isBurst_0 : List UInt8 := dkwX4_isBurst_0 ++ []
theorem dksX4_isBurst_0 : cX4_isBurst.data.toList.drop 0 = dktX4_isBurst_0 := by decide +kernel
theorem dX4_isBurst_0 : decode cX4_isBurst 0 = .ok (.aload_n 0, 1) := dk_42 (dk_at dksX4_isBurst_0 0 rfl rfl)
theorem dX4_isBurst_1 : decode cX4_isBurst 1 = .ok (.getfield 66, 3) := dk_180 0 66 (dk_at dksX4_isBurst_0 1 rfl rfl)
theorem dX4_isBurst_4 : decode cX4_isBurst 4 = .ok (.iload_n 1, 1) := dk_27 (dk_at dksX4_isBurst_0 4 rfl rfl)
theorem dX4_isBurst_5 : decode cX4_isBurst 5 = .ok (.iconst 1, 1) := dk_4 (dk_at dksX4_isBurst_0 5 rfl rfl)
theorem dX4_isBurst_6 : decode cX4_isBurst 6 = .ok (.iadd, 1) := dk_96 (dk_at dksX4_isBurst_0 6 rfl rfl)
theorem dX4_isBurst_7 : decode cX4_isBurst 7 = .ok (.iaload, 1) := dk_46 (dk_at dksX4_isBurst_0 7 rfl rfl)
theorem dX4_isBurst_8 : decode cX4_isBurst 8 = .ok (.iload_n 2, 1) := dk_28 (dk_at dksX4_isBurst_0 8 rfl rfl)
theorem dX4_isBurst_9 : decode cX4_isBurst 9 = .ok (.ishr, 1) := dk_122 (dk_at dksX4_isBurst_0 9 rfl rfl)
theorem dX4_isBurst_10 : decode cX4_isBurst 10 = .ok (.iconst 1, 1) := dk_4 (dk_at dksX4_isBurst_0 10 rfl rfl)
theorem dX4_isBurst_11 : decode cX4_isBurst 11 = .ok (.iand, 1) := dk_126 (dk_at dksX4_isBurst_0 11 rfl rfl)
theorem dX4_isBurst_12 : decode cX4_isBurst 12 = .ok (.iconst 1, 1) := dk_4 (dk_at dksX4_isBurst_0 12 rfl rfl)
theorem dX4_isBurst_13 : decode cX4_isBurst 13 = .ok (.if_icmp .ne 7, 3) := dk_160 0 7 (dk_at dksX4_isBurst_0 13 rfl rfl)
theorem dX4_isBurst_16 : decode cX4_isBurst 16 = .ok (.iconst 1, 1) := dk_4 (dk_at dksX4_isBurst_0 16 rfl rfl)
theorem dX4_isBurst_17 : decode cX4_isBurst 17 = .ok (.goto 4, 3) := dk_167 0 4 (dk_at dksX4_isBurst_0 17 rfl rfl)
theorem dX4_isBurst_20 : decode cX4_isBurst 20 = .ok (.iconst 0, 1) := dk_3 (dk_at dksX4_isBurst_0 20 rfl rfl)
theorem dX4_isBurst_21 : decode cX4_isBurst 21 = .ok (.ireturn, 1) := dk_172 (dk_at dksX4_isBurst_0 21 rfl rfl)
abbrev cX4_easesOf : ByteArray := prog_12_method_52_code
def yX4_easesOf : MethodName := ⟨RX4, "easesOf", "(III)I"⟩
def dkwX4_easesOf_2 : List UInt8 := [182, 1, 62, 3, 16, 30, 184, 1, 50, 172]
abbrev dktX4_easesOf_2 : List UInt8 := dkwX4_easesOf_2 ++ []
def dkwX4_easesOf_1 : List UInt8 := [27, 16, 11, 96, 29, 96, 46, 16, 10, 108, 96, 167, 0, 14, 42, 42, 180, 0, 9, 27, 28, 29]
abbrev dktX4_easesOf_1 : List UInt8 := dkwX4_easesOf_1 ++ dktX4_easesOf_2
def dkwX4_easesOf_0 : List UInt8 := [42, 180, 0, 9, 2, 160, 0, 33, 42, 180, 0, 16, 29, 46, 42, 27, 182, 1, 53, 96, 42, 180, 0, 66]
abbrev dktX4_easesOf_0 : List UInt8 := dkwX4_easesOf_0 ++ dktX4_easesOf_1
theorem dksX4_easesOf_0 : cX4_easesOf.data.toList.drop 0 = dktX4_easesOf_0 := by decide +kernel
theorem dksX4_easesOf_1 : cX4_easesOf.data.toList.drop 24 = dktX4_easesOf_1 := dk_seg dksX4_easesOf_0 24 rfl rfl
theorem dksX4_easesOf_2 : cX4_easesOf.data.toList.drop 46 = dktX4_easesOf_2 := dk_seg dksX4_easesOf_1 22 rfl rfl
theorem dX4_easesOf_0 : decode cX4_easesOf 0 = .ok (.aload_n 0, 1) := dk_42 (dk_at dksX4_easesOf_0 0 rfl rfl)
theorem dX4_easesOf_1 : decode cX4_easesOf 1 = .ok (.getfield 9, 3) := dk_180 0 9 (dk_at dksX4_easesOf_0 1 rfl rfl)
theorem dX4_easesOf_4 : decode cX4_easesOf 4 = .ok (.iconst (-1), 1) := dk_2 (dk_at dksX4_easesOf_0 4 rfl rfl)
theorem dX4_easesOf_5 : decode cX4_easesOf 5 = .ok (.if_icmp .ne 33, 3) := dk_160 0 33 (dk_at dksX4_easesOf_0 5 rfl rfl)
theorem dX4_easesOf_8 : decode cX4_easesOf 8 = .ok (.aload_n 0, 1) := dk_42 (dk_at dksX4_easesOf_0 8 rfl rfl)
theorem dX4_easesOf_9 : decode cX4_easesOf 9 = .ok (.getfield 16, 3) := dk_180 0 16 (dk_at dksX4_easesOf_0 9 rfl rfl)
theorem dX4_easesOf_12 : decode cX4_easesOf 12 = .ok (.iload_n 3, 1) := dk_29 (dk_at dksX4_easesOf_0 12 rfl rfl)
theorem dX4_easesOf_13 : decode cX4_easesOf 13 = .ok (.iaload, 1) := dk_46 (dk_at dksX4_easesOf_0 13 rfl rfl)
theorem dX4_easesOf_14 : decode cX4_easesOf 14 = .ok (.aload_n 0, 1) := dk_42 (dk_at dksX4_easesOf_0 14 rfl rfl)
theorem dX4_easesOf_15 : decode cX4_easesOf 15 = .ok (.iload_n 1, 1) := dk_27 (dk_at dksX4_easesOf_0 15 rfl rfl)
theorem dX4_easesOf_16 : decode cX4_easesOf 16 = .ok (.invokevirtual 309, 3) := dk_182 1 53 (dk_at dksX4_easesOf_0 16 rfl rfl)
theorem dX4_easesOf_19 : decode cX4_easesOf 19 = .ok (.iadd, 1) := dk_96 (dk_at dksX4_easesOf_0 19 rfl rfl)
theorem dX4_easesOf_20 : decode cX4_easesOf 20 = .ok (.aload_n 0, 1) := dk_42 (dk_at dksX4_easesOf_0 20 rfl rfl)
theorem dX4_easesOf_21 : decode cX4_easesOf 21 = .ok (.getfield 66, 3) := dk_180 0 66 (dk_at dksX4_easesOf_0 21 rfl rfl)
theorem dX4_easesOf_24 : decode cX4_easesOf 24 = .ok (.iload_n 1, 1) := dk_27 (dk_at dksX4_easesOf_1 0 rfl rfl)
theorem dX4_easesOf_25 : decode cX4_easesOf 25 = .ok (.bipush 11, 2) := dk_16 11 (dk_at dksX4_easesOf_1 1 rfl rfl)
theorem dX4_easesOf_27 : decode cX4_easesOf 27 = .ok (.iadd, 1) := dk_96 (dk_at dksX4_easesOf_1 3 rfl rfl)
theorem dX4_easesOf_28 : decode cX4_easesOf 28 = .ok (.iload_n 3, 1) := dk_29 (dk_at dksX4_easesOf_1 4 rfl rfl)
theorem dX4_easesOf_29 : decode cX4_easesOf 29 = .ok (.iadd, 1) := dk_96 (dk_at dksX4_easesOf_1 5 rfl rfl)
theorem dX4_easesOf_30 : decode cX4_easesOf 30 = .ok (.iaload, 1) := dk_46 (dk_at dksX4_easesOf_1 6 rfl rfl)
theorem dX4_easesOf_31 : decode cX4_easesOf 31 = .ok (.bipush 10, 2) := dk_16 10 (dk_at dksX4_easesOf_1 7 rfl rfl)
theorem dX4_easesOf_33 : decode cX4_easesOf 33 = .ok (.idiv, 1) := dk_108 (dk_at dksX4_easesOf_1 9 rfl rfl)
theorem dX4_easesOf_34 : decode cX4_easesOf 34 = .ok (.iadd, 1) := dk_96 (dk_at dksX4_easesOf_1 10 rfl rfl)
theorem dX4_easesOf_35 : decode cX4_easesOf 35 = .ok (.goto 14, 3) := dk_167 0 14 (dk_at dksX4_easesOf_1 11 rfl rfl)
theorem dX4_easesOf_38 : decode cX4_easesOf 38 = .ok (.aload_n 0, 1) := dk_42 (dk_at dksX4_easesOf_1 14 rfl rfl)
theorem dX4_easesOf_39 : decode cX4_easesOf 39 = .ok (.aload_n 0, 1) := dk_42 (dk_at dksX4_easesOf_1 15 rfl rfl)
theorem dX4_easesOf_40 : decode cX4_easesOf 40 = .ok (.getfield 9, 3) := dk_180 0 9 (dk_at dksX4_easesOf_1 16 rfl rfl)
theorem dX4_easesOf_43 : decode cX4_easesOf 43 = .ok (.iload_n 1, 1) := dk_27 (dk_at dksX4_easesOf_1 19 rfl rfl)
theorem dX4_easesOf_44 : decode cX4_easesOf 44 = .ok (.iload_n 2, 1) := dk_28 (dk_at dksX4_easesOf_1 20 rfl rfl)
theorem dX4_easesOf_45 : decode cX4_easesOf 45 = .ok (.iload_n 3, 1) := dk_29 (dk_at dksX4_easesOf_1 21 rfl rfl)
theorem dX4_easesOf_46 : decode cX4_easesOf 46 = .ok (.invokevirtual 318, 3) := dk_182 1 62 (dk_at dksX4_easesOf_2 0 rfl rfl)
theorem dX4_easesOf_49 : decode cX4_easesOf 49 = .ok (.iconst 0, 1) := dk_3 (dk_at dksX4_easesOf_2 3 rfl rfl)
theorem dX4_easesOf_50 : decode cX4_easesOf 50 = .ok (.bipush 30, 2) := dk_16 30 (dk_at dksX4_easesOf_2 4 rfl rfl)
theorem dX4_easesOf_52 : decode cX4_easesOf 52 = .ok (.invokestatic 306, 3) := dk_184 1 50 (dk_at dksX4_easesOf_2 6 rfl rfl)
theorem dX4_easesOf_55 : decode cX4_easesOf 55 = .ok (.ireturn, 1) := dk_172 (dk_at dksX4_easesOf_2 9 rfl rfl)
abbrev cX4_asks : ByteArray := prog_12_method_51_code
def yX4_asks : MethodName := ⟨RX4, "asks", "(IIII)I"⟩
def dkwX4_asks_4 : List UInt8 := [16, 6, 42, 28, 29, 21, 4, 182, 1, 56, 79, 42, 27, 182, 1, 59, 172]
abbrev dktX4_asks_4 : List UInt8 := dkwX4_asks_4 ++ []
def dkwX4_asks_3 : List UInt8 := [28, 182, 1, 53, 79, 42, 180, 0, 72, 8, 42, 180, 0, 66, 28, 3, 96, 46, 79, 42, 180, 0, 72]
abbrev dktX4_asks_3 : List UInt8 := dkwX4_asks_3 ++ dktX4_asks_4
def dkwX4_asks_2 : List UInt8 := [42, 180, 0, 72, 6, 42, 180, 0, 66, 28, 16, 11, 96, 21, 4, 96, 46, 79, 42, 180, 0, 72, 7, 42]
abbrev dktX4_asks_2 : List UInt8 := dkwX4_asks_2 ++ dktX4_asks_3
def dkwX4_asks_1 : List UInt8 := [180, 0, 66, 28, 6, 96, 21, 4, 96, 46, 79, 42, 180, 0, 72, 5, 42, 180, 0, 16, 21, 4, 46, 79]
abbrev dktX4_asks_1 : List UInt8 := dkwX4_asks_1 ++ dktX4_asks_2
def dkwX4_asks_0 : List UInt8 := [42, 180, 0, 72, 3, 42, 180, 0, 66, 28, 16, 27, 96, 29, 96, 46, 79, 42, 180, 0, 72, 4, 42]
abbrev dktX4_asks_0 : List UInt8 := dkwX4_asks_0 ++ dktX4_asks_1
theorem dksX4_asks_0 : cX4_asks.data.toList.drop 0 = dktX4_asks_0 := by decide +kernel
theorem dksX4_asks_1 : cX4_asks.data.toList.drop 23 = dktX4_asks_1 := dk_seg dksX4_asks_0 23 rfl rfl
theorem dksX4_asks_2 : cX4_asks.data.toList.drop 47 = dktX4_asks_2 := dk_seg dksX4_asks_1 24 rfl rfl
theorem dksX4_asks_3 : cX4_asks.data.toList.drop 71 = dktX4_asks_3 := dk_seg dksX4_asks_2 24 rfl rfl
theorem dksX4_asks_4 : cX4_asks.data.toList.drop 94 = dktX4_asks_4 := dk_seg dksX4_asks_3 23 rfl rfl
theorem dX4_asks_0 : decode cX4_asks 0 = .ok (.aload_n 0, 1) := dk_42 (dk_at dksX4_asks_0 0 rfl rfl)
theorem dX4_asks_1 : decode cX4_asks 1 = .ok (.getfield 72, 3) := dk_180 0 72 (dk_at dksX4_asks_0 1 rfl rfl)
theorem dX4_asks_4 : decode cX4_asks 4 = .ok (.iconst 0, 1) := dk_3 (dk_at dksX4_asks_0 4 rfl rfl)
theorem dX4_asks_5 : decode cX4_asks 5 = .ok (.aload_n 0, 1) := dk_42 (dk_at dksX4_asks_0 5 rfl rfl)
theorem dX4_asks_6 : decode cX4_asks 6 = .ok (.getfield 66, 3) := dk_180 0 66 (dk_at dksX4_asks_0 6 rfl rfl)
theorem dX4_asks_9 : decode cX4_asks 9 = .ok (.iload_n 2, 1) := dk_28 (dk_at dksX4_asks_0 9 rfl rfl)
theorem dX4_asks_10 : decode cX4_asks 10 = .ok (.bipush 27, 2) := dk_16 27 (dk_at dksX4_asks_0 10 rfl rfl)
theorem dX4_asks_12 : decode cX4_asks 12 = .ok (.iadd, 1) := dk_96 (dk_at dksX4_asks_0 12 rfl rfl)
theorem dX4_asks_13 : decode cX4_asks 13 = .ok (.iload_n 3, 1) := dk_29 (dk_at dksX4_asks_0 13 rfl rfl)
theorem dX4_asks_14 : decode cX4_asks 14 = .ok (.iadd, 1) := dk_96 (dk_at dksX4_asks_0 14 rfl rfl)
theorem dX4_asks_15 : decode cX4_asks 15 = .ok (.iaload, 1) := dk_46 (dk_at dksX4_asks_0 15 rfl rfl)
theorem dX4_asks_16 : decode cX4_asks 16 = .ok (.iastore, 1) := dk_79 (dk_at dksX4_asks_0 16 rfl rfl)
theorem dX4_asks_17 : decode cX4_asks 17 = .ok (.aload_n 0, 1) := dk_42 (dk_at dksX4_asks_0 17 rfl rfl)
theorem dX4_asks_18 : decode cX4_asks 18 = .ok (.getfield 72, 3) := dk_180 0 72 (dk_at dksX4_asks_0 18 rfl rfl)
theorem dX4_asks_21 : decode cX4_asks 21 = .ok (.iconst 1, 1) := dk_4 (dk_at dksX4_asks_0 21 rfl rfl)
theorem dX4_asks_22 : decode cX4_asks 22 = .ok (.aload_n 0, 1) := dk_42 (dk_at dksX4_asks_0 22 rfl rfl)
theorem dX4_asks_23 : decode cX4_asks 23 = .ok (.getfield 66, 3) := dk_180 0 66 (dk_at dksX4_asks_1 0 rfl rfl)
theorem dX4_asks_26 : decode cX4_asks 26 = .ok (.iload_n 2, 1) := dk_28 (dk_at dksX4_asks_1 3 rfl rfl)
theorem dX4_asks_27 : decode cX4_asks 27 = .ok (.iconst 3, 1) := dk_6 (dk_at dksX4_asks_1 4 rfl rfl)
theorem dX4_asks_28 : decode cX4_asks 28 = .ok (.iadd, 1) := dk_96 (dk_at dksX4_asks_1 5 rfl rfl)
theorem dX4_asks_29 : decode cX4_asks 29 = .ok (.iload 4, 2) := dk_21 4 (dk_at dksX4_asks_1 6 rfl rfl)
theorem dX4_asks_31 : decode cX4_asks 31 = .ok (.iadd, 1) := dk_96 (dk_at dksX4_asks_1 8 rfl rfl)
theorem dX4_asks_32 : decode cX4_asks 32 = .ok (.iaload, 1) := dk_46 (dk_at dksX4_asks_1 9 rfl rfl)
theorem dX4_asks_33 : decode cX4_asks 33 = .ok (.iastore, 1) := dk_79 (dk_at dksX4_asks_1 10 rfl rfl)
theorem dX4_asks_34 : decode cX4_asks 34 = .ok (.aload_n 0, 1) := dk_42 (dk_at dksX4_asks_1 11 rfl rfl)
theorem dX4_asks_35 : decode cX4_asks 35 = .ok (.getfield 72, 3) := dk_180 0 72 (dk_at dksX4_asks_1 12 rfl rfl)
theorem dX4_asks_38 : decode cX4_asks 38 = .ok (.iconst 2, 1) := dk_5 (dk_at dksX4_asks_1 15 rfl rfl)
theorem dX4_asks_39 : decode cX4_asks 39 = .ok (.aload_n 0, 1) := dk_42 (dk_at dksX4_asks_1 16 rfl rfl)
theorem dX4_asks_40 : decode cX4_asks 40 = .ok (.getfield 16, 3) := dk_180 0 16 (dk_at dksX4_asks_1 17 rfl rfl)
theorem dX4_asks_43 : decode cX4_asks 43 = .ok (.iload 4, 2) := dk_21 4 (dk_at dksX4_asks_1 20 rfl rfl)
theorem dX4_asks_45 : decode cX4_asks 45 = .ok (.iaload, 1) := dk_46 (dk_at dksX4_asks_1 22 rfl rfl)
theorem dX4_asks_46 : decode cX4_asks 46 = .ok (.iastore, 1) := dk_79 (dk_at dksX4_asks_1 23 rfl rfl)
theorem dX4_asks_47 : decode cX4_asks 47 = .ok (.aload_n 0, 1) := dk_42 (dk_at dksX4_asks_2 0 rfl rfl)
theorem dX4_asks_48 : decode cX4_asks 48 = .ok (.getfield 72, 3) := dk_180 0 72 (dk_at dksX4_asks_2 1 rfl rfl)
theorem dX4_asks_51 : decode cX4_asks 51 = .ok (.iconst 3, 1) := dk_6 (dk_at dksX4_asks_2 4 rfl rfl)
theorem dX4_asks_52 : decode cX4_asks 52 = .ok (.aload_n 0, 1) := dk_42 (dk_at dksX4_asks_2 5 rfl rfl)
theorem dX4_asks_53 : decode cX4_asks 53 = .ok (.getfield 66, 3) := dk_180 0 66 (dk_at dksX4_asks_2 6 rfl rfl)
theorem dX4_asks_56 : decode cX4_asks 56 = .ok (.iload_n 2, 1) := dk_28 (dk_at dksX4_asks_2 9 rfl rfl)
theorem dX4_asks_57 : decode cX4_asks 57 = .ok (.bipush 11, 2) := dk_16 11 (dk_at dksX4_asks_2 10 rfl rfl)
theorem dX4_asks_59 : decode cX4_asks 59 = .ok (.iadd, 1) := dk_96 (dk_at dksX4_asks_2 12 rfl rfl)
theorem dX4_asks_60 : decode cX4_asks 60 = .ok (.iload 4, 2) := dk_21 4 (dk_at dksX4_asks_2 13 rfl rfl)
theorem dX4_asks_62 : decode cX4_asks 62 = .ok (.iadd, 1) := dk_96 (dk_at dksX4_asks_2 15 rfl rfl)
theorem dX4_asks_63 : decode cX4_asks 63 = .ok (.iaload, 1) := dk_46 (dk_at dksX4_asks_2 16 rfl rfl)
theorem dX4_asks_64 : decode cX4_asks 64 = .ok (.iastore, 1) := dk_79 (dk_at dksX4_asks_2 17 rfl rfl)
theorem dX4_asks_65 : decode cX4_asks 65 = .ok (.aload_n 0, 1) := dk_42 (dk_at dksX4_asks_2 18 rfl rfl)
theorem dX4_asks_66 : decode cX4_asks 66 = .ok (.getfield 72, 3) := dk_180 0 72 (dk_at dksX4_asks_2 19 rfl rfl)
theorem dX4_asks_69 : decode cX4_asks 69 = .ok (.iconst 4, 1) := dk_7 (dk_at dksX4_asks_2 22 rfl rfl)
theorem dX4_asks_70 : decode cX4_asks 70 = .ok (.aload_n 0, 1) := dk_42 (dk_at dksX4_asks_2 23 rfl rfl)
theorem dX4_asks_71 : decode cX4_asks 71 = .ok (.iload_n 2, 1) := dk_28 (dk_at dksX4_asks_3 0 rfl rfl)
theorem dX4_asks_72 : decode cX4_asks 72 = .ok (.invokevirtual 309, 3) := dk_182 1 53 (dk_at dksX4_asks_3 1 rfl rfl)
theorem dX4_asks_75 : decode cX4_asks 75 = .ok (.iastore, 1) := dk_79 (dk_at dksX4_asks_3 4 rfl rfl)
theorem dX4_asks_76 : decode cX4_asks 76 = .ok (.aload_n 0, 1) := dk_42 (dk_at dksX4_asks_3 5 rfl rfl)
theorem dX4_asks_77 : decode cX4_asks 77 = .ok (.getfield 72, 3) := dk_180 0 72 (dk_at dksX4_asks_3 6 rfl rfl)
theorem dX4_asks_80 : decode cX4_asks 80 = .ok (.iconst 5, 1) := dk_8 (dk_at dksX4_asks_3 9 rfl rfl)
theorem dX4_asks_81 : decode cX4_asks 81 = .ok (.aload_n 0, 1) := dk_42 (dk_at dksX4_asks_3 10 rfl rfl)
theorem dX4_asks_82 : decode cX4_asks 82 = .ok (.getfield 66, 3) := dk_180 0 66 (dk_at dksX4_asks_3 11 rfl rfl)
theorem dX4_asks_85 : decode cX4_asks 85 = .ok (.iload_n 2, 1) := dk_28 (dk_at dksX4_asks_3 14 rfl rfl)
theorem dX4_asks_86 : decode cX4_asks 86 = .ok (.iconst 0, 1) := dk_3 (dk_at dksX4_asks_3 15 rfl rfl)
theorem dX4_asks_87 : decode cX4_asks 87 = .ok (.iadd, 1) := dk_96 (dk_at dksX4_asks_3 16 rfl rfl)
theorem dX4_asks_88 : decode cX4_asks 88 = .ok (.iaload, 1) := dk_46 (dk_at dksX4_asks_3 17 rfl rfl)
theorem dX4_asks_89 : decode cX4_asks 89 = .ok (.iastore, 1) := dk_79 (dk_at dksX4_asks_3 18 rfl rfl)
theorem dX4_asks_90 : decode cX4_asks 90 = .ok (.aload_n 0, 1) := dk_42 (dk_at dksX4_asks_3 19 rfl rfl)
theorem dX4_asks_91 : decode cX4_asks 91 = .ok (.getfield 72, 3) := dk_180 0 72 (dk_at dksX4_asks_3 20 rfl rfl)
theorem dX4_asks_94 : decode cX4_asks 94 = .ok (.bipush 6, 2) := dk_16 6 (dk_at dksX4_asks_4 0 rfl rfl)
theorem dX4_asks_96 : decode cX4_asks 96 = .ok (.aload_n 0, 1) := dk_42 (dk_at dksX4_asks_4 2 rfl rfl)
theorem dX4_asks_97 : decode cX4_asks 97 = .ok (.iload_n 2, 1) := dk_28 (dk_at dksX4_asks_4 3 rfl rfl)
theorem dX4_asks_98 : decode cX4_asks 98 = .ok (.iload_n 3, 1) := dk_29 (dk_at dksX4_asks_4 4 rfl rfl)
theorem dX4_asks_99 : decode cX4_asks 99 = .ok (.iload 4, 2) := dk_21 4 (dk_at dksX4_asks_4 5 rfl rfl)
theorem dX4_asks_101 : decode cX4_asks 101 = .ok (.invokevirtual 312, 3) := dk_182 1 56 (dk_at dksX4_asks_4 7 rfl rfl)
theorem dX4_asks_104 : decode cX4_asks 104 = .ok (.iastore, 1) := dk_79 (dk_at dksX4_asks_4 10 rfl rfl)
theorem dX4_asks_105 : decode cX4_asks 105 = .ok (.aload_n 0, 1) := dk_42 (dk_at dksX4_asks_4 11 rfl rfl)
theorem dX4_asks_106 : decode cX4_asks 106 = .ok (.iload_n 1, 1) := dk_27 (dk_at dksX4_asks_4 12 rfl rfl)
theorem dX4_asks_107 : decode cX4_asks 107 = .ok (.invokevirtual 315, 3) := dk_182 1 59 (dk_at dksX4_asks_4 13 rfl rfl)
theorem dX4_asks_110 : decode cX4_asks 110 = .ok (.ireturn, 1) := dk_172 (dk_at dksX4_asks_4 16 rfl rfl)
abbrev cX4_reckons : ByteArray := prog_12_method_47_code
def yX4_reckons : MethodName := ⟨RX4, "reckons", "(I)I"⟩
def dkwX4_reckons_6 : List UInt8 := [42, 180, 0, 75, 3, 46, 172]
abbrev dktX4_reckons_6 : List UInt8 := dkwX4_reckons_6 ++ []
def dkwX4_reckons_5 : List UInt8 := [100, 21, 4, 42, 180, 0, 75, 28, 4, 100, 46, 42, 180, 0, 75, 28, 46, 184, 1, 42, 79, 167, 255, 120]
abbrev dktX4_reckons_5 : List UInt8 := dkwX4_reckons_5 ++ dktX4_reckons_6
def dkwX4_reckons_4 : List UInt8 := [4, 100, 46, 154, 0, 7, 4, 167, 0, 4, 3, 79, 167, 0, 33, 132, 2, 255, 42, 180, 0, 75, 28, 4]
abbrev dktX4_reckons_4 : List UInt8 := dkwX4_reckons_4 ++ dktX4_reckons_5
def dkwX4_reckons_3 : List UInt8 := [132, 2, 1, 167, 0, 66, 21, 4, 6, 160, 0, 30, 42, 180, 0, 75, 28, 4, 100, 42, 180, 0, 75, 28]
abbrev dktX4_reckons_3 : List UInt8 := dkwX4_reckons_3 ++ dktX4_reckons_4
def dkwX4_reckons_2 : List UInt8 := [180, 0, 29, 29, 46, 167, 0, 14, 42, 180, 0, 72, 42, 180, 0, 29, 29, 46, 46, 79, 132, 3, 1]
abbrev dktX4_reckons_2 : List UInt8 := dkwX4_reckons_2 ++ dktX4_reckons_3
def dkwX4_reckons_1 : List UInt8 := [21, 4, 4, 159, 0, 9, 21, 4, 5, 160, 0, 44, 42, 180, 0, 75, 28, 21, 4, 4, 160, 0, 12, 42]
abbrev dktX4_reckons_1 : List UInt8 := dkwX4_reckons_1 ++ dktX4_reckons_2
def dkwX4_reckons_0 : List UInt8 := [3, 61, 27, 62, 42, 180, 0, 29, 29, 46, 153, 0, 133, 42, 180, 0, 29, 29, 46, 54, 4, 132, 3, 1]
abbrev dktX4_reckons_0 : List UInt8 := dkwX4_reckons_0 ++ dktX4_reckons_1
theorem dksX4_reckons_0 : cX4_reckons.data.toList.drop 0 = dktX4_reckons_0 := by decide +kernel
theorem dksX4_reckons_1 : cX4_reckons.data.toList.drop 24 = dktX4_reckons_1 := dk_seg dksX4_reckons_0 24 rfl rfl
theorem dksX4_reckons_2 : cX4_reckons.data.toList.drop 48 = dktX4_reckons_2 := dk_seg dksX4_reckons_1 24 rfl rfl
theorem dksX4_reckons_3 : cX4_reckons.data.toList.drop 71 = dktX4_reckons_3 := dk_seg dksX4_reckons_2 23 rfl rfl
theorem dksX4_reckons_4 : cX4_reckons.data.toList.drop 95 = dktX4_reckons_4 := dk_seg dksX4_reckons_3 24 rfl rfl
theorem dksX4_reckons_5 : cX4_reckons.data.toList.drop 119 = dktX4_reckons_5 := dk_seg dksX4_reckons_4 24 rfl rfl
theorem dksX4_reckons_6 : cX4_reckons.data.toList.drop 143 = dktX4_reckons_6 := dk_seg dksX4_reckons_5 24 rfl rfl
theorem dX4_reckons_0 : decode cX4_reckons 0 = .ok (.iconst 0, 1) := dk_3 (dk_at dksX4_reckons_0 0 rfl rfl)
theorem dX4_reckons_1 : decode cX4_reckons 1 = .ok (.istore_n 2, 1) := dk_61 (dk_at dksX4_reckons_0 1 rfl rfl)
theorem dX4_reckons_2 : decode cX4_reckons 2 = .ok (.iload_n 1, 1) := dk_27 (dk_at dksX4_reckons_0 2 rfl rfl)
theorem dX4_reckons_3 : decode cX4_reckons 3 = .ok (.istore_n 3, 1) := dk_62 (dk_at dksX4_reckons_0 3 rfl rfl)
theorem dX4_reckons_4 : decode cX4_reckons 4 = .ok (.aload_n 0, 1) := dk_42 (dk_at dksX4_reckons_0 4 rfl rfl)
theorem dX4_reckons_5 : decode cX4_reckons 5 = .ok (.getfield 29, 3) := dk_180 0 29 (dk_at dksX4_reckons_0 5 rfl rfl)
theorem dX4_reckons_8 : decode cX4_reckons 8 = .ok (.iload_n 3, 1) := dk_29 (dk_at dksX4_reckons_0 8 rfl rfl)
theorem dX4_reckons_9 : decode cX4_reckons 9 = .ok (.iaload, 1) := dk_46 (dk_at dksX4_reckons_0 9 rfl rfl)
theorem dX4_reckons_10 : decode cX4_reckons 10 = .ok (.ifCond .eq 133, 3) := dk_153 0 133 (dk_at dksX4_reckons_0 10 rfl rfl)
theorem dX4_reckons_13 : decode cX4_reckons 13 = .ok (.aload_n 0, 1) := dk_42 (dk_at dksX4_reckons_0 13 rfl rfl)
theorem dX4_reckons_14 : decode cX4_reckons 14 = .ok (.getfield 29, 3) := dk_180 0 29 (dk_at dksX4_reckons_0 14 rfl rfl)
theorem dX4_reckons_17 : decode cX4_reckons 17 = .ok (.iload_n 3, 1) := dk_29 (dk_at dksX4_reckons_0 17 rfl rfl)
theorem dX4_reckons_18 : decode cX4_reckons 18 = .ok (.iaload, 1) := dk_46 (dk_at dksX4_reckons_0 18 rfl rfl)
theorem dX4_reckons_19 : decode cX4_reckons 19 = .ok (.istore 4, 2) := dk_54 4 (dk_at dksX4_reckons_0 19 rfl rfl)
theorem dX4_reckons_21 : decode cX4_reckons 21 = .ok (.iinc 3 1, 3) := dk_132 3 1 (dk_at dksX4_reckons_0 21 rfl rfl)
theorem dX4_reckons_24 : decode cX4_reckons 24 = .ok (.iload 4, 2) := dk_21 4 (dk_at dksX4_reckons_1 0 rfl rfl)
theorem dX4_reckons_26 : decode cX4_reckons 26 = .ok (.iconst 1, 1) := dk_4 (dk_at dksX4_reckons_1 2 rfl rfl)
theorem dX4_reckons_27 : decode cX4_reckons 27 = .ok (.if_icmp .eq 9, 3) := dk_159 0 9 (dk_at dksX4_reckons_1 3 rfl rfl)
theorem dX4_reckons_30 : decode cX4_reckons 30 = .ok (.iload 4, 2) := dk_21 4 (dk_at dksX4_reckons_1 6 rfl rfl)
theorem dX4_reckons_32 : decode cX4_reckons 32 = .ok (.iconst 2, 1) := dk_5 (dk_at dksX4_reckons_1 8 rfl rfl)
theorem dX4_reckons_33 : decode cX4_reckons 33 = .ok (.if_icmp .ne 44, 3) := dk_160 0 44 (dk_at dksX4_reckons_1 9 rfl rfl)
theorem dX4_reckons_36 : decode cX4_reckons 36 = .ok (.aload_n 0, 1) := dk_42 (dk_at dksX4_reckons_1 12 rfl rfl)
theorem dX4_reckons_37 : decode cX4_reckons 37 = .ok (.getfield 75, 3) := dk_180 0 75 (dk_at dksX4_reckons_1 13 rfl rfl)
theorem dX4_reckons_40 : decode cX4_reckons 40 = .ok (.iload_n 2, 1) := dk_28 (dk_at dksX4_reckons_1 16 rfl rfl)
theorem dX4_reckons_41 : decode cX4_reckons 41 = .ok (.iload 4, 2) := dk_21 4 (dk_at dksX4_reckons_1 17 rfl rfl)
theorem dX4_reckons_43 : decode cX4_reckons 43 = .ok (.iconst 1, 1) := dk_4 (dk_at dksX4_reckons_1 19 rfl rfl)
theorem dX4_reckons_44 : decode cX4_reckons 44 = .ok (.if_icmp .ne 12, 3) := dk_160 0 12 (dk_at dksX4_reckons_1 20 rfl rfl)
theorem dX4_reckons_47 : decode cX4_reckons 47 = .ok (.aload_n 0, 1) := dk_42 (dk_at dksX4_reckons_1 23 rfl rfl)
theorem dX4_reckons_48 : decode cX4_reckons 48 = .ok (.getfield 29, 3) := dk_180 0 29 (dk_at dksX4_reckons_2 0 rfl rfl)
theorem dX4_reckons_51 : decode cX4_reckons 51 = .ok (.iload_n 3, 1) := dk_29 (dk_at dksX4_reckons_2 3 rfl rfl)
theorem dX4_reckons_52 : decode cX4_reckons 52 = .ok (.iaload, 1) := dk_46 (dk_at dksX4_reckons_2 4 rfl rfl)
theorem dX4_reckons_53 : decode cX4_reckons 53 = .ok (.goto 14, 3) := dk_167 0 14 (dk_at dksX4_reckons_2 5 rfl rfl)
theorem dX4_reckons_56 : decode cX4_reckons 56 = .ok (.aload_n 0, 1) := dk_42 (dk_at dksX4_reckons_2 8 rfl rfl)
theorem dX4_reckons_57 : decode cX4_reckons 57 = .ok (.getfield 72, 3) := dk_180 0 72 (dk_at dksX4_reckons_2 9 rfl rfl)
theorem dX4_reckons_60 : decode cX4_reckons 60 = .ok (.aload_n 0, 1) := dk_42 (dk_at dksX4_reckons_2 12 rfl rfl)
theorem dX4_reckons_61 : decode cX4_reckons 61 = .ok (.getfield 29, 3) := dk_180 0 29 (dk_at dksX4_reckons_2 13 rfl rfl)
theorem dX4_reckons_64 : decode cX4_reckons 64 = .ok (.iload_n 3, 1) := dk_29 (dk_at dksX4_reckons_2 16 rfl rfl)
theorem dX4_reckons_65 : decode cX4_reckons 65 = .ok (.iaload, 1) := dk_46 (dk_at dksX4_reckons_2 17 rfl rfl)
theorem dX4_reckons_66 : decode cX4_reckons 66 = .ok (.iaload, 1) := dk_46 (dk_at dksX4_reckons_2 18 rfl rfl)
theorem dX4_reckons_67 : decode cX4_reckons 67 = .ok (.iastore, 1) := dk_79 (dk_at dksX4_reckons_2 19 rfl rfl)
theorem dX4_reckons_68 : decode cX4_reckons 68 = .ok (.iinc 3 1, 3) := dk_132 3 1 (dk_at dksX4_reckons_2 20 rfl rfl)
theorem dX4_reckons_71 : decode cX4_reckons 71 = .ok (.iinc 2 1, 3) := dk_132 2 1 (dk_at dksX4_reckons_3 0 rfl rfl)
theorem dX4_reckons_74 : decode cX4_reckons 74 = .ok (.goto 66, 3) := dk_167 0 66 (dk_at dksX4_reckons_3 3 rfl rfl)
theorem dX4_reckons_77 : decode cX4_reckons 77 = .ok (.iload 4, 2) := dk_21 4 (dk_at dksX4_reckons_3 6 rfl rfl)
theorem dX4_reckons_79 : decode cX4_reckons 79 = .ok (.iconst 3, 1) := dk_6 (dk_at dksX4_reckons_3 8 rfl rfl)
theorem dX4_reckons_80 : decode cX4_reckons 80 = .ok (.if_icmp .ne 30, 3) := dk_160 0 30 (dk_at dksX4_reckons_3 9 rfl rfl)
theorem dX4_reckons_83 : decode cX4_reckons 83 = .ok (.aload_n 0, 1) := dk_42 (dk_at dksX4_reckons_3 12 rfl rfl)
theorem dX4_reckons_84 : decode cX4_reckons 84 = .ok (.getfield 75, 3) := dk_180 0 75 (dk_at dksX4_reckons_3 13 rfl rfl)
theorem dX4_reckons_87 : decode cX4_reckons 87 = .ok (.iload_n 2, 1) := dk_28 (dk_at dksX4_reckons_3 16 rfl rfl)
theorem dX4_reckons_88 : decode cX4_reckons 88 = .ok (.iconst 1, 1) := dk_4 (dk_at dksX4_reckons_3 17 rfl rfl)
theorem dX4_reckons_89 : decode cX4_reckons 89 = .ok (.isub, 1) := dk_100 (dk_at dksX4_reckons_3 18 rfl rfl)
theorem dX4_reckons_90 : decode cX4_reckons 90 = .ok (.aload_n 0, 1) := dk_42 (dk_at dksX4_reckons_3 19 rfl rfl)
theorem dX4_reckons_91 : decode cX4_reckons 91 = .ok (.getfield 75, 3) := dk_180 0 75 (dk_at dksX4_reckons_3 20 rfl rfl)
theorem dX4_reckons_94 : decode cX4_reckons 94 = .ok (.iload_n 2, 1) := dk_28 (dk_at dksX4_reckons_3 23 rfl rfl)
theorem dX4_reckons_95 : decode cX4_reckons 95 = .ok (.iconst 1, 1) := dk_4 (dk_at dksX4_reckons_4 0 rfl rfl)
theorem dX4_reckons_96 : decode cX4_reckons 96 = .ok (.isub, 1) := dk_100 (dk_at dksX4_reckons_4 1 rfl rfl)
theorem dX4_reckons_97 : decode cX4_reckons 97 = .ok (.iaload, 1) := dk_46 (dk_at dksX4_reckons_4 2 rfl rfl)
theorem dX4_reckons_98 : decode cX4_reckons 98 = .ok (.ifCond .ne 7, 3) := dk_154 0 7 (dk_at dksX4_reckons_4 3 rfl rfl)
theorem dX4_reckons_101 : decode cX4_reckons 101 = .ok (.iconst 1, 1) := dk_4 (dk_at dksX4_reckons_4 6 rfl rfl)
theorem dX4_reckons_102 : decode cX4_reckons 102 = .ok (.goto 4, 3) := dk_167 0 4 (dk_at dksX4_reckons_4 7 rfl rfl)
theorem dX4_reckons_105 : decode cX4_reckons 105 = .ok (.iconst 0, 1) := dk_3 (dk_at dksX4_reckons_4 10 rfl rfl)
theorem dX4_reckons_106 : decode cX4_reckons 106 = .ok (.iastore, 1) := dk_79 (dk_at dksX4_reckons_4 11 rfl rfl)
theorem dX4_reckons_107 : decode cX4_reckons 107 = .ok (.goto 33, 3) := dk_167 0 33 (dk_at dksX4_reckons_4 12 rfl rfl)
theorem dX4_reckons_110 : decode cX4_reckons 110 = .ok (.iinc 2 (-1), 3) := dk_132 2 255 (dk_at dksX4_reckons_4 15 rfl rfl)
theorem dX4_reckons_113 : decode cX4_reckons 113 = .ok (.aload_n 0, 1) := dk_42 (dk_at dksX4_reckons_4 18 rfl rfl)
theorem dX4_reckons_114 : decode cX4_reckons 114 = .ok (.getfield 75, 3) := dk_180 0 75 (dk_at dksX4_reckons_4 19 rfl rfl)
theorem dX4_reckons_117 : decode cX4_reckons 117 = .ok (.iload_n 2, 1) := dk_28 (dk_at dksX4_reckons_4 22 rfl rfl)
theorem dX4_reckons_118 : decode cX4_reckons 118 = .ok (.iconst 1, 1) := dk_4 (dk_at dksX4_reckons_4 23 rfl rfl)
theorem dX4_reckons_119 : decode cX4_reckons 119 = .ok (.isub, 1) := dk_100 (dk_at dksX4_reckons_5 0 rfl rfl)
theorem dX4_reckons_120 : decode cX4_reckons 120 = .ok (.iload 4, 2) := dk_21 4 (dk_at dksX4_reckons_5 1 rfl rfl)
theorem dX4_reckons_122 : decode cX4_reckons 122 = .ok (.aload_n 0, 1) := dk_42 (dk_at dksX4_reckons_5 3 rfl rfl)
theorem dX4_reckons_123 : decode cX4_reckons 123 = .ok (.getfield 75, 3) := dk_180 0 75 (dk_at dksX4_reckons_5 4 rfl rfl)
theorem dX4_reckons_126 : decode cX4_reckons 126 = .ok (.iload_n 2, 1) := dk_28 (dk_at dksX4_reckons_5 7 rfl rfl)
theorem dX4_reckons_127 : decode cX4_reckons 127 = .ok (.iconst 1, 1) := dk_4 (dk_at dksX4_reckons_5 8 rfl rfl)
theorem dX4_reckons_128 : decode cX4_reckons 128 = .ok (.isub, 1) := dk_100 (dk_at dksX4_reckons_5 9 rfl rfl)
theorem dX4_reckons_129 : decode cX4_reckons 129 = .ok (.iaload, 1) := dk_46 (dk_at dksX4_reckons_5 10 rfl rfl)
theorem dX4_reckons_130 : decode cX4_reckons 130 = .ok (.aload_n 0, 1) := dk_42 (dk_at dksX4_reckons_5 11 rfl rfl)
theorem dX4_reckons_131 : decode cX4_reckons 131 = .ok (.getfield 75, 3) := dk_180 0 75 (dk_at dksX4_reckons_5 12 rfl rfl)
theorem dX4_reckons_134 : decode cX4_reckons 134 = .ok (.iload_n 2, 1) := dk_28 (dk_at dksX4_reckons_5 15 rfl rfl)
theorem dX4_reckons_135 : decode cX4_reckons 135 = .ok (.iaload, 1) := dk_46 (dk_at dksX4_reckons_5 16 rfl rfl)
theorem dX4_reckons_136 : decode cX4_reckons 136 = .ok (.invokestatic 298, 3) := dk_184 1 42 (dk_at dksX4_reckons_5 17 rfl rfl)
theorem dX4_reckons_139 : decode cX4_reckons 139 = .ok (.iastore, 1) := dk_79 (dk_at dksX4_reckons_5 20 rfl rfl)
theorem dX4_reckons_140 : decode cX4_reckons 140 = .ok (.goto (-136), 3) := dk_167 255 120 (dk_at dksX4_reckons_5 21 rfl rfl)
theorem dX4_reckons_143 : decode cX4_reckons 143 = .ok (.aload_n 0, 1) := dk_42 (dk_at dksX4_reckons_6 0 rfl rfl)
theorem dX4_reckons_144 : decode cX4_reckons 144 = .ok (.getfield 75, 3) := dk_180 0 75 (dk_at dksX4_reckons_6 1 rfl rfl)
theorem dX4_reckons_147 : decode cX4_reckons 147 = .ok (.iconst 0, 1) := dk_3 (dk_at dksX4_reckons_6 4 rfl rfl)
theorem dX4_reckons_148 : decode cX4_reckons 148 = .ok (.iaload, 1) := dk_46 (dk_at dksX4_reckons_6 5 rfl rfl)
theorem dX4_reckons_149 : decode cX4_reckons 149 = .ok (.ireturn, 1) := dk_172 (dk_at dksX4_reckons_6 6 rfl rfl)
abbrev cX4_works : ByteArray := prog_12_method_46_code
def yX4_works : MethodName := ⟨RX4, "works", "(III)I"⟩
def dkwX4_works_5 : List UInt8 := [167, 0, 6, 27, 28, 108, 172]
abbrev dktX4_works_5 : List UInt8 := dkwX4_works_5 ++ []
def dkwX4_works_4 : List UInt8 := [167, 0, 4, 3, 172, 27, 28, 96, 172, 27, 28, 100, 172, 27, 28, 104, 172, 28, 154, 0, 7, 3]
abbrev dktX4_works_4 : List UInt8 := dkwX4_works_4 ++ dktX4_works_5
def dkwX4_works_3 : List UInt8 := [167, 0, 4, 3, 172, 27, 28, 162, 0, 7, 4, 167, 0, 4, 3, 172, 27, 28, 160, 0, 7, 4]
abbrev dktX4_works_3 : List UInt8 := dkwX4_works_3 ++ dktX4_works_4
def dkwX4_works_2 : List UInt8 := [27, 153, 0, 11, 28, 153, 0, 7, 4, 167, 0, 4, 3, 172, 27, 154, 0, 7, 28, 153, 0, 7, 4]
abbrev dktX4_works_2 : List UInt8 := dkwX4_works_2 ++ dktX4_works_3
def dkwX4_works_1 : List UInt8 := [170, 0, 0, 0, 0, 0, 105, 0, 0, 0, 4, 0, 0, 0, 10, 0, 0, 0, 43, 0, 0, 0, 57, 0, 0, 0, 71, 0, 0, 0, 82, 0, 0, 0, 93, 0, 0, 0, 97, 0, 0, 0, 101]
abbrev dktX4_works_1 : List UInt8 := dkwX4_works_1 ++ dktX4_works_2
def dkwX4_works_0 : List UInt8 := [26]
abbrev dktX4_works_0 : List UInt8 := dkwX4_works_0 ++ dktX4_works_1
theorem dksX4_works_0 : cX4_works.data.toList.drop 0 = dktX4_works_0 := by decide +kernel
theorem dksX4_works_1 : cX4_works.data.toList.drop 1 = dktX4_works_1 := dk_seg dksX4_works_0 1 rfl rfl
theorem dksX4_works_2 : cX4_works.data.toList.drop 44 = dktX4_works_2 := dk_seg dksX4_works_1 43 rfl rfl
theorem dksX4_works_3 : cX4_works.data.toList.drop 67 = dktX4_works_3 := dk_seg dksX4_works_2 23 rfl rfl
theorem dksX4_works_4 : cX4_works.data.toList.drop 89 = dktX4_works_4 := dk_seg dksX4_works_3 22 rfl rfl
theorem dksX4_works_5 : cX4_works.data.toList.drop 111 = dktX4_works_5 := dk_seg dksX4_works_4 22 rfl rfl
theorem dX4_works_0 : decode cX4_works 0 = .ok (.iload_n 0, 1) := dk_26 (dk_at dksX4_works_0 0 rfl rfl)
theorem dX4_works_1 : decode cX4_works 1 = .ok (.tableswitch 105 4 10 #[43, 57, 71, 82, 93, 97, 101], 43) := by decide +kernel
theorem dX4_works_44 : decode cX4_works 44 = .ok (.iload_n 1, 1) := dk_27 (dk_at dksX4_works_2 0 rfl rfl)
theorem dX4_works_45 : decode cX4_works 45 = .ok (.ifCond .eq 11, 3) := dk_153 0 11 (dk_at dksX4_works_2 1 rfl rfl)
theorem dX4_works_48 : decode cX4_works 48 = .ok (.iload_n 2, 1) := dk_28 (dk_at dksX4_works_2 4 rfl rfl)
theorem dX4_works_49 : decode cX4_works 49 = .ok (.ifCond .eq 7, 3) := dk_153 0 7 (dk_at dksX4_works_2 5 rfl rfl)
theorem dX4_works_52 : decode cX4_works 52 = .ok (.iconst 1, 1) := dk_4 (dk_at dksX4_works_2 8 rfl rfl)
theorem dX4_works_53 : decode cX4_works 53 = .ok (.goto 4, 3) := dk_167 0 4 (dk_at dksX4_works_2 9 rfl rfl)
theorem dX4_works_56 : decode cX4_works 56 = .ok (.iconst 0, 1) := dk_3 (dk_at dksX4_works_2 12 rfl rfl)
theorem dX4_works_57 : decode cX4_works 57 = .ok (.ireturn, 1) := dk_172 (dk_at dksX4_works_2 13 rfl rfl)
theorem dX4_works_58 : decode cX4_works 58 = .ok (.iload_n 1, 1) := dk_27 (dk_at dksX4_works_2 14 rfl rfl)
theorem dX4_works_59 : decode cX4_works 59 = .ok (.ifCond .ne 7, 3) := dk_154 0 7 (dk_at dksX4_works_2 15 rfl rfl)
theorem dX4_works_62 : decode cX4_works 62 = .ok (.iload_n 2, 1) := dk_28 (dk_at dksX4_works_2 18 rfl rfl)
theorem dX4_works_63 : decode cX4_works 63 = .ok (.ifCond .eq 7, 3) := dk_153 0 7 (dk_at dksX4_works_2 19 rfl rfl)
theorem dX4_works_66 : decode cX4_works 66 = .ok (.iconst 1, 1) := dk_4 (dk_at dksX4_works_2 22 rfl rfl)
theorem dX4_works_67 : decode cX4_works 67 = .ok (.goto 4, 3) := dk_167 0 4 (dk_at dksX4_works_3 0 rfl rfl)
theorem dX4_works_70 : decode cX4_works 70 = .ok (.iconst 0, 1) := dk_3 (dk_at dksX4_works_3 3 rfl rfl)
theorem dX4_works_71 : decode cX4_works 71 = .ok (.ireturn, 1) := dk_172 (dk_at dksX4_works_3 4 rfl rfl)
theorem dX4_works_72 : decode cX4_works 72 = .ok (.iload_n 1, 1) := dk_27 (dk_at dksX4_works_3 5 rfl rfl)
theorem dX4_works_73 : decode cX4_works 73 = .ok (.iload_n 2, 1) := dk_28 (dk_at dksX4_works_3 6 rfl rfl)
theorem dX4_works_74 : decode cX4_works 74 = .ok (.if_icmp .ge 7, 3) := dk_162 0 7 (dk_at dksX4_works_3 7 rfl rfl)
theorem dX4_works_77 : decode cX4_works 77 = .ok (.iconst 1, 1) := dk_4 (dk_at dksX4_works_3 10 rfl rfl)
theorem dX4_works_78 : decode cX4_works 78 = .ok (.goto 4, 3) := dk_167 0 4 (dk_at dksX4_works_3 11 rfl rfl)
theorem dX4_works_81 : decode cX4_works 81 = .ok (.iconst 0, 1) := dk_3 (dk_at dksX4_works_3 14 rfl rfl)
theorem dX4_works_82 : decode cX4_works 82 = .ok (.ireturn, 1) := dk_172 (dk_at dksX4_works_3 15 rfl rfl)
theorem dX4_works_83 : decode cX4_works 83 = .ok (.iload_n 1, 1) := dk_27 (dk_at dksX4_works_3 16 rfl rfl)
theorem dX4_works_84 : decode cX4_works 84 = .ok (.iload_n 2, 1) := dk_28 (dk_at dksX4_works_3 17 rfl rfl)
theorem dX4_works_85 : decode cX4_works 85 = .ok (.if_icmp .ne 7, 3) := dk_160 0 7 (dk_at dksX4_works_3 18 rfl rfl)
theorem dX4_works_88 : decode cX4_works 88 = .ok (.iconst 1, 1) := dk_4 (dk_at dksX4_works_3 21 rfl rfl)
theorem dX4_works_89 : decode cX4_works 89 = .ok (.goto 4, 3) := dk_167 0 4 (dk_at dksX4_works_4 0 rfl rfl)
theorem dX4_works_92 : decode cX4_works 92 = .ok (.iconst 0, 1) := dk_3 (dk_at dksX4_works_4 3 rfl rfl)
theorem dX4_works_93 : decode cX4_works 93 = .ok (.ireturn, 1) := dk_172 (dk_at dksX4_works_4 4 rfl rfl)
theorem dX4_works_94 : decode cX4_works 94 = .ok (.iload_n 1, 1) := dk_27 (dk_at dksX4_works_4 5 rfl rfl)
theorem dX4_works_95 : decode cX4_works 95 = .ok (.iload_n 2, 1) := dk_28 (dk_at dksX4_works_4 6 rfl rfl)
theorem dX4_works_96 : decode cX4_works 96 = .ok (.iadd, 1) := dk_96 (dk_at dksX4_works_4 7 rfl rfl)
theorem dX4_works_97 : decode cX4_works 97 = .ok (.ireturn, 1) := dk_172 (dk_at dksX4_works_4 8 rfl rfl)
theorem dX4_works_98 : decode cX4_works 98 = .ok (.iload_n 1, 1) := dk_27 (dk_at dksX4_works_4 9 rfl rfl)
theorem dX4_works_99 : decode cX4_works 99 = .ok (.iload_n 2, 1) := dk_28 (dk_at dksX4_works_4 10 rfl rfl)
theorem dX4_works_100 : decode cX4_works 100 = .ok (.isub, 1) := dk_100 (dk_at dksX4_works_4 11 rfl rfl)
theorem dX4_works_101 : decode cX4_works 101 = .ok (.ireturn, 1) := dk_172 (dk_at dksX4_works_4 12 rfl rfl)
theorem dX4_works_102 : decode cX4_works 102 = .ok (.iload_n 1, 1) := dk_27 (dk_at dksX4_works_4 13 rfl rfl)
theorem dX4_works_103 : decode cX4_works 103 = .ok (.iload_n 2, 1) := dk_28 (dk_at dksX4_works_4 14 rfl rfl)
theorem dX4_works_104 : decode cX4_works 104 = .ok (.imul, 1) := dk_104 (dk_at dksX4_works_4 15 rfl rfl)
theorem dX4_works_105 : decode cX4_works 105 = .ok (.ireturn, 1) := dk_172 (dk_at dksX4_works_4 16 rfl rfl)
theorem dX4_works_106 : decode cX4_works 106 = .ok (.iload_n 2, 1) := dk_28 (dk_at dksX4_works_4 17 rfl rfl)
theorem dX4_works_107 : decode cX4_works 107 = .ok (.ifCond .ne 7, 3) := dk_154 0 7 (dk_at dksX4_works_4 18 rfl rfl)
theorem dX4_works_110 : decode cX4_works 110 = .ok (.iconst 0, 1) := dk_3 (dk_at dksX4_works_4 21 rfl rfl)
theorem dX4_works_111 : decode cX4_works 111 = .ok (.goto 6, 3) := dk_167 0 6 (dk_at dksX4_works_5 0 rfl rfl)
theorem dX4_works_114 : decode cX4_works 114 = .ok (.iload_n 1, 1) := dk_27 (dk_at dksX4_works_5 3 rfl rfl)
theorem dX4_works_115 : decode cX4_works 115 = .ok (.iload_n 2, 1) := dk_28 (dk_at dksX4_works_5 4 rfl rfl)
theorem dX4_works_116 : decode cX4_works 116 = .ok (.idiv, 1) := dk_108 (dk_at dksX4_works_5 5 rfl rfl)
theorem dX4_works_117 : decode cX4_works 117 = .ok (.ireturn, 1) := dk_172 (dk_at dksX4_works_5 6 rfl rfl)
abbrev cX4_byHouse : ByteArray := prog_12_method_91_code
def yX4_byHouse : MethodName := ⟨RX4, "byHouse", "(III)I"⟩
def dkwX4_byHouse_0 : List UInt8 := [42, 3, 27, 28, 182, 1, 56, 42, 27, 4, 96, 29, 4, 28, 120, 128, 182, 1, 150, 96, 172]
abbrev dktX4_byHouse_0 : List UInt8 := dkwX4_byHouse_0 ++ []
theorem dksX4_byHouse_0 : cX4_byHouse.data.toList.drop 0 = dktX4_byHouse_0 := by decide +kernel
theorem dX4_byHouse_0 : decode cX4_byHouse 0 = .ok (.aload_n 0, 1) := dk_42 (dk_at dksX4_byHouse_0 0 rfl rfl)
theorem dX4_byHouse_1 : decode cX4_byHouse 1 = .ok (.iconst 0, 1) := dk_3 (dk_at dksX4_byHouse_0 1 rfl rfl)
theorem dX4_byHouse_2 : decode cX4_byHouse 2 = .ok (.iload_n 1, 1) := dk_27 (dk_at dksX4_byHouse_0 2 rfl rfl)
theorem dX4_byHouse_3 : decode cX4_byHouse 3 = .ok (.iload_n 2, 1) := dk_28 (dk_at dksX4_byHouse_0 3 rfl rfl)
theorem dX4_byHouse_4 : decode cX4_byHouse 4 = .ok (.invokevirtual 312, 3) := dk_182 1 56 (dk_at dksX4_byHouse_0 4 rfl rfl)
theorem dX4_byHouse_7 : decode cX4_byHouse 7 = .ok (.aload_n 0, 1) := dk_42 (dk_at dksX4_byHouse_0 7 rfl rfl)
theorem dX4_byHouse_8 : decode cX4_byHouse 8 = .ok (.iload_n 1, 1) := dk_27 (dk_at dksX4_byHouse_0 8 rfl rfl)
theorem dX4_byHouse_9 : decode cX4_byHouse 9 = .ok (.iconst 1, 1) := dk_4 (dk_at dksX4_byHouse_0 9 rfl rfl)
theorem dX4_byHouse_10 : decode cX4_byHouse 10 = .ok (.iadd, 1) := dk_96 (dk_at dksX4_byHouse_0 10 rfl rfl)
theorem dX4_byHouse_11 : decode cX4_byHouse 11 = .ok (.iload_n 3, 1) := dk_29 (dk_at dksX4_byHouse_0 11 rfl rfl)
theorem dX4_byHouse_12 : decode cX4_byHouse 12 = .ok (.iconst 1, 1) := dk_4 (dk_at dksX4_byHouse_0 12 rfl rfl)
theorem dX4_byHouse_13 : decode cX4_byHouse 13 = .ok (.iload_n 2, 1) := dk_28 (dk_at dksX4_byHouse_0 13 rfl rfl)
theorem dX4_byHouse_14 : decode cX4_byHouse 14 = .ok (.ishl, 1) := dk_120 (dk_at dksX4_byHouse_0 14 rfl rfl)
theorem dX4_byHouse_15 : decode cX4_byHouse 15 = .ok (.ior, 1) := dk_128 (dk_at dksX4_byHouse_0 15 rfl rfl)
theorem dX4_byHouse_16 : decode cX4_byHouse 16 = .ok (.invokevirtual 406, 3) := dk_182 1 150 (dk_at dksX4_byHouse_0 16 rfl rfl)
theorem dX4_byHouse_19 : decode cX4_byHouse 19 = .ok (.iadd, 1) := dk_96 (dk_at dksX4_byHouse_0 19 rfl rfl)
theorem dX4_byHouse_20 : decode cX4_byHouse 20 = .ok (.ireturn, 1) := dk_172 (dk_at dksX4_byHouse_0 20 rfl rfl)
abbrev cX4_lesser : ByteArray := prog_12_method_6_code
def yX4_lesser : MethodName := ⟨RX4, "lesser", "(II)I"⟩
def dkwX4_lesser_0 : List UInt8 := [26, 27, 162, 0, 7, 26, 167, 0, 4, 27, 172]
abbrev dktX4_lesser_0 : List UInt8 := dkwX4_lesser_0 ++ []
theorem dksX4_lesser_0 : cX4_lesser.data.toList.drop 0 = dktX4_lesser_0 := by decide +kernel
theorem dX4_lesser_0 : decode cX4_lesser 0 = .ok (.iload_n 0, 1) := dk_26 (dk_at dksX4_lesser_0 0 rfl rfl)
theorem dX4_lesser_1 : decode cX4_lesser 1 = .ok (.iload_n 1, 1) := dk_27 (dk_at dksX4_lesser_0 1 rfl rfl)
theorem dX4_lesser_2 : decode cX4_lesser 2 = .ok (.if_icmp .ge 7, 3) := dk_162 0 7 (dk_at dksX4_lesser_0 2 rfl rfl)
theorem dX4_lesser_5 : decode cX4_lesser 5 = .ok (.iload_n 0, 1) := dk_26 (dk_at dksX4_lesser_0 5 rfl rfl)
theorem dX4_lesser_6 : decode cX4_lesser 6 = .ok (.goto 4, 3) := dk_167 0 4 (dk_at dksX4_lesser_0 6 rfl rfl)
theorem dX4_lesser_9 : decode cX4_lesser 9 = .ok (.iload_n 1, 1) := dk_27 (dk_at dksX4_lesser_0 9 rfl rfl)
theorem dX4_lesser_10 : decode cX4_lesser 10 = .ok (.ireturn, 1) := dk_172 (dk_at dksX4_lesser_0 10 rfl rfl)
abbrev cX4_house : ByteArray := prog_12_method_71_code
def yX4_house : MethodName := ⟨RX4, "house", "(II)I"⟩
def dkwX4_house_5 : List UInt8 := [46, 27, 122, 4, 126, 172, 42, 27, 182, 1, 117, 172, 42, 27, 182, 1, 120, 172]
abbrev dktX4_house_5 : List UInt8 := dkwX4_house_5 ++ []
def dkwX4_house_4 : List UInt8 := [180, 0, 66, 16, 11, 27, 96, 46, 172, 42, 180, 0, 66, 16, 19, 27, 96, 46, 172, 42, 180, 0, 66, 4]
abbrev dktX4_house_4 : List UInt8 := dkwX4_house_4 ++ dktX4_house_5
def dkwX4_house_3 : List UInt8 := [42, 180, 0, 66, 6, 27, 96, 46, 172, 42, 180, 0, 16, 27, 46, 172, 42, 180, 0, 20, 27, 46, 172, 42]
abbrev dktX4_house_3 : List UInt8 := dkwX4_house_3 ++ dktX4_house_4
def dkwX4_house_2 : List UInt8 := [170, 0, 0, 0, 0, 102, 0, 0, 0, 0, 0, 0, 0, 6, 0, 0, 0, 42, 0, 0, 0, 51, 0, 0, 0, 58, 0, 0, 0, 65, 0, 0, 0, 75, 0, 0, 0, 85, 0, 0, 0, 96]
abbrev dktX4_house_2 : List UInt8 := dkwX4_house_2 ++ dktX4_house_3
def dkwX4_house_1 : List UInt8 := [172, 28]
abbrev dktX4_house_1 : List UInt8 := dkwX4_house_1 ++ dktX4_house_2
def dkwX4_house_0 : List UInt8 := [42, 3, 181, 0, 111, 42, 27, 182, 1, 111, 153, 0, 13, 42, 28, 16, 7, 182, 1, 114, 154, 0, 5, 3]
abbrev dktX4_house_0 : List UInt8 := dkwX4_house_0 ++ dktX4_house_1
theorem dksX4_house_0 : cX4_house.data.toList.drop 0 = dktX4_house_0 := by decide +kernel
theorem dksX4_house_1 : cX4_house.data.toList.drop 24 = dktX4_house_1 := dk_seg dksX4_house_0 24 rfl rfl
theorem dksX4_house_2 : cX4_house.data.toList.drop 26 = dktX4_house_2 := dk_seg dksX4_house_1 2 rfl rfl
theorem dksX4_house_3 : cX4_house.data.toList.drop 68 = dktX4_house_3 := dk_seg dksX4_house_2 42 rfl rfl
theorem dksX4_house_4 : cX4_house.data.toList.drop 92 = dktX4_house_4 := dk_seg dksX4_house_3 24 rfl rfl
theorem dksX4_house_5 : cX4_house.data.toList.drop 116 = dktX4_house_5 := dk_seg dksX4_house_4 24 rfl rfl
theorem dX4_house_0 : decode cX4_house 0 = .ok (.aload_n 0, 1) := dk_42 (dk_at dksX4_house_0 0 rfl rfl)
theorem dX4_house_1 : decode cX4_house 1 = .ok (.iconst 0, 1) := dk_3 (dk_at dksX4_house_0 1 rfl rfl)
theorem dX4_house_2 : decode cX4_house 2 = .ok (.putfield 111, 3) := dk_181 0 111 (dk_at dksX4_house_0 2 rfl rfl)
theorem dX4_house_5 : decode cX4_house 5 = .ok (.aload_n 0, 1) := dk_42 (dk_at dksX4_house_0 5 rfl rfl)
theorem dX4_house_6 : decode cX4_house 6 = .ok (.iload_n 1, 1) := dk_27 (dk_at dksX4_house_0 6 rfl rfl)
theorem dX4_house_7 : decode cX4_house 7 = .ok (.invokevirtual 367, 3) := dk_182 1 111 (dk_at dksX4_house_0 7 rfl rfl)
theorem dX4_house_10 : decode cX4_house 10 = .ok (.ifCond .eq 13, 3) := dk_153 0 13 (dk_at dksX4_house_0 10 rfl rfl)
theorem dX4_house_13 : decode cX4_house 13 = .ok (.aload_n 0, 1) := dk_42 (dk_at dksX4_house_0 13 rfl rfl)
theorem dX4_house_14 : decode cX4_house 14 = .ok (.iload_n 2, 1) := dk_28 (dk_at dksX4_house_0 14 rfl rfl)
theorem dX4_house_15 : decode cX4_house 15 = .ok (.bipush 7, 2) := dk_16 7 (dk_at dksX4_house_0 15 rfl rfl)
theorem dX4_house_17 : decode cX4_house 17 = .ok (.invokevirtual 370, 3) := dk_182 1 114 (dk_at dksX4_house_0 17 rfl rfl)
theorem dX4_house_20 : decode cX4_house 20 = .ok (.ifCond .ne 5, 3) := dk_154 0 5 (dk_at dksX4_house_0 20 rfl rfl)
theorem dX4_house_23 : decode cX4_house 23 = .ok (.iconst 0, 1) := dk_3 (dk_at dksX4_house_0 23 rfl rfl)
theorem dX4_house_24 : decode cX4_house 24 = .ok (.ireturn, 1) := dk_172 (dk_at dksX4_house_1 0 rfl rfl)
theorem dX4_house_25 : decode cX4_house 25 = .ok (.iload_n 2, 1) := dk_28 (dk_at dksX4_house_1 1 rfl rfl)
theorem dX4_house_26 : decode cX4_house 26 = .ok (.tableswitch 102 0 6 #[42, 51, 58, 65, 75, 85, 96], 42) := by decide +kernel
theorem dX4_house_68 : decode cX4_house 68 = .ok (.aload_n 0, 1) := dk_42 (dk_at dksX4_house_3 0 rfl rfl)
theorem dX4_house_69 : decode cX4_house 69 = .ok (.getfield 66, 3) := dk_180 0 66 (dk_at dksX4_house_3 1 rfl rfl)
theorem dX4_house_72 : decode cX4_house 72 = .ok (.iconst 3, 1) := dk_6 (dk_at dksX4_house_3 4 rfl rfl)
theorem dX4_house_73 : decode cX4_house 73 = .ok (.iload_n 1, 1) := dk_27 (dk_at dksX4_house_3 5 rfl rfl)
theorem dX4_house_74 : decode cX4_house 74 = .ok (.iadd, 1) := dk_96 (dk_at dksX4_house_3 6 rfl rfl)
theorem dX4_house_75 : decode cX4_house 75 = .ok (.iaload, 1) := dk_46 (dk_at dksX4_house_3 7 rfl rfl)
theorem dX4_house_76 : decode cX4_house 76 = .ok (.ireturn, 1) := dk_172 (dk_at dksX4_house_3 8 rfl rfl)
theorem dX4_house_77 : decode cX4_house 77 = .ok (.aload_n 0, 1) := dk_42 (dk_at dksX4_house_3 9 rfl rfl)
theorem dX4_house_78 : decode cX4_house 78 = .ok (.getfield 16, 3) := dk_180 0 16 (dk_at dksX4_house_3 10 rfl rfl)
theorem dX4_house_81 : decode cX4_house 81 = .ok (.iload_n 1, 1) := dk_27 (dk_at dksX4_house_3 13 rfl rfl)
theorem dX4_house_82 : decode cX4_house 82 = .ok (.iaload, 1) := dk_46 (dk_at dksX4_house_3 14 rfl rfl)
theorem dX4_house_83 : decode cX4_house 83 = .ok (.ireturn, 1) := dk_172 (dk_at dksX4_house_3 15 rfl rfl)
theorem dX4_house_84 : decode cX4_house 84 = .ok (.aload_n 0, 1) := dk_42 (dk_at dksX4_house_3 16 rfl rfl)
theorem dX4_house_85 : decode cX4_house 85 = .ok (.getfield 20, 3) := dk_180 0 20 (dk_at dksX4_house_3 17 rfl rfl)
theorem dX4_house_88 : decode cX4_house 88 = .ok (.iload_n 1, 1) := dk_27 (dk_at dksX4_house_3 20 rfl rfl)
theorem dX4_house_89 : decode cX4_house 89 = .ok (.iaload, 1) := dk_46 (dk_at dksX4_house_3 21 rfl rfl)
theorem dX4_house_90 : decode cX4_house 90 = .ok (.ireturn, 1) := dk_172 (dk_at dksX4_house_3 22 rfl rfl)
theorem dX4_house_91 : decode cX4_house 91 = .ok (.aload_n 0, 1) := dk_42 (dk_at dksX4_house_3 23 rfl rfl)
theorem dX4_house_92 : decode cX4_house 92 = .ok (.getfield 66, 3) := dk_180 0 66 (dk_at dksX4_house_4 0 rfl rfl)
theorem dX4_house_95 : decode cX4_house 95 = .ok (.bipush 11, 2) := dk_16 11 (dk_at dksX4_house_4 3 rfl rfl)
theorem dX4_house_97 : decode cX4_house 97 = .ok (.iload_n 1, 1) := dk_27 (dk_at dksX4_house_4 5 rfl rfl)
theorem dX4_house_98 : decode cX4_house 98 = .ok (.iadd, 1) := dk_96 (dk_at dksX4_house_4 6 rfl rfl)
theorem dX4_house_99 : decode cX4_house 99 = .ok (.iaload, 1) := dk_46 (dk_at dksX4_house_4 7 rfl rfl)
theorem dX4_house_100 : decode cX4_house 100 = .ok (.ireturn, 1) := dk_172 (dk_at dksX4_house_4 8 rfl rfl)
theorem dX4_house_101 : decode cX4_house 101 = .ok (.aload_n 0, 1) := dk_42 (dk_at dksX4_house_4 9 rfl rfl)
theorem dX4_house_102 : decode cX4_house 102 = .ok (.getfield 66, 3) := dk_180 0 66 (dk_at dksX4_house_4 10 rfl rfl)
theorem dX4_house_105 : decode cX4_house 105 = .ok (.bipush 19, 2) := dk_16 19 (dk_at dksX4_house_4 13 rfl rfl)
theorem dX4_house_107 : decode cX4_house 107 = .ok (.iload_n 1, 1) := dk_27 (dk_at dksX4_house_4 15 rfl rfl)
theorem dX4_house_108 : decode cX4_house 108 = .ok (.iadd, 1) := dk_96 (dk_at dksX4_house_4 16 rfl rfl)
theorem dX4_house_109 : decode cX4_house 109 = .ok (.iaload, 1) := dk_46 (dk_at dksX4_house_4 17 rfl rfl)
theorem dX4_house_110 : decode cX4_house 110 = .ok (.ireturn, 1) := dk_172 (dk_at dksX4_house_4 18 rfl rfl)
theorem dX4_house_111 : decode cX4_house 111 = .ok (.aload_n 0, 1) := dk_42 (dk_at dksX4_house_4 19 rfl rfl)
theorem dX4_house_112 : decode cX4_house 112 = .ok (.getfield 66, 3) := dk_180 0 66 (dk_at dksX4_house_4 20 rfl rfl)
theorem dX4_house_115 : decode cX4_house 115 = .ok (.iconst 1, 1) := dk_4 (dk_at dksX4_house_4 23 rfl rfl)
theorem dX4_house_116 : decode cX4_house 116 = .ok (.iaload, 1) := dk_46 (dk_at dksX4_house_5 0 rfl rfl)
theorem dX4_house_117 : decode cX4_house 117 = .ok (.iload_n 1, 1) := dk_27 (dk_at dksX4_house_5 1 rfl rfl)
theorem dX4_house_118 : decode cX4_house 118 = .ok (.ishr, 1) := dk_122 (dk_at dksX4_house_5 2 rfl rfl)
theorem dX4_house_119 : decode cX4_house 119 = .ok (.iconst 1, 1) := dk_4 (dk_at dksX4_house_5 3 rfl rfl)
theorem dX4_house_120 : decode cX4_house 120 = .ok (.iand, 1) := dk_126 (dk_at dksX4_house_5 4 rfl rfl)
theorem dX4_house_121 : decode cX4_house 121 = .ok (.ireturn, 1) := dk_172 (dk_at dksX4_house_5 5 rfl rfl)
theorem dX4_house_122 : decode cX4_house 122 = .ok (.aload_n 0, 1) := dk_42 (dk_at dksX4_house_5 6 rfl rfl)
theorem dX4_house_123 : decode cX4_house 123 = .ok (.iload_n 1, 1) := dk_27 (dk_at dksX4_house_5 7 rfl rfl)
theorem dX4_house_124 : decode cX4_house 124 = .ok (.invokevirtual 373, 3) := dk_182 1 117 (dk_at dksX4_house_5 8 rfl rfl)
theorem dX4_house_127 : decode cX4_house 127 = .ok (.ireturn, 1) := dk_172 (dk_at dksX4_house_5 11 rfl rfl)
theorem dX4_house_128 : decode cX4_house 128 = .ok (.aload_n 0, 1) := dk_42 (dk_at dksX4_house_5 12 rfl rfl)
theorem dX4_house_129 : decode cX4_house 129 = .ok (.iload_n 1, 1) := dk_27 (dk_at dksX4_house_5 13 rfl rfl)
theorem dX4_house_130 : decode cX4_house 130 = .ok (.invokevirtual 376, 3) := dk_182 1 120 (dk_at dksX4_house_5 14 rfl rfl)
theorem dX4_house_133 : decode cX4_house 133 = .ok (.ireturn, 1) := dk_172 (dk_at dksX4_house_5 17 rfl rfl)
abbrev cX4_isHouse : ByteArray := prog_12_method_65_code
def yX4_isHouse : MethodName := ⟨RX4, "isHouse", "(I)Z"⟩
def dkwX4_isHouse_0 : List UInt8 := [42, 27, 155, 0, 15, 27, 42, 180, 1, 19, 162, 0, 7, 4, 167, 0, 4, 3, 4, 182, 1, 12, 172]
abbrev dktX4_isHouse_0 : List UInt8 := dkwX4_isHouse_0 ++ []
theorem dksX4_isHouse_0 : cX4_isHouse.data.toList.drop 0 = dktX4_isHouse_0 := by decide +kernel
theorem dX4_isHouse_0 : decode cX4_isHouse 0 = .ok (.aload_n 0, 1) := dk_42 (dk_at dksX4_isHouse_0 0 rfl rfl)
theorem dX4_isHouse_1 : decode cX4_isHouse 1 = .ok (.iload_n 1, 1) := dk_27 (dk_at dksX4_isHouse_0 1 rfl rfl)
theorem dX4_isHouse_2 : decode cX4_isHouse 2 = .ok (.ifCond .lt 15, 3) := dk_155 0 15 (dk_at dksX4_isHouse_0 2 rfl rfl)
theorem dX4_isHouse_5 : decode cX4_isHouse 5 = .ok (.iload_n 1, 1) := dk_27 (dk_at dksX4_isHouse_0 5 rfl rfl)
theorem dX4_isHouse_6 : decode cX4_isHouse 6 = .ok (.aload_n 0, 1) := dk_42 (dk_at dksX4_isHouse_0 6 rfl rfl)
theorem dX4_isHouse_7 : decode cX4_isHouse 7 = .ok (.getfield 275, 3) := dk_180 1 19 (dk_at dksX4_isHouse_0 7 rfl rfl)
theorem dX4_isHouse_10 : decode cX4_isHouse 10 = .ok (.if_icmp .ge 7, 3) := dk_162 0 7 (dk_at dksX4_isHouse_0 10 rfl rfl)
theorem dX4_isHouse_13 : decode cX4_isHouse 13 = .ok (.iconst 1, 1) := dk_4 (dk_at dksX4_isHouse_0 13 rfl rfl)
theorem dX4_isHouse_14 : decode cX4_isHouse 14 = .ok (.goto 4, 3) := dk_167 0 4 (dk_at dksX4_isHouse_0 14 rfl rfl)
theorem dX4_isHouse_17 : decode cX4_isHouse 17 = .ok (.iconst 0, 1) := dk_3 (dk_at dksX4_isHouse_0 17 rfl rfl)
theorem dX4_isHouse_18 : decode cX4_isHouse 18 = .ok (.iconst 1, 1) := dk_4 (dk_at dksX4_isHouse_0 18 rfl rfl)
theorem dX4_isHouse_19 : decode cX4_isHouse 19 = .ok (.invokevirtual 268, 3) := dk_182 1 12 (dk_at dksX4_isHouse_0 19 rfl rfl)
theorem dX4_isHouse_22 : decode cX4_isHouse 22 = .ok (.ireturn, 1) := dk_172 (dk_at dksX4_isHouse_0 22 rfl rfl)
abbrev cX4_isWhat : ByteArray := prog_12_method_67_code
def yX4_isWhat : MethodName := ⟨RX4, "isWhat", "(II)Z"⟩
def dkwX4_isWhat_0 : List UInt8 := [42, 27, 3, 28, 184, 1, 89, 4, 182, 1, 12, 172]
abbrev dktX4_isWhat_0 : List UInt8 := dkwX4_isWhat_0 ++ []
theorem dksX4_isWhat_0 : cX4_isWhat.data.toList.drop 0 = dktX4_isWhat_0 := by decide +kernel
theorem dX4_isWhat_0 : decode cX4_isWhat 0 = .ok (.aload_n 0, 1) := dk_42 (dk_at dksX4_isWhat_0 0 rfl rfl)
theorem dX4_isWhat_1 : decode cX4_isWhat 1 = .ok (.iload_n 1, 1) := dk_27 (dk_at dksX4_isWhat_0 1 rfl rfl)
theorem dX4_isWhat_2 : decode cX4_isWhat 2 = .ok (.iconst 0, 1) := dk_3 (dk_at dksX4_isWhat_0 2 rfl rfl)
theorem dX4_isWhat_3 : decode cX4_isWhat 3 = .ok (.iload_n 2, 1) := dk_28 (dk_at dksX4_isWhat_0 3 rfl rfl)
theorem dX4_isWhat_4 : decode cX4_isWhat 4 = .ok (.invokestatic 345, 3) := dk_184 1 89 (dk_at dksX4_isWhat_0 4 rfl rfl)
theorem dX4_isWhat_7 : decode cX4_isWhat 7 = .ok (.iconst 1, 1) := dk_4 (dk_at dksX4_isWhat_0 7 rfl rfl)
theorem dX4_isWhat_8 : decode cX4_isWhat 8 = .ok (.invokevirtual 268, 3) := dk_182 1 12 (dk_at dksX4_isWhat_0 8 rfl rfl)
theorem dX4_isWhat_11 : decode cX4_isWhat 11 = .ok (.ireturn, 1) := dk_172 (dk_at dksX4_isWhat_0 11 rfl rfl)
abbrev cX4_roomOf : ByteArray := prog_12_method_70_code
def yX4_roomOf : MethodName := ⟨RX4, "roomOf", "(I)I"⟩
def dkwX4_roomOf_1 : List UInt8 := [27, 96, 46, 42, 180, 0, 66, 16, 27, 28, 96, 46, 100, 3, 19, 1, 49, 184, 1, 50, 172]
abbrev dktX4_roomOf_1 : List UInt8 := dkwX4_roomOf_1 ++ []
def dkwX4_roomOf_0 : List UInt8 := [42, 180, 0, 66, 16, 19, 27, 96, 46, 61, 28, 2, 160, 0, 7, 3, 167, 0, 28, 42, 180, 0, 66, 6]
abbrev dktX4_roomOf_0 : List UInt8 := dkwX4_roomOf_0 ++ dktX4_roomOf_1
theorem dksX4_roomOf_0 : cX4_roomOf.data.toList.drop 0 = dktX4_roomOf_0 := by decide +kernel
theorem dksX4_roomOf_1 : cX4_roomOf.data.toList.drop 24 = dktX4_roomOf_1 := dk_seg dksX4_roomOf_0 24 rfl rfl
theorem dX4_roomOf_0 : decode cX4_roomOf 0 = .ok (.aload_n 0, 1) := dk_42 (dk_at dksX4_roomOf_0 0 rfl rfl)
theorem dX4_roomOf_1 : decode cX4_roomOf 1 = .ok (.getfield 66, 3) := dk_180 0 66 (dk_at dksX4_roomOf_0 1 rfl rfl)
theorem dX4_roomOf_4 : decode cX4_roomOf 4 = .ok (.bipush 19, 2) := dk_16 19 (dk_at dksX4_roomOf_0 4 rfl rfl)
theorem dX4_roomOf_6 : decode cX4_roomOf 6 = .ok (.iload_n 1, 1) := dk_27 (dk_at dksX4_roomOf_0 6 rfl rfl)
theorem dX4_roomOf_7 : decode cX4_roomOf 7 = .ok (.iadd, 1) := dk_96 (dk_at dksX4_roomOf_0 7 rfl rfl)
theorem dX4_roomOf_8 : decode cX4_roomOf 8 = .ok (.iaload, 1) := dk_46 (dk_at dksX4_roomOf_0 8 rfl rfl)
theorem dX4_roomOf_9 : decode cX4_roomOf 9 = .ok (.istore_n 2, 1) := dk_61 (dk_at dksX4_roomOf_0 9 rfl rfl)
theorem dX4_roomOf_10 : decode cX4_roomOf 10 = .ok (.iload_n 2, 1) := dk_28 (dk_at dksX4_roomOf_0 10 rfl rfl)
theorem dX4_roomOf_11 : decode cX4_roomOf 11 = .ok (.iconst (-1), 1) := dk_2 (dk_at dksX4_roomOf_0 11 rfl rfl)
theorem dX4_roomOf_12 : decode cX4_roomOf 12 = .ok (.if_icmp .ne 7, 3) := dk_160 0 7 (dk_at dksX4_roomOf_0 12 rfl rfl)
theorem dX4_roomOf_15 : decode cX4_roomOf 15 = .ok (.iconst 0, 1) := dk_3 (dk_at dksX4_roomOf_0 15 rfl rfl)
theorem dX4_roomOf_16 : decode cX4_roomOf 16 = .ok (.goto 28, 3) := dk_167 0 28 (dk_at dksX4_roomOf_0 16 rfl rfl)
theorem dX4_roomOf_19 : decode cX4_roomOf 19 = .ok (.aload_n 0, 1) := dk_42 (dk_at dksX4_roomOf_0 19 rfl rfl)
theorem dX4_roomOf_20 : decode cX4_roomOf 20 = .ok (.getfield 66, 3) := dk_180 0 66 (dk_at dksX4_roomOf_0 20 rfl rfl)
theorem dX4_roomOf_23 : decode cX4_roomOf 23 = .ok (.iconst 3, 1) := dk_6 (dk_at dksX4_roomOf_0 23 rfl rfl)
theorem dX4_roomOf_24 : decode cX4_roomOf 24 = .ok (.iload_n 1, 1) := dk_27 (dk_at dksX4_roomOf_1 0 rfl rfl)
theorem dX4_roomOf_25 : decode cX4_roomOf 25 = .ok (.iadd, 1) := dk_96 (dk_at dksX4_roomOf_1 1 rfl rfl)
theorem dX4_roomOf_26 : decode cX4_roomOf 26 = .ok (.iaload, 1) := dk_46 (dk_at dksX4_roomOf_1 2 rfl rfl)
theorem dX4_roomOf_27 : decode cX4_roomOf 27 = .ok (.aload_n 0, 1) := dk_42 (dk_at dksX4_roomOf_1 3 rfl rfl)
theorem dX4_roomOf_28 : decode cX4_roomOf 28 = .ok (.getfield 66, 3) := dk_180 0 66 (dk_at dksX4_roomOf_1 4 rfl rfl)
theorem dX4_roomOf_31 : decode cX4_roomOf 31 = .ok (.bipush 27, 2) := dk_16 27 (dk_at dksX4_roomOf_1 7 rfl rfl)
theorem dX4_roomOf_33 : decode cX4_roomOf 33 = .ok (.iload_n 2, 1) := dk_28 (dk_at dksX4_roomOf_1 9 rfl rfl)
theorem dX4_roomOf_34 : decode cX4_roomOf 34 = .ok (.iadd, 1) := dk_96 (dk_at dksX4_roomOf_1 10 rfl rfl)
theorem dX4_roomOf_35 : decode cX4_roomOf 35 = .ok (.iaload, 1) := dk_46 (dk_at dksX4_roomOf_1 11 rfl rfl)
theorem dX4_roomOf_36 : decode cX4_roomOf 36 = .ok (.isub, 1) := dk_100 (dk_at dksX4_roomOf_1 12 rfl rfl)
theorem dX4_roomOf_37 : decode cX4_roomOf 37 = .ok (.iconst 0, 1) := dk_3 (dk_at dksX4_roomOf_1 13 rfl rfl)
theorem dX4_roomOf_38 : decode cX4_roomOf 38 = .ok (.ldc_w 305, 3) := dk_19 1 49 (dk_at dksX4_roomOf_1 14 rfl rfl)
theorem dX4_roomOf_41 : decode cX4_roomOf 41 = .ok (.invokestatic 306, 3) := dk_184 1 50 (dk_at dksX4_roomOf_1 17 rfl rfl)
theorem dX4_roomOf_44 : decode cX4_roomOf 44 = .ok (.ireturn, 1) := dk_172 (dk_at dksX4_roomOf_1 20 rfl rfl)
abbrev cX4_nextDoor : ByteArray := prog_12_method_69_code
def yX4_nextDoor : MethodName := ⟨RX4, "nextDoor", "(I)I"⟩
def dkwX4_nextDoor_2 : List UInt8 := [27, 46, 184, 1, 108, 162, 0, 5, 29, 61, 132, 3, 1, 167, 255, 200, 28, 172]
abbrev dktX4_nextDoor_2 : List UInt8 := dkwX4_nextDoor_2 ++ []
def dkwX4_nextDoor_1 : List UInt8 := [180, 0, 20, 29, 46, 42, 180, 0, 20, 27, 46, 184, 1, 108, 42, 180, 0, 20, 28, 46, 42, 180, 0, 20]
abbrev dktX4_nextDoor_1 : List UInt8 := dkwX4_nextDoor_1 ++ dktX4_nextDoor_2
def dkwX4_nextDoor_0 : List UInt8 := [2, 61, 3, 62, 29, 42, 180, 1, 19, 162, 0, 54, 29, 27, 159, 0, 43, 28, 2, 159, 0, 36, 42]
abbrev dktX4_nextDoor_0 : List UInt8 := dkwX4_nextDoor_0 ++ dktX4_nextDoor_1
theorem dksX4_nextDoor_0 : cX4_nextDoor.data.toList.drop 0 = dktX4_nextDoor_0 := by decide +kernel
theorem dksX4_nextDoor_1 : cX4_nextDoor.data.toList.drop 23 = dktX4_nextDoor_1 := dk_seg dksX4_nextDoor_0 23 rfl rfl
theorem dksX4_nextDoor_2 : cX4_nextDoor.data.toList.drop 47 = dktX4_nextDoor_2 := dk_seg dksX4_nextDoor_1 24 rfl rfl
theorem dX4_nextDoor_0 : decode cX4_nextDoor 0 = .ok (.iconst (-1), 1) := dk_2 (dk_at dksX4_nextDoor_0 0 rfl rfl)
theorem dX4_nextDoor_1 : decode cX4_nextDoor 1 = .ok (.istore_n 2, 1) := dk_61 (dk_at dksX4_nextDoor_0 1 rfl rfl)
theorem dX4_nextDoor_2 : decode cX4_nextDoor 2 = .ok (.iconst 0, 1) := dk_3 (dk_at dksX4_nextDoor_0 2 rfl rfl)
theorem dX4_nextDoor_3 : decode cX4_nextDoor 3 = .ok (.istore_n 3, 1) := dk_62 (dk_at dksX4_nextDoor_0 3 rfl rfl)
theorem dX4_nextDoor_4 : decode cX4_nextDoor 4 = .ok (.iload_n 3, 1) := dk_29 (dk_at dksX4_nextDoor_0 4 rfl rfl)
theorem dX4_nextDoor_5 : decode cX4_nextDoor 5 = .ok (.aload_n 0, 1) := dk_42 (dk_at dksX4_nextDoor_0 5 rfl rfl)
theorem dX4_nextDoor_6 : decode cX4_nextDoor 6 = .ok (.getfield 275, 3) := dk_180 1 19 (dk_at dksX4_nextDoor_0 6 rfl rfl)
theorem dX4_nextDoor_9 : decode cX4_nextDoor 9 = .ok (.if_icmp .ge 54, 3) := dk_162 0 54 (dk_at dksX4_nextDoor_0 9 rfl rfl)
theorem dX4_nextDoor_12 : decode cX4_nextDoor 12 = .ok (.iload_n 3, 1) := dk_29 (dk_at dksX4_nextDoor_0 12 rfl rfl)
theorem dX4_nextDoor_13 : decode cX4_nextDoor 13 = .ok (.iload_n 1, 1) := dk_27 (dk_at dksX4_nextDoor_0 13 rfl rfl)
theorem dX4_nextDoor_14 : decode cX4_nextDoor 14 = .ok (.if_icmp .eq 43, 3) := dk_159 0 43 (dk_at dksX4_nextDoor_0 14 rfl rfl)
theorem dX4_nextDoor_17 : decode cX4_nextDoor 17 = .ok (.iload_n 2, 1) := dk_28 (dk_at dksX4_nextDoor_0 17 rfl rfl)
theorem dX4_nextDoor_18 : decode cX4_nextDoor 18 = .ok (.iconst (-1), 1) := dk_2 (dk_at dksX4_nextDoor_0 18 rfl rfl)
theorem dX4_nextDoor_19 : decode cX4_nextDoor 19 = .ok (.if_icmp .eq 36, 3) := dk_159 0 36 (dk_at dksX4_nextDoor_0 19 rfl rfl)
theorem dX4_nextDoor_22 : decode cX4_nextDoor 22 = .ok (.aload_n 0, 1) := dk_42 (dk_at dksX4_nextDoor_0 22 rfl rfl)
theorem dX4_nextDoor_23 : decode cX4_nextDoor 23 = .ok (.getfield 20, 3) := dk_180 0 20 (dk_at dksX4_nextDoor_1 0 rfl rfl)
theorem dX4_nextDoor_26 : decode cX4_nextDoor 26 = .ok (.iload_n 3, 1) := dk_29 (dk_at dksX4_nextDoor_1 3 rfl rfl)
theorem dX4_nextDoor_27 : decode cX4_nextDoor 27 = .ok (.iaload, 1) := dk_46 (dk_at dksX4_nextDoor_1 4 rfl rfl)
theorem dX4_nextDoor_28 : decode cX4_nextDoor 28 = .ok (.aload_n 0, 1) := dk_42 (dk_at dksX4_nextDoor_1 5 rfl rfl)
theorem dX4_nextDoor_29 : decode cX4_nextDoor 29 = .ok (.getfield 20, 3) := dk_180 0 20 (dk_at dksX4_nextDoor_1 6 rfl rfl)
theorem dX4_nextDoor_32 : decode cX4_nextDoor 32 = .ok (.iload_n 1, 1) := dk_27 (dk_at dksX4_nextDoor_1 9 rfl rfl)
theorem dX4_nextDoor_33 : decode cX4_nextDoor 33 = .ok (.iaload, 1) := dk_46 (dk_at dksX4_nextDoor_1 10 rfl rfl)
theorem dX4_nextDoor_34 : decode cX4_nextDoor 34 = .ok (.invokestatic 364, 3) := dk_184 1 108 (dk_at dksX4_nextDoor_1 11 rfl rfl)
theorem dX4_nextDoor_37 : decode cX4_nextDoor 37 = .ok (.aload_n 0, 1) := dk_42 (dk_at dksX4_nextDoor_1 14 rfl rfl)
theorem dX4_nextDoor_38 : decode cX4_nextDoor 38 = .ok (.getfield 20, 3) := dk_180 0 20 (dk_at dksX4_nextDoor_1 15 rfl rfl)
theorem dX4_nextDoor_41 : decode cX4_nextDoor 41 = .ok (.iload_n 2, 1) := dk_28 (dk_at dksX4_nextDoor_1 18 rfl rfl)
theorem dX4_nextDoor_42 : decode cX4_nextDoor 42 = .ok (.iaload, 1) := dk_46 (dk_at dksX4_nextDoor_1 19 rfl rfl)
theorem dX4_nextDoor_43 : decode cX4_nextDoor 43 = .ok (.aload_n 0, 1) := dk_42 (dk_at dksX4_nextDoor_1 20 rfl rfl)
theorem dX4_nextDoor_44 : decode cX4_nextDoor 44 = .ok (.getfield 20, 3) := dk_180 0 20 (dk_at dksX4_nextDoor_1 21 rfl rfl)
theorem dX4_nextDoor_47 : decode cX4_nextDoor 47 = .ok (.iload_n 1, 1) := dk_27 (dk_at dksX4_nextDoor_2 0 rfl rfl)
theorem dX4_nextDoor_48 : decode cX4_nextDoor 48 = .ok (.iaload, 1) := dk_46 (dk_at dksX4_nextDoor_2 1 rfl rfl)
theorem dX4_nextDoor_49 : decode cX4_nextDoor 49 = .ok (.invokestatic 364, 3) := dk_184 1 108 (dk_at dksX4_nextDoor_2 2 rfl rfl)
theorem dX4_nextDoor_52 : decode cX4_nextDoor 52 = .ok (.if_icmp .ge 5, 3) := dk_162 0 5 (dk_at dksX4_nextDoor_2 5 rfl rfl)
theorem dX4_nextDoor_55 : decode cX4_nextDoor 55 = .ok (.iload_n 3, 1) := dk_29 (dk_at dksX4_nextDoor_2 8 rfl rfl)
theorem dX4_nextDoor_56 : decode cX4_nextDoor 56 = .ok (.istore_n 2, 1) := dk_61 (dk_at dksX4_nextDoor_2 9 rfl rfl)
theorem dX4_nextDoor_57 : decode cX4_nextDoor 57 = .ok (.iinc 3 1, 3) := dk_132 3 1 (dk_at dksX4_nextDoor_2 10 rfl rfl)
theorem dX4_nextDoor_60 : decode cX4_nextDoor 60 = .ok (.goto (-56), 3) := dk_167 255 200 (dk_at dksX4_nextDoor_2 13 rfl rfl)
theorem dX4_nextDoor_63 : decode cX4_nextDoor 63 = .ok (.iload_n 2, 1) := dk_28 (dk_at dksX4_nextDoor_2 16 rfl rfl)
theorem dX4_nextDoor_64 : decode cX4_nextDoor 64 = .ok (.ireturn, 1) := dk_172 (dk_at dksX4_nextDoor_2 17 rfl rfl)
abbrev cX4_off : ByteArray := prog_12_method_7_code
def yX4_off : MethodName := ⟨RX4, "off", "(II)I"⟩
def dkwX4_off_0 : List UInt8 := [26, 27, 162, 0, 9, 27, 26, 100, 167, 0, 6, 26, 27, 100, 172]
abbrev dktX4_off_0 : List UInt8 := dkwX4_off_0 ++ []
theorem dksX4_off_0 : cX4_off.data.toList.drop 0 = dktX4_off_0 := by decide +kernel
theorem dX4_off_0 : decode cX4_off 0 = .ok (.iload_n 0, 1) := dk_26 (dk_at dksX4_off_0 0 rfl rfl)
theorem dX4_off_1 : decode cX4_off 1 = .ok (.iload_n 1, 1) := dk_27 (dk_at dksX4_off_0 1 rfl rfl)
theorem dX4_off_2 : decode cX4_off 2 = .ok (.if_icmp .ge 9, 3) := dk_162 0 9 (dk_at dksX4_off_0 2 rfl rfl)
theorem dX4_off_5 : decode cX4_off 5 = .ok (.iload_n 1, 1) := dk_27 (dk_at dksX4_off_0 5 rfl rfl)
theorem dX4_off_6 : decode cX4_off 6 = .ok (.iload_n 0, 1) := dk_26 (dk_at dksX4_off_0 6 rfl rfl)
theorem dX4_off_7 : decode cX4_off 7 = .ok (.isub, 1) := dk_100 (dk_at dksX4_off_0 7 rfl rfl)
theorem dX4_off_8 : decode cX4_off 8 = .ok (.goto 6, 3) := dk_167 0 6 (dk_at dksX4_off_0 8 rfl rfl)
theorem dX4_off_11 : decode cX4_off 11 = .ok (.iload_n 0, 1) := dk_26 (dk_at dksX4_off_0 11 rfl rfl)
theorem dX4_off_12 : decode cX4_off 12 = .ok (.iload_n 1, 1) := dk_27 (dk_at dksX4_off_0 12 rfl rfl)
theorem dX4_off_13 : decode cX4_off 13 = .ok (.isub, 1) := dk_100 (dk_at dksX4_off_0 13 rfl rfl)
theorem dX4_off_14 : decode cX4_off 14 = .ok (.ireturn, 1) := dk_172 (dk_at dksX4_off_0 14 rfl rfl)
abbrev cX4_person : ByteArray := prog_12_method_72_code
def yX4_person : MethodName := ⟨RX4, "person", "(II)I"⟩
def dkwX4_person_3 : List UInt8 := [160, 0, 15, 42, 180, 0, 66, 16, 35, 27, 96, 46, 167, 0, 8, 42, 27, 182, 1, 86, 172]
abbrev dktX4_person_3 : List UInt8 := dkwX4_person_3 ++ []
def dkwX4_person_2 : List UInt8 := [180, 0, 23, 27, 46, 167, 0, 39, 28, 5, 160, 0, 12, 42, 3, 27, 182, 1, 83, 167, 0, 25, 28, 6]
abbrev dktX4_person_2 : List UInt8 := dkwX4_person_2 ++ dktX4_person_3
def dkwX4_person_1 : List UInt8 := [28, 154, 0, 15, 42, 180, 0, 66, 16, 27, 27, 96, 46, 167, 0, 53, 28, 4, 160, 0, 12, 42]
abbrev dktX4_person_1 : List UInt8 := dkwX4_person_1 ++ dktX4_person_2
def dkwX4_person_0 : List UInt8 := [42, 3, 181, 0, 111, 42, 27, 182, 1, 123, 153, 0, 12, 42, 28, 7, 182, 1, 114, 154, 0, 5, 3, 172]
abbrev dktX4_person_0 : List UInt8 := dkwX4_person_0 ++ dktX4_person_1
theorem dksX4_person_0 : cX4_person.data.toList.drop 0 = dktX4_person_0 := by decide +kernel
theorem dksX4_person_1 : cX4_person.data.toList.drop 24 = dktX4_person_1 := dk_seg dksX4_person_0 24 rfl rfl
theorem dksX4_person_2 : cX4_person.data.toList.drop 46 = dktX4_person_2 := dk_seg dksX4_person_1 22 rfl rfl
theorem dksX4_person_3 : cX4_person.data.toList.drop 70 = dktX4_person_3 := dk_seg dksX4_person_2 24 rfl rfl
theorem dX4_person_0 : decode cX4_person 0 = .ok (.aload_n 0, 1) := dk_42 (dk_at dksX4_person_0 0 rfl rfl)
theorem dX4_person_1 : decode cX4_person 1 = .ok (.iconst 0, 1) := dk_3 (dk_at dksX4_person_0 1 rfl rfl)
theorem dX4_person_2 : decode cX4_person 2 = .ok (.putfield 111, 3) := dk_181 0 111 (dk_at dksX4_person_0 2 rfl rfl)
theorem dX4_person_5 : decode cX4_person 5 = .ok (.aload_n 0, 1) := dk_42 (dk_at dksX4_person_0 5 rfl rfl)
theorem dX4_person_6 : decode cX4_person 6 = .ok (.iload_n 1, 1) := dk_27 (dk_at dksX4_person_0 6 rfl rfl)
theorem dX4_person_7 : decode cX4_person 7 = .ok (.invokevirtual 379, 3) := dk_182 1 123 (dk_at dksX4_person_0 7 rfl rfl)
theorem dX4_person_10 : decode cX4_person 10 = .ok (.ifCond .eq 12, 3) := dk_153 0 12 (dk_at dksX4_person_0 10 rfl rfl)
theorem dX4_person_13 : decode cX4_person 13 = .ok (.aload_n 0, 1) := dk_42 (dk_at dksX4_person_0 13 rfl rfl)
theorem dX4_person_14 : decode cX4_person 14 = .ok (.iload_n 2, 1) := dk_28 (dk_at dksX4_person_0 14 rfl rfl)
theorem dX4_person_15 : decode cX4_person 15 = .ok (.iconst 4, 1) := dk_7 (dk_at dksX4_person_0 15 rfl rfl)
theorem dX4_person_16 : decode cX4_person 16 = .ok (.invokevirtual 370, 3) := dk_182 1 114 (dk_at dksX4_person_0 16 rfl rfl)
theorem dX4_person_19 : decode cX4_person 19 = .ok (.ifCond .ne 5, 3) := dk_154 0 5 (dk_at dksX4_person_0 19 rfl rfl)
theorem dX4_person_22 : decode cX4_person 22 = .ok (.iconst 0, 1) := dk_3 (dk_at dksX4_person_0 22 rfl rfl)
theorem dX4_person_23 : decode cX4_person 23 = .ok (.ireturn, 1) := dk_172 (dk_at dksX4_person_0 23 rfl rfl)
theorem dX4_person_24 : decode cX4_person 24 = .ok (.iload_n 2, 1) := dk_28 (dk_at dksX4_person_1 0 rfl rfl)
theorem dX4_person_25 : decode cX4_person 25 = .ok (.ifCond .ne 15, 3) := dk_154 0 15 (dk_at dksX4_person_1 1 rfl rfl)
theorem dX4_person_28 : decode cX4_person 28 = .ok (.aload_n 0, 1) := dk_42 (dk_at dksX4_person_1 4 rfl rfl)
theorem dX4_person_29 : decode cX4_person 29 = .ok (.getfield 66, 3) := dk_180 0 66 (dk_at dksX4_person_1 5 rfl rfl)
theorem dX4_person_32 : decode cX4_person 32 = .ok (.bipush 27, 2) := dk_16 27 (dk_at dksX4_person_1 8 rfl rfl)
theorem dX4_person_34 : decode cX4_person 34 = .ok (.iload_n 1, 1) := dk_27 (dk_at dksX4_person_1 10 rfl rfl)
theorem dX4_person_35 : decode cX4_person 35 = .ok (.iadd, 1) := dk_96 (dk_at dksX4_person_1 11 rfl rfl)
theorem dX4_person_36 : decode cX4_person 36 = .ok (.iaload, 1) := dk_46 (dk_at dksX4_person_1 12 rfl rfl)
theorem dX4_person_37 : decode cX4_person 37 = .ok (.goto 53, 3) := dk_167 0 53 (dk_at dksX4_person_1 13 rfl rfl)
theorem dX4_person_40 : decode cX4_person 40 = .ok (.iload_n 2, 1) := dk_28 (dk_at dksX4_person_1 16 rfl rfl)
theorem dX4_person_41 : decode cX4_person 41 = .ok (.iconst 1, 1) := dk_4 (dk_at dksX4_person_1 17 rfl rfl)
theorem dX4_person_42 : decode cX4_person 42 = .ok (.if_icmp .ne 12, 3) := dk_160 0 12 (dk_at dksX4_person_1 18 rfl rfl)
theorem dX4_person_45 : decode cX4_person 45 = .ok (.aload_n 0, 1) := dk_42 (dk_at dksX4_person_1 21 rfl rfl)
theorem dX4_person_46 : decode cX4_person 46 = .ok (.getfield 23, 3) := dk_180 0 23 (dk_at dksX4_person_2 0 rfl rfl)
theorem dX4_person_49 : decode cX4_person 49 = .ok (.iload_n 1, 1) := dk_27 (dk_at dksX4_person_2 3 rfl rfl)
theorem dX4_person_50 : decode cX4_person 50 = .ok (.iaload, 1) := dk_46 (dk_at dksX4_person_2 4 rfl rfl)
theorem dX4_person_51 : decode cX4_person 51 = .ok (.goto 39, 3) := dk_167 0 39 (dk_at dksX4_person_2 5 rfl rfl)
theorem dX4_person_54 : decode cX4_person 54 = .ok (.iload_n 2, 1) := dk_28 (dk_at dksX4_person_2 8 rfl rfl)
theorem dX4_person_55 : decode cX4_person 55 = .ok (.iconst 2, 1) := dk_5 (dk_at dksX4_person_2 9 rfl rfl)
theorem dX4_person_56 : decode cX4_person 56 = .ok (.if_icmp .ne 12, 3) := dk_160 0 12 (dk_at dksX4_person_2 10 rfl rfl)
theorem dX4_person_59 : decode cX4_person 59 = .ok (.aload_n 0, 1) := dk_42 (dk_at dksX4_person_2 13 rfl rfl)
theorem dX4_person_60 : decode cX4_person 60 = .ok (.iconst 0, 1) := dk_3 (dk_at dksX4_person_2 14 rfl rfl)
theorem dX4_person_61 : decode cX4_person 61 = .ok (.iload_n 1, 1) := dk_27 (dk_at dksX4_person_2 15 rfl rfl)
theorem dX4_person_62 : decode cX4_person 62 = .ok (.invokevirtual 339, 3) := dk_182 1 83 (dk_at dksX4_person_2 16 rfl rfl)
theorem dX4_person_65 : decode cX4_person 65 = .ok (.goto 25, 3) := dk_167 0 25 (dk_at dksX4_person_2 19 rfl rfl)
theorem dX4_person_68 : decode cX4_person 68 = .ok (.iload_n 2, 1) := dk_28 (dk_at dksX4_person_2 22 rfl rfl)
theorem dX4_person_69 : decode cX4_person 69 = .ok (.iconst 3, 1) := dk_6 (dk_at dksX4_person_2 23 rfl rfl)
theorem dX4_person_70 : decode cX4_person 70 = .ok (.if_icmp .ne 15, 3) := dk_160 0 15 (dk_at dksX4_person_3 0 rfl rfl)
theorem dX4_person_73 : decode cX4_person 73 = .ok (.aload_n 0, 1) := dk_42 (dk_at dksX4_person_3 3 rfl rfl)
theorem dX4_person_74 : decode cX4_person 74 = .ok (.getfield 66, 3) := dk_180 0 66 (dk_at dksX4_person_3 4 rfl rfl)
theorem dX4_person_77 : decode cX4_person 77 = .ok (.bipush 35, 2) := dk_16 35 (dk_at dksX4_person_3 7 rfl rfl)
theorem dX4_person_79 : decode cX4_person 79 = .ok (.iload_n 1, 1) := dk_27 (dk_at dksX4_person_3 9 rfl rfl)
theorem dX4_person_80 : decode cX4_person 80 = .ok (.iadd, 1) := dk_96 (dk_at dksX4_person_3 10 rfl rfl)
theorem dX4_person_81 : decode cX4_person 81 = .ok (.iaload, 1) := dk_46 (dk_at dksX4_person_3 11 rfl rfl)
theorem dX4_person_82 : decode cX4_person 82 = .ok (.goto 8, 3) := dk_167 0 8 (dk_at dksX4_person_3 12 rfl rfl)
theorem dX4_person_85 : decode cX4_person 85 = .ok (.aload_n 0, 1) := dk_42 (dk_at dksX4_person_3 15 rfl rfl)
theorem dX4_person_86 : decode cX4_person 86 = .ok (.iload_n 1, 1) := dk_27 (dk_at dksX4_person_3 16 rfl rfl)
theorem dX4_person_87 : decode cX4_person 87 = .ok (.invokevirtual 342, 3) := dk_182 1 86 (dk_at dksX4_person_3 17 rfl rfl)
theorem dX4_person_90 : decode cX4_person 90 = .ok (.ireturn, 1) := dk_172 (dk_at dksX4_person_3 20 rfl rfl)
abbrev cX4_isPerson : ByteArray := prog_12_method_66_code
def yX4_isPerson : MethodName := ⟨RX4, "isPerson", "(I)Z"⟩
def dkwX4_isPerson_0 : List UInt8 := [42, 27, 155, 0, 15, 27, 42, 180, 1, 22, 162, 0, 7, 4, 167, 0, 4, 3, 4, 182, 1, 12, 172]
abbrev dktX4_isPerson_0 : List UInt8 := dkwX4_isPerson_0 ++ []
theorem dksX4_isPerson_0 : cX4_isPerson.data.toList.drop 0 = dktX4_isPerson_0 := by decide +kernel
theorem dX4_isPerson_0 : decode cX4_isPerson 0 = .ok (.aload_n 0, 1) := dk_42 (dk_at dksX4_isPerson_0 0 rfl rfl)
theorem dX4_isPerson_1 : decode cX4_isPerson 1 = .ok (.iload_n 1, 1) := dk_27 (dk_at dksX4_isPerson_0 1 rfl rfl)
theorem dX4_isPerson_2 : decode cX4_isPerson 2 = .ok (.ifCond .lt 15, 3) := dk_155 0 15 (dk_at dksX4_isPerson_0 2 rfl rfl)
theorem dX4_isPerson_5 : decode cX4_isPerson 5 = .ok (.iload_n 1, 1) := dk_27 (dk_at dksX4_isPerson_0 5 rfl rfl)
theorem dX4_isPerson_6 : decode cX4_isPerson 6 = .ok (.aload_n 0, 1) := dk_42 (dk_at dksX4_isPerson_0 6 rfl rfl)
theorem dX4_isPerson_7 : decode cX4_isPerson 7 = .ok (.getfield 278, 3) := dk_180 1 22 (dk_at dksX4_isPerson_0 7 rfl rfl)
theorem dX4_isPerson_10 : decode cX4_isPerson 10 = .ok (.if_icmp .ge 7, 3) := dk_162 0 7 (dk_at dksX4_isPerson_0 10 rfl rfl)
theorem dX4_isPerson_13 : decode cX4_isPerson 13 = .ok (.iconst 1, 1) := dk_4 (dk_at dksX4_isPerson_0 13 rfl rfl)
theorem dX4_isPerson_14 : decode cX4_isPerson 14 = .ok (.goto 4, 3) := dk_167 0 4 (dk_at dksX4_isPerson_0 14 rfl rfl)
theorem dX4_isPerson_17 : decode cX4_isPerson 17 = .ok (.iconst 0, 1) := dk_3 (dk_at dksX4_isPerson_0 17 rfl rfl)
theorem dX4_isPerson_18 : decode cX4_isPerson 18 = .ok (.iconst 1, 1) := dk_4 (dk_at dksX4_isPerson_0 18 rfl rfl)
theorem dX4_isPerson_19 : decode cX4_isPerson 19 = .ok (.invokevirtual 268, 3) := dk_182 1 12 (dk_at dksX4_isPerson_0 19 rfl rfl)
theorem dX4_isPerson_22 : decode cX4_isPerson 22 = .ok (.ireturn, 1) := dk_172 (dk_at dksX4_isPerson_0 22 rfl rfl)
abbrev cX4_eases : ByteArray := prog_12_method_73_code
def yX4_eases : MethodName := ⟨RX4, "eases", "(II)I"⟩
def dkwX4_eases_1 : List UInt8 := [28, 182, 1, 70, 167, 0, 4, 3, 172]
abbrev dktX4_eases_1 : List UInt8 := dkwX4_eases_1 ++ []
def dkwX4_eases_0 : List UInt8 := [42, 3, 181, 0, 111, 42, 27, 182, 1, 123, 153, 0, 21, 42, 28, 182, 1, 111, 153, 0, 13, 42, 3, 27]
abbrev dktX4_eases_0 : List UInt8 := dkwX4_eases_0 ++ dktX4_eases_1
theorem dksX4_eases_0 : cX4_eases.data.toList.drop 0 = dktX4_eases_0 := by decide +kernel
theorem dksX4_eases_1 : cX4_eases.data.toList.drop 24 = dktX4_eases_1 := dk_seg dksX4_eases_0 24 rfl rfl
theorem dX4_eases_0 : decode cX4_eases 0 = .ok (.aload_n 0, 1) := dk_42 (dk_at dksX4_eases_0 0 rfl rfl)
theorem dX4_eases_1 : decode cX4_eases 1 = .ok (.iconst 0, 1) := dk_3 (dk_at dksX4_eases_0 1 rfl rfl)
theorem dX4_eases_2 : decode cX4_eases 2 = .ok (.putfield 111, 3) := dk_181 0 111 (dk_at dksX4_eases_0 2 rfl rfl)
theorem dX4_eases_5 : decode cX4_eases 5 = .ok (.aload_n 0, 1) := dk_42 (dk_at dksX4_eases_0 5 rfl rfl)
theorem dX4_eases_6 : decode cX4_eases 6 = .ok (.iload_n 1, 1) := dk_27 (dk_at dksX4_eases_0 6 rfl rfl)
theorem dX4_eases_7 : decode cX4_eases 7 = .ok (.invokevirtual 379, 3) := dk_182 1 123 (dk_at dksX4_eases_0 7 rfl rfl)
theorem dX4_eases_10 : decode cX4_eases 10 = .ok (.ifCond .eq 21, 3) := dk_153 0 21 (dk_at dksX4_eases_0 10 rfl rfl)
theorem dX4_eases_13 : decode cX4_eases 13 = .ok (.aload_n 0, 1) := dk_42 (dk_at dksX4_eases_0 13 rfl rfl)
theorem dX4_eases_14 : decode cX4_eases 14 = .ok (.iload_n 2, 1) := dk_28 (dk_at dksX4_eases_0 14 rfl rfl)
theorem dX4_eases_15 : decode cX4_eases 15 = .ok (.invokevirtual 367, 3) := dk_182 1 111 (dk_at dksX4_eases_0 15 rfl rfl)
theorem dX4_eases_18 : decode cX4_eases 18 = .ok (.ifCond .eq 13, 3) := dk_153 0 13 (dk_at dksX4_eases_0 18 rfl rfl)
theorem dX4_eases_21 : decode cX4_eases 21 = .ok (.aload_n 0, 1) := dk_42 (dk_at dksX4_eases_0 21 rfl rfl)
theorem dX4_eases_22 : decode cX4_eases 22 = .ok (.iconst 0, 1) := dk_3 (dk_at dksX4_eases_0 22 rfl rfl)
theorem dX4_eases_23 : decode cX4_eases 23 = .ok (.iload_n 1, 1) := dk_27 (dk_at dksX4_eases_0 23 rfl rfl)
theorem dX4_eases_24 : decode cX4_eases 24 = .ok (.iload_n 2, 1) := dk_28 (dk_at dksX4_eases_1 0 rfl rfl)
theorem dX4_eases_25 : decode cX4_eases 25 = .ok (.invokevirtual 326, 3) := dk_182 1 70 (dk_at dksX4_eases_1 1 rfl rfl)
theorem dX4_eases_28 : decode cX4_eases 28 = .ok (.goto 4, 3) := dk_167 0 4 (dk_at dksX4_eases_1 4 rfl rfl)
theorem dX4_eases_31 : decode cX4_eases 31 = .ok (.iconst 0, 1) := dk_3 (dk_at dksX4_eases_1 7 rfl rfl)
theorem dX4_eases_32 : decode cX4_eases 32 = .ok (.ireturn, 1) := dk_172 (dk_at dksX4_eases_1 8 rfl rfl)
abbrev cX4_days : ByteArray := prog_12_method_74_code
def yX4_days : MethodName := ⟨RX4, "days", "(I)I"⟩
def dkwX4_days_2 : List UInt8 := [3, 182, 1, 80, 132, 2, 1, 167, 255, 243, 42, 180, 0, 66, 3, 46, 172]
abbrev dktX4_days_2 : List UInt8 := dkwX4_days_2 ++ []
def dkwX4_days_1 : List UInt8 := [17, 3, 231, 164, 0, 9, 42, 4, 182, 1, 126, 172, 42, 182, 1, 129, 3, 61, 28, 27, 162, 0, 14, 42]
abbrev dktX4_days_1 : List UInt8 := dkwX4_days_1 ++ dktX4_days_2
def dkwX4_days_0 : List UInt8 := [42, 3, 181, 0, 111, 27, 4, 16, 20, 184, 1, 89, 153, 0, 17, 42, 180, 0, 66, 3, 46, 27, 96]
abbrev dktX4_days_0 : List UInt8 := dkwX4_days_0 ++ dktX4_days_1
theorem dksX4_days_0 : cX4_days.data.toList.drop 0 = dktX4_days_0 := by decide +kernel
theorem dksX4_days_1 : cX4_days.data.toList.drop 23 = dktX4_days_1 := dk_seg dksX4_days_0 23 rfl rfl
theorem dksX4_days_2 : cX4_days.data.toList.drop 47 = dktX4_days_2 := dk_seg dksX4_days_1 24 rfl rfl
theorem dX4_days_0 : decode cX4_days 0 = .ok (.aload_n 0, 1) := dk_42 (dk_at dksX4_days_0 0 rfl rfl)
theorem dX4_days_1 : decode cX4_days 1 = .ok (.iconst 0, 1) := dk_3 (dk_at dksX4_days_0 1 rfl rfl)
theorem dX4_days_2 : decode cX4_days 2 = .ok (.putfield 111, 3) := dk_181 0 111 (dk_at dksX4_days_0 2 rfl rfl)
theorem dX4_days_5 : decode cX4_days 5 = .ok (.iload_n 1, 1) := dk_27 (dk_at dksX4_days_0 5 rfl rfl)
theorem dX4_days_6 : decode cX4_days 6 = .ok (.iconst 1, 1) := dk_4 (dk_at dksX4_days_0 6 rfl rfl)
theorem dX4_days_7 : decode cX4_days 7 = .ok (.bipush 20, 2) := dk_16 20 (dk_at dksX4_days_0 7 rfl rfl)
theorem dX4_days_9 : decode cX4_days 9 = .ok (.invokestatic 345, 3) := dk_184 1 89 (dk_at dksX4_days_0 9 rfl rfl)
theorem dX4_days_12 : decode cX4_days 12 = .ok (.ifCond .eq 17, 3) := dk_153 0 17 (dk_at dksX4_days_0 12 rfl rfl)
theorem dX4_days_15 : decode cX4_days 15 = .ok (.aload_n 0, 1) := dk_42 (dk_at dksX4_days_0 15 rfl rfl)
theorem dX4_days_16 : decode cX4_days 16 = .ok (.getfield 66, 3) := dk_180 0 66 (dk_at dksX4_days_0 16 rfl rfl)
theorem dX4_days_19 : decode cX4_days 19 = .ok (.iconst 0, 1) := dk_3 (dk_at dksX4_days_0 19 rfl rfl)
theorem dX4_days_20 : decode cX4_days 20 = .ok (.iaload, 1) := dk_46 (dk_at dksX4_days_0 20 rfl rfl)
theorem dX4_days_21 : decode cX4_days 21 = .ok (.iload_n 1, 1) := dk_27 (dk_at dksX4_days_0 21 rfl rfl)
theorem dX4_days_22 : decode cX4_days 22 = .ok (.iadd, 1) := dk_96 (dk_at dksX4_days_0 22 rfl rfl)
theorem dX4_days_23 : decode cX4_days 23 = .ok (.sipush 999, 3) := dk_17 3 231 (dk_at dksX4_days_1 0 rfl rfl)
theorem dX4_days_26 : decode cX4_days 26 = .ok (.if_icmp .le 9, 3) := dk_164 0 9 (dk_at dksX4_days_1 3 rfl rfl)
theorem dX4_days_29 : decode cX4_days 29 = .ok (.aload_n 0, 1) := dk_42 (dk_at dksX4_days_1 6 rfl rfl)
theorem dX4_days_30 : decode cX4_days 30 = .ok (.iconst 1, 1) := dk_4 (dk_at dksX4_days_1 7 rfl rfl)
theorem dX4_days_31 : decode cX4_days 31 = .ok (.invokevirtual 382, 3) := dk_182 1 126 (dk_at dksX4_days_1 8 rfl rfl)
theorem dX4_days_34 : decode cX4_days 34 = .ok (.ireturn, 1) := dk_172 (dk_at dksX4_days_1 11 rfl rfl)
theorem dX4_days_35 : decode cX4_days 35 = .ok (.aload_n 0, 1) := dk_42 (dk_at dksX4_days_1 12 rfl rfl)
theorem dX4_days_36 : decode cX4_days 36 = .ok (.invokevirtual 385, 3) := dk_182 1 129 (dk_at dksX4_days_1 13 rfl rfl)
theorem dX4_days_39 : decode cX4_days 39 = .ok (.iconst 0, 1) := dk_3 (dk_at dksX4_days_1 16 rfl rfl)
theorem dX4_days_40 : decode cX4_days 40 = .ok (.istore_n 2, 1) := dk_61 (dk_at dksX4_days_1 17 rfl rfl)
theorem dX4_days_41 : decode cX4_days 41 = .ok (.iload_n 2, 1) := dk_28 (dk_at dksX4_days_1 18 rfl rfl)
theorem dX4_days_42 : decode cX4_days 42 = .ok (.iload_n 1, 1) := dk_27 (dk_at dksX4_days_1 19 rfl rfl)
theorem dX4_days_43 : decode cX4_days 43 = .ok (.if_icmp .ge 14, 3) := dk_162 0 14 (dk_at dksX4_days_1 20 rfl rfl)
theorem dX4_days_46 : decode cX4_days 46 = .ok (.aload_n 0, 1) := dk_42 (dk_at dksX4_days_1 23 rfl rfl)
theorem dX4_days_47 : decode cX4_days 47 = .ok (.iconst 0, 1) := dk_3 (dk_at dksX4_days_2 0 rfl rfl)
theorem dX4_days_48 : decode cX4_days 48 = .ok (.invokevirtual 336, 3) := dk_182 1 80 (dk_at dksX4_days_2 1 rfl rfl)
theorem dX4_days_51 : decode cX4_days 51 = .ok (.iinc 2 1, 3) := dk_132 2 1 (dk_at dksX4_days_2 4 rfl rfl)
theorem dX4_days_54 : decode cX4_days 54 = .ok (.goto (-13), 3) := dk_167 255 243 (dk_at dksX4_days_2 7 rfl rfl)
theorem dX4_days_57 : decode cX4_days 57 = .ok (.aload_n 0, 1) := dk_42 (dk_at dksX4_days_2 10 rfl rfl)
theorem dX4_days_58 : decode cX4_days 58 = .ok (.getfield 66, 3) := dk_180 0 66 (dk_at dksX4_days_2 11 rfl rfl)
theorem dX4_days_61 : decode cX4_days 61 = .ok (.iconst 0, 1) := dk_3 (dk_at dksX4_days_2 14 rfl rfl)
theorem dX4_days_62 : decode cX4_days 62 = .ok (.iaload, 1) := dk_46 (dk_at dksX4_days_2 15 rfl rfl)
theorem dX4_days_63 : decode cX4_days 63 = .ok (.ireturn, 1) := dk_172 (dk_at dksX4_days_2 16 rfl rfl)
abbrev cX4_refuses : ByteArray := prog_12_method_43_code
def yX4_refuses : MethodName := ⟨RX4, "refuses", "(I)I"⟩
def dkwX4_refuses_0 : List UInt8 := [42, 180, 0, 38, 27, 92, 46, 4, 96, 79, 2, 172]
abbrev dktX4_refuses_0 : List UInt8 := dkwX4_refuses_0 ++ []
theorem dksX4_refuses_0 : cX4_refuses.data.toList.drop 0 = dktX4_refuses_0 := by decide +kernel
theorem dX4_refuses_0 : decode cX4_refuses 0 = .ok (.aload_n 0, 1) := dk_42 (dk_at dksX4_refuses_0 0 rfl rfl)
theorem dX4_refuses_1 : decode cX4_refuses 1 = .ok (.getfield 38, 3) := dk_180 0 38 (dk_at dksX4_refuses_0 1 rfl rfl)
theorem dX4_refuses_4 : decode cX4_refuses 4 = .ok (.iload_n 1, 1) := dk_27 (dk_at dksX4_refuses_0 4 rfl rfl)
theorem dX4_refuses_5 : decode cX4_refuses 5 = .ok (.dup2, 1) := dk_92 (dk_at dksX4_refuses_0 5 rfl rfl)
theorem dX4_refuses_6 : decode cX4_refuses 6 = .ok (.iaload, 1) := dk_46 (dk_at dksX4_refuses_0 6 rfl rfl)
theorem dX4_refuses_7 : decode cX4_refuses 7 = .ok (.iconst 1, 1) := dk_4 (dk_at dksX4_refuses_0 7 rfl rfl)
theorem dX4_refuses_8 : decode cX4_refuses 8 = .ok (.iadd, 1) := dk_96 (dk_at dksX4_refuses_0 8 rfl rfl)
theorem dX4_refuses_9 : decode cX4_refuses 9 = .ok (.iastore, 1) := dk_79 (dk_at dksX4_refuses_0 9 rfl rfl)
theorem dX4_refuses_10 : decode cX4_refuses 10 = .ok (.iconst (-1), 1) := dk_2 (dk_at dksX4_refuses_0 10 rfl rfl)
theorem dX4_refuses_11 : decode cX4_refuses 11 = .ok (.ireturn, 1) := dk_172 (dk_at dksX4_refuses_0 11 rfl rfl)
abbrev cX4_keeps : ByteArray := prog_12_method_42_code
def yX4_keeps : MethodName := ⟨RX4, "keeps", "()V"⟩
def dkwX4_keeps_3 : List UInt8 := [42, 180, 0, 66, 27, 46, 79, 132, 1, 1, 167, 255, 227, 42, 89, 180, 1, 32, 4, 96, 181, 1, 32, 177]
abbrev dktX4_keeps_3 : List UInt8 := dkwX4_keeps_3 ++ []
def dkwX4_keeps_2 : List UInt8 := [181, 1, 32, 3, 60, 27, 16, 43, 162, 0, 29, 42, 180, 0, 69, 16, 43, 42, 180, 1, 32, 104, 27, 96]
abbrev dktX4_keeps_2 : List UInt8 := dkwX4_keeps_2 ++ dktX4_keeps_3
def dkwX4_keeps_1 : List UInt8 := [16, 43, 100, 42, 180, 0, 69, 27, 46, 79, 132, 1, 1, 167, 255, 231, 42, 89, 180, 1, 32, 4, 100]
abbrev dktX4_keeps_1 : List UInt8 := dkwX4_keeps_1 ++ dktX4_keeps_2
def dkwX4_keeps_0 : List UInt8 := [42, 180, 1, 32, 16, 40, 160, 0, 44, 16, 43, 60, 27, 17, 6, 184, 162, 0, 24, 42, 180, 0, 69, 27]
abbrev dktX4_keeps_0 : List UInt8 := dkwX4_keeps_0 ++ dktX4_keeps_1
theorem dksX4_keeps_0 : cX4_keeps.data.toList.drop 0 = dktX4_keeps_0 := by decide +kernel
theorem dksX4_keeps_1 : cX4_keeps.data.toList.drop 24 = dktX4_keeps_1 := dk_seg dksX4_keeps_0 24 rfl rfl
theorem dksX4_keeps_2 : cX4_keeps.data.toList.drop 47 = dktX4_keeps_2 := dk_seg dksX4_keeps_1 23 rfl rfl
theorem dksX4_keeps_3 : cX4_keeps.data.toList.drop 71 = dktX4_keeps_3 := dk_seg dksX4_keeps_2 24 rfl rfl
theorem dX4_keeps_0 : decode cX4_keeps 0 = .ok (.aload_n 0, 1) := dk_42 (dk_at dksX4_keeps_0 0 rfl rfl)
theorem dX4_keeps_1 : decode cX4_keeps 1 = .ok (.getfield 288, 3) := dk_180 1 32 (dk_at dksX4_keeps_0 1 rfl rfl)
theorem dX4_keeps_4 : decode cX4_keeps 4 = .ok (.bipush 40, 2) := dk_16 40 (dk_at dksX4_keeps_0 4 rfl rfl)
theorem dX4_keeps_6 : decode cX4_keeps 6 = .ok (.if_icmp .ne 44, 3) := dk_160 0 44 (dk_at dksX4_keeps_0 6 rfl rfl)
theorem dX4_keeps_9 : decode cX4_keeps 9 = .ok (.bipush 43, 2) := dk_16 43 (dk_at dksX4_keeps_0 9 rfl rfl)
theorem dX4_keeps_11 : decode cX4_keeps 11 = .ok (.istore_n 1, 1) := dk_60 (dk_at dksX4_keeps_0 11 rfl rfl)
theorem dX4_keeps_12 : decode cX4_keeps 12 = .ok (.iload_n 1, 1) := dk_27 (dk_at dksX4_keeps_0 12 rfl rfl)
theorem dX4_keeps_13 : decode cX4_keeps 13 = .ok (.sipush 1720, 3) := dk_17 6 184 (dk_at dksX4_keeps_0 13 rfl rfl)
theorem dX4_keeps_16 : decode cX4_keeps 16 = .ok (.if_icmp .ge 24, 3) := dk_162 0 24 (dk_at dksX4_keeps_0 16 rfl rfl)
theorem dX4_keeps_19 : decode cX4_keeps 19 = .ok (.aload_n 0, 1) := dk_42 (dk_at dksX4_keeps_0 19 rfl rfl)
theorem dX4_keeps_20 : decode cX4_keeps 20 = .ok (.getfield 69, 3) := dk_180 0 69 (dk_at dksX4_keeps_0 20 rfl rfl)
theorem dX4_keeps_23 : decode cX4_keeps 23 = .ok (.iload_n 1, 1) := dk_27 (dk_at dksX4_keeps_0 23 rfl rfl)
theorem dX4_keeps_24 : decode cX4_keeps 24 = .ok (.bipush 43, 2) := dk_16 43 (dk_at dksX4_keeps_1 0 rfl rfl)
theorem dX4_keeps_26 : decode cX4_keeps 26 = .ok (.isub, 1) := dk_100 (dk_at dksX4_keeps_1 2 rfl rfl)
theorem dX4_keeps_27 : decode cX4_keeps 27 = .ok (.aload_n 0, 1) := dk_42 (dk_at dksX4_keeps_1 3 rfl rfl)
theorem dX4_keeps_28 : decode cX4_keeps 28 = .ok (.getfield 69, 3) := dk_180 0 69 (dk_at dksX4_keeps_1 4 rfl rfl)
theorem dX4_keeps_31 : decode cX4_keeps 31 = .ok (.iload_n 1, 1) := dk_27 (dk_at dksX4_keeps_1 7 rfl rfl)
theorem dX4_keeps_32 : decode cX4_keeps 32 = .ok (.iaload, 1) := dk_46 (dk_at dksX4_keeps_1 8 rfl rfl)
theorem dX4_keeps_33 : decode cX4_keeps 33 = .ok (.iastore, 1) := dk_79 (dk_at dksX4_keeps_1 9 rfl rfl)
theorem dX4_keeps_34 : decode cX4_keeps 34 = .ok (.iinc 1 1, 3) := dk_132 1 1 (dk_at dksX4_keeps_1 10 rfl rfl)
theorem dX4_keeps_37 : decode cX4_keeps 37 = .ok (.goto (-25), 3) := dk_167 255 231 (dk_at dksX4_keeps_1 13 rfl rfl)
theorem dX4_keeps_40 : decode cX4_keeps 40 = .ok (.aload_n 0, 1) := dk_42 (dk_at dksX4_keeps_1 16 rfl rfl)
theorem dX4_keeps_41 : decode cX4_keeps 41 = .ok (.dup, 1) := dk_89 (dk_at dksX4_keeps_1 17 rfl rfl)
theorem dX4_keeps_42 : decode cX4_keeps 42 = .ok (.getfield 288, 3) := dk_180 1 32 (dk_at dksX4_keeps_1 18 rfl rfl)
theorem dX4_keeps_45 : decode cX4_keeps 45 = .ok (.iconst 1, 1) := dk_4 (dk_at dksX4_keeps_1 21 rfl rfl)
theorem dX4_keeps_46 : decode cX4_keeps 46 = .ok (.isub, 1) := dk_100 (dk_at dksX4_keeps_1 22 rfl rfl)
theorem dX4_keeps_47 : decode cX4_keeps 47 = .ok (.putfield 288, 3) := dk_181 1 32 (dk_at dksX4_keeps_2 0 rfl rfl)
theorem dX4_keeps_50 : decode cX4_keeps 50 = .ok (.iconst 0, 1) := dk_3 (dk_at dksX4_keeps_2 3 rfl rfl)
theorem dX4_keeps_51 : decode cX4_keeps 51 = .ok (.istore_n 1, 1) := dk_60 (dk_at dksX4_keeps_2 4 rfl rfl)
theorem dX4_keeps_52 : decode cX4_keeps 52 = .ok (.iload_n 1, 1) := dk_27 (dk_at dksX4_keeps_2 5 rfl rfl)
theorem dX4_keeps_53 : decode cX4_keeps 53 = .ok (.bipush 43, 2) := dk_16 43 (dk_at dksX4_keeps_2 6 rfl rfl)
theorem dX4_keeps_55 : decode cX4_keeps 55 = .ok (.if_icmp .ge 29, 3) := dk_162 0 29 (dk_at dksX4_keeps_2 8 rfl rfl)
theorem dX4_keeps_58 : decode cX4_keeps 58 = .ok (.aload_n 0, 1) := dk_42 (dk_at dksX4_keeps_2 11 rfl rfl)
theorem dX4_keeps_59 : decode cX4_keeps 59 = .ok (.getfield 69, 3) := dk_180 0 69 (dk_at dksX4_keeps_2 12 rfl rfl)
theorem dX4_keeps_62 : decode cX4_keeps 62 = .ok (.bipush 43, 2) := dk_16 43 (dk_at dksX4_keeps_2 15 rfl rfl)
theorem dX4_keeps_64 : decode cX4_keeps 64 = .ok (.aload_n 0, 1) := dk_42 (dk_at dksX4_keeps_2 17 rfl rfl)
theorem dX4_keeps_65 : decode cX4_keeps 65 = .ok (.getfield 288, 3) := dk_180 1 32 (dk_at dksX4_keeps_2 18 rfl rfl)
theorem dX4_keeps_68 : decode cX4_keeps 68 = .ok (.imul, 1) := dk_104 (dk_at dksX4_keeps_2 21 rfl rfl)
theorem dX4_keeps_69 : decode cX4_keeps 69 = .ok (.iload_n 1, 1) := dk_27 (dk_at dksX4_keeps_2 22 rfl rfl)
theorem dX4_keeps_70 : decode cX4_keeps 70 = .ok (.iadd, 1) := dk_96 (dk_at dksX4_keeps_2 23 rfl rfl)
theorem dX4_keeps_71 : decode cX4_keeps 71 = .ok (.aload_n 0, 1) := dk_42 (dk_at dksX4_keeps_3 0 rfl rfl)
theorem dX4_keeps_72 : decode cX4_keeps 72 = .ok (.getfield 66, 3) := dk_180 0 66 (dk_at dksX4_keeps_3 1 rfl rfl)
theorem dX4_keeps_75 : decode cX4_keeps 75 = .ok (.iload_n 1, 1) := dk_27 (dk_at dksX4_keeps_3 4 rfl rfl)
theorem dX4_keeps_76 : decode cX4_keeps 76 = .ok (.iaload, 1) := dk_46 (dk_at dksX4_keeps_3 5 rfl rfl)
theorem dX4_keeps_77 : decode cX4_keeps 77 = .ok (.iastore, 1) := dk_79 (dk_at dksX4_keeps_3 6 rfl rfl)
theorem dX4_keeps_78 : decode cX4_keeps 78 = .ok (.iinc 1 1, 3) := dk_132 1 1 (dk_at dksX4_keeps_3 7 rfl rfl)
theorem dX4_keeps_81 : decode cX4_keeps 81 = .ok (.goto (-29), 3) := dk_167 255 227 (dk_at dksX4_keeps_3 10 rfl rfl)
theorem dX4_keeps_84 : decode cX4_keeps 84 = .ok (.aload_n 0, 1) := dk_42 (dk_at dksX4_keeps_3 13 rfl rfl)
theorem dX4_keeps_85 : decode cX4_keeps 85 = .ok (.dup, 1) := dk_89 (dk_at dksX4_keeps_3 14 rfl rfl)
theorem dX4_keeps_86 : decode cX4_keeps 86 = .ok (.getfield 288, 3) := dk_180 1 32 (dk_at dksX4_keeps_3 15 rfl rfl)
theorem dX4_keeps_89 : decode cX4_keeps 89 = .ok (.iconst 1, 1) := dk_4 (dk_at dksX4_keeps_3 18 rfl rfl)
theorem dX4_keeps_90 : decode cX4_keeps 90 = .ok (.iadd, 1) := dk_96 (dk_at dksX4_keeps_3 19 rfl rfl)
theorem dX4_keeps_91 : decode cX4_keeps 91 = .ok (.putfield 288, 3) := dk_181 1 32 (dk_at dksX4_keeps_3 20 rfl rfl)
theorem dX4_keeps_94 : decode cX4_keeps 94 = .ok (.return_, 1) := dk_177 (dk_at dksX4_keeps_3 23 rfl rfl)
abbrev cX4_dayGoes : ByteArray := prog_12_method_57_code
def yX4_dayGoes : MethodName := ⟨RX4, "dayGoes", "(I)V"⟩
def dkwX4_dayGoes_4 : List UInt8 := [3, 96, 92, 46, 4, 96, 79, 42, 180, 0, 66, 27, 5, 96, 3, 79, 177]
abbrev dktX4_dayGoes_4 : List UInt8 := dkwX4_dayGoes_4 ++ []
def dkwX4_dayGoes_3 : List UInt8 := [96, 46, 42, 180, 0, 23, 28, 46, 96, 184, 1, 73, 79, 132, 2, 1, 167, 255, 211, 42, 180, 0, 66, 27]
abbrev dktX4_dayGoes_3 : List UInt8 := dkwX4_dayGoes_3 ++ dktX4_dayGoes_4
def dkwX4_dayGoes_2 : List UInt8 := [162, 0, 43, 42, 180, 0, 66, 27, 16, 27, 96, 28, 96, 16, 99, 42, 180, 0, 66, 27, 16, 27, 96, 28]
abbrev dktX4_dayGoes_2 : List UInt8 := dkwX4_dayGoes_2 ++ dktX4_dayGoes_3
def dkwX4_dayGoes_1 : List UInt8 := [159, 0, 9, 42, 27, 28, 182, 1, 76, 132, 2, 1, 167, 255, 224, 3, 61, 28, 42, 180, 1, 22]
abbrev dktX4_dayGoes_1 : List UInt8 := dkwX4_dayGoes_1 ++ dktX4_dayGoes_2
def dkwX4_dayGoes_0 : List UInt8 := [3, 61, 28, 42, 180, 1, 19, 162, 0, 30, 42, 180, 0, 66, 27, 16, 19, 96, 28, 96, 46, 2]
abbrev dktX4_dayGoes_0 : List UInt8 := dkwX4_dayGoes_0 ++ dktX4_dayGoes_1
theorem dksX4_dayGoes_0 : cX4_dayGoes.data.toList.drop 0 = dktX4_dayGoes_0 := by decide +kernel
theorem dksX4_dayGoes_1 : cX4_dayGoes.data.toList.drop 22 = dktX4_dayGoes_1 := dk_seg dksX4_dayGoes_0 22 rfl rfl
theorem dksX4_dayGoes_2 : cX4_dayGoes.data.toList.drop 44 = dktX4_dayGoes_2 := dk_seg dksX4_dayGoes_1 22 rfl rfl
theorem dksX4_dayGoes_3 : cX4_dayGoes.data.toList.drop 68 = dktX4_dayGoes_3 := dk_seg dksX4_dayGoes_2 24 rfl rfl
theorem dksX4_dayGoes_4 : cX4_dayGoes.data.toList.drop 92 = dktX4_dayGoes_4 := dk_seg dksX4_dayGoes_3 24 rfl rfl
theorem dX4_dayGoes_0 : decode cX4_dayGoes 0 = .ok (.iconst 0, 1) := dk_3 (dk_at dksX4_dayGoes_0 0 rfl rfl)
theorem dX4_dayGoes_1 : decode cX4_dayGoes 1 = .ok (.istore_n 2, 1) := dk_61 (dk_at dksX4_dayGoes_0 1 rfl rfl)
theorem dX4_dayGoes_2 : decode cX4_dayGoes 2 = .ok (.iload_n 2, 1) := dk_28 (dk_at dksX4_dayGoes_0 2 rfl rfl)
theorem dX4_dayGoes_3 : decode cX4_dayGoes 3 = .ok (.aload_n 0, 1) := dk_42 (dk_at dksX4_dayGoes_0 3 rfl rfl)
theorem dX4_dayGoes_4 : decode cX4_dayGoes 4 = .ok (.getfield 275, 3) := dk_180 1 19 (dk_at dksX4_dayGoes_0 4 rfl rfl)
theorem dX4_dayGoes_7 : decode cX4_dayGoes 7 = .ok (.if_icmp .ge 30, 3) := dk_162 0 30 (dk_at dksX4_dayGoes_0 7 rfl rfl)
theorem dX4_dayGoes_10 : decode cX4_dayGoes 10 = .ok (.aload_n 0, 1) := dk_42 (dk_at dksX4_dayGoes_0 10 rfl rfl)
theorem dX4_dayGoes_11 : decode cX4_dayGoes 11 = .ok (.getfield 66, 3) := dk_180 0 66 (dk_at dksX4_dayGoes_0 11 rfl rfl)
theorem dX4_dayGoes_14 : decode cX4_dayGoes 14 = .ok (.iload_n 1, 1) := dk_27 (dk_at dksX4_dayGoes_0 14 rfl rfl)
theorem dX4_dayGoes_15 : decode cX4_dayGoes 15 = .ok (.bipush 19, 2) := dk_16 19 (dk_at dksX4_dayGoes_0 15 rfl rfl)
theorem dX4_dayGoes_17 : decode cX4_dayGoes 17 = .ok (.iadd, 1) := dk_96 (dk_at dksX4_dayGoes_0 17 rfl rfl)
theorem dX4_dayGoes_18 : decode cX4_dayGoes 18 = .ok (.iload_n 2, 1) := dk_28 (dk_at dksX4_dayGoes_0 18 rfl rfl)
theorem dX4_dayGoes_19 : decode cX4_dayGoes 19 = .ok (.iadd, 1) := dk_96 (dk_at dksX4_dayGoes_0 19 rfl rfl)
theorem dX4_dayGoes_20 : decode cX4_dayGoes 20 = .ok (.iaload, 1) := dk_46 (dk_at dksX4_dayGoes_0 20 rfl rfl)
theorem dX4_dayGoes_21 : decode cX4_dayGoes 21 = .ok (.iconst (-1), 1) := dk_2 (dk_at dksX4_dayGoes_0 21 rfl rfl)
theorem dX4_dayGoes_22 : decode cX4_dayGoes 22 = .ok (.if_icmp .eq 9, 3) := dk_159 0 9 (dk_at dksX4_dayGoes_1 0 rfl rfl)
theorem dX4_dayGoes_25 : decode cX4_dayGoes 25 = .ok (.aload_n 0, 1) := dk_42 (dk_at dksX4_dayGoes_1 3 rfl rfl)
theorem dX4_dayGoes_26 : decode cX4_dayGoes 26 = .ok (.iload_n 1, 1) := dk_27 (dk_at dksX4_dayGoes_1 4 rfl rfl)
theorem dX4_dayGoes_27 : decode cX4_dayGoes 27 = .ok (.iload_n 2, 1) := dk_28 (dk_at dksX4_dayGoes_1 5 rfl rfl)
theorem dX4_dayGoes_28 : decode cX4_dayGoes 28 = .ok (.invokevirtual 332, 3) := dk_182 1 76 (dk_at dksX4_dayGoes_1 6 rfl rfl)
theorem dX4_dayGoes_31 : decode cX4_dayGoes 31 = .ok (.iinc 2 1, 3) := dk_132 2 1 (dk_at dksX4_dayGoes_1 9 rfl rfl)
theorem dX4_dayGoes_34 : decode cX4_dayGoes 34 = .ok (.goto (-32), 3) := dk_167 255 224 (dk_at dksX4_dayGoes_1 12 rfl rfl)
theorem dX4_dayGoes_37 : decode cX4_dayGoes 37 = .ok (.iconst 0, 1) := dk_3 (dk_at dksX4_dayGoes_1 15 rfl rfl)
theorem dX4_dayGoes_38 : decode cX4_dayGoes 38 = .ok (.istore_n 2, 1) := dk_61 (dk_at dksX4_dayGoes_1 16 rfl rfl)
theorem dX4_dayGoes_39 : decode cX4_dayGoes 39 = .ok (.iload_n 2, 1) := dk_28 (dk_at dksX4_dayGoes_1 17 rfl rfl)
theorem dX4_dayGoes_40 : decode cX4_dayGoes 40 = .ok (.aload_n 0, 1) := dk_42 (dk_at dksX4_dayGoes_1 18 rfl rfl)
theorem dX4_dayGoes_41 : decode cX4_dayGoes 41 = .ok (.getfield 278, 3) := dk_180 1 22 (dk_at dksX4_dayGoes_1 19 rfl rfl)
theorem dX4_dayGoes_44 : decode cX4_dayGoes 44 = .ok (.if_icmp .ge 43, 3) := dk_162 0 43 (dk_at dksX4_dayGoes_2 0 rfl rfl)
theorem dX4_dayGoes_47 : decode cX4_dayGoes 47 = .ok (.aload_n 0, 1) := dk_42 (dk_at dksX4_dayGoes_2 3 rfl rfl)
theorem dX4_dayGoes_48 : decode cX4_dayGoes 48 = .ok (.getfield 66, 3) := dk_180 0 66 (dk_at dksX4_dayGoes_2 4 rfl rfl)
theorem dX4_dayGoes_51 : decode cX4_dayGoes 51 = .ok (.iload_n 1, 1) := dk_27 (dk_at dksX4_dayGoes_2 7 rfl rfl)
theorem dX4_dayGoes_52 : decode cX4_dayGoes 52 = .ok (.bipush 27, 2) := dk_16 27 (dk_at dksX4_dayGoes_2 8 rfl rfl)
theorem dX4_dayGoes_54 : decode cX4_dayGoes 54 = .ok (.iadd, 1) := dk_96 (dk_at dksX4_dayGoes_2 10 rfl rfl)
theorem dX4_dayGoes_55 : decode cX4_dayGoes 55 = .ok (.iload_n 2, 1) := dk_28 (dk_at dksX4_dayGoes_2 11 rfl rfl)
theorem dX4_dayGoes_56 : decode cX4_dayGoes 56 = .ok (.iadd, 1) := dk_96 (dk_at dksX4_dayGoes_2 12 rfl rfl)
theorem dX4_dayGoes_57 : decode cX4_dayGoes 57 = .ok (.bipush 99, 2) := dk_16 99 (dk_at dksX4_dayGoes_2 13 rfl rfl)
theorem dX4_dayGoes_59 : decode cX4_dayGoes 59 = .ok (.aload_n 0, 1) := dk_42 (dk_at dksX4_dayGoes_2 15 rfl rfl)
theorem dX4_dayGoes_60 : decode cX4_dayGoes 60 = .ok (.getfield 66, 3) := dk_180 0 66 (dk_at dksX4_dayGoes_2 16 rfl rfl)
theorem dX4_dayGoes_63 : decode cX4_dayGoes 63 = .ok (.iload_n 1, 1) := dk_27 (dk_at dksX4_dayGoes_2 19 rfl rfl)
theorem dX4_dayGoes_64 : decode cX4_dayGoes 64 = .ok (.bipush 27, 2) := dk_16 27 (dk_at dksX4_dayGoes_2 20 rfl rfl)
theorem dX4_dayGoes_66 : decode cX4_dayGoes 66 = .ok (.iadd, 1) := dk_96 (dk_at dksX4_dayGoes_2 22 rfl rfl)
theorem dX4_dayGoes_67 : decode cX4_dayGoes 67 = .ok (.iload_n 2, 1) := dk_28 (dk_at dksX4_dayGoes_2 23 rfl rfl)
theorem dX4_dayGoes_68 : decode cX4_dayGoes 68 = .ok (.iadd, 1) := dk_96 (dk_at dksX4_dayGoes_3 0 rfl rfl)
theorem dX4_dayGoes_69 : decode cX4_dayGoes 69 = .ok (.iaload, 1) := dk_46 (dk_at dksX4_dayGoes_3 1 rfl rfl)
theorem dX4_dayGoes_70 : decode cX4_dayGoes 70 = .ok (.aload_n 0, 1) := dk_42 (dk_at dksX4_dayGoes_3 2 rfl rfl)
theorem dX4_dayGoes_71 : decode cX4_dayGoes 71 = .ok (.getfield 23, 3) := dk_180 0 23 (dk_at dksX4_dayGoes_3 3 rfl rfl)
theorem dX4_dayGoes_74 : decode cX4_dayGoes 74 = .ok (.iload_n 2, 1) := dk_28 (dk_at dksX4_dayGoes_3 6 rfl rfl)
theorem dX4_dayGoes_75 : decode cX4_dayGoes 75 = .ok (.iaload, 1) := dk_46 (dk_at dksX4_dayGoes_3 7 rfl rfl)
theorem dX4_dayGoes_76 : decode cX4_dayGoes 76 = .ok (.iadd, 1) := dk_96 (dk_at dksX4_dayGoes_3 8 rfl rfl)
theorem dX4_dayGoes_77 : decode cX4_dayGoes 77 = .ok (.invokestatic 329, 3) := dk_184 1 73 (dk_at dksX4_dayGoes_3 9 rfl rfl)
theorem dX4_dayGoes_80 : decode cX4_dayGoes 80 = .ok (.iastore, 1) := dk_79 (dk_at dksX4_dayGoes_3 12 rfl rfl)
theorem dX4_dayGoes_81 : decode cX4_dayGoes 81 = .ok (.iinc 2 1, 3) := dk_132 2 1 (dk_at dksX4_dayGoes_3 13 rfl rfl)
theorem dX4_dayGoes_84 : decode cX4_dayGoes 84 = .ok (.goto (-45), 3) := dk_167 255 211 (dk_at dksX4_dayGoes_3 16 rfl rfl)
theorem dX4_dayGoes_87 : decode cX4_dayGoes 87 = .ok (.aload_n 0, 1) := dk_42 (dk_at dksX4_dayGoes_3 19 rfl rfl)
theorem dX4_dayGoes_88 : decode cX4_dayGoes 88 = .ok (.getfield 66, 3) := dk_180 0 66 (dk_at dksX4_dayGoes_3 20 rfl rfl)
theorem dX4_dayGoes_91 : decode cX4_dayGoes 91 = .ok (.iload_n 1, 1) := dk_27 (dk_at dksX4_dayGoes_3 23 rfl rfl)
theorem dX4_dayGoes_92 : decode cX4_dayGoes 92 = .ok (.iconst 0, 1) := dk_3 (dk_at dksX4_dayGoes_4 0 rfl rfl)
theorem dX4_dayGoes_93 : decode cX4_dayGoes 93 = .ok (.iadd, 1) := dk_96 (dk_at dksX4_dayGoes_4 1 rfl rfl)
theorem dX4_dayGoes_94 : decode cX4_dayGoes 94 = .ok (.dup2, 1) := dk_92 (dk_at dksX4_dayGoes_4 2 rfl rfl)
theorem dX4_dayGoes_95 : decode cX4_dayGoes 95 = .ok (.iaload, 1) := dk_46 (dk_at dksX4_dayGoes_4 3 rfl rfl)
theorem dX4_dayGoes_96 : decode cX4_dayGoes 96 = .ok (.iconst 1, 1) := dk_4 (dk_at dksX4_dayGoes_4 4 rfl rfl)
theorem dX4_dayGoes_97 : decode cX4_dayGoes 97 = .ok (.iadd, 1) := dk_96 (dk_at dksX4_dayGoes_4 5 rfl rfl)
theorem dX4_dayGoes_98 : decode cX4_dayGoes 98 = .ok (.iastore, 1) := dk_79 (dk_at dksX4_dayGoes_4 6 rfl rfl)
theorem dX4_dayGoes_99 : decode cX4_dayGoes 99 = .ok (.aload_n 0, 1) := dk_42 (dk_at dksX4_dayGoes_4 7 rfl rfl)
theorem dX4_dayGoes_100 : decode cX4_dayGoes 100 = .ok (.getfield 66, 3) := dk_180 0 66 (dk_at dksX4_dayGoes_4 8 rfl rfl)
theorem dX4_dayGoes_103 : decode cX4_dayGoes 103 = .ok (.iload_n 1, 1) := dk_27 (dk_at dksX4_dayGoes_4 11 rfl rfl)
theorem dX4_dayGoes_104 : decode cX4_dayGoes 104 = .ok (.iconst 2, 1) := dk_5 (dk_at dksX4_dayGoes_4 12 rfl rfl)
theorem dX4_dayGoes_105 : decode cX4_dayGoes 105 = .ok (.iadd, 1) := dk_96 (dk_at dksX4_dayGoes_4 13 rfl rfl)
theorem dX4_dayGoes_106 : decode cX4_dayGoes 106 = .ok (.iconst 0, 1) := dk_3 (dk_at dksX4_dayGoes_4 14 rfl rfl)
theorem dX4_dayGoes_107 : decode cX4_dayGoes 107 = .ok (.iastore, 1) := dk_79 (dk_at dksX4_dayGoes_4 15 rfl rfl)
theorem dX4_dayGoes_108 : decode cX4_dayGoes 108 = .ok (.return_, 1) := dk_177 (dk_at dksX4_dayGoes_4 16 rfl rfl)
abbrev cX4_wears : ByteArray := prog_12_method_56_code
def yX4_wears : MethodName := ⟨RX4, "wears", "(II)V"⟩
def dkwX4_wears_7 : List UInt8 := [96, 2, 79, 177]
abbrev dktX4_wears_7 : List UInt8 := dkwX4_wears_7 ++ []
def dkwX4_wears_6 : List UInt8 := [177, 42, 180, 0, 66, 27, 4, 96, 92, 46, 4, 28, 120, 128, 79, 42, 180, 0, 66, 27, 16, 19, 96, 28]
abbrev dktX4_wears_6 : List UInt8 := dkwX4_wears_6 ++ dktX4_wears_7
def dkwX4_wears_5 : List UInt8 := [180, 0, 13, 27, 29, 28, 182, 1, 62, 158, 0, 7, 4, 167, 0, 4, 3, 54, 5, 21, 5, 154, 0, 4]
abbrev dktX4_wears_5 : List UInt8 := dkwX4_wears_5 ++ dktX4_wears_6
def dkwX4_wears_4 : List UInt8 := [16, 9, 42, 180, 0, 16, 28, 46, 96, 164, 0, 7, 4, 167, 0, 26, 3, 167, 0, 22, 42, 42]
abbrev dktX4_wears_4 : List UInt8 := dkwX4_wears_4 ++ dktX4_wears_5
def dkwX4_wears_3 : List UInt8 := [16, 35, 96, 29, 96, 46, 21, 4, 96, 184, 1, 73, 79, 42, 180, 0, 13, 2, 160, 0, 25, 21, 4]
abbrev dktX4_wears_3 : List UInt8 := dkwX4_wears_3 ++ dktX4_wears_4
def dkwX4_wears_2 : List UInt8 := [96, 184, 1, 73, 79, 42, 180, 0, 66, 27, 16, 35, 96, 29, 96, 17, 3, 231, 42, 180, 0, 66, 27]
abbrev dktX4_wears_2 : List UInt8 := dkwX4_wears_2 ++ dktX4_wears_3
def dkwX4_wears_1 : List UInt8 := [180, 0, 66, 27, 16, 11, 96, 28, 96, 16, 99, 42, 180, 0, 66, 27, 16, 11, 96, 28, 96, 46, 21, 4]
abbrev dktX4_wears_1 : List UInt8 := dkwX4_wears_1 ++ dktX4_wears_2
def dkwX4_wears_0 : List UInt8 := [42, 180, 0, 66, 27, 16, 19, 96, 28, 96, 46, 62, 42, 27, 29, 28, 182, 1, 56, 54, 4, 42]
abbrev dktX4_wears_0 : List UInt8 := dkwX4_wears_0 ++ dktX4_wears_1
theorem dksX4_wears_0 : cX4_wears.data.toList.drop 0 = dktX4_wears_0 := by decide +kernel
theorem dksX4_wears_1 : cX4_wears.data.toList.drop 22 = dktX4_wears_1 := dk_seg dksX4_wears_0 22 rfl rfl
theorem dksX4_wears_2 : cX4_wears.data.toList.drop 46 = dktX4_wears_2 := dk_seg dksX4_wears_1 24 rfl rfl
theorem dksX4_wears_3 : cX4_wears.data.toList.drop 69 = dktX4_wears_3 := dk_seg dksX4_wears_2 23 rfl rfl
theorem dksX4_wears_4 : cX4_wears.data.toList.drop 92 = dktX4_wears_4 := dk_seg dksX4_wears_3 23 rfl rfl
theorem dksX4_wears_5 : cX4_wears.data.toList.drop 114 = dktX4_wears_5 := dk_seg dksX4_wears_4 22 rfl rfl
theorem dksX4_wears_6 : cX4_wears.data.toList.drop 138 = dktX4_wears_6 := dk_seg dksX4_wears_5 24 rfl rfl
theorem dksX4_wears_7 : cX4_wears.data.toList.drop 162 = dktX4_wears_7 := dk_seg dksX4_wears_6 24 rfl rfl
theorem dX4_wears_0 : decode cX4_wears 0 = .ok (.aload_n 0, 1) := dk_42 (dk_at dksX4_wears_0 0 rfl rfl)
theorem dX4_wears_1 : decode cX4_wears 1 = .ok (.getfield 66, 3) := dk_180 0 66 (dk_at dksX4_wears_0 1 rfl rfl)
theorem dX4_wears_4 : decode cX4_wears 4 = .ok (.iload_n 1, 1) := dk_27 (dk_at dksX4_wears_0 4 rfl rfl)
theorem dX4_wears_5 : decode cX4_wears 5 = .ok (.bipush 19, 2) := dk_16 19 (dk_at dksX4_wears_0 5 rfl rfl)
theorem dX4_wears_7 : decode cX4_wears 7 = .ok (.iadd, 1) := dk_96 (dk_at dksX4_wears_0 7 rfl rfl)
theorem dX4_wears_8 : decode cX4_wears 8 = .ok (.iload_n 2, 1) := dk_28 (dk_at dksX4_wears_0 8 rfl rfl)
theorem dX4_wears_9 : decode cX4_wears 9 = .ok (.iadd, 1) := dk_96 (dk_at dksX4_wears_0 9 rfl rfl)
theorem dX4_wears_10 : decode cX4_wears 10 = .ok (.iaload, 1) := dk_46 (dk_at dksX4_wears_0 10 rfl rfl)
theorem dX4_wears_11 : decode cX4_wears 11 = .ok (.istore_n 3, 1) := dk_62 (dk_at dksX4_wears_0 11 rfl rfl)
theorem dX4_wears_12 : decode cX4_wears 12 = .ok (.aload_n 0, 1) := dk_42 (dk_at dksX4_wears_0 12 rfl rfl)
theorem dX4_wears_13 : decode cX4_wears 13 = .ok (.iload_n 1, 1) := dk_27 (dk_at dksX4_wears_0 13 rfl rfl)
theorem dX4_wears_14 : decode cX4_wears 14 = .ok (.iload_n 3, 1) := dk_29 (dk_at dksX4_wears_0 14 rfl rfl)
theorem dX4_wears_15 : decode cX4_wears 15 = .ok (.iload_n 2, 1) := dk_28 (dk_at dksX4_wears_0 15 rfl rfl)
theorem dX4_wears_16 : decode cX4_wears 16 = .ok (.invokevirtual 312, 3) := dk_182 1 56 (dk_at dksX4_wears_0 16 rfl rfl)
theorem dX4_wears_19 : decode cX4_wears 19 = .ok (.istore 4, 2) := dk_54 4 (dk_at dksX4_wears_0 19 rfl rfl)
theorem dX4_wears_21 : decode cX4_wears 21 = .ok (.aload_n 0, 1) := dk_42 (dk_at dksX4_wears_0 21 rfl rfl)
theorem dX4_wears_22 : decode cX4_wears 22 = .ok (.getfield 66, 3) := dk_180 0 66 (dk_at dksX4_wears_1 0 rfl rfl)
theorem dX4_wears_25 : decode cX4_wears 25 = .ok (.iload_n 1, 1) := dk_27 (dk_at dksX4_wears_1 3 rfl rfl)
theorem dX4_wears_26 : decode cX4_wears 26 = .ok (.bipush 11, 2) := dk_16 11 (dk_at dksX4_wears_1 4 rfl rfl)
theorem dX4_wears_28 : decode cX4_wears 28 = .ok (.iadd, 1) := dk_96 (dk_at dksX4_wears_1 6 rfl rfl)
theorem dX4_wears_29 : decode cX4_wears 29 = .ok (.iload_n 2, 1) := dk_28 (dk_at dksX4_wears_1 7 rfl rfl)
theorem dX4_wears_30 : decode cX4_wears 30 = .ok (.iadd, 1) := dk_96 (dk_at dksX4_wears_1 8 rfl rfl)
theorem dX4_wears_31 : decode cX4_wears 31 = .ok (.bipush 99, 2) := dk_16 99 (dk_at dksX4_wears_1 9 rfl rfl)
theorem dX4_wears_33 : decode cX4_wears 33 = .ok (.aload_n 0, 1) := dk_42 (dk_at dksX4_wears_1 11 rfl rfl)
theorem dX4_wears_34 : decode cX4_wears 34 = .ok (.getfield 66, 3) := dk_180 0 66 (dk_at dksX4_wears_1 12 rfl rfl)
theorem dX4_wears_37 : decode cX4_wears 37 = .ok (.iload_n 1, 1) := dk_27 (dk_at dksX4_wears_1 15 rfl rfl)
theorem dX4_wears_38 : decode cX4_wears 38 = .ok (.bipush 11, 2) := dk_16 11 (dk_at dksX4_wears_1 16 rfl rfl)
theorem dX4_wears_40 : decode cX4_wears 40 = .ok (.iadd, 1) := dk_96 (dk_at dksX4_wears_1 18 rfl rfl)
theorem dX4_wears_41 : decode cX4_wears 41 = .ok (.iload_n 2, 1) := dk_28 (dk_at dksX4_wears_1 19 rfl rfl)
theorem dX4_wears_42 : decode cX4_wears 42 = .ok (.iadd, 1) := dk_96 (dk_at dksX4_wears_1 20 rfl rfl)
theorem dX4_wears_43 : decode cX4_wears 43 = .ok (.iaload, 1) := dk_46 (dk_at dksX4_wears_1 21 rfl rfl)
theorem dX4_wears_44 : decode cX4_wears 44 = .ok (.iload 4, 2) := dk_21 4 (dk_at dksX4_wears_1 22 rfl rfl)
theorem dX4_wears_46 : decode cX4_wears 46 = .ok (.iadd, 1) := dk_96 (dk_at dksX4_wears_2 0 rfl rfl)
theorem dX4_wears_47 : decode cX4_wears 47 = .ok (.invokestatic 329, 3) := dk_184 1 73 (dk_at dksX4_wears_2 1 rfl rfl)
theorem dX4_wears_50 : decode cX4_wears 50 = .ok (.iastore, 1) := dk_79 (dk_at dksX4_wears_2 4 rfl rfl)
theorem dX4_wears_51 : decode cX4_wears 51 = .ok (.aload_n 0, 1) := dk_42 (dk_at dksX4_wears_2 5 rfl rfl)
theorem dX4_wears_52 : decode cX4_wears 52 = .ok (.getfield 66, 3) := dk_180 0 66 (dk_at dksX4_wears_2 6 rfl rfl)
theorem dX4_wears_55 : decode cX4_wears 55 = .ok (.iload_n 1, 1) := dk_27 (dk_at dksX4_wears_2 9 rfl rfl)
theorem dX4_wears_56 : decode cX4_wears 56 = .ok (.bipush 35, 2) := dk_16 35 (dk_at dksX4_wears_2 10 rfl rfl)
theorem dX4_wears_58 : decode cX4_wears 58 = .ok (.iadd, 1) := dk_96 (dk_at dksX4_wears_2 12 rfl rfl)
theorem dX4_wears_59 : decode cX4_wears 59 = .ok (.iload_n 3, 1) := dk_29 (dk_at dksX4_wears_2 13 rfl rfl)
theorem dX4_wears_60 : decode cX4_wears 60 = .ok (.iadd, 1) := dk_96 (dk_at dksX4_wears_2 14 rfl rfl)
theorem dX4_wears_61 : decode cX4_wears 61 = .ok (.sipush 999, 3) := dk_17 3 231 (dk_at dksX4_wears_2 15 rfl rfl)
theorem dX4_wears_64 : decode cX4_wears 64 = .ok (.aload_n 0, 1) := dk_42 (dk_at dksX4_wears_2 18 rfl rfl)
theorem dX4_wears_65 : decode cX4_wears 65 = .ok (.getfield 66, 3) := dk_180 0 66 (dk_at dksX4_wears_2 19 rfl rfl)
theorem dX4_wears_68 : decode cX4_wears 68 = .ok (.iload_n 1, 1) := dk_27 (dk_at dksX4_wears_2 22 rfl rfl)
theorem dX4_wears_69 : decode cX4_wears 69 = .ok (.bipush 35, 2) := dk_16 35 (dk_at dksX4_wears_3 0 rfl rfl)
theorem dX4_wears_71 : decode cX4_wears 71 = .ok (.iadd, 1) := dk_96 (dk_at dksX4_wears_3 2 rfl rfl)
theorem dX4_wears_72 : decode cX4_wears 72 = .ok (.iload_n 3, 1) := dk_29 (dk_at dksX4_wears_3 3 rfl rfl)
theorem dX4_wears_73 : decode cX4_wears 73 = .ok (.iadd, 1) := dk_96 (dk_at dksX4_wears_3 4 rfl rfl)
theorem dX4_wears_74 : decode cX4_wears 74 = .ok (.iaload, 1) := dk_46 (dk_at dksX4_wears_3 5 rfl rfl)
theorem dX4_wears_75 : decode cX4_wears 75 = .ok (.iload 4, 2) := dk_21 4 (dk_at dksX4_wears_3 6 rfl rfl)
theorem dX4_wears_77 : decode cX4_wears 77 = .ok (.iadd, 1) := dk_96 (dk_at dksX4_wears_3 8 rfl rfl)
theorem dX4_wears_78 : decode cX4_wears 78 = .ok (.invokestatic 329, 3) := dk_184 1 73 (dk_at dksX4_wears_3 9 rfl rfl)
theorem dX4_wears_81 : decode cX4_wears 81 = .ok (.iastore, 1) := dk_79 (dk_at dksX4_wears_3 12 rfl rfl)
theorem dX4_wears_82 : decode cX4_wears 82 = .ok (.aload_n 0, 1) := dk_42 (dk_at dksX4_wears_3 13 rfl rfl)
theorem dX4_wears_83 : decode cX4_wears 83 = .ok (.getfield 13, 3) := dk_180 0 13 (dk_at dksX4_wears_3 14 rfl rfl)
theorem dX4_wears_86 : decode cX4_wears 86 = .ok (.iconst (-1), 1) := dk_2 (dk_at dksX4_wears_3 17 rfl rfl)
theorem dX4_wears_87 : decode cX4_wears 87 = .ok (.if_icmp .ne 25, 3) := dk_160 0 25 (dk_at dksX4_wears_3 18 rfl rfl)
theorem dX4_wears_90 : decode cX4_wears 90 = .ok (.iload 4, 2) := dk_21 4 (dk_at dksX4_wears_3 21 rfl rfl)
theorem dX4_wears_92 : decode cX4_wears 92 = .ok (.bipush 9, 2) := dk_16 9 (dk_at dksX4_wears_4 0 rfl rfl)
theorem dX4_wears_94 : decode cX4_wears 94 = .ok (.aload_n 0, 1) := dk_42 (dk_at dksX4_wears_4 2 rfl rfl)
theorem dX4_wears_95 : decode cX4_wears 95 = .ok (.getfield 16, 3) := dk_180 0 16 (dk_at dksX4_wears_4 3 rfl rfl)
theorem dX4_wears_98 : decode cX4_wears 98 = .ok (.iload_n 2, 1) := dk_28 (dk_at dksX4_wears_4 6 rfl rfl)
theorem dX4_wears_99 : decode cX4_wears 99 = .ok (.iaload, 1) := dk_46 (dk_at dksX4_wears_4 7 rfl rfl)
theorem dX4_wears_100 : decode cX4_wears 100 = .ok (.iadd, 1) := dk_96 (dk_at dksX4_wears_4 8 rfl rfl)
theorem dX4_wears_101 : decode cX4_wears 101 = .ok (.if_icmp .le 7, 3) := dk_164 0 7 (dk_at dksX4_wears_4 9 rfl rfl)
theorem dX4_wears_104 : decode cX4_wears 104 = .ok (.iconst 1, 1) := dk_4 (dk_at dksX4_wears_4 12 rfl rfl)
theorem dX4_wears_105 : decode cX4_wears 105 = .ok (.goto 26, 3) := dk_167 0 26 (dk_at dksX4_wears_4 13 rfl rfl)
theorem dX4_wears_108 : decode cX4_wears 108 = .ok (.iconst 0, 1) := dk_3 (dk_at dksX4_wears_4 16 rfl rfl)
theorem dX4_wears_109 : decode cX4_wears 109 = .ok (.goto 22, 3) := dk_167 0 22 (dk_at dksX4_wears_4 17 rfl rfl)
theorem dX4_wears_112 : decode cX4_wears 112 = .ok (.aload_n 0, 1) := dk_42 (dk_at dksX4_wears_4 20 rfl rfl)
theorem dX4_wears_113 : decode cX4_wears 113 = .ok (.aload_n 0, 1) := dk_42 (dk_at dksX4_wears_4 21 rfl rfl)
theorem dX4_wears_114 : decode cX4_wears 114 = .ok (.getfield 13, 3) := dk_180 0 13 (dk_at dksX4_wears_5 0 rfl rfl)
theorem dX4_wears_117 : decode cX4_wears 117 = .ok (.iload_n 1, 1) := dk_27 (dk_at dksX4_wears_5 3 rfl rfl)
theorem dX4_wears_118 : decode cX4_wears 118 = .ok (.iload_n 3, 1) := dk_29 (dk_at dksX4_wears_5 4 rfl rfl)
theorem dX4_wears_119 : decode cX4_wears 119 = .ok (.iload_n 2, 1) := dk_28 (dk_at dksX4_wears_5 5 rfl rfl)
theorem dX4_wears_120 : decode cX4_wears 120 = .ok (.invokevirtual 318, 3) := dk_182 1 62 (dk_at dksX4_wears_5 6 rfl rfl)
theorem dX4_wears_123 : decode cX4_wears 123 = .ok (.ifCond .le 7, 3) := dk_158 0 7 (dk_at dksX4_wears_5 9 rfl rfl)
theorem dX4_wears_126 : decode cX4_wears 126 = .ok (.iconst 1, 1) := dk_4 (dk_at dksX4_wears_5 12 rfl rfl)
theorem dX4_wears_127 : decode cX4_wears 127 = .ok (.goto 4, 3) := dk_167 0 4 (dk_at dksX4_wears_5 13 rfl rfl)
theorem dX4_wears_130 : decode cX4_wears 130 = .ok (.iconst 0, 1) := dk_3 (dk_at dksX4_wears_5 16 rfl rfl)
theorem dX4_wears_131 : decode cX4_wears 131 = .ok (.istore 5, 2) := dk_54 5 (dk_at dksX4_wears_5 17 rfl rfl)
theorem dX4_wears_133 : decode cX4_wears 133 = .ok (.iload 5, 2) := dk_21 5 (dk_at dksX4_wears_5 19 rfl rfl)
theorem dX4_wears_135 : decode cX4_wears 135 = .ok (.ifCond .ne 4, 3) := dk_154 0 4 (dk_at dksX4_wears_5 21 rfl rfl)
theorem dX4_wears_138 : decode cX4_wears 138 = .ok (.return_, 1) := dk_177 (dk_at dksX4_wears_6 0 rfl rfl)
theorem dX4_wears_139 : decode cX4_wears 139 = .ok (.aload_n 0, 1) := dk_42 (dk_at dksX4_wears_6 1 rfl rfl)
theorem dX4_wears_140 : decode cX4_wears 140 = .ok (.getfield 66, 3) := dk_180 0 66 (dk_at dksX4_wears_6 2 rfl rfl)
theorem dX4_wears_143 : decode cX4_wears 143 = .ok (.iload_n 1, 1) := dk_27 (dk_at dksX4_wears_6 5 rfl rfl)
theorem dX4_wears_144 : decode cX4_wears 144 = .ok (.iconst 1, 1) := dk_4 (dk_at dksX4_wears_6 6 rfl rfl)
theorem dX4_wears_145 : decode cX4_wears 145 = .ok (.iadd, 1) := dk_96 (dk_at dksX4_wears_6 7 rfl rfl)
theorem dX4_wears_146 : decode cX4_wears 146 = .ok (.dup2, 1) := dk_92 (dk_at dksX4_wears_6 8 rfl rfl)
theorem dX4_wears_147 : decode cX4_wears 147 = .ok (.iaload, 1) := dk_46 (dk_at dksX4_wears_6 9 rfl rfl)
theorem dX4_wears_148 : decode cX4_wears 148 = .ok (.iconst 1, 1) := dk_4 (dk_at dksX4_wears_6 10 rfl rfl)
theorem dX4_wears_149 : decode cX4_wears 149 = .ok (.iload_n 2, 1) := dk_28 (dk_at dksX4_wears_6 11 rfl rfl)
theorem dX4_wears_150 : decode cX4_wears 150 = .ok (.ishl, 1) := dk_120 (dk_at dksX4_wears_6 12 rfl rfl)
theorem dX4_wears_151 : decode cX4_wears 151 = .ok (.ior, 1) := dk_128 (dk_at dksX4_wears_6 13 rfl rfl)
theorem dX4_wears_152 : decode cX4_wears 152 = .ok (.iastore, 1) := dk_79 (dk_at dksX4_wears_6 14 rfl rfl)
theorem dX4_wears_153 : decode cX4_wears 153 = .ok (.aload_n 0, 1) := dk_42 (dk_at dksX4_wears_6 15 rfl rfl)
theorem dX4_wears_154 : decode cX4_wears 154 = .ok (.getfield 66, 3) := dk_180 0 66 (dk_at dksX4_wears_6 16 rfl rfl)
theorem dX4_wears_157 : decode cX4_wears 157 = .ok (.iload_n 1, 1) := dk_27 (dk_at dksX4_wears_6 19 rfl rfl)
theorem dX4_wears_158 : decode cX4_wears 158 = .ok (.bipush 19, 2) := dk_16 19 (dk_at dksX4_wears_6 20 rfl rfl)
theorem dX4_wears_160 : decode cX4_wears 160 = .ok (.iadd, 1) := dk_96 (dk_at dksX4_wears_6 22 rfl rfl)
theorem dX4_wears_161 : decode cX4_wears 161 = .ok (.iload_n 2, 1) := dk_28 (dk_at dksX4_wears_6 23 rfl rfl)
theorem dX4_wears_162 : decode cX4_wears 162 = .ok (.iadd, 1) := dk_96 (dk_at dksX4_wears_7 0 rfl rfl)
theorem dX4_wears_163 : decode cX4_wears 163 = .ok (.iconst (-1), 1) := dk_2 (dk_at dksX4_wears_7 1 rfl rfl)
theorem dX4_wears_164 : decode cX4_wears 164 = .ok (.iastore, 1) := dk_79 (dk_at dksX4_wears_7 2 rfl rfl)
theorem dX4_wears_165 : decode cX4_wears 165 = .ok (.return_, 1) := dk_177 (dk_at dksX4_wears_7 3 rfl rfl)
abbrev cX4_putIn : ByteArray := prog_12_method_75_code
def yX4_putIn : MethodName := ⟨RX4, "putIn", "(II)I"⟩
def dkwX4_putIn_3 : List UInt8 := [28, 96, 27, 79, 42, 3, 27, 28, 182, 1, 56, 172]
abbrev dktX4_putIn_3 : List UInt8 := dkwX4_putIn_3 ++ []
def dkwX4_putIn_2 : List UInt8 := [27, 28, 182, 1, 132, 154, 0, 9, 42, 4, 182, 1, 126, 172, 42, 182, 1, 129, 42, 180, 0, 66, 16, 19]
abbrev dktX4_putIn_2 : List UInt8 := dkwX4_putIn_2 ++ dktX4_putIn_3
def dkwX4_putIn_1 : List UInt8 := [3, 27, 182, 1, 83, 2, 160, 0, 26, 42, 180, 0, 66, 16, 19, 28, 96, 46, 2, 160, 0, 13, 42, 3]
abbrev dktX4_putIn_1 : List UInt8 := dkwX4_putIn_1 ++ dktX4_putIn_2
def dkwX4_putIn_0 : List UInt8 := [42, 3, 181, 0, 111, 42, 27, 182, 1, 123, 153, 0, 11, 42, 28, 182, 1, 111, 154, 0, 5, 3, 172, 42]
abbrev dktX4_putIn_0 : List UInt8 := dkwX4_putIn_0 ++ dktX4_putIn_1
theorem dksX4_putIn_0 : cX4_putIn.data.toList.drop 0 = dktX4_putIn_0 := by decide +kernel
theorem dksX4_putIn_1 : cX4_putIn.data.toList.drop 24 = dktX4_putIn_1 := dk_seg dksX4_putIn_0 24 rfl rfl
theorem dksX4_putIn_2 : cX4_putIn.data.toList.drop 48 = dktX4_putIn_2 := dk_seg dksX4_putIn_1 24 rfl rfl
theorem dksX4_putIn_3 : cX4_putIn.data.toList.drop 72 = dktX4_putIn_3 := dk_seg dksX4_putIn_2 24 rfl rfl
theorem dX4_putIn_0 : decode cX4_putIn 0 = .ok (.aload_n 0, 1) := dk_42 (dk_at dksX4_putIn_0 0 rfl rfl)
theorem dX4_putIn_1 : decode cX4_putIn 1 = .ok (.iconst 0, 1) := dk_3 (dk_at dksX4_putIn_0 1 rfl rfl)
theorem dX4_putIn_2 : decode cX4_putIn 2 = .ok (.putfield 111, 3) := dk_181 0 111 (dk_at dksX4_putIn_0 2 rfl rfl)
theorem dX4_putIn_5 : decode cX4_putIn 5 = .ok (.aload_n 0, 1) := dk_42 (dk_at dksX4_putIn_0 5 rfl rfl)
theorem dX4_putIn_6 : decode cX4_putIn 6 = .ok (.iload_n 1, 1) := dk_27 (dk_at dksX4_putIn_0 6 rfl rfl)
theorem dX4_putIn_7 : decode cX4_putIn 7 = .ok (.invokevirtual 379, 3) := dk_182 1 123 (dk_at dksX4_putIn_0 7 rfl rfl)
theorem dX4_putIn_10 : decode cX4_putIn 10 = .ok (.ifCond .eq 11, 3) := dk_153 0 11 (dk_at dksX4_putIn_0 10 rfl rfl)
theorem dX4_putIn_13 : decode cX4_putIn 13 = .ok (.aload_n 0, 1) := dk_42 (dk_at dksX4_putIn_0 13 rfl rfl)
theorem dX4_putIn_14 : decode cX4_putIn 14 = .ok (.iload_n 2, 1) := dk_28 (dk_at dksX4_putIn_0 14 rfl rfl)
theorem dX4_putIn_15 : decode cX4_putIn 15 = .ok (.invokevirtual 367, 3) := dk_182 1 111 (dk_at dksX4_putIn_0 15 rfl rfl)
theorem dX4_putIn_18 : decode cX4_putIn 18 = .ok (.ifCond .ne 5, 3) := dk_154 0 5 (dk_at dksX4_putIn_0 18 rfl rfl)
theorem dX4_putIn_21 : decode cX4_putIn 21 = .ok (.iconst 0, 1) := dk_3 (dk_at dksX4_putIn_0 21 rfl rfl)
theorem dX4_putIn_22 : decode cX4_putIn 22 = .ok (.ireturn, 1) := dk_172 (dk_at dksX4_putIn_0 22 rfl rfl)
theorem dX4_putIn_23 : decode cX4_putIn 23 = .ok (.aload_n 0, 1) := dk_42 (dk_at dksX4_putIn_0 23 rfl rfl)
theorem dX4_putIn_24 : decode cX4_putIn 24 = .ok (.iconst 0, 1) := dk_3 (dk_at dksX4_putIn_1 0 rfl rfl)
theorem dX4_putIn_25 : decode cX4_putIn 25 = .ok (.iload_n 1, 1) := dk_27 (dk_at dksX4_putIn_1 1 rfl rfl)
theorem dX4_putIn_26 : decode cX4_putIn 26 = .ok (.invokevirtual 339, 3) := dk_182 1 83 (dk_at dksX4_putIn_1 2 rfl rfl)
theorem dX4_putIn_29 : decode cX4_putIn 29 = .ok (.iconst (-1), 1) := dk_2 (dk_at dksX4_putIn_1 5 rfl rfl)
theorem dX4_putIn_30 : decode cX4_putIn 30 = .ok (.if_icmp .ne 26, 3) := dk_160 0 26 (dk_at dksX4_putIn_1 6 rfl rfl)
theorem dX4_putIn_33 : decode cX4_putIn 33 = .ok (.aload_n 0, 1) := dk_42 (dk_at dksX4_putIn_1 9 rfl rfl)
theorem dX4_putIn_34 : decode cX4_putIn 34 = .ok (.getfield 66, 3) := dk_180 0 66 (dk_at dksX4_putIn_1 10 rfl rfl)
theorem dX4_putIn_37 : decode cX4_putIn 37 = .ok (.bipush 19, 2) := dk_16 19 (dk_at dksX4_putIn_1 13 rfl rfl)
theorem dX4_putIn_39 : decode cX4_putIn 39 = .ok (.iload_n 2, 1) := dk_28 (dk_at dksX4_putIn_1 15 rfl rfl)
theorem dX4_putIn_40 : decode cX4_putIn 40 = .ok (.iadd, 1) := dk_96 (dk_at dksX4_putIn_1 16 rfl rfl)
theorem dX4_putIn_41 : decode cX4_putIn 41 = .ok (.iaload, 1) := dk_46 (dk_at dksX4_putIn_1 17 rfl rfl)
theorem dX4_putIn_42 : decode cX4_putIn 42 = .ok (.iconst (-1), 1) := dk_2 (dk_at dksX4_putIn_1 18 rfl rfl)
theorem dX4_putIn_43 : decode cX4_putIn 43 = .ok (.if_icmp .ne 13, 3) := dk_160 0 13 (dk_at dksX4_putIn_1 19 rfl rfl)
theorem dX4_putIn_46 : decode cX4_putIn 46 = .ok (.aload_n 0, 1) := dk_42 (dk_at dksX4_putIn_1 22 rfl rfl)
theorem dX4_putIn_47 : decode cX4_putIn 47 = .ok (.iconst 0, 1) := dk_3 (dk_at dksX4_putIn_1 23 rfl rfl)
theorem dX4_putIn_48 : decode cX4_putIn 48 = .ok (.iload_n 1, 1) := dk_27 (dk_at dksX4_putIn_2 0 rfl rfl)
theorem dX4_putIn_49 : decode cX4_putIn 49 = .ok (.iload_n 2, 1) := dk_28 (dk_at dksX4_putIn_2 1 rfl rfl)
theorem dX4_putIn_50 : decode cX4_putIn 50 = .ok (.invokevirtual 388, 3) := dk_182 1 132 (dk_at dksX4_putIn_2 2 rfl rfl)
theorem dX4_putIn_53 : decode cX4_putIn 53 = .ok (.ifCond .ne 9, 3) := dk_154 0 9 (dk_at dksX4_putIn_2 5 rfl rfl)
theorem dX4_putIn_56 : decode cX4_putIn 56 = .ok (.aload_n 0, 1) := dk_42 (dk_at dksX4_putIn_2 8 rfl rfl)
theorem dX4_putIn_57 : decode cX4_putIn 57 = .ok (.iconst 1, 1) := dk_4 (dk_at dksX4_putIn_2 9 rfl rfl)
theorem dX4_putIn_58 : decode cX4_putIn 58 = .ok (.invokevirtual 382, 3) := dk_182 1 126 (dk_at dksX4_putIn_2 10 rfl rfl)
theorem dX4_putIn_61 : decode cX4_putIn 61 = .ok (.ireturn, 1) := dk_172 (dk_at dksX4_putIn_2 13 rfl rfl)
theorem dX4_putIn_62 : decode cX4_putIn 62 = .ok (.aload_n 0, 1) := dk_42 (dk_at dksX4_putIn_2 14 rfl rfl)
theorem dX4_putIn_63 : decode cX4_putIn 63 = .ok (.invokevirtual 385, 3) := dk_182 1 129 (dk_at dksX4_putIn_2 15 rfl rfl)
theorem dX4_putIn_66 : decode cX4_putIn 66 = .ok (.aload_n 0, 1) := dk_42 (dk_at dksX4_putIn_2 18 rfl rfl)
theorem dX4_putIn_67 : decode cX4_putIn 67 = .ok (.getfield 66, 3) := dk_180 0 66 (dk_at dksX4_putIn_2 19 rfl rfl)
theorem dX4_putIn_70 : decode cX4_putIn 70 = .ok (.bipush 19, 2) := dk_16 19 (dk_at dksX4_putIn_2 22 rfl rfl)
theorem dX4_putIn_72 : decode cX4_putIn 72 = .ok (.iload_n 2, 1) := dk_28 (dk_at dksX4_putIn_3 0 rfl rfl)
theorem dX4_putIn_73 : decode cX4_putIn 73 = .ok (.iadd, 1) := dk_96 (dk_at dksX4_putIn_3 1 rfl rfl)
theorem dX4_putIn_74 : decode cX4_putIn 74 = .ok (.iload_n 1, 1) := dk_27 (dk_at dksX4_putIn_3 2 rfl rfl)
theorem dX4_putIn_75 : decode cX4_putIn 75 = .ok (.iastore, 1) := dk_79 (dk_at dksX4_putIn_3 3 rfl rfl)
theorem dX4_putIn_76 : decode cX4_putIn 76 = .ok (.aload_n 0, 1) := dk_42 (dk_at dksX4_putIn_3 4 rfl rfl)
theorem dX4_putIn_77 : decode cX4_putIn 77 = .ok (.iconst 0, 1) := dk_3 (dk_at dksX4_putIn_3 5 rfl rfl)
theorem dX4_putIn_78 : decode cX4_putIn 78 = .ok (.iload_n 1, 1) := dk_27 (dk_at dksX4_putIn_3 6 rfl rfl)
theorem dX4_putIn_79 : decode cX4_putIn 79 = .ok (.iload_n 2, 1) := dk_28 (dk_at dksX4_putIn_3 7 rfl rfl)
theorem dX4_putIn_80 : decode cX4_putIn 80 = .ok (.invokevirtual 312, 3) := dk_182 1 56 (dk_at dksX4_putIn_3 8 rfl rfl)
theorem dX4_putIn_83 : decode cX4_putIn 83 = .ok (.ireturn, 1) := dk_172 (dk_at dksX4_putIn_3 11 rfl rfl)
abbrev cX4_out : ByteArray := prog_12_method_76_code
def yX4_out : MethodName := ⟨RX4, "out", "(I)I"⟩
def dkwX4_out_2 : List UInt8 := [172]
abbrev dktX4_out_2 : List UInt8 := dkwX4_out_2 ++ []
def dkwX4_out_1 : List UInt8 := [160, 0, 9, 42, 4, 182, 1, 126, 172, 42, 182, 1, 129, 42, 180, 0, 66, 16, 19, 28, 96, 2, 79, 28]
abbrev dktX4_out_1 : List UInt8 := dkwX4_out_1 ++ dktX4_out_2
def dkwX4_out_0 : List UInt8 := [42, 3, 181, 0, 111, 42, 27, 182, 1, 123, 154, 0, 5, 3, 172, 42, 3, 27, 182, 1, 83, 61, 28, 2]
abbrev dktX4_out_0 : List UInt8 := dkwX4_out_0 ++ dktX4_out_1
theorem dksX4_out_0 : cX4_out.data.toList.drop 0 = dktX4_out_0 := by decide +kernel
theorem dksX4_out_1 : cX4_out.data.toList.drop 24 = dktX4_out_1 := dk_seg dksX4_out_0 24 rfl rfl
theorem dksX4_out_2 : cX4_out.data.toList.drop 48 = dktX4_out_2 := dk_seg dksX4_out_1 24 rfl rfl
theorem dX4_out_0 : decode cX4_out 0 = .ok (.aload_n 0, 1) := dk_42 (dk_at dksX4_out_0 0 rfl rfl)
theorem dX4_out_1 : decode cX4_out 1 = .ok (.iconst 0, 1) := dk_3 (dk_at dksX4_out_0 1 rfl rfl)
theorem dX4_out_2 : decode cX4_out 2 = .ok (.putfield 111, 3) := dk_181 0 111 (dk_at dksX4_out_0 2 rfl rfl)
theorem dX4_out_5 : decode cX4_out 5 = .ok (.aload_n 0, 1) := dk_42 (dk_at dksX4_out_0 5 rfl rfl)
theorem dX4_out_6 : decode cX4_out 6 = .ok (.iload_n 1, 1) := dk_27 (dk_at dksX4_out_0 6 rfl rfl)
theorem dX4_out_7 : decode cX4_out 7 = .ok (.invokevirtual 379, 3) := dk_182 1 123 (dk_at dksX4_out_0 7 rfl rfl)
theorem dX4_out_10 : decode cX4_out 10 = .ok (.ifCond .ne 5, 3) := dk_154 0 5 (dk_at dksX4_out_0 10 rfl rfl)
theorem dX4_out_13 : decode cX4_out 13 = .ok (.iconst 0, 1) := dk_3 (dk_at dksX4_out_0 13 rfl rfl)
theorem dX4_out_14 : decode cX4_out 14 = .ok (.ireturn, 1) := dk_172 (dk_at dksX4_out_0 14 rfl rfl)
theorem dX4_out_15 : decode cX4_out 15 = .ok (.aload_n 0, 1) := dk_42 (dk_at dksX4_out_0 15 rfl rfl)
theorem dX4_out_16 : decode cX4_out 16 = .ok (.iconst 0, 1) := dk_3 (dk_at dksX4_out_0 16 rfl rfl)
theorem dX4_out_17 : decode cX4_out 17 = .ok (.iload_n 1, 1) := dk_27 (dk_at dksX4_out_0 17 rfl rfl)
theorem dX4_out_18 : decode cX4_out 18 = .ok (.invokevirtual 339, 3) := dk_182 1 83 (dk_at dksX4_out_0 18 rfl rfl)
theorem dX4_out_21 : decode cX4_out 21 = .ok (.istore_n 2, 1) := dk_61 (dk_at dksX4_out_0 21 rfl rfl)
theorem dX4_out_22 : decode cX4_out 22 = .ok (.iload_n 2, 1) := dk_28 (dk_at dksX4_out_0 22 rfl rfl)
theorem dX4_out_23 : decode cX4_out 23 = .ok (.iconst (-1), 1) := dk_2 (dk_at dksX4_out_0 23 rfl rfl)
theorem dX4_out_24 : decode cX4_out 24 = .ok (.if_icmp .ne 9, 3) := dk_160 0 9 (dk_at dksX4_out_1 0 rfl rfl)
theorem dX4_out_27 : decode cX4_out 27 = .ok (.aload_n 0, 1) := dk_42 (dk_at dksX4_out_1 3 rfl rfl)
theorem dX4_out_28 : decode cX4_out 28 = .ok (.iconst 1, 1) := dk_4 (dk_at dksX4_out_1 4 rfl rfl)
theorem dX4_out_29 : decode cX4_out 29 = .ok (.invokevirtual 382, 3) := dk_182 1 126 (dk_at dksX4_out_1 5 rfl rfl)
theorem dX4_out_32 : decode cX4_out 32 = .ok (.ireturn, 1) := dk_172 (dk_at dksX4_out_1 8 rfl rfl)
theorem dX4_out_33 : decode cX4_out 33 = .ok (.aload_n 0, 1) := dk_42 (dk_at dksX4_out_1 9 rfl rfl)
theorem dX4_out_34 : decode cX4_out 34 = .ok (.invokevirtual 385, 3) := dk_182 1 129 (dk_at dksX4_out_1 10 rfl rfl)
theorem dX4_out_37 : decode cX4_out 37 = .ok (.aload_n 0, 1) := dk_42 (dk_at dksX4_out_1 13 rfl rfl)
theorem dX4_out_38 : decode cX4_out 38 = .ok (.getfield 66, 3) := dk_180 0 66 (dk_at dksX4_out_1 14 rfl rfl)
theorem dX4_out_41 : decode cX4_out 41 = .ok (.bipush 19, 2) := dk_16 19 (dk_at dksX4_out_1 17 rfl rfl)
theorem dX4_out_43 : decode cX4_out 43 = .ok (.iload_n 2, 1) := dk_28 (dk_at dksX4_out_1 19 rfl rfl)
theorem dX4_out_44 : decode cX4_out 44 = .ok (.iadd, 1) := dk_96 (dk_at dksX4_out_1 20 rfl rfl)
theorem dX4_out_45 : decode cX4_out 45 = .ok (.iconst (-1), 1) := dk_2 (dk_at dksX4_out_1 21 rfl rfl)
theorem dX4_out_46 : decode cX4_out 46 = .ok (.iastore, 1) := dk_79 (dk_at dksX4_out_1 22 rfl rfl)
theorem dX4_out_47 : decode cX4_out 47 = .ok (.iload_n 2, 1) := dk_28 (dk_at dksX4_out_1 23 rfl rfl)
theorem dX4_out_48 : decode cX4_out 48 = .ok (.ireturn, 1) := dk_172 (dk_at dksX4_out_2 0 rfl rfl)
abbrev cX4_stuff : ByteArray := prog_12_method_77_code
def yX4_stuff : MethodName := ⟨RX4, "stuff", "(II)I"⟩
def dkwX4_stuff_3 : List UInt8 := [79, 42, 180, 0, 66, 6, 27, 96, 46, 172]
abbrev dktX4_stuff_3 : List UInt8 := dkwX4_stuff_3 ++ []
def dkwX4_stuff_2 : List UInt8 := [42, 180, 0, 66, 6, 27, 96, 42, 180, 0, 66, 6, 27, 96, 46, 28, 100, 4, 19, 1, 49, 184, 1, 50]
abbrev dktX4_stuff_2 : List UInt8 := dkwX4_stuff_2 ++ dktX4_stuff_3
def dkwX4_stuff_1 : List UInt8 := [2, 160, 0, 13, 28, 4, 16, 20, 184, 1, 89, 154, 0, 9, 42, 4, 182, 1, 126, 172, 42, 182, 1, 129]
abbrev dktX4_stuff_1 : List UInt8 := dkwX4_stuff_1 ++ dktX4_stuff_2
def dkwX4_stuff_0 : List UInt8 := [42, 3, 181, 0, 111, 42, 27, 182, 1, 111, 154, 0, 5, 3, 172, 42, 180, 0, 66, 16, 19, 27, 96, 46]
abbrev dktX4_stuff_0 : List UInt8 := dkwX4_stuff_0 ++ dktX4_stuff_1
theorem dksX4_stuff_0 : cX4_stuff.data.toList.drop 0 = dktX4_stuff_0 := by decide +kernel
theorem dksX4_stuff_1 : cX4_stuff.data.toList.drop 24 = dktX4_stuff_1 := dk_seg dksX4_stuff_0 24 rfl rfl
theorem dksX4_stuff_2 : cX4_stuff.data.toList.drop 48 = dktX4_stuff_2 := dk_seg dksX4_stuff_1 24 rfl rfl
theorem dksX4_stuff_3 : cX4_stuff.data.toList.drop 72 = dktX4_stuff_3 := dk_seg dksX4_stuff_2 24 rfl rfl
theorem dX4_stuff_0 : decode cX4_stuff 0 = .ok (.aload_n 0, 1) := dk_42 (dk_at dksX4_stuff_0 0 rfl rfl)
theorem dX4_stuff_1 : decode cX4_stuff 1 = .ok (.iconst 0, 1) := dk_3 (dk_at dksX4_stuff_0 1 rfl rfl)
theorem dX4_stuff_2 : decode cX4_stuff 2 = .ok (.putfield 111, 3) := dk_181 0 111 (dk_at dksX4_stuff_0 2 rfl rfl)
theorem dX4_stuff_5 : decode cX4_stuff 5 = .ok (.aload_n 0, 1) := dk_42 (dk_at dksX4_stuff_0 5 rfl rfl)
theorem dX4_stuff_6 : decode cX4_stuff 6 = .ok (.iload_n 1, 1) := dk_27 (dk_at dksX4_stuff_0 6 rfl rfl)
theorem dX4_stuff_7 : decode cX4_stuff 7 = .ok (.invokevirtual 367, 3) := dk_182 1 111 (dk_at dksX4_stuff_0 7 rfl rfl)
theorem dX4_stuff_10 : decode cX4_stuff 10 = .ok (.ifCond .ne 5, 3) := dk_154 0 5 (dk_at dksX4_stuff_0 10 rfl rfl)
theorem dX4_stuff_13 : decode cX4_stuff 13 = .ok (.iconst 0, 1) := dk_3 (dk_at dksX4_stuff_0 13 rfl rfl)
theorem dX4_stuff_14 : decode cX4_stuff 14 = .ok (.ireturn, 1) := dk_172 (dk_at dksX4_stuff_0 14 rfl rfl)
theorem dX4_stuff_15 : decode cX4_stuff 15 = .ok (.aload_n 0, 1) := dk_42 (dk_at dksX4_stuff_0 15 rfl rfl)
theorem dX4_stuff_16 : decode cX4_stuff 16 = .ok (.getfield 66, 3) := dk_180 0 66 (dk_at dksX4_stuff_0 16 rfl rfl)
theorem dX4_stuff_19 : decode cX4_stuff 19 = .ok (.bipush 19, 2) := dk_16 19 (dk_at dksX4_stuff_0 19 rfl rfl)
theorem dX4_stuff_21 : decode cX4_stuff 21 = .ok (.iload_n 1, 1) := dk_27 (dk_at dksX4_stuff_0 21 rfl rfl)
theorem dX4_stuff_22 : decode cX4_stuff 22 = .ok (.iadd, 1) := dk_96 (dk_at dksX4_stuff_0 22 rfl rfl)
theorem dX4_stuff_23 : decode cX4_stuff 23 = .ok (.iaload, 1) := dk_46 (dk_at dksX4_stuff_0 23 rfl rfl)
theorem dX4_stuff_24 : decode cX4_stuff 24 = .ok (.iconst (-1), 1) := dk_2 (dk_at dksX4_stuff_1 0 rfl rfl)
theorem dX4_stuff_25 : decode cX4_stuff 25 = .ok (.if_icmp .ne 13, 3) := dk_160 0 13 (dk_at dksX4_stuff_1 1 rfl rfl)
theorem dX4_stuff_28 : decode cX4_stuff 28 = .ok (.iload_n 2, 1) := dk_28 (dk_at dksX4_stuff_1 4 rfl rfl)
theorem dX4_stuff_29 : decode cX4_stuff 29 = .ok (.iconst 1, 1) := dk_4 (dk_at dksX4_stuff_1 5 rfl rfl)
theorem dX4_stuff_30 : decode cX4_stuff 30 = .ok (.bipush 20, 2) := dk_16 20 (dk_at dksX4_stuff_1 6 rfl rfl)
theorem dX4_stuff_32 : decode cX4_stuff 32 = .ok (.invokestatic 345, 3) := dk_184 1 89 (dk_at dksX4_stuff_1 8 rfl rfl)
theorem dX4_stuff_35 : decode cX4_stuff 35 = .ok (.ifCond .ne 9, 3) := dk_154 0 9 (dk_at dksX4_stuff_1 11 rfl rfl)
theorem dX4_stuff_38 : decode cX4_stuff 38 = .ok (.aload_n 0, 1) := dk_42 (dk_at dksX4_stuff_1 14 rfl rfl)
theorem dX4_stuff_39 : decode cX4_stuff 39 = .ok (.iconst 1, 1) := dk_4 (dk_at dksX4_stuff_1 15 rfl rfl)
theorem dX4_stuff_40 : decode cX4_stuff 40 = .ok (.invokevirtual 382, 3) := dk_182 1 126 (dk_at dksX4_stuff_1 16 rfl rfl)
theorem dX4_stuff_43 : decode cX4_stuff 43 = .ok (.ireturn, 1) := dk_172 (dk_at dksX4_stuff_1 19 rfl rfl)
theorem dX4_stuff_44 : decode cX4_stuff 44 = .ok (.aload_n 0, 1) := dk_42 (dk_at dksX4_stuff_1 20 rfl rfl)
theorem dX4_stuff_45 : decode cX4_stuff 45 = .ok (.invokevirtual 385, 3) := dk_182 1 129 (dk_at dksX4_stuff_1 21 rfl rfl)
theorem dX4_stuff_48 : decode cX4_stuff 48 = .ok (.aload_n 0, 1) := dk_42 (dk_at dksX4_stuff_2 0 rfl rfl)
theorem dX4_stuff_49 : decode cX4_stuff 49 = .ok (.getfield 66, 3) := dk_180 0 66 (dk_at dksX4_stuff_2 1 rfl rfl)
theorem dX4_stuff_52 : decode cX4_stuff 52 = .ok (.iconst 3, 1) := dk_6 (dk_at dksX4_stuff_2 4 rfl rfl)
theorem dX4_stuff_53 : decode cX4_stuff 53 = .ok (.iload_n 1, 1) := dk_27 (dk_at dksX4_stuff_2 5 rfl rfl)
theorem dX4_stuff_54 : decode cX4_stuff 54 = .ok (.iadd, 1) := dk_96 (dk_at dksX4_stuff_2 6 rfl rfl)
theorem dX4_stuff_55 : decode cX4_stuff 55 = .ok (.aload_n 0, 1) := dk_42 (dk_at dksX4_stuff_2 7 rfl rfl)
theorem dX4_stuff_56 : decode cX4_stuff 56 = .ok (.getfield 66, 3) := dk_180 0 66 (dk_at dksX4_stuff_2 8 rfl rfl)
theorem dX4_stuff_59 : decode cX4_stuff 59 = .ok (.iconst 3, 1) := dk_6 (dk_at dksX4_stuff_2 11 rfl rfl)
theorem dX4_stuff_60 : decode cX4_stuff 60 = .ok (.iload_n 1, 1) := dk_27 (dk_at dksX4_stuff_2 12 rfl rfl)
theorem dX4_stuff_61 : decode cX4_stuff 61 = .ok (.iadd, 1) := dk_96 (dk_at dksX4_stuff_2 13 rfl rfl)
theorem dX4_stuff_62 : decode cX4_stuff 62 = .ok (.iaload, 1) := dk_46 (dk_at dksX4_stuff_2 14 rfl rfl)
theorem dX4_stuff_63 : decode cX4_stuff 63 = .ok (.iload_n 2, 1) := dk_28 (dk_at dksX4_stuff_2 15 rfl rfl)
theorem dX4_stuff_64 : decode cX4_stuff 64 = .ok (.isub, 1) := dk_100 (dk_at dksX4_stuff_2 16 rfl rfl)
theorem dX4_stuff_65 : decode cX4_stuff 65 = .ok (.iconst 1, 1) := dk_4 (dk_at dksX4_stuff_2 17 rfl rfl)
theorem dX4_stuff_66 : decode cX4_stuff 66 = .ok (.ldc_w 305, 3) := dk_19 1 49 (dk_at dksX4_stuff_2 18 rfl rfl)
theorem dX4_stuff_69 : decode cX4_stuff 69 = .ok (.invokestatic 306, 3) := dk_184 1 50 (dk_at dksX4_stuff_2 21 rfl rfl)
theorem dX4_stuff_72 : decode cX4_stuff 72 = .ok (.iastore, 1) := dk_79 (dk_at dksX4_stuff_3 0 rfl rfl)
theorem dX4_stuff_73 : decode cX4_stuff 73 = .ok (.aload_n 0, 1) := dk_42 (dk_at dksX4_stuff_3 1 rfl rfl)
theorem dX4_stuff_74 : decode cX4_stuff 74 = .ok (.getfield 66, 3) := dk_180 0 66 (dk_at dksX4_stuff_3 2 rfl rfl)
theorem dX4_stuff_77 : decode cX4_stuff 77 = .ok (.iconst 3, 1) := dk_6 (dk_at dksX4_stuff_3 5 rfl rfl)
theorem dX4_stuff_78 : decode cX4_stuff 78 = .ok (.iload_n 1, 1) := dk_27 (dk_at dksX4_stuff_3 6 rfl rfl)
theorem dX4_stuff_79 : decode cX4_stuff 79 = .ok (.iadd, 1) := dk_96 (dk_at dksX4_stuff_3 7 rfl rfl)
theorem dX4_stuff_80 : decode cX4_stuff 80 = .ok (.iaload, 1) := dk_46 (dk_at dksX4_stuff_3 8 rfl rfl)
theorem dX4_stuff_81 : decode cX4_stuff 81 = .ok (.ireturn, 1) := dk_172 (dk_at dksX4_stuff_3 9 rfl rfl)
abbrev cX4_change : ByteArray := prog_12_method_78_code
def yX4_change : MethodName := ⟨RX4, "change", "(II)Z"⟩
def dkwX4_change_6 : List UInt8 := [16, 19, 21, 4, 96, 27, 79, 4, 172]
abbrev dktX4_change_6 : List UInt8 := dkwX4_change_6 ++ []
def dkwX4_change_5 : List UInt8 := [159, 0, 13, 42, 180, 0, 66, 16, 19, 29, 96, 28, 79, 21, 4, 2, 159, 0, 14, 42, 180, 0, 66]
abbrev dktX4_change_5 : List UInt8 := dkwX4_change_5 ++ dktX4_change_6
def dkwX4_change_4 : List UInt8 := [154, 0, 17, 42, 4, 182, 1, 126, 158, 0, 7, 4, 167, 0, 4, 3, 172, 42, 182, 1, 129, 29, 2]
abbrev dktX4_change_4 : List UInt8 := dkwX4_change_4 ++ dktX4_change_5
def dkwX4_change_3 : List UInt8 := [2, 159, 0, 13, 42, 3, 28, 29, 182, 1, 132, 153, 0, 7, 4, 167, 0, 4, 3, 54, 5, 21, 5]
abbrev dktX4_change_3 : List UInt8 := dkwX4_change_3 ++ dktX4_change_4
def dkwX4_change_2 : List UInt8 := [21, 4, 2, 159, 0, 39, 21, 4, 2, 159, 0, 14, 42, 3, 27, 21, 4, 182, 1, 132, 153, 0, 22, 29]
abbrev dktX4_change_2 : List UInt8 := dkwX4_change_2 ++ dktX4_change_3
def dkwX4_change_1 : List UInt8 := [3, 27, 182, 1, 83, 62, 42, 3, 28, 182, 1, 83, 54, 4, 27, 28, 159, 0, 50, 29, 2, 160, 0, 9]
abbrev dktX4_change_1 : List UInt8 := dkwX4_change_1 ++ dktX4_change_2
def dkwX4_change_0 : List UInt8 := [42, 3, 181, 0, 111, 42, 27, 182, 1, 123, 153, 0, 11, 42, 28, 182, 1, 123, 154, 0, 5, 3, 172, 42]
abbrev dktX4_change_0 : List UInt8 := dkwX4_change_0 ++ dktX4_change_1
theorem dksX4_change_0 : cX4_change.data.toList.drop 0 = dktX4_change_0 := by decide +kernel
theorem dksX4_change_1 : cX4_change.data.toList.drop 24 = dktX4_change_1 := dk_seg dksX4_change_0 24 rfl rfl
theorem dksX4_change_2 : cX4_change.data.toList.drop 48 = dktX4_change_2 := dk_seg dksX4_change_1 24 rfl rfl
theorem dksX4_change_3 : cX4_change.data.toList.drop 72 = dktX4_change_3 := dk_seg dksX4_change_2 24 rfl rfl
theorem dksX4_change_4 : cX4_change.data.toList.drop 95 = dktX4_change_4 := dk_seg dksX4_change_3 23 rfl rfl
theorem dksX4_change_5 : cX4_change.data.toList.drop 118 = dktX4_change_5 := dk_seg dksX4_change_4 23 rfl rfl
theorem dksX4_change_6 : cX4_change.data.toList.drop 141 = dktX4_change_6 := dk_seg dksX4_change_5 23 rfl rfl
theorem dX4_change_0 : decode cX4_change 0 = .ok (.aload_n 0, 1) := dk_42 (dk_at dksX4_change_0 0 rfl rfl)
theorem dX4_change_1 : decode cX4_change 1 = .ok (.iconst 0, 1) := dk_3 (dk_at dksX4_change_0 1 rfl rfl)
theorem dX4_change_2 : decode cX4_change 2 = .ok (.putfield 111, 3) := dk_181 0 111 (dk_at dksX4_change_0 2 rfl rfl)
theorem dX4_change_5 : decode cX4_change 5 = .ok (.aload_n 0, 1) := dk_42 (dk_at dksX4_change_0 5 rfl rfl)
theorem dX4_change_6 : decode cX4_change 6 = .ok (.iload_n 1, 1) := dk_27 (dk_at dksX4_change_0 6 rfl rfl)
theorem dX4_change_7 : decode cX4_change 7 = .ok (.invokevirtual 379, 3) := dk_182 1 123 (dk_at dksX4_change_0 7 rfl rfl)
theorem dX4_change_10 : decode cX4_change 10 = .ok (.ifCond .eq 11, 3) := dk_153 0 11 (dk_at dksX4_change_0 10 rfl rfl)
theorem dX4_change_13 : decode cX4_change 13 = .ok (.aload_n 0, 1) := dk_42 (dk_at dksX4_change_0 13 rfl rfl)
theorem dX4_change_14 : decode cX4_change 14 = .ok (.iload_n 2, 1) := dk_28 (dk_at dksX4_change_0 14 rfl rfl)
theorem dX4_change_15 : decode cX4_change 15 = .ok (.invokevirtual 379, 3) := dk_182 1 123 (dk_at dksX4_change_0 15 rfl rfl)
theorem dX4_change_18 : decode cX4_change 18 = .ok (.ifCond .ne 5, 3) := dk_154 0 5 (dk_at dksX4_change_0 18 rfl rfl)
theorem dX4_change_21 : decode cX4_change 21 = .ok (.iconst 0, 1) := dk_3 (dk_at dksX4_change_0 21 rfl rfl)
theorem dX4_change_22 : decode cX4_change 22 = .ok (.ireturn, 1) := dk_172 (dk_at dksX4_change_0 22 rfl rfl)
theorem dX4_change_23 : decode cX4_change 23 = .ok (.aload_n 0, 1) := dk_42 (dk_at dksX4_change_0 23 rfl rfl)
theorem dX4_change_24 : decode cX4_change 24 = .ok (.iconst 0, 1) := dk_3 (dk_at dksX4_change_1 0 rfl rfl)
theorem dX4_change_25 : decode cX4_change 25 = .ok (.iload_n 1, 1) := dk_27 (dk_at dksX4_change_1 1 rfl rfl)
theorem dX4_change_26 : decode cX4_change 26 = .ok (.invokevirtual 339, 3) := dk_182 1 83 (dk_at dksX4_change_1 2 rfl rfl)
theorem dX4_change_29 : decode cX4_change 29 = .ok (.istore_n 3, 1) := dk_62 (dk_at dksX4_change_1 5 rfl rfl)
theorem dX4_change_30 : decode cX4_change 30 = .ok (.aload_n 0, 1) := dk_42 (dk_at dksX4_change_1 6 rfl rfl)
theorem dX4_change_31 : decode cX4_change 31 = .ok (.iconst 0, 1) := dk_3 (dk_at dksX4_change_1 7 rfl rfl)
theorem dX4_change_32 : decode cX4_change 32 = .ok (.iload_n 2, 1) := dk_28 (dk_at dksX4_change_1 8 rfl rfl)
theorem dX4_change_33 : decode cX4_change 33 = .ok (.invokevirtual 339, 3) := dk_182 1 83 (dk_at dksX4_change_1 9 rfl rfl)
theorem dX4_change_36 : decode cX4_change 36 = .ok (.istore 4, 2) := dk_54 4 (dk_at dksX4_change_1 12 rfl rfl)
theorem dX4_change_38 : decode cX4_change 38 = .ok (.iload_n 1, 1) := dk_27 (dk_at dksX4_change_1 14 rfl rfl)
theorem dX4_change_39 : decode cX4_change 39 = .ok (.iload_n 2, 1) := dk_28 (dk_at dksX4_change_1 15 rfl rfl)
theorem dX4_change_40 : decode cX4_change 40 = .ok (.if_icmp .eq 50, 3) := dk_159 0 50 (dk_at dksX4_change_1 16 rfl rfl)
theorem dX4_change_43 : decode cX4_change 43 = .ok (.iload_n 3, 1) := dk_29 (dk_at dksX4_change_1 19 rfl rfl)
theorem dX4_change_44 : decode cX4_change 44 = .ok (.iconst (-1), 1) := dk_2 (dk_at dksX4_change_1 20 rfl rfl)
theorem dX4_change_45 : decode cX4_change 45 = .ok (.if_icmp .ne 9, 3) := dk_160 0 9 (dk_at dksX4_change_1 21 rfl rfl)
theorem dX4_change_48 : decode cX4_change 48 = .ok (.iload 4, 2) := dk_21 4 (dk_at dksX4_change_2 0 rfl rfl)
theorem dX4_change_50 : decode cX4_change 50 = .ok (.iconst (-1), 1) := dk_2 (dk_at dksX4_change_2 2 rfl rfl)
theorem dX4_change_51 : decode cX4_change 51 = .ok (.if_icmp .eq 39, 3) := dk_159 0 39 (dk_at dksX4_change_2 3 rfl rfl)
theorem dX4_change_54 : decode cX4_change 54 = .ok (.iload 4, 2) := dk_21 4 (dk_at dksX4_change_2 6 rfl rfl)
theorem dX4_change_56 : decode cX4_change 56 = .ok (.iconst (-1), 1) := dk_2 (dk_at dksX4_change_2 8 rfl rfl)
theorem dX4_change_57 : decode cX4_change 57 = .ok (.if_icmp .eq 14, 3) := dk_159 0 14 (dk_at dksX4_change_2 9 rfl rfl)
theorem dX4_change_60 : decode cX4_change 60 = .ok (.aload_n 0, 1) := dk_42 (dk_at dksX4_change_2 12 rfl rfl)
theorem dX4_change_61 : decode cX4_change 61 = .ok (.iconst 0, 1) := dk_3 (dk_at dksX4_change_2 13 rfl rfl)
theorem dX4_change_62 : decode cX4_change 62 = .ok (.iload_n 1, 1) := dk_27 (dk_at dksX4_change_2 14 rfl rfl)
theorem dX4_change_63 : decode cX4_change 63 = .ok (.iload 4, 2) := dk_21 4 (dk_at dksX4_change_2 15 rfl rfl)
theorem dX4_change_65 : decode cX4_change 65 = .ok (.invokevirtual 388, 3) := dk_182 1 132 (dk_at dksX4_change_2 17 rfl rfl)
theorem dX4_change_68 : decode cX4_change 68 = .ok (.ifCond .eq 22, 3) := dk_153 0 22 (dk_at dksX4_change_2 20 rfl rfl)
theorem dX4_change_71 : decode cX4_change 71 = .ok (.iload_n 3, 1) := dk_29 (dk_at dksX4_change_2 23 rfl rfl)
theorem dX4_change_72 : decode cX4_change 72 = .ok (.iconst (-1), 1) := dk_2 (dk_at dksX4_change_3 0 rfl rfl)
theorem dX4_change_73 : decode cX4_change 73 = .ok (.if_icmp .eq 13, 3) := dk_159 0 13 (dk_at dksX4_change_3 1 rfl rfl)
theorem dX4_change_76 : decode cX4_change 76 = .ok (.aload_n 0, 1) := dk_42 (dk_at dksX4_change_3 4 rfl rfl)
theorem dX4_change_77 : decode cX4_change 77 = .ok (.iconst 0, 1) := dk_3 (dk_at dksX4_change_3 5 rfl rfl)
theorem dX4_change_78 : decode cX4_change 78 = .ok (.iload_n 2, 1) := dk_28 (dk_at dksX4_change_3 6 rfl rfl)
theorem dX4_change_79 : decode cX4_change 79 = .ok (.iload_n 3, 1) := dk_29 (dk_at dksX4_change_3 7 rfl rfl)
theorem dX4_change_80 : decode cX4_change 80 = .ok (.invokevirtual 388, 3) := dk_182 1 132 (dk_at dksX4_change_3 8 rfl rfl)
theorem dX4_change_83 : decode cX4_change 83 = .ok (.ifCond .eq 7, 3) := dk_153 0 7 (dk_at dksX4_change_3 11 rfl rfl)
theorem dX4_change_86 : decode cX4_change 86 = .ok (.iconst 1, 1) := dk_4 (dk_at dksX4_change_3 14 rfl rfl)
theorem dX4_change_87 : decode cX4_change 87 = .ok (.goto 4, 3) := dk_167 0 4 (dk_at dksX4_change_3 15 rfl rfl)
theorem dX4_change_90 : decode cX4_change 90 = .ok (.iconst 0, 1) := dk_3 (dk_at dksX4_change_3 18 rfl rfl)
theorem dX4_change_91 : decode cX4_change 91 = .ok (.istore 5, 2) := dk_54 5 (dk_at dksX4_change_3 19 rfl rfl)
theorem dX4_change_93 : decode cX4_change 93 = .ok (.iload 5, 2) := dk_21 5 (dk_at dksX4_change_3 21 rfl rfl)
theorem dX4_change_95 : decode cX4_change 95 = .ok (.ifCond .ne 17, 3) := dk_154 0 17 (dk_at dksX4_change_4 0 rfl rfl)
theorem dX4_change_98 : decode cX4_change 98 = .ok (.aload_n 0, 1) := dk_42 (dk_at dksX4_change_4 3 rfl rfl)
theorem dX4_change_99 : decode cX4_change 99 = .ok (.iconst 1, 1) := dk_4 (dk_at dksX4_change_4 4 rfl rfl)
theorem dX4_change_100 : decode cX4_change 100 = .ok (.invokevirtual 382, 3) := dk_182 1 126 (dk_at dksX4_change_4 5 rfl rfl)
theorem dX4_change_103 : decode cX4_change 103 = .ok (.ifCond .le 7, 3) := dk_158 0 7 (dk_at dksX4_change_4 8 rfl rfl)
theorem dX4_change_106 : decode cX4_change 106 = .ok (.iconst 1, 1) := dk_4 (dk_at dksX4_change_4 11 rfl rfl)
theorem dX4_change_107 : decode cX4_change 107 = .ok (.goto 4, 3) := dk_167 0 4 (dk_at dksX4_change_4 12 rfl rfl)
theorem dX4_change_110 : decode cX4_change 110 = .ok (.iconst 0, 1) := dk_3 (dk_at dksX4_change_4 15 rfl rfl)
theorem dX4_change_111 : decode cX4_change 111 = .ok (.ireturn, 1) := dk_172 (dk_at dksX4_change_4 16 rfl rfl)
theorem dX4_change_112 : decode cX4_change 112 = .ok (.aload_n 0, 1) := dk_42 (dk_at dksX4_change_4 17 rfl rfl)
theorem dX4_change_113 : decode cX4_change 113 = .ok (.invokevirtual 385, 3) := dk_182 1 129 (dk_at dksX4_change_4 18 rfl rfl)
theorem dX4_change_116 : decode cX4_change 116 = .ok (.iload_n 3, 1) := dk_29 (dk_at dksX4_change_4 21 rfl rfl)
theorem dX4_change_117 : decode cX4_change 117 = .ok (.iconst (-1), 1) := dk_2 (dk_at dksX4_change_4 22 rfl rfl)
theorem dX4_change_118 : decode cX4_change 118 = .ok (.if_icmp .eq 13, 3) := dk_159 0 13 (dk_at dksX4_change_5 0 rfl rfl)
theorem dX4_change_121 : decode cX4_change 121 = .ok (.aload_n 0, 1) := dk_42 (dk_at dksX4_change_5 3 rfl rfl)
theorem dX4_change_122 : decode cX4_change 122 = .ok (.getfield 66, 3) := dk_180 0 66 (dk_at dksX4_change_5 4 rfl rfl)
theorem dX4_change_125 : decode cX4_change 125 = .ok (.bipush 19, 2) := dk_16 19 (dk_at dksX4_change_5 7 rfl rfl)
theorem dX4_change_127 : decode cX4_change 127 = .ok (.iload_n 3, 1) := dk_29 (dk_at dksX4_change_5 9 rfl rfl)
theorem dX4_change_128 : decode cX4_change 128 = .ok (.iadd, 1) := dk_96 (dk_at dksX4_change_5 10 rfl rfl)
theorem dX4_change_129 : decode cX4_change 129 = .ok (.iload_n 2, 1) := dk_28 (dk_at dksX4_change_5 11 rfl rfl)
theorem dX4_change_130 : decode cX4_change 130 = .ok (.iastore, 1) := dk_79 (dk_at dksX4_change_5 12 rfl rfl)
theorem dX4_change_131 : decode cX4_change 131 = .ok (.iload 4, 2) := dk_21 4 (dk_at dksX4_change_5 13 rfl rfl)
theorem dX4_change_133 : decode cX4_change 133 = .ok (.iconst (-1), 1) := dk_2 (dk_at dksX4_change_5 15 rfl rfl)
theorem dX4_change_134 : decode cX4_change 134 = .ok (.if_icmp .eq 14, 3) := dk_159 0 14 (dk_at dksX4_change_5 16 rfl rfl)
theorem dX4_change_137 : decode cX4_change 137 = .ok (.aload_n 0, 1) := dk_42 (dk_at dksX4_change_5 19 rfl rfl)
theorem dX4_change_138 : decode cX4_change 138 = .ok (.getfield 66, 3) := dk_180 0 66 (dk_at dksX4_change_5 20 rfl rfl)
theorem dX4_change_141 : decode cX4_change 141 = .ok (.bipush 19, 2) := dk_16 19 (dk_at dksX4_change_6 0 rfl rfl)
theorem dX4_change_143 : decode cX4_change 143 = .ok (.iload 4, 2) := dk_21 4 (dk_at dksX4_change_6 2 rfl rfl)
theorem dX4_change_145 : decode cX4_change 145 = .ok (.iadd, 1) := dk_96 (dk_at dksX4_change_6 4 rfl rfl)
theorem dX4_change_146 : decode cX4_change 146 = .ok (.iload_n 1, 1) := dk_27 (dk_at dksX4_change_6 5 rfl rfl)
theorem dX4_change_147 : decode cX4_change 147 = .ok (.iastore, 1) := dk_79 (dk_at dksX4_change_6 6 rfl rfl)
theorem dX4_change_148 : decode cX4_change 148 = .ok (.iconst 1, 1) := dk_4 (dk_at dksX4_change_6 7 rfl rfl)
theorem dX4_change_149 : decode cX4_change 149 = .ok (.ireturn, 1) := dk_172 (dk_at dksX4_change_6 8 rfl rfl)
abbrev cX4_letIn : ByteArray := prog_12_method_79_code
def yX4_letIn : MethodName := ⟨RX4, "letIn", "()I"⟩
def dkwX4_letIn_1 : List UInt8 := [182, 1, 53, 60, 42, 182, 1, 129, 42, 180, 0, 66, 5, 4, 79, 27, 172]
abbrev dktX4_letIn_1 : List UInt8 := dkwX4_letIn_1 ++ []
def dkwX4_letIn_0 : List UInt8 := [42, 3, 181, 0, 111, 42, 180, 0, 66, 5, 46, 4, 160, 0, 9, 42, 4, 182, 1, 126, 172, 42, 3]
abbrev dktX4_letIn_0 : List UInt8 := dkwX4_letIn_0 ++ dktX4_letIn_1
theorem dksX4_letIn_0 : cX4_letIn.data.toList.drop 0 = dktX4_letIn_0 := by decide +kernel
theorem dksX4_letIn_1 : cX4_letIn.data.toList.drop 23 = dktX4_letIn_1 := dk_seg dksX4_letIn_0 23 rfl rfl
theorem dX4_letIn_0 : decode cX4_letIn 0 = .ok (.aload_n 0, 1) := dk_42 (dk_at dksX4_letIn_0 0 rfl rfl)
theorem dX4_letIn_1 : decode cX4_letIn 1 = .ok (.iconst 0, 1) := dk_3 (dk_at dksX4_letIn_0 1 rfl rfl)
theorem dX4_letIn_2 : decode cX4_letIn 2 = .ok (.putfield 111, 3) := dk_181 0 111 (dk_at dksX4_letIn_0 2 rfl rfl)
theorem dX4_letIn_5 : decode cX4_letIn 5 = .ok (.aload_n 0, 1) := dk_42 (dk_at dksX4_letIn_0 5 rfl rfl)
theorem dX4_letIn_6 : decode cX4_letIn 6 = .ok (.getfield 66, 3) := dk_180 0 66 (dk_at dksX4_letIn_0 6 rfl rfl)
theorem dX4_letIn_9 : decode cX4_letIn 9 = .ok (.iconst 2, 1) := dk_5 (dk_at dksX4_letIn_0 9 rfl rfl)
theorem dX4_letIn_10 : decode cX4_letIn 10 = .ok (.iaload, 1) := dk_46 (dk_at dksX4_letIn_0 10 rfl rfl)
theorem dX4_letIn_11 : decode cX4_letIn 11 = .ok (.iconst 1, 1) := dk_4 (dk_at dksX4_letIn_0 11 rfl rfl)
theorem dX4_letIn_12 : decode cX4_letIn 12 = .ok (.if_icmp .ne 9, 3) := dk_160 0 9 (dk_at dksX4_letIn_0 12 rfl rfl)
theorem dX4_letIn_15 : decode cX4_letIn 15 = .ok (.aload_n 0, 1) := dk_42 (dk_at dksX4_letIn_0 15 rfl rfl)
theorem dX4_letIn_16 : decode cX4_letIn 16 = .ok (.iconst 1, 1) := dk_4 (dk_at dksX4_letIn_0 16 rfl rfl)
theorem dX4_letIn_17 : decode cX4_letIn 17 = .ok (.invokevirtual 382, 3) := dk_182 1 126 (dk_at dksX4_letIn_0 17 rfl rfl)
theorem dX4_letIn_20 : decode cX4_letIn 20 = .ok (.ireturn, 1) := dk_172 (dk_at dksX4_letIn_0 20 rfl rfl)
theorem dX4_letIn_21 : decode cX4_letIn 21 = .ok (.aload_n 0, 1) := dk_42 (dk_at dksX4_letIn_0 21 rfl rfl)
theorem dX4_letIn_22 : decode cX4_letIn 22 = .ok (.iconst 0, 1) := dk_3 (dk_at dksX4_letIn_0 22 rfl rfl)
theorem dX4_letIn_23 : decode cX4_letIn 23 = .ok (.invokevirtual 309, 3) := dk_182 1 53 (dk_at dksX4_letIn_1 0 rfl rfl)
theorem dX4_letIn_26 : decode cX4_letIn 26 = .ok (.istore_n 1, 1) := dk_60 (dk_at dksX4_letIn_1 3 rfl rfl)
theorem dX4_letIn_27 : decode cX4_letIn 27 = .ok (.aload_n 0, 1) := dk_42 (dk_at dksX4_letIn_1 4 rfl rfl)
theorem dX4_letIn_28 : decode cX4_letIn 28 = .ok (.invokevirtual 385, 3) := dk_182 1 129 (dk_at dksX4_letIn_1 5 rfl rfl)
theorem dX4_letIn_31 : decode cX4_letIn 31 = .ok (.aload_n 0, 1) := dk_42 (dk_at dksX4_letIn_1 8 rfl rfl)
theorem dX4_letIn_32 : decode cX4_letIn 32 = .ok (.getfield 66, 3) := dk_180 0 66 (dk_at dksX4_letIn_1 9 rfl rfl)
theorem dX4_letIn_35 : decode cX4_letIn 35 = .ok (.iconst 2, 1) := dk_5 (dk_at dksX4_letIn_1 12 rfl rfl)
theorem dX4_letIn_36 : decode cX4_letIn 36 = .ok (.iconst 1, 1) := dk_4 (dk_at dksX4_letIn_1 13 rfl rfl)
theorem dX4_letIn_37 : decode cX4_letIn 37 = .ok (.iastore, 1) := dk_79 (dk_at dksX4_letIn_1 14 rfl rfl)
theorem dX4_letIn_38 : decode cX4_letIn 38 = .ok (.iload_n 1, 1) := dk_27 (dk_at dksX4_letIn_1 15 rfl rfl)
theorem dX4_letIn_39 : decode cX4_letIn 39 = .ok (.ireturn, 1) := dk_172 (dk_at dksX4_letIn_1 16 rfl rfl)
abbrev cX4_then : ByteArray := prog_12_method_81_code
def yX4_then : MethodName := ⟨RX4, "then", "(III)I"⟩
def dkwX4_then_3 : List UInt8 := [180, 0, 66, 16, 78, 27, 96, 46, 172]
abbrev dktX4_then_3 : List UInt8 := dkwX4_then_3 ++ []
def dkwX4_then_2 : List UInt8 := [16, 70, 27, 96, 46, 167, 0, 27, 29, 4, 160, 0, 13, 42, 16, 43, 27, 182, 1, 83, 167, 0, 12, 42]
abbrev dktX4_then_2 : List UInt8 := dkwX4_then_2 ++ dktX4_then_3
def dkwX4_then_1 : List UInt8 := [3, 5, 182, 1, 141, 154, 0, 5, 3, 172, 42, 28, 182, 1, 144, 29, 154, 0, 15, 42, 180, 0, 66]
abbrev dktX4_then_1 : List UInt8 := dkwX4_then_1 ++ dktX4_then_2
def dkwX4_then_0 : List UInt8 := [42, 3, 181, 0, 111, 42, 27, 182, 1, 123, 153, 0, 22, 42, 29, 5, 182, 1, 114, 153, 0, 13, 42, 28]
abbrev dktX4_then_0 : List UInt8 := dkwX4_then_0 ++ dktX4_then_1
theorem dksX4_then_0 : cX4_then.data.toList.drop 0 = dktX4_then_0 := by decide +kernel
theorem dksX4_then_1 : cX4_then.data.toList.drop 24 = dktX4_then_1 := dk_seg dksX4_then_0 24 rfl rfl
theorem dksX4_then_2 : cX4_then.data.toList.drop 47 = dktX4_then_2 := dk_seg dksX4_then_1 23 rfl rfl
theorem dksX4_then_3 : cX4_then.data.toList.drop 71 = dktX4_then_3 := dk_seg dksX4_then_2 24 rfl rfl
theorem dX4_then_0 : decode cX4_then 0 = .ok (.aload_n 0, 1) := dk_42 (dk_at dksX4_then_0 0 rfl rfl)
theorem dX4_then_1 : decode cX4_then 1 = .ok (.iconst 0, 1) := dk_3 (dk_at dksX4_then_0 1 rfl rfl)
theorem dX4_then_2 : decode cX4_then 2 = .ok (.putfield 111, 3) := dk_181 0 111 (dk_at dksX4_then_0 2 rfl rfl)
theorem dX4_then_5 : decode cX4_then 5 = .ok (.aload_n 0, 1) := dk_42 (dk_at dksX4_then_0 5 rfl rfl)
theorem dX4_then_6 : decode cX4_then 6 = .ok (.iload_n 1, 1) := dk_27 (dk_at dksX4_then_0 6 rfl rfl)
theorem dX4_then_7 : decode cX4_then 7 = .ok (.invokevirtual 379, 3) := dk_182 1 123 (dk_at dksX4_then_0 7 rfl rfl)
theorem dX4_then_10 : decode cX4_then 10 = .ok (.ifCond .eq 22, 3) := dk_153 0 22 (dk_at dksX4_then_0 10 rfl rfl)
theorem dX4_then_13 : decode cX4_then 13 = .ok (.aload_n 0, 1) := dk_42 (dk_at dksX4_then_0 13 rfl rfl)
theorem dX4_then_14 : decode cX4_then 14 = .ok (.iload_n 3, 1) := dk_29 (dk_at dksX4_then_0 14 rfl rfl)
theorem dX4_then_15 : decode cX4_then 15 = .ok (.iconst 2, 1) := dk_5 (dk_at dksX4_then_0 15 rfl rfl)
theorem dX4_then_16 : decode cX4_then 16 = .ok (.invokevirtual 370, 3) := dk_182 1 114 (dk_at dksX4_then_0 16 rfl rfl)
theorem dX4_then_19 : decode cX4_then 19 = .ok (.ifCond .eq 13, 3) := dk_153 0 13 (dk_at dksX4_then_0 19 rfl rfl)
theorem dX4_then_22 : decode cX4_then 22 = .ok (.aload_n 0, 1) := dk_42 (dk_at dksX4_then_0 22 rfl rfl)
theorem dX4_then_23 : decode cX4_then 23 = .ok (.iload_n 2, 1) := dk_28 (dk_at dksX4_then_0 23 rfl rfl)
theorem dX4_then_24 : decode cX4_then 24 = .ok (.iconst 0, 1) := dk_3 (dk_at dksX4_then_1 0 rfl rfl)
theorem dX4_then_25 : decode cX4_then 25 = .ok (.iconst 2, 1) := dk_5 (dk_at dksX4_then_1 1 rfl rfl)
theorem dX4_then_26 : decode cX4_then 26 = .ok (.invokevirtual 397, 3) := dk_182 1 141 (dk_at dksX4_then_1 2 rfl rfl)
theorem dX4_then_29 : decode cX4_then 29 = .ok (.ifCond .ne 5, 3) := dk_154 0 5 (dk_at dksX4_then_1 5 rfl rfl)
theorem dX4_then_32 : decode cX4_then 32 = .ok (.iconst 0, 1) := dk_3 (dk_at dksX4_then_1 8 rfl rfl)
theorem dX4_then_33 : decode cX4_then 33 = .ok (.ireturn, 1) := dk_172 (dk_at dksX4_then_1 9 rfl rfl)
theorem dX4_then_34 : decode cX4_then 34 = .ok (.aload_n 0, 1) := dk_42 (dk_at dksX4_then_1 10 rfl rfl)
theorem dX4_then_35 : decode cX4_then 35 = .ok (.iload_n 2, 1) := dk_28 (dk_at dksX4_then_1 11 rfl rfl)
theorem dX4_then_36 : decode cX4_then 36 = .ok (.invokevirtual 400, 3) := dk_182 1 144 (dk_at dksX4_then_1 12 rfl rfl)
theorem dX4_then_39 : decode cX4_then 39 = .ok (.iload_n 3, 1) := dk_29 (dk_at dksX4_then_1 15 rfl rfl)
theorem dX4_then_40 : decode cX4_then 40 = .ok (.ifCond .ne 15, 3) := dk_154 0 15 (dk_at dksX4_then_1 16 rfl rfl)
theorem dX4_then_43 : decode cX4_then 43 = .ok (.aload_n 0, 1) := dk_42 (dk_at dksX4_then_1 19 rfl rfl)
theorem dX4_then_44 : decode cX4_then 44 = .ok (.getfield 66, 3) := dk_180 0 66 (dk_at dksX4_then_1 20 rfl rfl)
theorem dX4_then_47 : decode cX4_then 47 = .ok (.bipush 70, 2) := dk_16 70 (dk_at dksX4_then_2 0 rfl rfl)
theorem dX4_then_49 : decode cX4_then 49 = .ok (.iload_n 1, 1) := dk_27 (dk_at dksX4_then_2 2 rfl rfl)
theorem dX4_then_50 : decode cX4_then 50 = .ok (.iadd, 1) := dk_96 (dk_at dksX4_then_2 3 rfl rfl)
theorem dX4_then_51 : decode cX4_then 51 = .ok (.iaload, 1) := dk_46 (dk_at dksX4_then_2 4 rfl rfl)
theorem dX4_then_52 : decode cX4_then 52 = .ok (.goto 27, 3) := dk_167 0 27 (dk_at dksX4_then_2 5 rfl rfl)
theorem dX4_then_55 : decode cX4_then 55 = .ok (.iload_n 3, 1) := dk_29 (dk_at dksX4_then_2 8 rfl rfl)
theorem dX4_then_56 : decode cX4_then 56 = .ok (.iconst 1, 1) := dk_4 (dk_at dksX4_then_2 9 rfl rfl)
theorem dX4_then_57 : decode cX4_then 57 = .ok (.if_icmp .ne 13, 3) := dk_160 0 13 (dk_at dksX4_then_2 10 rfl rfl)
theorem dX4_then_60 : decode cX4_then 60 = .ok (.aload_n 0, 1) := dk_42 (dk_at dksX4_then_2 13 rfl rfl)
theorem dX4_then_61 : decode cX4_then 61 = .ok (.bipush 43, 2) := dk_16 43 (dk_at dksX4_then_2 14 rfl rfl)
theorem dX4_then_63 : decode cX4_then 63 = .ok (.iload_n 1, 1) := dk_27 (dk_at dksX4_then_2 16 rfl rfl)
theorem dX4_then_64 : decode cX4_then 64 = .ok (.invokevirtual 339, 3) := dk_182 1 83 (dk_at dksX4_then_2 17 rfl rfl)
theorem dX4_then_67 : decode cX4_then 67 = .ok (.goto 12, 3) := dk_167 0 12 (dk_at dksX4_then_2 20 rfl rfl)
theorem dX4_then_70 : decode cX4_then 70 = .ok (.aload_n 0, 1) := dk_42 (dk_at dksX4_then_2 23 rfl rfl)
theorem dX4_then_71 : decode cX4_then 71 = .ok (.getfield 66, 3) := dk_180 0 66 (dk_at dksX4_then_3 0 rfl rfl)
theorem dX4_then_74 : decode cX4_then 74 = .ok (.bipush 78, 2) := dk_16 78 (dk_at dksX4_then_3 3 rfl rfl)
theorem dX4_then_76 : decode cX4_then 76 = .ok (.iload_n 1, 1) := dk_27 (dk_at dksX4_then_3 5 rfl rfl)
theorem dX4_then_77 : decode cX4_then 77 = .ok (.iadd, 1) := dk_96 (dk_at dksX4_then_3 6 rfl rfl)
theorem dX4_then_78 : decode cX4_then 78 = .ok (.iaload, 1) := dk_46 (dk_at dksX4_then_3 7 rfl rfl)
theorem dX4_then_79 : decode cX4_then 79 = .ok (.ireturn, 1) := dk_172 (dk_at dksX4_then_3 8 rfl rfl)
abbrev cX4_isDays : ByteArray := prog_12_method_68_code
def yX4_isDays : MethodName := ⟨RX4, "isDays", "(III)Z"⟩
def dkwX4_isDays_0 : List UInt8 := [42, 27, 28, 16, 40, 184, 1, 89, 29, 182, 1, 12, 172]
abbrev dktX4_isDays_0 : List UInt8 := dkwX4_isDays_0 ++ []
theorem dksX4_isDays_0 : cX4_isDays.data.toList.drop 0 = dktX4_isDays_0 := by decide +kernel
theorem dX4_isDays_0 : decode cX4_isDays 0 = .ok (.aload_n 0, 1) := dk_42 (dk_at dksX4_isDays_0 0 rfl rfl)
theorem dX4_isDays_1 : decode cX4_isDays 1 = .ok (.iload_n 1, 1) := dk_27 (dk_at dksX4_isDays_0 1 rfl rfl)
theorem dX4_isDays_2 : decode cX4_isDays 2 = .ok (.iload_n 2, 1) := dk_28 (dk_at dksX4_isDays_0 2 rfl rfl)
theorem dX4_isDays_3 : decode cX4_isDays 3 = .ok (.bipush 40, 2) := dk_16 40 (dk_at dksX4_isDays_0 3 rfl rfl)
theorem dX4_isDays_5 : decode cX4_isDays 5 = .ok (.invokestatic 345, 3) := dk_184 1 89 (dk_at dksX4_isDays_0 5 rfl rfl)
theorem dX4_isDays_8 : decode cX4_isDays 8 = .ok (.iload_n 3, 1) := dk_29 (dk_at dksX4_isDays_0 8 rfl rfl)
theorem dX4_isDays_9 : decode cX4_isDays 9 = .ok (.invokevirtual 268, 3) := dk_182 1 12 (dk_at dksX4_isDays_0 9 rfl rfl)
theorem dX4_isDays_12 : decode cX4_isDays 12 = .ok (.ireturn, 1) := dk_172 (dk_at dksX4_isDays_0 12 rfl rfl)
abbrev cX4_goesTo : ByteArray := prog_12_method_80_code
def yX4_goesTo : MethodName := ⟨RX4, "goesTo", "(I)V"⟩
def dkwX4_goesTo_0 : List UInt8 := [42, 182, 1, 135, 42, 27, 182, 1, 138, 177]
abbrev dktX4_goesTo_0 : List UInt8 := dkwX4_goesTo_0 ++ []
theorem dksX4_goesTo_0 : cX4_goesTo.data.toList.drop 0 = dktX4_goesTo_0 := by decide +kernel
theorem dX4_goesTo_0 : decode cX4_goesTo 0 = .ok (.aload_n 0, 1) := dk_42 (dk_at dksX4_goesTo_0 0 rfl rfl)
theorem dX4_goesTo_1 : decode cX4_goesTo 1 = .ok (.invokevirtual 391, 3) := dk_182 1 135 (dk_at dksX4_goesTo_0 1 rfl rfl)
theorem dX4_goesTo_4 : decode cX4_goesTo 4 = .ok (.aload_n 0, 1) := dk_42 (dk_at dksX4_goesTo_0 4 rfl rfl)
theorem dX4_goesTo_5 : decode cX4_goesTo 5 = .ok (.iload_n 1, 1) := dk_27 (dk_at dksX4_goesTo_0 5 rfl rfl)
theorem dX4_goesTo_6 : decode cX4_goesTo 6 = .ok (.invokevirtual 394, 3) := dk_182 1 138 (dk_at dksX4_goesTo_0 6 rfl rfl)
theorem dX4_goesTo_9 : decode cX4_goesTo 9 = .ok (.return_, 1) := dk_177 (dk_at dksX4_goesTo_0 9 rfl rfl)
abbrev cX4_tries : ByteArray := prog_12_method_45_code
def yX4_tries : MethodName := ⟨RX4, "tries", "()V"⟩
def dkwX4_tries_1 : List UInt8 := [132, 1, 1, 167, 255, 232, 177]
abbrev dktX4_tries_1 : List UInt8 := dkwX4_tries_1 ++ []
def dkwX4_tries_0 : List UInt8 := [3, 60, 27, 16, 43, 162, 0, 24, 42, 180, 0, 66, 16, 43, 27, 96, 42, 180, 0, 66, 27, 46, 79]
abbrev dktX4_tries_0 : List UInt8 := dkwX4_tries_0 ++ dktX4_tries_1
theorem dksX4_tries_0 : cX4_tries.data.toList.drop 0 = dktX4_tries_0 := by decide +kernel
theorem dksX4_tries_1 : cX4_tries.data.toList.drop 23 = dktX4_tries_1 := dk_seg dksX4_tries_0 23 rfl rfl
theorem dX4_tries_0 : decode cX4_tries 0 = .ok (.iconst 0, 1) := dk_3 (dk_at dksX4_tries_0 0 rfl rfl)
theorem dX4_tries_1 : decode cX4_tries 1 = .ok (.istore_n 1, 1) := dk_60 (dk_at dksX4_tries_0 1 rfl rfl)
theorem dX4_tries_2 : decode cX4_tries 2 = .ok (.iload_n 1, 1) := dk_27 (dk_at dksX4_tries_0 2 rfl rfl)
theorem dX4_tries_3 : decode cX4_tries 3 = .ok (.bipush 43, 2) := dk_16 43 (dk_at dksX4_tries_0 3 rfl rfl)
theorem dX4_tries_5 : decode cX4_tries 5 = .ok (.if_icmp .ge 24, 3) := dk_162 0 24 (dk_at dksX4_tries_0 5 rfl rfl)
theorem dX4_tries_8 : decode cX4_tries 8 = .ok (.aload_n 0, 1) := dk_42 (dk_at dksX4_tries_0 8 rfl rfl)
theorem dX4_tries_9 : decode cX4_tries 9 = .ok (.getfield 66, 3) := dk_180 0 66 (dk_at dksX4_tries_0 9 rfl rfl)
theorem dX4_tries_12 : decode cX4_tries 12 = .ok (.bipush 43, 2) := dk_16 43 (dk_at dksX4_tries_0 12 rfl rfl)
theorem dX4_tries_14 : decode cX4_tries 14 = .ok (.iload_n 1, 1) := dk_27 (dk_at dksX4_tries_0 14 rfl rfl)
theorem dX4_tries_15 : decode cX4_tries 15 = .ok (.iadd, 1) := dk_96 (dk_at dksX4_tries_0 15 rfl rfl)
theorem dX4_tries_16 : decode cX4_tries 16 = .ok (.aload_n 0, 1) := dk_42 (dk_at dksX4_tries_0 16 rfl rfl)
theorem dX4_tries_17 : decode cX4_tries 17 = .ok (.getfield 66, 3) := dk_180 0 66 (dk_at dksX4_tries_0 17 rfl rfl)
theorem dX4_tries_20 : decode cX4_tries 20 = .ok (.iload_n 1, 1) := dk_27 (dk_at dksX4_tries_0 20 rfl rfl)
theorem dX4_tries_21 : decode cX4_tries 21 = .ok (.iaload, 1) := dk_46 (dk_at dksX4_tries_0 21 rfl rfl)
theorem dX4_tries_22 : decode cX4_tries 22 = .ok (.iastore, 1) := dk_79 (dk_at dksX4_tries_0 22 rfl rfl)
theorem dX4_tries_23 : decode cX4_tries 23 = .ok (.iinc 1 1, 3) := dk_132 1 1 (dk_at dksX4_tries_1 0 rfl rfl)
theorem dX4_tries_26 : decode cX4_tries 26 = .ok (.goto (-24), 3) := dk_167 255 232 (dk_at dksX4_tries_1 3 rfl rfl)
theorem dX4_tries_29 : decode cX4_tries 29 = .ok (.return_, 1) := dk_177 (dk_at dksX4_tries_1 6 rfl rfl)
abbrev cX4_daysGo : ByteArray := prog_12_method_58_code
def yX4_daysGo : MethodName := ⟨RX4, "daysGo", "(I)V"⟩
def dkwX4_daysGo_0 : List UInt8 := [3, 61, 28, 27, 162, 0, 15, 42, 16, 43, 182, 1, 80, 132, 2, 1, 167, 255, 242, 177]
abbrev dktX4_daysGo_0 : List UInt8 := dkwX4_daysGo_0 ++ []
theorem dksX4_daysGo_0 : cX4_daysGo.data.toList.drop 0 = dktX4_daysGo_0 := by decide +kernel
theorem dX4_daysGo_0 : decode cX4_daysGo 0 = .ok (.iconst 0, 1) := dk_3 (dk_at dksX4_daysGo_0 0 rfl rfl)
theorem dX4_daysGo_1 : decode cX4_daysGo 1 = .ok (.istore_n 2, 1) := dk_61 (dk_at dksX4_daysGo_0 1 rfl rfl)
theorem dX4_daysGo_2 : decode cX4_daysGo 2 = .ok (.iload_n 2, 1) := dk_28 (dk_at dksX4_daysGo_0 2 rfl rfl)
theorem dX4_daysGo_3 : decode cX4_daysGo 3 = .ok (.iload_n 1, 1) := dk_27 (dk_at dksX4_daysGo_0 3 rfl rfl)
theorem dX4_daysGo_4 : decode cX4_daysGo 4 = .ok (.if_icmp .ge 15, 3) := dk_162 0 15 (dk_at dksX4_daysGo_0 4 rfl rfl)
theorem dX4_daysGo_7 : decode cX4_daysGo 7 = .ok (.aload_n 0, 1) := dk_42 (dk_at dksX4_daysGo_0 7 rfl rfl)
theorem dX4_daysGo_8 : decode cX4_daysGo 8 = .ok (.bipush 43, 2) := dk_16 43 (dk_at dksX4_daysGo_0 8 rfl rfl)
theorem dX4_daysGo_10 : decode cX4_daysGo 10 = .ok (.invokevirtual 336, 3) := dk_182 1 80 (dk_at dksX4_daysGo_0 10 rfl rfl)
theorem dX4_daysGo_13 : decode cX4_daysGo 13 = .ok (.iinc 2 1, 3) := dk_132 2 1 (dk_at dksX4_daysGo_0 13 rfl rfl)
theorem dX4_daysGo_16 : decode cX4_daysGo 16 = .ok (.goto (-14), 3) := dk_167 255 242 (dk_at dksX4_daysGo_0 16 rfl rfl)
theorem dX4_daysGo_19 : decode cX4_daysGo 19 = .ok (.return_, 1) := dk_177 (dk_at dksX4_daysGo_0 19 rfl rfl)
abbrev cX4_worn : ByteArray := prog_12_method_82_code
def yX4_worn : MethodName := ⟨RX4, "worn", "(II)I"⟩
def dkwX4_worn_1 : List UInt8 := [172, 42, 28, 182, 1, 144, 42, 180, 0, 66, 16, 54, 27, 96, 46, 172]
abbrev dktX4_worn_1 : List UInt8 := dkwX4_worn_1 ++ []
def dkwX4_worn_0 : List UInt8 := [42, 3, 181, 0, 111, 42, 27, 182, 1, 111, 153, 0, 13, 42, 28, 3, 5, 182, 1, 141, 154, 0, 5, 3]
abbrev dktX4_worn_0 : List UInt8 := dkwX4_worn_0 ++ dktX4_worn_1
theorem dksX4_worn_0 : cX4_worn.data.toList.drop 0 = dktX4_worn_0 := by decide +kernel
theorem dksX4_worn_1 : cX4_worn.data.toList.drop 24 = dktX4_worn_1 := dk_seg dksX4_worn_0 24 rfl rfl
theorem dX4_worn_0 : decode cX4_worn 0 = .ok (.aload_n 0, 1) := dk_42 (dk_at dksX4_worn_0 0 rfl rfl)
theorem dX4_worn_1 : decode cX4_worn 1 = .ok (.iconst 0, 1) := dk_3 (dk_at dksX4_worn_0 1 rfl rfl)
theorem dX4_worn_2 : decode cX4_worn 2 = .ok (.putfield 111, 3) := dk_181 0 111 (dk_at dksX4_worn_0 2 rfl rfl)
theorem dX4_worn_5 : decode cX4_worn 5 = .ok (.aload_n 0, 1) := dk_42 (dk_at dksX4_worn_0 5 rfl rfl)
theorem dX4_worn_6 : decode cX4_worn 6 = .ok (.iload_n 1, 1) := dk_27 (dk_at dksX4_worn_0 6 rfl rfl)
theorem dX4_worn_7 : decode cX4_worn 7 = .ok (.invokevirtual 367, 3) := dk_182 1 111 (dk_at dksX4_worn_0 7 rfl rfl)
theorem dX4_worn_10 : decode cX4_worn 10 = .ok (.ifCond .eq 13, 3) := dk_153 0 13 (dk_at dksX4_worn_0 10 rfl rfl)
theorem dX4_worn_13 : decode cX4_worn 13 = .ok (.aload_n 0, 1) := dk_42 (dk_at dksX4_worn_0 13 rfl rfl)
theorem dX4_worn_14 : decode cX4_worn 14 = .ok (.iload_n 2, 1) := dk_28 (dk_at dksX4_worn_0 14 rfl rfl)
theorem dX4_worn_15 : decode cX4_worn 15 = .ok (.iconst 0, 1) := dk_3 (dk_at dksX4_worn_0 15 rfl rfl)
theorem dX4_worn_16 : decode cX4_worn 16 = .ok (.iconst 2, 1) := dk_5 (dk_at dksX4_worn_0 16 rfl rfl)
theorem dX4_worn_17 : decode cX4_worn 17 = .ok (.invokevirtual 397, 3) := dk_182 1 141 (dk_at dksX4_worn_0 17 rfl rfl)
theorem dX4_worn_20 : decode cX4_worn 20 = .ok (.ifCond .ne 5, 3) := dk_154 0 5 (dk_at dksX4_worn_0 20 rfl rfl)
theorem dX4_worn_23 : decode cX4_worn 23 = .ok (.iconst 0, 1) := dk_3 (dk_at dksX4_worn_0 23 rfl rfl)
theorem dX4_worn_24 : decode cX4_worn 24 = .ok (.ireturn, 1) := dk_172 (dk_at dksX4_worn_1 0 rfl rfl)
theorem dX4_worn_25 : decode cX4_worn 25 = .ok (.aload_n 0, 1) := dk_42 (dk_at dksX4_worn_1 1 rfl rfl)
theorem dX4_worn_26 : decode cX4_worn 26 = .ok (.iload_n 2, 1) := dk_28 (dk_at dksX4_worn_1 2 rfl rfl)
theorem dX4_worn_27 : decode cX4_worn 27 = .ok (.invokevirtual 400, 3) := dk_182 1 144 (dk_at dksX4_worn_1 3 rfl rfl)
theorem dX4_worn_30 : decode cX4_worn 30 = .ok (.aload_n 0, 1) := dk_42 (dk_at dksX4_worn_1 6 rfl rfl)
theorem dX4_worn_31 : decode cX4_worn 31 = .ok (.getfield 66, 3) := dk_180 0 66 (dk_at dksX4_worn_1 7 rfl rfl)
theorem dX4_worn_34 : decode cX4_worn 34 = .ok (.bipush 54, 2) := dk_16 54 (dk_at dksX4_worn_1 10 rfl rfl)
theorem dX4_worn_36 : decode cX4_worn 36 = .ok (.iload_n 1, 1) := dk_27 (dk_at dksX4_worn_1 12 rfl rfl)
theorem dX4_worn_37 : decode cX4_worn 37 = .ok (.iadd, 1) := dk_96 (dk_at dksX4_worn_1 13 rfl rfl)
theorem dX4_worn_38 : decode cX4_worn 38 = .ok (.iaload, 1) := dk_46 (dk_at dksX4_worn_1 14 rfl rfl)
theorem dX4_worn_39 : decode cX4_worn 39 = .ok (.ireturn, 1) := dk_172 (dk_at dksX4_worn_1 15 rfl rfl)
abbrev cX4_burst : ByteArray := prog_12_method_84_code
def yX4_burst : MethodName := ⟨RX4, "burst", "(I)I"⟩
def dkwX4_burst_1 : List UInt8 := [19, 1, 49, 160, 0, 7, 2, 167, 0, 4, 28, 172]
abbrev dktX4_burst_1 : List UInt8 := dkwX4_burst_1 ++ []
def dkwX4_burst_0 : List UInt8 := [42, 3, 181, 0, 111, 42, 27, 182, 1, 111, 154, 0, 5, 3, 172, 42, 27, 182, 1, 147, 61, 28]
abbrev dktX4_burst_0 : List UInt8 := dkwX4_burst_0 ++ dktX4_burst_1
theorem dksX4_burst_0 : cX4_burst.data.toList.drop 0 = dktX4_burst_0 := by decide +kernel
theorem dksX4_burst_1 : cX4_burst.data.toList.drop 22 = dktX4_burst_1 := dk_seg dksX4_burst_0 22 rfl rfl
theorem dX4_burst_0 : decode cX4_burst 0 = .ok (.aload_n 0, 1) := dk_42 (dk_at dksX4_burst_0 0 rfl rfl)
theorem dX4_burst_1 : decode cX4_burst 1 = .ok (.iconst 0, 1) := dk_3 (dk_at dksX4_burst_0 1 rfl rfl)
theorem dX4_burst_2 : decode cX4_burst 2 = .ok (.putfield 111, 3) := dk_181 0 111 (dk_at dksX4_burst_0 2 rfl rfl)
theorem dX4_burst_5 : decode cX4_burst 5 = .ok (.aload_n 0, 1) := dk_42 (dk_at dksX4_burst_0 5 rfl rfl)
theorem dX4_burst_6 : decode cX4_burst 6 = .ok (.iload_n 1, 1) := dk_27 (dk_at dksX4_burst_0 6 rfl rfl)
theorem dX4_burst_7 : decode cX4_burst 7 = .ok (.invokevirtual 367, 3) := dk_182 1 111 (dk_at dksX4_burst_0 7 rfl rfl)
theorem dX4_burst_10 : decode cX4_burst 10 = .ok (.ifCond .ne 5, 3) := dk_154 0 5 (dk_at dksX4_burst_0 10 rfl rfl)
theorem dX4_burst_13 : decode cX4_burst 13 = .ok (.iconst 0, 1) := dk_3 (dk_at dksX4_burst_0 13 rfl rfl)
theorem dX4_burst_14 : decode cX4_burst 14 = .ok (.ireturn, 1) := dk_172 (dk_at dksX4_burst_0 14 rfl rfl)
theorem dX4_burst_15 : decode cX4_burst 15 = .ok (.aload_n 0, 1) := dk_42 (dk_at dksX4_burst_0 15 rfl rfl)
theorem dX4_burst_16 : decode cX4_burst 16 = .ok (.iload_n 1, 1) := dk_27 (dk_at dksX4_burst_0 16 rfl rfl)
theorem dX4_burst_17 : decode cX4_burst 17 = .ok (.invokevirtual 403, 3) := dk_182 1 147 (dk_at dksX4_burst_0 17 rfl rfl)
theorem dX4_burst_20 : decode cX4_burst 20 = .ok (.istore_n 2, 1) := dk_61 (dk_at dksX4_burst_0 20 rfl rfl)
theorem dX4_burst_21 : decode cX4_burst 21 = .ok (.iload_n 2, 1) := dk_28 (dk_at dksX4_burst_0 21 rfl rfl)
theorem dX4_burst_22 : decode cX4_burst 22 = .ok (.ldc_w 305, 3) := dk_19 1 49 (dk_at dksX4_burst_1 0 rfl rfl)
theorem dX4_burst_25 : decode cX4_burst 25 = .ok (.if_icmp .ne 7, 3) := dk_160 0 7 (dk_at dksX4_burst_1 3 rfl rfl)
theorem dX4_burst_28 : decode cX4_burst 28 = .ok (.iconst (-1), 1) := dk_2 (dk_at dksX4_burst_1 6 rfl rfl)
theorem dX4_burst_29 : decode cX4_burst 29 = .ok (.goto 4, 3) := dk_167 0 4 (dk_at dksX4_burst_1 7 rfl rfl)
theorem dX4_burst_32 : decode cX4_burst 32 = .ok (.iload_n 2, 1) := dk_28 (dk_at dksX4_burst_1 10 rfl rfl)
theorem dX4_burst_33 : decode cX4_burst 33 = .ok (.ireturn, 1) := dk_172 (dk_at dksX4_burst_1 11 rfl rfl)
abbrev cX4_burstsIn : ByteArray := prog_12_method_83_code
def yX4_burstsIn : MethodName := ⟨RX4, "burstsIn", "(I)I"⟩
def dkwX4_burstsIn_1 : List UInt8 := [42, 16, 43, 182, 1, 80, 132, 2, 1, 167, 255, 229, 19, 1, 49, 172]
abbrev dktX4_burstsIn_1 : List UInt8 := dkwX4_burstsIn_1 ++ []
def dkwX4_burstsIn_0 : List UInt8 := [42, 182, 1, 135, 3, 61, 28, 16, 40, 163, 0, 27, 42, 16, 43, 27, 182, 1, 66, 153, 0, 5, 28, 172]
abbrev dktX4_burstsIn_0 : List UInt8 := dkwX4_burstsIn_0 ++ dktX4_burstsIn_1
theorem dksX4_burstsIn_0 : cX4_burstsIn.data.toList.drop 0 = dktX4_burstsIn_0 := by decide +kernel
theorem dksX4_burstsIn_1 : cX4_burstsIn.data.toList.drop 24 = dktX4_burstsIn_1 := dk_seg dksX4_burstsIn_0 24 rfl rfl
theorem dX4_burstsIn_0 : decode cX4_burstsIn 0 = .ok (.aload_n 0, 1) := dk_42 (dk_at dksX4_burstsIn_0 0 rfl rfl)
theorem dX4_burstsIn_1 : decode cX4_burstsIn 1 = .ok (.invokevirtual 391, 3) := dk_182 1 135 (dk_at dksX4_burstsIn_0 1 rfl rfl)
theorem dX4_burstsIn_4 : decode cX4_burstsIn 4 = .ok (.iconst 0, 1) := dk_3 (dk_at dksX4_burstsIn_0 4 rfl rfl)
theorem dX4_burstsIn_5 : decode cX4_burstsIn 5 = .ok (.istore_n 2, 1) := dk_61 (dk_at dksX4_burstsIn_0 5 rfl rfl)
theorem dX4_burstsIn_6 : decode cX4_burstsIn 6 = .ok (.iload_n 2, 1) := dk_28 (dk_at dksX4_burstsIn_0 6 rfl rfl)
theorem dX4_burstsIn_7 : decode cX4_burstsIn 7 = .ok (.bipush 40, 2) := dk_16 40 (dk_at dksX4_burstsIn_0 7 rfl rfl)
theorem dX4_burstsIn_9 : decode cX4_burstsIn 9 = .ok (.if_icmp .gt 27, 3) := dk_163 0 27 (dk_at dksX4_burstsIn_0 9 rfl rfl)
theorem dX4_burstsIn_12 : decode cX4_burstsIn 12 = .ok (.aload_n 0, 1) := dk_42 (dk_at dksX4_burstsIn_0 12 rfl rfl)
theorem dX4_burstsIn_13 : decode cX4_burstsIn 13 = .ok (.bipush 43, 2) := dk_16 43 (dk_at dksX4_burstsIn_0 13 rfl rfl)
theorem dX4_burstsIn_15 : decode cX4_burstsIn 15 = .ok (.iload_n 1, 1) := dk_27 (dk_at dksX4_burstsIn_0 15 rfl rfl)
theorem dX4_burstsIn_16 : decode cX4_burstsIn 16 = .ok (.invokevirtual 322, 3) := dk_182 1 66 (dk_at dksX4_burstsIn_0 16 rfl rfl)
theorem dX4_burstsIn_19 : decode cX4_burstsIn 19 = .ok (.ifCond .eq 5, 3) := dk_153 0 5 (dk_at dksX4_burstsIn_0 19 rfl rfl)
theorem dX4_burstsIn_22 : decode cX4_burstsIn 22 = .ok (.iload_n 2, 1) := dk_28 (dk_at dksX4_burstsIn_0 22 rfl rfl)
theorem dX4_burstsIn_23 : decode cX4_burstsIn 23 = .ok (.ireturn, 1) := dk_172 (dk_at dksX4_burstsIn_0 23 rfl rfl)
theorem dX4_burstsIn_24 : decode cX4_burstsIn 24 = .ok (.aload_n 0, 1) := dk_42 (dk_at dksX4_burstsIn_1 0 rfl rfl)
theorem dX4_burstsIn_25 : decode cX4_burstsIn 25 = .ok (.bipush 43, 2) := dk_16 43 (dk_at dksX4_burstsIn_1 1 rfl rfl)
theorem dX4_burstsIn_27 : decode cX4_burstsIn 27 = .ok (.invokevirtual 336, 3) := dk_182 1 80 (dk_at dksX4_burstsIn_1 3 rfl rfl)
theorem dX4_burstsIn_30 : decode cX4_burstsIn 30 = .ok (.iinc 2 1, 3) := dk_132 2 1 (dk_at dksX4_burstsIn_1 6 rfl rfl)
theorem dX4_burstsIn_33 : decode cX4_burstsIn 33 = .ok (.goto (-27), 3) := dk_167 255 229 (dk_at dksX4_burstsIn_1 9 rfl rfl)
theorem dX4_burstsIn_36 : decode cX4_burstsIn 36 = .ok (.ldc_w 305, 3) := dk_19 1 49 (dk_at dksX4_burstsIn_1 12 rfl rfl)
theorem dX4_burstsIn_39 : decode cX4_burstsIn 39 = .ok (.ireturn, 1) := dk_172 (dk_at dksX4_burstsIn_1 15 rfl rfl)
abbrev cX4_wriggles : ByteArray := prog_12_method_85_code
def yX4_wriggles : MethodName := ⟨RX4, "wriggles", "(I)I"⟩
def dkwX4_wriggles_2 : List UInt8 := [27, 96, 46, 164, 0, 5, 28, 172, 132, 2, 1, 167, 255, 218, 2, 172]
abbrev dktX4_wriggles_2 : List UInt8 := dkwX4_wriggles_2 ++ []
def dkwX4_wriggles_1 : List UInt8 := [163, 0, 38, 42, 16, 43, 182, 1, 80, 42, 180, 0, 66, 16, 78, 27, 96, 46, 42, 180, 0, 66, 16, 35]
abbrev dktX4_wriggles_1 : List UInt8 := dkwX4_wriggles_1 ++ dktX4_wriggles_2
def dkwX4_wriggles_0 : List UInt8 := [42, 3, 181, 0, 111, 42, 27, 182, 1, 123, 154, 0, 5, 3, 172, 42, 182, 1, 135, 4, 61, 28, 16, 40]
abbrev dktX4_wriggles_0 : List UInt8 := dkwX4_wriggles_0 ++ dktX4_wriggles_1
theorem dksX4_wriggles_0 : cX4_wriggles.data.toList.drop 0 = dktX4_wriggles_0 := by decide +kernel
theorem dksX4_wriggles_1 : cX4_wriggles.data.toList.drop 24 = dktX4_wriggles_1 := dk_seg dksX4_wriggles_0 24 rfl rfl
theorem dksX4_wriggles_2 : cX4_wriggles.data.toList.drop 48 = dktX4_wriggles_2 := dk_seg dksX4_wriggles_1 24 rfl rfl
theorem dX4_wriggles_0 : decode cX4_wriggles 0 = .ok (.aload_n 0, 1) := dk_42 (dk_at dksX4_wriggles_0 0 rfl rfl)
theorem dX4_wriggles_1 : decode cX4_wriggles 1 = .ok (.iconst 0, 1) := dk_3 (dk_at dksX4_wriggles_0 1 rfl rfl)
theorem dX4_wriggles_2 : decode cX4_wriggles 2 = .ok (.putfield 111, 3) := dk_181 0 111 (dk_at dksX4_wriggles_0 2 rfl rfl)
theorem dX4_wriggles_5 : decode cX4_wriggles 5 = .ok (.aload_n 0, 1) := dk_42 (dk_at dksX4_wriggles_0 5 rfl rfl)
theorem dX4_wriggles_6 : decode cX4_wriggles 6 = .ok (.iload_n 1, 1) := dk_27 (dk_at dksX4_wriggles_0 6 rfl rfl)
theorem dX4_wriggles_7 : decode cX4_wriggles 7 = .ok (.invokevirtual 379, 3) := dk_182 1 123 (dk_at dksX4_wriggles_0 7 rfl rfl)
theorem dX4_wriggles_10 : decode cX4_wriggles 10 = .ok (.ifCond .ne 5, 3) := dk_154 0 5 (dk_at dksX4_wriggles_0 10 rfl rfl)
theorem dX4_wriggles_13 : decode cX4_wriggles 13 = .ok (.iconst 0, 1) := dk_3 (dk_at dksX4_wriggles_0 13 rfl rfl)
theorem dX4_wriggles_14 : decode cX4_wriggles 14 = .ok (.ireturn, 1) := dk_172 (dk_at dksX4_wriggles_0 14 rfl rfl)
theorem dX4_wriggles_15 : decode cX4_wriggles 15 = .ok (.aload_n 0, 1) := dk_42 (dk_at dksX4_wriggles_0 15 rfl rfl)
theorem dX4_wriggles_16 : decode cX4_wriggles 16 = .ok (.invokevirtual 391, 3) := dk_182 1 135 (dk_at dksX4_wriggles_0 16 rfl rfl)
theorem dX4_wriggles_19 : decode cX4_wriggles 19 = .ok (.iconst 1, 1) := dk_4 (dk_at dksX4_wriggles_0 19 rfl rfl)
theorem dX4_wriggles_20 : decode cX4_wriggles 20 = .ok (.istore_n 2, 1) := dk_61 (dk_at dksX4_wriggles_0 20 rfl rfl)
theorem dX4_wriggles_21 : decode cX4_wriggles 21 = .ok (.iload_n 2, 1) := dk_28 (dk_at dksX4_wriggles_0 21 rfl rfl)
theorem dX4_wriggles_22 : decode cX4_wriggles 22 = .ok (.bipush 40, 2) := dk_16 40 (dk_at dksX4_wriggles_0 22 rfl rfl)
theorem dX4_wriggles_24 : decode cX4_wriggles 24 = .ok (.if_icmp .gt 38, 3) := dk_163 0 38 (dk_at dksX4_wriggles_1 0 rfl rfl)
theorem dX4_wriggles_27 : decode cX4_wriggles 27 = .ok (.aload_n 0, 1) := dk_42 (dk_at dksX4_wriggles_1 3 rfl rfl)
theorem dX4_wriggles_28 : decode cX4_wriggles 28 = .ok (.bipush 43, 2) := dk_16 43 (dk_at dksX4_wriggles_1 4 rfl rfl)
theorem dX4_wriggles_30 : decode cX4_wriggles 30 = .ok (.invokevirtual 336, 3) := dk_182 1 80 (dk_at dksX4_wriggles_1 6 rfl rfl)
theorem dX4_wriggles_33 : decode cX4_wriggles 33 = .ok (.aload_n 0, 1) := dk_42 (dk_at dksX4_wriggles_1 9 rfl rfl)
theorem dX4_wriggles_34 : decode cX4_wriggles 34 = .ok (.getfield 66, 3) := dk_180 0 66 (dk_at dksX4_wriggles_1 10 rfl rfl)
theorem dX4_wriggles_37 : decode cX4_wriggles 37 = .ok (.bipush 78, 2) := dk_16 78 (dk_at dksX4_wriggles_1 13 rfl rfl)
theorem dX4_wriggles_39 : decode cX4_wriggles 39 = .ok (.iload_n 1, 1) := dk_27 (dk_at dksX4_wriggles_1 15 rfl rfl)
theorem dX4_wriggles_40 : decode cX4_wriggles 40 = .ok (.iadd, 1) := dk_96 (dk_at dksX4_wriggles_1 16 rfl rfl)
theorem dX4_wriggles_41 : decode cX4_wriggles 41 = .ok (.iaload, 1) := dk_46 (dk_at dksX4_wriggles_1 17 rfl rfl)
theorem dX4_wriggles_42 : decode cX4_wriggles 42 = .ok (.aload_n 0, 1) := dk_42 (dk_at dksX4_wriggles_1 18 rfl rfl)
theorem dX4_wriggles_43 : decode cX4_wriggles 43 = .ok (.getfield 66, 3) := dk_180 0 66 (dk_at dksX4_wriggles_1 19 rfl rfl)
theorem dX4_wriggles_46 : decode cX4_wriggles 46 = .ok (.bipush 35, 2) := dk_16 35 (dk_at dksX4_wriggles_1 22 rfl rfl)
theorem dX4_wriggles_48 : decode cX4_wriggles 48 = .ok (.iload_n 1, 1) := dk_27 (dk_at dksX4_wriggles_2 0 rfl rfl)
theorem dX4_wriggles_49 : decode cX4_wriggles 49 = .ok (.iadd, 1) := dk_96 (dk_at dksX4_wriggles_2 1 rfl rfl)
theorem dX4_wriggles_50 : decode cX4_wriggles 50 = .ok (.iaload, 1) := dk_46 (dk_at dksX4_wriggles_2 2 rfl rfl)
theorem dX4_wriggles_51 : decode cX4_wriggles 51 = .ok (.if_icmp .le 5, 3) := dk_164 0 5 (dk_at dksX4_wriggles_2 3 rfl rfl)
theorem dX4_wriggles_54 : decode cX4_wriggles 54 = .ok (.iload_n 2, 1) := dk_28 (dk_at dksX4_wriggles_2 6 rfl rfl)
theorem dX4_wriggles_55 : decode cX4_wriggles 55 = .ok (.ireturn, 1) := dk_172 (dk_at dksX4_wriggles_2 7 rfl rfl)
theorem dX4_wriggles_56 : decode cX4_wriggles 56 = .ok (.iinc 2 1, 3) := dk_132 2 1 (dk_at dksX4_wriggles_2 8 rfl rfl)
theorem dX4_wriggles_59 : decode cX4_wriggles 59 = .ok (.goto (-38), 3) := dk_167 255 218 (dk_at dksX4_wriggles_2 11 rfl rfl)
theorem dX4_wriggles_62 : decode cX4_wriggles 62 = .ok (.iconst (-1), 1) := dk_2 (dk_at dksX4_wriggles_2 14 rfl rfl)
theorem dX4_wriggles_63 : decode cX4_wriggles 63 = .ok (.ireturn, 1) := dk_172 (dk_at dksX4_wriggles_2 15 rfl rfl)
abbrev cX4_barefoot : ByteArray := prog_12_method_86_code
def yX4_barefoot : MethodName := ⟨RX4, "barefoot", "(I)I"⟩
def dkwX4_barefoot_1 : List UInt8 := [16, 43, 182, 1, 96, 172]
abbrev dktX4_barefoot_1 : List UInt8 := dkwX4_barefoot_1 ++ []
def dkwX4_barefoot_0 : List UInt8 := [42, 3, 181, 0, 111, 42, 27, 3, 4, 182, 1, 141, 154, 0, 5, 3, 172, 42, 27, 182, 1, 144, 42]
abbrev dktX4_barefoot_0 : List UInt8 := dkwX4_barefoot_0 ++ dktX4_barefoot_1
theorem dksX4_barefoot_0 : cX4_barefoot.data.toList.drop 0 = dktX4_barefoot_0 := by decide +kernel
theorem dksX4_barefoot_1 : cX4_barefoot.data.toList.drop 23 = dktX4_barefoot_1 := dk_seg dksX4_barefoot_0 23 rfl rfl
theorem dX4_barefoot_0 : decode cX4_barefoot 0 = .ok (.aload_n 0, 1) := dk_42 (dk_at dksX4_barefoot_0 0 rfl rfl)
theorem dX4_barefoot_1 : decode cX4_barefoot 1 = .ok (.iconst 0, 1) := dk_3 (dk_at dksX4_barefoot_0 1 rfl rfl)
theorem dX4_barefoot_2 : decode cX4_barefoot 2 = .ok (.putfield 111, 3) := dk_181 0 111 (dk_at dksX4_barefoot_0 2 rfl rfl)
theorem dX4_barefoot_5 : decode cX4_barefoot 5 = .ok (.aload_n 0, 1) := dk_42 (dk_at dksX4_barefoot_0 5 rfl rfl)
theorem dX4_barefoot_6 : decode cX4_barefoot 6 = .ok (.iload_n 1, 1) := dk_27 (dk_at dksX4_barefoot_0 6 rfl rfl)
theorem dX4_barefoot_7 : decode cX4_barefoot 7 = .ok (.iconst 0, 1) := dk_3 (dk_at dksX4_barefoot_0 7 rfl rfl)
theorem dX4_barefoot_8 : decode cX4_barefoot 8 = .ok (.iconst 1, 1) := dk_4 (dk_at dksX4_barefoot_0 8 rfl rfl)
theorem dX4_barefoot_9 : decode cX4_barefoot 9 = .ok (.invokevirtual 397, 3) := dk_182 1 141 (dk_at dksX4_barefoot_0 9 rfl rfl)
theorem dX4_barefoot_12 : decode cX4_barefoot 12 = .ok (.ifCond .ne 5, 3) := dk_154 0 5 (dk_at dksX4_barefoot_0 12 rfl rfl)
theorem dX4_barefoot_15 : decode cX4_barefoot 15 = .ok (.iconst 0, 1) := dk_3 (dk_at dksX4_barefoot_0 15 rfl rfl)
theorem dX4_barefoot_16 : decode cX4_barefoot 16 = .ok (.ireturn, 1) := dk_172 (dk_at dksX4_barefoot_0 16 rfl rfl)
theorem dX4_barefoot_17 : decode cX4_barefoot 17 = .ok (.aload_n 0, 1) := dk_42 (dk_at dksX4_barefoot_0 17 rfl rfl)
theorem dX4_barefoot_18 : decode cX4_barefoot 18 = .ok (.iload_n 1, 1) := dk_27 (dk_at dksX4_barefoot_0 18 rfl rfl)
theorem dX4_barefoot_19 : decode cX4_barefoot 19 = .ok (.invokevirtual 400, 3) := dk_182 1 144 (dk_at dksX4_barefoot_0 19 rfl rfl)
theorem dX4_barefoot_22 : decode cX4_barefoot 22 = .ok (.aload_n 0, 1) := dk_42 (dk_at dksX4_barefoot_0 22 rfl rfl)
theorem dX4_barefoot_23 : decode cX4_barefoot 23 = .ok (.bipush 43, 2) := dk_16 43 (dk_at dksX4_barefoot_1 0 rfl rfl)
theorem dX4_barefoot_25 : decode cX4_barefoot 25 = .ok (.invokevirtual 352, 3) := dk_182 1 96 (dk_at dksX4_barefoot_1 2 rfl rfl)
theorem dX4_barefoot_28 : decode cX4_barefoot 28 = .ok (.ireturn, 1) := dk_172 (dk_at dksX4_barefoot_1 5 rfl rfl)
abbrev cX4_last : ByteArray := prog_12_method_87_code
def yX4_last : MethodName := ⟨RX4, "last", "(I)I"⟩
def dkwX4_last_4 : List UInt8 := [2, 167, 0, 4, 29, 172]
abbrev dktX4_last_4 : List UInt8 := dkwX4_last_4 ++ []
def dkwX4_last_3 : List UInt8 := [21, 5, 62, 132, 4, 1, 167, 255, 204, 27, 154, 0, 7, 28, 167, 0, 15, 29, 19, 1, 49, 160, 0, 7]
abbrev dktX4_last_3 : List UInt8 := dkwX4_last_3 ++ dktX4_last_4
def dkwX4_last_2 : List UInt8 := [167, 0, 26, 42, 21, 4, 182, 1, 147, 54, 5, 21, 5, 29, 163, 0, 6, 167, 0, 9, 21, 4, 61]
abbrev dktX4_last_2 : List UInt8 := dkwX4_last_2 ++ dktX4_last_3
def dkwX4_last_1 : List UInt8 := [21, 4, 42, 180, 1, 19, 162, 0, 49, 42, 180, 0, 66, 16, 19, 21, 4, 96, 46, 2, 160, 0, 6]
abbrev dktX4_last_1 : List UInt8 := dkwX4_last_1 ++ dktX4_last_2
def dkwX4_last_0 : List UInt8 := [42, 3, 181, 0, 111, 42, 27, 4, 182, 1, 114, 154, 0, 5, 3, 172, 2, 61, 2, 62, 3, 54, 4]
abbrev dktX4_last_0 : List UInt8 := dkwX4_last_0 ++ dktX4_last_1
theorem dksX4_last_0 : cX4_last.data.toList.drop 0 = dktX4_last_0 := by decide +kernel
theorem dksX4_last_1 : cX4_last.data.toList.drop 23 = dktX4_last_1 := dk_seg dksX4_last_0 23 rfl rfl
theorem dksX4_last_2 : cX4_last.data.toList.drop 46 = dktX4_last_2 := dk_seg dksX4_last_1 23 rfl rfl
theorem dksX4_last_3 : cX4_last.data.toList.drop 69 = dktX4_last_3 := dk_seg dksX4_last_2 23 rfl rfl
theorem dksX4_last_4 : cX4_last.data.toList.drop 93 = dktX4_last_4 := dk_seg dksX4_last_3 24 rfl rfl
theorem dX4_last_0 : decode cX4_last 0 = .ok (.aload_n 0, 1) := dk_42 (dk_at dksX4_last_0 0 rfl rfl)
theorem dX4_last_1 : decode cX4_last 1 = .ok (.iconst 0, 1) := dk_3 (dk_at dksX4_last_0 1 rfl rfl)
theorem dX4_last_2 : decode cX4_last 2 = .ok (.putfield 111, 3) := dk_181 0 111 (dk_at dksX4_last_0 2 rfl rfl)
theorem dX4_last_5 : decode cX4_last 5 = .ok (.aload_n 0, 1) := dk_42 (dk_at dksX4_last_0 5 rfl rfl)
theorem dX4_last_6 : decode cX4_last 6 = .ok (.iload_n 1, 1) := dk_27 (dk_at dksX4_last_0 6 rfl rfl)
theorem dX4_last_7 : decode cX4_last 7 = .ok (.iconst 1, 1) := dk_4 (dk_at dksX4_last_0 7 rfl rfl)
theorem dX4_last_8 : decode cX4_last 8 = .ok (.invokevirtual 370, 3) := dk_182 1 114 (dk_at dksX4_last_0 8 rfl rfl)
theorem dX4_last_11 : decode cX4_last 11 = .ok (.ifCond .ne 5, 3) := dk_154 0 5 (dk_at dksX4_last_0 11 rfl rfl)
theorem dX4_last_14 : decode cX4_last 14 = .ok (.iconst 0, 1) := dk_3 (dk_at dksX4_last_0 14 rfl rfl)
theorem dX4_last_15 : decode cX4_last 15 = .ok (.ireturn, 1) := dk_172 (dk_at dksX4_last_0 15 rfl rfl)
theorem dX4_last_16 : decode cX4_last 16 = .ok (.iconst (-1), 1) := dk_2 (dk_at dksX4_last_0 16 rfl rfl)
theorem dX4_last_17 : decode cX4_last 17 = .ok (.istore_n 2, 1) := dk_61 (dk_at dksX4_last_0 17 rfl rfl)
theorem dX4_last_18 : decode cX4_last 18 = .ok (.iconst (-1), 1) := dk_2 (dk_at dksX4_last_0 18 rfl rfl)
theorem dX4_last_19 : decode cX4_last 19 = .ok (.istore_n 3, 1) := dk_62 (dk_at dksX4_last_0 19 rfl rfl)
theorem dX4_last_20 : decode cX4_last 20 = .ok (.iconst 0, 1) := dk_3 (dk_at dksX4_last_0 20 rfl rfl)
theorem dX4_last_21 : decode cX4_last 21 = .ok (.istore 4, 2) := dk_54 4 (dk_at dksX4_last_0 21 rfl rfl)
theorem dX4_last_23 : decode cX4_last 23 = .ok (.iload 4, 2) := dk_21 4 (dk_at dksX4_last_1 0 rfl rfl)
theorem dX4_last_25 : decode cX4_last 25 = .ok (.aload_n 0, 1) := dk_42 (dk_at dksX4_last_1 2 rfl rfl)
theorem dX4_last_26 : decode cX4_last 26 = .ok (.getfield 275, 3) := dk_180 1 19 (dk_at dksX4_last_1 3 rfl rfl)
theorem dX4_last_29 : decode cX4_last 29 = .ok (.if_icmp .ge 49, 3) := dk_162 0 49 (dk_at dksX4_last_1 6 rfl rfl)
theorem dX4_last_32 : decode cX4_last 32 = .ok (.aload_n 0, 1) := dk_42 (dk_at dksX4_last_1 9 rfl rfl)
theorem dX4_last_33 : decode cX4_last 33 = .ok (.getfield 66, 3) := dk_180 0 66 (dk_at dksX4_last_1 10 rfl rfl)
theorem dX4_last_36 : decode cX4_last 36 = .ok (.bipush 19, 2) := dk_16 19 (dk_at dksX4_last_1 13 rfl rfl)
theorem dX4_last_38 : decode cX4_last 38 = .ok (.iload 4, 2) := dk_21 4 (dk_at dksX4_last_1 15 rfl rfl)
theorem dX4_last_40 : decode cX4_last 40 = .ok (.iadd, 1) := dk_96 (dk_at dksX4_last_1 17 rfl rfl)
theorem dX4_last_41 : decode cX4_last 41 = .ok (.iaload, 1) := dk_46 (dk_at dksX4_last_1 18 rfl rfl)
theorem dX4_last_42 : decode cX4_last 42 = .ok (.iconst (-1), 1) := dk_2 (dk_at dksX4_last_1 19 rfl rfl)
theorem dX4_last_43 : decode cX4_last 43 = .ok (.if_icmp .ne 6, 3) := dk_160 0 6 (dk_at dksX4_last_1 20 rfl rfl)
theorem dX4_last_46 : decode cX4_last 46 = .ok (.goto 26, 3) := dk_167 0 26 (dk_at dksX4_last_2 0 rfl rfl)
theorem dX4_last_49 : decode cX4_last 49 = .ok (.aload_n 0, 1) := dk_42 (dk_at dksX4_last_2 3 rfl rfl)
theorem dX4_last_50 : decode cX4_last 50 = .ok (.iload 4, 2) := dk_21 4 (dk_at dksX4_last_2 4 rfl rfl)
theorem dX4_last_52 : decode cX4_last 52 = .ok (.invokevirtual 403, 3) := dk_182 1 147 (dk_at dksX4_last_2 6 rfl rfl)
theorem dX4_last_55 : decode cX4_last 55 = .ok (.istore 5, 2) := dk_54 5 (dk_at dksX4_last_2 9 rfl rfl)
theorem dX4_last_57 : decode cX4_last 57 = .ok (.iload 5, 2) := dk_21 5 (dk_at dksX4_last_2 11 rfl rfl)
theorem dX4_last_59 : decode cX4_last 59 = .ok (.iload_n 3, 1) := dk_29 (dk_at dksX4_last_2 13 rfl rfl)
theorem dX4_last_60 : decode cX4_last 60 = .ok (.if_icmp .gt 6, 3) := dk_163 0 6 (dk_at dksX4_last_2 14 rfl rfl)
theorem dX4_last_63 : decode cX4_last 63 = .ok (.goto 9, 3) := dk_167 0 9 (dk_at dksX4_last_2 17 rfl rfl)
theorem dX4_last_66 : decode cX4_last 66 = .ok (.iload 4, 2) := dk_21 4 (dk_at dksX4_last_2 20 rfl rfl)
theorem dX4_last_68 : decode cX4_last 68 = .ok (.istore_n 2, 1) := dk_61 (dk_at dksX4_last_2 22 rfl rfl)
theorem dX4_last_69 : decode cX4_last 69 = .ok (.iload 5, 2) := dk_21 5 (dk_at dksX4_last_3 0 rfl rfl)
theorem dX4_last_71 : decode cX4_last 71 = .ok (.istore_n 3, 1) := dk_62 (dk_at dksX4_last_3 2 rfl rfl)
theorem dX4_last_72 : decode cX4_last 72 = .ok (.iinc 4 1, 3) := dk_132 4 1 (dk_at dksX4_last_3 3 rfl rfl)
theorem dX4_last_75 : decode cX4_last 75 = .ok (.goto (-52), 3) := dk_167 255 204 (dk_at dksX4_last_3 6 rfl rfl)
theorem dX4_last_78 : decode cX4_last 78 = .ok (.iload_n 1, 1) := dk_27 (dk_at dksX4_last_3 9 rfl rfl)
theorem dX4_last_79 : decode cX4_last 79 = .ok (.ifCond .ne 7, 3) := dk_154 0 7 (dk_at dksX4_last_3 10 rfl rfl)
theorem dX4_last_82 : decode cX4_last 82 = .ok (.iload_n 2, 1) := dk_28 (dk_at dksX4_last_3 13 rfl rfl)
theorem dX4_last_83 : decode cX4_last 83 = .ok (.goto 15, 3) := dk_167 0 15 (dk_at dksX4_last_3 14 rfl rfl)
theorem dX4_last_86 : decode cX4_last 86 = .ok (.iload_n 3, 1) := dk_29 (dk_at dksX4_last_3 17 rfl rfl)
theorem dX4_last_87 : decode cX4_last 87 = .ok (.ldc_w 305, 3) := dk_19 1 49 (dk_at dksX4_last_3 18 rfl rfl)
theorem dX4_last_90 : decode cX4_last 90 = .ok (.if_icmp .ne 7, 3) := dk_160 0 7 (dk_at dksX4_last_3 21 rfl rfl)
theorem dX4_last_93 : decode cX4_last 93 = .ok (.iconst (-1), 1) := dk_2 (dk_at dksX4_last_4 0 rfl rfl)
theorem dX4_last_94 : decode cX4_last 94 = .ok (.goto 4, 3) := dk_167 0 4 (dk_at dksX4_last_4 1 rfl rfl)
theorem dX4_last_97 : decode cX4_last 97 = .ok (.iload_n 3, 1) := dk_29 (dk_at dksX4_last_4 4 rfl rfl)
theorem dX4_last_98 : decode cX4_last 98 = .ok (.ireturn, 1) := dk_172 (dk_at dksX4_last_4 5 rfl rfl)
abbrev cX4_goes : ByteArray := prog_12_method_88_code
def yX4_goes : MethodName := ⟨RX4, "goes", "(I)I"⟩
def dkwX4_goes_2 : List UInt8 := [132, 3, 1, 167, 255, 225, 28, 172]
abbrev dktX4_goes_2 : List UInt8 := dkwX4_goes_2 ++ []
def dkwX4_goes_1 : List UInt8 := [162, 0, 29, 28, 42, 3, 27, 29, 182, 1, 132, 153, 0, 9, 4, 29, 120, 167, 0, 4, 3, 128, 61]
abbrev dktX4_goes_1 : List UInt8 := dkwX4_goes_1 ++ dktX4_goes_2
def dkwX4_goes_0 : List UInt8 := [42, 3, 181, 0, 111, 42, 27, 182, 1, 123, 154, 0, 5, 3, 172, 3, 61, 3, 62, 29, 42, 180, 1, 19]
abbrev dktX4_goes_0 : List UInt8 := dkwX4_goes_0 ++ dktX4_goes_1
theorem dksX4_goes_0 : cX4_goes.data.toList.drop 0 = dktX4_goes_0 := by decide +kernel
theorem dksX4_goes_1 : cX4_goes.data.toList.drop 24 = dktX4_goes_1 := dk_seg dksX4_goes_0 24 rfl rfl
theorem dksX4_goes_2 : cX4_goes.data.toList.drop 47 = dktX4_goes_2 := dk_seg dksX4_goes_1 23 rfl rfl
theorem dX4_goes_0 : decode cX4_goes 0 = .ok (.aload_n 0, 1) := dk_42 (dk_at dksX4_goes_0 0 rfl rfl)
theorem dX4_goes_1 : decode cX4_goes 1 = .ok (.iconst 0, 1) := dk_3 (dk_at dksX4_goes_0 1 rfl rfl)
theorem dX4_goes_2 : decode cX4_goes 2 = .ok (.putfield 111, 3) := dk_181 0 111 (dk_at dksX4_goes_0 2 rfl rfl)
theorem dX4_goes_5 : decode cX4_goes 5 = .ok (.aload_n 0, 1) := dk_42 (dk_at dksX4_goes_0 5 rfl rfl)
theorem dX4_goes_6 : decode cX4_goes 6 = .ok (.iload_n 1, 1) := dk_27 (dk_at dksX4_goes_0 6 rfl rfl)
theorem dX4_goes_7 : decode cX4_goes 7 = .ok (.invokevirtual 379, 3) := dk_182 1 123 (dk_at dksX4_goes_0 7 rfl rfl)
theorem dX4_goes_10 : decode cX4_goes 10 = .ok (.ifCond .ne 5, 3) := dk_154 0 5 (dk_at dksX4_goes_0 10 rfl rfl)
theorem dX4_goes_13 : decode cX4_goes 13 = .ok (.iconst 0, 1) := dk_3 (dk_at dksX4_goes_0 13 rfl rfl)
theorem dX4_goes_14 : decode cX4_goes 14 = .ok (.ireturn, 1) := dk_172 (dk_at dksX4_goes_0 14 rfl rfl)
theorem dX4_goes_15 : decode cX4_goes 15 = .ok (.iconst 0, 1) := dk_3 (dk_at dksX4_goes_0 15 rfl rfl)
theorem dX4_goes_16 : decode cX4_goes 16 = .ok (.istore_n 2, 1) := dk_61 (dk_at dksX4_goes_0 16 rfl rfl)
theorem dX4_goes_17 : decode cX4_goes 17 = .ok (.iconst 0, 1) := dk_3 (dk_at dksX4_goes_0 17 rfl rfl)
theorem dX4_goes_18 : decode cX4_goes 18 = .ok (.istore_n 3, 1) := dk_62 (dk_at dksX4_goes_0 18 rfl rfl)
theorem dX4_goes_19 : decode cX4_goes 19 = .ok (.iload_n 3, 1) := dk_29 (dk_at dksX4_goes_0 19 rfl rfl)
theorem dX4_goes_20 : decode cX4_goes 20 = .ok (.aload_n 0, 1) := dk_42 (dk_at dksX4_goes_0 20 rfl rfl)
theorem dX4_goes_21 : decode cX4_goes 21 = .ok (.getfield 275, 3) := dk_180 1 19 (dk_at dksX4_goes_0 21 rfl rfl)
theorem dX4_goes_24 : decode cX4_goes 24 = .ok (.if_icmp .ge 29, 3) := dk_162 0 29 (dk_at dksX4_goes_1 0 rfl rfl)
theorem dX4_goes_27 : decode cX4_goes 27 = .ok (.iload_n 2, 1) := dk_28 (dk_at dksX4_goes_1 3 rfl rfl)
theorem dX4_goes_28 : decode cX4_goes 28 = .ok (.aload_n 0, 1) := dk_42 (dk_at dksX4_goes_1 4 rfl rfl)
theorem dX4_goes_29 : decode cX4_goes 29 = .ok (.iconst 0, 1) := dk_3 (dk_at dksX4_goes_1 5 rfl rfl)
theorem dX4_goes_30 : decode cX4_goes 30 = .ok (.iload_n 1, 1) := dk_27 (dk_at dksX4_goes_1 6 rfl rfl)
theorem dX4_goes_31 : decode cX4_goes 31 = .ok (.iload_n 3, 1) := dk_29 (dk_at dksX4_goes_1 7 rfl rfl)
theorem dX4_goes_32 : decode cX4_goes 32 = .ok (.invokevirtual 388, 3) := dk_182 1 132 (dk_at dksX4_goes_1 8 rfl rfl)
theorem dX4_goes_35 : decode cX4_goes 35 = .ok (.ifCond .eq 9, 3) := dk_153 0 9 (dk_at dksX4_goes_1 11 rfl rfl)
theorem dX4_goes_38 : decode cX4_goes 38 = .ok (.iconst 1, 1) := dk_4 (dk_at dksX4_goes_1 14 rfl rfl)
theorem dX4_goes_39 : decode cX4_goes 39 = .ok (.iload_n 3, 1) := dk_29 (dk_at dksX4_goes_1 15 rfl rfl)
theorem dX4_goes_40 : decode cX4_goes 40 = .ok (.ishl, 1) := dk_120 (dk_at dksX4_goes_1 16 rfl rfl)
theorem dX4_goes_41 : decode cX4_goes 41 = .ok (.goto 4, 3) := dk_167 0 4 (dk_at dksX4_goes_1 17 rfl rfl)
theorem dX4_goes_44 : decode cX4_goes 44 = .ok (.iconst 0, 1) := dk_3 (dk_at dksX4_goes_1 20 rfl rfl)
theorem dX4_goes_45 : decode cX4_goes 45 = .ok (.ior, 1) := dk_128 (dk_at dksX4_goes_1 21 rfl rfl)
theorem dX4_goes_46 : decode cX4_goes 46 = .ok (.istore_n 2, 1) := dk_61 (dk_at dksX4_goes_1 22 rfl rfl)
theorem dX4_goes_47 : decode cX4_goes 47 = .ok (.iinc 3 1, 3) := dk_132 3 1 (dk_at dksX4_goes_2 0 rfl rfl)
theorem dX4_goes_50 : decode cX4_goes 50 = .ok (.goto (-31), 3) := dk_167 255 225 (dk_at dksX4_goes_2 3 rfl rfl)
theorem dX4_goes_53 : decode cX4_goes 53 = .ok (.iload_n 2, 1) := dk_28 (dk_at dksX4_goes_2 6 rfl rfl)
theorem dX4_goes_54 : decode cX4_goes 54 = .ok (.ireturn, 1) := dk_172 (dk_at dksX4_goes_2 7 rfl rfl)
abbrev cX4_heirs : ByteArray := prog_12_method_89_code
def yX4_heirs : MethodName := ⟨RX4, "heirs", "(I)I"⟩
def dkwX4_heirs_2 : List UInt8 := [132, 3, 1, 167, 255, 225, 28, 172]
abbrev dktX4_heirs_2 : List UInt8 := dkwX4_heirs_2 ++ []
def dkwX4_heirs_1 : List UInt8 := [162, 0, 29, 28, 42, 3, 29, 27, 182, 1, 132, 153, 0, 9, 4, 29, 120, 167, 0, 4, 3, 128, 61]
abbrev dktX4_heirs_1 : List UInt8 := dkwX4_heirs_1 ++ dktX4_heirs_2
def dkwX4_heirs_0 : List UInt8 := [42, 3, 181, 0, 111, 42, 27, 182, 1, 111, 154, 0, 5, 3, 172, 3, 61, 3, 62, 29, 42, 180, 1, 22]
abbrev dktX4_heirs_0 : List UInt8 := dkwX4_heirs_0 ++ dktX4_heirs_1
theorem dksX4_heirs_0 : cX4_heirs.data.toList.drop 0 = dktX4_heirs_0 := by decide +kernel
theorem dksX4_heirs_1 : cX4_heirs.data.toList.drop 24 = dktX4_heirs_1 := dk_seg dksX4_heirs_0 24 rfl rfl
theorem dksX4_heirs_2 : cX4_heirs.data.toList.drop 47 = dktX4_heirs_2 := dk_seg dksX4_heirs_1 23 rfl rfl
theorem dX4_heirs_0 : decode cX4_heirs 0 = .ok (.aload_n 0, 1) := dk_42 (dk_at dksX4_heirs_0 0 rfl rfl)
theorem dX4_heirs_1 : decode cX4_heirs 1 = .ok (.iconst 0, 1) := dk_3 (dk_at dksX4_heirs_0 1 rfl rfl)
theorem dX4_heirs_2 : decode cX4_heirs 2 = .ok (.putfield 111, 3) := dk_181 0 111 (dk_at dksX4_heirs_0 2 rfl rfl)
theorem dX4_heirs_5 : decode cX4_heirs 5 = .ok (.aload_n 0, 1) := dk_42 (dk_at dksX4_heirs_0 5 rfl rfl)
theorem dX4_heirs_6 : decode cX4_heirs 6 = .ok (.iload_n 1, 1) := dk_27 (dk_at dksX4_heirs_0 6 rfl rfl)
theorem dX4_heirs_7 : decode cX4_heirs 7 = .ok (.invokevirtual 367, 3) := dk_182 1 111 (dk_at dksX4_heirs_0 7 rfl rfl)
theorem dX4_heirs_10 : decode cX4_heirs 10 = .ok (.ifCond .ne 5, 3) := dk_154 0 5 (dk_at dksX4_heirs_0 10 rfl rfl)
theorem dX4_heirs_13 : decode cX4_heirs 13 = .ok (.iconst 0, 1) := dk_3 (dk_at dksX4_heirs_0 13 rfl rfl)
theorem dX4_heirs_14 : decode cX4_heirs 14 = .ok (.ireturn, 1) := dk_172 (dk_at dksX4_heirs_0 14 rfl rfl)
theorem dX4_heirs_15 : decode cX4_heirs 15 = .ok (.iconst 0, 1) := dk_3 (dk_at dksX4_heirs_0 15 rfl rfl)
theorem dX4_heirs_16 : decode cX4_heirs 16 = .ok (.istore_n 2, 1) := dk_61 (dk_at dksX4_heirs_0 16 rfl rfl)
theorem dX4_heirs_17 : decode cX4_heirs 17 = .ok (.iconst 0, 1) := dk_3 (dk_at dksX4_heirs_0 17 rfl rfl)
theorem dX4_heirs_18 : decode cX4_heirs 18 = .ok (.istore_n 3, 1) := dk_62 (dk_at dksX4_heirs_0 18 rfl rfl)
theorem dX4_heirs_19 : decode cX4_heirs 19 = .ok (.iload_n 3, 1) := dk_29 (dk_at dksX4_heirs_0 19 rfl rfl)
theorem dX4_heirs_20 : decode cX4_heirs 20 = .ok (.aload_n 0, 1) := dk_42 (dk_at dksX4_heirs_0 20 rfl rfl)
theorem dX4_heirs_21 : decode cX4_heirs 21 = .ok (.getfield 278, 3) := dk_180 1 22 (dk_at dksX4_heirs_0 21 rfl rfl)
theorem dX4_heirs_24 : decode cX4_heirs 24 = .ok (.if_icmp .ge 29, 3) := dk_162 0 29 (dk_at dksX4_heirs_1 0 rfl rfl)
theorem dX4_heirs_27 : decode cX4_heirs 27 = .ok (.iload_n 2, 1) := dk_28 (dk_at dksX4_heirs_1 3 rfl rfl)
theorem dX4_heirs_28 : decode cX4_heirs 28 = .ok (.aload_n 0, 1) := dk_42 (dk_at dksX4_heirs_1 4 rfl rfl)
theorem dX4_heirs_29 : decode cX4_heirs 29 = .ok (.iconst 0, 1) := dk_3 (dk_at dksX4_heirs_1 5 rfl rfl)
theorem dX4_heirs_30 : decode cX4_heirs 30 = .ok (.iload_n 3, 1) := dk_29 (dk_at dksX4_heirs_1 6 rfl rfl)
theorem dX4_heirs_31 : decode cX4_heirs 31 = .ok (.iload_n 1, 1) := dk_27 (dk_at dksX4_heirs_1 7 rfl rfl)
theorem dX4_heirs_32 : decode cX4_heirs 32 = .ok (.invokevirtual 388, 3) := dk_182 1 132 (dk_at dksX4_heirs_1 8 rfl rfl)
theorem dX4_heirs_35 : decode cX4_heirs 35 = .ok (.ifCond .eq 9, 3) := dk_153 0 9 (dk_at dksX4_heirs_1 11 rfl rfl)
theorem dX4_heirs_38 : decode cX4_heirs 38 = .ok (.iconst 1, 1) := dk_4 (dk_at dksX4_heirs_1 14 rfl rfl)
theorem dX4_heirs_39 : decode cX4_heirs 39 = .ok (.iload_n 3, 1) := dk_29 (dk_at dksX4_heirs_1 15 rfl rfl)
theorem dX4_heirs_40 : decode cX4_heirs 40 = .ok (.ishl, 1) := dk_120 (dk_at dksX4_heirs_1 16 rfl rfl)
theorem dX4_heirs_41 : decode cX4_heirs 41 = .ok (.goto 4, 3) := dk_167 0 4 (dk_at dksX4_heirs_1 17 rfl rfl)
theorem dX4_heirs_44 : decode cX4_heirs 44 = .ok (.iconst 0, 1) := dk_3 (dk_at dksX4_heirs_1 20 rfl rfl)
theorem dX4_heirs_45 : decode cX4_heirs 45 = .ok (.ior, 1) := dk_128 (dk_at dksX4_heirs_1 21 rfl rfl)
theorem dX4_heirs_46 : decode cX4_heirs 46 = .ok (.istore_n 2, 1) := dk_61 (dk_at dksX4_heirs_1 22 rfl rfl)
theorem dX4_heirs_47 : decode cX4_heirs 47 = .ok (.iinc 3 1, 3) := dk_132 3 1 (dk_at dksX4_heirs_2 0 rfl rfl)
theorem dX4_heirs_50 : decode cX4_heirs 50 = .ok (.goto (-31), 3) := dk_167 255 225 (dk_at dksX4_heirs_2 3 rfl rfl)
theorem dX4_heirs_53 : decode cX4_heirs 53 = .ok (.iload_n 2, 1) := dk_28 (dk_at dksX4_heirs_2 6 rfl rfl)
theorem dX4_heirs_54 : decode cX4_heirs 54 = .ok (.ireturn, 1) := dk_172 (dk_at dksX4_heirs_2 7 rfl rfl)
abbrev cX4_match : ByteArray := prog_12_method_93_code
def yX4_match : MethodName := ⟨RX4, "match", "(I)I"⟩
def dkwX4_match_1 : List UInt8 := [182, 1, 150, 61, 27, 154, 0, 11, 28, 17, 39, 16, 108, 167, 0, 8, 28, 17, 39, 16, 112, 172]
abbrev dktX4_match_1 : List UInt8 := dkwX4_match_1 ++ []
def dkwX4_match_0 : List UInt8 := [42, 3, 181, 0, 111, 42, 27, 4, 182, 1, 114, 154, 0, 5, 3, 172, 42, 182, 1, 156, 42, 3, 3]
abbrev dktX4_match_0 : List UInt8 := dkwX4_match_0 ++ dktX4_match_1
theorem dksX4_match_0 : cX4_match.data.toList.drop 0 = dktX4_match_0 := by decide +kernel
theorem dksX4_match_1 : cX4_match.data.toList.drop 23 = dktX4_match_1 := dk_seg dksX4_match_0 23 rfl rfl
theorem dX4_match_0 : decode cX4_match 0 = .ok (.aload_n 0, 1) := dk_42 (dk_at dksX4_match_0 0 rfl rfl)
theorem dX4_match_1 : decode cX4_match 1 = .ok (.iconst 0, 1) := dk_3 (dk_at dksX4_match_0 1 rfl rfl)
theorem dX4_match_2 : decode cX4_match 2 = .ok (.putfield 111, 3) := dk_181 0 111 (dk_at dksX4_match_0 2 rfl rfl)
theorem dX4_match_5 : decode cX4_match 5 = .ok (.aload_n 0, 1) := dk_42 (dk_at dksX4_match_0 5 rfl rfl)
theorem dX4_match_6 : decode cX4_match 6 = .ok (.iload_n 1, 1) := dk_27 (dk_at dksX4_match_0 6 rfl rfl)
theorem dX4_match_7 : decode cX4_match 7 = .ok (.iconst 1, 1) := dk_4 (dk_at dksX4_match_0 7 rfl rfl)
theorem dX4_match_8 : decode cX4_match 8 = .ok (.invokevirtual 370, 3) := dk_182 1 114 (dk_at dksX4_match_0 8 rfl rfl)
theorem dX4_match_11 : decode cX4_match 11 = .ok (.ifCond .ne 5, 3) := dk_154 0 5 (dk_at dksX4_match_0 11 rfl rfl)
theorem dX4_match_14 : decode cX4_match 14 = .ok (.iconst 0, 1) := dk_3 (dk_at dksX4_match_0 14 rfl rfl)
theorem dX4_match_15 : decode cX4_match 15 = .ok (.ireturn, 1) := dk_172 (dk_at dksX4_match_0 15 rfl rfl)
theorem dX4_match_16 : decode cX4_match 16 = .ok (.aload_n 0, 1) := dk_42 (dk_at dksX4_match_0 16 rfl rfl)
theorem dX4_match_17 : decode cX4_match 17 = .ok (.invokevirtual 412, 3) := dk_182 1 156 (dk_at dksX4_match_0 17 rfl rfl)
theorem dX4_match_20 : decode cX4_match 20 = .ok (.aload_n 0, 1) := dk_42 (dk_at dksX4_match_0 20 rfl rfl)
theorem dX4_match_21 : decode cX4_match 21 = .ok (.iconst 0, 1) := dk_3 (dk_at dksX4_match_0 21 rfl rfl)
theorem dX4_match_22 : decode cX4_match 22 = .ok (.iconst 0, 1) := dk_3 (dk_at dksX4_match_0 22 rfl rfl)
theorem dX4_match_23 : decode cX4_match 23 = .ok (.invokevirtual 406, 3) := dk_182 1 150 (dk_at dksX4_match_1 0 rfl rfl)
theorem dX4_match_26 : decode cX4_match 26 = .ok (.istore_n 2, 1) := dk_61 (dk_at dksX4_match_1 3 rfl rfl)
theorem dX4_match_27 : decode cX4_match 27 = .ok (.iload_n 1, 1) := dk_27 (dk_at dksX4_match_1 4 rfl rfl)
theorem dX4_match_28 : decode cX4_match 28 = .ok (.ifCond .ne 11, 3) := dk_154 0 11 (dk_at dksX4_match_1 5 rfl rfl)
theorem dX4_match_31 : decode cX4_match 31 = .ok (.iload_n 2, 1) := dk_28 (dk_at dksX4_match_1 8 rfl rfl)
theorem dX4_match_32 : decode cX4_match 32 = .ok (.sipush 10000, 3) := dk_17 39 16 (dk_at dksX4_match_1 9 rfl rfl)
theorem dX4_match_35 : decode cX4_match 35 = .ok (.idiv, 1) := dk_108 (dk_at dksX4_match_1 12 rfl rfl)
theorem dX4_match_36 : decode cX4_match 36 = .ok (.goto 8, 3) := dk_167 0 8 (dk_at dksX4_match_1 13 rfl rfl)
theorem dX4_match_39 : decode cX4_match 39 = .ok (.iload_n 2, 1) := dk_28 (dk_at dksX4_match_1 16 rfl rfl)
theorem dX4_match_40 : decode cX4_match 40 = .ok (.sipush 10000, 3) := dk_17 39 16 (dk_at dksX4_match_1 17 rfl rfl)
theorem dX4_match_43 : decode cX4_match 43 = .ok (.irem, 1) := dk_112 (dk_at dksX4_match_1 20 rfl rfl)
theorem dX4_match_44 : decode cX4_match 44 = .ok (.ireturn, 1) := dk_172 (dk_at dksX4_match_1 21 rfl rfl)
abbrev cX4_matched : ByteArray := prog_12_method_94_code
def yX4_matched : MethodName := ⟨RX4, "matched", "(I)I"⟩
def dkwX4_matched_4 : List UInt8 := [167, 255, 205, 29, 2, 159, 0, 9, 28, 4, 29, 120, 128, 61, 132, 4, 1, 167, 255, 172, 29, 172]
abbrev dktX4_matched_4 : List UInt8 := dkwX4_matched_4 ++ []
def dkwX4_matched_3 : List UInt8 := [21, 5, 28, 182, 1, 153, 42, 21, 4, 28, 182, 1, 150, 160, 0, 6, 21, 5, 62, 132, 5, 255]
abbrev dktX4_matched_3 : List UInt8 := dkwX4_matched_3 ++ dktX4_matched_4
def dkwX4_matched_2 : List UInt8 := [21, 5, 122, 4, 126, 154, 0, 37, 42, 3, 21, 4, 21, 5, 182, 1, 132, 153, 0, 25, 42, 21, 4]
abbrev dktX4_matched_2 : List UInt8 := dkwX4_matched_2 ++ dktX4_matched_3
def dkwX4_matched_1 : List UInt8 := [54, 4, 21, 4, 27, 163, 0, 84, 2, 62, 42, 180, 1, 19, 4, 100, 54, 5, 21, 5, 155, 0, 52, 28]
abbrev dktX4_matched_1 : List UInt8 := dkwX4_matched_1 ++ dktX4_matched_2
def dkwX4_matched_0 : List UInt8 := [42, 3, 181, 0, 111, 42, 27, 182, 1, 123, 154, 0, 5, 3, 172, 42, 182, 1, 156, 3, 61, 2, 62, 3]
abbrev dktX4_matched_0 : List UInt8 := dkwX4_matched_0 ++ dktX4_matched_1
theorem dksX4_matched_0 : cX4_matched.data.toList.drop 0 = dktX4_matched_0 := by decide +kernel
theorem dksX4_matched_1 : cX4_matched.data.toList.drop 24 = dktX4_matched_1 := dk_seg dksX4_matched_0 24 rfl rfl
theorem dksX4_matched_2 : cX4_matched.data.toList.drop 48 = dktX4_matched_2 := dk_seg dksX4_matched_1 24 rfl rfl
theorem dksX4_matched_3 : cX4_matched.data.toList.drop 71 = dktX4_matched_3 := dk_seg dksX4_matched_2 23 rfl rfl
theorem dksX4_matched_4 : cX4_matched.data.toList.drop 93 = dktX4_matched_4 := dk_seg dksX4_matched_3 22 rfl rfl
theorem dX4_matched_0 : decode cX4_matched 0 = .ok (.aload_n 0, 1) := dk_42 (dk_at dksX4_matched_0 0 rfl rfl)
theorem dX4_matched_1 : decode cX4_matched 1 = .ok (.iconst 0, 1) := dk_3 (dk_at dksX4_matched_0 1 rfl rfl)
theorem dX4_matched_2 : decode cX4_matched 2 = .ok (.putfield 111, 3) := dk_181 0 111 (dk_at dksX4_matched_0 2 rfl rfl)
theorem dX4_matched_5 : decode cX4_matched 5 = .ok (.aload_n 0, 1) := dk_42 (dk_at dksX4_matched_0 5 rfl rfl)
theorem dX4_matched_6 : decode cX4_matched 6 = .ok (.iload_n 1, 1) := dk_27 (dk_at dksX4_matched_0 6 rfl rfl)
theorem dX4_matched_7 : decode cX4_matched 7 = .ok (.invokevirtual 379, 3) := dk_182 1 123 (dk_at dksX4_matched_0 7 rfl rfl)
theorem dX4_matched_10 : decode cX4_matched 10 = .ok (.ifCond .ne 5, 3) := dk_154 0 5 (dk_at dksX4_matched_0 10 rfl rfl)
theorem dX4_matched_13 : decode cX4_matched 13 = .ok (.iconst 0, 1) := dk_3 (dk_at dksX4_matched_0 13 rfl rfl)
theorem dX4_matched_14 : decode cX4_matched 14 = .ok (.ireturn, 1) := dk_172 (dk_at dksX4_matched_0 14 rfl rfl)
theorem dX4_matched_15 : decode cX4_matched 15 = .ok (.aload_n 0, 1) := dk_42 (dk_at dksX4_matched_0 15 rfl rfl)
theorem dX4_matched_16 : decode cX4_matched 16 = .ok (.invokevirtual 412, 3) := dk_182 1 156 (dk_at dksX4_matched_0 16 rfl rfl)
theorem dX4_matched_19 : decode cX4_matched 19 = .ok (.iconst 0, 1) := dk_3 (dk_at dksX4_matched_0 19 rfl rfl)
theorem dX4_matched_20 : decode cX4_matched 20 = .ok (.istore_n 2, 1) := dk_61 (dk_at dksX4_matched_0 20 rfl rfl)
theorem dX4_matched_21 : decode cX4_matched 21 = .ok (.iconst (-1), 1) := dk_2 (dk_at dksX4_matched_0 21 rfl rfl)
theorem dX4_matched_22 : decode cX4_matched 22 = .ok (.istore_n 3, 1) := dk_62 (dk_at dksX4_matched_0 22 rfl rfl)
theorem dX4_matched_23 : decode cX4_matched 23 = .ok (.iconst 0, 1) := dk_3 (dk_at dksX4_matched_0 23 rfl rfl)
theorem dX4_matched_24 : decode cX4_matched 24 = .ok (.istore 4, 2) := dk_54 4 (dk_at dksX4_matched_1 0 rfl rfl)
theorem dX4_matched_26 : decode cX4_matched 26 = .ok (.iload 4, 2) := dk_21 4 (dk_at dksX4_matched_1 2 rfl rfl)
theorem dX4_matched_28 : decode cX4_matched 28 = .ok (.iload_n 1, 1) := dk_27 (dk_at dksX4_matched_1 4 rfl rfl)
theorem dX4_matched_29 : decode cX4_matched 29 = .ok (.if_icmp .gt 84, 3) := dk_163 0 84 (dk_at dksX4_matched_1 5 rfl rfl)
theorem dX4_matched_32 : decode cX4_matched 32 = .ok (.iconst (-1), 1) := dk_2 (dk_at dksX4_matched_1 8 rfl rfl)
theorem dX4_matched_33 : decode cX4_matched 33 = .ok (.istore_n 3, 1) := dk_62 (dk_at dksX4_matched_1 9 rfl rfl)
theorem dX4_matched_34 : decode cX4_matched 34 = .ok (.aload_n 0, 1) := dk_42 (dk_at dksX4_matched_1 10 rfl rfl)
theorem dX4_matched_35 : decode cX4_matched 35 = .ok (.getfield 275, 3) := dk_180 1 19 (dk_at dksX4_matched_1 11 rfl rfl)
theorem dX4_matched_38 : decode cX4_matched 38 = .ok (.iconst 1, 1) := dk_4 (dk_at dksX4_matched_1 14 rfl rfl)
theorem dX4_matched_39 : decode cX4_matched 39 = .ok (.isub, 1) := dk_100 (dk_at dksX4_matched_1 15 rfl rfl)
theorem dX4_matched_40 : decode cX4_matched 40 = .ok (.istore 5, 2) := dk_54 5 (dk_at dksX4_matched_1 16 rfl rfl)
theorem dX4_matched_42 : decode cX4_matched 42 = .ok (.iload 5, 2) := dk_21 5 (dk_at dksX4_matched_1 18 rfl rfl)
theorem dX4_matched_44 : decode cX4_matched 44 = .ok (.ifCond .lt 52, 3) := dk_155 0 52 (dk_at dksX4_matched_1 20 rfl rfl)
theorem dX4_matched_47 : decode cX4_matched 47 = .ok (.iload_n 2, 1) := dk_28 (dk_at dksX4_matched_1 23 rfl rfl)
theorem dX4_matched_48 : decode cX4_matched 48 = .ok (.iload 5, 2) := dk_21 5 (dk_at dksX4_matched_2 0 rfl rfl)
theorem dX4_matched_50 : decode cX4_matched 50 = .ok (.ishr, 1) := dk_122 (dk_at dksX4_matched_2 2 rfl rfl)
theorem dX4_matched_51 : decode cX4_matched 51 = .ok (.iconst 1, 1) := dk_4 (dk_at dksX4_matched_2 3 rfl rfl)
theorem dX4_matched_52 : decode cX4_matched 52 = .ok (.iand, 1) := dk_126 (dk_at dksX4_matched_2 4 rfl rfl)
theorem dX4_matched_53 : decode cX4_matched 53 = .ok (.ifCond .ne 37, 3) := dk_154 0 37 (dk_at dksX4_matched_2 5 rfl rfl)
theorem dX4_matched_56 : decode cX4_matched 56 = .ok (.aload_n 0, 1) := dk_42 (dk_at dksX4_matched_2 8 rfl rfl)
theorem dX4_matched_57 : decode cX4_matched 57 = .ok (.iconst 0, 1) := dk_3 (dk_at dksX4_matched_2 9 rfl rfl)
theorem dX4_matched_58 : decode cX4_matched 58 = .ok (.iload 4, 2) := dk_21 4 (dk_at dksX4_matched_2 10 rfl rfl)
theorem dX4_matched_60 : decode cX4_matched 60 = .ok (.iload 5, 2) := dk_21 5 (dk_at dksX4_matched_2 12 rfl rfl)
theorem dX4_matched_62 : decode cX4_matched 62 = .ok (.invokevirtual 388, 3) := dk_182 1 132 (dk_at dksX4_matched_2 14 rfl rfl)
theorem dX4_matched_65 : decode cX4_matched 65 = .ok (.ifCond .eq 25, 3) := dk_153 0 25 (dk_at dksX4_matched_2 17 rfl rfl)
theorem dX4_matched_68 : decode cX4_matched 68 = .ok (.aload_n 0, 1) := dk_42 (dk_at dksX4_matched_2 20 rfl rfl)
theorem dX4_matched_69 : decode cX4_matched 69 = .ok (.iload 4, 2) := dk_21 4 (dk_at dksX4_matched_2 21 rfl rfl)
theorem dX4_matched_71 : decode cX4_matched 71 = .ok (.iload 5, 2) := dk_21 5 (dk_at dksX4_matched_3 0 rfl rfl)
theorem dX4_matched_73 : decode cX4_matched 73 = .ok (.iload_n 2, 1) := dk_28 (dk_at dksX4_matched_3 2 rfl rfl)
theorem dX4_matched_74 : decode cX4_matched 74 = .ok (.invokevirtual 409, 3) := dk_182 1 153 (dk_at dksX4_matched_3 3 rfl rfl)
theorem dX4_matched_77 : decode cX4_matched 77 = .ok (.aload_n 0, 1) := dk_42 (dk_at dksX4_matched_3 6 rfl rfl)
theorem dX4_matched_78 : decode cX4_matched 78 = .ok (.iload 4, 2) := dk_21 4 (dk_at dksX4_matched_3 7 rfl rfl)
theorem dX4_matched_80 : decode cX4_matched 80 = .ok (.iload_n 2, 1) := dk_28 (dk_at dksX4_matched_3 9 rfl rfl)
theorem dX4_matched_81 : decode cX4_matched 81 = .ok (.invokevirtual 406, 3) := dk_182 1 150 (dk_at dksX4_matched_3 10 rfl rfl)
theorem dX4_matched_84 : decode cX4_matched 84 = .ok (.if_icmp .ne 6, 3) := dk_160 0 6 (dk_at dksX4_matched_3 13 rfl rfl)
theorem dX4_matched_87 : decode cX4_matched 87 = .ok (.iload 5, 2) := dk_21 5 (dk_at dksX4_matched_3 16 rfl rfl)
theorem dX4_matched_89 : decode cX4_matched 89 = .ok (.istore_n 3, 1) := dk_62 (dk_at dksX4_matched_3 18 rfl rfl)
theorem dX4_matched_90 : decode cX4_matched 90 = .ok (.iinc 5 (-1), 3) := dk_132 5 255 (dk_at dksX4_matched_3 19 rfl rfl)
theorem dX4_matched_93 : decode cX4_matched 93 = .ok (.goto (-51), 3) := dk_167 255 205 (dk_at dksX4_matched_4 0 rfl rfl)
theorem dX4_matched_96 : decode cX4_matched 96 = .ok (.iload_n 3, 1) := dk_29 (dk_at dksX4_matched_4 3 rfl rfl)
theorem dX4_matched_97 : decode cX4_matched 97 = .ok (.iconst (-1), 1) := dk_2 (dk_at dksX4_matched_4 4 rfl rfl)
theorem dX4_matched_98 : decode cX4_matched 98 = .ok (.if_icmp .eq 9, 3) := dk_159 0 9 (dk_at dksX4_matched_4 5 rfl rfl)
theorem dX4_matched_101 : decode cX4_matched 101 = .ok (.iload_n 2, 1) := dk_28 (dk_at dksX4_matched_4 8 rfl rfl)
theorem dX4_matched_102 : decode cX4_matched 102 = .ok (.iconst 1, 1) := dk_4 (dk_at dksX4_matched_4 9 rfl rfl)
theorem dX4_matched_103 : decode cX4_matched 103 = .ok (.iload_n 3, 1) := dk_29 (dk_at dksX4_matched_4 10 rfl rfl)
theorem dX4_matched_104 : decode cX4_matched 104 = .ok (.ishl, 1) := dk_120 (dk_at dksX4_matched_4 11 rfl rfl)
theorem dX4_matched_105 : decode cX4_matched 105 = .ok (.ior, 1) := dk_128 (dk_at dksX4_matched_4 12 rfl rfl)
theorem dX4_matched_106 : decode cX4_matched 106 = .ok (.istore_n 2, 1) := dk_61 (dk_at dksX4_matched_4 13 rfl rfl)
theorem dX4_matched_107 : decode cX4_matched 107 = .ok (.iinc 4 1, 3) := dk_132 4 1 (dk_at dksX4_matched_4 14 rfl rfl)
theorem dX4_matched_110 : decode cX4_matched 110 = .ok (.goto (-84), 3) := dk_167 255 172 (dk_at dksX4_matched_4 17 rfl rfl)
theorem dX4_matched_113 : decode cX4_matched 113 = .ok (.iload_n 3, 1) := dk_29 (dk_at dksX4_matched_4 20 rfl rfl)
theorem dX4_matched_114 : decode cX4_matched 114 = .ok (.ireturn, 1) := dk_172 (dk_at dksX4_matched_4 21 rfl rfl)
abbrev cX4_trade : ByteArray := prog_12_method_99_code
def yX4_trade : MethodName := ⟨RX4, "trade", "(I)I"⟩
def dkwX4_trade_1 : List UInt8 := [46, 172]
abbrev dktX4_trade_1 : List UInt8 := dkwX4_trade_1 ++ []
def dkwX4_trade_0 : List UInt8 := [42, 3, 181, 0, 111, 42, 27, 182, 1, 123, 154, 0, 5, 3, 172, 42, 182, 1, 165, 42, 180, 0, 87, 27]
abbrev dktX4_trade_0 : List UInt8 := dkwX4_trade_0 ++ dktX4_trade_1
theorem dksX4_trade_0 : cX4_trade.data.toList.drop 0 = dktX4_trade_0 := by decide +kernel
theorem dksX4_trade_1 : cX4_trade.data.toList.drop 24 = dktX4_trade_1 := dk_seg dksX4_trade_0 24 rfl rfl
theorem dX4_trade_0 : decode cX4_trade 0 = .ok (.aload_n 0, 1) := dk_42 (dk_at dksX4_trade_0 0 rfl rfl)
theorem dX4_trade_1 : decode cX4_trade 1 = .ok (.iconst 0, 1) := dk_3 (dk_at dksX4_trade_0 1 rfl rfl)
theorem dX4_trade_2 : decode cX4_trade 2 = .ok (.putfield 111, 3) := dk_181 0 111 (dk_at dksX4_trade_0 2 rfl rfl)
theorem dX4_trade_5 : decode cX4_trade 5 = .ok (.aload_n 0, 1) := dk_42 (dk_at dksX4_trade_0 5 rfl rfl)
theorem dX4_trade_6 : decode cX4_trade 6 = .ok (.iload_n 1, 1) := dk_27 (dk_at dksX4_trade_0 6 rfl rfl)
theorem dX4_trade_7 : decode cX4_trade 7 = .ok (.invokevirtual 379, 3) := dk_182 1 123 (dk_at dksX4_trade_0 7 rfl rfl)
theorem dX4_trade_10 : decode cX4_trade 10 = .ok (.ifCond .ne 5, 3) := dk_154 0 5 (dk_at dksX4_trade_0 10 rfl rfl)
theorem dX4_trade_13 : decode cX4_trade 13 = .ok (.iconst 0, 1) := dk_3 (dk_at dksX4_trade_0 13 rfl rfl)
theorem dX4_trade_14 : decode cX4_trade 14 = .ok (.ireturn, 1) := dk_172 (dk_at dksX4_trade_0 14 rfl rfl)
theorem dX4_trade_15 : decode cX4_trade 15 = .ok (.aload_n 0, 1) := dk_42 (dk_at dksX4_trade_0 15 rfl rfl)
theorem dX4_trade_16 : decode cX4_trade 16 = .ok (.invokevirtual 421, 3) := dk_182 1 165 (dk_at dksX4_trade_0 16 rfl rfl)
theorem dX4_trade_19 : decode cX4_trade 19 = .ok (.aload_n 0, 1) := dk_42 (dk_at dksX4_trade_0 19 rfl rfl)
theorem dX4_trade_20 : decode cX4_trade 20 = .ok (.getfield 87, 3) := dk_180 0 87 (dk_at dksX4_trade_0 20 rfl rfl)
theorem dX4_trade_23 : decode cX4_trade 23 = .ok (.iload_n 1, 1) := dk_27 (dk_at dksX4_trade_0 23 rfl rfl)
theorem dX4_trade_24 : decode cX4_trade 24 = .ok (.iaload, 1) := dk_46 (dk_at dksX4_trade_1 0 rfl rfl)
theorem dX4_trade_25 : decode cX4_trade 25 = .ok (.ireturn, 1) := dk_172 (dk_at dksX4_trade_1 1 rfl rfl)
abbrev cX4_trades : ByteArray := prog_12_method_98_code
def yX4_trades : MethodName := ⟨RX4, "trades", "()V"⟩
def dkwX4_trades_6 : List UInt8 := [128, 61, 132, 3, 1, 167, 255, 181, 27, 28, 2, 130, 126, 60, 167, 255, 136, 177]
abbrev dktX4_trades_6 : List UInt8 := dkwX4_trades_6 ++ []
def dkwX4_trades_5 : List UInt8 := [180, 0, 84, 21, 4, 46, 79, 42, 180, 0, 90, 21, 4, 42, 21, 4, 182, 1, 162, 79, 28, 4, 29, 120]
abbrev dktX4_trades_5 : List UInt8 := dkwX4_trades_5 ++ dktX4_trades_6
def dkwX4_trades_4 : List UInt8 := [153, 0, 48, 42, 21, 4, 182, 1, 162, 154, 0, 6, 167, 0, 36, 42, 180, 0, 87, 21, 4, 42]
abbrev dktX4_trades_4 : List UInt8 := dkwX4_trades_4 ++ dktX4_trades_5
def dkwX4_trades_3 : List UInt8 := [42, 180, 1, 19, 162, 0, 73, 42, 180, 0, 66, 16, 19, 29, 96, 46, 54, 4, 27, 29, 122, 4, 126]
abbrev dktX4_trades_3 : List UInt8 := dkwX4_trades_3 ++ dktX4_trades_4
def dkwX4_trades_2 : List UInt8 := [162, 0, 21, 42, 180, 0, 84, 29, 42, 29, 27, 182, 1, 159, 79, 132, 3, 1, 167, 255, 233, 3, 62, 29]
abbrev dktX4_trades_2 : List UInt8 := dkwX4_trades_2 ++ dktX4_trades_3
def dkwX4_trades_1 : List UInt8 := [132, 1, 1, 167, 255, 233, 42, 182, 1, 93, 60, 27, 153, 0, 122, 3, 61, 3, 62, 29, 42, 180, 1, 22]
abbrev dktX4_trades_1 : List UInt8 := dkwX4_trades_1 ++ dktX4_trades_2
def dkwX4_trades_0 : List UInt8 := [3, 60, 27, 16, 8, 162, 0, 23, 42, 180, 0, 87, 27, 2, 79, 42, 180, 0, 90, 27, 3, 79]
abbrev dktX4_trades_0 : List UInt8 := dkwX4_trades_0 ++ dktX4_trades_1
theorem dksX4_trades_0 : cX4_trades.data.toList.drop 0 = dktX4_trades_0 := by decide +kernel
theorem dksX4_trades_1 : cX4_trades.data.toList.drop 22 = dktX4_trades_1 := dk_seg dksX4_trades_0 22 rfl rfl
theorem dksX4_trades_2 : cX4_trades.data.toList.drop 46 = dktX4_trades_2 := dk_seg dksX4_trades_1 24 rfl rfl
theorem dksX4_trades_3 : cX4_trades.data.toList.drop 70 = dktX4_trades_3 := dk_seg dksX4_trades_2 24 rfl rfl
theorem dksX4_trades_4 : cX4_trades.data.toList.drop 93 = dktX4_trades_4 := dk_seg dksX4_trades_3 23 rfl rfl
theorem dksX4_trades_5 : cX4_trades.data.toList.drop 115 = dktX4_trades_5 := dk_seg dksX4_trades_4 22 rfl rfl
theorem dksX4_trades_6 : cX4_trades.data.toList.drop 139 = dktX4_trades_6 := dk_seg dksX4_trades_5 24 rfl rfl
theorem dX4_trades_0 : decode cX4_trades 0 = .ok (.iconst 0, 1) := dk_3 (dk_at dksX4_trades_0 0 rfl rfl)
theorem dX4_trades_1 : decode cX4_trades 1 = .ok (.istore_n 1, 1) := dk_60 (dk_at dksX4_trades_0 1 rfl rfl)
theorem dX4_trades_2 : decode cX4_trades 2 = .ok (.iload_n 1, 1) := dk_27 (dk_at dksX4_trades_0 2 rfl rfl)
theorem dX4_trades_3 : decode cX4_trades 3 = .ok (.bipush 8, 2) := dk_16 8 (dk_at dksX4_trades_0 3 rfl rfl)
theorem dX4_trades_5 : decode cX4_trades 5 = .ok (.if_icmp .ge 23, 3) := dk_162 0 23 (dk_at dksX4_trades_0 5 rfl rfl)
theorem dX4_trades_8 : decode cX4_trades 8 = .ok (.aload_n 0, 1) := dk_42 (dk_at dksX4_trades_0 8 rfl rfl)
theorem dX4_trades_9 : decode cX4_trades 9 = .ok (.getfield 87, 3) := dk_180 0 87 (dk_at dksX4_trades_0 9 rfl rfl)
theorem dX4_trades_12 : decode cX4_trades 12 = .ok (.iload_n 1, 1) := dk_27 (dk_at dksX4_trades_0 12 rfl rfl)
theorem dX4_trades_13 : decode cX4_trades 13 = .ok (.iconst (-1), 1) := dk_2 (dk_at dksX4_trades_0 13 rfl rfl)
theorem dX4_trades_14 : decode cX4_trades 14 = .ok (.iastore, 1) := dk_79 (dk_at dksX4_trades_0 14 rfl rfl)
theorem dX4_trades_15 : decode cX4_trades 15 = .ok (.aload_n 0, 1) := dk_42 (dk_at dksX4_trades_0 15 rfl rfl)
theorem dX4_trades_16 : decode cX4_trades 16 = .ok (.getfield 90, 3) := dk_180 0 90 (dk_at dksX4_trades_0 16 rfl rfl)
theorem dX4_trades_19 : decode cX4_trades 19 = .ok (.iload_n 1, 1) := dk_27 (dk_at dksX4_trades_0 19 rfl rfl)
theorem dX4_trades_20 : decode cX4_trades 20 = .ok (.iconst 0, 1) := dk_3 (dk_at dksX4_trades_0 20 rfl rfl)
theorem dX4_trades_21 : decode cX4_trades 21 = .ok (.iastore, 1) := dk_79 (dk_at dksX4_trades_0 21 rfl rfl)
theorem dX4_trades_22 : decode cX4_trades 22 = .ok (.iinc 1 1, 3) := dk_132 1 1 (dk_at dksX4_trades_1 0 rfl rfl)
theorem dX4_trades_25 : decode cX4_trades 25 = .ok (.goto (-23), 3) := dk_167 255 233 (dk_at dksX4_trades_1 3 rfl rfl)
theorem dX4_trades_28 : decode cX4_trades 28 = .ok (.aload_n 0, 1) := dk_42 (dk_at dksX4_trades_1 6 rfl rfl)
theorem dX4_trades_29 : decode cX4_trades 29 = .ok (.invokevirtual 349, 3) := dk_182 1 93 (dk_at dksX4_trades_1 7 rfl rfl)
theorem dX4_trades_32 : decode cX4_trades 32 = .ok (.istore_n 1, 1) := dk_60 (dk_at dksX4_trades_1 10 rfl rfl)
theorem dX4_trades_33 : decode cX4_trades 33 = .ok (.iload_n 1, 1) := dk_27 (dk_at dksX4_trades_1 11 rfl rfl)
theorem dX4_trades_34 : decode cX4_trades 34 = .ok (.ifCond .eq 122, 3) := dk_153 0 122 (dk_at dksX4_trades_1 12 rfl rfl)
theorem dX4_trades_37 : decode cX4_trades 37 = .ok (.iconst 0, 1) := dk_3 (dk_at dksX4_trades_1 15 rfl rfl)
theorem dX4_trades_38 : decode cX4_trades 38 = .ok (.istore_n 2, 1) := dk_61 (dk_at dksX4_trades_1 16 rfl rfl)
theorem dX4_trades_39 : decode cX4_trades 39 = .ok (.iconst 0, 1) := dk_3 (dk_at dksX4_trades_1 17 rfl rfl)
theorem dX4_trades_40 : decode cX4_trades 40 = .ok (.istore_n 3, 1) := dk_62 (dk_at dksX4_trades_1 18 rfl rfl)
theorem dX4_trades_41 : decode cX4_trades 41 = .ok (.iload_n 3, 1) := dk_29 (dk_at dksX4_trades_1 19 rfl rfl)
theorem dX4_trades_42 : decode cX4_trades 42 = .ok (.aload_n 0, 1) := dk_42 (dk_at dksX4_trades_1 20 rfl rfl)
theorem dX4_trades_43 : decode cX4_trades 43 = .ok (.getfield 278, 3) := dk_180 1 22 (dk_at dksX4_trades_1 21 rfl rfl)
theorem dX4_trades_46 : decode cX4_trades 46 = .ok (.if_icmp .ge 21, 3) := dk_162 0 21 (dk_at dksX4_trades_2 0 rfl rfl)
theorem dX4_trades_49 : decode cX4_trades 49 = .ok (.aload_n 0, 1) := dk_42 (dk_at dksX4_trades_2 3 rfl rfl)
theorem dX4_trades_50 : decode cX4_trades 50 = .ok (.getfield 84, 3) := dk_180 0 84 (dk_at dksX4_trades_2 4 rfl rfl)
theorem dX4_trades_53 : decode cX4_trades 53 = .ok (.iload_n 3, 1) := dk_29 (dk_at dksX4_trades_2 7 rfl rfl)
theorem dX4_trades_54 : decode cX4_trades 54 = .ok (.aload_n 0, 1) := dk_42 (dk_at dksX4_trades_2 8 rfl rfl)
theorem dX4_trades_55 : decode cX4_trades 55 = .ok (.iload_n 3, 1) := dk_29 (dk_at dksX4_trades_2 9 rfl rfl)
theorem dX4_trades_56 : decode cX4_trades 56 = .ok (.iload_n 1, 1) := dk_27 (dk_at dksX4_trades_2 10 rfl rfl)
theorem dX4_trades_57 : decode cX4_trades 57 = .ok (.invokevirtual 415, 3) := dk_182 1 159 (dk_at dksX4_trades_2 11 rfl rfl)
theorem dX4_trades_60 : decode cX4_trades 60 = .ok (.iastore, 1) := dk_79 (dk_at dksX4_trades_2 14 rfl rfl)
theorem dX4_trades_61 : decode cX4_trades 61 = .ok (.iinc 3 1, 3) := dk_132 3 1 (dk_at dksX4_trades_2 15 rfl rfl)
theorem dX4_trades_64 : decode cX4_trades 64 = .ok (.goto (-23), 3) := dk_167 255 233 (dk_at dksX4_trades_2 18 rfl rfl)
theorem dX4_trades_67 : decode cX4_trades 67 = .ok (.iconst 0, 1) := dk_3 (dk_at dksX4_trades_2 21 rfl rfl)
theorem dX4_trades_68 : decode cX4_trades 68 = .ok (.istore_n 3, 1) := dk_62 (dk_at dksX4_trades_2 22 rfl rfl)
theorem dX4_trades_69 : decode cX4_trades 69 = .ok (.iload_n 3, 1) := dk_29 (dk_at dksX4_trades_2 23 rfl rfl)
theorem dX4_trades_70 : decode cX4_trades 70 = .ok (.aload_n 0, 1) := dk_42 (dk_at dksX4_trades_3 0 rfl rfl)
theorem dX4_trades_71 : decode cX4_trades 71 = .ok (.getfield 275, 3) := dk_180 1 19 (dk_at dksX4_trades_3 1 rfl rfl)
theorem dX4_trades_74 : decode cX4_trades 74 = .ok (.if_icmp .ge 73, 3) := dk_162 0 73 (dk_at dksX4_trades_3 4 rfl rfl)
theorem dX4_trades_77 : decode cX4_trades 77 = .ok (.aload_n 0, 1) := dk_42 (dk_at dksX4_trades_3 7 rfl rfl)
theorem dX4_trades_78 : decode cX4_trades 78 = .ok (.getfield 66, 3) := dk_180 0 66 (dk_at dksX4_trades_3 8 rfl rfl)
theorem dX4_trades_81 : decode cX4_trades 81 = .ok (.bipush 19, 2) := dk_16 19 (dk_at dksX4_trades_3 11 rfl rfl)
theorem dX4_trades_83 : decode cX4_trades 83 = .ok (.iload_n 3, 1) := dk_29 (dk_at dksX4_trades_3 13 rfl rfl)
theorem dX4_trades_84 : decode cX4_trades 84 = .ok (.iadd, 1) := dk_96 (dk_at dksX4_trades_3 14 rfl rfl)
theorem dX4_trades_85 : decode cX4_trades 85 = .ok (.iaload, 1) := dk_46 (dk_at dksX4_trades_3 15 rfl rfl)
theorem dX4_trades_86 : decode cX4_trades 86 = .ok (.istore 4, 2) := dk_54 4 (dk_at dksX4_trades_3 16 rfl rfl)
theorem dX4_trades_88 : decode cX4_trades 88 = .ok (.iload_n 1, 1) := dk_27 (dk_at dksX4_trades_3 18 rfl rfl)
theorem dX4_trades_89 : decode cX4_trades 89 = .ok (.iload_n 3, 1) := dk_29 (dk_at dksX4_trades_3 19 rfl rfl)
theorem dX4_trades_90 : decode cX4_trades 90 = .ok (.ishr, 1) := dk_122 (dk_at dksX4_trades_3 20 rfl rfl)
theorem dX4_trades_91 : decode cX4_trades 91 = .ok (.iconst 1, 1) := dk_4 (dk_at dksX4_trades_3 21 rfl rfl)
theorem dX4_trades_92 : decode cX4_trades 92 = .ok (.iand, 1) := dk_126 (dk_at dksX4_trades_3 22 rfl rfl)
theorem dX4_trades_93 : decode cX4_trades 93 = .ok (.ifCond .eq 48, 3) := dk_153 0 48 (dk_at dksX4_trades_4 0 rfl rfl)
theorem dX4_trades_96 : decode cX4_trades 96 = .ok (.aload_n 0, 1) := dk_42 (dk_at dksX4_trades_4 3 rfl rfl)
theorem dX4_trades_97 : decode cX4_trades 97 = .ok (.iload 4, 2) := dk_21 4 (dk_at dksX4_trades_4 4 rfl rfl)
theorem dX4_trades_99 : decode cX4_trades 99 = .ok (.invokevirtual 418, 3) := dk_182 1 162 (dk_at dksX4_trades_4 6 rfl rfl)
theorem dX4_trades_102 : decode cX4_trades 102 = .ok (.ifCond .ne 6, 3) := dk_154 0 6 (dk_at dksX4_trades_4 9 rfl rfl)
theorem dX4_trades_105 : decode cX4_trades 105 = .ok (.goto 36, 3) := dk_167 0 36 (dk_at dksX4_trades_4 12 rfl rfl)
theorem dX4_trades_108 : decode cX4_trades 108 = .ok (.aload_n 0, 1) := dk_42 (dk_at dksX4_trades_4 15 rfl rfl)
theorem dX4_trades_109 : decode cX4_trades 109 = .ok (.getfield 87, 3) := dk_180 0 87 (dk_at dksX4_trades_4 16 rfl rfl)
theorem dX4_trades_112 : decode cX4_trades 112 = .ok (.iload 4, 2) := dk_21 4 (dk_at dksX4_trades_4 19 rfl rfl)
theorem dX4_trades_114 : decode cX4_trades 114 = .ok (.aload_n 0, 1) := dk_42 (dk_at dksX4_trades_4 21 rfl rfl)
theorem dX4_trades_115 : decode cX4_trades 115 = .ok (.getfield 84, 3) := dk_180 0 84 (dk_at dksX4_trades_5 0 rfl rfl)
theorem dX4_trades_118 : decode cX4_trades 118 = .ok (.iload 4, 2) := dk_21 4 (dk_at dksX4_trades_5 3 rfl rfl)
theorem dX4_trades_120 : decode cX4_trades 120 = .ok (.iaload, 1) := dk_46 (dk_at dksX4_trades_5 5 rfl rfl)
theorem dX4_trades_121 : decode cX4_trades 121 = .ok (.iastore, 1) := dk_79 (dk_at dksX4_trades_5 6 rfl rfl)
theorem dX4_trades_122 : decode cX4_trades 122 = .ok (.aload_n 0, 1) := dk_42 (dk_at dksX4_trades_5 7 rfl rfl)
theorem dX4_trades_123 : decode cX4_trades 123 = .ok (.getfield 90, 3) := dk_180 0 90 (dk_at dksX4_trades_5 8 rfl rfl)
theorem dX4_trades_126 : decode cX4_trades 126 = .ok (.iload 4, 2) := dk_21 4 (dk_at dksX4_trades_5 11 rfl rfl)
theorem dX4_trades_128 : decode cX4_trades 128 = .ok (.aload_n 0, 1) := dk_42 (dk_at dksX4_trades_5 13 rfl rfl)
theorem dX4_trades_129 : decode cX4_trades 129 = .ok (.iload 4, 2) := dk_21 4 (dk_at dksX4_trades_5 14 rfl rfl)
theorem dX4_trades_131 : decode cX4_trades 131 = .ok (.invokevirtual 418, 3) := dk_182 1 162 (dk_at dksX4_trades_5 16 rfl rfl)
theorem dX4_trades_134 : decode cX4_trades 134 = .ok (.iastore, 1) := dk_79 (dk_at dksX4_trades_5 19 rfl rfl)
theorem dX4_trades_135 : decode cX4_trades 135 = .ok (.iload_n 2, 1) := dk_28 (dk_at dksX4_trades_5 20 rfl rfl)
theorem dX4_trades_136 : decode cX4_trades 136 = .ok (.iconst 1, 1) := dk_4 (dk_at dksX4_trades_5 21 rfl rfl)
theorem dX4_trades_137 : decode cX4_trades 137 = .ok (.iload_n 3, 1) := dk_29 (dk_at dksX4_trades_5 22 rfl rfl)
theorem dX4_trades_138 : decode cX4_trades 138 = .ok (.ishl, 1) := dk_120 (dk_at dksX4_trades_5 23 rfl rfl)
theorem dX4_trades_139 : decode cX4_trades 139 = .ok (.ior, 1) := dk_128 (dk_at dksX4_trades_6 0 rfl rfl)
theorem dX4_trades_140 : decode cX4_trades 140 = .ok (.istore_n 2, 1) := dk_61 (dk_at dksX4_trades_6 1 rfl rfl)
theorem dX4_trades_141 : decode cX4_trades 141 = .ok (.iinc 3 1, 3) := dk_132 3 1 (dk_at dksX4_trades_6 2 rfl rfl)
theorem dX4_trades_144 : decode cX4_trades 144 = .ok (.goto (-75), 3) := dk_167 255 181 (dk_at dksX4_trades_6 5 rfl rfl)
theorem dX4_trades_147 : decode cX4_trades 147 = .ok (.iload_n 1, 1) := dk_27 (dk_at dksX4_trades_6 8 rfl rfl)
theorem dX4_trades_148 : decode cX4_trades 148 = .ok (.iload_n 2, 1) := dk_28 (dk_at dksX4_trades_6 9 rfl rfl)
theorem dX4_trades_149 : decode cX4_trades 149 = .ok (.iconst (-1), 1) := dk_2 (dk_at dksX4_trades_6 10 rfl rfl)
theorem dX4_trades_150 : decode cX4_trades 150 = .ok (.ixor, 1) := dk_130 (dk_at dksX4_trades_6 11 rfl rfl)
theorem dX4_trades_151 : decode cX4_trades 151 = .ok (.iand, 1) := dk_126 (dk_at dksX4_trades_6 12 rfl rfl)
theorem dX4_trades_152 : decode cX4_trades 152 = .ok (.istore_n 1, 1) := dk_60 (dk_at dksX4_trades_6 13 rfl rfl)
theorem dX4_trades_153 : decode cX4_trades 153 = .ok (.goto (-120), 3) := dk_167 255 136 (dk_at dksX4_trades_6 14 rfl rfl)
theorem dX4_trades_156 : decode cX4_trades 156 = .ok (.return_, 1) := dk_177 (dk_at dksX4_trades_6 17 rfl rfl)
abbrev cX4_wantOf : ByteArray := prog_12_method_96_code
def yX4_wantOf : MethodName := ⟨RX4, "wantOf", "(II)I"⟩
def dkwX4_wantOf_3 : List UInt8 := [184, 1, 108, 162, 0, 6, 21, 4, 62, 132, 4, 1, 167, 255, 180, 29, 172]
abbrev dktX4_wantOf_3 : List UInt8 := dkwX4_wantOf_3 ++ []
def dkwX4_wantOf_2 : List UInt8 := [96, 46, 184, 1, 108, 42, 180, 0, 66, 6, 29, 96, 46, 42, 180, 0, 66, 16, 27, 27, 96, 46]
abbrev dktX4_wantOf_2 : List UInt8 := dkwX4_wantOf_2 ++ dktX4_wantOf_3
def dkwX4_wantOf_1 : List UInt8 := [167, 0, 55, 29, 2, 159, 0, 47, 42, 180, 0, 66, 6, 21, 4, 96, 46, 42, 180, 0, 66, 16, 27, 27]
abbrev dktX4_wantOf_1 : List UInt8 := dkwX4_wantOf_1 ++ dktX4_wantOf_2
def dkwX4_wantOf_0 : List UInt8 := [2, 62, 3, 54, 4, 21, 4, 42, 180, 1, 19, 162, 0, 73, 28, 21, 4, 122, 4, 126, 154, 0, 6]
abbrev dktX4_wantOf_0 : List UInt8 := dkwX4_wantOf_0 ++ dktX4_wantOf_1
theorem dksX4_wantOf_0 : cX4_wantOf.data.toList.drop 0 = dktX4_wantOf_0 := by decide +kernel
theorem dksX4_wantOf_1 : cX4_wantOf.data.toList.drop 23 = dktX4_wantOf_1 := dk_seg dksX4_wantOf_0 23 rfl rfl
theorem dksX4_wantOf_2 : cX4_wantOf.data.toList.drop 47 = dktX4_wantOf_2 := dk_seg dksX4_wantOf_1 24 rfl rfl
theorem dksX4_wantOf_3 : cX4_wantOf.data.toList.drop 69 = dktX4_wantOf_3 := dk_seg dksX4_wantOf_2 22 rfl rfl
theorem dX4_wantOf_0 : decode cX4_wantOf 0 = .ok (.iconst (-1), 1) := dk_2 (dk_at dksX4_wantOf_0 0 rfl rfl)
theorem dX4_wantOf_1 : decode cX4_wantOf 1 = .ok (.istore_n 3, 1) := dk_62 (dk_at dksX4_wantOf_0 1 rfl rfl)
theorem dX4_wantOf_2 : decode cX4_wantOf 2 = .ok (.iconst 0, 1) := dk_3 (dk_at dksX4_wantOf_0 2 rfl rfl)
theorem dX4_wantOf_3 : decode cX4_wantOf 3 = .ok (.istore 4, 2) := dk_54 4 (dk_at dksX4_wantOf_0 3 rfl rfl)
theorem dX4_wantOf_5 : decode cX4_wantOf 5 = .ok (.iload 4, 2) := dk_21 4 (dk_at dksX4_wantOf_0 5 rfl rfl)
theorem dX4_wantOf_7 : decode cX4_wantOf 7 = .ok (.aload_n 0, 1) := dk_42 (dk_at dksX4_wantOf_0 7 rfl rfl)
theorem dX4_wantOf_8 : decode cX4_wantOf 8 = .ok (.getfield 275, 3) := dk_180 1 19 (dk_at dksX4_wantOf_0 8 rfl rfl)
theorem dX4_wantOf_11 : decode cX4_wantOf 11 = .ok (.if_icmp .ge 73, 3) := dk_162 0 73 (dk_at dksX4_wantOf_0 11 rfl rfl)
theorem dX4_wantOf_14 : decode cX4_wantOf 14 = .ok (.iload_n 2, 1) := dk_28 (dk_at dksX4_wantOf_0 14 rfl rfl)
theorem dX4_wantOf_15 : decode cX4_wantOf 15 = .ok (.iload 4, 2) := dk_21 4 (dk_at dksX4_wantOf_0 15 rfl rfl)
theorem dX4_wantOf_17 : decode cX4_wantOf 17 = .ok (.ishr, 1) := dk_122 (dk_at dksX4_wantOf_0 17 rfl rfl)
theorem dX4_wantOf_18 : decode cX4_wantOf 18 = .ok (.iconst 1, 1) := dk_4 (dk_at dksX4_wantOf_0 18 rfl rfl)
theorem dX4_wantOf_19 : decode cX4_wantOf 19 = .ok (.iand, 1) := dk_126 (dk_at dksX4_wantOf_0 19 rfl rfl)
theorem dX4_wantOf_20 : decode cX4_wantOf 20 = .ok (.ifCond .ne 6, 3) := dk_154 0 6 (dk_at dksX4_wantOf_0 20 rfl rfl)
theorem dX4_wantOf_23 : decode cX4_wantOf 23 = .ok (.goto 55, 3) := dk_167 0 55 (dk_at dksX4_wantOf_1 0 rfl rfl)
theorem dX4_wantOf_26 : decode cX4_wantOf 26 = .ok (.iload_n 3, 1) := dk_29 (dk_at dksX4_wantOf_1 3 rfl rfl)
theorem dX4_wantOf_27 : decode cX4_wantOf 27 = .ok (.iconst (-1), 1) := dk_2 (dk_at dksX4_wantOf_1 4 rfl rfl)
theorem dX4_wantOf_28 : decode cX4_wantOf 28 = .ok (.if_icmp .eq 47, 3) := dk_159 0 47 (dk_at dksX4_wantOf_1 5 rfl rfl)
theorem dX4_wantOf_31 : decode cX4_wantOf 31 = .ok (.aload_n 0, 1) := dk_42 (dk_at dksX4_wantOf_1 8 rfl rfl)
theorem dX4_wantOf_32 : decode cX4_wantOf 32 = .ok (.getfield 66, 3) := dk_180 0 66 (dk_at dksX4_wantOf_1 9 rfl rfl)
theorem dX4_wantOf_35 : decode cX4_wantOf 35 = .ok (.iconst 3, 1) := dk_6 (dk_at dksX4_wantOf_1 12 rfl rfl)
theorem dX4_wantOf_36 : decode cX4_wantOf 36 = .ok (.iload 4, 2) := dk_21 4 (dk_at dksX4_wantOf_1 13 rfl rfl)
theorem dX4_wantOf_38 : decode cX4_wantOf 38 = .ok (.iadd, 1) := dk_96 (dk_at dksX4_wantOf_1 15 rfl rfl)
theorem dX4_wantOf_39 : decode cX4_wantOf 39 = .ok (.iaload, 1) := dk_46 (dk_at dksX4_wantOf_1 16 rfl rfl)
theorem dX4_wantOf_40 : decode cX4_wantOf 40 = .ok (.aload_n 0, 1) := dk_42 (dk_at dksX4_wantOf_1 17 rfl rfl)
theorem dX4_wantOf_41 : decode cX4_wantOf 41 = .ok (.getfield 66, 3) := dk_180 0 66 (dk_at dksX4_wantOf_1 18 rfl rfl)
theorem dX4_wantOf_44 : decode cX4_wantOf 44 = .ok (.bipush 27, 2) := dk_16 27 (dk_at dksX4_wantOf_1 21 rfl rfl)
theorem dX4_wantOf_46 : decode cX4_wantOf 46 = .ok (.iload_n 1, 1) := dk_27 (dk_at dksX4_wantOf_1 23 rfl rfl)
theorem dX4_wantOf_47 : decode cX4_wantOf 47 = .ok (.iadd, 1) := dk_96 (dk_at dksX4_wantOf_2 0 rfl rfl)
theorem dX4_wantOf_48 : decode cX4_wantOf 48 = .ok (.iaload, 1) := dk_46 (dk_at dksX4_wantOf_2 1 rfl rfl)
theorem dX4_wantOf_49 : decode cX4_wantOf 49 = .ok (.invokestatic 364, 3) := dk_184 1 108 (dk_at dksX4_wantOf_2 2 rfl rfl)
theorem dX4_wantOf_52 : decode cX4_wantOf 52 = .ok (.aload_n 0, 1) := dk_42 (dk_at dksX4_wantOf_2 5 rfl rfl)
theorem dX4_wantOf_53 : decode cX4_wantOf 53 = .ok (.getfield 66, 3) := dk_180 0 66 (dk_at dksX4_wantOf_2 6 rfl rfl)
theorem dX4_wantOf_56 : decode cX4_wantOf 56 = .ok (.iconst 3, 1) := dk_6 (dk_at dksX4_wantOf_2 9 rfl rfl)
theorem dX4_wantOf_57 : decode cX4_wantOf 57 = .ok (.iload_n 3, 1) := dk_29 (dk_at dksX4_wantOf_2 10 rfl rfl)
theorem dX4_wantOf_58 : decode cX4_wantOf 58 = .ok (.iadd, 1) := dk_96 (dk_at dksX4_wantOf_2 11 rfl rfl)
theorem dX4_wantOf_59 : decode cX4_wantOf 59 = .ok (.iaload, 1) := dk_46 (dk_at dksX4_wantOf_2 12 rfl rfl)
theorem dX4_wantOf_60 : decode cX4_wantOf 60 = .ok (.aload_n 0, 1) := dk_42 (dk_at dksX4_wantOf_2 13 rfl rfl)
theorem dX4_wantOf_61 : decode cX4_wantOf 61 = .ok (.getfield 66, 3) := dk_180 0 66 (dk_at dksX4_wantOf_2 14 rfl rfl)
theorem dX4_wantOf_64 : decode cX4_wantOf 64 = .ok (.bipush 27, 2) := dk_16 27 (dk_at dksX4_wantOf_2 17 rfl rfl)
theorem dX4_wantOf_66 : decode cX4_wantOf 66 = .ok (.iload_n 1, 1) := dk_27 (dk_at dksX4_wantOf_2 19 rfl rfl)
theorem dX4_wantOf_67 : decode cX4_wantOf 67 = .ok (.iadd, 1) := dk_96 (dk_at dksX4_wantOf_2 20 rfl rfl)
theorem dX4_wantOf_68 : decode cX4_wantOf 68 = .ok (.iaload, 1) := dk_46 (dk_at dksX4_wantOf_2 21 rfl rfl)
theorem dX4_wantOf_69 : decode cX4_wantOf 69 = .ok (.invokestatic 364, 3) := dk_184 1 108 (dk_at dksX4_wantOf_3 0 rfl rfl)
theorem dX4_wantOf_72 : decode cX4_wantOf 72 = .ok (.if_icmp .ge 6, 3) := dk_162 0 6 (dk_at dksX4_wantOf_3 3 rfl rfl)
theorem dX4_wantOf_75 : decode cX4_wantOf 75 = .ok (.iload 4, 2) := dk_21 4 (dk_at dksX4_wantOf_3 6 rfl rfl)
theorem dX4_wantOf_77 : decode cX4_wantOf 77 = .ok (.istore_n 3, 1) := dk_62 (dk_at dksX4_wantOf_3 8 rfl rfl)
theorem dX4_wantOf_78 : decode cX4_wantOf 78 = .ok (.iinc 4 1, 3) := dk_132 4 1 (dk_at dksX4_wantOf_3 9 rfl rfl)
theorem dX4_wantOf_81 : decode cX4_wantOf 81 = .ok (.goto (-76), 3) := dk_167 255 180 (dk_at dksX4_wantOf_3 12 rfl rfl)
theorem dX4_wantOf_84 : decode cX4_wantOf 84 = .ok (.iload_n 3, 1) := dk_29 (dk_at dksX4_wantOf_3 15 rfl rfl)
theorem dX4_wantOf_85 : decode cX4_wantOf 85 = .ok (.ireturn, 1) := dk_172 (dk_at dksX4_wantOf_3 16 rfl rfl)
abbrev cX4_ringOf : ByteArray := prog_12_method_97_code
def yX4_ringOf : MethodName := ⟨RX4, "ringOf", "(I)I"⟩
def dkwX4_ringOf_1 : List UInt8 := [61, 28, 27, 160, 0, 5, 29, 172, 132, 3, 1, 167, 255, 225, 3, 172]
abbrev dktX4_ringOf_1 : List UInt8 := dkwX4_ringOf_1 ++ []
def dkwX4_ringOf_0 : List UInt8 := [27, 61, 4, 62, 29, 16, 8, 163, 0, 31, 42, 180, 0, 66, 16, 19, 42, 180, 0, 84, 28, 46, 96, 46]
abbrev dktX4_ringOf_0 : List UInt8 := dkwX4_ringOf_0 ++ dktX4_ringOf_1
theorem dksX4_ringOf_0 : cX4_ringOf.data.toList.drop 0 = dktX4_ringOf_0 := by decide +kernel
theorem dksX4_ringOf_1 : cX4_ringOf.data.toList.drop 24 = dktX4_ringOf_1 := dk_seg dksX4_ringOf_0 24 rfl rfl
theorem dX4_ringOf_0 : decode cX4_ringOf 0 = .ok (.iload_n 1, 1) := dk_27 (dk_at dksX4_ringOf_0 0 rfl rfl)
theorem dX4_ringOf_1 : decode cX4_ringOf 1 = .ok (.istore_n 2, 1) := dk_61 (dk_at dksX4_ringOf_0 1 rfl rfl)
theorem dX4_ringOf_2 : decode cX4_ringOf 2 = .ok (.iconst 1, 1) := dk_4 (dk_at dksX4_ringOf_0 2 rfl rfl)
theorem dX4_ringOf_3 : decode cX4_ringOf 3 = .ok (.istore_n 3, 1) := dk_62 (dk_at dksX4_ringOf_0 3 rfl rfl)
theorem dX4_ringOf_4 : decode cX4_ringOf 4 = .ok (.iload_n 3, 1) := dk_29 (dk_at dksX4_ringOf_0 4 rfl rfl)
theorem dX4_ringOf_5 : decode cX4_ringOf 5 = .ok (.bipush 8, 2) := dk_16 8 (dk_at dksX4_ringOf_0 5 rfl rfl)
theorem dX4_ringOf_7 : decode cX4_ringOf 7 = .ok (.if_icmp .gt 31, 3) := dk_163 0 31 (dk_at dksX4_ringOf_0 7 rfl rfl)
theorem dX4_ringOf_10 : decode cX4_ringOf 10 = .ok (.aload_n 0, 1) := dk_42 (dk_at dksX4_ringOf_0 10 rfl rfl)
theorem dX4_ringOf_11 : decode cX4_ringOf 11 = .ok (.getfield 66, 3) := dk_180 0 66 (dk_at dksX4_ringOf_0 11 rfl rfl)
theorem dX4_ringOf_14 : decode cX4_ringOf 14 = .ok (.bipush 19, 2) := dk_16 19 (dk_at dksX4_ringOf_0 14 rfl rfl)
theorem dX4_ringOf_16 : decode cX4_ringOf 16 = .ok (.aload_n 0, 1) := dk_42 (dk_at dksX4_ringOf_0 16 rfl rfl)
theorem dX4_ringOf_17 : decode cX4_ringOf 17 = .ok (.getfield 84, 3) := dk_180 0 84 (dk_at dksX4_ringOf_0 17 rfl rfl)
theorem dX4_ringOf_20 : decode cX4_ringOf 20 = .ok (.iload_n 2, 1) := dk_28 (dk_at dksX4_ringOf_0 20 rfl rfl)
theorem dX4_ringOf_21 : decode cX4_ringOf 21 = .ok (.iaload, 1) := dk_46 (dk_at dksX4_ringOf_0 21 rfl rfl)
theorem dX4_ringOf_22 : decode cX4_ringOf 22 = .ok (.iadd, 1) := dk_96 (dk_at dksX4_ringOf_0 22 rfl rfl)
theorem dX4_ringOf_23 : decode cX4_ringOf 23 = .ok (.iaload, 1) := dk_46 (dk_at dksX4_ringOf_0 23 rfl rfl)
theorem dX4_ringOf_24 : decode cX4_ringOf 24 = .ok (.istore_n 2, 1) := dk_61 (dk_at dksX4_ringOf_1 0 rfl rfl)
theorem dX4_ringOf_25 : decode cX4_ringOf 25 = .ok (.iload_n 2, 1) := dk_28 (dk_at dksX4_ringOf_1 1 rfl rfl)
theorem dX4_ringOf_26 : decode cX4_ringOf 26 = .ok (.iload_n 1, 1) := dk_27 (dk_at dksX4_ringOf_1 2 rfl rfl)
theorem dX4_ringOf_27 : decode cX4_ringOf 27 = .ok (.if_icmp .ne 5, 3) := dk_160 0 5 (dk_at dksX4_ringOf_1 3 rfl rfl)
theorem dX4_ringOf_30 : decode cX4_ringOf 30 = .ok (.iload_n 3, 1) := dk_29 (dk_at dksX4_ringOf_1 6 rfl rfl)
theorem dX4_ringOf_31 : decode cX4_ringOf 31 = .ok (.ireturn, 1) := dk_172 (dk_at dksX4_ringOf_1 7 rfl rfl)
theorem dX4_ringOf_32 : decode cX4_ringOf 32 = .ok (.iinc 3 1, 3) := dk_132 3 1 (dk_at dksX4_ringOf_1 8 rfl rfl)
theorem dX4_ringOf_35 : decode cX4_ringOf 35 = .ok (.goto (-31), 3) := dk_167 255 225 (dk_at dksX4_ringOf_1 11 rfl rfl)
theorem dX4_ringOf_38 : decode cX4_ringOf 38 = .ok (.iconst 0, 1) := dk_3 (dk_at dksX4_ringOf_1 14 rfl rfl)
theorem dX4_ringOf_39 : decode cX4_ringOf 39 = .ok (.ireturn, 1) := dk_172 (dk_at dksX4_ringOf_1 15 rfl rfl)
abbrev cX4_ringed : ByteArray := prog_12_method_100_code
def yX4_ringed : MethodName := ⟨RX4, "ringed", "(I)I"⟩
def dkwX4_ringed_1 : List UInt8 := [46, 172]
abbrev dktX4_ringed_1 : List UInt8 := dkwX4_ringed_1 ++ []
def dkwX4_ringed_0 : List UInt8 := [42, 3, 181, 0, 111, 42, 27, 182, 1, 123, 154, 0, 5, 3, 172, 42, 182, 1, 165, 42, 180, 0, 90, 27]
abbrev dktX4_ringed_0 : List UInt8 := dkwX4_ringed_0 ++ dktX4_ringed_1
theorem dksX4_ringed_0 : cX4_ringed.data.toList.drop 0 = dktX4_ringed_0 := by decide +kernel
theorem dksX4_ringed_1 : cX4_ringed.data.toList.drop 24 = dktX4_ringed_1 := dk_seg dksX4_ringed_0 24 rfl rfl
theorem dX4_ringed_0 : decode cX4_ringed 0 = .ok (.aload_n 0, 1) := dk_42 (dk_at dksX4_ringed_0 0 rfl rfl)
theorem dX4_ringed_1 : decode cX4_ringed 1 = .ok (.iconst 0, 1) := dk_3 (dk_at dksX4_ringed_0 1 rfl rfl)
theorem dX4_ringed_2 : decode cX4_ringed 2 = .ok (.putfield 111, 3) := dk_181 0 111 (dk_at dksX4_ringed_0 2 rfl rfl)
theorem dX4_ringed_5 : decode cX4_ringed 5 = .ok (.aload_n 0, 1) := dk_42 (dk_at dksX4_ringed_0 5 rfl rfl)
theorem dX4_ringed_6 : decode cX4_ringed 6 = .ok (.iload_n 1, 1) := dk_27 (dk_at dksX4_ringed_0 6 rfl rfl)
theorem dX4_ringed_7 : decode cX4_ringed 7 = .ok (.invokevirtual 379, 3) := dk_182 1 123 (dk_at dksX4_ringed_0 7 rfl rfl)
theorem dX4_ringed_10 : decode cX4_ringed 10 = .ok (.ifCond .ne 5, 3) := dk_154 0 5 (dk_at dksX4_ringed_0 10 rfl rfl)
theorem dX4_ringed_13 : decode cX4_ringed 13 = .ok (.iconst 0, 1) := dk_3 (dk_at dksX4_ringed_0 13 rfl rfl)
theorem dX4_ringed_14 : decode cX4_ringed 14 = .ok (.ireturn, 1) := dk_172 (dk_at dksX4_ringed_0 14 rfl rfl)
theorem dX4_ringed_15 : decode cX4_ringed 15 = .ok (.aload_n 0, 1) := dk_42 (dk_at dksX4_ringed_0 15 rfl rfl)
theorem dX4_ringed_16 : decode cX4_ringed 16 = .ok (.invokevirtual 421, 3) := dk_182 1 165 (dk_at dksX4_ringed_0 16 rfl rfl)
theorem dX4_ringed_19 : decode cX4_ringed 19 = .ok (.aload_n 0, 1) := dk_42 (dk_at dksX4_ringed_0 19 rfl rfl)
theorem dX4_ringed_20 : decode cX4_ringed 20 = .ok (.getfield 90, 3) := dk_180 0 90 (dk_at dksX4_ringed_0 20 rfl rfl)
theorem dX4_ringed_23 : decode cX4_ringed 23 = .ok (.iload_n 1, 1) := dk_27 (dk_at dksX4_ringed_0 23 rfl rfl)
theorem dX4_ringed_24 : decode cX4_ringed 24 = .ok (.iaload, 1) := dk_46 (dk_at dksX4_ringed_1 0 rfl rfl)
theorem dX4_ringed_25 : decode cX4_ringed 25 = .ok (.ireturn, 1) := dk_172 (dk_at dksX4_ringed_1 1 rfl rfl)
abbrev cX4_toStuff : ByteArray := prog_12_method_101_code
def yX4_toStuff : MethodName := ⟨RX4, "toStuff", "(II)I"⟩
def dkwX4_toStuff_2 : List UInt8 := [62, 29, 16, 20, 164, 0, 7, 2, 167, 0, 4, 29, 172]
abbrev dktX4_toStuff_2 : List UInt8 := dkwX4_toStuff_2 ++ []
def dkwX4_toStuff_1 : List UInt8 := [180, 0, 66, 6, 28, 96, 46, 42, 180, 0, 66, 16, 27, 27, 96, 46, 100, 3, 19, 1, 49, 184, 1, 50]
abbrev dktX4_toStuff_1 : List UInt8 := dkwX4_toStuff_1 ++ dktX4_toStuff_2
def dkwX4_toStuff_0 : List UInt8 := [42, 3, 181, 0, 111, 42, 27, 182, 1, 123, 153, 0, 11, 42, 28, 182, 1, 111, 154, 0, 5, 3, 172, 42]
abbrev dktX4_toStuff_0 : List UInt8 := dkwX4_toStuff_0 ++ dktX4_toStuff_1
theorem dksX4_toStuff_0 : cX4_toStuff.data.toList.drop 0 = dktX4_toStuff_0 := by decide +kernel
theorem dksX4_toStuff_1 : cX4_toStuff.data.toList.drop 24 = dktX4_toStuff_1 := dk_seg dksX4_toStuff_0 24 rfl rfl
theorem dksX4_toStuff_2 : cX4_toStuff.data.toList.drop 48 = dktX4_toStuff_2 := dk_seg dksX4_toStuff_1 24 rfl rfl
theorem dX4_toStuff_0 : decode cX4_toStuff 0 = .ok (.aload_n 0, 1) := dk_42 (dk_at dksX4_toStuff_0 0 rfl rfl)
theorem dX4_toStuff_1 : decode cX4_toStuff 1 = .ok (.iconst 0, 1) := dk_3 (dk_at dksX4_toStuff_0 1 rfl rfl)
theorem dX4_toStuff_2 : decode cX4_toStuff 2 = .ok (.putfield 111, 3) := dk_181 0 111 (dk_at dksX4_toStuff_0 2 rfl rfl)
theorem dX4_toStuff_5 : decode cX4_toStuff 5 = .ok (.aload_n 0, 1) := dk_42 (dk_at dksX4_toStuff_0 5 rfl rfl)
theorem dX4_toStuff_6 : decode cX4_toStuff 6 = .ok (.iload_n 1, 1) := dk_27 (dk_at dksX4_toStuff_0 6 rfl rfl)
theorem dX4_toStuff_7 : decode cX4_toStuff 7 = .ok (.invokevirtual 379, 3) := dk_182 1 123 (dk_at dksX4_toStuff_0 7 rfl rfl)
theorem dX4_toStuff_10 : decode cX4_toStuff 10 = .ok (.ifCond .eq 11, 3) := dk_153 0 11 (dk_at dksX4_toStuff_0 10 rfl rfl)
theorem dX4_toStuff_13 : decode cX4_toStuff 13 = .ok (.aload_n 0, 1) := dk_42 (dk_at dksX4_toStuff_0 13 rfl rfl)
theorem dX4_toStuff_14 : decode cX4_toStuff 14 = .ok (.iload_n 2, 1) := dk_28 (dk_at dksX4_toStuff_0 14 rfl rfl)
theorem dX4_toStuff_15 : decode cX4_toStuff 15 = .ok (.invokevirtual 367, 3) := dk_182 1 111 (dk_at dksX4_toStuff_0 15 rfl rfl)
theorem dX4_toStuff_18 : decode cX4_toStuff 18 = .ok (.ifCond .ne 5, 3) := dk_154 0 5 (dk_at dksX4_toStuff_0 18 rfl rfl)
theorem dX4_toStuff_21 : decode cX4_toStuff 21 = .ok (.iconst 0, 1) := dk_3 (dk_at dksX4_toStuff_0 21 rfl rfl)
theorem dX4_toStuff_22 : decode cX4_toStuff 22 = .ok (.ireturn, 1) := dk_172 (dk_at dksX4_toStuff_0 22 rfl rfl)
theorem dX4_toStuff_23 : decode cX4_toStuff 23 = .ok (.aload_n 0, 1) := dk_42 (dk_at dksX4_toStuff_0 23 rfl rfl)
theorem dX4_toStuff_24 : decode cX4_toStuff 24 = .ok (.getfield 66, 3) := dk_180 0 66 (dk_at dksX4_toStuff_1 0 rfl rfl)
theorem dX4_toStuff_27 : decode cX4_toStuff 27 = .ok (.iconst 3, 1) := dk_6 (dk_at dksX4_toStuff_1 3 rfl rfl)
theorem dX4_toStuff_28 : decode cX4_toStuff 28 = .ok (.iload_n 2, 1) := dk_28 (dk_at dksX4_toStuff_1 4 rfl rfl)
theorem dX4_toStuff_29 : decode cX4_toStuff 29 = .ok (.iadd, 1) := dk_96 (dk_at dksX4_toStuff_1 5 rfl rfl)
theorem dX4_toStuff_30 : decode cX4_toStuff 30 = .ok (.iaload, 1) := dk_46 (dk_at dksX4_toStuff_1 6 rfl rfl)
theorem dX4_toStuff_31 : decode cX4_toStuff 31 = .ok (.aload_n 0, 1) := dk_42 (dk_at dksX4_toStuff_1 7 rfl rfl)
theorem dX4_toStuff_32 : decode cX4_toStuff 32 = .ok (.getfield 66, 3) := dk_180 0 66 (dk_at dksX4_toStuff_1 8 rfl rfl)
theorem dX4_toStuff_35 : decode cX4_toStuff 35 = .ok (.bipush 27, 2) := dk_16 27 (dk_at dksX4_toStuff_1 11 rfl rfl)
theorem dX4_toStuff_37 : decode cX4_toStuff 37 = .ok (.iload_n 1, 1) := dk_27 (dk_at dksX4_toStuff_1 13 rfl rfl)
theorem dX4_toStuff_38 : decode cX4_toStuff 38 = .ok (.iadd, 1) := dk_96 (dk_at dksX4_toStuff_1 14 rfl rfl)
theorem dX4_toStuff_39 : decode cX4_toStuff 39 = .ok (.iaload, 1) := dk_46 (dk_at dksX4_toStuff_1 15 rfl rfl)
theorem dX4_toStuff_40 : decode cX4_toStuff 40 = .ok (.isub, 1) := dk_100 (dk_at dksX4_toStuff_1 16 rfl rfl)
theorem dX4_toStuff_41 : decode cX4_toStuff 41 = .ok (.iconst 0, 1) := dk_3 (dk_at dksX4_toStuff_1 17 rfl rfl)
theorem dX4_toStuff_42 : decode cX4_toStuff 42 = .ok (.ldc_w 305, 3) := dk_19 1 49 (dk_at dksX4_toStuff_1 18 rfl rfl)
theorem dX4_toStuff_45 : decode cX4_toStuff 45 = .ok (.invokestatic 306, 3) := dk_184 1 50 (dk_at dksX4_toStuff_1 21 rfl rfl)
theorem dX4_toStuff_48 : decode cX4_toStuff 48 = .ok (.istore_n 3, 1) := dk_62 (dk_at dksX4_toStuff_2 0 rfl rfl)
theorem dX4_toStuff_49 : decode cX4_toStuff 49 = .ok (.iload_n 3, 1) := dk_29 (dk_at dksX4_toStuff_2 1 rfl rfl)
theorem dX4_toStuff_50 : decode cX4_toStuff 50 = .ok (.bipush 20, 2) := dk_16 20 (dk_at dksX4_toStuff_2 2 rfl rfl)
theorem dX4_toStuff_52 : decode cX4_toStuff 52 = .ok (.if_icmp .le 7, 3) := dk_164 0 7 (dk_at dksX4_toStuff_2 4 rfl rfl)
theorem dX4_toStuff_55 : decode cX4_toStuff 55 = .ok (.iconst (-1), 1) := dk_2 (dk_at dksX4_toStuff_2 7 rfl rfl)
theorem dX4_toStuff_56 : decode cX4_toStuff 56 = .ok (.goto 4, 3) := dk_167 0 4 (dk_at dksX4_toStuff_2 8 rfl rfl)
theorem dX4_toStuff_59 : decode cX4_toStuff 59 = .ok (.iload_n 3, 1) := dk_29 (dk_at dksX4_toStuff_2 11 rfl rfl)
theorem dX4_toStuff_60 : decode cX4_toStuff 60 = .ok (.ireturn, 1) := dk_172 (dk_at dksX4_toStuff_2 12 rfl rfl)
abbrev cX4_toWait : ByteArray := prog_12_method_102_code
def yX4_toWait : MethodName := ⟨RX4, "toWait", "(II)I"⟩
def dkwX4_toWait_2 : List UInt8 := [42, 16, 43, 182, 1, 80, 132, 3, 1, 167, 255, 228, 2, 172]
abbrev dktX4_toWait_2 : List UInt8 := dkwX4_toWait_2 ++ []
def dkwX4_toWait_1 : List UInt8 := [182, 1, 135, 3, 62, 29, 16, 40, 163, 0, 28, 42, 16, 43, 27, 28, 182, 1, 132, 153, 0, 5, 29, 172]
abbrev dktX4_toWait_1 : List UInt8 := dkwX4_toWait_1 ++ dktX4_toWait_2
def dkwX4_toWait_0 : List UInt8 := [42, 3, 181, 0, 111, 42, 27, 182, 1, 123, 153, 0, 11, 42, 28, 182, 1, 111, 154, 0, 5, 3, 172, 42]
abbrev dktX4_toWait_0 : List UInt8 := dkwX4_toWait_0 ++ dktX4_toWait_1
theorem dksX4_toWait_0 : cX4_toWait.data.toList.drop 0 = dktX4_toWait_0 := by decide +kernel
theorem dksX4_toWait_1 : cX4_toWait.data.toList.drop 24 = dktX4_toWait_1 := dk_seg dksX4_toWait_0 24 rfl rfl
theorem dksX4_toWait_2 : cX4_toWait.data.toList.drop 48 = dktX4_toWait_2 := dk_seg dksX4_toWait_1 24 rfl rfl
theorem dX4_toWait_0 : decode cX4_toWait 0 = .ok (.aload_n 0, 1) := dk_42 (dk_at dksX4_toWait_0 0 rfl rfl)
theorem dX4_toWait_1 : decode cX4_toWait 1 = .ok (.iconst 0, 1) := dk_3 (dk_at dksX4_toWait_0 1 rfl rfl)
theorem dX4_toWait_2 : decode cX4_toWait 2 = .ok (.putfield 111, 3) := dk_181 0 111 (dk_at dksX4_toWait_0 2 rfl rfl)
theorem dX4_toWait_5 : decode cX4_toWait 5 = .ok (.aload_n 0, 1) := dk_42 (dk_at dksX4_toWait_0 5 rfl rfl)
theorem dX4_toWait_6 : decode cX4_toWait 6 = .ok (.iload_n 1, 1) := dk_27 (dk_at dksX4_toWait_0 6 rfl rfl)
theorem dX4_toWait_7 : decode cX4_toWait 7 = .ok (.invokevirtual 379, 3) := dk_182 1 123 (dk_at dksX4_toWait_0 7 rfl rfl)
theorem dX4_toWait_10 : decode cX4_toWait 10 = .ok (.ifCond .eq 11, 3) := dk_153 0 11 (dk_at dksX4_toWait_0 10 rfl rfl)
theorem dX4_toWait_13 : decode cX4_toWait 13 = .ok (.aload_n 0, 1) := dk_42 (dk_at dksX4_toWait_0 13 rfl rfl)
theorem dX4_toWait_14 : decode cX4_toWait 14 = .ok (.iload_n 2, 1) := dk_28 (dk_at dksX4_toWait_0 14 rfl rfl)
theorem dX4_toWait_15 : decode cX4_toWait 15 = .ok (.invokevirtual 367, 3) := dk_182 1 111 (dk_at dksX4_toWait_0 15 rfl rfl)
theorem dX4_toWait_18 : decode cX4_toWait 18 = .ok (.ifCond .ne 5, 3) := dk_154 0 5 (dk_at dksX4_toWait_0 18 rfl rfl)
theorem dX4_toWait_21 : decode cX4_toWait 21 = .ok (.iconst 0, 1) := dk_3 (dk_at dksX4_toWait_0 21 rfl rfl)
theorem dX4_toWait_22 : decode cX4_toWait 22 = .ok (.ireturn, 1) := dk_172 (dk_at dksX4_toWait_0 22 rfl rfl)
theorem dX4_toWait_23 : decode cX4_toWait 23 = .ok (.aload_n 0, 1) := dk_42 (dk_at dksX4_toWait_0 23 rfl rfl)
theorem dX4_toWait_24 : decode cX4_toWait 24 = .ok (.invokevirtual 391, 3) := dk_182 1 135 (dk_at dksX4_toWait_1 0 rfl rfl)
theorem dX4_toWait_27 : decode cX4_toWait 27 = .ok (.iconst 0, 1) := dk_3 (dk_at dksX4_toWait_1 3 rfl rfl)
theorem dX4_toWait_28 : decode cX4_toWait 28 = .ok (.istore_n 3, 1) := dk_62 (dk_at dksX4_toWait_1 4 rfl rfl)
theorem dX4_toWait_29 : decode cX4_toWait 29 = .ok (.iload_n 3, 1) := dk_29 (dk_at dksX4_toWait_1 5 rfl rfl)
theorem dX4_toWait_30 : decode cX4_toWait 30 = .ok (.bipush 40, 2) := dk_16 40 (dk_at dksX4_toWait_1 6 rfl rfl)
theorem dX4_toWait_32 : decode cX4_toWait 32 = .ok (.if_icmp .gt 28, 3) := dk_163 0 28 (dk_at dksX4_toWait_1 8 rfl rfl)
theorem dX4_toWait_35 : decode cX4_toWait 35 = .ok (.aload_n 0, 1) := dk_42 (dk_at dksX4_toWait_1 11 rfl rfl)
theorem dX4_toWait_36 : decode cX4_toWait 36 = .ok (.bipush 43, 2) := dk_16 43 (dk_at dksX4_toWait_1 12 rfl rfl)
theorem dX4_toWait_38 : decode cX4_toWait 38 = .ok (.iload_n 1, 1) := dk_27 (dk_at dksX4_toWait_1 14 rfl rfl)
theorem dX4_toWait_39 : decode cX4_toWait 39 = .ok (.iload_n 2, 1) := dk_28 (dk_at dksX4_toWait_1 15 rfl rfl)
theorem dX4_toWait_40 : decode cX4_toWait 40 = .ok (.invokevirtual 388, 3) := dk_182 1 132 (dk_at dksX4_toWait_1 16 rfl rfl)
theorem dX4_toWait_43 : decode cX4_toWait 43 = .ok (.ifCond .eq 5, 3) := dk_153 0 5 (dk_at dksX4_toWait_1 19 rfl rfl)
theorem dX4_toWait_46 : decode cX4_toWait 46 = .ok (.iload_n 3, 1) := dk_29 (dk_at dksX4_toWait_1 22 rfl rfl)
theorem dX4_toWait_47 : decode cX4_toWait 47 = .ok (.ireturn, 1) := dk_172 (dk_at dksX4_toWait_1 23 rfl rfl)
theorem dX4_toWait_48 : decode cX4_toWait 48 = .ok (.aload_n 0, 1) := dk_42 (dk_at dksX4_toWait_2 0 rfl rfl)
theorem dX4_toWait_49 : decode cX4_toWait 49 = .ok (.bipush 43, 2) := dk_16 43 (dk_at dksX4_toWait_2 1 rfl rfl)
theorem dX4_toWait_51 : decode cX4_toWait 51 = .ok (.invokevirtual 336, 3) := dk_182 1 80 (dk_at dksX4_toWait_2 3 rfl rfl)
theorem dX4_toWait_54 : decode cX4_toWait 54 = .ok (.iinc 3 1, 3) := dk_132 3 1 (dk_at dksX4_toWait_2 6 rfl rfl)
theorem dX4_toWait_57 : decode cX4_toWait 57 = .ok (.goto (-28), 3) := dk_167 255 228 (dk_at dksX4_toWait_2 9 rfl rfl)
theorem dX4_toWait_60 : decode cX4_toWait 60 = .ok (.iconst (-1), 1) := dk_2 (dk_at dksX4_toWait_2 12 rfl rfl)
theorem dX4_toWait_61 : decode cX4_toWait 61 = .ok (.ireturn, 1) := dk_172 (dk_at dksX4_toWait_2 13 rfl rfl)
abbrev cX4_round : ByteArray := prog_12_method_103_code
def yX4_round : MethodName := ⟨RX4, "round", "(I)I"⟩
def dkwX4_round_6 : List UInt8 := [172]
abbrev dktX4_round_6 : List UInt8 := dkwX4_round_6 ++ []
def dkwX4_round_5 : List UInt8 := [160, 0, 7, 3, 167, 0, 20, 29, 28, 100, 27, 28, 184, 1, 108, 27, 29, 184, 1, 108, 184, 1, 73, 96]
abbrev dktX4_round_5 : List UInt8 := dkwX4_round_5 ++ dktX4_round_6
def dkwX4_round_4 : List UInt8 := [164, 0, 13, 42, 180, 0, 20, 21, 4, 46, 167, 0, 4, 29, 62, 132, 4, 1, 167, 255, 176, 29, 2]
abbrev dktX4_round_4 : List UInt8 := dkwX4_round_4 ++ dktX4_round_5
def dkwX4_round_3 : List UInt8 := [167, 0, 38, 28, 42, 180, 0, 20, 21, 4, 46, 184, 1, 73, 61, 42, 180, 0, 20, 21, 4, 46, 29]
abbrev dktX4_round_3 : List UInt8 := dkwX4_round_3 ++ dktX4_round_4
def dkwX4_round_2 : List UInt8 := [21, 4, 96, 46, 54, 5, 21, 5, 2, 159, 0, 53, 42, 3, 21, 5, 21, 4, 182, 1, 56, 154, 0, 6]
abbrev dktX4_round_2 : List UInt8 := dkwX4_round_2 ++ dktX4_round_3
def dkwX4_round_1 : List UInt8 := [19, 1, 49, 61, 2, 62, 3, 54, 4, 21, 4, 42, 180, 1, 19, 162, 0, 77, 42, 180, 0, 66, 16, 19]
abbrev dktX4_round_1 : List UInt8 := dkwX4_round_1 ++ dktX4_round_2
def dkwX4_round_0 : List UInt8 := [42, 3, 181, 0, 111, 42, 27, 3, 16, 30, 184, 1, 89, 4, 182, 1, 12, 154, 0, 5, 3, 172]
abbrev dktX4_round_0 : List UInt8 := dkwX4_round_0 ++ dktX4_round_1
theorem dksX4_round_0 : cX4_round.data.toList.drop 0 = dktX4_round_0 := by decide +kernel
theorem dksX4_round_1 : cX4_round.data.toList.drop 22 = dktX4_round_1 := dk_seg dksX4_round_0 22 rfl rfl
theorem dksX4_round_2 : cX4_round.data.toList.drop 46 = dktX4_round_2 := dk_seg dksX4_round_1 24 rfl rfl
theorem dksX4_round_3 : cX4_round.data.toList.drop 70 = dktX4_round_3 := dk_seg dksX4_round_2 24 rfl rfl
theorem dksX4_round_4 : cX4_round.data.toList.drop 93 = dktX4_round_4 := dk_seg dksX4_round_3 23 rfl rfl
theorem dksX4_round_5 : cX4_round.data.toList.drop 116 = dktX4_round_5 := dk_seg dksX4_round_4 23 rfl rfl
theorem dksX4_round_6 : cX4_round.data.toList.drop 140 = dktX4_round_6 := dk_seg dksX4_round_5 24 rfl rfl
theorem dX4_round_0 : decode cX4_round 0 = .ok (.aload_n 0, 1) := dk_42 (dk_at dksX4_round_0 0 rfl rfl)
theorem dX4_round_1 : decode cX4_round 1 = .ok (.iconst 0, 1) := dk_3 (dk_at dksX4_round_0 1 rfl rfl)
theorem dX4_round_2 : decode cX4_round 2 = .ok (.putfield 111, 3) := dk_181 0 111 (dk_at dksX4_round_0 2 rfl rfl)
theorem dX4_round_5 : decode cX4_round 5 = .ok (.aload_n 0, 1) := dk_42 (dk_at dksX4_round_0 5 rfl rfl)
theorem dX4_round_6 : decode cX4_round 6 = .ok (.iload_n 1, 1) := dk_27 (dk_at dksX4_round_0 6 rfl rfl)
theorem dX4_round_7 : decode cX4_round 7 = .ok (.iconst 0, 1) := dk_3 (dk_at dksX4_round_0 7 rfl rfl)
theorem dX4_round_8 : decode cX4_round 8 = .ok (.bipush 30, 2) := dk_16 30 (dk_at dksX4_round_0 8 rfl rfl)
theorem dX4_round_10 : decode cX4_round 10 = .ok (.invokestatic 345, 3) := dk_184 1 89 (dk_at dksX4_round_0 10 rfl rfl)
theorem dX4_round_13 : decode cX4_round 13 = .ok (.iconst 1, 1) := dk_4 (dk_at dksX4_round_0 13 rfl rfl)
theorem dX4_round_14 : decode cX4_round 14 = .ok (.invokevirtual 268, 3) := dk_182 1 12 (dk_at dksX4_round_0 14 rfl rfl)
theorem dX4_round_17 : decode cX4_round 17 = .ok (.ifCond .ne 5, 3) := dk_154 0 5 (dk_at dksX4_round_0 17 rfl rfl)
theorem dX4_round_20 : decode cX4_round 20 = .ok (.iconst 0, 1) := dk_3 (dk_at dksX4_round_0 20 rfl rfl)
theorem dX4_round_21 : decode cX4_round 21 = .ok (.ireturn, 1) := dk_172 (dk_at dksX4_round_0 21 rfl rfl)
theorem dX4_round_22 : decode cX4_round 22 = .ok (.ldc_w 305, 3) := dk_19 1 49 (dk_at dksX4_round_1 0 rfl rfl)
theorem dX4_round_25 : decode cX4_round 25 = .ok (.istore_n 2, 1) := dk_61 (dk_at dksX4_round_1 3 rfl rfl)
theorem dX4_round_26 : decode cX4_round 26 = .ok (.iconst (-1), 1) := dk_2 (dk_at dksX4_round_1 4 rfl rfl)
theorem dX4_round_27 : decode cX4_round 27 = .ok (.istore_n 3, 1) := dk_62 (dk_at dksX4_round_1 5 rfl rfl)
theorem dX4_round_28 : decode cX4_round 28 = .ok (.iconst 0, 1) := dk_3 (dk_at dksX4_round_1 6 rfl rfl)
theorem dX4_round_29 : decode cX4_round 29 = .ok (.istore 4, 2) := dk_54 4 (dk_at dksX4_round_1 7 rfl rfl)
theorem dX4_round_31 : decode cX4_round 31 = .ok (.iload 4, 2) := dk_21 4 (dk_at dksX4_round_1 9 rfl rfl)
theorem dX4_round_33 : decode cX4_round 33 = .ok (.aload_n 0, 1) := dk_42 (dk_at dksX4_round_1 11 rfl rfl)
theorem dX4_round_34 : decode cX4_round 34 = .ok (.getfield 275, 3) := dk_180 1 19 (dk_at dksX4_round_1 12 rfl rfl)
theorem dX4_round_37 : decode cX4_round 37 = .ok (.if_icmp .ge 77, 3) := dk_162 0 77 (dk_at dksX4_round_1 15 rfl rfl)
theorem dX4_round_40 : decode cX4_round 40 = .ok (.aload_n 0, 1) := dk_42 (dk_at dksX4_round_1 18 rfl rfl)
theorem dX4_round_41 : decode cX4_round 41 = .ok (.getfield 66, 3) := dk_180 0 66 (dk_at dksX4_round_1 19 rfl rfl)
theorem dX4_round_44 : decode cX4_round 44 = .ok (.bipush 19, 2) := dk_16 19 (dk_at dksX4_round_1 22 rfl rfl)
theorem dX4_round_46 : decode cX4_round 46 = .ok (.iload 4, 2) := dk_21 4 (dk_at dksX4_round_2 0 rfl rfl)
theorem dX4_round_48 : decode cX4_round 48 = .ok (.iadd, 1) := dk_96 (dk_at dksX4_round_2 2 rfl rfl)
theorem dX4_round_49 : decode cX4_round 49 = .ok (.iaload, 1) := dk_46 (dk_at dksX4_round_2 3 rfl rfl)
theorem dX4_round_50 : decode cX4_round 50 = .ok (.istore 5, 2) := dk_54 5 (dk_at dksX4_round_2 4 rfl rfl)
theorem dX4_round_52 : decode cX4_round 52 = .ok (.iload 5, 2) := dk_21 5 (dk_at dksX4_round_2 6 rfl rfl)
theorem dX4_round_54 : decode cX4_round 54 = .ok (.iconst (-1), 1) := dk_2 (dk_at dksX4_round_2 8 rfl rfl)
theorem dX4_round_55 : decode cX4_round 55 = .ok (.if_icmp .eq 53, 3) := dk_159 0 53 (dk_at dksX4_round_2 9 rfl rfl)
theorem dX4_round_58 : decode cX4_round 58 = .ok (.aload_n 0, 1) := dk_42 (dk_at dksX4_round_2 12 rfl rfl)
theorem dX4_round_59 : decode cX4_round 59 = .ok (.iconst 0, 1) := dk_3 (dk_at dksX4_round_2 13 rfl rfl)
theorem dX4_round_60 : decode cX4_round 60 = .ok (.iload 5, 2) := dk_21 5 (dk_at dksX4_round_2 14 rfl rfl)
theorem dX4_round_62 : decode cX4_round 62 = .ok (.iload 4, 2) := dk_21 4 (dk_at dksX4_round_2 16 rfl rfl)
theorem dX4_round_64 : decode cX4_round 64 = .ok (.invokevirtual 312, 3) := dk_182 1 56 (dk_at dksX4_round_2 18 rfl rfl)
theorem dX4_round_67 : decode cX4_round 67 = .ok (.ifCond .ne 6, 3) := dk_154 0 6 (dk_at dksX4_round_2 21 rfl rfl)
theorem dX4_round_70 : decode cX4_round 70 = .ok (.goto 38, 3) := dk_167 0 38 (dk_at dksX4_round_3 0 rfl rfl)
theorem dX4_round_73 : decode cX4_round 73 = .ok (.iload_n 2, 1) := dk_28 (dk_at dksX4_round_3 3 rfl rfl)
theorem dX4_round_74 : decode cX4_round 74 = .ok (.aload_n 0, 1) := dk_42 (dk_at dksX4_round_3 4 rfl rfl)
theorem dX4_round_75 : decode cX4_round 75 = .ok (.getfield 20, 3) := dk_180 0 20 (dk_at dksX4_round_3 5 rfl rfl)
theorem dX4_round_78 : decode cX4_round 78 = .ok (.iload 4, 2) := dk_21 4 (dk_at dksX4_round_3 8 rfl rfl)
theorem dX4_round_80 : decode cX4_round 80 = .ok (.iaload, 1) := dk_46 (dk_at dksX4_round_3 10 rfl rfl)
theorem dX4_round_81 : decode cX4_round 81 = .ok (.invokestatic 329, 3) := dk_184 1 73 (dk_at dksX4_round_3 11 rfl rfl)
theorem dX4_round_84 : decode cX4_round 84 = .ok (.istore_n 2, 1) := dk_61 (dk_at dksX4_round_3 14 rfl rfl)
theorem dX4_round_85 : decode cX4_round 85 = .ok (.aload_n 0, 1) := dk_42 (dk_at dksX4_round_3 15 rfl rfl)
theorem dX4_round_86 : decode cX4_round 86 = .ok (.getfield 20, 3) := dk_180 0 20 (dk_at dksX4_round_3 16 rfl rfl)
theorem dX4_round_89 : decode cX4_round 89 = .ok (.iload 4, 2) := dk_21 4 (dk_at dksX4_round_3 19 rfl rfl)
theorem dX4_round_91 : decode cX4_round 91 = .ok (.iaload, 1) := dk_46 (dk_at dksX4_round_3 21 rfl rfl)
theorem dX4_round_92 : decode cX4_round 92 = .ok (.iload_n 3, 1) := dk_29 (dk_at dksX4_round_3 22 rfl rfl)
theorem dX4_round_93 : decode cX4_round 93 = .ok (.if_icmp .le 13, 3) := dk_164 0 13 (dk_at dksX4_round_4 0 rfl rfl)
theorem dX4_round_96 : decode cX4_round 96 = .ok (.aload_n 0, 1) := dk_42 (dk_at dksX4_round_4 3 rfl rfl)
theorem dX4_round_97 : decode cX4_round 97 = .ok (.getfield 20, 3) := dk_180 0 20 (dk_at dksX4_round_4 4 rfl rfl)
theorem dX4_round_100 : decode cX4_round 100 = .ok (.iload 4, 2) := dk_21 4 (dk_at dksX4_round_4 7 rfl rfl)
theorem dX4_round_102 : decode cX4_round 102 = .ok (.iaload, 1) := dk_46 (dk_at dksX4_round_4 9 rfl rfl)
theorem dX4_round_103 : decode cX4_round 103 = .ok (.goto 4, 3) := dk_167 0 4 (dk_at dksX4_round_4 10 rfl rfl)
theorem dX4_round_106 : decode cX4_round 106 = .ok (.iload_n 3, 1) := dk_29 (dk_at dksX4_round_4 13 rfl rfl)
theorem dX4_round_107 : decode cX4_round 107 = .ok (.istore_n 3, 1) := dk_62 (dk_at dksX4_round_4 14 rfl rfl)
theorem dX4_round_108 : decode cX4_round 108 = .ok (.iinc 4 1, 3) := dk_132 4 1 (dk_at dksX4_round_4 15 rfl rfl)
theorem dX4_round_111 : decode cX4_round 111 = .ok (.goto (-80), 3) := dk_167 255 176 (dk_at dksX4_round_4 18 rfl rfl)
theorem dX4_round_114 : decode cX4_round 114 = .ok (.iload_n 3, 1) := dk_29 (dk_at dksX4_round_4 21 rfl rfl)
theorem dX4_round_115 : decode cX4_round 115 = .ok (.iconst (-1), 1) := dk_2 (dk_at dksX4_round_4 22 rfl rfl)
theorem dX4_round_116 : decode cX4_round 116 = .ok (.if_icmp .ne 7, 3) := dk_160 0 7 (dk_at dksX4_round_5 0 rfl rfl)
theorem dX4_round_119 : decode cX4_round 119 = .ok (.iconst 0, 1) := dk_3 (dk_at dksX4_round_5 3 rfl rfl)
theorem dX4_round_120 : decode cX4_round 120 = .ok (.goto 20, 3) := dk_167 0 20 (dk_at dksX4_round_5 4 rfl rfl)
theorem dX4_round_123 : decode cX4_round 123 = .ok (.iload_n 3, 1) := dk_29 (dk_at dksX4_round_5 7 rfl rfl)
theorem dX4_round_124 : decode cX4_round 124 = .ok (.iload_n 2, 1) := dk_28 (dk_at dksX4_round_5 8 rfl rfl)
theorem dX4_round_125 : decode cX4_round 125 = .ok (.isub, 1) := dk_100 (dk_at dksX4_round_5 9 rfl rfl)
theorem dX4_round_126 : decode cX4_round 126 = .ok (.iload_n 1, 1) := dk_27 (dk_at dksX4_round_5 10 rfl rfl)
theorem dX4_round_127 : decode cX4_round 127 = .ok (.iload_n 2, 1) := dk_28 (dk_at dksX4_round_5 11 rfl rfl)
theorem dX4_round_128 : decode cX4_round 128 = .ok (.invokestatic 364, 3) := dk_184 1 108 (dk_at dksX4_round_5 12 rfl rfl)
theorem dX4_round_131 : decode cX4_round 131 = .ok (.iload_n 1, 1) := dk_27 (dk_at dksX4_round_5 15 rfl rfl)
theorem dX4_round_132 : decode cX4_round 132 = .ok (.iload_n 3, 1) := dk_29 (dk_at dksX4_round_5 16 rfl rfl)
theorem dX4_round_133 : decode cX4_round 133 = .ok (.invokestatic 364, 3) := dk_184 1 108 (dk_at dksX4_round_5 17 rfl rfl)
theorem dX4_round_136 : decode cX4_round 136 = .ok (.invokestatic 329, 3) := dk_184 1 73 (dk_at dksX4_round_5 20 rfl rfl)
theorem dX4_round_139 : decode cX4_round 139 = .ok (.iadd, 1) := dk_96 (dk_at dksX4_round_5 23 rfl rfl)
theorem dX4_round_140 : decode cX4_round 140 = .ok (.ireturn, 1) := dk_172 (dk_at dksX4_round_6 0 rfl rfl)
abbrev cX4_see : ByteArray := prog_12_method_104_code
def yX4_see : MethodName := ⟨RX4, "see", "(III)I"⟩
def dkwX4_see_4 : List UInt8 := [180, 1, 35, 4, 96, 181, 1, 35, 42, 180, 1, 35, 172]
abbrev dktX4_see_4 : List UInt8 := dkwX4_see_4 ++ []
def dkwX4_see_3 : List UInt8 := [180, 1, 35, 104, 4, 96, 28, 79, 42, 180, 0, 93, 6, 42, 180, 1, 35, 104, 5, 96, 29, 79, 42, 89]
abbrev dktX4_see_3 : List UInt8 := dkwX4_see_3 ++ dktX4_see_4
def dkwX4_see_2 : List UInt8 := [182, 1, 126, 172, 42, 180, 0, 93, 6, 42, 180, 1, 35, 104, 27, 79, 42, 180, 0, 93, 6, 42]
abbrev dktX4_see_2 : List UInt8 := dkwX4_see_2 ++ dktX4_see_3
def dkwX4_see_1 : List UInt8 := [28, 3, 16, 20, 184, 1, 89, 153, 0, 13, 29, 3, 16, 99, 184, 1, 89, 154, 0, 9, 42, 5]
abbrev dktX4_see_1 : List UInt8 := dkwX4_see_1 ++ dktX4_see_2
def dkwX4_see_0 : List UInt8 := [42, 3, 181, 0, 111, 42, 27, 182, 1, 111, 154, 0, 5, 3, 172, 42, 180, 1, 35, 16, 8, 159, 0, 23]
abbrev dktX4_see_0 : List UInt8 := dkwX4_see_0 ++ dktX4_see_1
theorem dksX4_see_0 : cX4_see.data.toList.drop 0 = dktX4_see_0 := by decide +kernel
theorem dksX4_see_1 : cX4_see.data.toList.drop 24 = dktX4_see_1 := dk_seg dksX4_see_0 24 rfl rfl
theorem dksX4_see_2 : cX4_see.data.toList.drop 46 = dktX4_see_2 := dk_seg dksX4_see_1 22 rfl rfl
theorem dksX4_see_3 : cX4_see.data.toList.drop 68 = dktX4_see_3 := dk_seg dksX4_see_2 22 rfl rfl
theorem dksX4_see_4 : cX4_see.data.toList.drop 92 = dktX4_see_4 := dk_seg dksX4_see_3 24 rfl rfl
theorem dX4_see_0 : decode cX4_see 0 = .ok (.aload_n 0, 1) := dk_42 (dk_at dksX4_see_0 0 rfl rfl)
theorem dX4_see_1 : decode cX4_see 1 = .ok (.iconst 0, 1) := dk_3 (dk_at dksX4_see_0 1 rfl rfl)
theorem dX4_see_2 : decode cX4_see 2 = .ok (.putfield 111, 3) := dk_181 0 111 (dk_at dksX4_see_0 2 rfl rfl)
theorem dX4_see_5 : decode cX4_see 5 = .ok (.aload_n 0, 1) := dk_42 (dk_at dksX4_see_0 5 rfl rfl)
theorem dX4_see_6 : decode cX4_see 6 = .ok (.iload_n 1, 1) := dk_27 (dk_at dksX4_see_0 6 rfl rfl)
theorem dX4_see_7 : decode cX4_see 7 = .ok (.invokevirtual 367, 3) := dk_182 1 111 (dk_at dksX4_see_0 7 rfl rfl)
theorem dX4_see_10 : decode cX4_see 10 = .ok (.ifCond .ne 5, 3) := dk_154 0 5 (dk_at dksX4_see_0 10 rfl rfl)
theorem dX4_see_13 : decode cX4_see 13 = .ok (.iconst 0, 1) := dk_3 (dk_at dksX4_see_0 13 rfl rfl)
theorem dX4_see_14 : decode cX4_see 14 = .ok (.ireturn, 1) := dk_172 (dk_at dksX4_see_0 14 rfl rfl)
theorem dX4_see_15 : decode cX4_see 15 = .ok (.aload_n 0, 1) := dk_42 (dk_at dksX4_see_0 15 rfl rfl)
theorem dX4_see_16 : decode cX4_see 16 = .ok (.getfield 291, 3) := dk_180 1 35 (dk_at dksX4_see_0 16 rfl rfl)
theorem dX4_see_19 : decode cX4_see 19 = .ok (.bipush 8, 2) := dk_16 8 (dk_at dksX4_see_0 19 rfl rfl)
theorem dX4_see_21 : decode cX4_see 21 = .ok (.if_icmp .eq 23, 3) := dk_159 0 23 (dk_at dksX4_see_0 21 rfl rfl)
theorem dX4_see_24 : decode cX4_see 24 = .ok (.iload_n 2, 1) := dk_28 (dk_at dksX4_see_1 0 rfl rfl)
theorem dX4_see_25 : decode cX4_see 25 = .ok (.iconst 0, 1) := dk_3 (dk_at dksX4_see_1 1 rfl rfl)
theorem dX4_see_26 : decode cX4_see 26 = .ok (.bipush 20, 2) := dk_16 20 (dk_at dksX4_see_1 2 rfl rfl)
theorem dX4_see_28 : decode cX4_see 28 = .ok (.invokestatic 345, 3) := dk_184 1 89 (dk_at dksX4_see_1 4 rfl rfl)
theorem dX4_see_31 : decode cX4_see 31 = .ok (.ifCond .eq 13, 3) := dk_153 0 13 (dk_at dksX4_see_1 7 rfl rfl)
theorem dX4_see_34 : decode cX4_see 34 = .ok (.iload_n 3, 1) := dk_29 (dk_at dksX4_see_1 10 rfl rfl)
theorem dX4_see_35 : decode cX4_see 35 = .ok (.iconst 0, 1) := dk_3 (dk_at dksX4_see_1 11 rfl rfl)
theorem dX4_see_36 : decode cX4_see 36 = .ok (.bipush 99, 2) := dk_16 99 (dk_at dksX4_see_1 12 rfl rfl)
theorem dX4_see_38 : decode cX4_see 38 = .ok (.invokestatic 345, 3) := dk_184 1 89 (dk_at dksX4_see_1 14 rfl rfl)
theorem dX4_see_41 : decode cX4_see 41 = .ok (.ifCond .ne 9, 3) := dk_154 0 9 (dk_at dksX4_see_1 17 rfl rfl)
theorem dX4_see_44 : decode cX4_see 44 = .ok (.aload_n 0, 1) := dk_42 (dk_at dksX4_see_1 20 rfl rfl)
theorem dX4_see_45 : decode cX4_see 45 = .ok (.iconst 2, 1) := dk_5 (dk_at dksX4_see_1 21 rfl rfl)
theorem dX4_see_46 : decode cX4_see 46 = .ok (.invokevirtual 382, 3) := dk_182 1 126 (dk_at dksX4_see_2 0 rfl rfl)
theorem dX4_see_49 : decode cX4_see 49 = .ok (.ireturn, 1) := dk_172 (dk_at dksX4_see_2 3 rfl rfl)
theorem dX4_see_50 : decode cX4_see 50 = .ok (.aload_n 0, 1) := dk_42 (dk_at dksX4_see_2 4 rfl rfl)
theorem dX4_see_51 : decode cX4_see 51 = .ok (.getfield 93, 3) := dk_180 0 93 (dk_at dksX4_see_2 5 rfl rfl)
theorem dX4_see_54 : decode cX4_see 54 = .ok (.iconst 3, 1) := dk_6 (dk_at dksX4_see_2 8 rfl rfl)
theorem dX4_see_55 : decode cX4_see 55 = .ok (.aload_n 0, 1) := dk_42 (dk_at dksX4_see_2 9 rfl rfl)
theorem dX4_see_56 : decode cX4_see 56 = .ok (.getfield 291, 3) := dk_180 1 35 (dk_at dksX4_see_2 10 rfl rfl)
theorem dX4_see_59 : decode cX4_see 59 = .ok (.imul, 1) := dk_104 (dk_at dksX4_see_2 13 rfl rfl)
theorem dX4_see_60 : decode cX4_see 60 = .ok (.iload_n 1, 1) := dk_27 (dk_at dksX4_see_2 14 rfl rfl)
theorem dX4_see_61 : decode cX4_see 61 = .ok (.iastore, 1) := dk_79 (dk_at dksX4_see_2 15 rfl rfl)
theorem dX4_see_62 : decode cX4_see 62 = .ok (.aload_n 0, 1) := dk_42 (dk_at dksX4_see_2 16 rfl rfl)
theorem dX4_see_63 : decode cX4_see 63 = .ok (.getfield 93, 3) := dk_180 0 93 (dk_at dksX4_see_2 17 rfl rfl)
theorem dX4_see_66 : decode cX4_see 66 = .ok (.iconst 3, 1) := dk_6 (dk_at dksX4_see_2 20 rfl rfl)
theorem dX4_see_67 : decode cX4_see 67 = .ok (.aload_n 0, 1) := dk_42 (dk_at dksX4_see_2 21 rfl rfl)
theorem dX4_see_68 : decode cX4_see 68 = .ok (.getfield 291, 3) := dk_180 1 35 (dk_at dksX4_see_3 0 rfl rfl)
theorem dX4_see_71 : decode cX4_see 71 = .ok (.imul, 1) := dk_104 (dk_at dksX4_see_3 3 rfl rfl)
theorem dX4_see_72 : decode cX4_see 72 = .ok (.iconst 1, 1) := dk_4 (dk_at dksX4_see_3 4 rfl rfl)
theorem dX4_see_73 : decode cX4_see 73 = .ok (.iadd, 1) := dk_96 (dk_at dksX4_see_3 5 rfl rfl)
theorem dX4_see_74 : decode cX4_see 74 = .ok (.iload_n 2, 1) := dk_28 (dk_at dksX4_see_3 6 rfl rfl)
theorem dX4_see_75 : decode cX4_see 75 = .ok (.iastore, 1) := dk_79 (dk_at dksX4_see_3 7 rfl rfl)
theorem dX4_see_76 : decode cX4_see 76 = .ok (.aload_n 0, 1) := dk_42 (dk_at dksX4_see_3 8 rfl rfl)
theorem dX4_see_77 : decode cX4_see 77 = .ok (.getfield 93, 3) := dk_180 0 93 (dk_at dksX4_see_3 9 rfl rfl)
theorem dX4_see_80 : decode cX4_see 80 = .ok (.iconst 3, 1) := dk_6 (dk_at dksX4_see_3 12 rfl rfl)
theorem dX4_see_81 : decode cX4_see 81 = .ok (.aload_n 0, 1) := dk_42 (dk_at dksX4_see_3 13 rfl rfl)
theorem dX4_see_82 : decode cX4_see 82 = .ok (.getfield 291, 3) := dk_180 1 35 (dk_at dksX4_see_3 14 rfl rfl)
theorem dX4_see_85 : decode cX4_see 85 = .ok (.imul, 1) := dk_104 (dk_at dksX4_see_3 17 rfl rfl)
theorem dX4_see_86 : decode cX4_see 86 = .ok (.iconst 2, 1) := dk_5 (dk_at dksX4_see_3 18 rfl rfl)
theorem dX4_see_87 : decode cX4_see 87 = .ok (.iadd, 1) := dk_96 (dk_at dksX4_see_3 19 rfl rfl)
theorem dX4_see_88 : decode cX4_see 88 = .ok (.iload_n 3, 1) := dk_29 (dk_at dksX4_see_3 20 rfl rfl)
theorem dX4_see_89 : decode cX4_see 89 = .ok (.iastore, 1) := dk_79 (dk_at dksX4_see_3 21 rfl rfl)
theorem dX4_see_90 : decode cX4_see 90 = .ok (.aload_n 0, 1) := dk_42 (dk_at dksX4_see_3 22 rfl rfl)
theorem dX4_see_91 : decode cX4_see 91 = .ok (.dup, 1) := dk_89 (dk_at dksX4_see_3 23 rfl rfl)
theorem dX4_see_92 : decode cX4_see 92 = .ok (.getfield 291, 3) := dk_180 1 35 (dk_at dksX4_see_4 0 rfl rfl)
theorem dX4_see_95 : decode cX4_see 95 = .ok (.iconst 1, 1) := dk_4 (dk_at dksX4_see_4 3 rfl rfl)
theorem dX4_see_96 : decode cX4_see 96 = .ok (.iadd, 1) := dk_96 (dk_at dksX4_see_4 4 rfl rfl)
theorem dX4_see_97 : decode cX4_see 97 = .ok (.putfield 291, 3) := dk_181 1 35 (dk_at dksX4_see_4 5 rfl rfl)
theorem dX4_see_100 : decode cX4_see 100 = .ok (.aload_n 0, 1) := dk_42 (dk_at dksX4_see_4 8 rfl rfl)
theorem dX4_see_101 : decode cX4_see 101 = .ok (.getfield 291, 3) := dk_180 1 35 (dk_at dksX4_see_4 9 rfl rfl)
theorem dX4_see_104 : decode cX4_see 104 = .ok (.ireturn, 1) := dk_172 (dk_at dksX4_see_4 12 rfl rfl)
abbrev cX4_forget : ByteArray := prog_12_method_105_code
def yX4_forget : MethodName := ⟨RX4, "forget", "()V"⟩
def dkwX4_forget_0 : List UInt8 := [42, 3, 181, 0, 111, 42, 3, 181, 1, 35, 177]
abbrev dktX4_forget_0 : List UInt8 := dkwX4_forget_0 ++ []
theorem dksX4_forget_0 : cX4_forget.data.toList.drop 0 = dktX4_forget_0 := by decide +kernel
theorem dX4_forget_0 : decode cX4_forget 0 = .ok (.aload_n 0, 1) := dk_42 (dk_at dksX4_forget_0 0 rfl rfl)
theorem dX4_forget_1 : decode cX4_forget 1 = .ok (.iconst 0, 1) := dk_3 (dk_at dksX4_forget_0 1 rfl rfl)
theorem dX4_forget_2 : decode cX4_forget 2 = .ok (.putfield 111, 3) := dk_181 0 111 (dk_at dksX4_forget_0 2 rfl rfl)
theorem dX4_forget_5 : decode cX4_forget 5 = .ok (.aload_n 0, 1) := dk_42 (dk_at dksX4_forget_0 5 rfl rfl)
theorem dX4_forget_6 : decode cX4_forget 6 = .ok (.iconst 0, 1) := dk_3 (dk_at dksX4_forget_0 6 rfl rfl)
theorem dX4_forget_7 : decode cX4_forget 7 = .ok (.putfield 291, 3) := dk_181 1 35 (dk_at dksX4_forget_0 7 rfl rfl)
theorem dX4_forget_10 : decode cX4_forget 10 = .ok (.return_, 1) := dk_177 (dk_at dksX4_forget_0 10 rfl rfl)
abbrev cX4_large : ByteArray := prog_12_method_108_code
def yX4_large : MethodName := ⟨RX4, "large", "(I)I"⟩
def dkwX4_large_4 : List UInt8 := [62, 132, 4, 1, 167, 255, 204, 27, 154, 0, 7, 28, 167, 0, 4, 29, 172]
abbrev dktX4_large_4 : List UInt8 := dkwX4_large_4 ++ []
def dkwX4_large_3 : List UInt8 := [132, 2, 1, 29, 2, 160, 0, 20, 21, 4, 16, 60, 108, 16, 100, 104, 21, 4, 16, 60, 112, 96, 4, 96]
abbrev dktX4_large_3 : List UInt8 := dkwX4_large_3 ++ dktX4_large_4
def dkwX4_large_2 : List UInt8 := [21, 4, 16, 60, 42, 180, 1, 22, 104, 162, 0, 46, 42, 21, 4, 182, 1, 171, 154, 0, 6, 167, 0, 28]
abbrev dktX4_large_2 : List UInt8 := dkwX4_large_2 ++ dktX4_large_3
def dkwX4_large_1 : List UInt8 := [182, 1, 135, 42, 182, 1, 168, 153, 0, 7, 4, 167, 0, 4, 3, 172, 3, 61, 2, 62, 3, 54, 4]
abbrev dktX4_large_1 : List UInt8 := dkwX4_large_1 ++ dktX4_large_2
def dkwX4_large_0 : List UInt8 := [42, 3, 181, 0, 111, 42, 27, 5, 182, 1, 114, 154, 0, 5, 3, 172, 27, 5, 160, 0, 20, 42]
abbrev dktX4_large_0 : List UInt8 := dkwX4_large_0 ++ dktX4_large_1
theorem dksX4_large_0 : cX4_large.data.toList.drop 0 = dktX4_large_0 := by decide +kernel
theorem dksX4_large_1 : cX4_large.data.toList.drop 22 = dktX4_large_1 := dk_seg dksX4_large_0 22 rfl rfl
theorem dksX4_large_2 : cX4_large.data.toList.drop 45 = dktX4_large_2 := dk_seg dksX4_large_1 23 rfl rfl
theorem dksX4_large_3 : cX4_large.data.toList.drop 69 = dktX4_large_3 := dk_seg dksX4_large_2 24 rfl rfl
theorem dksX4_large_4 : cX4_large.data.toList.drop 93 = dktX4_large_4 := dk_seg dksX4_large_3 24 rfl rfl
theorem dX4_large_0 : decode cX4_large 0 = .ok (.aload_n 0, 1) := dk_42 (dk_at dksX4_large_0 0 rfl rfl)
theorem dX4_large_1 : decode cX4_large 1 = .ok (.iconst 0, 1) := dk_3 (dk_at dksX4_large_0 1 rfl rfl)
theorem dX4_large_2 : decode cX4_large 2 = .ok (.putfield 111, 3) := dk_181 0 111 (dk_at dksX4_large_0 2 rfl rfl)
theorem dX4_large_5 : decode cX4_large 5 = .ok (.aload_n 0, 1) := dk_42 (dk_at dksX4_large_0 5 rfl rfl)
theorem dX4_large_6 : decode cX4_large 6 = .ok (.iload_n 1, 1) := dk_27 (dk_at dksX4_large_0 6 rfl rfl)
theorem dX4_large_7 : decode cX4_large 7 = .ok (.iconst 2, 1) := dk_5 (dk_at dksX4_large_0 7 rfl rfl)
theorem dX4_large_8 : decode cX4_large 8 = .ok (.invokevirtual 370, 3) := dk_182 1 114 (dk_at dksX4_large_0 8 rfl rfl)
theorem dX4_large_11 : decode cX4_large 11 = .ok (.ifCond .ne 5, 3) := dk_154 0 5 (dk_at dksX4_large_0 11 rfl rfl)
theorem dX4_large_14 : decode cX4_large 14 = .ok (.iconst 0, 1) := dk_3 (dk_at dksX4_large_0 14 rfl rfl)
theorem dX4_large_15 : decode cX4_large 15 = .ok (.ireturn, 1) := dk_172 (dk_at dksX4_large_0 15 rfl rfl)
theorem dX4_large_16 : decode cX4_large 16 = .ok (.iload_n 1, 1) := dk_27 (dk_at dksX4_large_0 16 rfl rfl)
theorem dX4_large_17 : decode cX4_large 17 = .ok (.iconst 2, 1) := dk_5 (dk_at dksX4_large_0 17 rfl rfl)
theorem dX4_large_18 : decode cX4_large 18 = .ok (.if_icmp .ne 20, 3) := dk_160 0 20 (dk_at dksX4_large_0 18 rfl rfl)
theorem dX4_large_21 : decode cX4_large 21 = .ok (.aload_n 0, 1) := dk_42 (dk_at dksX4_large_0 21 rfl rfl)
theorem dX4_large_22 : decode cX4_large 22 = .ok (.invokevirtual 391, 3) := dk_182 1 135 (dk_at dksX4_large_1 0 rfl rfl)
theorem dX4_large_25 : decode cX4_large 25 = .ok (.aload_n 0, 1) := dk_42 (dk_at dksX4_large_1 3 rfl rfl)
theorem dX4_large_26 : decode cX4_large 26 = .ok (.invokevirtual 424, 3) := dk_182 1 168 (dk_at dksX4_large_1 4 rfl rfl)
theorem dX4_large_29 : decode cX4_large 29 = .ok (.ifCond .eq 7, 3) := dk_153 0 7 (dk_at dksX4_large_1 7 rfl rfl)
theorem dX4_large_32 : decode cX4_large 32 = .ok (.iconst 1, 1) := dk_4 (dk_at dksX4_large_1 10 rfl rfl)
theorem dX4_large_33 : decode cX4_large 33 = .ok (.goto 4, 3) := dk_167 0 4 (dk_at dksX4_large_1 11 rfl rfl)
theorem dX4_large_36 : decode cX4_large 36 = .ok (.iconst 0, 1) := dk_3 (dk_at dksX4_large_1 14 rfl rfl)
theorem dX4_large_37 : decode cX4_large 37 = .ok (.ireturn, 1) := dk_172 (dk_at dksX4_large_1 15 rfl rfl)
theorem dX4_large_38 : decode cX4_large 38 = .ok (.iconst 0, 1) := dk_3 (dk_at dksX4_large_1 16 rfl rfl)
theorem dX4_large_39 : decode cX4_large 39 = .ok (.istore_n 2, 1) := dk_61 (dk_at dksX4_large_1 17 rfl rfl)
theorem dX4_large_40 : decode cX4_large 40 = .ok (.iconst (-1), 1) := dk_2 (dk_at dksX4_large_1 18 rfl rfl)
theorem dX4_large_41 : decode cX4_large 41 = .ok (.istore_n 3, 1) := dk_62 (dk_at dksX4_large_1 19 rfl rfl)
theorem dX4_large_42 : decode cX4_large 42 = .ok (.iconst 0, 1) := dk_3 (dk_at dksX4_large_1 20 rfl rfl)
theorem dX4_large_43 : decode cX4_large 43 = .ok (.istore 4, 2) := dk_54 4 (dk_at dksX4_large_1 21 rfl rfl)
theorem dX4_large_45 : decode cX4_large 45 = .ok (.iload 4, 2) := dk_21 4 (dk_at dksX4_large_2 0 rfl rfl)
theorem dX4_large_47 : decode cX4_large 47 = .ok (.bipush 60, 2) := dk_16 60 (dk_at dksX4_large_2 2 rfl rfl)
theorem dX4_large_49 : decode cX4_large 49 = .ok (.aload_n 0, 1) := dk_42 (dk_at dksX4_large_2 4 rfl rfl)
theorem dX4_large_50 : decode cX4_large 50 = .ok (.getfield 278, 3) := dk_180 1 22 (dk_at dksX4_large_2 5 rfl rfl)
theorem dX4_large_53 : decode cX4_large 53 = .ok (.imul, 1) := dk_104 (dk_at dksX4_large_2 8 rfl rfl)
theorem dX4_large_54 : decode cX4_large 54 = .ok (.if_icmp .ge 46, 3) := dk_162 0 46 (dk_at dksX4_large_2 9 rfl rfl)
theorem dX4_large_57 : decode cX4_large 57 = .ok (.aload_n 0, 1) := dk_42 (dk_at dksX4_large_2 12 rfl rfl)
theorem dX4_large_58 : decode cX4_large 58 = .ok (.iload 4, 2) := dk_21 4 (dk_at dksX4_large_2 13 rfl rfl)
theorem dX4_large_60 : decode cX4_large 60 = .ok (.invokevirtual 427, 3) := dk_182 1 171 (dk_at dksX4_large_2 15 rfl rfl)
theorem dX4_large_63 : decode cX4_large 63 = .ok (.ifCond .ne 6, 3) := dk_154 0 6 (dk_at dksX4_large_2 18 rfl rfl)
theorem dX4_large_66 : decode cX4_large 66 = .ok (.goto 28, 3) := dk_167 0 28 (dk_at dksX4_large_2 21 rfl rfl)
theorem dX4_large_69 : decode cX4_large 69 = .ok (.iinc 2 1, 3) := dk_132 2 1 (dk_at dksX4_large_3 0 rfl rfl)
theorem dX4_large_72 : decode cX4_large 72 = .ok (.iload_n 3, 1) := dk_29 (dk_at dksX4_large_3 3 rfl rfl)
theorem dX4_large_73 : decode cX4_large 73 = .ok (.iconst (-1), 1) := dk_2 (dk_at dksX4_large_3 4 rfl rfl)
theorem dX4_large_74 : decode cX4_large 74 = .ok (.if_icmp .ne 20, 3) := dk_160 0 20 (dk_at dksX4_large_3 5 rfl rfl)
theorem dX4_large_77 : decode cX4_large 77 = .ok (.iload 4, 2) := dk_21 4 (dk_at dksX4_large_3 8 rfl rfl)
theorem dX4_large_79 : decode cX4_large 79 = .ok (.bipush 60, 2) := dk_16 60 (dk_at dksX4_large_3 10 rfl rfl)
theorem dX4_large_81 : decode cX4_large 81 = .ok (.idiv, 1) := dk_108 (dk_at dksX4_large_3 12 rfl rfl)
theorem dX4_large_82 : decode cX4_large 82 = .ok (.bipush 100, 2) := dk_16 100 (dk_at dksX4_large_3 13 rfl rfl)
theorem dX4_large_84 : decode cX4_large 84 = .ok (.imul, 1) := dk_104 (dk_at dksX4_large_3 15 rfl rfl)
theorem dX4_large_85 : decode cX4_large 85 = .ok (.iload 4, 2) := dk_21 4 (dk_at dksX4_large_3 16 rfl rfl)
theorem dX4_large_87 : decode cX4_large 87 = .ok (.bipush 60, 2) := dk_16 60 (dk_at dksX4_large_3 18 rfl rfl)
theorem dX4_large_89 : decode cX4_large 89 = .ok (.irem, 1) := dk_112 (dk_at dksX4_large_3 20 rfl rfl)
theorem dX4_large_90 : decode cX4_large 90 = .ok (.iadd, 1) := dk_96 (dk_at dksX4_large_3 21 rfl rfl)
theorem dX4_large_91 : decode cX4_large 91 = .ok (.iconst 1, 1) := dk_4 (dk_at dksX4_large_3 22 rfl rfl)
theorem dX4_large_92 : decode cX4_large 92 = .ok (.iadd, 1) := dk_96 (dk_at dksX4_large_3 23 rfl rfl)
theorem dX4_large_93 : decode cX4_large 93 = .ok (.istore_n 3, 1) := dk_62 (dk_at dksX4_large_4 0 rfl rfl)
theorem dX4_large_94 : decode cX4_large 94 = .ok (.iinc 4 1, 3) := dk_132 4 1 (dk_at dksX4_large_4 1 rfl rfl)
theorem dX4_large_97 : decode cX4_large 97 = .ok (.goto (-52), 3) := dk_167 255 204 (dk_at dksX4_large_4 4 rfl rfl)
theorem dX4_large_100 : decode cX4_large 100 = .ok (.iload_n 1, 1) := dk_27 (dk_at dksX4_large_4 7 rfl rfl)
theorem dX4_large_101 : decode cX4_large 101 = .ok (.ifCond .ne 7, 3) := dk_154 0 7 (dk_at dksX4_large_4 8 rfl rfl)
theorem dX4_large_104 : decode cX4_large 104 = .ok (.iload_n 2, 1) := dk_28 (dk_at dksX4_large_4 11 rfl rfl)
theorem dX4_large_105 : decode cX4_large 105 = .ok (.goto 4, 3) := dk_167 0 4 (dk_at dksX4_large_4 12 rfl rfl)
theorem dX4_large_108 : decode cX4_large 108 = .ok (.iload_n 3, 1) := dk_29 (dk_at dksX4_large_4 15 rfl rfl)
theorem dX4_large_109 : decode cX4_large 109 = .ok (.ireturn, 1) := dk_172 (dk_at dksX4_large_4 16 rfl rfl)
abbrev cX4_isSeen : ByteArray := prog_12_method_106_code
def yX4_isSeen : MethodName := ⟨RX4, "isSeen", "()Z"⟩
def dkwX4_isSeen_4 : List UInt8 := [28, 96, 46, 79, 132, 2, 1, 167, 255, 230, 42, 16, 43, 182, 1, 80, 132, 1, 1, 167, 255, 144, 4, 172]
abbrev dktX4_isSeen_4 : List UInt8 := dkwX4_isSeen_4 ++ []
def dkwX4_isSeen_3 : List UInt8 := [160, 0, 34, 3, 61, 28, 42, 180, 1, 19, 162, 0, 24, 42, 180, 0, 96, 28, 42, 180, 0, 66, 16, 54]
abbrev dktX4_isSeen_3 : List UInt8 := dkwX4_isSeen_3 ++ dktX4_isSeen_4
def dkwX4_isSeen_2 : List UInt8 := [42, 180, 0, 93, 6, 28, 104, 5, 96, 46, 159, 0, 5, 3, 172, 132, 2, 1, 167, 255, 200, 27, 8]
abbrev dktX4_isSeen_2 : List UInt8 := dkwX4_isSeen_2 ++ dktX4_isSeen_3
def dkwX4_isSeen_1 : List UInt8 := [104, 4, 96, 46, 27, 160, 0, 34, 42, 180, 0, 66, 16, 54, 42, 180, 0, 93, 6, 28, 104, 46, 96, 46]
abbrev dktX4_isSeen_1 : List UInt8 := dkwX4_isSeen_1 ++ dktX4_isSeen_2
def dkwX4_isSeen_0 : List UInt8 := [3, 60, 27, 16, 20, 163, 0, 112, 3, 61, 28, 42, 180, 1, 35, 162, 0, 54, 42, 180, 0, 93, 6, 28]
abbrev dktX4_isSeen_0 : List UInt8 := dkwX4_isSeen_0 ++ dktX4_isSeen_1
theorem dksX4_isSeen_0 : cX4_isSeen.data.toList.drop 0 = dktX4_isSeen_0 := by decide +kernel
theorem dksX4_isSeen_1 : cX4_isSeen.data.toList.drop 24 = dktX4_isSeen_1 := dk_seg dksX4_isSeen_0 24 rfl rfl
theorem dksX4_isSeen_2 : cX4_isSeen.data.toList.drop 48 = dktX4_isSeen_2 := dk_seg dksX4_isSeen_1 24 rfl rfl
theorem dksX4_isSeen_3 : cX4_isSeen.data.toList.drop 71 = dktX4_isSeen_3 := dk_seg dksX4_isSeen_2 23 rfl rfl
theorem dksX4_isSeen_4 : cX4_isSeen.data.toList.drop 95 = dktX4_isSeen_4 := dk_seg dksX4_isSeen_3 24 rfl rfl
theorem dX4_isSeen_0 : decode cX4_isSeen 0 = .ok (.iconst 0, 1) := dk_3 (dk_at dksX4_isSeen_0 0 rfl rfl)
theorem dX4_isSeen_1 : decode cX4_isSeen 1 = .ok (.istore_n 1, 1) := dk_60 (dk_at dksX4_isSeen_0 1 rfl rfl)
theorem dX4_isSeen_2 : decode cX4_isSeen 2 = .ok (.iload_n 1, 1) := dk_27 (dk_at dksX4_isSeen_0 2 rfl rfl)
theorem dX4_isSeen_3 : decode cX4_isSeen 3 = .ok (.bipush 20, 2) := dk_16 20 (dk_at dksX4_isSeen_0 3 rfl rfl)
theorem dX4_isSeen_5 : decode cX4_isSeen 5 = .ok (.if_icmp .gt 112, 3) := dk_163 0 112 (dk_at dksX4_isSeen_0 5 rfl rfl)
theorem dX4_isSeen_8 : decode cX4_isSeen 8 = .ok (.iconst 0, 1) := dk_3 (dk_at dksX4_isSeen_0 8 rfl rfl)
theorem dX4_isSeen_9 : decode cX4_isSeen 9 = .ok (.istore_n 2, 1) := dk_61 (dk_at dksX4_isSeen_0 9 rfl rfl)
theorem dX4_isSeen_10 : decode cX4_isSeen 10 = .ok (.iload_n 2, 1) := dk_28 (dk_at dksX4_isSeen_0 10 rfl rfl)
theorem dX4_isSeen_11 : decode cX4_isSeen 11 = .ok (.aload_n 0, 1) := dk_42 (dk_at dksX4_isSeen_0 11 rfl rfl)
theorem dX4_isSeen_12 : decode cX4_isSeen 12 = .ok (.getfield 291, 3) := dk_180 1 35 (dk_at dksX4_isSeen_0 12 rfl rfl)
theorem dX4_isSeen_15 : decode cX4_isSeen 15 = .ok (.if_icmp .ge 54, 3) := dk_162 0 54 (dk_at dksX4_isSeen_0 15 rfl rfl)
theorem dX4_isSeen_18 : decode cX4_isSeen 18 = .ok (.aload_n 0, 1) := dk_42 (dk_at dksX4_isSeen_0 18 rfl rfl)
theorem dX4_isSeen_19 : decode cX4_isSeen 19 = .ok (.getfield 93, 3) := dk_180 0 93 (dk_at dksX4_isSeen_0 19 rfl rfl)
theorem dX4_isSeen_22 : decode cX4_isSeen 22 = .ok (.iconst 3, 1) := dk_6 (dk_at dksX4_isSeen_0 22 rfl rfl)
theorem dX4_isSeen_23 : decode cX4_isSeen 23 = .ok (.iload_n 2, 1) := dk_28 (dk_at dksX4_isSeen_0 23 rfl rfl)
theorem dX4_isSeen_24 : decode cX4_isSeen 24 = .ok (.imul, 1) := dk_104 (dk_at dksX4_isSeen_1 0 rfl rfl)
theorem dX4_isSeen_25 : decode cX4_isSeen 25 = .ok (.iconst 1, 1) := dk_4 (dk_at dksX4_isSeen_1 1 rfl rfl)
theorem dX4_isSeen_26 : decode cX4_isSeen 26 = .ok (.iadd, 1) := dk_96 (dk_at dksX4_isSeen_1 2 rfl rfl)
theorem dX4_isSeen_27 : decode cX4_isSeen 27 = .ok (.iaload, 1) := dk_46 (dk_at dksX4_isSeen_1 3 rfl rfl)
theorem dX4_isSeen_28 : decode cX4_isSeen 28 = .ok (.iload_n 1, 1) := dk_27 (dk_at dksX4_isSeen_1 4 rfl rfl)
theorem dX4_isSeen_29 : decode cX4_isSeen 29 = .ok (.if_icmp .ne 34, 3) := dk_160 0 34 (dk_at dksX4_isSeen_1 5 rfl rfl)
theorem dX4_isSeen_32 : decode cX4_isSeen 32 = .ok (.aload_n 0, 1) := dk_42 (dk_at dksX4_isSeen_1 8 rfl rfl)
theorem dX4_isSeen_33 : decode cX4_isSeen 33 = .ok (.getfield 66, 3) := dk_180 0 66 (dk_at dksX4_isSeen_1 9 rfl rfl)
theorem dX4_isSeen_36 : decode cX4_isSeen 36 = .ok (.bipush 54, 2) := dk_16 54 (dk_at dksX4_isSeen_1 12 rfl rfl)
theorem dX4_isSeen_38 : decode cX4_isSeen 38 = .ok (.aload_n 0, 1) := dk_42 (dk_at dksX4_isSeen_1 14 rfl rfl)
theorem dX4_isSeen_39 : decode cX4_isSeen 39 = .ok (.getfield 93, 3) := dk_180 0 93 (dk_at dksX4_isSeen_1 15 rfl rfl)
theorem dX4_isSeen_42 : decode cX4_isSeen 42 = .ok (.iconst 3, 1) := dk_6 (dk_at dksX4_isSeen_1 18 rfl rfl)
theorem dX4_isSeen_43 : decode cX4_isSeen 43 = .ok (.iload_n 2, 1) := dk_28 (dk_at dksX4_isSeen_1 19 rfl rfl)
theorem dX4_isSeen_44 : decode cX4_isSeen 44 = .ok (.imul, 1) := dk_104 (dk_at dksX4_isSeen_1 20 rfl rfl)
theorem dX4_isSeen_45 : decode cX4_isSeen 45 = .ok (.iaload, 1) := dk_46 (dk_at dksX4_isSeen_1 21 rfl rfl)
theorem dX4_isSeen_46 : decode cX4_isSeen 46 = .ok (.iadd, 1) := dk_96 (dk_at dksX4_isSeen_1 22 rfl rfl)
theorem dX4_isSeen_47 : decode cX4_isSeen 47 = .ok (.iaload, 1) := dk_46 (dk_at dksX4_isSeen_1 23 rfl rfl)
theorem dX4_isSeen_48 : decode cX4_isSeen 48 = .ok (.aload_n 0, 1) := dk_42 (dk_at dksX4_isSeen_2 0 rfl rfl)
theorem dX4_isSeen_49 : decode cX4_isSeen 49 = .ok (.getfield 93, 3) := dk_180 0 93 (dk_at dksX4_isSeen_2 1 rfl rfl)
theorem dX4_isSeen_52 : decode cX4_isSeen 52 = .ok (.iconst 3, 1) := dk_6 (dk_at dksX4_isSeen_2 4 rfl rfl)
theorem dX4_isSeen_53 : decode cX4_isSeen 53 = .ok (.iload_n 2, 1) := dk_28 (dk_at dksX4_isSeen_2 5 rfl rfl)
theorem dX4_isSeen_54 : decode cX4_isSeen 54 = .ok (.imul, 1) := dk_104 (dk_at dksX4_isSeen_2 6 rfl rfl)
theorem dX4_isSeen_55 : decode cX4_isSeen 55 = .ok (.iconst 2, 1) := dk_5 (dk_at dksX4_isSeen_2 7 rfl rfl)
theorem dX4_isSeen_56 : decode cX4_isSeen 56 = .ok (.iadd, 1) := dk_96 (dk_at dksX4_isSeen_2 8 rfl rfl)
theorem dX4_isSeen_57 : decode cX4_isSeen 57 = .ok (.iaload, 1) := dk_46 (dk_at dksX4_isSeen_2 9 rfl rfl)
theorem dX4_isSeen_58 : decode cX4_isSeen 58 = .ok (.if_icmp .eq 5, 3) := dk_159 0 5 (dk_at dksX4_isSeen_2 10 rfl rfl)
theorem dX4_isSeen_61 : decode cX4_isSeen 61 = .ok (.iconst 0, 1) := dk_3 (dk_at dksX4_isSeen_2 13 rfl rfl)
theorem dX4_isSeen_62 : decode cX4_isSeen 62 = .ok (.ireturn, 1) := dk_172 (dk_at dksX4_isSeen_2 14 rfl rfl)
theorem dX4_isSeen_63 : decode cX4_isSeen 63 = .ok (.iinc 2 1, 3) := dk_132 2 1 (dk_at dksX4_isSeen_2 15 rfl rfl)
theorem dX4_isSeen_66 : decode cX4_isSeen 66 = .ok (.goto (-56), 3) := dk_167 255 200 (dk_at dksX4_isSeen_2 18 rfl rfl)
theorem dX4_isSeen_69 : decode cX4_isSeen 69 = .ok (.iload_n 1, 1) := dk_27 (dk_at dksX4_isSeen_2 21 rfl rfl)
theorem dX4_isSeen_70 : decode cX4_isSeen 70 = .ok (.iconst 5, 1) := dk_8 (dk_at dksX4_isSeen_2 22 rfl rfl)
theorem dX4_isSeen_71 : decode cX4_isSeen 71 = .ok (.if_icmp .ne 34, 3) := dk_160 0 34 (dk_at dksX4_isSeen_3 0 rfl rfl)
theorem dX4_isSeen_74 : decode cX4_isSeen 74 = .ok (.iconst 0, 1) := dk_3 (dk_at dksX4_isSeen_3 3 rfl rfl)
theorem dX4_isSeen_75 : decode cX4_isSeen 75 = .ok (.istore_n 2, 1) := dk_61 (dk_at dksX4_isSeen_3 4 rfl rfl)
theorem dX4_isSeen_76 : decode cX4_isSeen 76 = .ok (.iload_n 2, 1) := dk_28 (dk_at dksX4_isSeen_3 5 rfl rfl)
theorem dX4_isSeen_77 : decode cX4_isSeen 77 = .ok (.aload_n 0, 1) := dk_42 (dk_at dksX4_isSeen_3 6 rfl rfl)
theorem dX4_isSeen_78 : decode cX4_isSeen 78 = .ok (.getfield 275, 3) := dk_180 1 19 (dk_at dksX4_isSeen_3 7 rfl rfl)
theorem dX4_isSeen_81 : decode cX4_isSeen 81 = .ok (.if_icmp .ge 24, 3) := dk_162 0 24 (dk_at dksX4_isSeen_3 10 rfl rfl)
theorem dX4_isSeen_84 : decode cX4_isSeen 84 = .ok (.aload_n 0, 1) := dk_42 (dk_at dksX4_isSeen_3 13 rfl rfl)
theorem dX4_isSeen_85 : decode cX4_isSeen 85 = .ok (.getfield 96, 3) := dk_180 0 96 (dk_at dksX4_isSeen_3 14 rfl rfl)
theorem dX4_isSeen_88 : decode cX4_isSeen 88 = .ok (.iload_n 2, 1) := dk_28 (dk_at dksX4_isSeen_3 17 rfl rfl)
theorem dX4_isSeen_89 : decode cX4_isSeen 89 = .ok (.aload_n 0, 1) := dk_42 (dk_at dksX4_isSeen_3 18 rfl rfl)
theorem dX4_isSeen_90 : decode cX4_isSeen 90 = .ok (.getfield 66, 3) := dk_180 0 66 (dk_at dksX4_isSeen_3 19 rfl rfl)
theorem dX4_isSeen_93 : decode cX4_isSeen 93 = .ok (.bipush 54, 2) := dk_16 54 (dk_at dksX4_isSeen_3 22 rfl rfl)
theorem dX4_isSeen_95 : decode cX4_isSeen 95 = .ok (.iload_n 2, 1) := dk_28 (dk_at dksX4_isSeen_4 0 rfl rfl)
theorem dX4_isSeen_96 : decode cX4_isSeen 96 = .ok (.iadd, 1) := dk_96 (dk_at dksX4_isSeen_4 1 rfl rfl)
theorem dX4_isSeen_97 : decode cX4_isSeen 97 = .ok (.iaload, 1) := dk_46 (dk_at dksX4_isSeen_4 2 rfl rfl)
theorem dX4_isSeen_98 : decode cX4_isSeen 98 = .ok (.iastore, 1) := dk_79 (dk_at dksX4_isSeen_4 3 rfl rfl)
theorem dX4_isSeen_99 : decode cX4_isSeen 99 = .ok (.iinc 2 1, 3) := dk_132 2 1 (dk_at dksX4_isSeen_4 4 rfl rfl)
theorem dX4_isSeen_102 : decode cX4_isSeen 102 = .ok (.goto (-26), 3) := dk_167 255 230 (dk_at dksX4_isSeen_4 7 rfl rfl)
theorem dX4_isSeen_105 : decode cX4_isSeen 105 = .ok (.aload_n 0, 1) := dk_42 (dk_at dksX4_isSeen_4 10 rfl rfl)
theorem dX4_isSeen_106 : decode cX4_isSeen 106 = .ok (.bipush 43, 2) := dk_16 43 (dk_at dksX4_isSeen_4 11 rfl rfl)
theorem dX4_isSeen_108 : decode cX4_isSeen 108 = .ok (.invokevirtual 336, 3) := dk_182 1 80 (dk_at dksX4_isSeen_4 13 rfl rfl)
theorem dX4_isSeen_111 : decode cX4_isSeen 111 = .ok (.iinc 1 1, 3) := dk_132 1 1 (dk_at dksX4_isSeen_4 16 rfl rfl)
theorem dX4_isSeen_114 : decode cX4_isSeen 114 = .ok (.goto (-112), 3) := dk_167 255 144 (dk_at dksX4_isSeen_4 19 rfl rfl)
theorem dX4_isSeen_117 : decode cX4_isSeen 117 = .ok (.iconst 1, 1) := dk_4 (dk_at dksX4_isSeen_4 22 rfl rfl)
theorem dX4_isSeen_118 : decode cX4_isSeen 118 = .ok (.ireturn, 1) := dk_172 (dk_at dksX4_isSeen_4 23 rfl rfl)
abbrev cX4_isGuess : ByteArray := prog_12_method_107_code
def yX4_isGuess : MethodName := ⟨RX4, "isGuess", "(I)Z"⟩
def dkwX4_isGuess_2 : List UInt8 := [172]
abbrev dktX4_isGuess_2 : List UInt8 := dkwX4_isGuess_2 ++ []
def dkwX4_isGuess_1 : List UInt8 := [172, 42, 182, 1, 135, 42, 180, 0, 66, 16, 70, 28, 96, 27, 16, 60, 112, 4, 96, 79, 42, 182, 1, 168]
abbrev dktX4_isGuess_1 : List UInt8 := dkwX4_isGuess_1 ++ dktX4_isGuess_2
def dkwX4_isGuess_0 : List UInt8 := [27, 16, 60, 108, 61, 42, 180, 0, 66, 16, 27, 28, 96, 46, 27, 16, 60, 112, 4, 96, 160, 0, 5, 3]
abbrev dktX4_isGuess_0 : List UInt8 := dkwX4_isGuess_0 ++ dktX4_isGuess_1
theorem dksX4_isGuess_0 : cX4_isGuess.data.toList.drop 0 = dktX4_isGuess_0 := by decide +kernel
theorem dksX4_isGuess_1 : cX4_isGuess.data.toList.drop 24 = dktX4_isGuess_1 := dk_seg dksX4_isGuess_0 24 rfl rfl
theorem dksX4_isGuess_2 : cX4_isGuess.data.toList.drop 48 = dktX4_isGuess_2 := dk_seg dksX4_isGuess_1 24 rfl rfl
theorem dX4_isGuess_0 : decode cX4_isGuess 0 = .ok (.iload_n 1, 1) := dk_27 (dk_at dksX4_isGuess_0 0 rfl rfl)
theorem dX4_isGuess_1 : decode cX4_isGuess 1 = .ok (.bipush 60, 2) := dk_16 60 (dk_at dksX4_isGuess_0 1 rfl rfl)
theorem dX4_isGuess_3 : decode cX4_isGuess 3 = .ok (.idiv, 1) := dk_108 (dk_at dksX4_isGuess_0 3 rfl rfl)
theorem dX4_isGuess_4 : decode cX4_isGuess 4 = .ok (.istore_n 2, 1) := dk_61 (dk_at dksX4_isGuess_0 4 rfl rfl)
theorem dX4_isGuess_5 : decode cX4_isGuess 5 = .ok (.aload_n 0, 1) := dk_42 (dk_at dksX4_isGuess_0 5 rfl rfl)
theorem dX4_isGuess_6 : decode cX4_isGuess 6 = .ok (.getfield 66, 3) := dk_180 0 66 (dk_at dksX4_isGuess_0 6 rfl rfl)
theorem dX4_isGuess_9 : decode cX4_isGuess 9 = .ok (.bipush 27, 2) := dk_16 27 (dk_at dksX4_isGuess_0 9 rfl rfl)
theorem dX4_isGuess_11 : decode cX4_isGuess 11 = .ok (.iload_n 2, 1) := dk_28 (dk_at dksX4_isGuess_0 11 rfl rfl)
theorem dX4_isGuess_12 : decode cX4_isGuess 12 = .ok (.iadd, 1) := dk_96 (dk_at dksX4_isGuess_0 12 rfl rfl)
theorem dX4_isGuess_13 : decode cX4_isGuess 13 = .ok (.iaload, 1) := dk_46 (dk_at dksX4_isGuess_0 13 rfl rfl)
theorem dX4_isGuess_14 : decode cX4_isGuess 14 = .ok (.iload_n 1, 1) := dk_27 (dk_at dksX4_isGuess_0 14 rfl rfl)
theorem dX4_isGuess_15 : decode cX4_isGuess 15 = .ok (.bipush 60, 2) := dk_16 60 (dk_at dksX4_isGuess_0 15 rfl rfl)
theorem dX4_isGuess_17 : decode cX4_isGuess 17 = .ok (.irem, 1) := dk_112 (dk_at dksX4_isGuess_0 17 rfl rfl)
theorem dX4_isGuess_18 : decode cX4_isGuess 18 = .ok (.iconst 1, 1) := dk_4 (dk_at dksX4_isGuess_0 18 rfl rfl)
theorem dX4_isGuess_19 : decode cX4_isGuess 19 = .ok (.iadd, 1) := dk_96 (dk_at dksX4_isGuess_0 19 rfl rfl)
theorem dX4_isGuess_20 : decode cX4_isGuess 20 = .ok (.if_icmp .ne 5, 3) := dk_160 0 5 (dk_at dksX4_isGuess_0 20 rfl rfl)
theorem dX4_isGuess_23 : decode cX4_isGuess 23 = .ok (.iconst 0, 1) := dk_3 (dk_at dksX4_isGuess_0 23 rfl rfl)
theorem dX4_isGuess_24 : decode cX4_isGuess 24 = .ok (.ireturn, 1) := dk_172 (dk_at dksX4_isGuess_1 0 rfl rfl)
theorem dX4_isGuess_25 : decode cX4_isGuess 25 = .ok (.aload_n 0, 1) := dk_42 (dk_at dksX4_isGuess_1 1 rfl rfl)
theorem dX4_isGuess_26 : decode cX4_isGuess 26 = .ok (.invokevirtual 391, 3) := dk_182 1 135 (dk_at dksX4_isGuess_1 2 rfl rfl)
theorem dX4_isGuess_29 : decode cX4_isGuess 29 = .ok (.aload_n 0, 1) := dk_42 (dk_at dksX4_isGuess_1 5 rfl rfl)
theorem dX4_isGuess_30 : decode cX4_isGuess 30 = .ok (.getfield 66, 3) := dk_180 0 66 (dk_at dksX4_isGuess_1 6 rfl rfl)
theorem dX4_isGuess_33 : decode cX4_isGuess 33 = .ok (.bipush 70, 2) := dk_16 70 (dk_at dksX4_isGuess_1 9 rfl rfl)
theorem dX4_isGuess_35 : decode cX4_isGuess 35 = .ok (.iload_n 2, 1) := dk_28 (dk_at dksX4_isGuess_1 11 rfl rfl)
theorem dX4_isGuess_36 : decode cX4_isGuess 36 = .ok (.iadd, 1) := dk_96 (dk_at dksX4_isGuess_1 12 rfl rfl)
theorem dX4_isGuess_37 : decode cX4_isGuess 37 = .ok (.iload_n 1, 1) := dk_27 (dk_at dksX4_isGuess_1 13 rfl rfl)
theorem dX4_isGuess_38 : decode cX4_isGuess 38 = .ok (.bipush 60, 2) := dk_16 60 (dk_at dksX4_isGuess_1 14 rfl rfl)
theorem dX4_isGuess_40 : decode cX4_isGuess 40 = .ok (.irem, 1) := dk_112 (dk_at dksX4_isGuess_1 16 rfl rfl)
theorem dX4_isGuess_41 : decode cX4_isGuess 41 = .ok (.iconst 1, 1) := dk_4 (dk_at dksX4_isGuess_1 17 rfl rfl)
theorem dX4_isGuess_42 : decode cX4_isGuess 42 = .ok (.iadd, 1) := dk_96 (dk_at dksX4_isGuess_1 18 rfl rfl)
theorem dX4_isGuess_43 : decode cX4_isGuess 43 = .ok (.iastore, 1) := dk_79 (dk_at dksX4_isGuess_1 19 rfl rfl)
theorem dX4_isGuess_44 : decode cX4_isGuess 44 = .ok (.aload_n 0, 1) := dk_42 (dk_at dksX4_isGuess_1 20 rfl rfl)
theorem dX4_isGuess_45 : decode cX4_isGuess 45 = .ok (.invokevirtual 424, 3) := dk_182 1 168 (dk_at dksX4_isGuess_1 21 rfl rfl)
theorem dX4_isGuess_48 : decode cX4_isGuess 48 = .ok (.ireturn, 1) := dk_172 (dk_at dksX4_isGuess_2 0 rfl rfl)
abbrev cX4_next : ByteArray := prog_12_method_109_code
def yX4_next : MethodName := ⟨RX4, "next", "(I)I"⟩
def dkwX4_next_9 : List UInt8 := [132, 5, 1, 167, 255, 134, 27, 154, 0, 7, 29, 167, 0, 5, 21, 4, 172]
abbrev dktX4_next_9 : List UInt8 := dkwX4_next_9 ++ []
def dkwX4_next_8 : List UInt8 := [132, 7, 1, 167, 255, 172, 21, 6, 21, 4, 163, 0, 6, 167, 0, 10, 21, 5, 62, 21, 6, 54, 4]
abbrev dktX4_next_8 : List UInt8 := dkwX4_next_8 ++ dktX4_next_9
def dkwX4_next_7 : List UInt8 := [3, 54, 8, 132, 9, 1, 167, 255, 205, 21, 6, 21, 8, 153, 0, 7, 4, 167, 0, 4, 3, 96, 54, 6]
abbrev dktX4_next_7 : List UInt8 := dkwX4_next_7 ++ dktX4_next_8
def dkwX4_next_6 : List UInt8 := [21, 5, 96, 46, 42, 180, 0, 99, 16, 8, 21, 9, 104, 21, 5, 96, 46, 159, 0, 7, 4, 167, 0, 4]
abbrev dktX4_next_6 : List UInt8 := dkwX4_next_6 ++ dktX4_next_7
def dkwX4_next_5 : List UInt8 := [3, 54, 9, 21, 9, 21, 7, 162, 0, 50, 21, 8, 153, 0, 45, 42, 180, 0, 99, 16, 8, 21, 7, 104]
abbrev dktX4_next_5 : List UInt8 := dkwX4_next_5 ++ dktX4_next_6
def dkwX4_next_4 : List UInt8 := [21, 5, 42, 180, 1, 19, 162, 0, 119, 3, 54, 6, 3, 54, 7, 21, 7, 28, 162, 0, 84, 4, 54, 8]
abbrev dktX4_next_4 : List UInt8 := dkwX4_next_4 ++ dktX4_next_5
def dkwX4_next_3 : List UInt8 := [79, 132, 4, 1, 167, 255, 225, 132, 2, 1, 132, 3, 1, 167, 255, 191, 2, 62, 3, 54, 4, 3, 54, 5]
abbrev dktX4_next_3 : List UInt8 := dkwX4_next_3 ++ dktX4_next_4
def dkwX4_next_2 : List UInt8 := [180, 1, 19, 162, 0, 28, 42, 180, 0, 99, 16, 8, 28, 104, 21, 4, 96, 42, 180, 0, 96, 21, 4, 46]
abbrev dktX4_next_2 : List UInt8 := dkwX4_next_2 ++ dktX4_next_3
def dkwX4_next_1 : List UInt8 := [180, 1, 22, 104, 162, 0, 60, 42, 29, 182, 1, 171, 154, 0, 6, 167, 0, 43, 3, 54, 4, 21, 4, 42]
abbrev dktX4_next_1 : List UInt8 := dkwX4_next_1 ++ dktX4_next_2
def dkwX4_next_0 : List UInt8 := [42, 3, 181, 0, 111, 42, 27, 4, 182, 1, 114, 154, 0, 5, 3, 172, 3, 61, 3, 62, 29, 16, 60, 42]
abbrev dktX4_next_0 : List UInt8 := dkwX4_next_0 ++ dktX4_next_1
theorem dksX4_next_0 : cX4_next.data.toList.drop 0 = dktX4_next_0 := by decide +kernel
theorem dksX4_next_1 : cX4_next.data.toList.drop 24 = dktX4_next_1 := dk_seg dksX4_next_0 24 rfl rfl
theorem dksX4_next_2 : cX4_next.data.toList.drop 48 = dktX4_next_2 := dk_seg dksX4_next_1 24 rfl rfl
theorem dksX4_next_3 : cX4_next.data.toList.drop 72 = dktX4_next_3 := dk_seg dksX4_next_2 24 rfl rfl
theorem dksX4_next_4 : cX4_next.data.toList.drop 96 = dktX4_next_4 := dk_seg dksX4_next_3 24 rfl rfl
theorem dksX4_next_5 : cX4_next.data.toList.drop 120 = dktX4_next_5 := dk_seg dksX4_next_4 24 rfl rfl
theorem dksX4_next_6 : cX4_next.data.toList.drop 144 = dktX4_next_6 := dk_seg dksX4_next_5 24 rfl rfl
theorem dksX4_next_7 : cX4_next.data.toList.drop 168 = dktX4_next_7 := dk_seg dksX4_next_6 24 rfl rfl
theorem dksX4_next_8 : cX4_next.data.toList.drop 192 = dktX4_next_8 := dk_seg dksX4_next_7 24 rfl rfl
theorem dksX4_next_9 : cX4_next.data.toList.drop 215 = dktX4_next_9 := dk_seg dksX4_next_8 23 rfl rfl
theorem dX4_next_0 : decode cX4_next 0 = .ok (.aload_n 0, 1) := dk_42 (dk_at dksX4_next_0 0 rfl rfl)
theorem dX4_next_1 : decode cX4_next 1 = .ok (.iconst 0, 1) := dk_3 (dk_at dksX4_next_0 1 rfl rfl)
theorem dX4_next_2 : decode cX4_next 2 = .ok (.putfield 111, 3) := dk_181 0 111 (dk_at dksX4_next_0 2 rfl rfl)
theorem dX4_next_5 : decode cX4_next 5 = .ok (.aload_n 0, 1) := dk_42 (dk_at dksX4_next_0 5 rfl rfl)
theorem dX4_next_6 : decode cX4_next 6 = .ok (.iload_n 1, 1) := dk_27 (dk_at dksX4_next_0 6 rfl rfl)
theorem dX4_next_7 : decode cX4_next 7 = .ok (.iconst 1, 1) := dk_4 (dk_at dksX4_next_0 7 rfl rfl)
theorem dX4_next_8 : decode cX4_next 8 = .ok (.invokevirtual 370, 3) := dk_182 1 114 (dk_at dksX4_next_0 8 rfl rfl)
theorem dX4_next_11 : decode cX4_next 11 = .ok (.ifCond .ne 5, 3) := dk_154 0 5 (dk_at dksX4_next_0 11 rfl rfl)
theorem dX4_next_14 : decode cX4_next 14 = .ok (.iconst 0, 1) := dk_3 (dk_at dksX4_next_0 14 rfl rfl)
theorem dX4_next_15 : decode cX4_next 15 = .ok (.ireturn, 1) := dk_172 (dk_at dksX4_next_0 15 rfl rfl)
theorem dX4_next_16 : decode cX4_next 16 = .ok (.iconst 0, 1) := dk_3 (dk_at dksX4_next_0 16 rfl rfl)
theorem dX4_next_17 : decode cX4_next 17 = .ok (.istore_n 2, 1) := dk_61 (dk_at dksX4_next_0 17 rfl rfl)
theorem dX4_next_18 : decode cX4_next 18 = .ok (.iconst 0, 1) := dk_3 (dk_at dksX4_next_0 18 rfl rfl)
theorem dX4_next_19 : decode cX4_next 19 = .ok (.istore_n 3, 1) := dk_62 (dk_at dksX4_next_0 19 rfl rfl)
theorem dX4_next_20 : decode cX4_next 20 = .ok (.iload_n 3, 1) := dk_29 (dk_at dksX4_next_0 20 rfl rfl)
theorem dX4_next_21 : decode cX4_next 21 = .ok (.bipush 60, 2) := dk_16 60 (dk_at dksX4_next_0 21 rfl rfl)
theorem dX4_next_23 : decode cX4_next 23 = .ok (.aload_n 0, 1) := dk_42 (dk_at dksX4_next_0 23 rfl rfl)
theorem dX4_next_24 : decode cX4_next 24 = .ok (.getfield 278, 3) := dk_180 1 22 (dk_at dksX4_next_1 0 rfl rfl)
theorem dX4_next_27 : decode cX4_next 27 = .ok (.imul, 1) := dk_104 (dk_at dksX4_next_1 3 rfl rfl)
theorem dX4_next_28 : decode cX4_next 28 = .ok (.if_icmp .ge 60, 3) := dk_162 0 60 (dk_at dksX4_next_1 4 rfl rfl)
theorem dX4_next_31 : decode cX4_next 31 = .ok (.aload_n 0, 1) := dk_42 (dk_at dksX4_next_1 7 rfl rfl)
theorem dX4_next_32 : decode cX4_next 32 = .ok (.iload_n 3, 1) := dk_29 (dk_at dksX4_next_1 8 rfl rfl)
theorem dX4_next_33 : decode cX4_next 33 = .ok (.invokevirtual 427, 3) := dk_182 1 171 (dk_at dksX4_next_1 9 rfl rfl)
theorem dX4_next_36 : decode cX4_next 36 = .ok (.ifCond .ne 6, 3) := dk_154 0 6 (dk_at dksX4_next_1 12 rfl rfl)
theorem dX4_next_39 : decode cX4_next 39 = .ok (.goto 43, 3) := dk_167 0 43 (dk_at dksX4_next_1 15 rfl rfl)
theorem dX4_next_42 : decode cX4_next 42 = .ok (.iconst 0, 1) := dk_3 (dk_at dksX4_next_1 18 rfl rfl)
theorem dX4_next_43 : decode cX4_next 43 = .ok (.istore 4, 2) := dk_54 4 (dk_at dksX4_next_1 19 rfl rfl)
theorem dX4_next_45 : decode cX4_next 45 = .ok (.iload 4, 2) := dk_21 4 (dk_at dksX4_next_1 21 rfl rfl)
theorem dX4_next_47 : decode cX4_next 47 = .ok (.aload_n 0, 1) := dk_42 (dk_at dksX4_next_1 23 rfl rfl)
theorem dX4_next_48 : decode cX4_next 48 = .ok (.getfield 275, 3) := dk_180 1 19 (dk_at dksX4_next_2 0 rfl rfl)
theorem dX4_next_51 : decode cX4_next 51 = .ok (.if_icmp .ge 28, 3) := dk_162 0 28 (dk_at dksX4_next_2 3 rfl rfl)
theorem dX4_next_54 : decode cX4_next 54 = .ok (.aload_n 0, 1) := dk_42 (dk_at dksX4_next_2 6 rfl rfl)
theorem dX4_next_55 : decode cX4_next 55 = .ok (.getfield 99, 3) := dk_180 0 99 (dk_at dksX4_next_2 7 rfl rfl)
theorem dX4_next_58 : decode cX4_next 58 = .ok (.bipush 8, 2) := dk_16 8 (dk_at dksX4_next_2 10 rfl rfl)
theorem dX4_next_60 : decode cX4_next 60 = .ok (.iload_n 2, 1) := dk_28 (dk_at dksX4_next_2 12 rfl rfl)
theorem dX4_next_61 : decode cX4_next 61 = .ok (.imul, 1) := dk_104 (dk_at dksX4_next_2 13 rfl rfl)
theorem dX4_next_62 : decode cX4_next 62 = .ok (.iload 4, 2) := dk_21 4 (dk_at dksX4_next_2 14 rfl rfl)
theorem dX4_next_64 : decode cX4_next 64 = .ok (.iadd, 1) := dk_96 (dk_at dksX4_next_2 16 rfl rfl)
theorem dX4_next_65 : decode cX4_next 65 = .ok (.aload_n 0, 1) := dk_42 (dk_at dksX4_next_2 17 rfl rfl)
theorem dX4_next_66 : decode cX4_next 66 = .ok (.getfield 96, 3) := dk_180 0 96 (dk_at dksX4_next_2 18 rfl rfl)
theorem dX4_next_69 : decode cX4_next 69 = .ok (.iload 4, 2) := dk_21 4 (dk_at dksX4_next_2 21 rfl rfl)
theorem dX4_next_71 : decode cX4_next 71 = .ok (.iaload, 1) := dk_46 (dk_at dksX4_next_2 23 rfl rfl)
theorem dX4_next_72 : decode cX4_next 72 = .ok (.iastore, 1) := dk_79 (dk_at dksX4_next_3 0 rfl rfl)
theorem dX4_next_73 : decode cX4_next 73 = .ok (.iinc 4 1, 3) := dk_132 4 1 (dk_at dksX4_next_3 1 rfl rfl)
theorem dX4_next_76 : decode cX4_next 76 = .ok (.goto (-31), 3) := dk_167 255 225 (dk_at dksX4_next_3 4 rfl rfl)
theorem dX4_next_79 : decode cX4_next 79 = .ok (.iinc 2 1, 3) := dk_132 2 1 (dk_at dksX4_next_3 7 rfl rfl)
theorem dX4_next_82 : decode cX4_next 82 = .ok (.iinc 3 1, 3) := dk_132 3 1 (dk_at dksX4_next_3 10 rfl rfl)
theorem dX4_next_85 : decode cX4_next 85 = .ok (.goto (-65), 3) := dk_167 255 191 (dk_at dksX4_next_3 13 rfl rfl)
theorem dX4_next_88 : decode cX4_next 88 = .ok (.iconst (-1), 1) := dk_2 (dk_at dksX4_next_3 16 rfl rfl)
theorem dX4_next_89 : decode cX4_next 89 = .ok (.istore_n 3, 1) := dk_62 (dk_at dksX4_next_3 17 rfl rfl)
theorem dX4_next_90 : decode cX4_next 90 = .ok (.iconst 0, 1) := dk_3 (dk_at dksX4_next_3 18 rfl rfl)
theorem dX4_next_91 : decode cX4_next 91 = .ok (.istore 4, 2) := dk_54 4 (dk_at dksX4_next_3 19 rfl rfl)
theorem dX4_next_93 : decode cX4_next 93 = .ok (.iconst 0, 1) := dk_3 (dk_at dksX4_next_3 21 rfl rfl)
theorem dX4_next_94 : decode cX4_next 94 = .ok (.istore 5, 2) := dk_54 5 (dk_at dksX4_next_3 22 rfl rfl)
theorem dX4_next_96 : decode cX4_next 96 = .ok (.iload 5, 2) := dk_21 5 (dk_at dksX4_next_4 0 rfl rfl)
theorem dX4_next_98 : decode cX4_next 98 = .ok (.aload_n 0, 1) := dk_42 (dk_at dksX4_next_4 2 rfl rfl)
theorem dX4_next_99 : decode cX4_next 99 = .ok (.getfield 275, 3) := dk_180 1 19 (dk_at dksX4_next_4 3 rfl rfl)
theorem dX4_next_102 : decode cX4_next 102 = .ok (.if_icmp .ge 119, 3) := dk_162 0 119 (dk_at dksX4_next_4 6 rfl rfl)
theorem dX4_next_105 : decode cX4_next 105 = .ok (.iconst 0, 1) := dk_3 (dk_at dksX4_next_4 9 rfl rfl)
theorem dX4_next_106 : decode cX4_next 106 = .ok (.istore 6, 2) := dk_54 6 (dk_at dksX4_next_4 10 rfl rfl)
theorem dX4_next_108 : decode cX4_next 108 = .ok (.iconst 0, 1) := dk_3 (dk_at dksX4_next_4 12 rfl rfl)
theorem dX4_next_109 : decode cX4_next 109 = .ok (.istore 7, 2) := dk_54 7 (dk_at dksX4_next_4 13 rfl rfl)
theorem dX4_next_111 : decode cX4_next 111 = .ok (.iload 7, 2) := dk_21 7 (dk_at dksX4_next_4 15 rfl rfl)
theorem dX4_next_113 : decode cX4_next 113 = .ok (.iload_n 2, 1) := dk_28 (dk_at dksX4_next_4 17 rfl rfl)
theorem dX4_next_114 : decode cX4_next 114 = .ok (.if_icmp .ge 84, 3) := dk_162 0 84 (dk_at dksX4_next_4 18 rfl rfl)
theorem dX4_next_117 : decode cX4_next 117 = .ok (.iconst 1, 1) := dk_4 (dk_at dksX4_next_4 21 rfl rfl)
theorem dX4_next_118 : decode cX4_next 118 = .ok (.istore 8, 2) := dk_54 8 (dk_at dksX4_next_4 22 rfl rfl)
theorem dX4_next_120 : decode cX4_next 120 = .ok (.iconst 0, 1) := dk_3 (dk_at dksX4_next_5 0 rfl rfl)
theorem dX4_next_121 : decode cX4_next 121 = .ok (.istore 9, 2) := dk_54 9 (dk_at dksX4_next_5 1 rfl rfl)
theorem dX4_next_123 : decode cX4_next 123 = .ok (.iload 9, 2) := dk_21 9 (dk_at dksX4_next_5 3 rfl rfl)
theorem dX4_next_125 : decode cX4_next 125 = .ok (.iload 7, 2) := dk_21 7 (dk_at dksX4_next_5 5 rfl rfl)
theorem dX4_next_127 : decode cX4_next 127 = .ok (.if_icmp .ge 50, 3) := dk_162 0 50 (dk_at dksX4_next_5 7 rfl rfl)
theorem dX4_next_130 : decode cX4_next 130 = .ok (.iload 8, 2) := dk_21 8 (dk_at dksX4_next_5 10 rfl rfl)
theorem dX4_next_132 : decode cX4_next 132 = .ok (.ifCond .eq 45, 3) := dk_153 0 45 (dk_at dksX4_next_5 12 rfl rfl)
theorem dX4_next_135 : decode cX4_next 135 = .ok (.aload_n 0, 1) := dk_42 (dk_at dksX4_next_5 15 rfl rfl)
theorem dX4_next_136 : decode cX4_next 136 = .ok (.getfield 99, 3) := dk_180 0 99 (dk_at dksX4_next_5 16 rfl rfl)
theorem dX4_next_139 : decode cX4_next 139 = .ok (.bipush 8, 2) := dk_16 8 (dk_at dksX4_next_5 19 rfl rfl)
theorem dX4_next_141 : decode cX4_next 141 = .ok (.iload 7, 2) := dk_21 7 (dk_at dksX4_next_5 21 rfl rfl)
theorem dX4_next_143 : decode cX4_next 143 = .ok (.imul, 1) := dk_104 (dk_at dksX4_next_5 23 rfl rfl)
theorem dX4_next_144 : decode cX4_next 144 = .ok (.iload 5, 2) := dk_21 5 (dk_at dksX4_next_6 0 rfl rfl)
theorem dX4_next_146 : decode cX4_next 146 = .ok (.iadd, 1) := dk_96 (dk_at dksX4_next_6 2 rfl rfl)
theorem dX4_next_147 : decode cX4_next 147 = .ok (.iaload, 1) := dk_46 (dk_at dksX4_next_6 3 rfl rfl)
theorem dX4_next_148 : decode cX4_next 148 = .ok (.aload_n 0, 1) := dk_42 (dk_at dksX4_next_6 4 rfl rfl)
theorem dX4_next_149 : decode cX4_next 149 = .ok (.getfield 99, 3) := dk_180 0 99 (dk_at dksX4_next_6 5 rfl rfl)
theorem dX4_next_152 : decode cX4_next 152 = .ok (.bipush 8, 2) := dk_16 8 (dk_at dksX4_next_6 8 rfl rfl)
theorem dX4_next_154 : decode cX4_next 154 = .ok (.iload 9, 2) := dk_21 9 (dk_at dksX4_next_6 10 rfl rfl)
theorem dX4_next_156 : decode cX4_next 156 = .ok (.imul, 1) := dk_104 (dk_at dksX4_next_6 12 rfl rfl)
theorem dX4_next_157 : decode cX4_next 157 = .ok (.iload 5, 2) := dk_21 5 (dk_at dksX4_next_6 13 rfl rfl)
theorem dX4_next_159 : decode cX4_next 159 = .ok (.iadd, 1) := dk_96 (dk_at dksX4_next_6 15 rfl rfl)
theorem dX4_next_160 : decode cX4_next 160 = .ok (.iaload, 1) := dk_46 (dk_at dksX4_next_6 16 rfl rfl)
theorem dX4_next_161 : decode cX4_next 161 = .ok (.if_icmp .eq 7, 3) := dk_159 0 7 (dk_at dksX4_next_6 17 rfl rfl)
theorem dX4_next_164 : decode cX4_next 164 = .ok (.iconst 1, 1) := dk_4 (dk_at dksX4_next_6 20 rfl rfl)
theorem dX4_next_165 : decode cX4_next 165 = .ok (.goto 4, 3) := dk_167 0 4 (dk_at dksX4_next_6 21 rfl rfl)
theorem dX4_next_168 : decode cX4_next 168 = .ok (.iconst 0, 1) := dk_3 (dk_at dksX4_next_7 0 rfl rfl)
theorem dX4_next_169 : decode cX4_next 169 = .ok (.istore 8, 2) := dk_54 8 (dk_at dksX4_next_7 1 rfl rfl)
theorem dX4_next_171 : decode cX4_next 171 = .ok (.iinc 9 1, 3) := dk_132 9 1 (dk_at dksX4_next_7 3 rfl rfl)
theorem dX4_next_174 : decode cX4_next 174 = .ok (.goto (-51), 3) := dk_167 255 205 (dk_at dksX4_next_7 6 rfl rfl)
theorem dX4_next_177 : decode cX4_next 177 = .ok (.iload 6, 2) := dk_21 6 (dk_at dksX4_next_7 9 rfl rfl)
theorem dX4_next_179 : decode cX4_next 179 = .ok (.iload 8, 2) := dk_21 8 (dk_at dksX4_next_7 11 rfl rfl)
theorem dX4_next_181 : decode cX4_next 181 = .ok (.ifCond .eq 7, 3) := dk_153 0 7 (dk_at dksX4_next_7 13 rfl rfl)
theorem dX4_next_184 : decode cX4_next 184 = .ok (.iconst 1, 1) := dk_4 (dk_at dksX4_next_7 16 rfl rfl)
theorem dX4_next_185 : decode cX4_next 185 = .ok (.goto 4, 3) := dk_167 0 4 (dk_at dksX4_next_7 17 rfl rfl)
theorem dX4_next_188 : decode cX4_next 188 = .ok (.iconst 0, 1) := dk_3 (dk_at dksX4_next_7 20 rfl rfl)
theorem dX4_next_189 : decode cX4_next 189 = .ok (.iadd, 1) := dk_96 (dk_at dksX4_next_7 21 rfl rfl)
theorem dX4_next_190 : decode cX4_next 190 = .ok (.istore 6, 2) := dk_54 6 (dk_at dksX4_next_7 22 rfl rfl)
theorem dX4_next_192 : decode cX4_next 192 = .ok (.iinc 7 1, 3) := dk_132 7 1 (dk_at dksX4_next_8 0 rfl rfl)
theorem dX4_next_195 : decode cX4_next 195 = .ok (.goto (-84), 3) := dk_167 255 172 (dk_at dksX4_next_8 3 rfl rfl)
theorem dX4_next_198 : decode cX4_next 198 = .ok (.iload 6, 2) := dk_21 6 (dk_at dksX4_next_8 6 rfl rfl)
theorem dX4_next_200 : decode cX4_next 200 = .ok (.iload 4, 2) := dk_21 4 (dk_at dksX4_next_8 8 rfl rfl)
theorem dX4_next_202 : decode cX4_next 202 = .ok (.if_icmp .gt 6, 3) := dk_163 0 6 (dk_at dksX4_next_8 10 rfl rfl)
theorem dX4_next_205 : decode cX4_next 205 = .ok (.goto 10, 3) := dk_167 0 10 (dk_at dksX4_next_8 13 rfl rfl)
theorem dX4_next_208 : decode cX4_next 208 = .ok (.iload 5, 2) := dk_21 5 (dk_at dksX4_next_8 16 rfl rfl)
theorem dX4_next_210 : decode cX4_next 210 = .ok (.istore_n 3, 1) := dk_62 (dk_at dksX4_next_8 18 rfl rfl)
theorem dX4_next_211 : decode cX4_next 211 = .ok (.iload 6, 2) := dk_21 6 (dk_at dksX4_next_8 19 rfl rfl)
theorem dX4_next_213 : decode cX4_next 213 = .ok (.istore 4, 2) := dk_54 4 (dk_at dksX4_next_8 21 rfl rfl)
theorem dX4_next_215 : decode cX4_next 215 = .ok (.iinc 5 1, 3) := dk_132 5 1 (dk_at dksX4_next_9 0 rfl rfl)
theorem dX4_next_218 : decode cX4_next 218 = .ok (.goto (-122), 3) := dk_167 255 134 (dk_at dksX4_next_9 3 rfl rfl)
theorem dX4_next_221 : decode cX4_next 221 = .ok (.iload_n 1, 1) := dk_27 (dk_at dksX4_next_9 6 rfl rfl)
theorem dX4_next_222 : decode cX4_next 222 = .ok (.ifCond .ne 7, 3) := dk_154 0 7 (dk_at dksX4_next_9 7 rfl rfl)
theorem dX4_next_225 : decode cX4_next 225 = .ok (.iload_n 3, 1) := dk_29 (dk_at dksX4_next_9 10 rfl rfl)
theorem dX4_next_226 : decode cX4_next 226 = .ok (.goto 5, 3) := dk_167 0 5 (dk_at dksX4_next_9 11 rfl rfl)
theorem dX4_next_229 : decode cX4_next 229 = .ok (.iload 4, 2) := dk_21 4 (dk_at dksX4_next_9 14 rfl rfl)
theorem dX4_next_231 : decode cX4_next 231 = .ok (.ireturn, 1) := dk_172 (dk_at dksX4_next_9 16 rfl rfl)
abbrev cX4_byDamp : ByteArray := prog_12_method_110_code
def yX4_byDamp : MethodName := ⟨RX4, "byDamp", "(III)I"⟩
def dkwX4_byDamp_7 : List UInt8 := [42, 2, 181, 0, 78, 21, 4, 172]
abbrev dktX4_byDamp_7 : List UInt8 := dkwX4_byDamp_7 ++ []
def dkwX4_byDamp_6 : List UInt8 := [16, 43, 27, 182, 1, 66, 153, 0, 8, 21, 6, 167, 0, 4, 3, 96, 54, 4, 132, 5, 1, 167, 255, 145]
abbrev dktX4_byDamp_6 : List UInt8 := dkwX4_byDamp_6 ++ dktX4_byDamp_7
def dkwX4_byDamp_5 : List UInt8 := [16, 9, 167, 0, 4, 3, 181, 0, 78, 42, 16, 43, 182, 1, 80, 132, 7, 1, 167, 255, 190, 21, 4, 42]
abbrev dktX4_byDamp_5 : List UInt8 := dkwX4_byDamp_5 ++ dktX4_byDamp_6
def dkwX4_byDamp_4 : List UInt8 := [21, 6, 21, 8, 153, 0, 7, 29, 167, 0, 7, 16, 10, 29, 100, 104, 54, 6, 42, 21, 8, 153, 0, 8]
abbrev dktX4_byDamp_4 : List UInt8 := dkwX4_byDamp_4 ++ dktX4_byDamp_5
def dkwX4_byDamp_3 : List UInt8 := [21, 7, 28, 162, 0, 66, 21, 5, 21, 7, 122, 4, 126, 4, 160, 0, 7, 4, 167, 0, 4, 3, 54, 8]
abbrev dktX4_byDamp_3 : List UInt8 := dkwX4_byDamp_3 ++ dktX4_byDamp_4
def dkwX4_byDamp_2 : List UInt8 := [54, 4, 3, 54, 5, 21, 5, 4, 28, 120, 162, 0, 109, 4, 54, 6, 42, 182, 1, 135, 3, 54, 7]
abbrev dktX4_byDamp_2 : List UInt8 := dkwX4_byDamp_2 ++ dktX4_byDamp_3
def dkwX4_byDamp_1 : List UInt8 := [3, 16, 10, 184, 1, 89, 153, 0, 7, 4, 167, 0, 4, 3, 5, 182, 1, 12, 154, 0, 5, 3, 172, 3]
abbrev dktX4_byDamp_1 : List UInt8 := dkwX4_byDamp_1 ++ dktX4_byDamp_2
def dkwX4_byDamp_0 : List UInt8 := [42, 3, 181, 0, 111, 42, 27, 182, 1, 111, 153, 0, 35, 42, 28, 4, 8, 184, 1, 89, 153, 0, 17, 29]
abbrev dktX4_byDamp_0 : List UInt8 := dkwX4_byDamp_0 ++ dktX4_byDamp_1
theorem dksX4_byDamp_0 : cX4_byDamp.data.toList.drop 0 = dktX4_byDamp_0 := by decide +kernel
theorem dksX4_byDamp_1 : cX4_byDamp.data.toList.drop 24 = dktX4_byDamp_1 := dk_seg dksX4_byDamp_0 24 rfl rfl
theorem dksX4_byDamp_2 : cX4_byDamp.data.toList.drop 48 = dktX4_byDamp_2 := dk_seg dksX4_byDamp_1 24 rfl rfl
theorem dksX4_byDamp_3 : cX4_byDamp.data.toList.drop 71 = dktX4_byDamp_3 := dk_seg dksX4_byDamp_2 23 rfl rfl
theorem dksX4_byDamp_4 : cX4_byDamp.data.toList.drop 95 = dktX4_byDamp_4 := dk_seg dksX4_byDamp_3 24 rfl rfl
theorem dksX4_byDamp_5 : cX4_byDamp.data.toList.drop 119 = dktX4_byDamp_5 := dk_seg dksX4_byDamp_4 24 rfl rfl
theorem dksX4_byDamp_6 : cX4_byDamp.data.toList.drop 143 = dktX4_byDamp_6 := dk_seg dksX4_byDamp_5 24 rfl rfl
theorem dksX4_byDamp_7 : cX4_byDamp.data.toList.drop 167 = dktX4_byDamp_7 := dk_seg dksX4_byDamp_6 24 rfl rfl
theorem dX4_byDamp_0 : decode cX4_byDamp 0 = .ok (.aload_n 0, 1) := dk_42 (dk_at dksX4_byDamp_0 0 rfl rfl)
theorem dX4_byDamp_1 : decode cX4_byDamp 1 = .ok (.iconst 0, 1) := dk_3 (dk_at dksX4_byDamp_0 1 rfl rfl)
theorem dX4_byDamp_2 : decode cX4_byDamp 2 = .ok (.putfield 111, 3) := dk_181 0 111 (dk_at dksX4_byDamp_0 2 rfl rfl)
theorem dX4_byDamp_5 : decode cX4_byDamp 5 = .ok (.aload_n 0, 1) := dk_42 (dk_at dksX4_byDamp_0 5 rfl rfl)
theorem dX4_byDamp_6 : decode cX4_byDamp 6 = .ok (.iload_n 1, 1) := dk_27 (dk_at dksX4_byDamp_0 6 rfl rfl)
theorem dX4_byDamp_7 : decode cX4_byDamp 7 = .ok (.invokevirtual 367, 3) := dk_182 1 111 (dk_at dksX4_byDamp_0 7 rfl rfl)
theorem dX4_byDamp_10 : decode cX4_byDamp 10 = .ok (.ifCond .eq 35, 3) := dk_153 0 35 (dk_at dksX4_byDamp_0 10 rfl rfl)
theorem dX4_byDamp_13 : decode cX4_byDamp 13 = .ok (.aload_n 0, 1) := dk_42 (dk_at dksX4_byDamp_0 13 rfl rfl)
theorem dX4_byDamp_14 : decode cX4_byDamp 14 = .ok (.iload_n 2, 1) := dk_28 (dk_at dksX4_byDamp_0 14 rfl rfl)
theorem dX4_byDamp_15 : decode cX4_byDamp 15 = .ok (.iconst 1, 1) := dk_4 (dk_at dksX4_byDamp_0 15 rfl rfl)
theorem dX4_byDamp_16 : decode cX4_byDamp 16 = .ok (.iconst 5, 1) := dk_8 (dk_at dksX4_byDamp_0 16 rfl rfl)
theorem dX4_byDamp_17 : decode cX4_byDamp 17 = .ok (.invokestatic 345, 3) := dk_184 1 89 (dk_at dksX4_byDamp_0 17 rfl rfl)
theorem dX4_byDamp_20 : decode cX4_byDamp 20 = .ok (.ifCond .eq 17, 3) := dk_153 0 17 (dk_at dksX4_byDamp_0 20 rfl rfl)
theorem dX4_byDamp_23 : decode cX4_byDamp 23 = .ok (.iload_n 3, 1) := dk_29 (dk_at dksX4_byDamp_0 23 rfl rfl)
theorem dX4_byDamp_24 : decode cX4_byDamp 24 = .ok (.iconst 0, 1) := dk_3 (dk_at dksX4_byDamp_1 0 rfl rfl)
theorem dX4_byDamp_25 : decode cX4_byDamp 25 = .ok (.bipush 10, 2) := dk_16 10 (dk_at dksX4_byDamp_1 1 rfl rfl)
theorem dX4_byDamp_27 : decode cX4_byDamp 27 = .ok (.invokestatic 345, 3) := dk_184 1 89 (dk_at dksX4_byDamp_1 3 rfl rfl)
theorem dX4_byDamp_30 : decode cX4_byDamp 30 = .ok (.ifCond .eq 7, 3) := dk_153 0 7 (dk_at dksX4_byDamp_1 6 rfl rfl)
theorem dX4_byDamp_33 : decode cX4_byDamp 33 = .ok (.iconst 1, 1) := dk_4 (dk_at dksX4_byDamp_1 9 rfl rfl)
theorem dX4_byDamp_34 : decode cX4_byDamp 34 = .ok (.goto 4, 3) := dk_167 0 4 (dk_at dksX4_byDamp_1 10 rfl rfl)
theorem dX4_byDamp_37 : decode cX4_byDamp 37 = .ok (.iconst 0, 1) := dk_3 (dk_at dksX4_byDamp_1 13 rfl rfl)
theorem dX4_byDamp_38 : decode cX4_byDamp 38 = .ok (.iconst 2, 1) := dk_5 (dk_at dksX4_byDamp_1 14 rfl rfl)
theorem dX4_byDamp_39 : decode cX4_byDamp 39 = .ok (.invokevirtual 268, 3) := dk_182 1 12 (dk_at dksX4_byDamp_1 15 rfl rfl)
theorem dX4_byDamp_42 : decode cX4_byDamp 42 = .ok (.ifCond .ne 5, 3) := dk_154 0 5 (dk_at dksX4_byDamp_1 18 rfl rfl)
theorem dX4_byDamp_45 : decode cX4_byDamp 45 = .ok (.iconst 0, 1) := dk_3 (dk_at dksX4_byDamp_1 21 rfl rfl)
theorem dX4_byDamp_46 : decode cX4_byDamp 46 = .ok (.ireturn, 1) := dk_172 (dk_at dksX4_byDamp_1 22 rfl rfl)
theorem dX4_byDamp_47 : decode cX4_byDamp 47 = .ok (.iconst 0, 1) := dk_3 (dk_at dksX4_byDamp_1 23 rfl rfl)
theorem dX4_byDamp_48 : decode cX4_byDamp 48 = .ok (.istore 4, 2) := dk_54 4 (dk_at dksX4_byDamp_2 0 rfl rfl)
theorem dX4_byDamp_50 : decode cX4_byDamp 50 = .ok (.iconst 0, 1) := dk_3 (dk_at dksX4_byDamp_2 2 rfl rfl)
theorem dX4_byDamp_51 : decode cX4_byDamp 51 = .ok (.istore 5, 2) := dk_54 5 (dk_at dksX4_byDamp_2 3 rfl rfl)
theorem dX4_byDamp_53 : decode cX4_byDamp 53 = .ok (.iload 5, 2) := dk_21 5 (dk_at dksX4_byDamp_2 5 rfl rfl)
theorem dX4_byDamp_55 : decode cX4_byDamp 55 = .ok (.iconst 1, 1) := dk_4 (dk_at dksX4_byDamp_2 7 rfl rfl)
theorem dX4_byDamp_56 : decode cX4_byDamp 56 = .ok (.iload_n 2, 1) := dk_28 (dk_at dksX4_byDamp_2 8 rfl rfl)
theorem dX4_byDamp_57 : decode cX4_byDamp 57 = .ok (.ishl, 1) := dk_120 (dk_at dksX4_byDamp_2 9 rfl rfl)
theorem dX4_byDamp_58 : decode cX4_byDamp 58 = .ok (.if_icmp .ge 109, 3) := dk_162 0 109 (dk_at dksX4_byDamp_2 10 rfl rfl)
theorem dX4_byDamp_61 : decode cX4_byDamp 61 = .ok (.iconst 1, 1) := dk_4 (dk_at dksX4_byDamp_2 13 rfl rfl)
theorem dX4_byDamp_62 : decode cX4_byDamp 62 = .ok (.istore 6, 2) := dk_54 6 (dk_at dksX4_byDamp_2 14 rfl rfl)
theorem dX4_byDamp_64 : decode cX4_byDamp 64 = .ok (.aload_n 0, 1) := dk_42 (dk_at dksX4_byDamp_2 16 rfl rfl)
theorem dX4_byDamp_65 : decode cX4_byDamp 65 = .ok (.invokevirtual 391, 3) := dk_182 1 135 (dk_at dksX4_byDamp_2 17 rfl rfl)
theorem dX4_byDamp_68 : decode cX4_byDamp 68 = .ok (.iconst 0, 1) := dk_3 (dk_at dksX4_byDamp_2 20 rfl rfl)
theorem dX4_byDamp_69 : decode cX4_byDamp 69 = .ok (.istore 7, 2) := dk_54 7 (dk_at dksX4_byDamp_2 21 rfl rfl)
theorem dX4_byDamp_71 : decode cX4_byDamp 71 = .ok (.iload 7, 2) := dk_21 7 (dk_at dksX4_byDamp_3 0 rfl rfl)
theorem dX4_byDamp_73 : decode cX4_byDamp 73 = .ok (.iload_n 2, 1) := dk_28 (dk_at dksX4_byDamp_3 2 rfl rfl)
theorem dX4_byDamp_74 : decode cX4_byDamp 74 = .ok (.if_icmp .ge 66, 3) := dk_162 0 66 (dk_at dksX4_byDamp_3 3 rfl rfl)
theorem dX4_byDamp_77 : decode cX4_byDamp 77 = .ok (.iload 5, 2) := dk_21 5 (dk_at dksX4_byDamp_3 6 rfl rfl)
theorem dX4_byDamp_79 : decode cX4_byDamp 79 = .ok (.iload 7, 2) := dk_21 7 (dk_at dksX4_byDamp_3 8 rfl rfl)
theorem dX4_byDamp_81 : decode cX4_byDamp 81 = .ok (.ishr, 1) := dk_122 (dk_at dksX4_byDamp_3 10 rfl rfl)
theorem dX4_byDamp_82 : decode cX4_byDamp 82 = .ok (.iconst 1, 1) := dk_4 (dk_at dksX4_byDamp_3 11 rfl rfl)
theorem dX4_byDamp_83 : decode cX4_byDamp 83 = .ok (.iand, 1) := dk_126 (dk_at dksX4_byDamp_3 12 rfl rfl)
theorem dX4_byDamp_84 : decode cX4_byDamp 84 = .ok (.iconst 1, 1) := dk_4 (dk_at dksX4_byDamp_3 13 rfl rfl)
theorem dX4_byDamp_85 : decode cX4_byDamp 85 = .ok (.if_icmp .ne 7, 3) := dk_160 0 7 (dk_at dksX4_byDamp_3 14 rfl rfl)
theorem dX4_byDamp_88 : decode cX4_byDamp 88 = .ok (.iconst 1, 1) := dk_4 (dk_at dksX4_byDamp_3 17 rfl rfl)
theorem dX4_byDamp_89 : decode cX4_byDamp 89 = .ok (.goto 4, 3) := dk_167 0 4 (dk_at dksX4_byDamp_3 18 rfl rfl)
theorem dX4_byDamp_92 : decode cX4_byDamp 92 = .ok (.iconst 0, 1) := dk_3 (dk_at dksX4_byDamp_3 21 rfl rfl)
theorem dX4_byDamp_93 : decode cX4_byDamp 93 = .ok (.istore 8, 2) := dk_54 8 (dk_at dksX4_byDamp_3 22 rfl rfl)
theorem dX4_byDamp_95 : decode cX4_byDamp 95 = .ok (.iload 6, 2) := dk_21 6 (dk_at dksX4_byDamp_4 0 rfl rfl)
theorem dX4_byDamp_97 : decode cX4_byDamp 97 = .ok (.iload 8, 2) := dk_21 8 (dk_at dksX4_byDamp_4 2 rfl rfl)
theorem dX4_byDamp_99 : decode cX4_byDamp 99 = .ok (.ifCond .eq 7, 3) := dk_153 0 7 (dk_at dksX4_byDamp_4 4 rfl rfl)
theorem dX4_byDamp_102 : decode cX4_byDamp 102 = .ok (.iload_n 3, 1) := dk_29 (dk_at dksX4_byDamp_4 7 rfl rfl)
theorem dX4_byDamp_103 : decode cX4_byDamp 103 = .ok (.goto 7, 3) := dk_167 0 7 (dk_at dksX4_byDamp_4 8 rfl rfl)
theorem dX4_byDamp_106 : decode cX4_byDamp 106 = .ok (.bipush 10, 2) := dk_16 10 (dk_at dksX4_byDamp_4 11 rfl rfl)
theorem dX4_byDamp_108 : decode cX4_byDamp 108 = .ok (.iload_n 3, 1) := dk_29 (dk_at dksX4_byDamp_4 13 rfl rfl)
theorem dX4_byDamp_109 : decode cX4_byDamp 109 = .ok (.isub, 1) := dk_100 (dk_at dksX4_byDamp_4 14 rfl rfl)
theorem dX4_byDamp_110 : decode cX4_byDamp 110 = .ok (.imul, 1) := dk_104 (dk_at dksX4_byDamp_4 15 rfl rfl)
theorem dX4_byDamp_111 : decode cX4_byDamp 111 = .ok (.istore 6, 2) := dk_54 6 (dk_at dksX4_byDamp_4 16 rfl rfl)
theorem dX4_byDamp_113 : decode cX4_byDamp 113 = .ok (.aload_n 0, 1) := dk_42 (dk_at dksX4_byDamp_4 18 rfl rfl)
theorem dX4_byDamp_114 : decode cX4_byDamp 114 = .ok (.iload 8, 2) := dk_21 8 (dk_at dksX4_byDamp_4 19 rfl rfl)
theorem dX4_byDamp_116 : decode cX4_byDamp 116 = .ok (.ifCond .eq 8, 3) := dk_153 0 8 (dk_at dksX4_byDamp_4 21 rfl rfl)
theorem dX4_byDamp_119 : decode cX4_byDamp 119 = .ok (.bipush 9, 2) := dk_16 9 (dk_at dksX4_byDamp_5 0 rfl rfl)
theorem dX4_byDamp_121 : decode cX4_byDamp 121 = .ok (.goto 4, 3) := dk_167 0 4 (dk_at dksX4_byDamp_5 2 rfl rfl)
theorem dX4_byDamp_124 : decode cX4_byDamp 124 = .ok (.iconst 0, 1) := dk_3 (dk_at dksX4_byDamp_5 5 rfl rfl)
theorem dX4_byDamp_125 : decode cX4_byDamp 125 = .ok (.putfield 78, 3) := dk_181 0 78 (dk_at dksX4_byDamp_5 6 rfl rfl)
theorem dX4_byDamp_128 : decode cX4_byDamp 128 = .ok (.aload_n 0, 1) := dk_42 (dk_at dksX4_byDamp_5 9 rfl rfl)
theorem dX4_byDamp_129 : decode cX4_byDamp 129 = .ok (.bipush 43, 2) := dk_16 43 (dk_at dksX4_byDamp_5 10 rfl rfl)
theorem dX4_byDamp_131 : decode cX4_byDamp 131 = .ok (.invokevirtual 336, 3) := dk_182 1 80 (dk_at dksX4_byDamp_5 12 rfl rfl)
theorem dX4_byDamp_134 : decode cX4_byDamp 134 = .ok (.iinc 7 1, 3) := dk_132 7 1 (dk_at dksX4_byDamp_5 15 rfl rfl)
theorem dX4_byDamp_137 : decode cX4_byDamp 137 = .ok (.goto (-66), 3) := dk_167 255 190 (dk_at dksX4_byDamp_5 18 rfl rfl)
theorem dX4_byDamp_140 : decode cX4_byDamp 140 = .ok (.iload 4, 2) := dk_21 4 (dk_at dksX4_byDamp_5 21 rfl rfl)
theorem dX4_byDamp_142 : decode cX4_byDamp 142 = .ok (.aload_n 0, 1) := dk_42 (dk_at dksX4_byDamp_5 23 rfl rfl)
theorem dX4_byDamp_143 : decode cX4_byDamp 143 = .ok (.bipush 43, 2) := dk_16 43 (dk_at dksX4_byDamp_6 0 rfl rfl)
theorem dX4_byDamp_145 : decode cX4_byDamp 145 = .ok (.iload_n 1, 1) := dk_27 (dk_at dksX4_byDamp_6 2 rfl rfl)
theorem dX4_byDamp_146 : decode cX4_byDamp 146 = .ok (.invokevirtual 322, 3) := dk_182 1 66 (dk_at dksX4_byDamp_6 3 rfl rfl)
theorem dX4_byDamp_149 : decode cX4_byDamp 149 = .ok (.ifCond .eq 8, 3) := dk_153 0 8 (dk_at dksX4_byDamp_6 6 rfl rfl)
theorem dX4_byDamp_152 : decode cX4_byDamp 152 = .ok (.iload 6, 2) := dk_21 6 (dk_at dksX4_byDamp_6 9 rfl rfl)
theorem dX4_byDamp_154 : decode cX4_byDamp 154 = .ok (.goto 4, 3) := dk_167 0 4 (dk_at dksX4_byDamp_6 11 rfl rfl)
theorem dX4_byDamp_157 : decode cX4_byDamp 157 = .ok (.iconst 0, 1) := dk_3 (dk_at dksX4_byDamp_6 14 rfl rfl)
theorem dX4_byDamp_158 : decode cX4_byDamp 158 = .ok (.iadd, 1) := dk_96 (dk_at dksX4_byDamp_6 15 rfl rfl)
theorem dX4_byDamp_159 : decode cX4_byDamp 159 = .ok (.istore 4, 2) := dk_54 4 (dk_at dksX4_byDamp_6 16 rfl rfl)
theorem dX4_byDamp_161 : decode cX4_byDamp 161 = .ok (.iinc 5 1, 3) := dk_132 5 1 (dk_at dksX4_byDamp_6 18 rfl rfl)
theorem dX4_byDamp_164 : decode cX4_byDamp 164 = .ok (.goto (-111), 3) := dk_167 255 145 (dk_at dksX4_byDamp_6 21 rfl rfl)
theorem dX4_byDamp_167 : decode cX4_byDamp 167 = .ok (.aload_n 0, 1) := dk_42 (dk_at dksX4_byDamp_7 0 rfl rfl)
theorem dX4_byDamp_168 : decode cX4_byDamp 168 = .ok (.iconst (-1), 1) := dk_2 (dk_at dksX4_byDamp_7 1 rfl rfl)
theorem dX4_byDamp_169 : decode cX4_byDamp 169 = .ok (.putfield 78, 3) := dk_181 0 78 (dk_at dksX4_byDamp_7 2 rfl rfl)
theorem dX4_byDamp_172 : decode cX4_byDamp 172 = .ok (.iload 4, 2) := dk_21 4 (dk_at dksX4_byDamp_7 5 rfl rfl)
theorem dX4_byDamp_174 : decode cX4_byDamp 174 = .ok (.ireturn, 1) := dk_172 (dk_at dksX4_byDamp_7 7 rfl rfl)
abbrev cX4_game : ByteArray := prog_12_method_112_code
def yX4_game : MethodName := ⟨RX4, "game", "(IIII)I"⟩
def dkwX4_game_7 : List UInt8 := [132, 7, 1, 167, 255, 159, 21, 4, 154, 0, 8, 21, 5, 167, 0, 5, 21, 6, 172]
abbrev dktX4_game_7 : List UInt8 := dkwX4_game_7 ++ []
def dkwX4_game_6 : List UInt8 := [167, 0, 22, 132, 5, 1, 21, 6, 2, 160, 0, 13, 16, 10, 21, 8, 104, 21, 9, 96, 54, 6]
abbrev dktX4_game_6 : List UInt8 := dkwX4_game_6 ++ dktX4_game_7
def dkwX4_game_5 : List UInt8 := [21, 9, 100, 21, 8, 182, 1, 174, 42, 28, 27, 29, 21, 9, 21, 8, 182, 1, 174, 164, 0, 6]
abbrev dktX4_game_5 : List UInt8 := dkwX4_game_5 ++ dktX4_game_6
def dkwX4_game_4 : List UInt8 := [21, 9, 182, 1, 174, 42, 27, 28, 29, 21, 8, 21, 9, 182, 1, 174, 163, 0, 52, 42, 28, 27, 29, 4]
abbrev dktX4_game_4 : List UInt8 := dkwX4_game_4 ++ dktX4_game_5
def dkwX4_game_3 : List UInt8 := [7, 162, 0, 97, 21, 7, 5, 108, 54, 8, 21, 7, 5, 112, 54, 9, 42, 27, 28, 29, 4, 21, 8, 100]
abbrev dktX4_game_3 : List UInt8 := dkwX4_game_3 ++ dktX4_game_4
def dkwX4_game_2 : List UInt8 := [167, 0, 4, 3, 5, 182, 1, 12, 154, 0, 5, 3, 172, 3, 54, 5, 2, 54, 6, 3, 54, 7, 21, 7]
abbrev dktX4_game_2 : List UInt8 := dkwX4_game_2 ++ dktX4_game_3
def dkwX4_game_1 : List UInt8 := [182, 1, 111, 153, 0, 31, 42, 21, 4, 4, 182, 1, 114, 153, 0, 21, 42, 27, 28, 159, 0, 7, 4]
abbrev dktX4_game_1 : List UInt8 := dkwX4_game_1 ++ dktX4_game_2
def dkwX4_game_0 : List UInt8 := [42, 3, 181, 0, 111, 42, 27, 182, 1, 123, 153, 0, 47, 42, 28, 182, 1, 123, 153, 0, 39, 42, 29]
abbrev dktX4_game_0 : List UInt8 := dkwX4_game_0 ++ dktX4_game_1
theorem dksX4_game_0 : cX4_game.data.toList.drop 0 = dktX4_game_0 := by decide +kernel
theorem dksX4_game_1 : cX4_game.data.toList.drop 23 = dktX4_game_1 := dk_seg dksX4_game_0 23 rfl rfl
theorem dksX4_game_2 : cX4_game.data.toList.drop 46 = dktX4_game_2 := dk_seg dksX4_game_1 23 rfl rfl
theorem dksX4_game_3 : cX4_game.data.toList.drop 70 = dktX4_game_3 := dk_seg dksX4_game_2 24 rfl rfl
theorem dksX4_game_4 : cX4_game.data.toList.drop 94 = dktX4_game_4 := dk_seg dksX4_game_3 24 rfl rfl
theorem dksX4_game_5 : cX4_game.data.toList.drop 118 = dktX4_game_5 := dk_seg dksX4_game_4 24 rfl rfl
theorem dksX4_game_6 : cX4_game.data.toList.drop 140 = dktX4_game_6 := dk_seg dksX4_game_5 22 rfl rfl
theorem dksX4_game_7 : cX4_game.data.toList.drop 162 = dktX4_game_7 := dk_seg dksX4_game_6 22 rfl rfl
theorem dX4_game_0 : decode cX4_game 0 = .ok (.aload_n 0, 1) := dk_42 (dk_at dksX4_game_0 0 rfl rfl)
theorem dX4_game_1 : decode cX4_game 1 = .ok (.iconst 0, 1) := dk_3 (dk_at dksX4_game_0 1 rfl rfl)
theorem dX4_game_2 : decode cX4_game 2 = .ok (.putfield 111, 3) := dk_181 0 111 (dk_at dksX4_game_0 2 rfl rfl)
theorem dX4_game_5 : decode cX4_game 5 = .ok (.aload_n 0, 1) := dk_42 (dk_at dksX4_game_0 5 rfl rfl)
theorem dX4_game_6 : decode cX4_game 6 = .ok (.iload_n 1, 1) := dk_27 (dk_at dksX4_game_0 6 rfl rfl)
theorem dX4_game_7 : decode cX4_game 7 = .ok (.invokevirtual 379, 3) := dk_182 1 123 (dk_at dksX4_game_0 7 rfl rfl)
theorem dX4_game_10 : decode cX4_game 10 = .ok (.ifCond .eq 47, 3) := dk_153 0 47 (dk_at dksX4_game_0 10 rfl rfl)
theorem dX4_game_13 : decode cX4_game 13 = .ok (.aload_n 0, 1) := dk_42 (dk_at dksX4_game_0 13 rfl rfl)
theorem dX4_game_14 : decode cX4_game 14 = .ok (.iload_n 2, 1) := dk_28 (dk_at dksX4_game_0 14 rfl rfl)
theorem dX4_game_15 : decode cX4_game 15 = .ok (.invokevirtual 379, 3) := dk_182 1 123 (dk_at dksX4_game_0 15 rfl rfl)
theorem dX4_game_18 : decode cX4_game 18 = .ok (.ifCond .eq 39, 3) := dk_153 0 39 (dk_at dksX4_game_0 18 rfl rfl)
theorem dX4_game_21 : decode cX4_game 21 = .ok (.aload_n 0, 1) := dk_42 (dk_at dksX4_game_0 21 rfl rfl)
theorem dX4_game_22 : decode cX4_game 22 = .ok (.iload_n 3, 1) := dk_29 (dk_at dksX4_game_0 22 rfl rfl)
theorem dX4_game_23 : decode cX4_game 23 = .ok (.invokevirtual 367, 3) := dk_182 1 111 (dk_at dksX4_game_1 0 rfl rfl)
theorem dX4_game_26 : decode cX4_game 26 = .ok (.ifCond .eq 31, 3) := dk_153 0 31 (dk_at dksX4_game_1 3 rfl rfl)
theorem dX4_game_29 : decode cX4_game 29 = .ok (.aload_n 0, 1) := dk_42 (dk_at dksX4_game_1 6 rfl rfl)
theorem dX4_game_30 : decode cX4_game 30 = .ok (.iload 4, 2) := dk_21 4 (dk_at dksX4_game_1 7 rfl rfl)
theorem dX4_game_32 : decode cX4_game 32 = .ok (.iconst 1, 1) := dk_4 (dk_at dksX4_game_1 9 rfl rfl)
theorem dX4_game_33 : decode cX4_game 33 = .ok (.invokevirtual 370, 3) := dk_182 1 114 (dk_at dksX4_game_1 10 rfl rfl)
theorem dX4_game_36 : decode cX4_game 36 = .ok (.ifCond .eq 21, 3) := dk_153 0 21 (dk_at dksX4_game_1 13 rfl rfl)
theorem dX4_game_39 : decode cX4_game 39 = .ok (.aload_n 0, 1) := dk_42 (dk_at dksX4_game_1 16 rfl rfl)
theorem dX4_game_40 : decode cX4_game 40 = .ok (.iload_n 1, 1) := dk_27 (dk_at dksX4_game_1 17 rfl rfl)
theorem dX4_game_41 : decode cX4_game 41 = .ok (.iload_n 2, 1) := dk_28 (dk_at dksX4_game_1 18 rfl rfl)
theorem dX4_game_42 : decode cX4_game 42 = .ok (.if_icmp .eq 7, 3) := dk_159 0 7 (dk_at dksX4_game_1 19 rfl rfl)
theorem dX4_game_45 : decode cX4_game 45 = .ok (.iconst 1, 1) := dk_4 (dk_at dksX4_game_1 22 rfl rfl)
theorem dX4_game_46 : decode cX4_game 46 = .ok (.goto 4, 3) := dk_167 0 4 (dk_at dksX4_game_2 0 rfl rfl)
theorem dX4_game_49 : decode cX4_game 49 = .ok (.iconst 0, 1) := dk_3 (dk_at dksX4_game_2 3 rfl rfl)
theorem dX4_game_50 : decode cX4_game 50 = .ok (.iconst 2, 1) := dk_5 (dk_at dksX4_game_2 4 rfl rfl)
theorem dX4_game_51 : decode cX4_game 51 = .ok (.invokevirtual 268, 3) := dk_182 1 12 (dk_at dksX4_game_2 5 rfl rfl)
theorem dX4_game_54 : decode cX4_game 54 = .ok (.ifCond .ne 5, 3) := dk_154 0 5 (dk_at dksX4_game_2 8 rfl rfl)
theorem dX4_game_57 : decode cX4_game 57 = .ok (.iconst 0, 1) := dk_3 (dk_at dksX4_game_2 11 rfl rfl)
theorem dX4_game_58 : decode cX4_game 58 = .ok (.ireturn, 1) := dk_172 (dk_at dksX4_game_2 12 rfl rfl)
theorem dX4_game_59 : decode cX4_game 59 = .ok (.iconst 0, 1) := dk_3 (dk_at dksX4_game_2 13 rfl rfl)
theorem dX4_game_60 : decode cX4_game 60 = .ok (.istore 5, 2) := dk_54 5 (dk_at dksX4_game_2 14 rfl rfl)
theorem dX4_game_62 : decode cX4_game 62 = .ok (.iconst (-1), 1) := dk_2 (dk_at dksX4_game_2 16 rfl rfl)
theorem dX4_game_63 : decode cX4_game 63 = .ok (.istore 6, 2) := dk_54 6 (dk_at dksX4_game_2 17 rfl rfl)
theorem dX4_game_65 : decode cX4_game 65 = .ok (.iconst 0, 1) := dk_3 (dk_at dksX4_game_2 19 rfl rfl)
theorem dX4_game_66 : decode cX4_game 66 = .ok (.istore 7, 2) := dk_54 7 (dk_at dksX4_game_2 20 rfl rfl)
theorem dX4_game_68 : decode cX4_game 68 = .ok (.iload 7, 2) := dk_21 7 (dk_at dksX4_game_2 22 rfl rfl)
theorem dX4_game_70 : decode cX4_game 70 = .ok (.iconst 4, 1) := dk_7 (dk_at dksX4_game_3 0 rfl rfl)
theorem dX4_game_71 : decode cX4_game 71 = .ok (.if_icmp .ge 97, 3) := dk_162 0 97 (dk_at dksX4_game_3 1 rfl rfl)
theorem dX4_game_74 : decode cX4_game 74 = .ok (.iload 7, 2) := dk_21 7 (dk_at dksX4_game_3 4 rfl rfl)
theorem dX4_game_76 : decode cX4_game 76 = .ok (.iconst 2, 1) := dk_5 (dk_at dksX4_game_3 6 rfl rfl)
theorem dX4_game_77 : decode cX4_game 77 = .ok (.idiv, 1) := dk_108 (dk_at dksX4_game_3 7 rfl rfl)
theorem dX4_game_78 : decode cX4_game 78 = .ok (.istore 8, 2) := dk_54 8 (dk_at dksX4_game_3 8 rfl rfl)
theorem dX4_game_80 : decode cX4_game 80 = .ok (.iload 7, 2) := dk_21 7 (dk_at dksX4_game_3 10 rfl rfl)
theorem dX4_game_82 : decode cX4_game 82 = .ok (.iconst 2, 1) := dk_5 (dk_at dksX4_game_3 12 rfl rfl)
theorem dX4_game_83 : decode cX4_game 83 = .ok (.irem, 1) := dk_112 (dk_at dksX4_game_3 13 rfl rfl)
theorem dX4_game_84 : decode cX4_game 84 = .ok (.istore 9, 2) := dk_54 9 (dk_at dksX4_game_3 14 rfl rfl)
theorem dX4_game_86 : decode cX4_game 86 = .ok (.aload_n 0, 1) := dk_42 (dk_at dksX4_game_3 16 rfl rfl)
theorem dX4_game_87 : decode cX4_game 87 = .ok (.iload_n 1, 1) := dk_27 (dk_at dksX4_game_3 17 rfl rfl)
theorem dX4_game_88 : decode cX4_game 88 = .ok (.iload_n 2, 1) := dk_28 (dk_at dksX4_game_3 18 rfl rfl)
theorem dX4_game_89 : decode cX4_game 89 = .ok (.iload_n 3, 1) := dk_29 (dk_at dksX4_game_3 19 rfl rfl)
theorem dX4_game_90 : decode cX4_game 90 = .ok (.iconst 1, 1) := dk_4 (dk_at dksX4_game_3 20 rfl rfl)
theorem dX4_game_91 : decode cX4_game 91 = .ok (.iload 8, 2) := dk_21 8 (dk_at dksX4_game_3 21 rfl rfl)
theorem dX4_game_93 : decode cX4_game 93 = .ok (.isub, 1) := dk_100 (dk_at dksX4_game_3 23 rfl rfl)
theorem dX4_game_94 : decode cX4_game 94 = .ok (.iload 9, 2) := dk_21 9 (dk_at dksX4_game_4 0 rfl rfl)
theorem dX4_game_96 : decode cX4_game 96 = .ok (.invokevirtual 430, 3) := dk_182 1 174 (dk_at dksX4_game_4 2 rfl rfl)
theorem dX4_game_99 : decode cX4_game 99 = .ok (.aload_n 0, 1) := dk_42 (dk_at dksX4_game_4 5 rfl rfl)
theorem dX4_game_100 : decode cX4_game 100 = .ok (.iload_n 1, 1) := dk_27 (dk_at dksX4_game_4 6 rfl rfl)
theorem dX4_game_101 : decode cX4_game 101 = .ok (.iload_n 2, 1) := dk_28 (dk_at dksX4_game_4 7 rfl rfl)
theorem dX4_game_102 : decode cX4_game 102 = .ok (.iload_n 3, 1) := dk_29 (dk_at dksX4_game_4 8 rfl rfl)
theorem dX4_game_103 : decode cX4_game 103 = .ok (.iload 8, 2) := dk_21 8 (dk_at dksX4_game_4 9 rfl rfl)
theorem dX4_game_105 : decode cX4_game 105 = .ok (.iload 9, 2) := dk_21 9 (dk_at dksX4_game_4 11 rfl rfl)
theorem dX4_game_107 : decode cX4_game 107 = .ok (.invokevirtual 430, 3) := dk_182 1 174 (dk_at dksX4_game_4 13 rfl rfl)
theorem dX4_game_110 : decode cX4_game 110 = .ok (.if_icmp .gt 52, 3) := dk_163 0 52 (dk_at dksX4_game_4 16 rfl rfl)
theorem dX4_game_113 : decode cX4_game 113 = .ok (.aload_n 0, 1) := dk_42 (dk_at dksX4_game_4 19 rfl rfl)
theorem dX4_game_114 : decode cX4_game 114 = .ok (.iload_n 2, 1) := dk_28 (dk_at dksX4_game_4 20 rfl rfl)
theorem dX4_game_115 : decode cX4_game 115 = .ok (.iload_n 1, 1) := dk_27 (dk_at dksX4_game_4 21 rfl rfl)
theorem dX4_game_116 : decode cX4_game 116 = .ok (.iload_n 3, 1) := dk_29 (dk_at dksX4_game_4 22 rfl rfl)
theorem dX4_game_117 : decode cX4_game 117 = .ok (.iconst 1, 1) := dk_4 (dk_at dksX4_game_4 23 rfl rfl)
theorem dX4_game_118 : decode cX4_game 118 = .ok (.iload 9, 2) := dk_21 9 (dk_at dksX4_game_5 0 rfl rfl)
theorem dX4_game_120 : decode cX4_game 120 = .ok (.isub, 1) := dk_100 (dk_at dksX4_game_5 2 rfl rfl)
theorem dX4_game_121 : decode cX4_game 121 = .ok (.iload 8, 2) := dk_21 8 (dk_at dksX4_game_5 3 rfl rfl)
theorem dX4_game_123 : decode cX4_game 123 = .ok (.invokevirtual 430, 3) := dk_182 1 174 (dk_at dksX4_game_5 5 rfl rfl)
theorem dX4_game_126 : decode cX4_game 126 = .ok (.aload_n 0, 1) := dk_42 (dk_at dksX4_game_5 8 rfl rfl)
theorem dX4_game_127 : decode cX4_game 127 = .ok (.iload_n 2, 1) := dk_28 (dk_at dksX4_game_5 9 rfl rfl)
theorem dX4_game_128 : decode cX4_game 128 = .ok (.iload_n 1, 1) := dk_27 (dk_at dksX4_game_5 10 rfl rfl)
theorem dX4_game_129 : decode cX4_game 129 = .ok (.iload_n 3, 1) := dk_29 (dk_at dksX4_game_5 11 rfl rfl)
theorem dX4_game_130 : decode cX4_game 130 = .ok (.iload 9, 2) := dk_21 9 (dk_at dksX4_game_5 12 rfl rfl)
theorem dX4_game_132 : decode cX4_game 132 = .ok (.iload 8, 2) := dk_21 8 (dk_at dksX4_game_5 14 rfl rfl)
theorem dX4_game_134 : decode cX4_game 134 = .ok (.invokevirtual 430, 3) := dk_182 1 174 (dk_at dksX4_game_5 16 rfl rfl)
theorem dX4_game_137 : decode cX4_game 137 = .ok (.if_icmp .le 6, 3) := dk_164 0 6 (dk_at dksX4_game_5 19 rfl rfl)
theorem dX4_game_140 : decode cX4_game 140 = .ok (.goto 22, 3) := dk_167 0 22 (dk_at dksX4_game_6 0 rfl rfl)
theorem dX4_game_143 : decode cX4_game 143 = .ok (.iinc 5 1, 3) := dk_132 5 1 (dk_at dksX4_game_6 3 rfl rfl)
theorem dX4_game_146 : decode cX4_game 146 = .ok (.iload 6, 2) := dk_21 6 (dk_at dksX4_game_6 6 rfl rfl)
theorem dX4_game_148 : decode cX4_game 148 = .ok (.iconst (-1), 1) := dk_2 (dk_at dksX4_game_6 8 rfl rfl)
theorem dX4_game_149 : decode cX4_game 149 = .ok (.if_icmp .ne 13, 3) := dk_160 0 13 (dk_at dksX4_game_6 9 rfl rfl)
theorem dX4_game_152 : decode cX4_game 152 = .ok (.bipush 10, 2) := dk_16 10 (dk_at dksX4_game_6 12 rfl rfl)
theorem dX4_game_154 : decode cX4_game 154 = .ok (.iload 8, 2) := dk_21 8 (dk_at dksX4_game_6 14 rfl rfl)
theorem dX4_game_156 : decode cX4_game 156 = .ok (.imul, 1) := dk_104 (dk_at dksX4_game_6 16 rfl rfl)
theorem dX4_game_157 : decode cX4_game 157 = .ok (.iload 9, 2) := dk_21 9 (dk_at dksX4_game_6 17 rfl rfl)
theorem dX4_game_159 : decode cX4_game 159 = .ok (.iadd, 1) := dk_96 (dk_at dksX4_game_6 19 rfl rfl)
theorem dX4_game_160 : decode cX4_game 160 = .ok (.istore 6, 2) := dk_54 6 (dk_at dksX4_game_6 20 rfl rfl)
theorem dX4_game_162 : decode cX4_game 162 = .ok (.iinc 7 1, 3) := dk_132 7 1 (dk_at dksX4_game_7 0 rfl rfl)
theorem dX4_game_165 : decode cX4_game 165 = .ok (.goto (-97), 3) := dk_167 255 159 (dk_at dksX4_game_7 3 rfl rfl)
theorem dX4_game_168 : decode cX4_game 168 = .ok (.iload 4, 2) := dk_21 4 (dk_at dksX4_game_7 6 rfl rfl)
theorem dX4_game_170 : decode cX4_game 170 = .ok (.ifCond .ne 8, 3) := dk_154 0 8 (dk_at dksX4_game_7 8 rfl rfl)
theorem dX4_game_173 : decode cX4_game 173 = .ok (.iload 5, 2) := dk_21 5 (dk_at dksX4_game_7 11 rfl rfl)
theorem dX4_game_175 : decode cX4_game 175 = .ok (.goto 5, 3) := dk_167 0 5 (dk_at dksX4_game_7 13 rfl rfl)
theorem dX4_game_178 : decode cX4_game 178 = .ok (.iload 6, 2) := dk_21 6 (dk_at dksX4_game_7 16 rfl rfl)
theorem dX4_game_180 : decode cX4_game 180 = .ok (.ireturn, 1) := dk_172 (dk_at dksX4_game_7 18 rfl rfl)
abbrev cX4_gains : ByteArray := prog_12_method_111_code
def yX4_gains : MethodName := ⟨RX4, "gains", "(IIIII)I"⟩
def dkwX4_gains_3 : List UInt8 := [167, 0, 5, 16, 253, 172]
abbrev dktX4_gains_3 : List UInt8 := dkwX4_gains_3 ++ []
def dkwX4_gains_2 : List UInt8 := [162, 0, 6, 16, 251, 172, 42, 3, 27, 29, 182, 1, 132, 153, 0, 13, 16, 20, 5, 21, 6, 104, 100]
abbrev dktX4_gains_2 : List UInt8 := dkwX4_gains_2 ++ dktX4_gains_3
def dkwX4_gains_1 : List UInt8 := [54, 7, 21, 5, 4, 160, 0, 25, 21, 7, 21, 6, 161, 0, 15, 21, 7, 21, 6, 160, 0, 11, 28, 27]
abbrev dktX4_gains_1 : List UInt8 := dkwX4_gains_1 ++ dktX4_gains_2
def dkwX4_gains_0 : List UInt8 := [21, 4, 154, 0, 5, 5, 172, 42, 3, 27, 29, 182, 1, 56, 54, 6, 42, 3, 28, 29, 182, 1, 56]
abbrev dktX4_gains_0 : List UInt8 := dkwX4_gains_0 ++ dktX4_gains_1
theorem dksX4_gains_0 : cX4_gains.data.toList.drop 0 = dktX4_gains_0 := by decide +kernel
theorem dksX4_gains_1 : cX4_gains.data.toList.drop 23 = dktX4_gains_1 := dk_seg dksX4_gains_0 23 rfl rfl
theorem dksX4_gains_2 : cX4_gains.data.toList.drop 47 = dktX4_gains_2 := dk_seg dksX4_gains_1 24 rfl rfl
theorem dksX4_gains_3 : cX4_gains.data.toList.drop 70 = dktX4_gains_3 := dk_seg dksX4_gains_2 23 rfl rfl
theorem dX4_gains_0 : decode cX4_gains 0 = .ok (.iload 4, 2) := dk_21 4 (dk_at dksX4_gains_0 0 rfl rfl)
theorem dX4_gains_2 : decode cX4_gains 2 = .ok (.ifCond .ne 5, 3) := dk_154 0 5 (dk_at dksX4_gains_0 2 rfl rfl)
theorem dX4_gains_5 : decode cX4_gains 5 = .ok (.iconst 2, 1) := dk_5 (dk_at dksX4_gains_0 5 rfl rfl)
theorem dX4_gains_6 : decode cX4_gains 6 = .ok (.ireturn, 1) := dk_172 (dk_at dksX4_gains_0 6 rfl rfl)
theorem dX4_gains_7 : decode cX4_gains 7 = .ok (.aload_n 0, 1) := dk_42 (dk_at dksX4_gains_0 7 rfl rfl)
theorem dX4_gains_8 : decode cX4_gains 8 = .ok (.iconst 0, 1) := dk_3 (dk_at dksX4_gains_0 8 rfl rfl)
theorem dX4_gains_9 : decode cX4_gains 9 = .ok (.iload_n 1, 1) := dk_27 (dk_at dksX4_gains_0 9 rfl rfl)
theorem dX4_gains_10 : decode cX4_gains 10 = .ok (.iload_n 3, 1) := dk_29 (dk_at dksX4_gains_0 10 rfl rfl)
theorem dX4_gains_11 : decode cX4_gains 11 = .ok (.invokevirtual 312, 3) := dk_182 1 56 (dk_at dksX4_gains_0 11 rfl rfl)
theorem dX4_gains_14 : decode cX4_gains 14 = .ok (.istore 6, 2) := dk_54 6 (dk_at dksX4_gains_0 14 rfl rfl)
theorem dX4_gains_16 : decode cX4_gains 16 = .ok (.aload_n 0, 1) := dk_42 (dk_at dksX4_gains_0 16 rfl rfl)
theorem dX4_gains_17 : decode cX4_gains 17 = .ok (.iconst 0, 1) := dk_3 (dk_at dksX4_gains_0 17 rfl rfl)
theorem dX4_gains_18 : decode cX4_gains 18 = .ok (.iload_n 2, 1) := dk_28 (dk_at dksX4_gains_0 18 rfl rfl)
theorem dX4_gains_19 : decode cX4_gains 19 = .ok (.iload_n 3, 1) := dk_29 (dk_at dksX4_gains_0 19 rfl rfl)
theorem dX4_gains_20 : decode cX4_gains 20 = .ok (.invokevirtual 312, 3) := dk_182 1 56 (dk_at dksX4_gains_0 20 rfl rfl)
theorem dX4_gains_23 : decode cX4_gains 23 = .ok (.istore 7, 2) := dk_54 7 (dk_at dksX4_gains_1 0 rfl rfl)
theorem dX4_gains_25 : decode cX4_gains 25 = .ok (.iload 5, 2) := dk_21 5 (dk_at dksX4_gains_1 2 rfl rfl)
theorem dX4_gains_27 : decode cX4_gains 27 = .ok (.iconst 1, 1) := dk_4 (dk_at dksX4_gains_1 4 rfl rfl)
theorem dX4_gains_28 : decode cX4_gains 28 = .ok (.if_icmp .ne 25, 3) := dk_160 0 25 (dk_at dksX4_gains_1 5 rfl rfl)
theorem dX4_gains_31 : decode cX4_gains 31 = .ok (.iload 7, 2) := dk_21 7 (dk_at dksX4_gains_1 8 rfl rfl)
theorem dX4_gains_33 : decode cX4_gains 33 = .ok (.iload 6, 2) := dk_21 6 (dk_at dksX4_gains_1 10 rfl rfl)
theorem dX4_gains_35 : decode cX4_gains 35 = .ok (.if_icmp .lt 15, 3) := dk_161 0 15 (dk_at dksX4_gains_1 12 rfl rfl)
theorem dX4_gains_38 : decode cX4_gains 38 = .ok (.iload 7, 2) := dk_21 7 (dk_at dksX4_gains_1 15 rfl rfl)
theorem dX4_gains_40 : decode cX4_gains 40 = .ok (.iload 6, 2) := dk_21 6 (dk_at dksX4_gains_1 17 rfl rfl)
theorem dX4_gains_42 : decode cX4_gains 42 = .ok (.if_icmp .ne 11, 3) := dk_160 0 11 (dk_at dksX4_gains_1 19 rfl rfl)
theorem dX4_gains_45 : decode cX4_gains 45 = .ok (.iload_n 2, 1) := dk_28 (dk_at dksX4_gains_1 22 rfl rfl)
theorem dX4_gains_46 : decode cX4_gains 46 = .ok (.iload_n 1, 1) := dk_27 (dk_at dksX4_gains_1 23 rfl rfl)
theorem dX4_gains_47 : decode cX4_gains 47 = .ok (.if_icmp .ge 6, 3) := dk_162 0 6 (dk_at dksX4_gains_2 0 rfl rfl)
theorem dX4_gains_50 : decode cX4_gains 50 = .ok (.bipush (-5), 2) := dk_16 251 (dk_at dksX4_gains_2 3 rfl rfl)
theorem dX4_gains_52 : decode cX4_gains 52 = .ok (.ireturn, 1) := dk_172 (dk_at dksX4_gains_2 5 rfl rfl)
theorem dX4_gains_53 : decode cX4_gains 53 = .ok (.aload_n 0, 1) := dk_42 (dk_at dksX4_gains_2 6 rfl rfl)
theorem dX4_gains_54 : decode cX4_gains 54 = .ok (.iconst 0, 1) := dk_3 (dk_at dksX4_gains_2 7 rfl rfl)
theorem dX4_gains_55 : decode cX4_gains 55 = .ok (.iload_n 1, 1) := dk_27 (dk_at dksX4_gains_2 8 rfl rfl)
theorem dX4_gains_56 : decode cX4_gains 56 = .ok (.iload_n 3, 1) := dk_29 (dk_at dksX4_gains_2 9 rfl rfl)
theorem dX4_gains_57 : decode cX4_gains 57 = .ok (.invokevirtual 388, 3) := dk_182 1 132 (dk_at dksX4_gains_2 10 rfl rfl)
theorem dX4_gains_60 : decode cX4_gains 60 = .ok (.ifCond .eq 13, 3) := dk_153 0 13 (dk_at dksX4_gains_2 13 rfl rfl)
theorem dX4_gains_63 : decode cX4_gains 63 = .ok (.bipush 20, 2) := dk_16 20 (dk_at dksX4_gains_2 16 rfl rfl)
theorem dX4_gains_65 : decode cX4_gains 65 = .ok (.iconst 2, 1) := dk_5 (dk_at dksX4_gains_2 18 rfl rfl)
theorem dX4_gains_66 : decode cX4_gains 66 = .ok (.iload 6, 2) := dk_21 6 (dk_at dksX4_gains_2 19 rfl rfl)
theorem dX4_gains_68 : decode cX4_gains 68 = .ok (.imul, 1) := dk_104 (dk_at dksX4_gains_2 21 rfl rfl)
theorem dX4_gains_69 : decode cX4_gains 69 = .ok (.isub, 1) := dk_100 (dk_at dksX4_gains_2 22 rfl rfl)
theorem dX4_gains_70 : decode cX4_gains 70 = .ok (.goto 5, 3) := dk_167 0 5 (dk_at dksX4_gains_3 0 rfl rfl)
theorem dX4_gains_73 : decode cX4_gains 73 = .ok (.bipush (-3), 2) := dk_16 253 (dk_at dksX4_gains_3 3 rfl rfl)
theorem dX4_gains_75 : decode cX4_gains 75 = .ok (.ireturn, 1) := dk_172 (dk_at dksX4_gains_3 5 rfl rfl)
abbrev cX4_years : ByteArray := prog_12_method_115_code
def yX4_years : MethodName := ⟨RX4, "years", "(III)I"⟩
def dkwX4_years_5 : List UInt8 := [167, 0, 12, 42, 16, 43, 182, 1, 96, 184, 1, 188, 172]
abbrev dktX4_years_5 : List UInt8 := dkwX4_years_5 ++ []
def dkwX4_years_4 : List UInt8 := [180, 0, 66, 16, 44, 46, 184, 1, 188, 167, 0, 26, 29, 4, 160, 0, 12, 42, 16, 43, 182, 1, 99]
abbrev dktX4_years_4 : List UInt8 := dkwX4_years_4 ++ dktX4_years_5
def dkwX4_years_3 : List UInt8 := [42, 16, 43, 182, 1, 80, 132, 4, 1, 167, 255, 213, 42, 2, 181, 0, 78, 29, 154, 0, 16, 42]
abbrev dktX4_years_3 : List UInt8 := dkwX4_years_3 ++ dktX4_years_4
def dkwX4_years_2 : List UInt8 := [182, 1, 182, 181, 0, 78, 42, 180, 1, 22, 158, 0, 14, 42, 180, 1, 19, 158, 0, 7, 42, 182, 1, 185]
abbrev dktX4_years_2 : List UInt8 := dkwX4_years_2 ++ dktX4_years_3
def dkwX4_years_1 : List UInt8 := [3, 172, 42, 182, 1, 135, 42, 27, 181, 1, 178, 3, 54, 4, 21, 4, 28, 162, 0, 43, 42, 42, 16, 10]
abbrev dktX4_years_1 : List UInt8 := dkwX4_years_1 ++ dktX4_years_2
def dkwX4_years_0 : List UInt8 := [42, 3, 181, 0, 111, 42, 29, 5, 182, 1, 114, 153, 0, 13, 42, 28, 3, 5, 182, 1, 141, 154, 0, 5]
abbrev dktX4_years_0 : List UInt8 := dkwX4_years_0 ++ dktX4_years_1
theorem dksX4_years_0 : cX4_years.data.toList.drop 0 = dktX4_years_0 := by decide +kernel
theorem dksX4_years_1 : cX4_years.data.toList.drop 24 = dktX4_years_1 := dk_seg dksX4_years_0 24 rfl rfl
theorem dksX4_years_2 : cX4_years.data.toList.drop 48 = dktX4_years_2 := dk_seg dksX4_years_1 24 rfl rfl
theorem dksX4_years_3 : cX4_years.data.toList.drop 72 = dktX4_years_3 := dk_seg dksX4_years_2 24 rfl rfl
theorem dksX4_years_4 : cX4_years.data.toList.drop 94 = dktX4_years_4 := dk_seg dksX4_years_3 22 rfl rfl
theorem dksX4_years_5 : cX4_years.data.toList.drop 117 = dktX4_years_5 := dk_seg dksX4_years_4 23 rfl rfl
theorem dX4_years_0 : decode cX4_years 0 = .ok (.aload_n 0, 1) := dk_42 (dk_at dksX4_years_0 0 rfl rfl)
theorem dX4_years_1 : decode cX4_years 1 = .ok (.iconst 0, 1) := dk_3 (dk_at dksX4_years_0 1 rfl rfl)
theorem dX4_years_2 : decode cX4_years 2 = .ok (.putfield 111, 3) := dk_181 0 111 (dk_at dksX4_years_0 2 rfl rfl)
theorem dX4_years_5 : decode cX4_years 5 = .ok (.aload_n 0, 1) := dk_42 (dk_at dksX4_years_0 5 rfl rfl)
theorem dX4_years_6 : decode cX4_years 6 = .ok (.iload_n 3, 1) := dk_29 (dk_at dksX4_years_0 6 rfl rfl)
theorem dX4_years_7 : decode cX4_years 7 = .ok (.iconst 2, 1) := dk_5 (dk_at dksX4_years_0 7 rfl rfl)
theorem dX4_years_8 : decode cX4_years 8 = .ok (.invokevirtual 370, 3) := dk_182 1 114 (dk_at dksX4_years_0 8 rfl rfl)
theorem dX4_years_11 : decode cX4_years 11 = .ok (.ifCond .eq 13, 3) := dk_153 0 13 (dk_at dksX4_years_0 11 rfl rfl)
theorem dX4_years_14 : decode cX4_years 14 = .ok (.aload_n 0, 1) := dk_42 (dk_at dksX4_years_0 14 rfl rfl)
theorem dX4_years_15 : decode cX4_years 15 = .ok (.iload_n 2, 1) := dk_28 (dk_at dksX4_years_0 15 rfl rfl)
theorem dX4_years_16 : decode cX4_years 16 = .ok (.iconst 0, 1) := dk_3 (dk_at dksX4_years_0 16 rfl rfl)
theorem dX4_years_17 : decode cX4_years 17 = .ok (.iconst 2, 1) := dk_5 (dk_at dksX4_years_0 17 rfl rfl)
theorem dX4_years_18 : decode cX4_years 18 = .ok (.invokevirtual 397, 3) := dk_182 1 141 (dk_at dksX4_years_0 18 rfl rfl)
theorem dX4_years_21 : decode cX4_years 21 = .ok (.ifCond .ne 5, 3) := dk_154 0 5 (dk_at dksX4_years_0 21 rfl rfl)
theorem dX4_years_24 : decode cX4_years 24 = .ok (.iconst 0, 1) := dk_3 (dk_at dksX4_years_1 0 rfl rfl)
theorem dX4_years_25 : decode cX4_years 25 = .ok (.ireturn, 1) := dk_172 (dk_at dksX4_years_1 1 rfl rfl)
theorem dX4_years_26 : decode cX4_years 26 = .ok (.aload_n 0, 1) := dk_42 (dk_at dksX4_years_1 2 rfl rfl)
theorem dX4_years_27 : decode cX4_years 27 = .ok (.invokevirtual 391, 3) := dk_182 1 135 (dk_at dksX4_years_1 3 rfl rfl)
theorem dX4_years_30 : decode cX4_years 30 = .ok (.aload_n 0, 1) := dk_42 (dk_at dksX4_years_1 6 rfl rfl)
theorem dX4_years_31 : decode cX4_years 31 = .ok (.iload_n 1, 1) := dk_27 (dk_at dksX4_years_1 7 rfl rfl)
theorem dX4_years_32 : decode cX4_years 32 = .ok (.putfield 434, 3) := dk_181 1 178 (dk_at dksX4_years_1 8 rfl rfl)
theorem dX4_years_35 : decode cX4_years 35 = .ok (.iconst 0, 1) := dk_3 (dk_at dksX4_years_1 11 rfl rfl)
theorem dX4_years_36 : decode cX4_years 36 = .ok (.istore 4, 2) := dk_54 4 (dk_at dksX4_years_1 12 rfl rfl)
theorem dX4_years_38 : decode cX4_years 38 = .ok (.iload 4, 2) := dk_21 4 (dk_at dksX4_years_1 14 rfl rfl)
theorem dX4_years_40 : decode cX4_years 40 = .ok (.iload_n 2, 1) := dk_28 (dk_at dksX4_years_1 16 rfl rfl)
theorem dX4_years_41 : decode cX4_years 41 = .ok (.if_icmp .ge 43, 3) := dk_162 0 43 (dk_at dksX4_years_1 17 rfl rfl)
theorem dX4_years_44 : decode cX4_years 44 = .ok (.aload_n 0, 1) := dk_42 (dk_at dksX4_years_1 20 rfl rfl)
theorem dX4_years_45 : decode cX4_years 45 = .ok (.aload_n 0, 1) := dk_42 (dk_at dksX4_years_1 21 rfl rfl)
theorem dX4_years_46 : decode cX4_years 46 = .ok (.bipush 10, 2) := dk_16 10 (dk_at dksX4_years_1 22 rfl rfl)
theorem dX4_years_48 : decode cX4_years 48 = .ok (.invokevirtual 438, 3) := dk_182 1 182 (dk_at dksX4_years_2 0 rfl rfl)
theorem dX4_years_51 : decode cX4_years 51 = .ok (.putfield 78, 3) := dk_181 0 78 (dk_at dksX4_years_2 3 rfl rfl)
theorem dX4_years_54 : decode cX4_years 54 = .ok (.aload_n 0, 1) := dk_42 (dk_at dksX4_years_2 6 rfl rfl)
theorem dX4_years_55 : decode cX4_years 55 = .ok (.getfield 278, 3) := dk_180 1 22 (dk_at dksX4_years_2 7 rfl rfl)
theorem dX4_years_58 : decode cX4_years 58 = .ok (.ifCond .le 14, 3) := dk_158 0 14 (dk_at dksX4_years_2 10 rfl rfl)
theorem dX4_years_61 : decode cX4_years 61 = .ok (.aload_n 0, 1) := dk_42 (dk_at dksX4_years_2 13 rfl rfl)
theorem dX4_years_62 : decode cX4_years 62 = .ok (.getfield 275, 3) := dk_180 1 19 (dk_at dksX4_years_2 14 rfl rfl)
theorem dX4_years_65 : decode cX4_years 65 = .ok (.ifCond .le 7, 3) := dk_158 0 7 (dk_at dksX4_years_2 17 rfl rfl)
theorem dX4_years_68 : decode cX4_years 68 = .ok (.aload_n 0, 1) := dk_42 (dk_at dksX4_years_2 20 rfl rfl)
theorem dX4_years_69 : decode cX4_years 69 = .ok (.invokevirtual 441, 3) := dk_182 1 185 (dk_at dksX4_years_2 21 rfl rfl)
theorem dX4_years_72 : decode cX4_years 72 = .ok (.aload_n 0, 1) := dk_42 (dk_at dksX4_years_3 0 rfl rfl)
theorem dX4_years_73 : decode cX4_years 73 = .ok (.bipush 43, 2) := dk_16 43 (dk_at dksX4_years_3 1 rfl rfl)
theorem dX4_years_75 : decode cX4_years 75 = .ok (.invokevirtual 336, 3) := dk_182 1 80 (dk_at dksX4_years_3 3 rfl rfl)
theorem dX4_years_78 : decode cX4_years 78 = .ok (.iinc 4 1, 3) := dk_132 4 1 (dk_at dksX4_years_3 6 rfl rfl)
theorem dX4_years_81 : decode cX4_years 81 = .ok (.goto (-43), 3) := dk_167 255 213 (dk_at dksX4_years_3 9 rfl rfl)
theorem dX4_years_84 : decode cX4_years 84 = .ok (.aload_n 0, 1) := dk_42 (dk_at dksX4_years_3 12 rfl rfl)
theorem dX4_years_85 : decode cX4_years 85 = .ok (.iconst (-1), 1) := dk_2 (dk_at dksX4_years_3 13 rfl rfl)
theorem dX4_years_86 : decode cX4_years 86 = .ok (.putfield 78, 3) := dk_181 0 78 (dk_at dksX4_years_3 14 rfl rfl)
theorem dX4_years_89 : decode cX4_years 89 = .ok (.iload_n 3, 1) := dk_29 (dk_at dksX4_years_3 17 rfl rfl)
theorem dX4_years_90 : decode cX4_years 90 = .ok (.ifCond .ne 16, 3) := dk_154 0 16 (dk_at dksX4_years_3 18 rfl rfl)
theorem dX4_years_93 : decode cX4_years 93 = .ok (.aload_n 0, 1) := dk_42 (dk_at dksX4_years_3 21 rfl rfl)
theorem dX4_years_94 : decode cX4_years 94 = .ok (.getfield 66, 3) := dk_180 0 66 (dk_at dksX4_years_4 0 rfl rfl)
theorem dX4_years_97 : decode cX4_years 97 = .ok (.bipush 44, 2) := dk_16 44 (dk_at dksX4_years_4 3 rfl rfl)
theorem dX4_years_99 : decode cX4_years 99 = .ok (.iaload, 1) := dk_46 (dk_at dksX4_years_4 5 rfl rfl)
theorem dX4_years_100 : decode cX4_years 100 = .ok (.invokestatic 444, 3) := dk_184 1 188 (dk_at dksX4_years_4 6 rfl rfl)
theorem dX4_years_103 : decode cX4_years 103 = .ok (.goto 26, 3) := dk_167 0 26 (dk_at dksX4_years_4 9 rfl rfl)
theorem dX4_years_106 : decode cX4_years 106 = .ok (.iload_n 3, 1) := dk_29 (dk_at dksX4_years_4 12 rfl rfl)
theorem dX4_years_107 : decode cX4_years 107 = .ok (.iconst 1, 1) := dk_4 (dk_at dksX4_years_4 13 rfl rfl)
theorem dX4_years_108 : decode cX4_years 108 = .ok (.if_icmp .ne 12, 3) := dk_160 0 12 (dk_at dksX4_years_4 14 rfl rfl)
theorem dX4_years_111 : decode cX4_years 111 = .ok (.aload_n 0, 1) := dk_42 (dk_at dksX4_years_4 17 rfl rfl)
theorem dX4_years_112 : decode cX4_years 112 = .ok (.bipush 43, 2) := dk_16 43 (dk_at dksX4_years_4 18 rfl rfl)
theorem dX4_years_114 : decode cX4_years 114 = .ok (.invokevirtual 355, 3) := dk_182 1 99 (dk_at dksX4_years_4 20 rfl rfl)
theorem dX4_years_117 : decode cX4_years 117 = .ok (.goto 12, 3) := dk_167 0 12 (dk_at dksX4_years_5 0 rfl rfl)
theorem dX4_years_120 : decode cX4_years 120 = .ok (.aload_n 0, 1) := dk_42 (dk_at dksX4_years_5 3 rfl rfl)
theorem dX4_years_121 : decode cX4_years 121 = .ok (.bipush 43, 2) := dk_16 43 (dk_at dksX4_years_5 4 rfl rfl)
theorem dX4_years_123 : decode cX4_years 123 = .ok (.invokevirtual 352, 3) := dk_182 1 96 (dk_at dksX4_years_5 6 rfl rfl)
theorem dX4_years_126 : decode cX4_years 126 = .ok (.invokestatic 444, 3) := dk_184 1 188 (dk_at dksX4_years_5 9 rfl rfl)
theorem dX4_years_129 : decode cX4_years 129 = .ok (.ireturn, 1) := dk_172 (dk_at dksX4_years_5 12 rfl rfl)
abbrev cX4_draw : ByteArray := prog_12_method_113_code
def yX4_draw : MethodName := ⟨RX4, "draw", "(I)I"⟩
def dkwX4_draw_1 : List UInt8 := [17, 127, 255, 126, 27, 112, 172]
abbrev dktX4_draw_1 : List UInt8 := dkwX4_draw_1 ++ []
def dkwX4_draw_0 : List UInt8 := [42, 42, 180, 1, 178, 19, 1, 181, 104, 17, 48, 57, 96, 181, 1, 178, 42, 180, 1, 178, 16, 16, 122]
abbrev dktX4_draw_0 : List UInt8 := dkwX4_draw_0 ++ dktX4_draw_1
theorem dksX4_draw_0 : cX4_draw.data.toList.drop 0 = dktX4_draw_0 := by decide +kernel
theorem dksX4_draw_1 : cX4_draw.data.toList.drop 23 = dktX4_draw_1 := dk_seg dksX4_draw_0 23 rfl rfl
theorem dX4_draw_0 : decode cX4_draw 0 = .ok (.aload_n 0, 1) := dk_42 (dk_at dksX4_draw_0 0 rfl rfl)
theorem dX4_draw_1 : decode cX4_draw 1 = .ok (.aload_n 0, 1) := dk_42 (dk_at dksX4_draw_0 1 rfl rfl)
theorem dX4_draw_2 : decode cX4_draw 2 = .ok (.getfield 434, 3) := dk_180 1 178 (dk_at dksX4_draw_0 2 rfl rfl)
theorem dX4_draw_5 : decode cX4_draw 5 = .ok (.ldc_w 437, 3) := dk_19 1 181 (dk_at dksX4_draw_0 5 rfl rfl)
theorem dX4_draw_8 : decode cX4_draw 8 = .ok (.imul, 1) := dk_104 (dk_at dksX4_draw_0 8 rfl rfl)
theorem dX4_draw_9 : decode cX4_draw 9 = .ok (.sipush 12345, 3) := dk_17 48 57 (dk_at dksX4_draw_0 9 rfl rfl)
theorem dX4_draw_12 : decode cX4_draw 12 = .ok (.iadd, 1) := dk_96 (dk_at dksX4_draw_0 12 rfl rfl)
theorem dX4_draw_13 : decode cX4_draw 13 = .ok (.putfield 434, 3) := dk_181 1 178 (dk_at dksX4_draw_0 13 rfl rfl)
theorem dX4_draw_16 : decode cX4_draw 16 = .ok (.aload_n 0, 1) := dk_42 (dk_at dksX4_draw_0 16 rfl rfl)
theorem dX4_draw_17 : decode cX4_draw 17 = .ok (.getfield 434, 3) := dk_180 1 178 (dk_at dksX4_draw_0 17 rfl rfl)
theorem dX4_draw_20 : decode cX4_draw 20 = .ok (.bipush 16, 2) := dk_16 16 (dk_at dksX4_draw_0 20 rfl rfl)
theorem dX4_draw_22 : decode cX4_draw 22 = .ok (.ishr, 1) := dk_122 (dk_at dksX4_draw_0 22 rfl rfl)
theorem dX4_draw_23 : decode cX4_draw 23 = .ok (.sipush 32767, 3) := dk_17 127 255 (dk_at dksX4_draw_1 0 rfl rfl)
theorem dX4_draw_26 : decode cX4_draw 26 = .ok (.iand, 1) := dk_126 (dk_at dksX4_draw_1 3 rfl rfl)
theorem dX4_draw_27 : decode cX4_draw 27 = .ok (.iload_n 1, 1) := dk_27 (dk_at dksX4_draw_1 4 rfl rfl)
theorem dX4_draw_28 : decode cX4_draw 28 = .ok (.irem, 1) := dk_112 (dk_at dksX4_draw_1 5 rfl rfl)
theorem dX4_draw_29 : decode cX4_draw 29 = .ok (.ireturn, 1) := dk_172 (dk_at dksX4_draw_1 6 rfl rfl)
abbrev cX4_happens : ByteArray := prog_12_method_114_code
def yX4_happens : MethodName := ⟨RX4, "happens", "()V"⟩
def dkwX4_happens_2 : List UInt8 := [28, 182, 1, 132, 153, 0, 13, 42, 180, 0, 66, 16, 62, 28, 96, 27, 79, 177]
abbrev dktX4_happens_2 : List UInt8 := dkwX4_happens_2 ++ []
def dkwX4_happens_1 : List UInt8 := [182, 1, 83, 2, 160, 0, 37, 42, 180, 0, 66, 16, 62, 28, 96, 46, 2, 160, 0, 24, 42, 16, 43, 27]
abbrev dktX4_happens_1 : List UInt8 := dkwX4_happens_1 ++ dktX4_happens_2
def dkwX4_happens_0 : List UInt8 := [42, 42, 180, 1, 22, 182, 1, 182, 60, 42, 42, 180, 1, 19, 182, 1, 182, 61, 42, 16, 43, 27]
abbrev dktX4_happens_0 : List UInt8 := dkwX4_happens_0 ++ dktX4_happens_1
theorem dksX4_happens_0 : cX4_happens.data.toList.drop 0 = dktX4_happens_0 := by decide +kernel
theorem dksX4_happens_1 : cX4_happens.data.toList.drop 22 = dktX4_happens_1 := dk_seg dksX4_happens_0 22 rfl rfl
theorem dksX4_happens_2 : cX4_happens.data.toList.drop 46 = dktX4_happens_2 := dk_seg dksX4_happens_1 24 rfl rfl
theorem dX4_happens_0 : decode cX4_happens 0 = .ok (.aload_n 0, 1) := dk_42 (dk_at dksX4_happens_0 0 rfl rfl)
theorem dX4_happens_1 : decode cX4_happens 1 = .ok (.aload_n 0, 1) := dk_42 (dk_at dksX4_happens_0 1 rfl rfl)
theorem dX4_happens_2 : decode cX4_happens 2 = .ok (.getfield 278, 3) := dk_180 1 22 (dk_at dksX4_happens_0 2 rfl rfl)
theorem dX4_happens_5 : decode cX4_happens 5 = .ok (.invokevirtual 438, 3) := dk_182 1 182 (dk_at dksX4_happens_0 5 rfl rfl)
theorem dX4_happens_8 : decode cX4_happens 8 = .ok (.istore_n 1, 1) := dk_60 (dk_at dksX4_happens_0 8 rfl rfl)
theorem dX4_happens_9 : decode cX4_happens 9 = .ok (.aload_n 0, 1) := dk_42 (dk_at dksX4_happens_0 9 rfl rfl)
theorem dX4_happens_10 : decode cX4_happens 10 = .ok (.aload_n 0, 1) := dk_42 (dk_at dksX4_happens_0 10 rfl rfl)
theorem dX4_happens_11 : decode cX4_happens 11 = .ok (.getfield 275, 3) := dk_180 1 19 (dk_at dksX4_happens_0 11 rfl rfl)
theorem dX4_happens_14 : decode cX4_happens 14 = .ok (.invokevirtual 438, 3) := dk_182 1 182 (dk_at dksX4_happens_0 14 rfl rfl)
theorem dX4_happens_17 : decode cX4_happens 17 = .ok (.istore_n 2, 1) := dk_61 (dk_at dksX4_happens_0 17 rfl rfl)
theorem dX4_happens_18 : decode cX4_happens 18 = .ok (.aload_n 0, 1) := dk_42 (dk_at dksX4_happens_0 18 rfl rfl)
theorem dX4_happens_19 : decode cX4_happens 19 = .ok (.bipush 43, 2) := dk_16 43 (dk_at dksX4_happens_0 19 rfl rfl)
theorem dX4_happens_21 : decode cX4_happens 21 = .ok (.iload_n 1, 1) := dk_27 (dk_at dksX4_happens_0 21 rfl rfl)
theorem dX4_happens_22 : decode cX4_happens 22 = .ok (.invokevirtual 339, 3) := dk_182 1 83 (dk_at dksX4_happens_1 0 rfl rfl)
theorem dX4_happens_25 : decode cX4_happens 25 = .ok (.iconst (-1), 1) := dk_2 (dk_at dksX4_happens_1 3 rfl rfl)
theorem dX4_happens_26 : decode cX4_happens 26 = .ok (.if_icmp .ne 37, 3) := dk_160 0 37 (dk_at dksX4_happens_1 4 rfl rfl)
theorem dX4_happens_29 : decode cX4_happens 29 = .ok (.aload_n 0, 1) := dk_42 (dk_at dksX4_happens_1 7 rfl rfl)
theorem dX4_happens_30 : decode cX4_happens 30 = .ok (.getfield 66, 3) := dk_180 0 66 (dk_at dksX4_happens_1 8 rfl rfl)
theorem dX4_happens_33 : decode cX4_happens 33 = .ok (.bipush 62, 2) := dk_16 62 (dk_at dksX4_happens_1 11 rfl rfl)
theorem dX4_happens_35 : decode cX4_happens 35 = .ok (.iload_n 2, 1) := dk_28 (dk_at dksX4_happens_1 13 rfl rfl)
theorem dX4_happens_36 : decode cX4_happens 36 = .ok (.iadd, 1) := dk_96 (dk_at dksX4_happens_1 14 rfl rfl)
theorem dX4_happens_37 : decode cX4_happens 37 = .ok (.iaload, 1) := dk_46 (dk_at dksX4_happens_1 15 rfl rfl)
theorem dX4_happens_38 : decode cX4_happens 38 = .ok (.iconst (-1), 1) := dk_2 (dk_at dksX4_happens_1 16 rfl rfl)
theorem dX4_happens_39 : decode cX4_happens 39 = .ok (.if_icmp .ne 24, 3) := dk_160 0 24 (dk_at dksX4_happens_1 17 rfl rfl)
theorem dX4_happens_42 : decode cX4_happens 42 = .ok (.aload_n 0, 1) := dk_42 (dk_at dksX4_happens_1 20 rfl rfl)
theorem dX4_happens_43 : decode cX4_happens 43 = .ok (.bipush 43, 2) := dk_16 43 (dk_at dksX4_happens_1 21 rfl rfl)
theorem dX4_happens_45 : decode cX4_happens 45 = .ok (.iload_n 1, 1) := dk_27 (dk_at dksX4_happens_1 23 rfl rfl)
theorem dX4_happens_46 : decode cX4_happens 46 = .ok (.iload_n 2, 1) := dk_28 (dk_at dksX4_happens_2 0 rfl rfl)
theorem dX4_happens_47 : decode cX4_happens 47 = .ok (.invokevirtual 388, 3) := dk_182 1 132 (dk_at dksX4_happens_2 1 rfl rfl)
theorem dX4_happens_50 : decode cX4_happens 50 = .ok (.ifCond .eq 13, 3) := dk_153 0 13 (dk_at dksX4_happens_2 4 rfl rfl)
theorem dX4_happens_53 : decode cX4_happens 53 = .ok (.aload_n 0, 1) := dk_42 (dk_at dksX4_happens_2 7 rfl rfl)
theorem dX4_happens_54 : decode cX4_happens 54 = .ok (.getfield 66, 3) := dk_180 0 66 (dk_at dksX4_happens_2 8 rfl rfl)
theorem dX4_happens_57 : decode cX4_happens 57 = .ok (.bipush 62, 2) := dk_16 62 (dk_at dksX4_happens_2 11 rfl rfl)
theorem dX4_happens_59 : decode cX4_happens 59 = .ok (.iload_n 2, 1) := dk_28 (dk_at dksX4_happens_2 13 rfl rfl)
theorem dX4_happens_60 : decode cX4_happens 60 = .ok (.iadd, 1) := dk_96 (dk_at dksX4_happens_2 14 rfl rfl)
theorem dX4_happens_61 : decode cX4_happens 61 = .ok (.iload_n 1, 1) := dk_27 (dk_at dksX4_happens_2 15 rfl rfl)
theorem dX4_happens_62 : decode cX4_happens 62 = .ok (.iastore, 1) := dk_79 (dk_at dksX4_happens_2 16 rfl rfl)
theorem dX4_happens_63 : decode cX4_happens 63 = .ok (.return_, 1) := dk_177 (dk_at dksX4_happens_2 17 rfl rfl)
abbrev cX4_bits : ByteArray := prog_12_method_9_code
def yX4_bits : MethodName := ⟨RX4, "bits", "(I)I"⟩
def dkwX4_bits_1 : List UInt8 := [27, 172]
abbrev dktX4_bits_1 : List UInt8 := dkwX4_bits_1 ++ []
def dkwX4_bits_0 : List UInt8 := [3, 60, 3, 61, 28, 16, 8, 162, 0, 17, 27, 26, 28, 122, 4, 126, 96, 60, 132, 2, 1, 167, 255, 239]
abbrev dktX4_bits_0 : List UInt8 := dkwX4_bits_0 ++ dktX4_bits_1
theorem dksX4_bits_0 : cX4_bits.data.toList.drop 0 = dktX4_bits_0 := by decide +kernel
theorem dksX4_bits_1 : cX4_bits.data.toList.drop 24 = dktX4_bits_1 := dk_seg dksX4_bits_0 24 rfl rfl
theorem dX4_bits_0 : decode cX4_bits 0 = .ok (.iconst 0, 1) := dk_3 (dk_at dksX4_bits_0 0 rfl rfl)
theorem dX4_bits_1 : decode cX4_bits 1 = .ok (.istore_n 1, 1) := dk_60 (dk_at dksX4_bits_0 1 rfl rfl)
theorem dX4_bits_2 : decode cX4_bits 2 = .ok (.iconst 0, 1) := dk_3 (dk_at dksX4_bits_0 2 rfl rfl)
theorem dX4_bits_3 : decode cX4_bits 3 = .ok (.istore_n 2, 1) := dk_61 (dk_at dksX4_bits_0 3 rfl rfl)
theorem dX4_bits_4 : decode cX4_bits 4 = .ok (.iload_n 2, 1) := dk_28 (dk_at dksX4_bits_0 4 rfl rfl)
theorem dX4_bits_5 : decode cX4_bits 5 = .ok (.bipush 8, 2) := dk_16 8 (dk_at dksX4_bits_0 5 rfl rfl)
theorem dX4_bits_7 : decode cX4_bits 7 = .ok (.if_icmp .ge 17, 3) := dk_162 0 17 (dk_at dksX4_bits_0 7 rfl rfl)
theorem dX4_bits_10 : decode cX4_bits 10 = .ok (.iload_n 1, 1) := dk_27 (dk_at dksX4_bits_0 10 rfl rfl)
theorem dX4_bits_11 : decode cX4_bits 11 = .ok (.iload_n 0, 1) := dk_26 (dk_at dksX4_bits_0 11 rfl rfl)
theorem dX4_bits_12 : decode cX4_bits 12 = .ok (.iload_n 2, 1) := dk_28 (dk_at dksX4_bits_0 12 rfl rfl)
theorem dX4_bits_13 : decode cX4_bits 13 = .ok (.ishr, 1) := dk_122 (dk_at dksX4_bits_0 13 rfl rfl)
theorem dX4_bits_14 : decode cX4_bits 14 = .ok (.iconst 1, 1) := dk_4 (dk_at dksX4_bits_0 14 rfl rfl)
theorem dX4_bits_15 : decode cX4_bits 15 = .ok (.iand, 1) := dk_126 (dk_at dksX4_bits_0 15 rfl rfl)
theorem dX4_bits_16 : decode cX4_bits 16 = .ok (.iadd, 1) := dk_96 (dk_at dksX4_bits_0 16 rfl rfl)
theorem dX4_bits_17 : decode cX4_bits 17 = .ok (.istore_n 1, 1) := dk_60 (dk_at dksX4_bits_0 17 rfl rfl)
theorem dX4_bits_18 : decode cX4_bits 18 = .ok (.iinc 2 1, 3) := dk_132 2 1 (dk_at dksX4_bits_0 18 rfl rfl)
theorem dX4_bits_21 : decode cX4_bits 21 = .ok (.goto (-17), 3) := dk_167 255 239 (dk_at dksX4_bits_0 21 rfl rfl)
theorem dX4_bits_24 : decode cX4_bits 24 = .ok (.iload_n 1, 1) := dk_27 (dk_at dksX4_bits_1 0 rfl rfl)
theorem dX4_bits_25 : decode cX4_bits 25 = .ok (.ireturn, 1) := dk_172 (dk_at dksX4_bits_1 1 rfl rfl)
abbrev cX4_toGrow : ByteArray := prog_12_method_116_code
def yX4_toGrow : MethodName := ⟨RX4, "toGrow", "(II)I"⟩
def dkwX4_toGrow_2 : List UInt8 := [6, 28, 96, 46, 161, 0, 5, 29, 172, 42, 16, 43, 182, 1, 80, 132, 3, 1, 167, 255, 219, 2, 172]
abbrev dktX4_toGrow_2 : List UInt8 := dkwX4_toGrow_2 ++ []
def dkwX4_toGrow_1 : List UInt8 := [182, 1, 135, 3, 62, 29, 16, 40, 163, 0, 37, 42, 180, 0, 66, 16, 70, 27, 96, 46, 42, 180, 0, 66]
abbrev dktX4_toGrow_1 : List UInt8 := dkwX4_toGrow_1 ++ dktX4_toGrow_2
def dkwX4_toGrow_0 : List UInt8 := [42, 3, 181, 0, 111, 42, 27, 182, 1, 123, 153, 0, 11, 42, 28, 182, 1, 111, 154, 0, 5, 3, 172, 42]
abbrev dktX4_toGrow_0 : List UInt8 := dkwX4_toGrow_0 ++ dktX4_toGrow_1
theorem dksX4_toGrow_0 : cX4_toGrow.data.toList.drop 0 = dktX4_toGrow_0 := by decide +kernel
theorem dksX4_toGrow_1 : cX4_toGrow.data.toList.drop 24 = dktX4_toGrow_1 := dk_seg dksX4_toGrow_0 24 rfl rfl
theorem dksX4_toGrow_2 : cX4_toGrow.data.toList.drop 48 = dktX4_toGrow_2 := dk_seg dksX4_toGrow_1 24 rfl rfl
theorem dX4_toGrow_0 : decode cX4_toGrow 0 = .ok (.aload_n 0, 1) := dk_42 (dk_at dksX4_toGrow_0 0 rfl rfl)
theorem dX4_toGrow_1 : decode cX4_toGrow 1 = .ok (.iconst 0, 1) := dk_3 (dk_at dksX4_toGrow_0 1 rfl rfl)
theorem dX4_toGrow_2 : decode cX4_toGrow 2 = .ok (.putfield 111, 3) := dk_181 0 111 (dk_at dksX4_toGrow_0 2 rfl rfl)
theorem dX4_toGrow_5 : decode cX4_toGrow 5 = .ok (.aload_n 0, 1) := dk_42 (dk_at dksX4_toGrow_0 5 rfl rfl)
theorem dX4_toGrow_6 : decode cX4_toGrow 6 = .ok (.iload_n 1, 1) := dk_27 (dk_at dksX4_toGrow_0 6 rfl rfl)
theorem dX4_toGrow_7 : decode cX4_toGrow 7 = .ok (.invokevirtual 379, 3) := dk_182 1 123 (dk_at dksX4_toGrow_0 7 rfl rfl)
theorem dX4_toGrow_10 : decode cX4_toGrow 10 = .ok (.ifCond .eq 11, 3) := dk_153 0 11 (dk_at dksX4_toGrow_0 10 rfl rfl)
theorem dX4_toGrow_13 : decode cX4_toGrow 13 = .ok (.aload_n 0, 1) := dk_42 (dk_at dksX4_toGrow_0 13 rfl rfl)
theorem dX4_toGrow_14 : decode cX4_toGrow 14 = .ok (.iload_n 2, 1) := dk_28 (dk_at dksX4_toGrow_0 14 rfl rfl)
theorem dX4_toGrow_15 : decode cX4_toGrow 15 = .ok (.invokevirtual 367, 3) := dk_182 1 111 (dk_at dksX4_toGrow_0 15 rfl rfl)
theorem dX4_toGrow_18 : decode cX4_toGrow 18 = .ok (.ifCond .ne 5, 3) := dk_154 0 5 (dk_at dksX4_toGrow_0 18 rfl rfl)
theorem dX4_toGrow_21 : decode cX4_toGrow 21 = .ok (.iconst 0, 1) := dk_3 (dk_at dksX4_toGrow_0 21 rfl rfl)
theorem dX4_toGrow_22 : decode cX4_toGrow 22 = .ok (.ireturn, 1) := dk_172 (dk_at dksX4_toGrow_0 22 rfl rfl)
theorem dX4_toGrow_23 : decode cX4_toGrow 23 = .ok (.aload_n 0, 1) := dk_42 (dk_at dksX4_toGrow_0 23 rfl rfl)
theorem dX4_toGrow_24 : decode cX4_toGrow 24 = .ok (.invokevirtual 391, 3) := dk_182 1 135 (dk_at dksX4_toGrow_1 0 rfl rfl)
theorem dX4_toGrow_27 : decode cX4_toGrow 27 = .ok (.iconst 0, 1) := dk_3 (dk_at dksX4_toGrow_1 3 rfl rfl)
theorem dX4_toGrow_28 : decode cX4_toGrow 28 = .ok (.istore_n 3, 1) := dk_62 (dk_at dksX4_toGrow_1 4 rfl rfl)
theorem dX4_toGrow_29 : decode cX4_toGrow 29 = .ok (.iload_n 3, 1) := dk_29 (dk_at dksX4_toGrow_1 5 rfl rfl)
theorem dX4_toGrow_30 : decode cX4_toGrow 30 = .ok (.bipush 40, 2) := dk_16 40 (dk_at dksX4_toGrow_1 6 rfl rfl)
theorem dX4_toGrow_32 : decode cX4_toGrow 32 = .ok (.if_icmp .gt 37, 3) := dk_163 0 37 (dk_at dksX4_toGrow_1 8 rfl rfl)
theorem dX4_toGrow_35 : decode cX4_toGrow 35 = .ok (.aload_n 0, 1) := dk_42 (dk_at dksX4_toGrow_1 11 rfl rfl)
theorem dX4_toGrow_36 : decode cX4_toGrow 36 = .ok (.getfield 66, 3) := dk_180 0 66 (dk_at dksX4_toGrow_1 12 rfl rfl)
theorem dX4_toGrow_39 : decode cX4_toGrow 39 = .ok (.bipush 70, 2) := dk_16 70 (dk_at dksX4_toGrow_1 15 rfl rfl)
theorem dX4_toGrow_41 : decode cX4_toGrow 41 = .ok (.iload_n 1, 1) := dk_27 (dk_at dksX4_toGrow_1 17 rfl rfl)
theorem dX4_toGrow_42 : decode cX4_toGrow 42 = .ok (.iadd, 1) := dk_96 (dk_at dksX4_toGrow_1 18 rfl rfl)
theorem dX4_toGrow_43 : decode cX4_toGrow 43 = .ok (.iaload, 1) := dk_46 (dk_at dksX4_toGrow_1 19 rfl rfl)
theorem dX4_toGrow_44 : decode cX4_toGrow 44 = .ok (.aload_n 0, 1) := dk_42 (dk_at dksX4_toGrow_1 20 rfl rfl)
theorem dX4_toGrow_45 : decode cX4_toGrow 45 = .ok (.getfield 66, 3) := dk_180 0 66 (dk_at dksX4_toGrow_1 21 rfl rfl)
theorem dX4_toGrow_48 : decode cX4_toGrow 48 = .ok (.iconst 3, 1) := dk_6 (dk_at dksX4_toGrow_2 0 rfl rfl)
theorem dX4_toGrow_49 : decode cX4_toGrow 49 = .ok (.iload_n 2, 1) := dk_28 (dk_at dksX4_toGrow_2 1 rfl rfl)
theorem dX4_toGrow_50 : decode cX4_toGrow 50 = .ok (.iadd, 1) := dk_96 (dk_at dksX4_toGrow_2 2 rfl rfl)
theorem dX4_toGrow_51 : decode cX4_toGrow 51 = .ok (.iaload, 1) := dk_46 (dk_at dksX4_toGrow_2 3 rfl rfl)
theorem dX4_toGrow_52 : decode cX4_toGrow 52 = .ok (.if_icmp .lt 5, 3) := dk_161 0 5 (dk_at dksX4_toGrow_2 4 rfl rfl)
theorem dX4_toGrow_55 : decode cX4_toGrow 55 = .ok (.iload_n 3, 1) := dk_29 (dk_at dksX4_toGrow_2 7 rfl rfl)
theorem dX4_toGrow_56 : decode cX4_toGrow 56 = .ok (.ireturn, 1) := dk_172 (dk_at dksX4_toGrow_2 8 rfl rfl)
theorem dX4_toGrow_57 : decode cX4_toGrow 57 = .ok (.aload_n 0, 1) := dk_42 (dk_at dksX4_toGrow_2 9 rfl rfl)
theorem dX4_toGrow_58 : decode cX4_toGrow 58 = .ok (.bipush 43, 2) := dk_16 43 (dk_at dksX4_toGrow_2 10 rfl rfl)
theorem dX4_toGrow_60 : decode cX4_toGrow 60 = .ok (.invokevirtual 336, 3) := dk_182 1 80 (dk_at dksX4_toGrow_2 12 rfl rfl)
theorem dX4_toGrow_63 : decode cX4_toGrow 63 = .ok (.iinc 3 1, 3) := dk_132 3 1 (dk_at dksX4_toGrow_2 15 rfl rfl)
theorem dX4_toGrow_66 : decode cX4_toGrow 66 = .ok (.goto (-37), 3) := dk_167 255 219 (dk_at dksX4_toGrow_2 18 rfl rfl)
theorem dX4_toGrow_69 : decode cX4_toGrow 69 = .ok (.iconst (-1), 1) := dk_2 (dk_at dksX4_toGrow_2 21 rfl rfl)
theorem dX4_toGrow_70 : decode cX4_toGrow 70 = .ok (.ireturn, 1) := dk_172 (dk_at dksX4_toGrow_2 22 rfl rfl)
abbrev cX4_paid : ByteArray := prog_12_method_117_code
def yX4_paid : MethodName := ⟨RX4, "paid", "(I)I"⟩
def dkwX4_paid_1 : List UInt8 := [16, 43, 182, 1, 99, 42, 3, 182, 1, 99, 100, 172]
abbrev dktX4_paid_1 : List UInt8 := dkwX4_paid_1 ++ []
def dkwX4_paid_0 : List UInt8 := [42, 3, 181, 0, 111, 42, 27, 3, 4, 182, 1, 141, 154, 0, 5, 3, 172, 42, 27, 182, 1, 144, 42]
abbrev dktX4_paid_0 : List UInt8 := dkwX4_paid_0 ++ dktX4_paid_1
theorem dksX4_paid_0 : cX4_paid.data.toList.drop 0 = dktX4_paid_0 := by decide +kernel
theorem dksX4_paid_1 : cX4_paid.data.toList.drop 23 = dktX4_paid_1 := dk_seg dksX4_paid_0 23 rfl rfl
theorem dX4_paid_0 : decode cX4_paid 0 = .ok (.aload_n 0, 1) := dk_42 (dk_at dksX4_paid_0 0 rfl rfl)
theorem dX4_paid_1 : decode cX4_paid 1 = .ok (.iconst 0, 1) := dk_3 (dk_at dksX4_paid_0 1 rfl rfl)
theorem dX4_paid_2 : decode cX4_paid 2 = .ok (.putfield 111, 3) := dk_181 0 111 (dk_at dksX4_paid_0 2 rfl rfl)
theorem dX4_paid_5 : decode cX4_paid 5 = .ok (.aload_n 0, 1) := dk_42 (dk_at dksX4_paid_0 5 rfl rfl)
theorem dX4_paid_6 : decode cX4_paid 6 = .ok (.iload_n 1, 1) := dk_27 (dk_at dksX4_paid_0 6 rfl rfl)
theorem dX4_paid_7 : decode cX4_paid 7 = .ok (.iconst 0, 1) := dk_3 (dk_at dksX4_paid_0 7 rfl rfl)
theorem dX4_paid_8 : decode cX4_paid 8 = .ok (.iconst 1, 1) := dk_4 (dk_at dksX4_paid_0 8 rfl rfl)
theorem dX4_paid_9 : decode cX4_paid 9 = .ok (.invokevirtual 397, 3) := dk_182 1 141 (dk_at dksX4_paid_0 9 rfl rfl)
theorem dX4_paid_12 : decode cX4_paid 12 = .ok (.ifCond .ne 5, 3) := dk_154 0 5 (dk_at dksX4_paid_0 12 rfl rfl)
theorem dX4_paid_15 : decode cX4_paid 15 = .ok (.iconst 0, 1) := dk_3 (dk_at dksX4_paid_0 15 rfl rfl)
theorem dX4_paid_16 : decode cX4_paid 16 = .ok (.ireturn, 1) := dk_172 (dk_at dksX4_paid_0 16 rfl rfl)
theorem dX4_paid_17 : decode cX4_paid 17 = .ok (.aload_n 0, 1) := dk_42 (dk_at dksX4_paid_0 17 rfl rfl)
theorem dX4_paid_18 : decode cX4_paid 18 = .ok (.iload_n 1, 1) := dk_27 (dk_at dksX4_paid_0 18 rfl rfl)
theorem dX4_paid_19 : decode cX4_paid 19 = .ok (.invokevirtual 400, 3) := dk_182 1 144 (dk_at dksX4_paid_0 19 rfl rfl)
theorem dX4_paid_22 : decode cX4_paid 22 = .ok (.aload_n 0, 1) := dk_42 (dk_at dksX4_paid_0 22 rfl rfl)
theorem dX4_paid_23 : decode cX4_paid 23 = .ok (.bipush 43, 2) := dk_16 43 (dk_at dksX4_paid_1 0 rfl rfl)
theorem dX4_paid_25 : decode cX4_paid 25 = .ok (.invokevirtual 355, 3) := dk_182 1 99 (dk_at dksX4_paid_1 2 rfl rfl)
theorem dX4_paid_28 : decode cX4_paid 28 = .ok (.aload_n 0, 1) := dk_42 (dk_at dksX4_paid_1 5 rfl rfl)
theorem dX4_paid_29 : decode cX4_paid 29 = .ok (.iconst 0, 1) := dk_3 (dk_at dksX4_paid_1 6 rfl rfl)
theorem dX4_paid_30 : decode cX4_paid 30 = .ok (.invokevirtual 355, 3) := dk_182 1 99 (dk_at dksX4_paid_1 7 rfl rfl)
theorem dX4_paid_33 : decode cX4_paid 33 = .ok (.isub, 1) := dk_100 (dk_at dksX4_paid_1 10 rfl rfl)
theorem dX4_paid_34 : decode cX4_paid 34 = .ok (.ireturn, 1) := dk_172 (dk_at dksX4_paid_1 11 rfl rfl)
abbrev cX4_wornest : ByteArray := prog_12_method_118_code
def yX4_wornest : MethodName := ⟨RX4, "wornest", "(I)I"⟩
def dkwX4_wornest_2 : List UInt8 := [42, 180, 0, 66, 16, 54, 28, 96, 46, 164, 0, 5, 29, 61, 132, 3, 1, 167, 255, 217, 28, 172]
abbrev dktX4_wornest_2 : List UInt8 := dkwX4_wornest_2 ++ []
def dkwX4_wornest_1 : List UInt8 := [3, 62, 29, 42, 180, 1, 19, 162, 0, 37, 28, 2, 159, 0, 24, 42, 180, 0, 66, 16, 54, 29, 96, 46]
abbrev dktX4_wornest_1 : List UInt8 := dkwX4_wornest_1 ++ dktX4_wornest_2
def dkwX4_wornest_0 : List UInt8 := [42, 3, 181, 0, 111, 42, 27, 3, 4, 182, 1, 141, 154, 0, 5, 3, 172, 42, 27, 182, 1, 144, 2, 61]
abbrev dktX4_wornest_0 : List UInt8 := dkwX4_wornest_0 ++ dktX4_wornest_1
theorem dksX4_wornest_0 : cX4_wornest.data.toList.drop 0 = dktX4_wornest_0 := by decide +kernel
theorem dksX4_wornest_1 : cX4_wornest.data.toList.drop 24 = dktX4_wornest_1 := dk_seg dksX4_wornest_0 24 rfl rfl
theorem dksX4_wornest_2 : cX4_wornest.data.toList.drop 48 = dktX4_wornest_2 := dk_seg dksX4_wornest_1 24 rfl rfl
theorem dX4_wornest_0 : decode cX4_wornest 0 = .ok (.aload_n 0, 1) := dk_42 (dk_at dksX4_wornest_0 0 rfl rfl)
theorem dX4_wornest_1 : decode cX4_wornest 1 = .ok (.iconst 0, 1) := dk_3 (dk_at dksX4_wornest_0 1 rfl rfl)
theorem dX4_wornest_2 : decode cX4_wornest 2 = .ok (.putfield 111, 3) := dk_181 0 111 (dk_at dksX4_wornest_0 2 rfl rfl)
theorem dX4_wornest_5 : decode cX4_wornest 5 = .ok (.aload_n 0, 1) := dk_42 (dk_at dksX4_wornest_0 5 rfl rfl)
theorem dX4_wornest_6 : decode cX4_wornest 6 = .ok (.iload_n 1, 1) := dk_27 (dk_at dksX4_wornest_0 6 rfl rfl)
theorem dX4_wornest_7 : decode cX4_wornest 7 = .ok (.iconst 0, 1) := dk_3 (dk_at dksX4_wornest_0 7 rfl rfl)
theorem dX4_wornest_8 : decode cX4_wornest 8 = .ok (.iconst 1, 1) := dk_4 (dk_at dksX4_wornest_0 8 rfl rfl)
theorem dX4_wornest_9 : decode cX4_wornest 9 = .ok (.invokevirtual 397, 3) := dk_182 1 141 (dk_at dksX4_wornest_0 9 rfl rfl)
theorem dX4_wornest_12 : decode cX4_wornest 12 = .ok (.ifCond .ne 5, 3) := dk_154 0 5 (dk_at dksX4_wornest_0 12 rfl rfl)
theorem dX4_wornest_15 : decode cX4_wornest 15 = .ok (.iconst 0, 1) := dk_3 (dk_at dksX4_wornest_0 15 rfl rfl)
theorem dX4_wornest_16 : decode cX4_wornest 16 = .ok (.ireturn, 1) := dk_172 (dk_at dksX4_wornest_0 16 rfl rfl)
theorem dX4_wornest_17 : decode cX4_wornest 17 = .ok (.aload_n 0, 1) := dk_42 (dk_at dksX4_wornest_0 17 rfl rfl)
theorem dX4_wornest_18 : decode cX4_wornest 18 = .ok (.iload_n 1, 1) := dk_27 (dk_at dksX4_wornest_0 18 rfl rfl)
theorem dX4_wornest_19 : decode cX4_wornest 19 = .ok (.invokevirtual 400, 3) := dk_182 1 144 (dk_at dksX4_wornest_0 19 rfl rfl)
theorem dX4_wornest_22 : decode cX4_wornest 22 = .ok (.iconst (-1), 1) := dk_2 (dk_at dksX4_wornest_0 22 rfl rfl)
theorem dX4_wornest_23 : decode cX4_wornest 23 = .ok (.istore_n 2, 1) := dk_61 (dk_at dksX4_wornest_0 23 rfl rfl)
theorem dX4_wornest_24 : decode cX4_wornest 24 = .ok (.iconst 0, 1) := dk_3 (dk_at dksX4_wornest_1 0 rfl rfl)
theorem dX4_wornest_25 : decode cX4_wornest 25 = .ok (.istore_n 3, 1) := dk_62 (dk_at dksX4_wornest_1 1 rfl rfl)
theorem dX4_wornest_26 : decode cX4_wornest 26 = .ok (.iload_n 3, 1) := dk_29 (dk_at dksX4_wornest_1 2 rfl rfl)
theorem dX4_wornest_27 : decode cX4_wornest 27 = .ok (.aload_n 0, 1) := dk_42 (dk_at dksX4_wornest_1 3 rfl rfl)
theorem dX4_wornest_28 : decode cX4_wornest 28 = .ok (.getfield 275, 3) := dk_180 1 19 (dk_at dksX4_wornest_1 4 rfl rfl)
theorem dX4_wornest_31 : decode cX4_wornest 31 = .ok (.if_icmp .ge 37, 3) := dk_162 0 37 (dk_at dksX4_wornest_1 7 rfl rfl)
theorem dX4_wornest_34 : decode cX4_wornest 34 = .ok (.iload_n 2, 1) := dk_28 (dk_at dksX4_wornest_1 10 rfl rfl)
theorem dX4_wornest_35 : decode cX4_wornest 35 = .ok (.iconst (-1), 1) := dk_2 (dk_at dksX4_wornest_1 11 rfl rfl)
theorem dX4_wornest_36 : decode cX4_wornest 36 = .ok (.if_icmp .eq 24, 3) := dk_159 0 24 (dk_at dksX4_wornest_1 12 rfl rfl)
theorem dX4_wornest_39 : decode cX4_wornest 39 = .ok (.aload_n 0, 1) := dk_42 (dk_at dksX4_wornest_1 15 rfl rfl)
theorem dX4_wornest_40 : decode cX4_wornest 40 = .ok (.getfield 66, 3) := dk_180 0 66 (dk_at dksX4_wornest_1 16 rfl rfl)
theorem dX4_wornest_43 : decode cX4_wornest 43 = .ok (.bipush 54, 2) := dk_16 54 (dk_at dksX4_wornest_1 19 rfl rfl)
theorem dX4_wornest_45 : decode cX4_wornest 45 = .ok (.iload_n 3, 1) := dk_29 (dk_at dksX4_wornest_1 21 rfl rfl)
theorem dX4_wornest_46 : decode cX4_wornest 46 = .ok (.iadd, 1) := dk_96 (dk_at dksX4_wornest_1 22 rfl rfl)
theorem dX4_wornest_47 : decode cX4_wornest 47 = .ok (.iaload, 1) := dk_46 (dk_at dksX4_wornest_1 23 rfl rfl)
theorem dX4_wornest_48 : decode cX4_wornest 48 = .ok (.aload_n 0, 1) := dk_42 (dk_at dksX4_wornest_2 0 rfl rfl)
theorem dX4_wornest_49 : decode cX4_wornest 49 = .ok (.getfield 66, 3) := dk_180 0 66 (dk_at dksX4_wornest_2 1 rfl rfl)
theorem dX4_wornest_52 : decode cX4_wornest 52 = .ok (.bipush 54, 2) := dk_16 54 (dk_at dksX4_wornest_2 4 rfl rfl)
theorem dX4_wornest_54 : decode cX4_wornest 54 = .ok (.iload_n 2, 1) := dk_28 (dk_at dksX4_wornest_2 6 rfl rfl)
theorem dX4_wornest_55 : decode cX4_wornest 55 = .ok (.iadd, 1) := dk_96 (dk_at dksX4_wornest_2 7 rfl rfl)
theorem dX4_wornest_56 : decode cX4_wornest 56 = .ok (.iaload, 1) := dk_46 (dk_at dksX4_wornest_2 8 rfl rfl)
theorem dX4_wornest_57 : decode cX4_wornest 57 = .ok (.if_icmp .le 5, 3) := dk_164 0 5 (dk_at dksX4_wornest_2 9 rfl rfl)
theorem dX4_wornest_60 : decode cX4_wornest 60 = .ok (.iload_n 3, 1) := dk_29 (dk_at dksX4_wornest_2 12 rfl rfl)
theorem dX4_wornest_61 : decode cX4_wornest 61 = .ok (.istore_n 2, 1) := dk_61 (dk_at dksX4_wornest_2 13 rfl rfl)
theorem dX4_wornest_62 : decode cX4_wornest 62 = .ok (.iinc 3 1, 3) := dk_132 3 1 (dk_at dksX4_wornest_2 14 rfl rfl)
theorem dX4_wornest_65 : decode cX4_wornest 65 = .ok (.goto (-39), 3) := dk_167 255 217 (dk_at dksX4_wornest_2 17 rfl rfl)
theorem dX4_wornest_68 : decode cX4_wornest 68 = .ok (.iload_n 2, 1) := dk_28 (dk_at dksX4_wornest_2 20 rfl rfl)
theorem dX4_wornest_69 : decode cX4_wornest 69 = .ok (.ireturn, 1) := dk_172 (dk_at dksX4_wornest_2 21 rfl rfl)
abbrev cX4_dampest : ByteArray := prog_12_method_119_code
def yX4_dampest : MethodName := ⟨RX4, "dampest", "(I)I"⟩
def dkwX4_dampest_3 : List UInt8 := [172]
abbrev dktX4_dampest_3 : List UInt8 := dkwX4_dampest_3 ++ []
def dkwX4_dampest_2 : List UInt8 := [54, 5, 21, 5, 29, 163, 0, 6, 167, 0, 9, 21, 4, 61, 21, 5, 62, 132, 4, 1, 167, 255, 217, 28]
abbrev dktX4_dampest_2 : List UInt8 := dkwX4_dampest_2 ++ dktX4_dampest_3
def dkwX4_dampest_1 : List UInt8 := [62, 4, 54, 4, 21, 4, 27, 162, 0, 39, 42, 42, 180, 0, 66, 3, 46, 21, 4, 96, 182, 1, 46]
abbrev dktX4_dampest_1 : List UInt8 := dkwX4_dampest_1 ++ dktX4_dampest_2
def dkwX4_dampest_0 : List UInt8 := [42, 3, 181, 0, 111, 42, 27, 4, 4, 182, 1, 141, 154, 0, 5, 3, 172, 3, 61, 42, 3, 182, 1, 53]
abbrev dktX4_dampest_0 : List UInt8 := dkwX4_dampest_0 ++ dktX4_dampest_1
theorem dksX4_dampest_0 : cX4_dampest.data.toList.drop 0 = dktX4_dampest_0 := by decide +kernel
theorem dksX4_dampest_1 : cX4_dampest.data.toList.drop 24 = dktX4_dampest_1 := dk_seg dksX4_dampest_0 24 rfl rfl
theorem dksX4_dampest_2 : cX4_dampest.data.toList.drop 47 = dktX4_dampest_2 := dk_seg dksX4_dampest_1 23 rfl rfl
theorem dksX4_dampest_3 : cX4_dampest.data.toList.drop 71 = dktX4_dampest_3 := dk_seg dksX4_dampest_2 24 rfl rfl
theorem dX4_dampest_0 : decode cX4_dampest 0 = .ok (.aload_n 0, 1) := dk_42 (dk_at dksX4_dampest_0 0 rfl rfl)
theorem dX4_dampest_1 : decode cX4_dampest 1 = .ok (.iconst 0, 1) := dk_3 (dk_at dksX4_dampest_0 1 rfl rfl)
theorem dX4_dampest_2 : decode cX4_dampest 2 = .ok (.putfield 111, 3) := dk_181 0 111 (dk_at dksX4_dampest_0 2 rfl rfl)
theorem dX4_dampest_5 : decode cX4_dampest 5 = .ok (.aload_n 0, 1) := dk_42 (dk_at dksX4_dampest_0 5 rfl rfl)
theorem dX4_dampest_6 : decode cX4_dampest 6 = .ok (.iload_n 1, 1) := dk_27 (dk_at dksX4_dampest_0 6 rfl rfl)
theorem dX4_dampest_7 : decode cX4_dampest 7 = .ok (.iconst 1, 1) := dk_4 (dk_at dksX4_dampest_0 7 rfl rfl)
theorem dX4_dampest_8 : decode cX4_dampest 8 = .ok (.iconst 1, 1) := dk_4 (dk_at dksX4_dampest_0 8 rfl rfl)
theorem dX4_dampest_9 : decode cX4_dampest 9 = .ok (.invokevirtual 397, 3) := dk_182 1 141 (dk_at dksX4_dampest_0 9 rfl rfl)
theorem dX4_dampest_12 : decode cX4_dampest 12 = .ok (.ifCond .ne 5, 3) := dk_154 0 5 (dk_at dksX4_dampest_0 12 rfl rfl)
theorem dX4_dampest_15 : decode cX4_dampest 15 = .ok (.iconst 0, 1) := dk_3 (dk_at dksX4_dampest_0 15 rfl rfl)
theorem dX4_dampest_16 : decode cX4_dampest 16 = .ok (.ireturn, 1) := dk_172 (dk_at dksX4_dampest_0 16 rfl rfl)
theorem dX4_dampest_17 : decode cX4_dampest 17 = .ok (.iconst 0, 1) := dk_3 (dk_at dksX4_dampest_0 17 rfl rfl)
theorem dX4_dampest_18 : decode cX4_dampest 18 = .ok (.istore_n 2, 1) := dk_61 (dk_at dksX4_dampest_0 18 rfl rfl)
theorem dX4_dampest_19 : decode cX4_dampest 19 = .ok (.aload_n 0, 1) := dk_42 (dk_at dksX4_dampest_0 19 rfl rfl)
theorem dX4_dampest_20 : decode cX4_dampest 20 = .ok (.iconst 0, 1) := dk_3 (dk_at dksX4_dampest_0 20 rfl rfl)
theorem dX4_dampest_21 : decode cX4_dampest 21 = .ok (.invokevirtual 309, 3) := dk_182 1 53 (dk_at dksX4_dampest_0 21 rfl rfl)
theorem dX4_dampest_24 : decode cX4_dampest 24 = .ok (.istore_n 3, 1) := dk_62 (dk_at dksX4_dampest_1 0 rfl rfl)
theorem dX4_dampest_25 : decode cX4_dampest 25 = .ok (.iconst 1, 1) := dk_4 (dk_at dksX4_dampest_1 1 rfl rfl)
theorem dX4_dampest_26 : decode cX4_dampest 26 = .ok (.istore 4, 2) := dk_54 4 (dk_at dksX4_dampest_1 2 rfl rfl)
theorem dX4_dampest_28 : decode cX4_dampest 28 = .ok (.iload 4, 2) := dk_21 4 (dk_at dksX4_dampest_1 4 rfl rfl)
theorem dX4_dampest_30 : decode cX4_dampest 30 = .ok (.iload_n 1, 1) := dk_27 (dk_at dksX4_dampest_1 6 rfl rfl)
theorem dX4_dampest_31 : decode cX4_dampest 31 = .ok (.if_icmp .ge 39, 3) := dk_162 0 39 (dk_at dksX4_dampest_1 7 rfl rfl)
theorem dX4_dampest_34 : decode cX4_dampest 34 = .ok (.aload_n 0, 1) := dk_42 (dk_at dksX4_dampest_1 10 rfl rfl)
theorem dX4_dampest_35 : decode cX4_dampest 35 = .ok (.aload_n 0, 1) := dk_42 (dk_at dksX4_dampest_1 11 rfl rfl)
theorem dX4_dampest_36 : decode cX4_dampest 36 = .ok (.getfield 66, 3) := dk_180 0 66 (dk_at dksX4_dampest_1 12 rfl rfl)
theorem dX4_dampest_39 : decode cX4_dampest 39 = .ok (.iconst 0, 1) := dk_3 (dk_at dksX4_dampest_1 15 rfl rfl)
theorem dX4_dampest_40 : decode cX4_dampest 40 = .ok (.iaload, 1) := dk_46 (dk_at dksX4_dampest_1 16 rfl rfl)
theorem dX4_dampest_41 : decode cX4_dampest 41 = .ok (.iload 4, 2) := dk_21 4 (dk_at dksX4_dampest_1 17 rfl rfl)
theorem dX4_dampest_43 : decode cX4_dampest 43 = .ok (.iadd, 1) := dk_96 (dk_at dksX4_dampest_1 19 rfl rfl)
theorem dX4_dampest_44 : decode cX4_dampest 44 = .ok (.invokevirtual 302, 3) := dk_182 1 46 (dk_at dksX4_dampest_1 20 rfl rfl)
theorem dX4_dampest_47 : decode cX4_dampest 47 = .ok (.istore 5, 2) := dk_54 5 (dk_at dksX4_dampest_2 0 rfl rfl)
theorem dX4_dampest_49 : decode cX4_dampest 49 = .ok (.iload 5, 2) := dk_21 5 (dk_at dksX4_dampest_2 2 rfl rfl)
theorem dX4_dampest_51 : decode cX4_dampest 51 = .ok (.iload_n 3, 1) := dk_29 (dk_at dksX4_dampest_2 4 rfl rfl)
theorem dX4_dampest_52 : decode cX4_dampest 52 = .ok (.if_icmp .gt 6, 3) := dk_163 0 6 (dk_at dksX4_dampest_2 5 rfl rfl)
theorem dX4_dampest_55 : decode cX4_dampest 55 = .ok (.goto 9, 3) := dk_167 0 9 (dk_at dksX4_dampest_2 8 rfl rfl)
theorem dX4_dampest_58 : decode cX4_dampest 58 = .ok (.iload 4, 2) := dk_21 4 (dk_at dksX4_dampest_2 11 rfl rfl)
theorem dX4_dampest_60 : decode cX4_dampest 60 = .ok (.istore_n 2, 1) := dk_61 (dk_at dksX4_dampest_2 13 rfl rfl)
theorem dX4_dampest_61 : decode cX4_dampest 61 = .ok (.iload 5, 2) := dk_21 5 (dk_at dksX4_dampest_2 14 rfl rfl)
theorem dX4_dampest_63 : decode cX4_dampest 63 = .ok (.istore_n 3, 1) := dk_62 (dk_at dksX4_dampest_2 16 rfl rfl)
theorem dX4_dampest_64 : decode cX4_dampest 64 = .ok (.iinc 4 1, 3) := dk_132 4 1 (dk_at dksX4_dampest_2 17 rfl rfl)
theorem dX4_dampest_67 : decode cX4_dampest 67 = .ok (.goto (-39), 3) := dk_167 255 217 (dk_at dksX4_dampest_2 20 rfl rfl)
theorem dX4_dampest_70 : decode cX4_dampest 70 = .ok (.iload_n 2, 1) := dk_28 (dk_at dksX4_dampest_2 23 rfl rfl)
theorem dX4_dampest_71 : decode cX4_dampest 71 = .ok (.ireturn, 1) := dk_172 (dk_at dksX4_dampest_3 0 rfl rfl)
abbrev cX4_kept : ByteArray := prog_12_method_120_code
def yX4_kept : MethodName := ⟨RX4, "kept", "(I)I"⟩
def dkwX4_kept_3 : List UInt8 := [180, 0, 66, 16, 19, 29, 96, 46, 120, 167, 0, 4, 3, 128, 61, 132, 3, 1, 167, 255, 193, 28, 172]
abbrev dktX4_kept_3 : List UInt8 := dkwX4_kept_3 ++ []
def dkwX4_kept_2 : List UInt8 := [42, 180, 0, 66, 16, 62, 29, 96, 46, 42, 180, 0, 66, 16, 19, 29, 96, 46, 160, 0, 17, 4, 42]
abbrev dktX4_kept_2 : List UInt8 := dkwX4_kept_2 ++ dktX4_kept_3
def dkwX4_kept_1 : List UInt8 := [3, 62, 29, 42, 180, 1, 19, 162, 0, 61, 28, 42, 180, 0, 66, 16, 19, 29, 96, 46, 2, 159, 0, 38]
abbrev dktX4_kept_1 : List UInt8 := dkwX4_kept_1 ++ dktX4_kept_2
def dkwX4_kept_0 : List UInt8 := [42, 3, 181, 0, 111, 42, 27, 3, 4, 182, 1, 141, 154, 0, 5, 3, 172, 42, 27, 182, 1, 144, 3, 61]
abbrev dktX4_kept_0 : List UInt8 := dkwX4_kept_0 ++ dktX4_kept_1
theorem dksX4_kept_0 : cX4_kept.data.toList.drop 0 = dktX4_kept_0 := by decide +kernel
theorem dksX4_kept_1 : cX4_kept.data.toList.drop 24 = dktX4_kept_1 := dk_seg dksX4_kept_0 24 rfl rfl
theorem dksX4_kept_2 : cX4_kept.data.toList.drop 48 = dktX4_kept_2 := dk_seg dksX4_kept_1 24 rfl rfl
theorem dksX4_kept_3 : cX4_kept.data.toList.drop 71 = dktX4_kept_3 := dk_seg dksX4_kept_2 23 rfl rfl
theorem dX4_kept_0 : decode cX4_kept 0 = .ok (.aload_n 0, 1) := dk_42 (dk_at dksX4_kept_0 0 rfl rfl)
theorem dX4_kept_1 : decode cX4_kept 1 = .ok (.iconst 0, 1) := dk_3 (dk_at dksX4_kept_0 1 rfl rfl)
theorem dX4_kept_2 : decode cX4_kept 2 = .ok (.putfield 111, 3) := dk_181 0 111 (dk_at dksX4_kept_0 2 rfl rfl)
theorem dX4_kept_5 : decode cX4_kept 5 = .ok (.aload_n 0, 1) := dk_42 (dk_at dksX4_kept_0 5 rfl rfl)
theorem dX4_kept_6 : decode cX4_kept 6 = .ok (.iload_n 1, 1) := dk_27 (dk_at dksX4_kept_0 6 rfl rfl)
theorem dX4_kept_7 : decode cX4_kept 7 = .ok (.iconst 0, 1) := dk_3 (dk_at dksX4_kept_0 7 rfl rfl)
theorem dX4_kept_8 : decode cX4_kept 8 = .ok (.iconst 1, 1) := dk_4 (dk_at dksX4_kept_0 8 rfl rfl)
theorem dX4_kept_9 : decode cX4_kept 9 = .ok (.invokevirtual 397, 3) := dk_182 1 141 (dk_at dksX4_kept_0 9 rfl rfl)
theorem dX4_kept_12 : decode cX4_kept 12 = .ok (.ifCond .ne 5, 3) := dk_154 0 5 (dk_at dksX4_kept_0 12 rfl rfl)
theorem dX4_kept_15 : decode cX4_kept 15 = .ok (.iconst 0, 1) := dk_3 (dk_at dksX4_kept_0 15 rfl rfl)
theorem dX4_kept_16 : decode cX4_kept 16 = .ok (.ireturn, 1) := dk_172 (dk_at dksX4_kept_0 16 rfl rfl)
theorem dX4_kept_17 : decode cX4_kept 17 = .ok (.aload_n 0, 1) := dk_42 (dk_at dksX4_kept_0 17 rfl rfl)
theorem dX4_kept_18 : decode cX4_kept 18 = .ok (.iload_n 1, 1) := dk_27 (dk_at dksX4_kept_0 18 rfl rfl)
theorem dX4_kept_19 : decode cX4_kept 19 = .ok (.invokevirtual 400, 3) := dk_182 1 144 (dk_at dksX4_kept_0 19 rfl rfl)
theorem dX4_kept_22 : decode cX4_kept 22 = .ok (.iconst 0, 1) := dk_3 (dk_at dksX4_kept_0 22 rfl rfl)
theorem dX4_kept_23 : decode cX4_kept 23 = .ok (.istore_n 2, 1) := dk_61 (dk_at dksX4_kept_0 23 rfl rfl)
theorem dX4_kept_24 : decode cX4_kept 24 = .ok (.iconst 0, 1) := dk_3 (dk_at dksX4_kept_1 0 rfl rfl)
theorem dX4_kept_25 : decode cX4_kept 25 = .ok (.istore_n 3, 1) := dk_62 (dk_at dksX4_kept_1 1 rfl rfl)
theorem dX4_kept_26 : decode cX4_kept 26 = .ok (.iload_n 3, 1) := dk_29 (dk_at dksX4_kept_1 2 rfl rfl)
theorem dX4_kept_27 : decode cX4_kept 27 = .ok (.aload_n 0, 1) := dk_42 (dk_at dksX4_kept_1 3 rfl rfl)
theorem dX4_kept_28 : decode cX4_kept 28 = .ok (.getfield 275, 3) := dk_180 1 19 (dk_at dksX4_kept_1 4 rfl rfl)
theorem dX4_kept_31 : decode cX4_kept 31 = .ok (.if_icmp .ge 61, 3) := dk_162 0 61 (dk_at dksX4_kept_1 7 rfl rfl)
theorem dX4_kept_34 : decode cX4_kept 34 = .ok (.iload_n 2, 1) := dk_28 (dk_at dksX4_kept_1 10 rfl rfl)
theorem dX4_kept_35 : decode cX4_kept 35 = .ok (.aload_n 0, 1) := dk_42 (dk_at dksX4_kept_1 11 rfl rfl)
theorem dX4_kept_36 : decode cX4_kept 36 = .ok (.getfield 66, 3) := dk_180 0 66 (dk_at dksX4_kept_1 12 rfl rfl)
theorem dX4_kept_39 : decode cX4_kept 39 = .ok (.bipush 19, 2) := dk_16 19 (dk_at dksX4_kept_1 15 rfl rfl)
theorem dX4_kept_41 : decode cX4_kept 41 = .ok (.iload_n 3, 1) := dk_29 (dk_at dksX4_kept_1 17 rfl rfl)
theorem dX4_kept_42 : decode cX4_kept 42 = .ok (.iadd, 1) := dk_96 (dk_at dksX4_kept_1 18 rfl rfl)
theorem dX4_kept_43 : decode cX4_kept 43 = .ok (.iaload, 1) := dk_46 (dk_at dksX4_kept_1 19 rfl rfl)
theorem dX4_kept_44 : decode cX4_kept 44 = .ok (.iconst (-1), 1) := dk_2 (dk_at dksX4_kept_1 20 rfl rfl)
theorem dX4_kept_45 : decode cX4_kept 45 = .ok (.if_icmp .eq 38, 3) := dk_159 0 38 (dk_at dksX4_kept_1 21 rfl rfl)
theorem dX4_kept_48 : decode cX4_kept 48 = .ok (.aload_n 0, 1) := dk_42 (dk_at dksX4_kept_2 0 rfl rfl)
theorem dX4_kept_49 : decode cX4_kept 49 = .ok (.getfield 66, 3) := dk_180 0 66 (dk_at dksX4_kept_2 1 rfl rfl)
theorem dX4_kept_52 : decode cX4_kept 52 = .ok (.bipush 62, 2) := dk_16 62 (dk_at dksX4_kept_2 4 rfl rfl)
theorem dX4_kept_54 : decode cX4_kept 54 = .ok (.iload_n 3, 1) := dk_29 (dk_at dksX4_kept_2 6 rfl rfl)
theorem dX4_kept_55 : decode cX4_kept 55 = .ok (.iadd, 1) := dk_96 (dk_at dksX4_kept_2 7 rfl rfl)
theorem dX4_kept_56 : decode cX4_kept 56 = .ok (.iaload, 1) := dk_46 (dk_at dksX4_kept_2 8 rfl rfl)
theorem dX4_kept_57 : decode cX4_kept 57 = .ok (.aload_n 0, 1) := dk_42 (dk_at dksX4_kept_2 9 rfl rfl)
theorem dX4_kept_58 : decode cX4_kept 58 = .ok (.getfield 66, 3) := dk_180 0 66 (dk_at dksX4_kept_2 10 rfl rfl)
theorem dX4_kept_61 : decode cX4_kept 61 = .ok (.bipush 19, 2) := dk_16 19 (dk_at dksX4_kept_2 13 rfl rfl)
theorem dX4_kept_63 : decode cX4_kept 63 = .ok (.iload_n 3, 1) := dk_29 (dk_at dksX4_kept_2 15 rfl rfl)
theorem dX4_kept_64 : decode cX4_kept 64 = .ok (.iadd, 1) := dk_96 (dk_at dksX4_kept_2 16 rfl rfl)
theorem dX4_kept_65 : decode cX4_kept 65 = .ok (.iaload, 1) := dk_46 (dk_at dksX4_kept_2 17 rfl rfl)
theorem dX4_kept_66 : decode cX4_kept 66 = .ok (.if_icmp .ne 17, 3) := dk_160 0 17 (dk_at dksX4_kept_2 18 rfl rfl)
theorem dX4_kept_69 : decode cX4_kept 69 = .ok (.iconst 1, 1) := dk_4 (dk_at dksX4_kept_2 21 rfl rfl)
theorem dX4_kept_70 : decode cX4_kept 70 = .ok (.aload_n 0, 1) := dk_42 (dk_at dksX4_kept_2 22 rfl rfl)
theorem dX4_kept_71 : decode cX4_kept 71 = .ok (.getfield 66, 3) := dk_180 0 66 (dk_at dksX4_kept_3 0 rfl rfl)
theorem dX4_kept_74 : decode cX4_kept 74 = .ok (.bipush 19, 2) := dk_16 19 (dk_at dksX4_kept_3 3 rfl rfl)
theorem dX4_kept_76 : decode cX4_kept 76 = .ok (.iload_n 3, 1) := dk_29 (dk_at dksX4_kept_3 5 rfl rfl)
theorem dX4_kept_77 : decode cX4_kept 77 = .ok (.iadd, 1) := dk_96 (dk_at dksX4_kept_3 6 rfl rfl)
theorem dX4_kept_78 : decode cX4_kept 78 = .ok (.iaload, 1) := dk_46 (dk_at dksX4_kept_3 7 rfl rfl)
theorem dX4_kept_79 : decode cX4_kept 79 = .ok (.ishl, 1) := dk_120 (dk_at dksX4_kept_3 8 rfl rfl)
theorem dX4_kept_80 : decode cX4_kept 80 = .ok (.goto 4, 3) := dk_167 0 4 (dk_at dksX4_kept_3 9 rfl rfl)
theorem dX4_kept_83 : decode cX4_kept 83 = .ok (.iconst 0, 1) := dk_3 (dk_at dksX4_kept_3 12 rfl rfl)
theorem dX4_kept_84 : decode cX4_kept 84 = .ok (.ior, 1) := dk_128 (dk_at dksX4_kept_3 13 rfl rfl)
theorem dX4_kept_85 : decode cX4_kept 85 = .ok (.istore_n 2, 1) := dk_61 (dk_at dksX4_kept_3 14 rfl rfl)
theorem dX4_kept_86 : decode cX4_kept 86 = .ok (.iinc 3 1, 3) := dk_132 3 1 (dk_at dksX4_kept_3 15 rfl rfl)
theorem dX4_kept_89 : decode cX4_kept 89 = .ok (.goto (-63), 3) := dk_167 255 193 (dk_at dksX4_kept_3 18 rfl rfl)
theorem dX4_kept_92 : decode cX4_kept 92 = .ok (.iload_n 2, 1) := dk_28 (dk_at dksX4_kept_3 21 rfl rfl)
theorem dX4_kept_93 : decode cX4_kept 93 = .ok (.ireturn, 1) := dk_172 (dk_at dksX4_kept_3 22 rfl rfl)
abbrev cX4_sorest : ByteArray := prog_12_method_121_code
def yX4_sorest : MethodName := ⟨RX4, "sorest", "(I)I"⟩
def dkwX4_sorest_2 : List UInt8 := [42, 180, 0, 66, 16, 78, 28, 96, 46, 164, 0, 5, 29, 61, 132, 3, 1, 167, 255, 217, 28, 172]
abbrev dktX4_sorest_2 : List UInt8 := dkwX4_sorest_2 ++ []
def dkwX4_sorest_1 : List UInt8 := [3, 62, 29, 42, 180, 1, 22, 162, 0, 37, 28, 2, 159, 0, 24, 42, 180, 0, 66, 16, 78, 29, 96, 46]
abbrev dktX4_sorest_1 : List UInt8 := dkwX4_sorest_1 ++ dktX4_sorest_2
def dkwX4_sorest_0 : List UInt8 := [42, 3, 181, 0, 111, 42, 27, 3, 4, 182, 1, 141, 154, 0, 5, 3, 172, 42, 27, 182, 1, 144, 2, 61]
abbrev dktX4_sorest_0 : List UInt8 := dkwX4_sorest_0 ++ dktX4_sorest_1
theorem dksX4_sorest_0 : cX4_sorest.data.toList.drop 0 = dktX4_sorest_0 := by decide +kernel
theorem dksX4_sorest_1 : cX4_sorest.data.toList.drop 24 = dktX4_sorest_1 := dk_seg dksX4_sorest_0 24 rfl rfl
theorem dksX4_sorest_2 : cX4_sorest.data.toList.drop 48 = dktX4_sorest_2 := dk_seg dksX4_sorest_1 24 rfl rfl
theorem dX4_sorest_0 : decode cX4_sorest 0 = .ok (.aload_n 0, 1) := dk_42 (dk_at dksX4_sorest_0 0 rfl rfl)
theorem dX4_sorest_1 : decode cX4_sorest 1 = .ok (.iconst 0, 1) := dk_3 (dk_at dksX4_sorest_0 1 rfl rfl)
theorem dX4_sorest_2 : decode cX4_sorest 2 = .ok (.putfield 111, 3) := dk_181 0 111 (dk_at dksX4_sorest_0 2 rfl rfl)
theorem dX4_sorest_5 : decode cX4_sorest 5 = .ok (.aload_n 0, 1) := dk_42 (dk_at dksX4_sorest_0 5 rfl rfl)
theorem dX4_sorest_6 : decode cX4_sorest 6 = .ok (.iload_n 1, 1) := dk_27 (dk_at dksX4_sorest_0 6 rfl rfl)
theorem dX4_sorest_7 : decode cX4_sorest 7 = .ok (.iconst 0, 1) := dk_3 (dk_at dksX4_sorest_0 7 rfl rfl)
theorem dX4_sorest_8 : decode cX4_sorest 8 = .ok (.iconst 1, 1) := dk_4 (dk_at dksX4_sorest_0 8 rfl rfl)
theorem dX4_sorest_9 : decode cX4_sorest 9 = .ok (.invokevirtual 397, 3) := dk_182 1 141 (dk_at dksX4_sorest_0 9 rfl rfl)
theorem dX4_sorest_12 : decode cX4_sorest 12 = .ok (.ifCond .ne 5, 3) := dk_154 0 5 (dk_at dksX4_sorest_0 12 rfl rfl)
theorem dX4_sorest_15 : decode cX4_sorest 15 = .ok (.iconst 0, 1) := dk_3 (dk_at dksX4_sorest_0 15 rfl rfl)
theorem dX4_sorest_16 : decode cX4_sorest 16 = .ok (.ireturn, 1) := dk_172 (dk_at dksX4_sorest_0 16 rfl rfl)
theorem dX4_sorest_17 : decode cX4_sorest 17 = .ok (.aload_n 0, 1) := dk_42 (dk_at dksX4_sorest_0 17 rfl rfl)
theorem dX4_sorest_18 : decode cX4_sorest 18 = .ok (.iload_n 1, 1) := dk_27 (dk_at dksX4_sorest_0 18 rfl rfl)
theorem dX4_sorest_19 : decode cX4_sorest 19 = .ok (.invokevirtual 400, 3) := dk_182 1 144 (dk_at dksX4_sorest_0 19 rfl rfl)
theorem dX4_sorest_22 : decode cX4_sorest 22 = .ok (.iconst (-1), 1) := dk_2 (dk_at dksX4_sorest_0 22 rfl rfl)
theorem dX4_sorest_23 : decode cX4_sorest 23 = .ok (.istore_n 2, 1) := dk_61 (dk_at dksX4_sorest_0 23 rfl rfl)
theorem dX4_sorest_24 : decode cX4_sorest 24 = .ok (.iconst 0, 1) := dk_3 (dk_at dksX4_sorest_1 0 rfl rfl)
theorem dX4_sorest_25 : decode cX4_sorest 25 = .ok (.istore_n 3, 1) := dk_62 (dk_at dksX4_sorest_1 1 rfl rfl)
theorem dX4_sorest_26 : decode cX4_sorest 26 = .ok (.iload_n 3, 1) := dk_29 (dk_at dksX4_sorest_1 2 rfl rfl)
theorem dX4_sorest_27 : decode cX4_sorest 27 = .ok (.aload_n 0, 1) := dk_42 (dk_at dksX4_sorest_1 3 rfl rfl)
theorem dX4_sorest_28 : decode cX4_sorest 28 = .ok (.getfield 278, 3) := dk_180 1 22 (dk_at dksX4_sorest_1 4 rfl rfl)
theorem dX4_sorest_31 : decode cX4_sorest 31 = .ok (.if_icmp .ge 37, 3) := dk_162 0 37 (dk_at dksX4_sorest_1 7 rfl rfl)
theorem dX4_sorest_34 : decode cX4_sorest 34 = .ok (.iload_n 2, 1) := dk_28 (dk_at dksX4_sorest_1 10 rfl rfl)
theorem dX4_sorest_35 : decode cX4_sorest 35 = .ok (.iconst (-1), 1) := dk_2 (dk_at dksX4_sorest_1 11 rfl rfl)
theorem dX4_sorest_36 : decode cX4_sorest 36 = .ok (.if_icmp .eq 24, 3) := dk_159 0 24 (dk_at dksX4_sorest_1 12 rfl rfl)
theorem dX4_sorest_39 : decode cX4_sorest 39 = .ok (.aload_n 0, 1) := dk_42 (dk_at dksX4_sorest_1 15 rfl rfl)
theorem dX4_sorest_40 : decode cX4_sorest 40 = .ok (.getfield 66, 3) := dk_180 0 66 (dk_at dksX4_sorest_1 16 rfl rfl)
theorem dX4_sorest_43 : decode cX4_sorest 43 = .ok (.bipush 78, 2) := dk_16 78 (dk_at dksX4_sorest_1 19 rfl rfl)
theorem dX4_sorest_45 : decode cX4_sorest 45 = .ok (.iload_n 3, 1) := dk_29 (dk_at dksX4_sorest_1 21 rfl rfl)
theorem dX4_sorest_46 : decode cX4_sorest 46 = .ok (.iadd, 1) := dk_96 (dk_at dksX4_sorest_1 22 rfl rfl)
theorem dX4_sorest_47 : decode cX4_sorest 47 = .ok (.iaload, 1) := dk_46 (dk_at dksX4_sorest_1 23 rfl rfl)
theorem dX4_sorest_48 : decode cX4_sorest 48 = .ok (.aload_n 0, 1) := dk_42 (dk_at dksX4_sorest_2 0 rfl rfl)
theorem dX4_sorest_49 : decode cX4_sorest 49 = .ok (.getfield 66, 3) := dk_180 0 66 (dk_at dksX4_sorest_2 1 rfl rfl)
theorem dX4_sorest_52 : decode cX4_sorest 52 = .ok (.bipush 78, 2) := dk_16 78 (dk_at dksX4_sorest_2 4 rfl rfl)
theorem dX4_sorest_54 : decode cX4_sorest 54 = .ok (.iload_n 2, 1) := dk_28 (dk_at dksX4_sorest_2 6 rfl rfl)
theorem dX4_sorest_55 : decode cX4_sorest 55 = .ok (.iadd, 1) := dk_96 (dk_at dksX4_sorest_2 7 rfl rfl)
theorem dX4_sorest_56 : decode cX4_sorest 56 = .ok (.iaload, 1) := dk_46 (dk_at dksX4_sorest_2 8 rfl rfl)
theorem dX4_sorest_57 : decode cX4_sorest 57 = .ok (.if_icmp .le 5, 3) := dk_164 0 5 (dk_at dksX4_sorest_2 9 rfl rfl)
theorem dX4_sorest_60 : decode cX4_sorest 60 = .ok (.iload_n 3, 1) := dk_29 (dk_at dksX4_sorest_2 12 rfl rfl)
theorem dX4_sorest_61 : decode cX4_sorest 61 = .ok (.istore_n 2, 1) := dk_61 (dk_at dksX4_sorest_2 13 rfl rfl)
theorem dX4_sorest_62 : decode cX4_sorest 62 = .ok (.iinc 3 1, 3) := dk_132 3 1 (dk_at dksX4_sorest_2 14 rfl rfl)
theorem dX4_sorest_65 : decode cX4_sorest 65 = .ok (.goto (-39), 3) := dk_167 255 217 (dk_at dksX4_sorest_2 17 rfl rfl)
theorem dX4_sorest_68 : decode cX4_sorest 68 = .ok (.iload_n 2, 1) := dk_28 (dk_at dksX4_sorest_2 20 rfl rfl)
theorem dX4_sorest_69 : decode cX4_sorest 69 = .ok (.ireturn, 1) := dk_172 (dk_at dksX4_sorest_2 21 rfl rfl)
abbrev cX4_eased : ByteArray := prog_12_method_122_code
def yX4_eased : MethodName := ⟨RX4, "eased", "(III)I"⟩
def dkwX4_eased_3 : List UInt8 := [54, 4, 21, 7, 54, 5, 42, 16, 43, 182, 1, 80, 132, 6, 1, 167, 255, 216, 21, 4, 172]
abbrev dktX4_eased_3 : List UInt8 := dkwX4_eased_3 ++ []
def dkwX4_eased_2 : List UInt8 := [29, 162, 0, 40, 42, 16, 43, 27, 28, 182, 1, 70, 54, 7, 21, 7, 21, 5, 164, 0, 11, 21, 6]
abbrev dktX4_eased_2 : List UInt8 := dkwX4_eased_2 ++ dktX4_eased_3
def dkwX4_eased_1 : List UInt8 := [5, 182, 1, 141, 154, 0, 5, 3, 172, 2, 54, 4, 2, 54, 5, 42, 182, 1, 135, 3, 54, 6, 21, 6]
abbrev dktX4_eased_1 : List UInt8 := dkwX4_eased_1 ++ dktX4_eased_2
def dkwX4_eased_0 : List UInt8 := [42, 3, 181, 0, 111, 42, 27, 182, 1, 123, 153, 0, 21, 42, 28, 182, 1, 111, 153, 0, 13, 42, 29, 4]
abbrev dktX4_eased_0 : List UInt8 := dkwX4_eased_0 ++ dktX4_eased_1
theorem dksX4_eased_0 : cX4_eased.data.toList.drop 0 = dktX4_eased_0 := by decide +kernel
theorem dksX4_eased_1 : cX4_eased.data.toList.drop 24 = dktX4_eased_1 := dk_seg dksX4_eased_0 24 rfl rfl
theorem dksX4_eased_2 : cX4_eased.data.toList.drop 48 = dktX4_eased_2 := dk_seg dksX4_eased_1 24 rfl rfl
theorem dksX4_eased_3 : cX4_eased.data.toList.drop 71 = dktX4_eased_3 := dk_seg dksX4_eased_2 23 rfl rfl
theorem dX4_eased_0 : decode cX4_eased 0 = .ok (.aload_n 0, 1) := dk_42 (dk_at dksX4_eased_0 0 rfl rfl)
theorem dX4_eased_1 : decode cX4_eased 1 = .ok (.iconst 0, 1) := dk_3 (dk_at dksX4_eased_0 1 rfl rfl)
theorem dX4_eased_2 : decode cX4_eased 2 = .ok (.putfield 111, 3) := dk_181 0 111 (dk_at dksX4_eased_0 2 rfl rfl)
theorem dX4_eased_5 : decode cX4_eased 5 = .ok (.aload_n 0, 1) := dk_42 (dk_at dksX4_eased_0 5 rfl rfl)
theorem dX4_eased_6 : decode cX4_eased 6 = .ok (.iload_n 1, 1) := dk_27 (dk_at dksX4_eased_0 6 rfl rfl)
theorem dX4_eased_7 : decode cX4_eased 7 = .ok (.invokevirtual 379, 3) := dk_182 1 123 (dk_at dksX4_eased_0 7 rfl rfl)
theorem dX4_eased_10 : decode cX4_eased 10 = .ok (.ifCond .eq 21, 3) := dk_153 0 21 (dk_at dksX4_eased_0 10 rfl rfl)
theorem dX4_eased_13 : decode cX4_eased 13 = .ok (.aload_n 0, 1) := dk_42 (dk_at dksX4_eased_0 13 rfl rfl)
theorem dX4_eased_14 : decode cX4_eased 14 = .ok (.iload_n 2, 1) := dk_28 (dk_at dksX4_eased_0 14 rfl rfl)
theorem dX4_eased_15 : decode cX4_eased 15 = .ok (.invokevirtual 367, 3) := dk_182 1 111 (dk_at dksX4_eased_0 15 rfl rfl)
theorem dX4_eased_18 : decode cX4_eased 18 = .ok (.ifCond .eq 13, 3) := dk_153 0 13 (dk_at dksX4_eased_0 18 rfl rfl)
theorem dX4_eased_21 : decode cX4_eased 21 = .ok (.aload_n 0, 1) := dk_42 (dk_at dksX4_eased_0 21 rfl rfl)
theorem dX4_eased_22 : decode cX4_eased 22 = .ok (.iload_n 3, 1) := dk_29 (dk_at dksX4_eased_0 22 rfl rfl)
theorem dX4_eased_23 : decode cX4_eased 23 = .ok (.iconst 1, 1) := dk_4 (dk_at dksX4_eased_0 23 rfl rfl)
theorem dX4_eased_24 : decode cX4_eased 24 = .ok (.iconst 2, 1) := dk_5 (dk_at dksX4_eased_1 0 rfl rfl)
theorem dX4_eased_25 : decode cX4_eased 25 = .ok (.invokevirtual 397, 3) := dk_182 1 141 (dk_at dksX4_eased_1 1 rfl rfl)
theorem dX4_eased_28 : decode cX4_eased 28 = .ok (.ifCond .ne 5, 3) := dk_154 0 5 (dk_at dksX4_eased_1 4 rfl rfl)
theorem dX4_eased_31 : decode cX4_eased 31 = .ok (.iconst 0, 1) := dk_3 (dk_at dksX4_eased_1 7 rfl rfl)
theorem dX4_eased_32 : decode cX4_eased 32 = .ok (.ireturn, 1) := dk_172 (dk_at dksX4_eased_1 8 rfl rfl)
theorem dX4_eased_33 : decode cX4_eased 33 = .ok (.iconst (-1), 1) := dk_2 (dk_at dksX4_eased_1 9 rfl rfl)
theorem dX4_eased_34 : decode cX4_eased 34 = .ok (.istore 4, 2) := dk_54 4 (dk_at dksX4_eased_1 10 rfl rfl)
theorem dX4_eased_36 : decode cX4_eased 36 = .ok (.iconst (-1), 1) := dk_2 (dk_at dksX4_eased_1 12 rfl rfl)
theorem dX4_eased_37 : decode cX4_eased 37 = .ok (.istore 5, 2) := dk_54 5 (dk_at dksX4_eased_1 13 rfl rfl)
theorem dX4_eased_39 : decode cX4_eased 39 = .ok (.aload_n 0, 1) := dk_42 (dk_at dksX4_eased_1 15 rfl rfl)
theorem dX4_eased_40 : decode cX4_eased 40 = .ok (.invokevirtual 391, 3) := dk_182 1 135 (dk_at dksX4_eased_1 16 rfl rfl)
theorem dX4_eased_43 : decode cX4_eased 43 = .ok (.iconst 0, 1) := dk_3 (dk_at dksX4_eased_1 19 rfl rfl)
theorem dX4_eased_44 : decode cX4_eased 44 = .ok (.istore 6, 2) := dk_54 6 (dk_at dksX4_eased_1 20 rfl rfl)
theorem dX4_eased_46 : decode cX4_eased 46 = .ok (.iload 6, 2) := dk_21 6 (dk_at dksX4_eased_1 22 rfl rfl)
theorem dX4_eased_48 : decode cX4_eased 48 = .ok (.iload_n 3, 1) := dk_29 (dk_at dksX4_eased_2 0 rfl rfl)
theorem dX4_eased_49 : decode cX4_eased 49 = .ok (.if_icmp .ge 40, 3) := dk_162 0 40 (dk_at dksX4_eased_2 1 rfl rfl)
theorem dX4_eased_52 : decode cX4_eased 52 = .ok (.aload_n 0, 1) := dk_42 (dk_at dksX4_eased_2 4 rfl rfl)
theorem dX4_eased_53 : decode cX4_eased 53 = .ok (.bipush 43, 2) := dk_16 43 (dk_at dksX4_eased_2 5 rfl rfl)
theorem dX4_eased_55 : decode cX4_eased 55 = .ok (.iload_n 1, 1) := dk_27 (dk_at dksX4_eased_2 7 rfl rfl)
theorem dX4_eased_56 : decode cX4_eased 56 = .ok (.iload_n 2, 1) := dk_28 (dk_at dksX4_eased_2 8 rfl rfl)
theorem dX4_eased_57 : decode cX4_eased 57 = .ok (.invokevirtual 326, 3) := dk_182 1 70 (dk_at dksX4_eased_2 9 rfl rfl)
theorem dX4_eased_60 : decode cX4_eased 60 = .ok (.istore 7, 2) := dk_54 7 (dk_at dksX4_eased_2 12 rfl rfl)
theorem dX4_eased_62 : decode cX4_eased 62 = .ok (.iload 7, 2) := dk_21 7 (dk_at dksX4_eased_2 14 rfl rfl)
theorem dX4_eased_64 : decode cX4_eased 64 = .ok (.iload 5, 2) := dk_21 5 (dk_at dksX4_eased_2 16 rfl rfl)
theorem dX4_eased_66 : decode cX4_eased 66 = .ok (.if_icmp .le 11, 3) := dk_164 0 11 (dk_at dksX4_eased_2 18 rfl rfl)
theorem dX4_eased_69 : decode cX4_eased 69 = .ok (.iload 6, 2) := dk_21 6 (dk_at dksX4_eased_2 21 rfl rfl)
theorem dX4_eased_71 : decode cX4_eased 71 = .ok (.istore 4, 2) := dk_54 4 (dk_at dksX4_eased_3 0 rfl rfl)
theorem dX4_eased_73 : decode cX4_eased 73 = .ok (.iload 7, 2) := dk_21 7 (dk_at dksX4_eased_3 2 rfl rfl)
theorem dX4_eased_75 : decode cX4_eased 75 = .ok (.istore 5, 2) := dk_54 5 (dk_at dksX4_eased_3 4 rfl rfl)
theorem dX4_eased_77 : decode cX4_eased 77 = .ok (.aload_n 0, 1) := dk_42 (dk_at dksX4_eased_3 6 rfl rfl)
theorem dX4_eased_78 : decode cX4_eased 78 = .ok (.bipush 43, 2) := dk_16 43 (dk_at dksX4_eased_3 7 rfl rfl)
theorem dX4_eased_80 : decode cX4_eased 80 = .ok (.invokevirtual 336, 3) := dk_182 1 80 (dk_at dksX4_eased_3 9 rfl rfl)
theorem dX4_eased_83 : decode cX4_eased 83 = .ok (.iinc 6 1, 3) := dk_132 6 1 (dk_at dksX4_eased_3 12 rfl rfl)
theorem dX4_eased_86 : decode cX4_eased 86 = .ok (.goto (-40), 3) := dk_167 255 216 (dk_at dksX4_eased_3 15 rfl rfl)
theorem dX4_eased_89 : decode cX4_eased 89 = .ok (.iload 4, 2) := dk_21 4 (dk_at dksX4_eased_3 18 rfl rfl)
theorem dX4_eased_91 : decode cX4_eased 91 = .ok (.ireturn, 1) := dk_172 (dk_at dksX4_eased_3 20 rfl rfl)
abbrev cX4_free : ByteArray := prog_12_method_123_code
def yX4_free : MethodName := ⟨RX4, "free", "(I)I"⟩
def dkwX4_free_3 : List UInt8 := [162, 0, 5, 29, 61, 132, 3, 1, 167, 255, 198, 28, 172]
abbrev dktX4_free_3 : List UInt8 := dkwX4_free_3 ++ []
def dkwX4_free_2 : List UInt8 := [153, 0, 27, 28, 2, 159, 0, 20, 42, 3, 27, 29, 182, 1, 56, 42, 3, 27, 28, 182, 1, 56]
abbrev dktX4_free_2 : List UInt8 := dkwX4_free_2 ++ dktX4_free_3
def dkwX4_free_1 : List UInt8 := [162, 0, 56, 42, 180, 0, 66, 16, 19, 29, 96, 46, 2, 160, 0, 37, 42, 3, 27, 29, 182, 1, 132]
abbrev dktX4_free_1 : List UInt8 := dkwX4_free_1 ++ dktX4_free_2
def dkwX4_free_0 : List UInt8 := [42, 3, 181, 0, 111, 42, 27, 182, 1, 123, 154, 0, 5, 3, 172, 2, 61, 3, 62, 29, 42, 180, 1, 19]
abbrev dktX4_free_0 : List UInt8 := dkwX4_free_0 ++ dktX4_free_1
theorem dksX4_free_0 : cX4_free.data.toList.drop 0 = dktX4_free_0 := by decide +kernel
theorem dksX4_free_1 : cX4_free.data.toList.drop 24 = dktX4_free_1 := dk_seg dksX4_free_0 24 rfl rfl
theorem dksX4_free_2 : cX4_free.data.toList.drop 47 = dktX4_free_2 := dk_seg dksX4_free_1 23 rfl rfl
theorem dksX4_free_3 : cX4_free.data.toList.drop 69 = dktX4_free_3 := dk_seg dksX4_free_2 22 rfl rfl
theorem dX4_free_0 : decode cX4_free 0 = .ok (.aload_n 0, 1) := dk_42 (dk_at dksX4_free_0 0 rfl rfl)
theorem dX4_free_1 : decode cX4_free 1 = .ok (.iconst 0, 1) := dk_3 (dk_at dksX4_free_0 1 rfl rfl)
theorem dX4_free_2 : decode cX4_free 2 = .ok (.putfield 111, 3) := dk_181 0 111 (dk_at dksX4_free_0 2 rfl rfl)
theorem dX4_free_5 : decode cX4_free 5 = .ok (.aload_n 0, 1) := dk_42 (dk_at dksX4_free_0 5 rfl rfl)
theorem dX4_free_6 : decode cX4_free 6 = .ok (.iload_n 1, 1) := dk_27 (dk_at dksX4_free_0 6 rfl rfl)
theorem dX4_free_7 : decode cX4_free 7 = .ok (.invokevirtual 379, 3) := dk_182 1 123 (dk_at dksX4_free_0 7 rfl rfl)
theorem dX4_free_10 : decode cX4_free 10 = .ok (.ifCond .ne 5, 3) := dk_154 0 5 (dk_at dksX4_free_0 10 rfl rfl)
theorem dX4_free_13 : decode cX4_free 13 = .ok (.iconst 0, 1) := dk_3 (dk_at dksX4_free_0 13 rfl rfl)
theorem dX4_free_14 : decode cX4_free 14 = .ok (.ireturn, 1) := dk_172 (dk_at dksX4_free_0 14 rfl rfl)
theorem dX4_free_15 : decode cX4_free 15 = .ok (.iconst (-1), 1) := dk_2 (dk_at dksX4_free_0 15 rfl rfl)
theorem dX4_free_16 : decode cX4_free 16 = .ok (.istore_n 2, 1) := dk_61 (dk_at dksX4_free_0 16 rfl rfl)
theorem dX4_free_17 : decode cX4_free 17 = .ok (.iconst 0, 1) := dk_3 (dk_at dksX4_free_0 17 rfl rfl)
theorem dX4_free_18 : decode cX4_free 18 = .ok (.istore_n 3, 1) := dk_62 (dk_at dksX4_free_0 18 rfl rfl)
theorem dX4_free_19 : decode cX4_free 19 = .ok (.iload_n 3, 1) := dk_29 (dk_at dksX4_free_0 19 rfl rfl)
theorem dX4_free_20 : decode cX4_free 20 = .ok (.aload_n 0, 1) := dk_42 (dk_at dksX4_free_0 20 rfl rfl)
theorem dX4_free_21 : decode cX4_free 21 = .ok (.getfield 275, 3) := dk_180 1 19 (dk_at dksX4_free_0 21 rfl rfl)
theorem dX4_free_24 : decode cX4_free 24 = .ok (.if_icmp .ge 56, 3) := dk_162 0 56 (dk_at dksX4_free_1 0 rfl rfl)
theorem dX4_free_27 : decode cX4_free 27 = .ok (.aload_n 0, 1) := dk_42 (dk_at dksX4_free_1 3 rfl rfl)
theorem dX4_free_28 : decode cX4_free 28 = .ok (.getfield 66, 3) := dk_180 0 66 (dk_at dksX4_free_1 4 rfl rfl)
theorem dX4_free_31 : decode cX4_free 31 = .ok (.bipush 19, 2) := dk_16 19 (dk_at dksX4_free_1 7 rfl rfl)
theorem dX4_free_33 : decode cX4_free 33 = .ok (.iload_n 3, 1) := dk_29 (dk_at dksX4_free_1 9 rfl rfl)
theorem dX4_free_34 : decode cX4_free 34 = .ok (.iadd, 1) := dk_96 (dk_at dksX4_free_1 10 rfl rfl)
theorem dX4_free_35 : decode cX4_free 35 = .ok (.iaload, 1) := dk_46 (dk_at dksX4_free_1 11 rfl rfl)
theorem dX4_free_36 : decode cX4_free 36 = .ok (.iconst (-1), 1) := dk_2 (dk_at dksX4_free_1 12 rfl rfl)
theorem dX4_free_37 : decode cX4_free 37 = .ok (.if_icmp .ne 37, 3) := dk_160 0 37 (dk_at dksX4_free_1 13 rfl rfl)
theorem dX4_free_40 : decode cX4_free 40 = .ok (.aload_n 0, 1) := dk_42 (dk_at dksX4_free_1 16 rfl rfl)
theorem dX4_free_41 : decode cX4_free 41 = .ok (.iconst 0, 1) := dk_3 (dk_at dksX4_free_1 17 rfl rfl)
theorem dX4_free_42 : decode cX4_free 42 = .ok (.iload_n 1, 1) := dk_27 (dk_at dksX4_free_1 18 rfl rfl)
theorem dX4_free_43 : decode cX4_free 43 = .ok (.iload_n 3, 1) := dk_29 (dk_at dksX4_free_1 19 rfl rfl)
theorem dX4_free_44 : decode cX4_free 44 = .ok (.invokevirtual 388, 3) := dk_182 1 132 (dk_at dksX4_free_1 20 rfl rfl)
theorem dX4_free_47 : decode cX4_free 47 = .ok (.ifCond .eq 27, 3) := dk_153 0 27 (dk_at dksX4_free_2 0 rfl rfl)
theorem dX4_free_50 : decode cX4_free 50 = .ok (.iload_n 2, 1) := dk_28 (dk_at dksX4_free_2 3 rfl rfl)
theorem dX4_free_51 : decode cX4_free 51 = .ok (.iconst (-1), 1) := dk_2 (dk_at dksX4_free_2 4 rfl rfl)
theorem dX4_free_52 : decode cX4_free 52 = .ok (.if_icmp .eq 20, 3) := dk_159 0 20 (dk_at dksX4_free_2 5 rfl rfl)
theorem dX4_free_55 : decode cX4_free 55 = .ok (.aload_n 0, 1) := dk_42 (dk_at dksX4_free_2 8 rfl rfl)
theorem dX4_free_56 : decode cX4_free 56 = .ok (.iconst 0, 1) := dk_3 (dk_at dksX4_free_2 9 rfl rfl)
theorem dX4_free_57 : decode cX4_free 57 = .ok (.iload_n 1, 1) := dk_27 (dk_at dksX4_free_2 10 rfl rfl)
theorem dX4_free_58 : decode cX4_free 58 = .ok (.iload_n 3, 1) := dk_29 (dk_at dksX4_free_2 11 rfl rfl)
theorem dX4_free_59 : decode cX4_free 59 = .ok (.invokevirtual 312, 3) := dk_182 1 56 (dk_at dksX4_free_2 12 rfl rfl)
theorem dX4_free_62 : decode cX4_free 62 = .ok (.aload_n 0, 1) := dk_42 (dk_at dksX4_free_2 15 rfl rfl)
theorem dX4_free_63 : decode cX4_free 63 = .ok (.iconst 0, 1) := dk_3 (dk_at dksX4_free_2 16 rfl rfl)
theorem dX4_free_64 : decode cX4_free 64 = .ok (.iload_n 1, 1) := dk_27 (dk_at dksX4_free_2 17 rfl rfl)
theorem dX4_free_65 : decode cX4_free 65 = .ok (.iload_n 2, 1) := dk_28 (dk_at dksX4_free_2 18 rfl rfl)
theorem dX4_free_66 : decode cX4_free 66 = .ok (.invokevirtual 312, 3) := dk_182 1 56 (dk_at dksX4_free_2 19 rfl rfl)
theorem dX4_free_69 : decode cX4_free 69 = .ok (.if_icmp .ge 5, 3) := dk_162 0 5 (dk_at dksX4_free_3 0 rfl rfl)
theorem dX4_free_72 : decode cX4_free 72 = .ok (.iload_n 3, 1) := dk_29 (dk_at dksX4_free_3 3 rfl rfl)
theorem dX4_free_73 : decode cX4_free 73 = .ok (.istore_n 2, 1) := dk_61 (dk_at dksX4_free_3 4 rfl rfl)
theorem dX4_free_74 : decode cX4_free 74 = .ok (.iinc 3 1, 3) := dk_132 3 1 (dk_at dksX4_free_3 5 rfl rfl)
theorem dX4_free_77 : decode cX4_free 77 = .ok (.goto (-58), 3) := dk_167 255 198 (dk_at dksX4_free_3 8 rfl rfl)
theorem dX4_free_80 : decode cX4_free 80 = .ok (.iload_n 2, 1) := dk_28 (dk_at dksX4_free_3 11 rfl rfl)
theorem dX4_free_81 : decode cX4_free 81 = .ok (.ireturn, 1) := dk_172 (dk_at dksX4_free_3 12 rfl rfl)
abbrev cX4_larger : ByteArray := prog_12_method_124_code
def yX4_larger : MethodName := ⟨RX4, "larger", "(I)I"⟩
def dkwX4_larger_2 : List UInt8 := [164, 0, 7, 4, 167, 0, 4, 3, 96, 61, 132, 3, 1, 167, 255, 216, 28, 172]
abbrev dktX4_larger_2 : List UInt8 := dkwX4_larger_2 ++ []
def dkwX4_larger_1 : List UInt8 := [162, 0, 38, 28, 42, 180, 0, 66, 16, 27, 29, 96, 46, 42, 180, 0, 66, 16, 27, 27, 96, 46]
abbrev dktX4_larger_1 : List UInt8 := dkwX4_larger_1 ++ dktX4_larger_2
def dkwX4_larger_0 : List UInt8 := [42, 3, 181, 0, 111, 42, 27, 182, 1, 123, 154, 0, 5, 3, 172, 3, 61, 3, 62, 29, 42, 180, 1, 22]
abbrev dktX4_larger_0 : List UInt8 := dkwX4_larger_0 ++ dktX4_larger_1
theorem dksX4_larger_0 : cX4_larger.data.toList.drop 0 = dktX4_larger_0 := by decide +kernel
theorem dksX4_larger_1 : cX4_larger.data.toList.drop 24 = dktX4_larger_1 := dk_seg dksX4_larger_0 24 rfl rfl
theorem dksX4_larger_2 : cX4_larger.data.toList.drop 46 = dktX4_larger_2 := dk_seg dksX4_larger_1 22 rfl rfl
theorem dX4_larger_0 : decode cX4_larger 0 = .ok (.aload_n 0, 1) := dk_42 (dk_at dksX4_larger_0 0 rfl rfl)
theorem dX4_larger_1 : decode cX4_larger 1 = .ok (.iconst 0, 1) := dk_3 (dk_at dksX4_larger_0 1 rfl rfl)
theorem dX4_larger_2 : decode cX4_larger 2 = .ok (.putfield 111, 3) := dk_181 0 111 (dk_at dksX4_larger_0 2 rfl rfl)
theorem dX4_larger_5 : decode cX4_larger 5 = .ok (.aload_n 0, 1) := dk_42 (dk_at dksX4_larger_0 5 rfl rfl)
theorem dX4_larger_6 : decode cX4_larger 6 = .ok (.iload_n 1, 1) := dk_27 (dk_at dksX4_larger_0 6 rfl rfl)
theorem dX4_larger_7 : decode cX4_larger 7 = .ok (.invokevirtual 379, 3) := dk_182 1 123 (dk_at dksX4_larger_0 7 rfl rfl)
theorem dX4_larger_10 : decode cX4_larger 10 = .ok (.ifCond .ne 5, 3) := dk_154 0 5 (dk_at dksX4_larger_0 10 rfl rfl)
theorem dX4_larger_13 : decode cX4_larger 13 = .ok (.iconst 0, 1) := dk_3 (dk_at dksX4_larger_0 13 rfl rfl)
theorem dX4_larger_14 : decode cX4_larger 14 = .ok (.ireturn, 1) := dk_172 (dk_at dksX4_larger_0 14 rfl rfl)
theorem dX4_larger_15 : decode cX4_larger 15 = .ok (.iconst 0, 1) := dk_3 (dk_at dksX4_larger_0 15 rfl rfl)
theorem dX4_larger_16 : decode cX4_larger 16 = .ok (.istore_n 2, 1) := dk_61 (dk_at dksX4_larger_0 16 rfl rfl)
theorem dX4_larger_17 : decode cX4_larger 17 = .ok (.iconst 0, 1) := dk_3 (dk_at dksX4_larger_0 17 rfl rfl)
theorem dX4_larger_18 : decode cX4_larger 18 = .ok (.istore_n 3, 1) := dk_62 (dk_at dksX4_larger_0 18 rfl rfl)
theorem dX4_larger_19 : decode cX4_larger 19 = .ok (.iload_n 3, 1) := dk_29 (dk_at dksX4_larger_0 19 rfl rfl)
theorem dX4_larger_20 : decode cX4_larger 20 = .ok (.aload_n 0, 1) := dk_42 (dk_at dksX4_larger_0 20 rfl rfl)
theorem dX4_larger_21 : decode cX4_larger 21 = .ok (.getfield 278, 3) := dk_180 1 22 (dk_at dksX4_larger_0 21 rfl rfl)
theorem dX4_larger_24 : decode cX4_larger 24 = .ok (.if_icmp .ge 38, 3) := dk_162 0 38 (dk_at dksX4_larger_1 0 rfl rfl)
theorem dX4_larger_27 : decode cX4_larger 27 = .ok (.iload_n 2, 1) := dk_28 (dk_at dksX4_larger_1 3 rfl rfl)
theorem dX4_larger_28 : decode cX4_larger 28 = .ok (.aload_n 0, 1) := dk_42 (dk_at dksX4_larger_1 4 rfl rfl)
theorem dX4_larger_29 : decode cX4_larger 29 = .ok (.getfield 66, 3) := dk_180 0 66 (dk_at dksX4_larger_1 5 rfl rfl)
theorem dX4_larger_32 : decode cX4_larger 32 = .ok (.bipush 27, 2) := dk_16 27 (dk_at dksX4_larger_1 8 rfl rfl)
theorem dX4_larger_34 : decode cX4_larger 34 = .ok (.iload_n 3, 1) := dk_29 (dk_at dksX4_larger_1 10 rfl rfl)
theorem dX4_larger_35 : decode cX4_larger 35 = .ok (.iadd, 1) := dk_96 (dk_at dksX4_larger_1 11 rfl rfl)
theorem dX4_larger_36 : decode cX4_larger 36 = .ok (.iaload, 1) := dk_46 (dk_at dksX4_larger_1 12 rfl rfl)
theorem dX4_larger_37 : decode cX4_larger 37 = .ok (.aload_n 0, 1) := dk_42 (dk_at dksX4_larger_1 13 rfl rfl)
theorem dX4_larger_38 : decode cX4_larger 38 = .ok (.getfield 66, 3) := dk_180 0 66 (dk_at dksX4_larger_1 14 rfl rfl)
theorem dX4_larger_41 : decode cX4_larger 41 = .ok (.bipush 27, 2) := dk_16 27 (dk_at dksX4_larger_1 17 rfl rfl)
theorem dX4_larger_43 : decode cX4_larger 43 = .ok (.iload_n 1, 1) := dk_27 (dk_at dksX4_larger_1 19 rfl rfl)
theorem dX4_larger_44 : decode cX4_larger 44 = .ok (.iadd, 1) := dk_96 (dk_at dksX4_larger_1 20 rfl rfl)
theorem dX4_larger_45 : decode cX4_larger 45 = .ok (.iaload, 1) := dk_46 (dk_at dksX4_larger_1 21 rfl rfl)
theorem dX4_larger_46 : decode cX4_larger 46 = .ok (.if_icmp .le 7, 3) := dk_164 0 7 (dk_at dksX4_larger_2 0 rfl rfl)
theorem dX4_larger_49 : decode cX4_larger 49 = .ok (.iconst 1, 1) := dk_4 (dk_at dksX4_larger_2 3 rfl rfl)
theorem dX4_larger_50 : decode cX4_larger 50 = .ok (.goto 4, 3) := dk_167 0 4 (dk_at dksX4_larger_2 4 rfl rfl)
theorem dX4_larger_53 : decode cX4_larger 53 = .ok (.iconst 0, 1) := dk_3 (dk_at dksX4_larger_2 7 rfl rfl)
theorem dX4_larger_54 : decode cX4_larger 54 = .ok (.iadd, 1) := dk_96 (dk_at dksX4_larger_2 8 rfl rfl)
theorem dX4_larger_55 : decode cX4_larger 55 = .ok (.istore_n 2, 1) := dk_61 (dk_at dksX4_larger_2 9 rfl rfl)
theorem dX4_larger_56 : decode cX4_larger 56 = .ok (.iinc 3 1, 3) := dk_132 3 1 (dk_at dksX4_larger_2 10 rfl rfl)
theorem dX4_larger_59 : decode cX4_larger 59 = .ok (.goto (-40), 3) := dk_167 255 216 (dk_at dksX4_larger_2 13 rfl rfl)
theorem dX4_larger_62 : decode cX4_larger 62 = .ok (.iload_n 2, 1) := dk_28 (dk_at dksX4_larger_2 16 rfl rfl)
theorem dX4_larger_63 : decode cX4_larger 63 = .ok (.ireturn, 1) := dk_172 (dk_at dksX4_larger_2 17 rfl rfl)
abbrev cX4_wide : ByteArray := prog_12_method_125_code
def yX4_wide : MethodName := ⟨RX4, "wide", "(I)I"⟩
def dkwX4_wide_3 : List UInt8 := [172]
abbrev dktX4_wide_3 : List UInt8 := dkwX4_wide_3 ++ []
def dkwX4_wide_2 : List UInt8 := [6, 29, 96, 46, 27, 161, 0, 9, 4, 29, 120, 167, 0, 4, 3, 128, 61, 132, 3, 1, 167, 255, 214, 28]
abbrev dktX4_wide_2 : List UInt8 := dkwX4_wide_2 ++ dktX4_wide_3
def dkwX4_wide_1 : List UInt8 := [3, 62, 29, 42, 180, 1, 19, 162, 0, 40, 28, 42, 3, 29, 182, 1, 66, 154, 0, 21, 42, 180, 0, 66]
abbrev dktX4_wide_1 : List UInt8 := dkwX4_wide_1 ++ dktX4_wide_2
def dkwX4_wide_0 : List UInt8 := [42, 3, 181, 0, 111, 42, 27, 4, 16, 60, 184, 1, 89, 4, 182, 1, 12, 154, 0, 5, 3, 172, 3, 61]
abbrev dktX4_wide_0 : List UInt8 := dkwX4_wide_0 ++ dktX4_wide_1
theorem dksX4_wide_0 : cX4_wide.data.toList.drop 0 = dktX4_wide_0 := by decide +kernel
theorem dksX4_wide_1 : cX4_wide.data.toList.drop 24 = dktX4_wide_1 := dk_seg dksX4_wide_0 24 rfl rfl
theorem dksX4_wide_2 : cX4_wide.data.toList.drop 48 = dktX4_wide_2 := dk_seg dksX4_wide_1 24 rfl rfl
theorem dksX4_wide_3 : cX4_wide.data.toList.drop 72 = dktX4_wide_3 := dk_seg dksX4_wide_2 24 rfl rfl
theorem dX4_wide_0 : decode cX4_wide 0 = .ok (.aload_n 0, 1) := dk_42 (dk_at dksX4_wide_0 0 rfl rfl)
theorem dX4_wide_1 : decode cX4_wide 1 = .ok (.iconst 0, 1) := dk_3 (dk_at dksX4_wide_0 1 rfl rfl)
theorem dX4_wide_2 : decode cX4_wide 2 = .ok (.putfield 111, 3) := dk_181 0 111 (dk_at dksX4_wide_0 2 rfl rfl)
theorem dX4_wide_5 : decode cX4_wide 5 = .ok (.aload_n 0, 1) := dk_42 (dk_at dksX4_wide_0 5 rfl rfl)
theorem dX4_wide_6 : decode cX4_wide 6 = .ok (.iload_n 1, 1) := dk_27 (dk_at dksX4_wide_0 6 rfl rfl)
theorem dX4_wide_7 : decode cX4_wide 7 = .ok (.iconst 1, 1) := dk_4 (dk_at dksX4_wide_0 7 rfl rfl)
theorem dX4_wide_8 : decode cX4_wide 8 = .ok (.bipush 60, 2) := dk_16 60 (dk_at dksX4_wide_0 8 rfl rfl)
theorem dX4_wide_10 : decode cX4_wide 10 = .ok (.invokestatic 345, 3) := dk_184 1 89 (dk_at dksX4_wide_0 10 rfl rfl)
theorem dX4_wide_13 : decode cX4_wide 13 = .ok (.iconst 1, 1) := dk_4 (dk_at dksX4_wide_0 13 rfl rfl)
theorem dX4_wide_14 : decode cX4_wide 14 = .ok (.invokevirtual 268, 3) := dk_182 1 12 (dk_at dksX4_wide_0 14 rfl rfl)
theorem dX4_wide_17 : decode cX4_wide 17 = .ok (.ifCond .ne 5, 3) := dk_154 0 5 (dk_at dksX4_wide_0 17 rfl rfl)
theorem dX4_wide_20 : decode cX4_wide 20 = .ok (.iconst 0, 1) := dk_3 (dk_at dksX4_wide_0 20 rfl rfl)
theorem dX4_wide_21 : decode cX4_wide 21 = .ok (.ireturn, 1) := dk_172 (dk_at dksX4_wide_0 21 rfl rfl)
theorem dX4_wide_22 : decode cX4_wide 22 = .ok (.iconst 0, 1) := dk_3 (dk_at dksX4_wide_0 22 rfl rfl)
theorem dX4_wide_23 : decode cX4_wide 23 = .ok (.istore_n 2, 1) := dk_61 (dk_at dksX4_wide_0 23 rfl rfl)
theorem dX4_wide_24 : decode cX4_wide 24 = .ok (.iconst 0, 1) := dk_3 (dk_at dksX4_wide_1 0 rfl rfl)
theorem dX4_wide_25 : decode cX4_wide 25 = .ok (.istore_n 3, 1) := dk_62 (dk_at dksX4_wide_1 1 rfl rfl)
theorem dX4_wide_26 : decode cX4_wide 26 = .ok (.iload_n 3, 1) := dk_29 (dk_at dksX4_wide_1 2 rfl rfl)
theorem dX4_wide_27 : decode cX4_wide 27 = .ok (.aload_n 0, 1) := dk_42 (dk_at dksX4_wide_1 3 rfl rfl)
theorem dX4_wide_28 : decode cX4_wide 28 = .ok (.getfield 275, 3) := dk_180 1 19 (dk_at dksX4_wide_1 4 rfl rfl)
theorem dX4_wide_31 : decode cX4_wide 31 = .ok (.if_icmp .ge 40, 3) := dk_162 0 40 (dk_at dksX4_wide_1 7 rfl rfl)
theorem dX4_wide_34 : decode cX4_wide 34 = .ok (.iload_n 2, 1) := dk_28 (dk_at dksX4_wide_1 10 rfl rfl)
theorem dX4_wide_35 : decode cX4_wide 35 = .ok (.aload_n 0, 1) := dk_42 (dk_at dksX4_wide_1 11 rfl rfl)
theorem dX4_wide_36 : decode cX4_wide 36 = .ok (.iconst 0, 1) := dk_3 (dk_at dksX4_wide_1 12 rfl rfl)
theorem dX4_wide_37 : decode cX4_wide 37 = .ok (.iload_n 3, 1) := dk_29 (dk_at dksX4_wide_1 13 rfl rfl)
theorem dX4_wide_38 : decode cX4_wide 38 = .ok (.invokevirtual 322, 3) := dk_182 1 66 (dk_at dksX4_wide_1 14 rfl rfl)
theorem dX4_wide_41 : decode cX4_wide 41 = .ok (.ifCond .ne 21, 3) := dk_154 0 21 (dk_at dksX4_wide_1 17 rfl rfl)
theorem dX4_wide_44 : decode cX4_wide 44 = .ok (.aload_n 0, 1) := dk_42 (dk_at dksX4_wide_1 20 rfl rfl)
theorem dX4_wide_45 : decode cX4_wide 45 = .ok (.getfield 66, 3) := dk_180 0 66 (dk_at dksX4_wide_1 21 rfl rfl)
theorem dX4_wide_48 : decode cX4_wide 48 = .ok (.iconst 3, 1) := dk_6 (dk_at dksX4_wide_2 0 rfl rfl)
theorem dX4_wide_49 : decode cX4_wide 49 = .ok (.iload_n 3, 1) := dk_29 (dk_at dksX4_wide_2 1 rfl rfl)
theorem dX4_wide_50 : decode cX4_wide 50 = .ok (.iadd, 1) := dk_96 (dk_at dksX4_wide_2 2 rfl rfl)
theorem dX4_wide_51 : decode cX4_wide 51 = .ok (.iaload, 1) := dk_46 (dk_at dksX4_wide_2 3 rfl rfl)
theorem dX4_wide_52 : decode cX4_wide 52 = .ok (.iload_n 1, 1) := dk_27 (dk_at dksX4_wide_2 4 rfl rfl)
theorem dX4_wide_53 : decode cX4_wide 53 = .ok (.if_icmp .lt 9, 3) := dk_161 0 9 (dk_at dksX4_wide_2 5 rfl rfl)
theorem dX4_wide_56 : decode cX4_wide 56 = .ok (.iconst 1, 1) := dk_4 (dk_at dksX4_wide_2 8 rfl rfl)
theorem dX4_wide_57 : decode cX4_wide 57 = .ok (.iload_n 3, 1) := dk_29 (dk_at dksX4_wide_2 9 rfl rfl)
theorem dX4_wide_58 : decode cX4_wide 58 = .ok (.ishl, 1) := dk_120 (dk_at dksX4_wide_2 10 rfl rfl)
theorem dX4_wide_59 : decode cX4_wide 59 = .ok (.goto 4, 3) := dk_167 0 4 (dk_at dksX4_wide_2 11 rfl rfl)
theorem dX4_wide_62 : decode cX4_wide 62 = .ok (.iconst 0, 1) := dk_3 (dk_at dksX4_wide_2 14 rfl rfl)
theorem dX4_wide_63 : decode cX4_wide 63 = .ok (.ior, 1) := dk_128 (dk_at dksX4_wide_2 15 rfl rfl)
theorem dX4_wide_64 : decode cX4_wide 64 = .ok (.istore_n 2, 1) := dk_61 (dk_at dksX4_wide_2 16 rfl rfl)
theorem dX4_wide_65 : decode cX4_wide 65 = .ok (.iinc 3 1, 3) := dk_132 3 1 (dk_at dksX4_wide_2 17 rfl rfl)
theorem dX4_wide_68 : decode cX4_wide 68 = .ok (.goto (-42), 3) := dk_167 255 214 (dk_at dksX4_wide_2 20 rfl rfl)
theorem dX4_wide_71 : decode cX4_wide 71 = .ok (.iload_n 2, 1) := dk_28 (dk_at dksX4_wide_2 23 rfl rfl)
theorem dX4_wide_72 : decode cX4_wide 72 = .ok (.ireturn, 1) := dk_172 (dk_at dksX4_wide_3 0 rfl rfl)
abbrev cX4_endures : ByteArray := prog_12_method_126_code
def yX4_endures : MethodName := ⟨RX4, "endures", "(II)I"⟩
def dkwX4_endures_4 : List UInt8 := [153, 0, 6, 21, 4, 172, 132, 4, 1, 167, 255, 227, 2, 172]
abbrev dktX4_endures_4 : List UInt8 := dkwX4_endures_4 ++ []
def dkwX4_endures_3 : List UInt8 := [54, 4, 21, 4, 16, 40, 163, 0, 28, 42, 16, 43, 182, 1, 80, 42, 16, 43, 28, 182, 1, 66]
abbrev dktX4_endures_3 : List UInt8 := dkwX4_endures_3 ++ dktX4_endures_4
def dkwX4_endures_2 : List UInt8 := [159, 0, 13, 42, 180, 0, 66, 16, 62, 29, 96, 2, 79, 42, 180, 0, 66, 16, 62, 28, 96, 27, 79, 4]
abbrev dktX4_endures_2 : List UInt8 := dkwX4_endures_2 ++ dktX4_endures_3
def dkwX4_endures_1 : List UInt8 := [3, 28, 182, 1, 66, 153, 0, 5, 2, 172, 42, 182, 1, 135, 42, 3, 27, 182, 1, 83, 62, 29, 2]
abbrev dktX4_endures_1 : List UInt8 := dkwX4_endures_1 ++ dktX4_endures_2
def dkwX4_endures_0 : List UInt8 := [42, 3, 181, 0, 111, 42, 27, 182, 1, 123, 153, 0, 11, 42, 28, 182, 1, 111, 154, 0, 5, 3, 172, 42]
abbrev dktX4_endures_0 : List UInt8 := dkwX4_endures_0 ++ dktX4_endures_1
theorem dksX4_endures_0 : cX4_endures.data.toList.drop 0 = dktX4_endures_0 := by decide +kernel
theorem dksX4_endures_1 : cX4_endures.data.toList.drop 24 = dktX4_endures_1 := dk_seg dksX4_endures_0 24 rfl rfl
theorem dksX4_endures_2 : cX4_endures.data.toList.drop 47 = dktX4_endures_2 := dk_seg dksX4_endures_1 23 rfl rfl
theorem dksX4_endures_3 : cX4_endures.data.toList.drop 71 = dktX4_endures_3 := dk_seg dksX4_endures_2 24 rfl rfl
theorem dksX4_endures_4 : cX4_endures.data.toList.drop 93 = dktX4_endures_4 := dk_seg dksX4_endures_3 22 rfl rfl
theorem dX4_endures_0 : decode cX4_endures 0 = .ok (.aload_n 0, 1) := dk_42 (dk_at dksX4_endures_0 0 rfl rfl)
theorem dX4_endures_1 : decode cX4_endures 1 = .ok (.iconst 0, 1) := dk_3 (dk_at dksX4_endures_0 1 rfl rfl)
theorem dX4_endures_2 : decode cX4_endures 2 = .ok (.putfield 111, 3) := dk_181 0 111 (dk_at dksX4_endures_0 2 rfl rfl)
theorem dX4_endures_5 : decode cX4_endures 5 = .ok (.aload_n 0, 1) := dk_42 (dk_at dksX4_endures_0 5 rfl rfl)
theorem dX4_endures_6 : decode cX4_endures 6 = .ok (.iload_n 1, 1) := dk_27 (dk_at dksX4_endures_0 6 rfl rfl)
theorem dX4_endures_7 : decode cX4_endures 7 = .ok (.invokevirtual 379, 3) := dk_182 1 123 (dk_at dksX4_endures_0 7 rfl rfl)
theorem dX4_endures_10 : decode cX4_endures 10 = .ok (.ifCond .eq 11, 3) := dk_153 0 11 (dk_at dksX4_endures_0 10 rfl rfl)
theorem dX4_endures_13 : decode cX4_endures 13 = .ok (.aload_n 0, 1) := dk_42 (dk_at dksX4_endures_0 13 rfl rfl)
theorem dX4_endures_14 : decode cX4_endures 14 = .ok (.iload_n 2, 1) := dk_28 (dk_at dksX4_endures_0 14 rfl rfl)
theorem dX4_endures_15 : decode cX4_endures 15 = .ok (.invokevirtual 367, 3) := dk_182 1 111 (dk_at dksX4_endures_0 15 rfl rfl)
theorem dX4_endures_18 : decode cX4_endures 18 = .ok (.ifCond .ne 5, 3) := dk_154 0 5 (dk_at dksX4_endures_0 18 rfl rfl)
theorem dX4_endures_21 : decode cX4_endures 21 = .ok (.iconst 0, 1) := dk_3 (dk_at dksX4_endures_0 21 rfl rfl)
theorem dX4_endures_22 : decode cX4_endures 22 = .ok (.ireturn, 1) := dk_172 (dk_at dksX4_endures_0 22 rfl rfl)
theorem dX4_endures_23 : decode cX4_endures 23 = .ok (.aload_n 0, 1) := dk_42 (dk_at dksX4_endures_0 23 rfl rfl)
theorem dX4_endures_24 : decode cX4_endures 24 = .ok (.iconst 0, 1) := dk_3 (dk_at dksX4_endures_1 0 rfl rfl)
theorem dX4_endures_25 : decode cX4_endures 25 = .ok (.iload_n 2, 1) := dk_28 (dk_at dksX4_endures_1 1 rfl rfl)
theorem dX4_endures_26 : decode cX4_endures 26 = .ok (.invokevirtual 322, 3) := dk_182 1 66 (dk_at dksX4_endures_1 2 rfl rfl)
theorem dX4_endures_29 : decode cX4_endures 29 = .ok (.ifCond .eq 5, 3) := dk_153 0 5 (dk_at dksX4_endures_1 5 rfl rfl)
theorem dX4_endures_32 : decode cX4_endures 32 = .ok (.iconst (-1), 1) := dk_2 (dk_at dksX4_endures_1 8 rfl rfl)
theorem dX4_endures_33 : decode cX4_endures 33 = .ok (.ireturn, 1) := dk_172 (dk_at dksX4_endures_1 9 rfl rfl)
theorem dX4_endures_34 : decode cX4_endures 34 = .ok (.aload_n 0, 1) := dk_42 (dk_at dksX4_endures_1 10 rfl rfl)
theorem dX4_endures_35 : decode cX4_endures 35 = .ok (.invokevirtual 391, 3) := dk_182 1 135 (dk_at dksX4_endures_1 11 rfl rfl)
theorem dX4_endures_38 : decode cX4_endures 38 = .ok (.aload_n 0, 1) := dk_42 (dk_at dksX4_endures_1 14 rfl rfl)
theorem dX4_endures_39 : decode cX4_endures 39 = .ok (.iconst 0, 1) := dk_3 (dk_at dksX4_endures_1 15 rfl rfl)
theorem dX4_endures_40 : decode cX4_endures 40 = .ok (.iload_n 1, 1) := dk_27 (dk_at dksX4_endures_1 16 rfl rfl)
theorem dX4_endures_41 : decode cX4_endures 41 = .ok (.invokevirtual 339, 3) := dk_182 1 83 (dk_at dksX4_endures_1 17 rfl rfl)
theorem dX4_endures_44 : decode cX4_endures 44 = .ok (.istore_n 3, 1) := dk_62 (dk_at dksX4_endures_1 20 rfl rfl)
theorem dX4_endures_45 : decode cX4_endures 45 = .ok (.iload_n 3, 1) := dk_29 (dk_at dksX4_endures_1 21 rfl rfl)
theorem dX4_endures_46 : decode cX4_endures 46 = .ok (.iconst (-1), 1) := dk_2 (dk_at dksX4_endures_1 22 rfl rfl)
theorem dX4_endures_47 : decode cX4_endures 47 = .ok (.if_icmp .eq 13, 3) := dk_159 0 13 (dk_at dksX4_endures_2 0 rfl rfl)
theorem dX4_endures_50 : decode cX4_endures 50 = .ok (.aload_n 0, 1) := dk_42 (dk_at dksX4_endures_2 3 rfl rfl)
theorem dX4_endures_51 : decode cX4_endures 51 = .ok (.getfield 66, 3) := dk_180 0 66 (dk_at dksX4_endures_2 4 rfl rfl)
theorem dX4_endures_54 : decode cX4_endures 54 = .ok (.bipush 62, 2) := dk_16 62 (dk_at dksX4_endures_2 7 rfl rfl)
theorem dX4_endures_56 : decode cX4_endures 56 = .ok (.iload_n 3, 1) := dk_29 (dk_at dksX4_endures_2 9 rfl rfl)
theorem dX4_endures_57 : decode cX4_endures 57 = .ok (.iadd, 1) := dk_96 (dk_at dksX4_endures_2 10 rfl rfl)
theorem dX4_endures_58 : decode cX4_endures 58 = .ok (.iconst (-1), 1) := dk_2 (dk_at dksX4_endures_2 11 rfl rfl)
theorem dX4_endures_59 : decode cX4_endures 59 = .ok (.iastore, 1) := dk_79 (dk_at dksX4_endures_2 12 rfl rfl)
theorem dX4_endures_60 : decode cX4_endures 60 = .ok (.aload_n 0, 1) := dk_42 (dk_at dksX4_endures_2 13 rfl rfl)
theorem dX4_endures_61 : decode cX4_endures 61 = .ok (.getfield 66, 3) := dk_180 0 66 (dk_at dksX4_endures_2 14 rfl rfl)
theorem dX4_endures_64 : decode cX4_endures 64 = .ok (.bipush 62, 2) := dk_16 62 (dk_at dksX4_endures_2 17 rfl rfl)
theorem dX4_endures_66 : decode cX4_endures 66 = .ok (.iload_n 2, 1) := dk_28 (dk_at dksX4_endures_2 19 rfl rfl)
theorem dX4_endures_67 : decode cX4_endures 67 = .ok (.iadd, 1) := dk_96 (dk_at dksX4_endures_2 20 rfl rfl)
theorem dX4_endures_68 : decode cX4_endures 68 = .ok (.iload_n 1, 1) := dk_27 (dk_at dksX4_endures_2 21 rfl rfl)
theorem dX4_endures_69 : decode cX4_endures 69 = .ok (.iastore, 1) := dk_79 (dk_at dksX4_endures_2 22 rfl rfl)
theorem dX4_endures_70 : decode cX4_endures 70 = .ok (.iconst 1, 1) := dk_4 (dk_at dksX4_endures_2 23 rfl rfl)
theorem dX4_endures_71 : decode cX4_endures 71 = .ok (.istore 4, 2) := dk_54 4 (dk_at dksX4_endures_3 0 rfl rfl)
theorem dX4_endures_73 : decode cX4_endures 73 = .ok (.iload 4, 2) := dk_21 4 (dk_at dksX4_endures_3 2 rfl rfl)
theorem dX4_endures_75 : decode cX4_endures 75 = .ok (.bipush 40, 2) := dk_16 40 (dk_at dksX4_endures_3 4 rfl rfl)
theorem dX4_endures_77 : decode cX4_endures 77 = .ok (.if_icmp .gt 28, 3) := dk_163 0 28 (dk_at dksX4_endures_3 6 rfl rfl)
theorem dX4_endures_80 : decode cX4_endures 80 = .ok (.aload_n 0, 1) := dk_42 (dk_at dksX4_endures_3 9 rfl rfl)
theorem dX4_endures_81 : decode cX4_endures 81 = .ok (.bipush 43, 2) := dk_16 43 (dk_at dksX4_endures_3 10 rfl rfl)
theorem dX4_endures_83 : decode cX4_endures 83 = .ok (.invokevirtual 336, 3) := dk_182 1 80 (dk_at dksX4_endures_3 12 rfl rfl)
theorem dX4_endures_86 : decode cX4_endures 86 = .ok (.aload_n 0, 1) := dk_42 (dk_at dksX4_endures_3 15 rfl rfl)
theorem dX4_endures_87 : decode cX4_endures 87 = .ok (.bipush 43, 2) := dk_16 43 (dk_at dksX4_endures_3 16 rfl rfl)
theorem dX4_endures_89 : decode cX4_endures 89 = .ok (.iload_n 2, 1) := dk_28 (dk_at dksX4_endures_3 18 rfl rfl)
theorem dX4_endures_90 : decode cX4_endures 90 = .ok (.invokevirtual 322, 3) := dk_182 1 66 (dk_at dksX4_endures_3 19 rfl rfl)
theorem dX4_endures_93 : decode cX4_endures 93 = .ok (.ifCond .eq 6, 3) := dk_153 0 6 (dk_at dksX4_endures_4 0 rfl rfl)
theorem dX4_endures_96 : decode cX4_endures 96 = .ok (.iload 4, 2) := dk_21 4 (dk_at dksX4_endures_4 3 rfl rfl)
theorem dX4_endures_98 : decode cX4_endures 98 = .ok (.ireturn, 1) := dk_172 (dk_at dksX4_endures_4 5 rfl rfl)
theorem dX4_endures_99 : decode cX4_endures 99 = .ok (.iinc 4 1, 3) := dk_132 4 1 (dk_at dksX4_endures_4 6 rfl rfl)
theorem dX4_endures_102 : decode cX4_endures 102 = .ok (.goto (-29), 3) := dk_167 255 227 (dk_at dksX4_endures_4 9 rfl rfl)
theorem dX4_endures_105 : decode cX4_endures 105 = .ok (.iconst (-1), 1) := dk_2 (dk_at dksX4_endures_4 12 rfl rfl)
theorem dX4_endures_106 : decode cX4_endures 106 = .ok (.ireturn, 1) := dk_172 (dk_at dksX4_endures_4 13 rfl rfl)
abbrev cX4_image : ByteArray := prog_12_method_127_code
def yX4_image : MethodName := ⟨RX4, "image", "()V"⟩
def dkwX4_image_3 : List UInt8 := [180, 0, 108, 182, 1, 28, 177]
abbrev dktX4_image_3 : List UInt8 := dkwX4_image_3 ++ []
def dkwX4_image_2 : List UInt8 := [132, 1, 1, 167, 255, 235, 42, 42, 180, 0, 69, 42, 180, 0, 105, 182, 1, 28, 42, 42, 180, 0, 93, 42]
abbrev dktX4_image_2 : List UInt8 := dkwX4_image_2 ++ dktX4_image_3
def dkwX4_image_1 : List UInt8 := [181, 1, 194, 3, 60, 27, 16, 43, 162, 0, 21, 42, 180, 0, 102, 27, 42, 180, 0, 66, 27, 46, 79]
abbrev dktX4_image_1 : List UInt8 := dkwX4_image_1 ++ dktX4_image_2
def dkwX4_image_0 : List UInt8 := [42, 3, 181, 0, 111, 42, 4, 181, 1, 38, 42, 42, 180, 1, 32, 181, 1, 191, 42, 42, 180, 1, 35]
abbrev dktX4_image_0 : List UInt8 := dkwX4_image_0 ++ dktX4_image_1
theorem dksX4_image_0 : cX4_image.data.toList.drop 0 = dktX4_image_0 := by decide +kernel
theorem dksX4_image_1 : cX4_image.data.toList.drop 23 = dktX4_image_1 := dk_seg dksX4_image_0 23 rfl rfl
theorem dksX4_image_2 : cX4_image.data.toList.drop 46 = dktX4_image_2 := dk_seg dksX4_image_1 23 rfl rfl
theorem dksX4_image_3 : cX4_image.data.toList.drop 70 = dktX4_image_3 := dk_seg dksX4_image_2 24 rfl rfl
theorem dX4_image_0 : decode cX4_image 0 = .ok (.aload_n 0, 1) := dk_42 (dk_at dksX4_image_0 0 rfl rfl)
theorem dX4_image_1 : decode cX4_image 1 = .ok (.iconst 0, 1) := dk_3 (dk_at dksX4_image_0 1 rfl rfl)
theorem dX4_image_2 : decode cX4_image 2 = .ok (.putfield 111, 3) := dk_181 0 111 (dk_at dksX4_image_0 2 rfl rfl)
theorem dX4_image_5 : decode cX4_image 5 = .ok (.aload_n 0, 1) := dk_42 (dk_at dksX4_image_0 5 rfl rfl)
theorem dX4_image_6 : decode cX4_image 6 = .ok (.iconst 1, 1) := dk_4 (dk_at dksX4_image_0 6 rfl rfl)
theorem dX4_image_7 : decode cX4_image 7 = .ok (.putfield 294, 3) := dk_181 1 38 (dk_at dksX4_image_0 7 rfl rfl)
theorem dX4_image_10 : decode cX4_image 10 = .ok (.aload_n 0, 1) := dk_42 (dk_at dksX4_image_0 10 rfl rfl)
theorem dX4_image_11 : decode cX4_image 11 = .ok (.aload_n 0, 1) := dk_42 (dk_at dksX4_image_0 11 rfl rfl)
theorem dX4_image_12 : decode cX4_image 12 = .ok (.getfield 288, 3) := dk_180 1 32 (dk_at dksX4_image_0 12 rfl rfl)
theorem dX4_image_15 : decode cX4_image 15 = .ok (.putfield 447, 3) := dk_181 1 191 (dk_at dksX4_image_0 15 rfl rfl)
theorem dX4_image_18 : decode cX4_image 18 = .ok (.aload_n 0, 1) := dk_42 (dk_at dksX4_image_0 18 rfl rfl)
theorem dX4_image_19 : decode cX4_image 19 = .ok (.aload_n 0, 1) := dk_42 (dk_at dksX4_image_0 19 rfl rfl)
theorem dX4_image_20 : decode cX4_image 20 = .ok (.getfield 291, 3) := dk_180 1 35 (dk_at dksX4_image_0 20 rfl rfl)
theorem dX4_image_23 : decode cX4_image 23 = .ok (.putfield 450, 3) := dk_181 1 194 (dk_at dksX4_image_1 0 rfl rfl)
theorem dX4_image_26 : decode cX4_image 26 = .ok (.iconst 0, 1) := dk_3 (dk_at dksX4_image_1 3 rfl rfl)
theorem dX4_image_27 : decode cX4_image 27 = .ok (.istore_n 1, 1) := dk_60 (dk_at dksX4_image_1 4 rfl rfl)
theorem dX4_image_28 : decode cX4_image 28 = .ok (.iload_n 1, 1) := dk_27 (dk_at dksX4_image_1 5 rfl rfl)
theorem dX4_image_29 : decode cX4_image 29 = .ok (.bipush 43, 2) := dk_16 43 (dk_at dksX4_image_1 6 rfl rfl)
theorem dX4_image_31 : decode cX4_image 31 = .ok (.if_icmp .ge 21, 3) := dk_162 0 21 (dk_at dksX4_image_1 8 rfl rfl)
theorem dX4_image_34 : decode cX4_image 34 = .ok (.aload_n 0, 1) := dk_42 (dk_at dksX4_image_1 11 rfl rfl)
theorem dX4_image_35 : decode cX4_image 35 = .ok (.getfield 102, 3) := dk_180 0 102 (dk_at dksX4_image_1 12 rfl rfl)
theorem dX4_image_38 : decode cX4_image 38 = .ok (.iload_n 1, 1) := dk_27 (dk_at dksX4_image_1 15 rfl rfl)
theorem dX4_image_39 : decode cX4_image 39 = .ok (.aload_n 0, 1) := dk_42 (dk_at dksX4_image_1 16 rfl rfl)
theorem dX4_image_40 : decode cX4_image 40 = .ok (.getfield 66, 3) := dk_180 0 66 (dk_at dksX4_image_1 17 rfl rfl)
theorem dX4_image_43 : decode cX4_image 43 = .ok (.iload_n 1, 1) := dk_27 (dk_at dksX4_image_1 20 rfl rfl)
theorem dX4_image_44 : decode cX4_image 44 = .ok (.iaload, 1) := dk_46 (dk_at dksX4_image_1 21 rfl rfl)
theorem dX4_image_45 : decode cX4_image 45 = .ok (.iastore, 1) := dk_79 (dk_at dksX4_image_1 22 rfl rfl)
theorem dX4_image_46 : decode cX4_image 46 = .ok (.iinc 1 1, 3) := dk_132 1 1 (dk_at dksX4_image_2 0 rfl rfl)
theorem dX4_image_49 : decode cX4_image 49 = .ok (.goto (-21), 3) := dk_167 255 235 (dk_at dksX4_image_2 3 rfl rfl)
theorem dX4_image_52 : decode cX4_image 52 = .ok (.aload_n 0, 1) := dk_42 (dk_at dksX4_image_2 6 rfl rfl)
theorem dX4_image_53 : decode cX4_image 53 = .ok (.aload_n 0, 1) := dk_42 (dk_at dksX4_image_2 7 rfl rfl)
theorem dX4_image_54 : decode cX4_image 54 = .ok (.getfield 69, 3) := dk_180 0 69 (dk_at dksX4_image_2 8 rfl rfl)
theorem dX4_image_57 : decode cX4_image 57 = .ok (.aload_n 0, 1) := dk_42 (dk_at dksX4_image_2 11 rfl rfl)
theorem dX4_image_58 : decode cX4_image 58 = .ok (.getfield 105, 3) := dk_180 0 105 (dk_at dksX4_image_2 12 rfl rfl)
theorem dX4_image_61 : decode cX4_image 61 = .ok (.invokevirtual 284, 3) := dk_182 1 28 (dk_at dksX4_image_2 15 rfl rfl)
theorem dX4_image_64 : decode cX4_image 64 = .ok (.aload_n 0, 1) := dk_42 (dk_at dksX4_image_2 18 rfl rfl)
theorem dX4_image_65 : decode cX4_image 65 = .ok (.aload_n 0, 1) := dk_42 (dk_at dksX4_image_2 19 rfl rfl)
theorem dX4_image_66 : decode cX4_image 66 = .ok (.getfield 93, 3) := dk_180 0 93 (dk_at dksX4_image_2 20 rfl rfl)
theorem dX4_image_69 : decode cX4_image 69 = .ok (.aload_n 0, 1) := dk_42 (dk_at dksX4_image_2 23 rfl rfl)
theorem dX4_image_70 : decode cX4_image 70 = .ok (.getfield 108, 3) := dk_180 0 108 (dk_at dksX4_image_3 0 rfl rfl)
theorem dX4_image_73 : decode cX4_image 73 = .ok (.invokevirtual 284, 3) := dk_182 1 28 (dk_at dksX4_image_3 3 rfl rfl)
theorem dX4_image_76 : decode cX4_image 76 = .ok (.return_, 1) := dk_177 (dk_at dksX4_image_3 6 rfl rfl)
abbrev cX4_restore : ByteArray := prog_12_method_128_code
def yX4_restore : MethodName := ⟨RX4, "restore", "()Z"⟩
def dkwX4_restore_3 : List UInt8 := [180, 0, 108, 42, 180, 0, 93, 182, 1, 28, 4, 172]
abbrev dktX4_restore_3 : List UInt8 := dkwX4_restore_3 ++ []
def dkwX4_restore_2 : List UInt8 := [46, 79, 132, 1, 1, 167, 255, 235, 42, 42, 180, 0, 105, 42, 180, 0, 69, 182, 1, 28, 42, 42]
abbrev dktX4_restore_2 : List UInt8 := dkwX4_restore_2 ++ dktX4_restore_3
def dkwX4_restore_1 : List UInt8 := [180, 1, 194, 181, 1, 35, 3, 60, 27, 16, 43, 162, 0, 21, 42, 180, 0, 66, 27, 42, 180, 0, 102, 27]
abbrev dktX4_restore_1 : List UInt8 := dkwX4_restore_1 ++ dktX4_restore_2
def dkwX4_restore_0 : List UInt8 := [42, 3, 181, 0, 111, 42, 180, 1, 38, 154, 0, 5, 3, 172, 42, 42, 180, 1, 191, 181, 1, 32, 42, 42]
abbrev dktX4_restore_0 : List UInt8 := dkwX4_restore_0 ++ dktX4_restore_1
theorem dksX4_restore_0 : cX4_restore.data.toList.drop 0 = dktX4_restore_0 := by decide +kernel
theorem dksX4_restore_1 : cX4_restore.data.toList.drop 24 = dktX4_restore_1 := dk_seg dksX4_restore_0 24 rfl rfl
theorem dksX4_restore_2 : cX4_restore.data.toList.drop 48 = dktX4_restore_2 := dk_seg dksX4_restore_1 24 rfl rfl
theorem dksX4_restore_3 : cX4_restore.data.toList.drop 70 = dktX4_restore_3 := dk_seg dksX4_restore_2 22 rfl rfl
theorem dX4_restore_0 : decode cX4_restore 0 = .ok (.aload_n 0, 1) := dk_42 (dk_at dksX4_restore_0 0 rfl rfl)
theorem dX4_restore_1 : decode cX4_restore 1 = .ok (.iconst 0, 1) := dk_3 (dk_at dksX4_restore_0 1 rfl rfl)
theorem dX4_restore_2 : decode cX4_restore 2 = .ok (.putfield 111, 3) := dk_181 0 111 (dk_at dksX4_restore_0 2 rfl rfl)
theorem dX4_restore_5 : decode cX4_restore 5 = .ok (.aload_n 0, 1) := dk_42 (dk_at dksX4_restore_0 5 rfl rfl)
theorem dX4_restore_6 : decode cX4_restore 6 = .ok (.getfield 294, 3) := dk_180 1 38 (dk_at dksX4_restore_0 6 rfl rfl)
theorem dX4_restore_9 : decode cX4_restore 9 = .ok (.ifCond .ne 5, 3) := dk_154 0 5 (dk_at dksX4_restore_0 9 rfl rfl)
theorem dX4_restore_12 : decode cX4_restore 12 = .ok (.iconst 0, 1) := dk_3 (dk_at dksX4_restore_0 12 rfl rfl)
theorem dX4_restore_13 : decode cX4_restore 13 = .ok (.ireturn, 1) := dk_172 (dk_at dksX4_restore_0 13 rfl rfl)
theorem dX4_restore_14 : decode cX4_restore 14 = .ok (.aload_n 0, 1) := dk_42 (dk_at dksX4_restore_0 14 rfl rfl)
theorem dX4_restore_15 : decode cX4_restore 15 = .ok (.aload_n 0, 1) := dk_42 (dk_at dksX4_restore_0 15 rfl rfl)
theorem dX4_restore_16 : decode cX4_restore 16 = .ok (.getfield 447, 3) := dk_180 1 191 (dk_at dksX4_restore_0 16 rfl rfl)
theorem dX4_restore_19 : decode cX4_restore 19 = .ok (.putfield 288, 3) := dk_181 1 32 (dk_at dksX4_restore_0 19 rfl rfl)
theorem dX4_restore_22 : decode cX4_restore 22 = .ok (.aload_n 0, 1) := dk_42 (dk_at dksX4_restore_0 22 rfl rfl)
theorem dX4_restore_23 : decode cX4_restore 23 = .ok (.aload_n 0, 1) := dk_42 (dk_at dksX4_restore_0 23 rfl rfl)
theorem dX4_restore_24 : decode cX4_restore 24 = .ok (.getfield 450, 3) := dk_180 1 194 (dk_at dksX4_restore_1 0 rfl rfl)
theorem dX4_restore_27 : decode cX4_restore 27 = .ok (.putfield 291, 3) := dk_181 1 35 (dk_at dksX4_restore_1 3 rfl rfl)
theorem dX4_restore_30 : decode cX4_restore 30 = .ok (.iconst 0, 1) := dk_3 (dk_at dksX4_restore_1 6 rfl rfl)
theorem dX4_restore_31 : decode cX4_restore 31 = .ok (.istore_n 1, 1) := dk_60 (dk_at dksX4_restore_1 7 rfl rfl)
theorem dX4_restore_32 : decode cX4_restore 32 = .ok (.iload_n 1, 1) := dk_27 (dk_at dksX4_restore_1 8 rfl rfl)
theorem dX4_restore_33 : decode cX4_restore 33 = .ok (.bipush 43, 2) := dk_16 43 (dk_at dksX4_restore_1 9 rfl rfl)
theorem dX4_restore_35 : decode cX4_restore 35 = .ok (.if_icmp .ge 21, 3) := dk_162 0 21 (dk_at dksX4_restore_1 11 rfl rfl)
theorem dX4_restore_38 : decode cX4_restore 38 = .ok (.aload_n 0, 1) := dk_42 (dk_at dksX4_restore_1 14 rfl rfl)
theorem dX4_restore_39 : decode cX4_restore 39 = .ok (.getfield 66, 3) := dk_180 0 66 (dk_at dksX4_restore_1 15 rfl rfl)
theorem dX4_restore_42 : decode cX4_restore 42 = .ok (.iload_n 1, 1) := dk_27 (dk_at dksX4_restore_1 18 rfl rfl)
theorem dX4_restore_43 : decode cX4_restore 43 = .ok (.aload_n 0, 1) := dk_42 (dk_at dksX4_restore_1 19 rfl rfl)
theorem dX4_restore_44 : decode cX4_restore 44 = .ok (.getfield 102, 3) := dk_180 0 102 (dk_at dksX4_restore_1 20 rfl rfl)
theorem dX4_restore_47 : decode cX4_restore 47 = .ok (.iload_n 1, 1) := dk_27 (dk_at dksX4_restore_1 23 rfl rfl)
theorem dX4_restore_48 : decode cX4_restore 48 = .ok (.iaload, 1) := dk_46 (dk_at dksX4_restore_2 0 rfl rfl)
theorem dX4_restore_49 : decode cX4_restore 49 = .ok (.iastore, 1) := dk_79 (dk_at dksX4_restore_2 1 rfl rfl)
theorem dX4_restore_50 : decode cX4_restore 50 = .ok (.iinc 1 1, 3) := dk_132 1 1 (dk_at dksX4_restore_2 2 rfl rfl)
theorem dX4_restore_53 : decode cX4_restore 53 = .ok (.goto (-21), 3) := dk_167 255 235 (dk_at dksX4_restore_2 5 rfl rfl)
theorem dX4_restore_56 : decode cX4_restore 56 = .ok (.aload_n 0, 1) := dk_42 (dk_at dksX4_restore_2 8 rfl rfl)
theorem dX4_restore_57 : decode cX4_restore 57 = .ok (.aload_n 0, 1) := dk_42 (dk_at dksX4_restore_2 9 rfl rfl)
theorem dX4_restore_58 : decode cX4_restore 58 = .ok (.getfield 105, 3) := dk_180 0 105 (dk_at dksX4_restore_2 10 rfl rfl)
theorem dX4_restore_61 : decode cX4_restore 61 = .ok (.aload_n 0, 1) := dk_42 (dk_at dksX4_restore_2 13 rfl rfl)
theorem dX4_restore_62 : decode cX4_restore 62 = .ok (.getfield 69, 3) := dk_180 0 69 (dk_at dksX4_restore_2 14 rfl rfl)
theorem dX4_restore_65 : decode cX4_restore 65 = .ok (.invokevirtual 284, 3) := dk_182 1 28 (dk_at dksX4_restore_2 17 rfl rfl)
theorem dX4_restore_68 : decode cX4_restore 68 = .ok (.aload_n 0, 1) := dk_42 (dk_at dksX4_restore_2 20 rfl rfl)
theorem dX4_restore_69 : decode cX4_restore 69 = .ok (.aload_n 0, 1) := dk_42 (dk_at dksX4_restore_2 21 rfl rfl)
theorem dX4_restore_70 : decode cX4_restore 70 = .ok (.getfield 108, 3) := dk_180 0 108 (dk_at dksX4_restore_3 0 rfl rfl)
theorem dX4_restore_73 : decode cX4_restore 73 = .ok (.aload_n 0, 1) := dk_42 (dk_at dksX4_restore_3 3 rfl rfl)
theorem dX4_restore_74 : decode cX4_restore 74 = .ok (.getfield 93, 3) := dk_180 0 93 (dk_at dksX4_restore_3 4 rfl rfl)
theorem dX4_restore_77 : decode cX4_restore 77 = .ok (.invokevirtual 284, 3) := dk_182 1 28 (dk_at dksX4_restore_3 7 rfl rfl)
theorem dX4_restore_80 : decode cX4_restore 80 = .ok (.iconst 1, 1) := dk_4 (dk_at dksX4_restore_3 10 rfl rfl)
theorem dX4_restore_81 : decode cX4_restore 81 = .ok (.ireturn, 1) := dk_172 (dk_at dksX4_restore_3 11 rfl rfl)
theorem q128 : (Jvm.Cond.initialized "HornHousesModel") ∈ lw_all := lw_g (lw_at lw_m1 7 rfl) rfl
theorem q404 : (Jvm.Cond.selects "HornHousesModel" ({ cls := "java/lang/Object", name := "getClass", desc := "()Ljava/lang/Class;" } : Jvm.MethodName) ({ cls := "java/lang/Object", name := "getClass", desc := "()Ljava/lang/Class;" } : Jvm.MethodName)) ∈ lw_all := lw_g (lw_at lw_m2 43 rfl) rfl
theorem q1625 : (Jvm.Cond.instantiable "HornHousesModel" (62 : Nat)) ∈ lw_all := lw_g (lw_at lw_m7 64 rfl) rfl
theorem q1627 : (Jvm.Cond.instanceMethod ({ cls := "HornHousesModel", name := "<init>", desc := "()V" } : Jvm.MethodName)) ∈ lw_all := lw_g (lw_at lw_m7 66 rfl) rfl
theorem q1628 : (Jvm.Cond.code ({ cls := "HornHousesModel", name := "<init>", desc := "()V" } : Jvm.MethodName) prog_12_method_1_code (1 : Nat) (Option.none : Option Jvm.ClassFile.FieldType)) ∈ lw_all := lw_g (lw_at lw_m7 67 rfl) rfl
theorem q1629 : (Jvm.Cond.methodLink "HornHousesModel" (1 : Nat) ({ cls := "java/lang/Object", name := "<init>", desc := "()V" } : Jvm.MethodName)) ∈ lw_all := lw_g (lw_at lw_m7 68 rfl) rfl
theorem q1630 : (Jvm.Cond.fieldLink "HornHousesModel" (111 : Nat) "HornHousesModel" "thrown" "I") ∈ lw_all := lw_g (lw_at lw_m7 69 rfl) rfl
theorem q1631 : (Jvm.Cond.fieldLink "HornHousesModel" (275 : Nat) "HornHousesModel" "houses" "I") ∈ lw_all := lw_g (lw_at lw_m7 70 rfl) rfl
theorem q1632 : (Jvm.Cond.fieldLink "HornHousesModel" (278 : Nat) "HornHousesModel" "people" "I") ∈ lw_all := lw_g (lw_at lw_m7 71 rfl) rfl
theorem q1633 : (Jvm.Cond.fieldLink "HornHousesModel" (281 : Nat) "HornHousesModel" "numbers" "I") ∈ lw_all := lw_g (lw_at lw_m7 72 rfl) rfl
theorem q1634 : (Jvm.Cond.fieldLink "HornHousesModel" (9 : Nat) "HornHousesModel" "easesAt" "I") ∈ lw_all := lw_g (lw_at lw_m7 73 rfl) rfl
theorem q1635 : (Jvm.Cond.fieldLink "HornHousesModel" (13 : Nat) "HornHousesModel" "burstsAt" "I") ∈ lw_all := lw_g (lw_at lw_m7 74 rfl) rfl
theorem q1636 : (Jvm.Cond.fieldLink "HornHousesModel" (16 : Nat) "HornHousesModel" "give" "[I") ∈ lw_all := lw_g (lw_at lw_m7 75 rfl) rfl
theorem q1637 : (Jvm.Cond.fieldLink "HornHousesModel" (20 : Nat) "HornHousesModel" "street" "[I") ∈ lw_all := lw_g (lw_at lw_m7 76 rfl) rfl
theorem q1638 : (Jvm.Cond.fieldLink "HornHousesModel" (23 : Nat) "HornHousesModel" "grows" "[I") ∈ lw_all := lw_g (lw_at lw_m7 77 rfl) rfl
theorem q1639 : (Jvm.Cond.fieldLink "HornHousesModel" (26 : Nat) "HornHousesModel" "damps" "[I") ∈ lw_all := lw_g (lw_at lw_m7 78 rfl) rfl
theorem q1640 : (Jvm.Cond.fieldLink "HornHousesModel" (29 : Nat) "HornHousesModel" "code" "[I") ∈ lw_all := lw_g (lw_at lw_m7 79 rfl) rfl
theorem q1641 : (Jvm.Cond.fieldLink "HornHousesModel" (32 : Nat) "HornHousesModel" "tape" "[I") ∈ lw_all := lw_g (lw_at lw_m7 80 rfl) rfl
theorem q1642 : (Jvm.Cond.fieldLink "HornHousesModel" (114 : Nat) "HornHousesModel" "taped" "I") ∈ lw_all := lw_g (lw_at lw_m7 81 rfl) rfl
theorem q1643 : (Jvm.Cond.fieldLink "HornHousesModel" (167 : Nat) "HornHousesModel" "faultKind" "I") ∈ lw_all := lw_g (lw_at lw_m7 82 rfl) rfl
theorem q1644 : (Jvm.Cond.fieldLink "HornHousesModel" (35 : Nat) "HornHousesModel" "faultPlace" "I") ∈ lw_all := lw_g (lw_at lw_m7 83 rfl) rfl
theorem q1645 : (Jvm.Cond.fieldLink "HornHousesModel" (38 : Nat) "HornHousesModel" "refused" "[I") ∈ lw_all := lw_g (lw_at lw_m7 84 rfl) rfl
theorem q1646 : (Jvm.Cond.fieldLink "HornHousesModel" (121 : Nat) "HornHousesModel" "long1" "I") ∈ lw_all := lw_g (lw_at lw_m7 85 rfl) rfl
theorem q1647 : (Jvm.Cond.fieldLink "HornHousesModel" (124 : Nat) "HornHousesModel" "next0" "I") ∈ lw_all := lw_g (lw_at lw_m7 86 rfl) rfl
theorem q1648 : (Jvm.Cond.fieldLink "HornHousesModel" (144 : Nat) "HornHousesModel" "sort" "I") ∈ lw_all := lw_g (lw_at lw_m7 87 rfl) rfl
theorem q1649 : (Jvm.Cond.fieldLink "HornHousesModel" (131 : Nat) "HornHousesModel" "place" "I") ∈ lw_all := lw_g (lw_at lw_m7 88 rfl) rfl
theorem q1650 : (Jvm.Cond.fieldLink "HornHousesModel" (154 : Nat) "HornHousesModel" "long0" "I") ∈ lw_all := lw_g (lw_at lw_m7 89 rfl) rfl
theorem q1651 : (Jvm.Cond.fieldLink "HornHousesModel" (138 : Nat) "HornHousesModel" "value" "I") ∈ lw_all := lw_g (lw_at lw_m7 90 rfl) rfl
theorem q1652 : (Jvm.Cond.fieldLink "HornHousesModel" (141 : Nat) "HornHousesModel" "sign" "I") ∈ lw_all := lw_g (lw_at lw_m7 91 rfl) rfl
theorem q1653 : (Jvm.Cond.fieldLink "HornHousesModel" (134 : Nat) "HornHousesModel" "word" "J") ∈ lw_all := lw_g (lw_at lw_m7 92 rfl) rfl
theorem q1654 : (Jvm.Cond.fieldLink "HornHousesModel" (230 : Nat) "HornHousesModel" "newHouses" "I") ∈ lw_all := lw_g (lw_at lw_m7 93 rfl) rfl
theorem q1655 : (Jvm.Cond.fieldLink "HornHousesModel" (237 : Nat) "HornHousesModel" "newPeople" "I") ∈ lw_all := lw_g (lw_at lw_m7 94 rfl) rfl
theorem q1656 : (Jvm.Cond.fieldLink "HornHousesModel" (240 : Nat) "HornHousesModel" "newNumbers" "I") ∈ lw_all := lw_g (lw_at lw_m7 95 rfl) rfl
theorem q1657 : (Jvm.Cond.fieldLink "HornHousesModel" (256 : Nat) "HornHousesModel" "newEasesAt" "I") ∈ lw_all := lw_g (lw_at lw_m7 96 rfl) rfl
theorem q1658 : (Jvm.Cond.fieldLink "HornHousesModel" (262 : Nat) "HornHousesModel" "newBurstsAt" "I") ∈ lw_all := lw_g (lw_at lw_m7 97 rfl) rfl
theorem q1659 : (Jvm.Cond.fieldLink "HornHousesModel" (180 : Nat) "HornHousesModel" "top" "I") ∈ lw_all := lw_g (lw_at lw_m7 98 rfl) rfl
theorem q1660 : (Jvm.Cond.fieldLink "HornHousesModel" (199 : Nat) "HornHousesModel" "lastValue" "I") ∈ lw_all := lw_g (lw_at lw_m7 99 rfl) rfl
theorem q1661 : (Jvm.Cond.fieldLink "HornHousesModel" (183 : Nat) "HornHousesModel" "waiting" "I") ∈ lw_all := lw_g (lw_at lw_m7 100 rfl) rfl
theorem q1662 : (Jvm.Cond.fieldLink "HornHousesModel" (202 : Nat) "HornHousesModel" "depth" "I") ∈ lw_all := lw_g (lw_at lw_m7 101 rfl) rfl
theorem q1663 : (Jvm.Cond.fieldLink "HornHousesModel" (41 : Nat) "HornHousesModel" "newGive" "[I") ∈ lw_all := lw_g (lw_at lw_m7 102 rfl) rfl
theorem q1664 : (Jvm.Cond.fieldLink "HornHousesModel" (44 : Nat) "HornHousesModel" "newStreet" "[I") ∈ lw_all := lw_g (lw_at lw_m7 103 rfl) rfl
theorem q1665 : (Jvm.Cond.fieldLink "HornHousesModel" (47 : Nat) "HornHousesModel" "newGrows" "[I") ∈ lw_all := lw_g (lw_at lw_m7 104 rfl) rfl
theorem q1666 : (Jvm.Cond.fieldLink "HornHousesModel" (50 : Nat) "HornHousesModel" "newDamps" "[I") ∈ lw_all := lw_g (lw_at lw_m7 105 rfl) rfl
theorem q1667 : (Jvm.Cond.fieldLink "HornHousesModel" (53 : Nat) "HornHousesModel" "newRow" "[I") ∈ lw_all := lw_g (lw_at lw_m7 106 rfl) rfl
theorem q1668 : (Jvm.Cond.fieldLink "HornHousesModel" (56 : Nat) "HornHousesModel" "readCode" "[I") ∈ lw_all := lw_g (lw_at lw_m7 107 rfl) rfl
theorem q1669 : (Jvm.Cond.fieldLink "HornHousesModel" (59 : Nat) "HornHousesModel" "waits" "[I") ∈ lw_all := lw_g (lw_at lw_m7 108 rfl) rfl
theorem q1670 : (Jvm.Cond.fieldLink "HornHousesModel" (62 : Nat) "HornHousesModel" "tested" "[Z") ∈ lw_all := lw_g (lw_at lw_m7 109 rfl) rfl
theorem q1671 : (Jvm.Cond.fieldLink "HornHousesModel" (66 : Nat) "HornHousesModel" "rows" "[I") ∈ lw_all := lw_g (lw_at lw_m7 110 rfl) rfl
theorem q1672 : (Jvm.Cond.fieldLink "HornHousesModel" (69 : Nat) "HornHousesModel" "ahead" "[I") ∈ lw_all := lw_g (lw_at lw_m7 111 rfl) rfl
theorem q1673 : (Jvm.Cond.fieldLink "HornHousesModel" (288 : Nat) "HornHousesModel" "acts" "I") ∈ lw_all := lw_g (lw_at lw_m7 112 rfl) rfl
theorem q1674 : (Jvm.Cond.fieldLink "HornHousesModel" (72 : Nat) "HornHousesModel" "told" "[I") ∈ lw_all := lw_g (lw_at lw_m7 113 rfl) rfl
theorem q1675 : (Jvm.Cond.fieldLink "HornHousesModel" (75 : Nat) "HornHousesModel" "pile" "[I") ∈ lw_all := lw_g (lw_at lw_m7 114 rfl) rfl
theorem q1676 : (Jvm.Cond.fieldLink "HornHousesModel" (78 : Nat) "HornHousesModel" "otherDamp" "I") ∈ lw_all := lw_g (lw_at lw_m7 115 rfl) rfl
theorem q1677 : (Jvm.Cond.fieldLink "HornHousesModel" (81 : Nat) "HornHousesModel" "least" "[I") ∈ lw_all := lw_g (lw_at lw_m7 116 rfl) rfl
theorem q1678 : (Jvm.Cond.fieldLink "HornHousesModel" (84 : Nat) "HornHousesModel" "wants" "[I") ∈ lw_all := lw_g (lw_at lw_m7 117 rfl) rfl
theorem q1679 : (Jvm.Cond.fieldLink "HornHousesModel" (87 : Nat) "HornHousesModel" "traded" "[I") ∈ lw_all := lw_g (lw_at lw_m7 118 rfl) rfl
theorem q1680 : (Jvm.Cond.fieldLink "HornHousesModel" (90 : Nat) "HornHousesModel" "rings" "[I") ∈ lw_all := lw_g (lw_at lw_m7 119 rfl) rfl
theorem q1681 : (Jvm.Cond.fieldLink "HornHousesModel" (291 : Nat) "HornHousesModel" "seenMany" "I") ∈ lw_all := lw_g (lw_at lw_m7 120 rfl) rfl
theorem q1682 : (Jvm.Cond.fieldLink "HornHousesModel" (93 : Nat) "HornHousesModel" "seen" "[I") ∈ lw_all := lw_g (lw_at lw_m7 121 rfl) rfl
theorem q1683 : (Jvm.Cond.fieldLink "HornHousesModel" (96 : Nat) "HornHousesModel" "soon" "[I") ∈ lw_all := lw_g (lw_at lw_m7 122 rfl) rfl
theorem q1684 : (Jvm.Cond.fieldLink "HornHousesModel" (99 : Nat) "HornHousesModel" "soonAll" "[I") ∈ lw_all := lw_g (lw_at lw_m7 123 rfl) rfl
theorem q1685 : (Jvm.Cond.fieldLink "HornHousesModel" (434 : Nat) "HornHousesModel" "its0" "I") ∈ lw_all := lw_g (lw_at lw_m7 124 rfl) rfl
theorem q1686 : (Jvm.Cond.fieldLink "HornHousesModel" (294 : Nat) "HornHousesModel" "hasImage" "Z") ∈ lw_all := lw_g (lw_at lw_m7 125 rfl) rfl
theorem q1687 : (Jvm.Cond.fieldLink "HornHousesModel" (447 : Nat) "HornHousesModel" "imageActs" "I") ∈ lw_all := lw_g (lw_at lw_m7 126 rfl) rfl
theorem q1688 : (Jvm.Cond.fieldLink "HornHousesModel" (450 : Nat) "HornHousesModel" "imageSeen" "I") ∈ lw_all := lw_g (lw_at lw_m7 127 rfl) rfl
theorem q1689 : (Jvm.Cond.fieldLink "HornHousesModel" (102 : Nat) "HornHousesModel" "imageRow" "[I") ∈ lw_all := lw_g (lw_at lw_m7 128 rfl) rfl
theorem q1690 : (Jvm.Cond.fieldLink "HornHousesModel" (105 : Nat) "HornHousesModel" "imageAhead" "[I") ∈ lw_all := lw_g (lw_at lw_m7 129 rfl) rfl
theorem q1691 : (Jvm.Cond.fieldLink "HornHousesModel" (108 : Nat) "HornHousesModel" "imageSees" "[I") ∈ lw_all := lw_g (lw_at lw_m7 130 rfl) rfl
theorem q1692 : (Jvm.Cond.lays "HornHousesModel" "HornHousesModel" "thrown" "I") ∈ lw_all := lw_g (lw_at lw_m7 131 rfl) rfl
theorem q1693 : (Jvm.Cond.soleField "HornHousesModel" "thrown") ∈ lw_all := lw_g (lw_at lw_m7 132 rfl) rfl
theorem q1694 : (Jvm.Cond.lays "HornHousesModel" "HornHousesModel" "houses" "I") ∈ lw_all := lw_g (lw_at lw_m7 133 rfl) rfl
theorem q1695 : (Jvm.Cond.soleField "HornHousesModel" "houses") ∈ lw_all := lw_g (lw_at lw_m7 134 rfl) rfl
theorem q1696 : (Jvm.Cond.lays "HornHousesModel" "HornHousesModel" "people" "I") ∈ lw_all := lw_g (lw_at lw_m7 135 rfl) rfl
theorem q1697 : (Jvm.Cond.soleField "HornHousesModel" "people") ∈ lw_all := lw_g (lw_at lw_m7 136 rfl) rfl
theorem q1698 : (Jvm.Cond.lays "HornHousesModel" "HornHousesModel" "numbers" "I") ∈ lw_all := lw_g (lw_at lw_m7 137 rfl) rfl
theorem q1699 : (Jvm.Cond.soleField "HornHousesModel" "numbers") ∈ lw_all := lw_g (lw_at lw_m7 138 rfl) rfl
theorem q1700 : (Jvm.Cond.lays "HornHousesModel" "HornHousesModel" "easesAt" "I") ∈ lw_all := lw_g (lw_at lw_m7 139 rfl) rfl
theorem q1701 : (Jvm.Cond.soleField "HornHousesModel" "easesAt") ∈ lw_all := lw_g (lw_at lw_m7 140 rfl) rfl
theorem q1702 : (Jvm.Cond.lays "HornHousesModel" "HornHousesModel" "burstsAt" "I") ∈ lw_all := lw_g (lw_at lw_m7 141 rfl) rfl
theorem q1703 : (Jvm.Cond.soleField "HornHousesModel" "burstsAt") ∈ lw_all := lw_g (lw_at lw_m7 142 rfl) rfl
theorem q1704 : (Jvm.Cond.laysFinal "HornHousesModel" "HornHousesModel" "give" "[I") ∈ lw_all := lw_g (lw_at lw_m7 143 rfl) rfl
theorem q1705 : (Jvm.Cond.soleField "HornHousesModel" "give") ∈ lw_all := lw_g (lw_at lw_m7 144 rfl) rfl
theorem q1706 : (Jvm.Cond.laysFinal "HornHousesModel" "HornHousesModel" "street" "[I") ∈ lw_all := lw_g (lw_at lw_m7 145 rfl) rfl
theorem q1707 : (Jvm.Cond.soleField "HornHousesModel" "street") ∈ lw_all := lw_g (lw_at lw_m7 146 rfl) rfl
theorem q1708 : (Jvm.Cond.laysFinal "HornHousesModel" "HornHousesModel" "grows" "[I") ∈ lw_all := lw_g (lw_at lw_m7 147 rfl) rfl
theorem q1709 : (Jvm.Cond.soleField "HornHousesModel" "grows") ∈ lw_all := lw_g (lw_at lw_m7 148 rfl) rfl
theorem q1710 : (Jvm.Cond.laysFinal "HornHousesModel" "HornHousesModel" "damps" "[I") ∈ lw_all := lw_g (lw_at lw_m7 149 rfl) rfl
theorem q1711 : (Jvm.Cond.soleField "HornHousesModel" "damps") ∈ lw_all := lw_g (lw_at lw_m7 150 rfl) rfl
theorem q1712 : (Jvm.Cond.laysFinal "HornHousesModel" "HornHousesModel" "code" "[I") ∈ lw_all := lw_g (lw_at lw_m7 151 rfl) rfl
theorem q1713 : (Jvm.Cond.soleField "HornHousesModel" "code") ∈ lw_all := lw_g (lw_at lw_m7 152 rfl) rfl
theorem q1714 : (Jvm.Cond.laysFinal "HornHousesModel" "HornHousesModel" "tape" "[I") ∈ lw_all := lw_g (lw_at lw_m7 153 rfl) rfl
theorem q1715 : (Jvm.Cond.soleField "HornHousesModel" "tape") ∈ lw_all := lw_g (lw_at lw_m7 154 rfl) rfl
theorem q1716 : (Jvm.Cond.lays "HornHousesModel" "HornHousesModel" "taped" "I") ∈ lw_all := lw_g (lw_at lw_m7 155 rfl) rfl
theorem q1717 : (Jvm.Cond.soleField "HornHousesModel" "taped") ∈ lw_all := lw_g (lw_at lw_m7 156 rfl) rfl
theorem q1718 : (Jvm.Cond.lays "HornHousesModel" "HornHousesModel" "faultKind" "I") ∈ lw_all := lw_g (lw_at lw_m7 157 rfl) rfl
theorem q1719 : (Jvm.Cond.soleField "HornHousesModel" "faultKind") ∈ lw_all := lw_g (lw_at lw_m7 158 rfl) rfl
theorem q1720 : (Jvm.Cond.lays "HornHousesModel" "HornHousesModel" "faultPlace" "I") ∈ lw_all := lw_g (lw_at lw_m7 159 rfl) rfl
theorem q1721 : (Jvm.Cond.soleField "HornHousesModel" "faultPlace") ∈ lw_all := lw_g (lw_at lw_m7 160 rfl) rfl
theorem q1722 : (Jvm.Cond.laysFinal "HornHousesModel" "HornHousesModel" "refused" "[I") ∈ lw_all := lw_g (lw_at lw_m7 161 rfl) rfl
theorem q1723 : (Jvm.Cond.soleField "HornHousesModel" "refused") ∈ lw_all := lw_g (lw_at lw_m7 162 rfl) rfl
theorem q1724 : (Jvm.Cond.lays "HornHousesModel" "HornHousesModel" "long1" "I") ∈ lw_all := lw_g (lw_at lw_m7 163 rfl) rfl
theorem q1725 : (Jvm.Cond.soleField "HornHousesModel" "long1") ∈ lw_all := lw_g (lw_at lw_m7 164 rfl) rfl
theorem q1726 : (Jvm.Cond.lays "HornHousesModel" "HornHousesModel" "next0" "I") ∈ lw_all := lw_g (lw_at lw_m7 165 rfl) rfl
theorem q1727 : (Jvm.Cond.soleField "HornHousesModel" "next0") ∈ lw_all := lw_g (lw_at lw_m7 166 rfl) rfl
theorem q1728 : (Jvm.Cond.lays "HornHousesModel" "HornHousesModel" "sort" "I") ∈ lw_all := lw_g (lw_at lw_m7 167 rfl) rfl
theorem q1729 : (Jvm.Cond.soleField "HornHousesModel" "sort") ∈ lw_all := lw_g (lw_at lw_m7 168 rfl) rfl
theorem q1730 : (Jvm.Cond.lays "HornHousesModel" "HornHousesModel" "place" "I") ∈ lw_all := lw_g (lw_at lw_m7 169 rfl) rfl
theorem q1731 : (Jvm.Cond.soleField "HornHousesModel" "place") ∈ lw_all := lw_g (lw_at lw_m7 170 rfl) rfl
theorem q1732 : (Jvm.Cond.lays "HornHousesModel" "HornHousesModel" "long0" "I") ∈ lw_all := lw_g (lw_at lw_m7 171 rfl) rfl
theorem q1733 : (Jvm.Cond.soleField "HornHousesModel" "long0") ∈ lw_all := lw_g (lw_at lw_m7 172 rfl) rfl
theorem q1734 : (Jvm.Cond.lays "HornHousesModel" "HornHousesModel" "value" "I") ∈ lw_all := lw_g (lw_at lw_m7 173 rfl) rfl
theorem q1735 : (Jvm.Cond.soleField "HornHousesModel" "value") ∈ lw_all := lw_g (lw_at lw_m7 174 rfl) rfl
theorem q1736 : (Jvm.Cond.lays "HornHousesModel" "HornHousesModel" "sign" "I") ∈ lw_all := lw_g (lw_at lw_m7 175 rfl) rfl
theorem q1737 : (Jvm.Cond.soleField "HornHousesModel" "sign") ∈ lw_all := lw_g (lw_at lw_m7 176 rfl) rfl
theorem q1738 : (Jvm.Cond.lays "HornHousesModel" "HornHousesModel" "word" "J") ∈ lw_all := lw_g (lw_at lw_m7 177 rfl) rfl
theorem q1739 : (Jvm.Cond.soleField "HornHousesModel" "word") ∈ lw_all := lw_g (lw_at lw_m7 178 rfl) rfl
theorem q1740 : (Jvm.Cond.lays "HornHousesModel" "HornHousesModel" "newHouses" "I") ∈ lw_all := lw_g (lw_at lw_m7 179 rfl) rfl
theorem q1741 : (Jvm.Cond.soleField "HornHousesModel" "newHouses") ∈ lw_all := lw_g (lw_at lw_m7 180 rfl) rfl
theorem q1742 : (Jvm.Cond.lays "HornHousesModel" "HornHousesModel" "newPeople" "I") ∈ lw_all := lw_g (lw_at lw_m7 181 rfl) rfl
theorem q1743 : (Jvm.Cond.soleField "HornHousesModel" "newPeople") ∈ lw_all := lw_g (lw_at lw_m7 182 rfl) rfl
theorem q1744 : (Jvm.Cond.lays "HornHousesModel" "HornHousesModel" "newNumbers" "I") ∈ lw_all := lw_g (lw_at lw_m7 183 rfl) rfl
theorem q1745 : (Jvm.Cond.soleField "HornHousesModel" "newNumbers") ∈ lw_all := lw_g (lw_at lw_m7 184 rfl) rfl
theorem q1746 : (Jvm.Cond.lays "HornHousesModel" "HornHousesModel" "newEasesAt" "I") ∈ lw_all := lw_g (lw_at lw_m7 185 rfl) rfl
theorem q1747 : (Jvm.Cond.soleField "HornHousesModel" "newEasesAt") ∈ lw_all := lw_g (lw_at lw_m7 186 rfl) rfl
theorem q1748 : (Jvm.Cond.lays "HornHousesModel" "HornHousesModel" "newBurstsAt" "I") ∈ lw_all := lw_g (lw_at lw_m7 187 rfl) rfl
theorem q1749 : (Jvm.Cond.soleField "HornHousesModel" "newBurstsAt") ∈ lw_all := lw_g (lw_at lw_m7 188 rfl) rfl
theorem q1750 : (Jvm.Cond.lays "HornHousesModel" "HornHousesModel" "top" "I") ∈ lw_all := lw_g (lw_at lw_m7 189 rfl) rfl
theorem q1751 : (Jvm.Cond.soleField "HornHousesModel" "top") ∈ lw_all := lw_g (lw_at lw_m7 190 rfl) rfl
theorem q1752 : (Jvm.Cond.lays "HornHousesModel" "HornHousesModel" "lastValue" "I") ∈ lw_all := lw_g (lw_at lw_m7 191 rfl) rfl
theorem q1753 : (Jvm.Cond.soleField "HornHousesModel" "lastValue") ∈ lw_all := lw_g (lw_at lw_m7 192 rfl) rfl
theorem q1754 : (Jvm.Cond.lays "HornHousesModel" "HornHousesModel" "waiting" "I") ∈ lw_all := lw_g (lw_at lw_m7 193 rfl) rfl
theorem q1755 : (Jvm.Cond.soleField "HornHousesModel" "waiting") ∈ lw_all := lw_g (lw_at lw_m7 194 rfl) rfl
theorem q1756 : (Jvm.Cond.lays "HornHousesModel" "HornHousesModel" "depth" "I") ∈ lw_all := lw_g (lw_at lw_m7 195 rfl) rfl
theorem q1757 : (Jvm.Cond.soleField "HornHousesModel" "depth") ∈ lw_all := lw_g (lw_at lw_m7 196 rfl) rfl
theorem q1758 : (Jvm.Cond.laysFinal "HornHousesModel" "HornHousesModel" "newGive" "[I") ∈ lw_all := lw_g (lw_at lw_m7 197 rfl) rfl
theorem q1759 : (Jvm.Cond.soleField "HornHousesModel" "newGive") ∈ lw_all := lw_g (lw_at lw_m7 198 rfl) rfl
theorem q1760 : (Jvm.Cond.laysFinal "HornHousesModel" "HornHousesModel" "newStreet" "[I") ∈ lw_all := lw_g (lw_at lw_m7 199 rfl) rfl
theorem q1761 : (Jvm.Cond.soleField "HornHousesModel" "newStreet") ∈ lw_all := lw_g (lw_at lw_m7 200 rfl) rfl
theorem q1762 : (Jvm.Cond.laysFinal "HornHousesModel" "HornHousesModel" "newGrows" "[I") ∈ lw_all := lw_g (lw_at lw_m7 201 rfl) rfl
theorem q1763 : (Jvm.Cond.soleField "HornHousesModel" "newGrows") ∈ lw_all := lw_g (lw_at lw_m7 202 rfl) rfl
theorem q1764 : (Jvm.Cond.laysFinal "HornHousesModel" "HornHousesModel" "newDamps" "[I") ∈ lw_all := lw_g (lw_at lw_m7 203 rfl) rfl
theorem q1765 : (Jvm.Cond.soleField "HornHousesModel" "newDamps") ∈ lw_all := lw_g (lw_at lw_m7 204 rfl) rfl
theorem q1766 : (Jvm.Cond.laysFinal "HornHousesModel" "HornHousesModel" "newRow" "[I") ∈ lw_all := lw_g (lw_at lw_m7 205 rfl) rfl
theorem q1767 : (Jvm.Cond.soleField "HornHousesModel" "newRow") ∈ lw_all := lw_g (lw_at lw_m7 206 rfl) rfl
theorem q1768 : (Jvm.Cond.laysFinal "HornHousesModel" "HornHousesModel" "readCode" "[I") ∈ lw_all := lw_g (lw_at lw_m7 207 rfl) rfl
theorem q1769 : (Jvm.Cond.soleField "HornHousesModel" "readCode") ∈ lw_all := lw_g (lw_at lw_m7 208 rfl) rfl
theorem q1770 : (Jvm.Cond.laysFinal "HornHousesModel" "HornHousesModel" "waits" "[I") ∈ lw_all := lw_g (lw_at lw_m7 209 rfl) rfl
theorem q1771 : (Jvm.Cond.soleField "HornHousesModel" "waits") ∈ lw_all := lw_g (lw_at lw_m7 210 rfl) rfl
theorem q1772 : (Jvm.Cond.laysFinal "HornHousesModel" "HornHousesModel" "tested" "[Z") ∈ lw_all := lw_g (lw_at lw_m7 211 rfl) rfl
theorem q1773 : (Jvm.Cond.soleField "HornHousesModel" "tested") ∈ lw_all := lw_g (lw_at lw_m7 212 rfl) rfl
theorem q1774 : (Jvm.Cond.laysFinal "HornHousesModel" "HornHousesModel" "rows" "[I") ∈ lw_all := lw_g (lw_at lw_m7 213 rfl) rfl
theorem q1775 : (Jvm.Cond.soleField "HornHousesModel" "rows") ∈ lw_all := lw_g (lw_at lw_m7 214 rfl) rfl
theorem q1776 : (Jvm.Cond.laysFinal "HornHousesModel" "HornHousesModel" "ahead" "[I") ∈ lw_all := lw_g (lw_at lw_m7 215 rfl) rfl
theorem q1777 : (Jvm.Cond.soleField "HornHousesModel" "ahead") ∈ lw_all := lw_g (lw_at lw_m7 216 rfl) rfl
theorem q1778 : (Jvm.Cond.lays "HornHousesModel" "HornHousesModel" "acts" "I") ∈ lw_all := lw_g (lw_at lw_m7 217 rfl) rfl
theorem q1779 : (Jvm.Cond.soleField "HornHousesModel" "acts") ∈ lw_all := lw_g (lw_at lw_m7 218 rfl) rfl
theorem q1780 : (Jvm.Cond.laysFinal "HornHousesModel" "HornHousesModel" "told" "[I") ∈ lw_all := lw_g (lw_at lw_m7 219 rfl) rfl
theorem q1781 : (Jvm.Cond.soleField "HornHousesModel" "told") ∈ lw_all := lw_g (lw_at lw_m7 220 rfl) rfl
theorem q1782 : (Jvm.Cond.laysFinal "HornHousesModel" "HornHousesModel" "pile" "[I") ∈ lw_all := lw_g (lw_at lw_m7 221 rfl) rfl
theorem q1783 : (Jvm.Cond.soleField "HornHousesModel" "pile") ∈ lw_all := lw_g (lw_at lw_m7 222 rfl) rfl
theorem q1784 : (Jvm.Cond.lays "HornHousesModel" "HornHousesModel" "otherDamp" "I") ∈ lw_all := lw_g (lw_at lw_m7 223 rfl) rfl
theorem q1785 : (Jvm.Cond.soleField "HornHousesModel" "otherDamp") ∈ lw_all := lw_g (lw_at lw_m7 224 rfl) rfl
theorem q1786 : (Jvm.Cond.laysFinal "HornHousesModel" "HornHousesModel" "least" "[I") ∈ lw_all := lw_g (lw_at lw_m7 225 rfl) rfl
theorem q1787 : (Jvm.Cond.soleField "HornHousesModel" "least") ∈ lw_all := lw_g (lw_at lw_m7 226 rfl) rfl
theorem q1788 : (Jvm.Cond.laysFinal "HornHousesModel" "HornHousesModel" "wants" "[I") ∈ lw_all := lw_g (lw_at lw_m7 227 rfl) rfl
theorem q1789 : (Jvm.Cond.soleField "HornHousesModel" "wants") ∈ lw_all := lw_g (lw_at lw_m7 228 rfl) rfl
theorem q1790 : (Jvm.Cond.laysFinal "HornHousesModel" "HornHousesModel" "traded" "[I") ∈ lw_all := lw_g (lw_at lw_m7 229 rfl) rfl
theorem q1791 : (Jvm.Cond.soleField "HornHousesModel" "traded") ∈ lw_all := lw_g (lw_at lw_m7 230 rfl) rfl
theorem q1792 : (Jvm.Cond.laysFinal "HornHousesModel" "HornHousesModel" "rings" "[I") ∈ lw_all := lw_g (lw_at lw_m7 231 rfl) rfl
theorem q1793 : (Jvm.Cond.soleField "HornHousesModel" "rings") ∈ lw_all := lw_g (lw_at lw_m7 232 rfl) rfl
theorem q1794 : (Jvm.Cond.lays "HornHousesModel" "HornHousesModel" "seenMany" "I") ∈ lw_all := lw_g (lw_at lw_m7 233 rfl) rfl
theorem q1795 : (Jvm.Cond.soleField "HornHousesModel" "seenMany") ∈ lw_all := lw_g (lw_at lw_m7 234 rfl) rfl
theorem q1796 : (Jvm.Cond.laysFinal "HornHousesModel" "HornHousesModel" "seen" "[I") ∈ lw_all := lw_g (lw_at lw_m7 235 rfl) rfl
theorem q1797 : (Jvm.Cond.soleField "HornHousesModel" "seen") ∈ lw_all := lw_g (lw_at lw_m7 236 rfl) rfl
theorem q1798 : (Jvm.Cond.laysFinal "HornHousesModel" "HornHousesModel" "soon" "[I") ∈ lw_all := lw_g (lw_at lw_m7 237 rfl) rfl
theorem q1799 : (Jvm.Cond.soleField "HornHousesModel" "soon") ∈ lw_all := lw_g (lw_at lw_m7 238 rfl) rfl
theorem q1800 : (Jvm.Cond.laysFinal "HornHousesModel" "HornHousesModel" "soonAll" "[I") ∈ lw_all := lw_g (lw_at lw_m7 239 rfl) rfl
theorem q1801 : (Jvm.Cond.soleField "HornHousesModel" "soonAll") ∈ lw_all := lw_g (lw_at lw_m8 0 rfl) rfl
theorem q1802 : (Jvm.Cond.lays "HornHousesModel" "HornHousesModel" "its0" "I") ∈ lw_all := lw_g (lw_at lw_m8 1 rfl) rfl
theorem q1803 : (Jvm.Cond.soleField "HornHousesModel" "its0") ∈ lw_all := lw_g (lw_at lw_m8 2 rfl) rfl
theorem q1804 : (Jvm.Cond.lays "HornHousesModel" "HornHousesModel" "hasImage" "Z") ∈ lw_all := lw_g (lw_at lw_m8 3 rfl) rfl
theorem q1805 : (Jvm.Cond.soleField "HornHousesModel" "hasImage") ∈ lw_all := lw_g (lw_at lw_m8 4 rfl) rfl
theorem q1806 : (Jvm.Cond.lays "HornHousesModel" "HornHousesModel" "imageActs" "I") ∈ lw_all := lw_g (lw_at lw_m8 5 rfl) rfl
theorem q1807 : (Jvm.Cond.soleField "HornHousesModel" "imageActs") ∈ lw_all := lw_g (lw_at lw_m8 6 rfl) rfl
theorem q1808 : (Jvm.Cond.lays "HornHousesModel" "HornHousesModel" "imageSeen" "I") ∈ lw_all := lw_g (lw_at lw_m8 7 rfl) rfl
theorem q1809 : (Jvm.Cond.soleField "HornHousesModel" "imageSeen") ∈ lw_all := lw_g (lw_at lw_m8 8 rfl) rfl
theorem q1810 : (Jvm.Cond.laysFinal "HornHousesModel" "HornHousesModel" "imageRow" "[I") ∈ lw_all := lw_g (lw_at lw_m8 9 rfl) rfl
theorem q1811 : (Jvm.Cond.soleField "HornHousesModel" "imageRow") ∈ lw_all := lw_g (lw_at lw_m8 10 rfl) rfl
theorem q1812 : (Jvm.Cond.laysFinal "HornHousesModel" "HornHousesModel" "imageAhead" "[I") ∈ lw_all := lw_g (lw_at lw_m8 11 rfl) rfl
theorem q1813 : (Jvm.Cond.soleField "HornHousesModel" "imageAhead") ∈ lw_all := lw_g (lw_at lw_m8 12 rfl) rfl
theorem q1814 : (Jvm.Cond.laysFinal "HornHousesModel" "HornHousesModel" "imageSees" "[I") ∈ lw_all := lw_g (lw_at lw_m8 13 rfl) rfl
theorem q1815 : (Jvm.Cond.soleField "HornHousesModel" "imageSees") ∈ lw_all := lw_g (lw_at lw_m8 14 rfl) rfl
theorem q1816 : (Jvm.Cond.superclass "HornHousesModel" "java/lang/Object") ∈ lw_all := lw_g (lw_at lw_m8 15 rfl) rfl
theorem q1819 : (Jvm.Cond.instanceMethod ({ cls := "HornHousesModel", name := "thrown", desc := "()I" } : Jvm.MethodName)) ∈ lw_all := lw_g (lw_at lw_m8 18 rfl) rfl
theorem q1820 : (Jvm.Cond.selects "HornHousesModel" ({ cls := "HornHousesModel", name := "thrown", desc := "()I" } : Jvm.MethodName) ({ cls := "HornHousesModel", name := "thrown", desc := "()I" } : Jvm.MethodName)) ∈ lw_all := lw_g (lw_at lw_m8 19 rfl) rfl
theorem q1821 : (Jvm.Cond.code ({ cls := "HornHousesModel", name := "thrown", desc := "()I" } : Jvm.MethodName) prog_12_method_2_code (1 : Nat) (Option.some Jvm.ClassFile.FieldType.int)) ∈ lw_all := lw_g (lw_at lw_m8 20 rfl) rfl
theorem q1823 : (Jvm.Cond.instanceMethod ({ cls := "HornHousesModel", name := "feed", desc := "(IIIII)I" } : Jvm.MethodName)) ∈ lw_all := lw_g (lw_at lw_m8 22 rfl) rfl
theorem q1824 : (Jvm.Cond.selects "HornHousesModel" ({ cls := "HornHousesModel", name := "feed", desc := "(IIIII)I" } : Jvm.MethodName) ({ cls := "HornHousesModel", name := "feed", desc := "(IIIII)I" } : Jvm.MethodName)) ∈ lw_all := lw_g (lw_at lw_m8 23 rfl) rfl
theorem q1825 : (Jvm.Cond.code ({ cls := "HornHousesModel", name := "feed", desc := "(IIIII)I" } : Jvm.MethodName) prog_12_method_10_code (6 : Nat) (Option.some Jvm.ClassFile.FieldType.int)) ∈ lw_all := lw_g (lw_at lw_m8 24 rfl) rfl
theorem q1826 : (Jvm.Cond.methodLink "HornHousesModel" (117 : Nat) ({ cls := "HornHousesModel", name := "lays", desc := "(I)V" } : Jvm.MethodName)) ∈ lw_all := lw_g (lw_at lw_m8 25 rfl) rfl
theorem q1827 : (Jvm.Cond.privateMethod ({ cls := "HornHousesModel", name := "lays", desc := "(I)V" } : Jvm.MethodName)) ∈ lw_tbl := lw_at lw_m8 26 rfl
theorem q1828 : (Jvm.Cond.instanceMethod ({ cls := "HornHousesModel", name := "lays", desc := "(I)V" } : Jvm.MethodName)) ∈ lw_all := lw_g (lw_at lw_m8 27 rfl) rfl
theorem q1829 : (Jvm.Cond.code ({ cls := "HornHousesModel", name := "lays", desc := "(I)V" } : Jvm.MethodName) prog_12_method_11_code (3 : Nat) (Option.none : Option Jvm.ClassFile.FieldType)) ∈ lw_all := lw_g (lw_at lw_m8 28 rfl) rfl
theorem q1831 : (Jvm.Cond.instanceMethod ({ cls := "HornHousesModel", name := "town", desc := "(I)I" } : Jvm.MethodName)) ∈ lw_all := lw_g (lw_at lw_m8 30 rfl) rfl
theorem q1832 : (Jvm.Cond.selects "HornHousesModel" ({ cls := "HornHousesModel", name := "town", desc := "(I)I" } : Jvm.MethodName) ({ cls := "HornHousesModel", name := "town", desc := "(I)I" } : Jvm.MethodName)) ∈ lw_all := lw_g (lw_at lw_m8 31 rfl) rfl
theorem q1833 : (Jvm.Cond.code ({ cls := "HornHousesModel", name := "town", desc := "(I)I" } : Jvm.MethodName) prog_12_method_40_code (3 : Nat) (Option.some Jvm.ClassFile.FieldType.int)) ∈ lw_all := lw_g (lw_at lw_m8 32 rfl) rfl
theorem q1834 : (Jvm.Cond.methodLink "HornHousesModel" (268 : Nat) ({ cls := "HornHousesModel", name := "right", desc := "(ZI)Z" } : Jvm.MethodName)) ∈ lw_all := lw_g (lw_at lw_m8 33 rfl) rfl
theorem q1835 : (Jvm.Cond.privateMethod ({ cls := "HornHousesModel", name := "right", desc := "(ZI)Z" } : Jvm.MethodName)) ∈ lw_tbl := lw_at lw_m8 34 rfl
theorem q1836 : (Jvm.Cond.instanceMethod ({ cls := "HornHousesModel", name := "right", desc := "(ZI)Z" } : Jvm.MethodName)) ∈ lw_all := lw_g (lw_at lw_m8 35 rfl) rfl
theorem q1837 : (Jvm.Cond.code ({ cls := "HornHousesModel", name := "right", desc := "(ZI)Z" } : Jvm.MethodName) prog_12_method_3_code (3 : Nat) (Option.some Jvm.ClassFile.FieldType.boolean)) ∈ lw_all := lw_g (lw_at lw_m8 36 rfl) rfl
theorem q1838 : (Jvm.Cond.methodLink "HornHousesModel" (174 : Nat) ({ cls := "HornHousesModel", name := "takes", desc := "()V" } : Jvm.MethodName)) ∈ lw_all := lw_g (lw_at lw_m8 37 rfl) rfl
theorem q1839 : (Jvm.Cond.privateMethod ({ cls := "HornHousesModel", name := "takes", desc := "()V" } : Jvm.MethodName)) ∈ lw_tbl := lw_at lw_m8 38 rfl
theorem q1840 : (Jvm.Cond.instanceMethod ({ cls := "HornHousesModel", name := "takes", desc := "()V" } : Jvm.MethodName)) ∈ lw_all := lw_g (lw_at lw_m8 39 rfl) rfl
theorem q1841 : (Jvm.Cond.code ({ cls := "HornHousesModel", name := "takes", desc := "()V" } : Jvm.MethodName) prog_12_method_15_code (2 : Nat) (Option.none : Option Jvm.ClassFile.FieldType)) ∈ lw_all := lw_g (lw_at lw_m8 40 rfl) rfl
theorem q1842 : (Jvm.Cond.methodLink "HornHousesModel" (127 : Nat) ({ cls := "HornHousesModel", name := "byteAt", desc := "(I)I" } : Jvm.MethodName)) ∈ lw_all := lw_g (lw_at lw_m8 41 rfl) rfl
theorem q1843 : (Jvm.Cond.privateMethod ({ cls := "HornHousesModel", name := "byteAt", desc := "(I)I" } : Jvm.MethodName)) ∈ lw_tbl := lw_at lw_m8 42 rfl
theorem q1844 : (Jvm.Cond.instanceMethod ({ cls := "HornHousesModel", name := "byteAt", desc := "(I)I" } : Jvm.MethodName)) ∈ lw_all := lw_g (lw_at lw_m8 43 rfl) rfl
theorem q1845 : (Jvm.Cond.code ({ cls := "HornHousesModel", name := "byteAt", desc := "(I)I" } : Jvm.MethodName) prog_12_method_12_code (2 : Nat) (Option.some Jvm.ClassFile.FieldType.int)) ∈ lw_all := lw_g (lw_at lw_m8 44 rfl) rfl
theorem q1846 : (Jvm.Cond.methodLink "HornHousesModel" (147 : Nat) ({ cls := "HornHousesModel", name := "isLetter", desc := "(I)Z" } : Jvm.MethodName)) ∈ lw_all := lw_g (lw_at lw_m8 45 rfl) rfl
theorem q1847 : (Jvm.Cond.static ({ cls := "HornHousesModel", name := "isLetter", desc := "(I)Z" } : Jvm.MethodName)) ∈ lw_all := lw_g (lw_at lw_m8 46 rfl) rfl
theorem q1848 : (Jvm.Cond.code ({ cls := "HornHousesModel", name := "isLetter", desc := "(I)Z" } : Jvm.MethodName) prog_12_method_13_code (1 : Nat) (Option.some Jvm.ClassFile.FieldType.boolean)) ∈ lw_all := lw_g (lw_at lw_m8 47 rfl) rfl
theorem q1849 : (Jvm.Cond.methodLink "HornHousesModel" (151 : Nat) ({ cls := "HornHousesModel", name := "isDigit", desc := "(I)Z" } : Jvm.MethodName)) ∈ lw_all := lw_g (lw_at lw_m8 48 rfl) rfl
theorem q1850 : (Jvm.Cond.static ({ cls := "HornHousesModel", name := "isDigit", desc := "(I)Z" } : Jvm.MethodName)) ∈ lw_all := lw_g (lw_at lw_m8 49 rfl) rfl
theorem q1851 : (Jvm.Cond.code ({ cls := "HornHousesModel", name := "isDigit", desc := "(I)Z" } : Jvm.MethodName) prog_12_method_14_code (1 : Nat) (Option.some Jvm.ClassFile.FieldType.boolean)) ∈ lw_all := lw_g (lw_at lw_m8 50 rfl) rfl
theorem q1852 : (Jvm.Cond.methodLink "HornHousesModel" (170 : Nat) ({ cls := "HornHousesModel", name := "isGood", desc := "()Z" } : Jvm.MethodName)) ∈ lw_all := lw_g (lw_at lw_m8 51 rfl) rfl
theorem q1853 : (Jvm.Cond.privateMethod ({ cls := "HornHousesModel", name := "isGood", desc := "()Z" } : Jvm.MethodName)) ∈ lw_tbl := lw_at lw_m8 52 rfl
theorem q1854 : (Jvm.Cond.instanceMethod ({ cls := "HornHousesModel", name := "isGood", desc := "()Z" } : Jvm.MethodName)) ∈ lw_all := lw_g (lw_at lw_m8 53 rfl) rfl
theorem q1855 : (Jvm.Cond.code ({ cls := "HornHousesModel", name := "isGood", desc := "()Z" } : Jvm.MethodName) prog_12_method_20_code (1 : Nat) (Option.some Jvm.ClassFile.FieldType.boolean)) ∈ lw_all := lw_g (lw_at lw_m8 54 rfl) rfl
theorem q1856 : (Jvm.Cond.methodLink "HornHousesModel" (272 : Nat) ({ cls := "HornHousesModel", name := "line", desc := "()V" } : Jvm.MethodName)) ∈ lw_all := lw_g (lw_at lw_m8 55 rfl) rfl
theorem q1857 : (Jvm.Cond.privateMethod ({ cls := "HornHousesModel", name := "line", desc := "()V" } : Jvm.MethodName)) ∈ lw_tbl := lw_at lw_m8 56 rfl
theorem q1858 : (Jvm.Cond.instanceMethod ({ cls := "HornHousesModel", name := "line", desc := "()V" } : Jvm.MethodName)) ∈ lw_all := lw_g (lw_at lw_m8 57 rfl) rfl
theorem q1859 : (Jvm.Cond.code ({ cls := "HornHousesModel", name := "line", desc := "()V" } : Jvm.MethodName) prog_12_method_39_code (2 : Nat) (Option.none : Option Jvm.ClassFile.FieldType)) ∈ lw_all := lw_g (lw_at lw_m8 58 rfl) rfl
theorem q1860 : (Jvm.Cond.methodLink "HornHousesModel" (195 : Nat) ({ cls := "HornHousesModel", name := "knownWord", desc := "()I" } : Jvm.MethodName)) ∈ lw_all := lw_g (lw_at lw_m8 59 rfl) rfl
theorem q1861 : (Jvm.Cond.privateMethod ({ cls := "HornHousesModel", name := "knownWord", desc := "()I" } : Jvm.MethodName)) ∈ lw_tbl := lw_at lw_m8 60 rfl
theorem q1862 : (Jvm.Cond.instanceMethod ({ cls := "HornHousesModel", name := "knownWord", desc := "()I" } : Jvm.MethodName)) ∈ lw_all := lw_g (lw_at lw_m8 61 rfl) rfl
theorem q1863 : (Jvm.Cond.code ({ cls := "HornHousesModel", name := "knownWord", desc := "()I" } : Jvm.MethodName) prog_12_method_18_code (2 : Nat) (Option.some Jvm.ClassFile.FieldType.int)) ∈ lw_all := lw_g (lw_at lw_m8 62 rfl) rfl
theorem q1864 : (Jvm.Cond.methodLink "HornHousesModel" (163 : Nat) ({ cls := "HornHousesModel", name := "letters", desc := "(I)J" } : Jvm.MethodName)) ∈ lw_all := lw_g (lw_at lw_m8 63 rfl) rfl
theorem q1865 : (Jvm.Cond.static ({ cls := "HornHousesModel", name := "letters", desc := "(I)J" } : Jvm.MethodName)) ∈ lw_all := lw_g (lw_at lw_m8 64 rfl) rfl
theorem q1866 : (Jvm.Cond.code ({ cls := "HornHousesModel", name := "letters", desc := "(I)J" } : Jvm.MethodName) prog_12_method_17_code (1 : Nat) (Option.some Jvm.ClassFile.FieldType.long)) ∈ lw_all := lw_g (lw_at lw_m8 65 rfl) rfl
theorem q1867 : (Jvm.Cond.methodLink "HornHousesModel" (159 : Nat) ({ cls := "HornHousesModel", name := "spelled", desc := "(IIIIII)J" } : Jvm.MethodName)) ∈ lw_all := lw_g (lw_at lw_m8 66 rfl) rfl
theorem q1868 : (Jvm.Cond.static ({ cls := "HornHousesModel", name := "spelled", desc := "(IIIIII)J" } : Jvm.MethodName)) ∈ lw_all := lw_g (lw_at lw_m8 67 rfl) rfl
theorem q1869 : (Jvm.Cond.code ({ cls := "HornHousesModel", name := "spelled", desc := "(IIIIII)J" } : Jvm.MethodName) prog_12_method_16_code (8 : Nat) (Option.some Jvm.ClassFile.FieldType.long)) ∈ lw_all := lw_g (lw_at lw_m8 68 rfl) rfl
theorem q1870 : (Jvm.Cond.constantLong "HornHousesModel" (157 : Nat) (96 : Int64)) ∈ lw_all := lw_g (lw_at lw_m8 69 rfl) rfl
theorem q1871 : (Jvm.Cond.methodLink "HornHousesModel" (243 : Nat) ({ cls := "HornHousesModel", name := "begins", desc := "(ZZ)Z" } : Jvm.MethodName)) ∈ lw_all := lw_g (lw_at lw_m8 70 rfl) rfl
theorem q1872 : (Jvm.Cond.privateMethod ({ cls := "HornHousesModel", name := "begins", desc := "(ZZ)Z" } : Jvm.MethodName)) ∈ lw_tbl := lw_at lw_m8 71 rfl
theorem q1873 : (Jvm.Cond.instanceMethod ({ cls := "HornHousesModel", name := "begins", desc := "(ZZ)Z" } : Jvm.MethodName)) ∈ lw_all := lw_g (lw_at lw_m8 72 rfl) rfl
theorem q1874 : (Jvm.Cond.code ({ cls := "HornHousesModel", name := "begins", desc := "(ZZ)Z" } : Jvm.MethodName) prog_12_method_35_code (3 : Nat) (Option.some Jvm.ClassFile.FieldType.boolean)) ∈ lw_all := lw_g (lw_at lw_m8 73 rfl) rfl
theorem q1875 : (Jvm.Cond.methodLink "HornHousesModel" (177 : Nat) ({ cls := "HornHousesModel", name := "wrong", desc := "(I)V" } : Jvm.MethodName)) ∈ lw_all := lw_g (lw_at lw_m8 74 rfl) rfl
theorem q1876 : (Jvm.Cond.privateMethod ({ cls := "HornHousesModel", name := "wrong", desc := "(I)V" } : Jvm.MethodName)) ∈ lw_tbl := lw_at lw_m8 75 rfl
theorem q1877 : (Jvm.Cond.instanceMethod ({ cls := "HornHousesModel", name := "wrong", desc := "(I)V" } : Jvm.MethodName)) ∈ lw_all := lw_g (lw_at lw_m8 76 rfl) rfl
theorem q1878 : (Jvm.Cond.code ({ cls := "HornHousesModel", name := "wrong", desc := "(I)V" } : Jvm.MethodName) prog_12_method_19_code (2 : Nat) (Option.none : Option Jvm.ClassFile.FieldType)) ∈ lw_all := lw_g (lw_at lw_m8 77 rfl) rfl
theorem q1879 : (Jvm.Cond.methodLink "HornHousesModel" (247 : Nat) ({ cls := "HornHousesModel", name := "readsHouse", desc := "()V" } : Jvm.MethodName)) ∈ lw_all := lw_g (lw_at lw_m8 78 rfl) rfl
theorem q1880 : (Jvm.Cond.privateMethod ({ cls := "HornHousesModel", name := "readsHouse", desc := "()V" } : Jvm.MethodName)) ∈ lw_tbl := lw_at lw_m8 79 rfl
theorem q1881 : (Jvm.Cond.instanceMethod ({ cls := "HornHousesModel", name := "readsHouse", desc := "()V" } : Jvm.MethodName)) ∈ lw_all := lw_g (lw_at lw_m8 80 rfl) rfl
theorem q1882 : (Jvm.Cond.code ({ cls := "HornHousesModel", name := "readsHouse", desc := "()V" } : Jvm.MethodName) prog_12_method_36_code (2 : Nat) (Option.none : Option Jvm.ClassFile.FieldType)) ∈ lw_all := lw_g (lw_at lw_m8 81 rfl) rfl
theorem q1883 : (Jvm.Cond.methodLink "HornHousesModel" (233 : Nat) ({ cls := "HornHousesModel", name := "number", desc := "(II)I" } : Jvm.MethodName)) ∈ lw_all := lw_g (lw_at lw_m8 82 rfl) rfl
theorem q1884 : (Jvm.Cond.privateMethod ({ cls := "HornHousesModel", name := "number", desc := "(II)I" } : Jvm.MethodName)) ∈ lw_tbl := lw_at lw_m8 83 rfl
theorem q1885 : (Jvm.Cond.instanceMethod ({ cls := "HornHousesModel", name := "number", desc := "(II)I" } : Jvm.MethodName)) ∈ lw_all := lw_g (lw_at lw_m8 84 rfl) rfl
theorem q1886 : (Jvm.Cond.code ({ cls := "HornHousesModel", name := "number", desc := "(II)I" } : Jvm.MethodName) prog_12_method_23_code (4 : Nat) (Option.some Jvm.ClassFile.FieldType.int)) ∈ lw_all := lw_g (lw_at lw_m8 85 rfl) rfl
theorem q1887 : (Jvm.Cond.methodLink "HornHousesModel" (250 : Nat) ({ cls := "HornHousesModel", name := "readsPerson", desc := "()V" } : Jvm.MethodName)) ∈ lw_all := lw_g (lw_at lw_m8 86 rfl) rfl
theorem q1888 : (Jvm.Cond.privateMethod ({ cls := "HornHousesModel", name := "readsPerson", desc := "()V" } : Jvm.MethodName)) ∈ lw_tbl := lw_at lw_m8 87 rfl
theorem q1889 : (Jvm.Cond.instanceMethod ({ cls := "HornHousesModel", name := "readsPerson", desc := "()V" } : Jvm.MethodName)) ∈ lw_all := lw_g (lw_at lw_m8 88 rfl) rfl
theorem q1890 : (Jvm.Cond.code ({ cls := "HornHousesModel", name := "readsPerson", desc := "()V" } : Jvm.MethodName) prog_12_method_37_code (2 : Nat) (Option.none : Option Jvm.ClassFile.FieldType)) ∈ lw_all := lw_g (lw_at lw_m8 89 rfl) rfl
theorem q1891 : (Jvm.Cond.methodLink "HornHousesModel" (253 : Nat) ({ cls := "HornHousesModel", name := "readsDamp", desc := "()V" } : Jvm.MethodName)) ∈ lw_all := lw_g (lw_at lw_m8 90 rfl) rfl
theorem q1892 : (Jvm.Cond.privateMethod ({ cls := "HornHousesModel", name := "readsDamp", desc := "()V" } : Jvm.MethodName)) ∈ lw_tbl := lw_at lw_m8 91 rfl
theorem q1893 : (Jvm.Cond.instanceMethod ({ cls := "HornHousesModel", name := "readsDamp", desc := "()V" } : Jvm.MethodName)) ∈ lw_all := lw_g (lw_at lw_m8 92 rfl) rfl
theorem q1894 : (Jvm.Cond.code ({ cls := "HornHousesModel", name := "readsDamp", desc := "()V" } : Jvm.MethodName) prog_12_method_38_code (3 : Nat) (Option.none : Option Jvm.ClassFile.FieldType)) ∈ lw_all := lw_g (lw_at lw_m8 93 rfl) rfl
theorem q1895 : (Jvm.Cond.methodLink "HornHousesModel" (259 : Nat) ({ cls := "HornHousesModel", name := "expression", desc := "(I)V" } : Jvm.MethodName)) ∈ lw_all := lw_g (lw_at lw_m8 94 rfl) rfl
theorem q1896 : (Jvm.Cond.privateMethod ({ cls := "HornHousesModel", name := "expression", desc := "(I)V" } : Jvm.MethodName)) ∈ lw_tbl := lw_at lw_m8 95 rfl
theorem q1897 : (Jvm.Cond.instanceMethod ({ cls := "HornHousesModel", name := "expression", desc := "(I)V" } : Jvm.MethodName)) ∈ lw_all := lw_g (lw_at lw_m8 96 rfl) rfl
theorem q1898 : (Jvm.Cond.code ({ cls := "HornHousesModel", name := "expression", desc := "(I)V" } : Jvm.MethodName) prog_12_method_34_code (4 : Nat) (Option.none : Option Jvm.ClassFile.FieldType)) ∈ lw_all := lw_g (lw_at lw_m8 97 rfl) rfl
theorem q1899 : (Jvm.Cond.methodLink "HornHousesModel" (211 : Nat) ({ cls := "HornHousesModel", name := "deeper", desc := "()V" } : Jvm.MethodName)) ∈ lw_all := lw_g (lw_at lw_m8 98 rfl) rfl
theorem q1900 : (Jvm.Cond.privateMethod ({ cls := "HornHousesModel", name := "deeper", desc := "()V" } : Jvm.MethodName)) ∈ lw_tbl := lw_at lw_m8 99 rfl
theorem q1901 : (Jvm.Cond.instanceMethod ({ cls := "HornHousesModel", name := "deeper", desc := "()V" } : Jvm.MethodName)) ∈ lw_all := lw_g (lw_at lw_m8 100 rfl) rfl
theorem q1902 : (Jvm.Cond.code ({ cls := "HornHousesModel", name := "deeper", desc := "()V" } : Jvm.MethodName) prog_12_method_30_code (1 : Nat) (Option.none : Option Jvm.ClassFile.FieldType)) ∈ lw_all := lw_g (lw_at lw_m8 101 rfl) rfl
theorem q1903 : (Jvm.Cond.methodLink "HornHousesModel" (205 : Nat) ({ cls := "HornHousesModel", name := "isSign", desc := "(I)Z" } : Jvm.MethodName)) ∈ lw_all := lw_g (lw_at lw_m8 102 rfl) rfl
theorem q1904 : (Jvm.Cond.privateMethod ({ cls := "HornHousesModel", name := "isSign", desc := "(I)Z" } : Jvm.MethodName)) ∈ lw_tbl := lw_at lw_m8 103 rfl
theorem q1905 : (Jvm.Cond.instanceMethod ({ cls := "HornHousesModel", name := "isSign", desc := "(I)Z" } : Jvm.MethodName)) ∈ lw_all := lw_g (lw_at lw_m8 104 rfl) rfl
theorem q1906 : (Jvm.Cond.code ({ cls := "HornHousesModel", name := "isSign", desc := "(I)Z" } : Jvm.MethodName) prog_12_method_21_code (2 : Nat) (Option.some Jvm.ClassFile.FieldType.boolean)) ∈ lw_all := lw_g (lw_at lw_m8 105 rfl) rfl
theorem q1907 : (Jvm.Cond.methodLink "HornHousesModel" (220 : Nat) ({ cls := "HornHousesModel", name := "operand", desc := "(Z)V" } : Jvm.MethodName)) ∈ lw_all := lw_g (lw_at lw_m8 106 rfl) rfl
theorem q1908 : (Jvm.Cond.privateMethod ({ cls := "HornHousesModel", name := "operand", desc := "(Z)V" } : Jvm.MethodName)) ∈ lw_tbl := lw_at lw_m8 107 rfl
theorem q1909 : (Jvm.Cond.instanceMethod ({ cls := "HornHousesModel", name := "operand", desc := "(Z)V" } : Jvm.MethodName)) ∈ lw_all := lw_g (lw_at lw_m8 108 rfl) rfl
theorem q1910 : (Jvm.Cond.code ({ cls := "HornHousesModel", name := "operand", desc := "(Z)V" } : Jvm.MethodName) prog_12_method_31_code (5 : Nat) (Option.none : Option Jvm.ClassFile.FieldType)) ∈ lw_all := lw_g (lw_at lw_m8 109 rfl) rfl
theorem q1911 : (Jvm.Cond.methodLink "HornHousesModel" (208 : Nat) ({ cls := "HornHousesModel", name := "waitsFor", desc := "(I)V" } : Jvm.MethodName)) ∈ lw_all := lw_g (lw_at lw_m8 110 rfl) rfl
theorem q1912 : (Jvm.Cond.privateMethod ({ cls := "HornHousesModel", name := "waitsFor", desc := "(I)V" } : Jvm.MethodName)) ∈ lw_tbl := lw_at lw_m8 111 rfl
theorem q1913 : (Jvm.Cond.instanceMethod ({ cls := "HornHousesModel", name := "waitsFor", desc := "(I)V" } : Jvm.MethodName)) ∈ lw_all := lw_g (lw_at lw_m8 112 rfl) rfl
theorem q1914 : (Jvm.Cond.code ({ cls := "HornHousesModel", name := "waitsFor", desc := "(I)V" } : Jvm.MethodName) prog_12_method_28_code (2 : Nat) (Option.none : Option Jvm.ClassFile.FieldType)) ∈ lw_all := lw_g (lw_at lw_m8 113 rfl) rfl
theorem q1915 : (Jvm.Cond.methodLink "HornHousesModel" (214 : Nat) ({ cls := "HornHousesModel", name := "part", desc := "()V" } : Jvm.MethodName)) ∈ lw_all := lw_g (lw_at lw_m8 114 rfl) rfl
theorem q1916 : (Jvm.Cond.privateMethod ({ cls := "HornHousesModel", name := "part", desc := "()V" } : Jvm.MethodName)) ∈ lw_tbl := lw_at lw_m8 115 rfl
theorem q1917 : (Jvm.Cond.instanceMethod ({ cls := "HornHousesModel", name := "part", desc := "()V" } : Jvm.MethodName)) ∈ lw_all := lw_g (lw_at lw_m8 116 rfl) rfl
theorem q1918 : (Jvm.Cond.code ({ cls := "HornHousesModel", name := "part", desc := "()V" } : Jvm.MethodName) prog_12_method_29_code (2 : Nat) (Option.none : Option Jvm.ClassFile.FieldType)) ∈ lw_all := lw_g (lw_at lw_m8 117 rfl) rfl
theorem q1919 : (Jvm.Cond.methodLink "HornHousesModel" (192 : Nat) ({ cls := "HornHousesModel", name := "puts", desc := "(I)V" } : Jvm.MethodName)) ∈ lw_all := lw_g (lw_at lw_m8 118 rfl) rfl
theorem q1920 : (Jvm.Cond.privateMethod ({ cls := "HornHousesModel", name := "puts", desc := "(I)V" } : Jvm.MethodName)) ∈ lw_tbl := lw_at lw_m8 119 rfl
theorem q1921 : (Jvm.Cond.instanceMethod ({ cls := "HornHousesModel", name := "puts", desc := "(I)V" } : Jvm.MethodName)) ∈ lw_all := lw_g (lw_at lw_m8 120 rfl) rfl
theorem q1922 : (Jvm.Cond.code ({ cls := "HornHousesModel", name := "puts", desc := "(I)V" } : Jvm.MethodName) prog_12_method_24_code (2 : Nat) (Option.none : Option Jvm.ClassFile.FieldType)) ∈ lw_all := lw_g (lw_at lw_m8 121 rfl) rfl
theorem q1923 : (Jvm.Cond.methodLink "HornHousesModel" (217 : Nat) ({ cls := "HornHousesModel", name := "drops", desc := "(I)V" } : Jvm.MethodName)) ∈ lw_all := lw_g (lw_at lw_m8 122 rfl) rfl
theorem q1924 : (Jvm.Cond.privateMethod ({ cls := "HornHousesModel", name := "drops", desc := "(I)V" } : Jvm.MethodName)) ∈ lw_tbl := lw_at lw_m8 123 rfl
theorem q1925 : (Jvm.Cond.instanceMethod ({ cls := "HornHousesModel", name := "drops", desc := "(I)V" } : Jvm.MethodName)) ∈ lw_all := lw_g (lw_at lw_m8 124 rfl) rfl
theorem q1926 : (Jvm.Cond.code ({ cls := "HornHousesModel", name := "drops", desc := "(I)V" } : Jvm.MethodName) prog_12_method_27_code (2 : Nat) (Option.none : Option Jvm.ClassFile.FieldType)) ∈ lw_all := lw_g (lw_at lw_m8 125 rfl) rfl
theorem q1927 : (Jvm.Cond.methodLink "HornHousesModel" (186 : Nat) ({ cls := "HornHousesModel", name := "isOpen", desc := "(I)Z" } : Jvm.MethodName)) ∈ lw_all := lw_g (lw_at lw_m8 126 rfl) rfl
theorem q1928 : (Jvm.Cond.static ({ cls := "HornHousesModel", name := "isOpen", desc := "(I)Z" } : Jvm.MethodName)) ∈ lw_all := lw_g (lw_at lw_m8 127 rfl) rfl
theorem q1929 : (Jvm.Cond.code ({ cls := "HornHousesModel", name := "isOpen", desc := "(I)Z" } : Jvm.MethodName) prog_12_method_25_code (1 : Nat) (Option.some Jvm.ClassFile.FieldType.boolean)) ∈ lw_all := lw_g (lw_at lw_m8 128 rfl) rfl
theorem q1930 : (Jvm.Cond.methodLink "HornHousesModel" (189 : Nat) ({ cls := "HornHousesModel", name := "strength", desc := "(I)I" } : Jvm.MethodName)) ∈ lw_all := lw_g (lw_at lw_m8 129 rfl) rfl
theorem q1931 : (Jvm.Cond.static ({ cls := "HornHousesModel", name := "strength", desc := "(I)I" } : Jvm.MethodName)) ∈ lw_all := lw_g (lw_at lw_m8 130 rfl) rfl
theorem q1932 : (Jvm.Cond.code ({ cls := "HornHousesModel", name := "strength", desc := "(I)I" } : Jvm.MethodName) prog_12_method_26_code (1 : Nat) (Option.some Jvm.ClassFile.FieldType.int)) ∈ lw_all := lw_g (lw_at lw_m8 131 rfl) rfl
theorem q1933 : (Jvm.Cond.methodLink "HornHousesModel" (224 : Nat) ({ cls := "HornHousesModel", name := "isOpened", desc := "()Z" } : Jvm.MethodName)) ∈ lw_all := lw_g (lw_at lw_m8 132 rfl) rfl
theorem q1934 : (Jvm.Cond.privateMethod ({ cls := "HornHousesModel", name := "isOpened", desc := "()Z" } : Jvm.MethodName)) ∈ lw_tbl := lw_at lw_m8 133 rfl
theorem q1935 : (Jvm.Cond.instanceMethod ({ cls := "HornHousesModel", name := "isOpened", desc := "()Z" } : Jvm.MethodName)) ∈ lw_all := lw_g (lw_at lw_m8 134 rfl) rfl
theorem q1936 : (Jvm.Cond.code ({ cls := "HornHousesModel", name := "isOpened", desc := "()Z" } : Jvm.MethodName) prog_12_method_32_code (2 : Nat) (Option.some Jvm.ClassFile.FieldType.boolean)) ∈ lw_all := lw_g (lw_at lw_m8 135 rfl) rfl
theorem q1937 : (Jvm.Cond.methodLink "HornHousesModel" (227 : Nat) ({ cls := "HornHousesModel", name := "closes", desc := "()V" } : Jvm.MethodName)) ∈ lw_all := lw_g (lw_at lw_m8 136 rfl) rfl
theorem q1938 : (Jvm.Cond.privateMethod ({ cls := "HornHousesModel", name := "closes", desc := "()V" } : Jvm.MethodName)) ∈ lw_tbl := lw_at lw_m8 137 rfl
theorem q1939 : (Jvm.Cond.instanceMethod ({ cls := "HornHousesModel", name := "closes", desc := "()V" } : Jvm.MethodName)) ∈ lw_all := lw_g (lw_at lw_m8 138 rfl) rfl
theorem q1940 : (Jvm.Cond.code ({ cls := "HornHousesModel", name := "closes", desc := "()V" } : Jvm.MethodName) prog_12_method_33_code (1 : Nat) (Option.none : Option Jvm.ClassFile.FieldType)) ∈ lw_all := lw_g (lw_at lw_m8 139 rfl) rfl
theorem q1941 : (Jvm.Cond.methodLink "HornHousesModel" (265 : Nat) ({ cls := "HornHousesModel", name := "need", desc := "(Z)V" } : Jvm.MethodName)) ∈ lw_all := lw_g (lw_at lw_m8 140 rfl) rfl
theorem q1942 : (Jvm.Cond.privateMethod ({ cls := "HornHousesModel", name := "need", desc := "(Z)V" } : Jvm.MethodName)) ∈ lw_tbl := lw_at lw_m8 141 rfl
theorem q1943 : (Jvm.Cond.instanceMethod ({ cls := "HornHousesModel", name := "need", desc := "(Z)V" } : Jvm.MethodName)) ∈ lw_all := lw_g (lw_at lw_m8 142 rfl) rfl
theorem q1944 : (Jvm.Cond.code ({ cls := "HornHousesModel", name := "need", desc := "(Z)V" } : Jvm.MethodName) prog_12_method_22_code (2 : Nat) (Option.none : Option Jvm.ClassFile.FieldType)) ∈ lw_all := lw_g (lw_at lw_m8 143 rfl) rfl
theorem q1945 : (Jvm.Cond.methodLink "HornHousesModel" (284 : Nat) ({ cls := "HornHousesModel", name := "copies", desc := "([I[I)V" } : Jvm.MethodName)) ∈ lw_all := lw_g (lw_at lw_m8 144 rfl) rfl
theorem q1946 : (Jvm.Cond.privateMethod ({ cls := "HornHousesModel", name := "copies", desc := "([I[I)V" } : Jvm.MethodName)) ∈ lw_tbl := lw_at lw_m8 145 rfl
theorem q1947 : (Jvm.Cond.instanceMethod ({ cls := "HornHousesModel", name := "copies", desc := "([I[I)V" } : Jvm.MethodName)) ∈ lw_all := lw_g (lw_at lw_m8 146 rfl) rfl
theorem q1948 : (Jvm.Cond.code ({ cls := "HornHousesModel", name := "copies", desc := "([I[I)V" } : Jvm.MethodName) prog_12_method_8_code (4 : Nat) (Option.none : Option Jvm.ClassFile.FieldType)) ∈ lw_all := lw_g (lw_at lw_m8 147 rfl) rfl
theorem q1950 : (Jvm.Cond.instanceMethod ({ cls := "HornHousesModel", name := "fault", desc := "()I" } : Jvm.MethodName)) ∈ lw_all := lw_g (lw_at lw_m8 149 rfl) rfl
theorem q1951 : (Jvm.Cond.selects "HornHousesModel" ({ cls := "HornHousesModel", name := "fault", desc := "()I" } : Jvm.MethodName) ({ cls := "HornHousesModel", name := "fault", desc := "()I" } : Jvm.MethodName)) ∈ lw_all := lw_g (lw_at lw_m8 150 rfl) rfl
theorem q1952 : (Jvm.Cond.code ({ cls := "HornHousesModel", name := "fault", desc := "()I" } : Jvm.MethodName) prog_12_method_41_code (1 : Nat) (Option.some Jvm.ClassFile.FieldType.int)) ∈ lw_all := lw_g (lw_at lw_m8 151 rfl) rfl
theorem q1954 : (Jvm.Cond.instanceMethod ({ cls := "HornHousesModel", name := "undo", desc := "()I" } : Jvm.MethodName)) ∈ lw_all := lw_g (lw_at lw_m8 153 rfl) rfl
theorem q1955 : (Jvm.Cond.selects "HornHousesModel" ({ cls := "HornHousesModel", name := "undo", desc := "()I" } : Jvm.MethodName) ({ cls := "HornHousesModel", name := "undo", desc := "()I" } : Jvm.MethodName)) ∈ lw_all := lw_g (lw_at lw_m8 154 rfl) rfl
theorem q1956 : (Jvm.Cond.code ({ cls := "HornHousesModel", name := "undo", desc := "()I" } : Jvm.MethodName) prog_12_method_44_code (2 : Nat) (Option.some Jvm.ClassFile.FieldType.int)) ∈ lw_all := lw_g (lw_at lw_m8 155 rfl) rfl
theorem q1958 : (Jvm.Cond.instanceMethod ({ cls := "HornHousesModel", name := "count", desc := "(I)I" } : Jvm.MethodName)) ∈ lw_all := lw_g (lw_at lw_m8 157 rfl) rfl
theorem q1959 : (Jvm.Cond.selects "HornHousesModel" ({ cls := "HornHousesModel", name := "count", desc := "(I)I" } : Jvm.MethodName) ({ cls := "HornHousesModel", name := "count", desc := "(I)I" } : Jvm.MethodName)) ∈ lw_all := lw_g (lw_at lw_m8 158 rfl) rfl
theorem q1960 : (Jvm.Cond.code ({ cls := "HornHousesModel", name := "count", desc := "(I)I" } : Jvm.MethodName) prog_12_method_64_code (2 : Nat) (Option.some Jvm.ClassFile.FieldType.int)) ∈ lw_all := lw_g (lw_at lw_m8 159 rfl) rfl
theorem q1961 : (Jvm.Cond.methodLink "HornHousesModel" (345 : Nat) ({ cls := "HornHousesModel", name := "within", desc := "(III)Z" } : Jvm.MethodName)) ∈ lw_all := lw_g (lw_at lw_m8 160 rfl) rfl
theorem q1962 : (Jvm.Cond.static ({ cls := "HornHousesModel", name := "within", desc := "(III)Z" } : Jvm.MethodName)) ∈ lw_all := lw_g (lw_at lw_m8 161 rfl) rfl
theorem q1963 : (Jvm.Cond.code ({ cls := "HornHousesModel", name := "within", desc := "(III)Z" } : Jvm.MethodName) prog_12_method_4_code (3 : Nat) (Option.some Jvm.ClassFile.FieldType.boolean)) ∈ lw_all := lw_g (lw_at lw_m8 162 rfl) rfl
theorem q1964 : (Jvm.Cond.methodLink "HornHousesModel" (309 : Nat) ({ cls := "HornHousesModel", name := "dampIn", desc := "(I)I" } : Jvm.MethodName)) ∈ lw_all := lw_g (lw_at lw_m8 163 rfl) rfl
theorem q1965 : (Jvm.Cond.privateMethod ({ cls := "HornHousesModel", name := "dampIn", desc := "(I)I" } : Jvm.MethodName)) ∈ lw_tbl := lw_at lw_m8 164 rfl
theorem q1966 : (Jvm.Cond.instanceMethod ({ cls := "HornHousesModel", name := "dampIn", desc := "(I)I" } : Jvm.MethodName)) ∈ lw_all := lw_g (lw_at lw_m8 165 rfl) rfl
theorem q1967 : (Jvm.Cond.code ({ cls := "HornHousesModel", name := "dampIn", desc := "(I)I" } : Jvm.MethodName) prog_12_method_49_code (2 : Nat) (Option.some Jvm.ClassFile.FieldType.int)) ∈ lw_all := lw_g (lw_at lw_m8 166 rfl) rfl
theorem q1968 : (Jvm.Cond.methodLink "HornHousesModel" (302 : Nat) ({ cls := "HornHousesModel", name := "toldDamp", desc := "(I)I" } : Jvm.MethodName)) ∈ lw_all := lw_g (lw_at lw_m8 167 rfl) rfl
theorem q1969 : (Jvm.Cond.privateMethod ({ cls := "HornHousesModel", name := "toldDamp", desc := "(I)I" } : Jvm.MethodName)) ∈ lw_tbl := lw_at lw_m8 168 rfl
theorem q1970 : (Jvm.Cond.instanceMethod ({ cls := "HornHousesModel", name := "toldDamp", desc := "(I)I" } : Jvm.MethodName)) ∈ lw_all := lw_g (lw_at lw_m8 169 rfl) rfl
theorem q1971 : (Jvm.Cond.code ({ cls := "HornHousesModel", name := "toldDamp", desc := "(I)I" } : Jvm.MethodName) prog_12_method_48_code (2 : Nat) (Option.some Jvm.ClassFile.FieldType.int)) ∈ lw_all := lw_g (lw_at lw_m8 170 rfl) rfl
theorem q1972 : (Jvm.Cond.methodLink "HornHousesModel" (349 : Nat) ({ cls := "HornHousesModel", name := "taken", desc := "()I" } : Jvm.MethodName)) ∈ lw_all := lw_g (lw_at lw_m8 171 rfl) rfl
theorem q1973 : (Jvm.Cond.privateMethod ({ cls := "HornHousesModel", name := "taken", desc := "()I" } : Jvm.MethodName)) ∈ lw_tbl := lw_at lw_m8 172 rfl
theorem q1974 : (Jvm.Cond.instanceMethod ({ cls := "HornHousesModel", name := "taken", desc := "()I" } : Jvm.MethodName)) ∈ lw_all := lw_g (lw_at lw_m8 173 rfl) rfl
theorem q1975 : (Jvm.Cond.code ({ cls := "HornHousesModel", name := "taken", desc := "()I" } : Jvm.MethodName) prog_12_method_63_code (3 : Nat) (Option.some Jvm.ClassFile.FieldType.int)) ∈ lw_all := lw_g (lw_at lw_m8 174 rfl) rfl
theorem q1976 : (Jvm.Cond.methodLink "HornHousesModel" (352 : Nat) ({ cls := "HornHousesModel", name := "lodgersIn", desc := "(I)I" } : Jvm.MethodName)) ∈ lw_all := lw_g (lw_at lw_m8 175 rfl) rfl
theorem q1977 : (Jvm.Cond.privateMethod ({ cls := "HornHousesModel", name := "lodgersIn", desc := "(I)I" } : Jvm.MethodName)) ∈ lw_tbl := lw_at lw_m8 176 rfl
theorem q1978 : (Jvm.Cond.instanceMethod ({ cls := "HornHousesModel", name := "lodgersIn", desc := "(I)I" } : Jvm.MethodName)) ∈ lw_all := lw_g (lw_at lw_m8 177 rfl) rfl
theorem q1979 : (Jvm.Cond.code ({ cls := "HornHousesModel", name := "lodgersIn", desc := "(I)I" } : Jvm.MethodName) prog_12_method_59_code (4 : Nat) (Option.some Jvm.ClassFile.FieldType.int)) ∈ lw_all := lw_g (lw_at lw_m8 178 rfl) rfl
theorem q1980 : (Jvm.Cond.methodLink "HornHousesModel" (339 : Nat) ({ cls := "HornHousesModel", name := "houseOf", desc := "(II)I" } : Jvm.MethodName)) ∈ lw_all := lw_g (lw_at lw_m8 179 rfl) rfl
theorem q1981 : (Jvm.Cond.privateMethod ({ cls := "HornHousesModel", name := "houseOf", desc := "(II)I" } : Jvm.MethodName)) ∈ lw_tbl := lw_at lw_m8 180 rfl
theorem q1982 : (Jvm.Cond.instanceMethod ({ cls := "HornHousesModel", name := "houseOf", desc := "(II)I" } : Jvm.MethodName)) ∈ lw_all := lw_g (lw_at lw_m8 181 rfl) rfl
theorem q1983 : (Jvm.Cond.code ({ cls := "HornHousesModel", name := "houseOf", desc := "(II)I" } : Jvm.MethodName) prog_12_method_55_code (4 : Nat) (Option.some Jvm.ClassFile.FieldType.int)) ∈ lw_all := lw_g (lw_at lw_m8 182 rfl) rfl
theorem q1984 : (Jvm.Cond.methodLink "HornHousesModel" (355 : Nat) ({ cls := "HornHousesModel", name := "soreIn", desc := "(I)I" } : Jvm.MethodName)) ∈ lw_all := lw_g (lw_at lw_m8 183 rfl) rfl
theorem q1985 : (Jvm.Cond.privateMethod ({ cls := "HornHousesModel", name := "soreIn", desc := "(I)I" } : Jvm.MethodName)) ∈ lw_tbl := lw_at lw_m8 184 rfl
theorem q1986 : (Jvm.Cond.instanceMethod ({ cls := "HornHousesModel", name := "soreIn", desc := "(I)I" } : Jvm.MethodName)) ∈ lw_all := lw_g (lw_at lw_m8 185 rfl) rfl
theorem q1987 : (Jvm.Cond.code ({ cls := "HornHousesModel", name := "soreIn", desc := "(I)I" } : Jvm.MethodName) prog_12_method_60_code (4 : Nat) (Option.some Jvm.ClassFile.FieldType.int)) ∈ lw_all := lw_g (lw_at lw_m8 186 rfl) rfl
theorem q1988 : (Jvm.Cond.methodLink "HornHousesModel" (358 : Nat) ({ cls := "HornHousesModel", name := "tightest", desc := "()I" } : Jvm.MethodName)) ∈ lw_all := lw_g (lw_at lw_m8 187 rfl) rfl
theorem q1989 : (Jvm.Cond.privateMethod ({ cls := "HornHousesModel", name := "tightest", desc := "()I" } : Jvm.MethodName)) ∈ lw_tbl := lw_at lw_m8 188 rfl
theorem q1990 : (Jvm.Cond.instanceMethod ({ cls := "HornHousesModel", name := "tightest", desc := "()I" } : Jvm.MethodName)) ∈ lw_all := lw_g (lw_at lw_m8 189 rfl) rfl
theorem q1991 : (Jvm.Cond.code ({ cls := "HornHousesModel", name := "tightest", desc := "()I" } : Jvm.MethodName) prog_12_method_62_code (3 : Nat) (Option.some Jvm.ClassFile.FieldType.int)) ∈ lw_all := lw_g (lw_at lw_m8 190 rfl) rfl
theorem q1992 : (Jvm.Cond.methodLink "HornHousesModel" (342 : Nat) ({ cls := "HornHousesModel", name := "tightNow", desc := "(I)I" } : Jvm.MethodName)) ∈ lw_all := lw_g (lw_at lw_m8 191 rfl) rfl
theorem q1993 : (Jvm.Cond.privateMethod ({ cls := "HornHousesModel", name := "tightNow", desc := "(I)I" } : Jvm.MethodName)) ∈ lw_tbl := lw_at lw_m8 192 rfl
theorem q1994 : (Jvm.Cond.instanceMethod ({ cls := "HornHousesModel", name := "tightNow", desc := "(I)I" } : Jvm.MethodName)) ∈ lw_all := lw_g (lw_at lw_m8 193 rfl) rfl
theorem q1995 : (Jvm.Cond.code ({ cls := "HornHousesModel", name := "tightNow", desc := "(I)I" } : Jvm.MethodName) prog_12_method_61_code (3 : Nat) (Option.some Jvm.ClassFile.FieldType.int)) ∈ lw_all := lw_g (lw_at lw_m8 194 rfl) rfl
theorem q1996 : (Jvm.Cond.methodLink "HornHousesModel" (312 : Nat) ({ cls := "HornHousesModel", name := "tightOf", desc := "(III)I" } : Jvm.MethodName)) ∈ lw_all := lw_g (lw_at lw_m8 195 rfl) rfl
theorem q1997 : (Jvm.Cond.privateMethod ({ cls := "HornHousesModel", name := "tightOf", desc := "(III)I" } : Jvm.MethodName)) ∈ lw_tbl := lw_at lw_m8 196 rfl
theorem q1998 : (Jvm.Cond.instanceMethod ({ cls := "HornHousesModel", name := "tightOf", desc := "(III)I" } : Jvm.MethodName)) ∈ lw_all := lw_g (lw_at lw_m8 197 rfl) rfl
theorem q1999 : (Jvm.Cond.code ({ cls := "HornHousesModel", name := "tightOf", desc := "(III)I" } : Jvm.MethodName) prog_12_method_50_code (4 : Nat) (Option.some Jvm.ClassFile.FieldType.int)) ∈ lw_all := lw_g (lw_at lw_m8 198 rfl) rfl
theorem q2000 : (Jvm.Cond.constant "HornHousesModel" (305 : Nat) (99999 : Int32)) ∈ lw_all := lw_g (lw_at lw_m8 199 rfl) rfl
theorem q2001 : (Jvm.Cond.methodLink "HornHousesModel" (306 : Nat) ({ cls := "HornHousesModel", name := "bounded", desc := "(III)I" } : Jvm.MethodName)) ∈ lw_all := lw_g (lw_at lw_m8 200 rfl) rfl
theorem q2002 : (Jvm.Cond.static ({ cls := "HornHousesModel", name := "bounded", desc := "(III)I" } : Jvm.MethodName)) ∈ lw_all := lw_g (lw_at lw_m8 201 rfl) rfl
theorem q2003 : (Jvm.Cond.code ({ cls := "HornHousesModel", name := "bounded", desc := "(III)I" } : Jvm.MethodName) prog_12_method_5_code (3 : Nat) (Option.some Jvm.ClassFile.FieldType.int)) ∈ lw_all := lw_g (lw_at lw_m8 202 rfl) rfl
theorem q2004 : (Jvm.Cond.methodLink "HornHousesModel" (361 : Nat) ({ cls := "HornHousesModel", name := "needed", desc := "()I" } : Jvm.MethodName)) ∈ lw_all := lw_g (lw_at lw_m8 203 rfl) rfl
theorem q2005 : (Jvm.Cond.privateMethod ({ cls := "HornHousesModel", name := "needed", desc := "()I" } : Jvm.MethodName)) ∈ lw_tbl := lw_at lw_m8 204 rfl
theorem q2006 : (Jvm.Cond.instanceMethod ({ cls := "HornHousesModel", name := "needed", desc := "()I" } : Jvm.MethodName)) ∈ lw_all := lw_g (lw_at lw_m8 205 rfl) rfl
theorem q2007 : (Jvm.Cond.code ({ cls := "HornHousesModel", name := "needed", desc := "()I" } : Jvm.MethodName) prog_12_method_95_code (4 : Nat) (Option.some Jvm.ClassFile.FieldType.int)) ∈ lw_all := lw_g (lw_at lw_m8 206 rfl) rfl
theorem q2008 : (Jvm.Cond.methodLink "HornHousesModel" (412 : Nat) ({ cls := "HornHousesModel", name := "laysMatch", desc := "()V" } : Jvm.MethodName)) ∈ lw_all := lw_g (lw_at lw_m8 207 rfl) rfl
theorem q2009 : (Jvm.Cond.privateMethod ({ cls := "HornHousesModel", name := "laysMatch", desc := "()V" } : Jvm.MethodName)) ∈ lw_tbl := lw_at lw_m8 208 rfl
theorem q2010 : (Jvm.Cond.instanceMethod ({ cls := "HornHousesModel", name := "laysMatch", desc := "()V" } : Jvm.MethodName)) ∈ lw_all := lw_g (lw_at lw_m8 209 rfl) rfl
theorem q2011 : (Jvm.Cond.code ({ cls := "HornHousesModel", name := "laysMatch", desc := "()V" } : Jvm.MethodName) prog_12_method_92_code (5 : Nat) (Option.none : Option Jvm.ClassFile.FieldType)) ∈ lw_all := lw_g (lw_at lw_m8 210 rfl) rfl
theorem q2012 : (Jvm.Cond.methodLink "HornHousesModel" (406 : Nat) ({ cls := "HornHousesModel", name := "leastOf", desc := "(II)I" } : Jvm.MethodName)) ∈ lw_all := lw_g (lw_at lw_m8 211 rfl) rfl
theorem q2013 : (Jvm.Cond.privateMethod ({ cls := "HornHousesModel", name := "leastOf", desc := "(II)I" } : Jvm.MethodName)) ∈ lw_tbl := lw_at lw_m8 212 rfl
theorem q2014 : (Jvm.Cond.instanceMethod ({ cls := "HornHousesModel", name := "leastOf", desc := "(II)I" } : Jvm.MethodName)) ∈ lw_all := lw_g (lw_at lw_m8 213 rfl) rfl
theorem q2015 : (Jvm.Cond.code ({ cls := "HornHousesModel", name := "leastOf", desc := "(II)I" } : Jvm.MethodName) prog_12_method_90_code (3 : Nat) (Option.some Jvm.ClassFile.FieldType.int)) ∈ lw_all := lw_g (lw_at lw_m8 214 rfl) rfl
theorem q2016 : (Jvm.Cond.methodLink "HornHousesModel" (388 : Nat) ({ cls := "HornHousesModel", name := "wouldGo", desc := "(III)Z" } : Jvm.MethodName)) ∈ lw_all := lw_g (lw_at lw_m8 215 rfl) rfl
theorem q2017 : (Jvm.Cond.privateMethod ({ cls := "HornHousesModel", name := "wouldGo", desc := "(III)Z" } : Jvm.MethodName)) ∈ lw_tbl := lw_at lw_m8 216 rfl
theorem q2018 : (Jvm.Cond.instanceMethod ({ cls := "HornHousesModel", name := "wouldGo", desc := "(III)Z" } : Jvm.MethodName)) ∈ lw_all := lw_g (lw_at lw_m8 217 rfl) rfl
theorem q2019 : (Jvm.Cond.code ({ cls := "HornHousesModel", name := "wouldGo", desc := "(III)Z" } : Jvm.MethodName) prog_12_method_54_code (4 : Nat) (Option.some Jvm.ClassFile.FieldType.boolean)) ∈ lw_all := lw_g (lw_at lw_m8 218 rfl) rfl
theorem q2020 : (Jvm.Cond.methodLink "HornHousesModel" (322 : Nat) ({ cls := "HornHousesModel", name := "isBurst", desc := "(II)Z" } : Jvm.MethodName)) ∈ lw_all := lw_g (lw_at lw_m8 219 rfl) rfl
theorem q2021 : (Jvm.Cond.privateMethod ({ cls := "HornHousesModel", name := "isBurst", desc := "(II)Z" } : Jvm.MethodName)) ∈ lw_tbl := lw_at lw_m8 220 rfl
theorem q2022 : (Jvm.Cond.instanceMethod ({ cls := "HornHousesModel", name := "isBurst", desc := "(II)Z" } : Jvm.MethodName)) ∈ lw_all := lw_g (lw_at lw_m8 221 rfl) rfl
theorem q2023 : (Jvm.Cond.code ({ cls := "HornHousesModel", name := "isBurst", desc := "(II)Z" } : Jvm.MethodName) prog_12_method_53_code (3 : Nat) (Option.some Jvm.ClassFile.FieldType.boolean)) ∈ lw_all := lw_g (lw_at lw_m8 222 rfl) rfl
theorem q2024 : (Jvm.Cond.methodLink "HornHousesModel" (326 : Nat) ({ cls := "HornHousesModel", name := "easesOf", desc := "(III)I" } : Jvm.MethodName)) ∈ lw_all := lw_g (lw_at lw_m8 223 rfl) rfl
theorem q2025 : (Jvm.Cond.privateMethod ({ cls := "HornHousesModel", name := "easesOf", desc := "(III)I" } : Jvm.MethodName)) ∈ lw_tbl := lw_at lw_m8 224 rfl
theorem q2026 : (Jvm.Cond.instanceMethod ({ cls := "HornHousesModel", name := "easesOf", desc := "(III)I" } : Jvm.MethodName)) ∈ lw_all := lw_g (lw_at lw_m8 225 rfl) rfl
theorem q2027 : (Jvm.Cond.code ({ cls := "HornHousesModel", name := "easesOf", desc := "(III)I" } : Jvm.MethodName) prog_12_method_52_code (4 : Nat) (Option.some Jvm.ClassFile.FieldType.int)) ∈ lw_all := lw_g (lw_at lw_m8 226 rfl) rfl
theorem q2028 : (Jvm.Cond.methodLink "HornHousesModel" (318 : Nat) ({ cls := "HornHousesModel", name := "asks", desc := "(IIII)I" } : Jvm.MethodName)) ∈ lw_all := lw_g (lw_at lw_m8 227 rfl) rfl
theorem q2029 : (Jvm.Cond.privateMethod ({ cls := "HornHousesModel", name := "asks", desc := "(IIII)I" } : Jvm.MethodName)) ∈ lw_tbl := lw_at lw_m8 228 rfl
theorem q2030 : (Jvm.Cond.instanceMethod ({ cls := "HornHousesModel", name := "asks", desc := "(IIII)I" } : Jvm.MethodName)) ∈ lw_all := lw_g (lw_at lw_m8 229 rfl) rfl
theorem q2031 : (Jvm.Cond.code ({ cls := "HornHousesModel", name := "asks", desc := "(IIII)I" } : Jvm.MethodName) prog_12_method_51_code (5 : Nat) (Option.some Jvm.ClassFile.FieldType.int)) ∈ lw_all := lw_g (lw_at lw_m8 230 rfl) rfl
theorem q2032 : (Jvm.Cond.methodLink "HornHousesModel" (315 : Nat) ({ cls := "HornHousesModel", name := "reckons", desc := "(I)I" } : Jvm.MethodName)) ∈ lw_all := lw_g (lw_at lw_m8 231 rfl) rfl
theorem q2033 : (Jvm.Cond.privateMethod ({ cls := "HornHousesModel", name := "reckons", desc := "(I)I" } : Jvm.MethodName)) ∈ lw_tbl := lw_at lw_m8 232 rfl
theorem q2034 : (Jvm.Cond.instanceMethod ({ cls := "HornHousesModel", name := "reckons", desc := "(I)I" } : Jvm.MethodName)) ∈ lw_all := lw_g (lw_at lw_m8 233 rfl) rfl
theorem q2035 : (Jvm.Cond.code ({ cls := "HornHousesModel", name := "reckons", desc := "(I)I" } : Jvm.MethodName) prog_12_method_47_code (5 : Nat) (Option.some Jvm.ClassFile.FieldType.int)) ∈ lw_all := lw_g (lw_at lw_m8 234 rfl) rfl
theorem q2036 : (Jvm.Cond.methodLink "HornHousesModel" (298 : Nat) ({ cls := "HornHousesModel", name := "works", desc := "(III)I" } : Jvm.MethodName)) ∈ lw_all := lw_g (lw_at lw_m8 235 rfl) rfl
theorem q2037 : (Jvm.Cond.static ({ cls := "HornHousesModel", name := "works", desc := "(III)I" } : Jvm.MethodName)) ∈ lw_all := lw_g (lw_at lw_m8 236 rfl) rfl
theorem q2038 : (Jvm.Cond.code ({ cls := "HornHousesModel", name := "works", desc := "(III)I" } : Jvm.MethodName) prog_12_method_46_code (3 : Nat) (Option.some Jvm.ClassFile.FieldType.int)) ∈ lw_all := lw_g (lw_at lw_m8 237 rfl) rfl
theorem q2039 : (Jvm.Cond.methodLink "HornHousesModel" (409 : Nat) ({ cls := "HornHousesModel", name := "byHouse", desc := "(III)I" } : Jvm.MethodName)) ∈ lw_all := lw_g (lw_at lw_m8 238 rfl) rfl
theorem q2040 : (Jvm.Cond.privateMethod ({ cls := "HornHousesModel", name := "byHouse", desc := "(III)I" } : Jvm.MethodName)) ∈ lw_tbl := lw_at lw_m8 239 rfl
theorem q2041 : (Jvm.Cond.instanceMethod ({ cls := "HornHousesModel", name := "byHouse", desc := "(III)I" } : Jvm.MethodName)) ∈ lw_all := lw_g (lw_at lw_m9 0 rfl) rfl
theorem q2042 : (Jvm.Cond.code ({ cls := "HornHousesModel", name := "byHouse", desc := "(III)I" } : Jvm.MethodName) prog_12_method_91_code (4 : Nat) (Option.some Jvm.ClassFile.FieldType.int)) ∈ lw_all := lw_g (lw_at lw_m9 1 rfl) rfl
theorem q2043 : (Jvm.Cond.methodLink "HornHousesModel" (329 : Nat) ({ cls := "HornHousesModel", name := "lesser", desc := "(II)I" } : Jvm.MethodName)) ∈ lw_all := lw_g (lw_at lw_m9 2 rfl) rfl
theorem q2044 : (Jvm.Cond.static ({ cls := "HornHousesModel", name := "lesser", desc := "(II)I" } : Jvm.MethodName)) ∈ lw_all := lw_g (lw_at lw_m9 3 rfl) rfl
theorem q2045 : (Jvm.Cond.code ({ cls := "HornHousesModel", name := "lesser", desc := "(II)I" } : Jvm.MethodName) prog_12_method_6_code (2 : Nat) (Option.some Jvm.ClassFile.FieldType.int)) ∈ lw_all := lw_g (lw_at lw_m9 4 rfl) rfl
theorem q2047 : (Jvm.Cond.instanceMethod ({ cls := "HornHousesModel", name := "house", desc := "(II)I" } : Jvm.MethodName)) ∈ lw_all := lw_g (lw_at lw_m9 6 rfl) rfl
theorem q2048 : (Jvm.Cond.selects "HornHousesModel" ({ cls := "HornHousesModel", name := "house", desc := "(II)I" } : Jvm.MethodName) ({ cls := "HornHousesModel", name := "house", desc := "(II)I" } : Jvm.MethodName)) ∈ lw_all := lw_g (lw_at lw_m9 7 rfl) rfl
theorem q2049 : (Jvm.Cond.code ({ cls := "HornHousesModel", name := "house", desc := "(II)I" } : Jvm.MethodName) prog_12_method_71_code (3 : Nat) (Option.some Jvm.ClassFile.FieldType.int)) ∈ lw_all := lw_g (lw_at lw_m9 8 rfl) rfl
theorem q2050 : (Jvm.Cond.methodLink "HornHousesModel" (367 : Nat) ({ cls := "HornHousesModel", name := "isHouse", desc := "(I)Z" } : Jvm.MethodName)) ∈ lw_all := lw_g (lw_at lw_m9 9 rfl) rfl
theorem q2051 : (Jvm.Cond.privateMethod ({ cls := "HornHousesModel", name := "isHouse", desc := "(I)Z" } : Jvm.MethodName)) ∈ lw_tbl := lw_at lw_m9 10 rfl
theorem q2052 : (Jvm.Cond.instanceMethod ({ cls := "HornHousesModel", name := "isHouse", desc := "(I)Z" } : Jvm.MethodName)) ∈ lw_all := lw_g (lw_at lw_m9 11 rfl) rfl
theorem q2053 : (Jvm.Cond.code ({ cls := "HornHousesModel", name := "isHouse", desc := "(I)Z" } : Jvm.MethodName) prog_12_method_65_code (2 : Nat) (Option.some Jvm.ClassFile.FieldType.boolean)) ∈ lw_all := lw_g (lw_at lw_m9 12 rfl) rfl
theorem q2054 : (Jvm.Cond.methodLink "HornHousesModel" (370 : Nat) ({ cls := "HornHousesModel", name := "isWhat", desc := "(II)Z" } : Jvm.MethodName)) ∈ lw_all := lw_g (lw_at lw_m9 13 rfl) rfl
theorem q2055 : (Jvm.Cond.privateMethod ({ cls := "HornHousesModel", name := "isWhat", desc := "(II)Z" } : Jvm.MethodName)) ∈ lw_tbl := lw_at lw_m9 14 rfl
theorem q2056 : (Jvm.Cond.instanceMethod ({ cls := "HornHousesModel", name := "isWhat", desc := "(II)Z" } : Jvm.MethodName)) ∈ lw_all := lw_g (lw_at lw_m9 15 rfl) rfl
theorem q2057 : (Jvm.Cond.code ({ cls := "HornHousesModel", name := "isWhat", desc := "(II)Z" } : Jvm.MethodName) prog_12_method_67_code (3 : Nat) (Option.some Jvm.ClassFile.FieldType.boolean)) ∈ lw_all := lw_g (lw_at lw_m9 16 rfl) rfl
theorem q2058 : (Jvm.Cond.methodLink "HornHousesModel" (373 : Nat) ({ cls := "HornHousesModel", name := "roomOf", desc := "(I)I" } : Jvm.MethodName)) ∈ lw_all := lw_g (lw_at lw_m9 17 rfl) rfl
theorem q2059 : (Jvm.Cond.privateMethod ({ cls := "HornHousesModel", name := "roomOf", desc := "(I)I" } : Jvm.MethodName)) ∈ lw_tbl := lw_at lw_m9 18 rfl
theorem q2060 : (Jvm.Cond.instanceMethod ({ cls := "HornHousesModel", name := "roomOf", desc := "(I)I" } : Jvm.MethodName)) ∈ lw_all := lw_g (lw_at lw_m9 19 rfl) rfl
theorem q2061 : (Jvm.Cond.code ({ cls := "HornHousesModel", name := "roomOf", desc := "(I)I" } : Jvm.MethodName) prog_12_method_70_code (3 : Nat) (Option.some Jvm.ClassFile.FieldType.int)) ∈ lw_all := lw_g (lw_at lw_m9 20 rfl) rfl
theorem q2062 : (Jvm.Cond.methodLink "HornHousesModel" (376 : Nat) ({ cls := "HornHousesModel", name := "nextDoor", desc := "(I)I" } : Jvm.MethodName)) ∈ lw_all := lw_g (lw_at lw_m9 21 rfl) rfl
theorem q2063 : (Jvm.Cond.privateMethod ({ cls := "HornHousesModel", name := "nextDoor", desc := "(I)I" } : Jvm.MethodName)) ∈ lw_tbl := lw_at lw_m9 22 rfl
theorem q2064 : (Jvm.Cond.instanceMethod ({ cls := "HornHousesModel", name := "nextDoor", desc := "(I)I" } : Jvm.MethodName)) ∈ lw_all := lw_g (lw_at lw_m9 23 rfl) rfl
theorem q2065 : (Jvm.Cond.code ({ cls := "HornHousesModel", name := "nextDoor", desc := "(I)I" } : Jvm.MethodName) prog_12_method_69_code (4 : Nat) (Option.some Jvm.ClassFile.FieldType.int)) ∈ lw_all := lw_g (lw_at lw_m9 24 rfl) rfl
theorem q2066 : (Jvm.Cond.methodLink "HornHousesModel" (364 : Nat) ({ cls := "HornHousesModel", name := "off", desc := "(II)I" } : Jvm.MethodName)) ∈ lw_all := lw_g (lw_at lw_m9 25 rfl) rfl
theorem q2067 : (Jvm.Cond.static ({ cls := "HornHousesModel", name := "off", desc := "(II)I" } : Jvm.MethodName)) ∈ lw_all := lw_g (lw_at lw_m9 26 rfl) rfl
theorem q2068 : (Jvm.Cond.code ({ cls := "HornHousesModel", name := "off", desc := "(II)I" } : Jvm.MethodName) prog_12_method_7_code (2 : Nat) (Option.some Jvm.ClassFile.FieldType.int)) ∈ lw_all := lw_g (lw_at lw_m9 27 rfl) rfl
theorem q2070 : (Jvm.Cond.instanceMethod ({ cls := "HornHousesModel", name := "person", desc := "(II)I" } : Jvm.MethodName)) ∈ lw_all := lw_g (lw_at lw_m9 29 rfl) rfl
theorem q2071 : (Jvm.Cond.selects "HornHousesModel" ({ cls := "HornHousesModel", name := "person", desc := "(II)I" } : Jvm.MethodName) ({ cls := "HornHousesModel", name := "person", desc := "(II)I" } : Jvm.MethodName)) ∈ lw_all := lw_g (lw_at lw_m9 30 rfl) rfl
theorem q2072 : (Jvm.Cond.code ({ cls := "HornHousesModel", name := "person", desc := "(II)I" } : Jvm.MethodName) prog_12_method_72_code (3 : Nat) (Option.some Jvm.ClassFile.FieldType.int)) ∈ lw_all := lw_g (lw_at lw_m9 31 rfl) rfl
theorem q2073 : (Jvm.Cond.methodLink "HornHousesModel" (379 : Nat) ({ cls := "HornHousesModel", name := "isPerson", desc := "(I)Z" } : Jvm.MethodName)) ∈ lw_all := lw_g (lw_at lw_m9 32 rfl) rfl
theorem q2074 : (Jvm.Cond.privateMethod ({ cls := "HornHousesModel", name := "isPerson", desc := "(I)Z" } : Jvm.MethodName)) ∈ lw_tbl := lw_at lw_m9 33 rfl
theorem q2075 : (Jvm.Cond.instanceMethod ({ cls := "HornHousesModel", name := "isPerson", desc := "(I)Z" } : Jvm.MethodName)) ∈ lw_all := lw_g (lw_at lw_m9 34 rfl) rfl
theorem q2076 : (Jvm.Cond.code ({ cls := "HornHousesModel", name := "isPerson", desc := "(I)Z" } : Jvm.MethodName) prog_12_method_66_code (2 : Nat) (Option.some Jvm.ClassFile.FieldType.boolean)) ∈ lw_all := lw_g (lw_at lw_m9 35 rfl) rfl
theorem q2078 : (Jvm.Cond.instanceMethod ({ cls := "HornHousesModel", name := "eases", desc := "(II)I" } : Jvm.MethodName)) ∈ lw_all := lw_g (lw_at lw_m9 37 rfl) rfl
theorem q2079 : (Jvm.Cond.selects "HornHousesModel" ({ cls := "HornHousesModel", name := "eases", desc := "(II)I" } : Jvm.MethodName) ({ cls := "HornHousesModel", name := "eases", desc := "(II)I" } : Jvm.MethodName)) ∈ lw_all := lw_g (lw_at lw_m9 38 rfl) rfl
theorem q2080 : (Jvm.Cond.code ({ cls := "HornHousesModel", name := "eases", desc := "(II)I" } : Jvm.MethodName) prog_12_method_73_code (3 : Nat) (Option.some Jvm.ClassFile.FieldType.int)) ∈ lw_all := lw_g (lw_at lw_m9 39 rfl) rfl
theorem q2082 : (Jvm.Cond.instanceMethod ({ cls := "HornHousesModel", name := "days", desc := "(I)I" } : Jvm.MethodName)) ∈ lw_all := lw_g (lw_at lw_m9 41 rfl) rfl
theorem q2083 : (Jvm.Cond.selects "HornHousesModel" ({ cls := "HornHousesModel", name := "days", desc := "(I)I" } : Jvm.MethodName) ({ cls := "HornHousesModel", name := "days", desc := "(I)I" } : Jvm.MethodName)) ∈ lw_all := lw_g (lw_at lw_m9 42 rfl) rfl
theorem q2084 : (Jvm.Cond.code ({ cls := "HornHousesModel", name := "days", desc := "(I)I" } : Jvm.MethodName) prog_12_method_74_code (3 : Nat) (Option.some Jvm.ClassFile.FieldType.int)) ∈ lw_all := lw_g (lw_at lw_m9 43 rfl) rfl
theorem q2085 : (Jvm.Cond.methodLink "HornHousesModel" (382 : Nat) ({ cls := "HornHousesModel", name := "refuses", desc := "(I)I" } : Jvm.MethodName)) ∈ lw_all := lw_g (lw_at lw_m9 44 rfl) rfl
theorem q2086 : (Jvm.Cond.privateMethod ({ cls := "HornHousesModel", name := "refuses", desc := "(I)I" } : Jvm.MethodName)) ∈ lw_tbl := lw_at lw_m9 45 rfl
theorem q2087 : (Jvm.Cond.instanceMethod ({ cls := "HornHousesModel", name := "refuses", desc := "(I)I" } : Jvm.MethodName)) ∈ lw_all := lw_g (lw_at lw_m9 46 rfl) rfl
theorem q2088 : (Jvm.Cond.code ({ cls := "HornHousesModel", name := "refuses", desc := "(I)I" } : Jvm.MethodName) prog_12_method_43_code (2 : Nat) (Option.some Jvm.ClassFile.FieldType.int)) ∈ lw_all := lw_g (lw_at lw_m9 47 rfl) rfl
theorem q2089 : (Jvm.Cond.methodLink "HornHousesModel" (385 : Nat) ({ cls := "HornHousesModel", name := "keeps", desc := "()V" } : Jvm.MethodName)) ∈ lw_all := lw_g (lw_at lw_m9 48 rfl) rfl
theorem q2090 : (Jvm.Cond.privateMethod ({ cls := "HornHousesModel", name := "keeps", desc := "()V" } : Jvm.MethodName)) ∈ lw_tbl := lw_at lw_m9 49 rfl
theorem q2091 : (Jvm.Cond.instanceMethod ({ cls := "HornHousesModel", name := "keeps", desc := "()V" } : Jvm.MethodName)) ∈ lw_all := lw_g (lw_at lw_m9 50 rfl) rfl
theorem q2092 : (Jvm.Cond.code ({ cls := "HornHousesModel", name := "keeps", desc := "()V" } : Jvm.MethodName) prog_12_method_42_code (2 : Nat) (Option.none : Option Jvm.ClassFile.FieldType)) ∈ lw_all := lw_g (lw_at lw_m9 51 rfl) rfl
theorem q2093 : (Jvm.Cond.methodLink "HornHousesModel" (336 : Nat) ({ cls := "HornHousesModel", name := "dayGoes", desc := "(I)V" } : Jvm.MethodName)) ∈ lw_all := lw_g (lw_at lw_m9 52 rfl) rfl
theorem q2094 : (Jvm.Cond.privateMethod ({ cls := "HornHousesModel", name := "dayGoes", desc := "(I)V" } : Jvm.MethodName)) ∈ lw_tbl := lw_at lw_m9 53 rfl
theorem q2095 : (Jvm.Cond.instanceMethod ({ cls := "HornHousesModel", name := "dayGoes", desc := "(I)V" } : Jvm.MethodName)) ∈ lw_all := lw_g (lw_at lw_m9 54 rfl) rfl
theorem q2096 : (Jvm.Cond.code ({ cls := "HornHousesModel", name := "dayGoes", desc := "(I)V" } : Jvm.MethodName) prog_12_method_57_code (3 : Nat) (Option.none : Option Jvm.ClassFile.FieldType)) ∈ lw_all := lw_g (lw_at lw_m9 55 rfl) rfl
theorem q2097 : (Jvm.Cond.methodLink "HornHousesModel" (332 : Nat) ({ cls := "HornHousesModel", name := "wears", desc := "(II)V" } : Jvm.MethodName)) ∈ lw_all := lw_g (lw_at lw_m9 56 rfl) rfl
theorem q2098 : (Jvm.Cond.privateMethod ({ cls := "HornHousesModel", name := "wears", desc := "(II)V" } : Jvm.MethodName)) ∈ lw_tbl := lw_at lw_m9 57 rfl
theorem q2099 : (Jvm.Cond.instanceMethod ({ cls := "HornHousesModel", name := "wears", desc := "(II)V" } : Jvm.MethodName)) ∈ lw_all := lw_g (lw_at lw_m9 58 rfl) rfl
theorem q2100 : (Jvm.Cond.code ({ cls := "HornHousesModel", name := "wears", desc := "(II)V" } : Jvm.MethodName) prog_12_method_56_code (6 : Nat) (Option.none : Option Jvm.ClassFile.FieldType)) ∈ lw_all := lw_g (lw_at lw_m9 59 rfl) rfl
theorem q2102 : (Jvm.Cond.instanceMethod ({ cls := "HornHousesModel", name := "putIn", desc := "(II)I" } : Jvm.MethodName)) ∈ lw_all := lw_g (lw_at lw_m9 61 rfl) rfl
theorem q2103 : (Jvm.Cond.selects "HornHousesModel" ({ cls := "HornHousesModel", name := "putIn", desc := "(II)I" } : Jvm.MethodName) ({ cls := "HornHousesModel", name := "putIn", desc := "(II)I" } : Jvm.MethodName)) ∈ lw_all := lw_g (lw_at lw_m9 62 rfl) rfl
theorem q2104 : (Jvm.Cond.code ({ cls := "HornHousesModel", name := "putIn", desc := "(II)I" } : Jvm.MethodName) prog_12_method_75_code (3 : Nat) (Option.some Jvm.ClassFile.FieldType.int)) ∈ lw_all := lw_g (lw_at lw_m9 63 rfl) rfl
theorem q2106 : (Jvm.Cond.instanceMethod ({ cls := "HornHousesModel", name := "out", desc := "(I)I" } : Jvm.MethodName)) ∈ lw_all := lw_g (lw_at lw_m9 65 rfl) rfl
theorem q2107 : (Jvm.Cond.selects "HornHousesModel" ({ cls := "HornHousesModel", name := "out", desc := "(I)I" } : Jvm.MethodName) ({ cls := "HornHousesModel", name := "out", desc := "(I)I" } : Jvm.MethodName)) ∈ lw_all := lw_g (lw_at lw_m9 66 rfl) rfl
theorem q2108 : (Jvm.Cond.code ({ cls := "HornHousesModel", name := "out", desc := "(I)I" } : Jvm.MethodName) prog_12_method_76_code (3 : Nat) (Option.some Jvm.ClassFile.FieldType.int)) ∈ lw_all := lw_g (lw_at lw_m9 67 rfl) rfl
theorem q2110 : (Jvm.Cond.instanceMethod ({ cls := "HornHousesModel", name := "stuff", desc := "(II)I" } : Jvm.MethodName)) ∈ lw_all := lw_g (lw_at lw_m9 69 rfl) rfl
theorem q2111 : (Jvm.Cond.selects "HornHousesModel" ({ cls := "HornHousesModel", name := "stuff", desc := "(II)I" } : Jvm.MethodName) ({ cls := "HornHousesModel", name := "stuff", desc := "(II)I" } : Jvm.MethodName)) ∈ lw_all := lw_g (lw_at lw_m9 70 rfl) rfl
theorem q2112 : (Jvm.Cond.code ({ cls := "HornHousesModel", name := "stuff", desc := "(II)I" } : Jvm.MethodName) prog_12_method_77_code (3 : Nat) (Option.some Jvm.ClassFile.FieldType.int)) ∈ lw_all := lw_g (lw_at lw_m9 71 rfl) rfl
theorem q2114 : (Jvm.Cond.instanceMethod ({ cls := "HornHousesModel", name := "change", desc := "(II)Z" } : Jvm.MethodName)) ∈ lw_all := lw_g (lw_at lw_m9 73 rfl) rfl
theorem q2115 : (Jvm.Cond.selects "HornHousesModel" ({ cls := "HornHousesModel", name := "change", desc := "(II)Z" } : Jvm.MethodName) ({ cls := "HornHousesModel", name := "change", desc := "(II)Z" } : Jvm.MethodName)) ∈ lw_all := lw_g (lw_at lw_m9 74 rfl) rfl
theorem q2116 : (Jvm.Cond.code ({ cls := "HornHousesModel", name := "change", desc := "(II)Z" } : Jvm.MethodName) prog_12_method_78_code (6 : Nat) (Option.some Jvm.ClassFile.FieldType.boolean)) ∈ lw_all := lw_g (lw_at lw_m9 75 rfl) rfl
theorem q2118 : (Jvm.Cond.instanceMethod ({ cls := "HornHousesModel", name := "letIn", desc := "()I" } : Jvm.MethodName)) ∈ lw_all := lw_g (lw_at lw_m9 77 rfl) rfl
theorem q2119 : (Jvm.Cond.selects "HornHousesModel" ({ cls := "HornHousesModel", name := "letIn", desc := "()I" } : Jvm.MethodName) ({ cls := "HornHousesModel", name := "letIn", desc := "()I" } : Jvm.MethodName)) ∈ lw_all := lw_g (lw_at lw_m9 78 rfl) rfl
theorem q2120 : (Jvm.Cond.code ({ cls := "HornHousesModel", name := "letIn", desc := "()I" } : Jvm.MethodName) prog_12_method_79_code (2 : Nat) (Option.some Jvm.ClassFile.FieldType.int)) ∈ lw_all := lw_g (lw_at lw_m9 79 rfl) rfl
theorem q2122 : (Jvm.Cond.instanceMethod ({ cls := "HornHousesModel", name := "then", desc := "(III)I" } : Jvm.MethodName)) ∈ lw_all := lw_g (lw_at lw_m9 81 rfl) rfl
theorem q2123 : (Jvm.Cond.selects "HornHousesModel" ({ cls := "HornHousesModel", name := "then", desc := "(III)I" } : Jvm.MethodName) ({ cls := "HornHousesModel", name := "then", desc := "(III)I" } : Jvm.MethodName)) ∈ lw_all := lw_g (lw_at lw_m9 82 rfl) rfl
theorem q2124 : (Jvm.Cond.code ({ cls := "HornHousesModel", name := "then", desc := "(III)I" } : Jvm.MethodName) prog_12_method_81_code (4 : Nat) (Option.some Jvm.ClassFile.FieldType.int)) ∈ lw_all := lw_g (lw_at lw_m9 83 rfl) rfl
theorem q2125 : (Jvm.Cond.methodLink "HornHousesModel" (397 : Nat) ({ cls := "HornHousesModel", name := "isDays", desc := "(III)Z" } : Jvm.MethodName)) ∈ lw_all := lw_g (lw_at lw_m9 84 rfl) rfl
theorem q2126 : (Jvm.Cond.privateMethod ({ cls := "HornHousesModel", name := "isDays", desc := "(III)Z" } : Jvm.MethodName)) ∈ lw_tbl := lw_at lw_m9 85 rfl
theorem q2127 : (Jvm.Cond.instanceMethod ({ cls := "HornHousesModel", name := "isDays", desc := "(III)Z" } : Jvm.MethodName)) ∈ lw_all := lw_g (lw_at lw_m9 86 rfl) rfl
theorem q2128 : (Jvm.Cond.code ({ cls := "HornHousesModel", name := "isDays", desc := "(III)Z" } : Jvm.MethodName) prog_12_method_68_code (4 : Nat) (Option.some Jvm.ClassFile.FieldType.boolean)) ∈ lw_all := lw_g (lw_at lw_m9 87 rfl) rfl
theorem q2129 : (Jvm.Cond.methodLink "HornHousesModel" (400 : Nat) ({ cls := "HornHousesModel", name := "goesTo", desc := "(I)V" } : Jvm.MethodName)) ∈ lw_all := lw_g (lw_at lw_m9 88 rfl) rfl
theorem q2130 : (Jvm.Cond.privateMethod ({ cls := "HornHousesModel", name := "goesTo", desc := "(I)V" } : Jvm.MethodName)) ∈ lw_tbl := lw_at lw_m9 89 rfl
theorem q2131 : (Jvm.Cond.instanceMethod ({ cls := "HornHousesModel", name := "goesTo", desc := "(I)V" } : Jvm.MethodName)) ∈ lw_all := lw_g (lw_at lw_m9 90 rfl) rfl
theorem q2132 : (Jvm.Cond.code ({ cls := "HornHousesModel", name := "goesTo", desc := "(I)V" } : Jvm.MethodName) prog_12_method_80_code (2 : Nat) (Option.none : Option Jvm.ClassFile.FieldType)) ∈ lw_all := lw_g (lw_at lw_m9 91 rfl) rfl
theorem q2133 : (Jvm.Cond.methodLink "HornHousesModel" (391 : Nat) ({ cls := "HornHousesModel", name := "tries", desc := "()V" } : Jvm.MethodName)) ∈ lw_all := lw_g (lw_at lw_m9 92 rfl) rfl
theorem q2134 : (Jvm.Cond.privateMethod ({ cls := "HornHousesModel", name := "tries", desc := "()V" } : Jvm.MethodName)) ∈ lw_tbl := lw_at lw_m9 93 rfl
theorem q2135 : (Jvm.Cond.instanceMethod ({ cls := "HornHousesModel", name := "tries", desc := "()V" } : Jvm.MethodName)) ∈ lw_all := lw_g (lw_at lw_m9 94 rfl) rfl
theorem q2136 : (Jvm.Cond.code ({ cls := "HornHousesModel", name := "tries", desc := "()V" } : Jvm.MethodName) prog_12_method_45_code (2 : Nat) (Option.none : Option Jvm.ClassFile.FieldType)) ∈ lw_all := lw_g (lw_at lw_m9 95 rfl) rfl
theorem q2137 : (Jvm.Cond.methodLink "HornHousesModel" (394 : Nat) ({ cls := "HornHousesModel", name := "daysGo", desc := "(I)V" } : Jvm.MethodName)) ∈ lw_all := lw_g (lw_at lw_m9 96 rfl) rfl
theorem q2138 : (Jvm.Cond.privateMethod ({ cls := "HornHousesModel", name := "daysGo", desc := "(I)V" } : Jvm.MethodName)) ∈ lw_tbl := lw_at lw_m9 97 rfl
theorem q2139 : (Jvm.Cond.instanceMethod ({ cls := "HornHousesModel", name := "daysGo", desc := "(I)V" } : Jvm.MethodName)) ∈ lw_all := lw_g (lw_at lw_m9 98 rfl) rfl
theorem q2140 : (Jvm.Cond.code ({ cls := "HornHousesModel", name := "daysGo", desc := "(I)V" } : Jvm.MethodName) prog_12_method_58_code (3 : Nat) (Option.none : Option Jvm.ClassFile.FieldType)) ∈ lw_all := lw_g (lw_at lw_m9 99 rfl) rfl
theorem q2142 : (Jvm.Cond.instanceMethod ({ cls := "HornHousesModel", name := "worn", desc := "(II)I" } : Jvm.MethodName)) ∈ lw_all := lw_g (lw_at lw_m9 101 rfl) rfl
theorem q2143 : (Jvm.Cond.selects "HornHousesModel" ({ cls := "HornHousesModel", name := "worn", desc := "(II)I" } : Jvm.MethodName) ({ cls := "HornHousesModel", name := "worn", desc := "(II)I" } : Jvm.MethodName)) ∈ lw_all := lw_g (lw_at lw_m9 102 rfl) rfl
theorem q2144 : (Jvm.Cond.code ({ cls := "HornHousesModel", name := "worn", desc := "(II)I" } : Jvm.MethodName) prog_12_method_82_code (3 : Nat) (Option.some Jvm.ClassFile.FieldType.int)) ∈ lw_all := lw_g (lw_at lw_m9 103 rfl) rfl
theorem q2146 : (Jvm.Cond.instanceMethod ({ cls := "HornHousesModel", name := "burst", desc := "(I)I" } : Jvm.MethodName)) ∈ lw_all := lw_g (lw_at lw_m9 105 rfl) rfl
theorem q2147 : (Jvm.Cond.selects "HornHousesModel" ({ cls := "HornHousesModel", name := "burst", desc := "(I)I" } : Jvm.MethodName) ({ cls := "HornHousesModel", name := "burst", desc := "(I)I" } : Jvm.MethodName)) ∈ lw_all := lw_g (lw_at lw_m9 106 rfl) rfl
theorem q2148 : (Jvm.Cond.code ({ cls := "HornHousesModel", name := "burst", desc := "(I)I" } : Jvm.MethodName) prog_12_method_84_code (3 : Nat) (Option.some Jvm.ClassFile.FieldType.int)) ∈ lw_all := lw_g (lw_at lw_m9 107 rfl) rfl
theorem q2149 : (Jvm.Cond.methodLink "HornHousesModel" (403 : Nat) ({ cls := "HornHousesModel", name := "burstsIn", desc := "(I)I" } : Jvm.MethodName)) ∈ lw_all := lw_g (lw_at lw_m9 108 rfl) rfl
theorem q2150 : (Jvm.Cond.privateMethod ({ cls := "HornHousesModel", name := "burstsIn", desc := "(I)I" } : Jvm.MethodName)) ∈ lw_tbl := lw_at lw_m9 109 rfl
theorem q2151 : (Jvm.Cond.instanceMethod ({ cls := "HornHousesModel", name := "burstsIn", desc := "(I)I" } : Jvm.MethodName)) ∈ lw_all := lw_g (lw_at lw_m9 110 rfl) rfl
theorem q2152 : (Jvm.Cond.code ({ cls := "HornHousesModel", name := "burstsIn", desc := "(I)I" } : Jvm.MethodName) prog_12_method_83_code (3 : Nat) (Option.some Jvm.ClassFile.FieldType.int)) ∈ lw_all := lw_g (lw_at lw_m9 111 rfl) rfl
theorem q2154 : (Jvm.Cond.instanceMethod ({ cls := "HornHousesModel", name := "wriggles", desc := "(I)I" } : Jvm.MethodName)) ∈ lw_all := lw_g (lw_at lw_m9 113 rfl) rfl
theorem q2155 : (Jvm.Cond.selects "HornHousesModel" ({ cls := "HornHousesModel", name := "wriggles", desc := "(I)I" } : Jvm.MethodName) ({ cls := "HornHousesModel", name := "wriggles", desc := "(I)I" } : Jvm.MethodName)) ∈ lw_all := lw_g (lw_at lw_m9 114 rfl) rfl
theorem q2156 : (Jvm.Cond.code ({ cls := "HornHousesModel", name := "wriggles", desc := "(I)I" } : Jvm.MethodName) prog_12_method_85_code (3 : Nat) (Option.some Jvm.ClassFile.FieldType.int)) ∈ lw_all := lw_g (lw_at lw_m9 115 rfl) rfl
theorem q2158 : (Jvm.Cond.instanceMethod ({ cls := "HornHousesModel", name := "barefoot", desc := "(I)I" } : Jvm.MethodName)) ∈ lw_all := lw_g (lw_at lw_m9 117 rfl) rfl
theorem q2159 : (Jvm.Cond.selects "HornHousesModel" ({ cls := "HornHousesModel", name := "barefoot", desc := "(I)I" } : Jvm.MethodName) ({ cls := "HornHousesModel", name := "barefoot", desc := "(I)I" } : Jvm.MethodName)) ∈ lw_all := lw_g (lw_at lw_m9 118 rfl) rfl
theorem q2160 : (Jvm.Cond.code ({ cls := "HornHousesModel", name := "barefoot", desc := "(I)I" } : Jvm.MethodName) prog_12_method_86_code (2 : Nat) (Option.some Jvm.ClassFile.FieldType.int)) ∈ lw_all := lw_g (lw_at lw_m9 119 rfl) rfl
theorem q2162 : (Jvm.Cond.instanceMethod ({ cls := "HornHousesModel", name := "last", desc := "(I)I" } : Jvm.MethodName)) ∈ lw_all := lw_g (lw_at lw_m9 121 rfl) rfl
theorem q2163 : (Jvm.Cond.selects "HornHousesModel" ({ cls := "HornHousesModel", name := "last", desc := "(I)I" } : Jvm.MethodName) ({ cls := "HornHousesModel", name := "last", desc := "(I)I" } : Jvm.MethodName)) ∈ lw_all := lw_g (lw_at lw_m9 122 rfl) rfl
theorem q2164 : (Jvm.Cond.code ({ cls := "HornHousesModel", name := "last", desc := "(I)I" } : Jvm.MethodName) prog_12_method_87_code (6 : Nat) (Option.some Jvm.ClassFile.FieldType.int)) ∈ lw_all := lw_g (lw_at lw_m9 123 rfl) rfl
theorem q2166 : (Jvm.Cond.instanceMethod ({ cls := "HornHousesModel", name := "goes", desc := "(I)I" } : Jvm.MethodName)) ∈ lw_all := lw_g (lw_at lw_m9 125 rfl) rfl
theorem q2167 : (Jvm.Cond.selects "HornHousesModel" ({ cls := "HornHousesModel", name := "goes", desc := "(I)I" } : Jvm.MethodName) ({ cls := "HornHousesModel", name := "goes", desc := "(I)I" } : Jvm.MethodName)) ∈ lw_all := lw_g (lw_at lw_m9 126 rfl) rfl
theorem q2168 : (Jvm.Cond.code ({ cls := "HornHousesModel", name := "goes", desc := "(I)I" } : Jvm.MethodName) prog_12_method_88_code (4 : Nat) (Option.some Jvm.ClassFile.FieldType.int)) ∈ lw_all := lw_g (lw_at lw_m9 127 rfl) rfl
theorem q2170 : (Jvm.Cond.instanceMethod ({ cls := "HornHousesModel", name := "heirs", desc := "(I)I" } : Jvm.MethodName)) ∈ lw_all := lw_g (lw_at lw_m9 129 rfl) rfl
theorem q2171 : (Jvm.Cond.selects "HornHousesModel" ({ cls := "HornHousesModel", name := "heirs", desc := "(I)I" } : Jvm.MethodName) ({ cls := "HornHousesModel", name := "heirs", desc := "(I)I" } : Jvm.MethodName)) ∈ lw_all := lw_g (lw_at lw_m9 130 rfl) rfl
theorem q2172 : (Jvm.Cond.code ({ cls := "HornHousesModel", name := "heirs", desc := "(I)I" } : Jvm.MethodName) prog_12_method_89_code (4 : Nat) (Option.some Jvm.ClassFile.FieldType.int)) ∈ lw_all := lw_g (lw_at lw_m9 131 rfl) rfl
theorem q2174 : (Jvm.Cond.instanceMethod ({ cls := "HornHousesModel", name := "match", desc := "(I)I" } : Jvm.MethodName)) ∈ lw_all := lw_g (lw_at lw_m9 133 rfl) rfl
theorem q2175 : (Jvm.Cond.selects "HornHousesModel" ({ cls := "HornHousesModel", name := "match", desc := "(I)I" } : Jvm.MethodName) ({ cls := "HornHousesModel", name := "match", desc := "(I)I" } : Jvm.MethodName)) ∈ lw_all := lw_g (lw_at lw_m9 134 rfl) rfl
theorem q2176 : (Jvm.Cond.code ({ cls := "HornHousesModel", name := "match", desc := "(I)I" } : Jvm.MethodName) prog_12_method_93_code (3 : Nat) (Option.some Jvm.ClassFile.FieldType.int)) ∈ lw_all := lw_g (lw_at lw_m9 135 rfl) rfl
theorem q2178 : (Jvm.Cond.instanceMethod ({ cls := "HornHousesModel", name := "matched", desc := "(I)I" } : Jvm.MethodName)) ∈ lw_all := lw_g (lw_at lw_m9 137 rfl) rfl
theorem q2179 : (Jvm.Cond.selects "HornHousesModel" ({ cls := "HornHousesModel", name := "matched", desc := "(I)I" } : Jvm.MethodName) ({ cls := "HornHousesModel", name := "matched", desc := "(I)I" } : Jvm.MethodName)) ∈ lw_all := lw_g (lw_at lw_m9 138 rfl) rfl
theorem q2180 : (Jvm.Cond.code ({ cls := "HornHousesModel", name := "matched", desc := "(I)I" } : Jvm.MethodName) prog_12_method_94_code (6 : Nat) (Option.some Jvm.ClassFile.FieldType.int)) ∈ lw_all := lw_g (lw_at lw_m9 139 rfl) rfl
theorem q2182 : (Jvm.Cond.instanceMethod ({ cls := "HornHousesModel", name := "trade", desc := "(I)I" } : Jvm.MethodName)) ∈ lw_all := lw_g (lw_at lw_m9 141 rfl) rfl
theorem q2183 : (Jvm.Cond.selects "HornHousesModel" ({ cls := "HornHousesModel", name := "trade", desc := "(I)I" } : Jvm.MethodName) ({ cls := "HornHousesModel", name := "trade", desc := "(I)I" } : Jvm.MethodName)) ∈ lw_all := lw_g (lw_at lw_m9 142 rfl) rfl
theorem q2184 : (Jvm.Cond.code ({ cls := "HornHousesModel", name := "trade", desc := "(I)I" } : Jvm.MethodName) prog_12_method_99_code (2 : Nat) (Option.some Jvm.ClassFile.FieldType.int)) ∈ lw_all := lw_g (lw_at lw_m9 143 rfl) rfl
theorem q2185 : (Jvm.Cond.methodLink "HornHousesModel" (421 : Nat) ({ cls := "HornHousesModel", name := "trades", desc := "()V" } : Jvm.MethodName)) ∈ lw_all := lw_g (lw_at lw_m9 144 rfl) rfl
theorem q2186 : (Jvm.Cond.privateMethod ({ cls := "HornHousesModel", name := "trades", desc := "()V" } : Jvm.MethodName)) ∈ lw_tbl := lw_at lw_m9 145 rfl
theorem q2187 : (Jvm.Cond.instanceMethod ({ cls := "HornHousesModel", name := "trades", desc := "()V" } : Jvm.MethodName)) ∈ lw_all := lw_g (lw_at lw_m9 146 rfl) rfl
theorem q2188 : (Jvm.Cond.code ({ cls := "HornHousesModel", name := "trades", desc := "()V" } : Jvm.MethodName) prog_12_method_98_code (5 : Nat) (Option.none : Option Jvm.ClassFile.FieldType)) ∈ lw_all := lw_g (lw_at lw_m9 147 rfl) rfl
theorem q2189 : (Jvm.Cond.methodLink "HornHousesModel" (415 : Nat) ({ cls := "HornHousesModel", name := "wantOf", desc := "(II)I" } : Jvm.MethodName)) ∈ lw_all := lw_g (lw_at lw_m9 148 rfl) rfl
theorem q2190 : (Jvm.Cond.privateMethod ({ cls := "HornHousesModel", name := "wantOf", desc := "(II)I" } : Jvm.MethodName)) ∈ lw_tbl := lw_at lw_m9 149 rfl
theorem q2191 : (Jvm.Cond.instanceMethod ({ cls := "HornHousesModel", name := "wantOf", desc := "(II)I" } : Jvm.MethodName)) ∈ lw_all := lw_g (lw_at lw_m9 150 rfl) rfl
theorem q2192 : (Jvm.Cond.code ({ cls := "HornHousesModel", name := "wantOf", desc := "(II)I" } : Jvm.MethodName) prog_12_method_96_code (5 : Nat) (Option.some Jvm.ClassFile.FieldType.int)) ∈ lw_all := lw_g (lw_at lw_m9 151 rfl) rfl
theorem q2193 : (Jvm.Cond.methodLink "HornHousesModel" (418 : Nat) ({ cls := "HornHousesModel", name := "ringOf", desc := "(I)I" } : Jvm.MethodName)) ∈ lw_all := lw_g (lw_at lw_m9 152 rfl) rfl
theorem q2194 : (Jvm.Cond.privateMethod ({ cls := "HornHousesModel", name := "ringOf", desc := "(I)I" } : Jvm.MethodName)) ∈ lw_tbl := lw_at lw_m9 153 rfl
theorem q2195 : (Jvm.Cond.instanceMethod ({ cls := "HornHousesModel", name := "ringOf", desc := "(I)I" } : Jvm.MethodName)) ∈ lw_all := lw_g (lw_at lw_m9 154 rfl) rfl
theorem q2196 : (Jvm.Cond.code ({ cls := "HornHousesModel", name := "ringOf", desc := "(I)I" } : Jvm.MethodName) prog_12_method_97_code (4 : Nat) (Option.some Jvm.ClassFile.FieldType.int)) ∈ lw_all := lw_g (lw_at lw_m9 155 rfl) rfl
theorem q2198 : (Jvm.Cond.instanceMethod ({ cls := "HornHousesModel", name := "ringed", desc := "(I)I" } : Jvm.MethodName)) ∈ lw_all := lw_g (lw_at lw_m9 157 rfl) rfl
theorem q2199 : (Jvm.Cond.selects "HornHousesModel" ({ cls := "HornHousesModel", name := "ringed", desc := "(I)I" } : Jvm.MethodName) ({ cls := "HornHousesModel", name := "ringed", desc := "(I)I" } : Jvm.MethodName)) ∈ lw_all := lw_g (lw_at lw_m9 158 rfl) rfl
theorem q2200 : (Jvm.Cond.code ({ cls := "HornHousesModel", name := "ringed", desc := "(I)I" } : Jvm.MethodName) prog_12_method_100_code (2 : Nat) (Option.some Jvm.ClassFile.FieldType.int)) ∈ lw_all := lw_g (lw_at lw_m9 159 rfl) rfl
theorem q2202 : (Jvm.Cond.instanceMethod ({ cls := "HornHousesModel", name := "toStuff", desc := "(II)I" } : Jvm.MethodName)) ∈ lw_all := lw_g (lw_at lw_m9 161 rfl) rfl
theorem q2203 : (Jvm.Cond.selects "HornHousesModel" ({ cls := "HornHousesModel", name := "toStuff", desc := "(II)I" } : Jvm.MethodName) ({ cls := "HornHousesModel", name := "toStuff", desc := "(II)I" } : Jvm.MethodName)) ∈ lw_all := lw_g (lw_at lw_m9 162 rfl) rfl
theorem q2204 : (Jvm.Cond.code ({ cls := "HornHousesModel", name := "toStuff", desc := "(II)I" } : Jvm.MethodName) prog_12_method_101_code (4 : Nat) (Option.some Jvm.ClassFile.FieldType.int)) ∈ lw_all := lw_g (lw_at lw_m9 163 rfl) rfl
theorem q2206 : (Jvm.Cond.instanceMethod ({ cls := "HornHousesModel", name := "toWait", desc := "(II)I" } : Jvm.MethodName)) ∈ lw_all := lw_g (lw_at lw_m9 165 rfl) rfl
theorem q2207 : (Jvm.Cond.selects "HornHousesModel" ({ cls := "HornHousesModel", name := "toWait", desc := "(II)I" } : Jvm.MethodName) ({ cls := "HornHousesModel", name := "toWait", desc := "(II)I" } : Jvm.MethodName)) ∈ lw_all := lw_g (lw_at lw_m9 166 rfl) rfl
theorem q2208 : (Jvm.Cond.code ({ cls := "HornHousesModel", name := "toWait", desc := "(II)I" } : Jvm.MethodName) prog_12_method_102_code (4 : Nat) (Option.some Jvm.ClassFile.FieldType.int)) ∈ lw_all := lw_g (lw_at lw_m9 167 rfl) rfl
theorem q2210 : (Jvm.Cond.instanceMethod ({ cls := "HornHousesModel", name := "round", desc := "(I)I" } : Jvm.MethodName)) ∈ lw_all := lw_g (lw_at lw_m9 169 rfl) rfl
theorem q2211 : (Jvm.Cond.selects "HornHousesModel" ({ cls := "HornHousesModel", name := "round", desc := "(I)I" } : Jvm.MethodName) ({ cls := "HornHousesModel", name := "round", desc := "(I)I" } : Jvm.MethodName)) ∈ lw_all := lw_g (lw_at lw_m9 170 rfl) rfl
theorem q2212 : (Jvm.Cond.code ({ cls := "HornHousesModel", name := "round", desc := "(I)I" } : Jvm.MethodName) prog_12_method_103_code (6 : Nat) (Option.some Jvm.ClassFile.FieldType.int)) ∈ lw_all := lw_g (lw_at lw_m9 171 rfl) rfl
theorem q2214 : (Jvm.Cond.instanceMethod ({ cls := "HornHousesModel", name := "see", desc := "(III)I" } : Jvm.MethodName)) ∈ lw_all := lw_g (lw_at lw_m9 173 rfl) rfl
theorem q2215 : (Jvm.Cond.selects "HornHousesModel" ({ cls := "HornHousesModel", name := "see", desc := "(III)I" } : Jvm.MethodName) ({ cls := "HornHousesModel", name := "see", desc := "(III)I" } : Jvm.MethodName)) ∈ lw_all := lw_g (lw_at lw_m9 174 rfl) rfl
theorem q2216 : (Jvm.Cond.code ({ cls := "HornHousesModel", name := "see", desc := "(III)I" } : Jvm.MethodName) prog_12_method_104_code (4 : Nat) (Option.some Jvm.ClassFile.FieldType.int)) ∈ lw_all := lw_g (lw_at lw_m9 175 rfl) rfl
theorem q2218 : (Jvm.Cond.instanceMethod ({ cls := "HornHousesModel", name := "forget", desc := "()V" } : Jvm.MethodName)) ∈ lw_all := lw_g (lw_at lw_m9 177 rfl) rfl
theorem q2219 : (Jvm.Cond.selects "HornHousesModel" ({ cls := "HornHousesModel", name := "forget", desc := "()V" } : Jvm.MethodName) ({ cls := "HornHousesModel", name := "forget", desc := "()V" } : Jvm.MethodName)) ∈ lw_all := lw_g (lw_at lw_m9 178 rfl) rfl
theorem q2220 : (Jvm.Cond.code ({ cls := "HornHousesModel", name := "forget", desc := "()V" } : Jvm.MethodName) prog_12_method_105_code (1 : Nat) (Option.none : Option Jvm.ClassFile.FieldType)) ∈ lw_all := lw_g (lw_at lw_m9 179 rfl) rfl
theorem q2222 : (Jvm.Cond.instanceMethod ({ cls := "HornHousesModel", name := "large", desc := "(I)I" } : Jvm.MethodName)) ∈ lw_all := lw_g (lw_at lw_m9 181 rfl) rfl
theorem q2223 : (Jvm.Cond.selects "HornHousesModel" ({ cls := "HornHousesModel", name := "large", desc := "(I)I" } : Jvm.MethodName) ({ cls := "HornHousesModel", name := "large", desc := "(I)I" } : Jvm.MethodName)) ∈ lw_all := lw_g (lw_at lw_m9 182 rfl) rfl
theorem q2224 : (Jvm.Cond.code ({ cls := "HornHousesModel", name := "large", desc := "(I)I" } : Jvm.MethodName) prog_12_method_108_code (5 : Nat) (Option.some Jvm.ClassFile.FieldType.int)) ∈ lw_all := lw_g (lw_at lw_m9 183 rfl) rfl
theorem q2225 : (Jvm.Cond.methodLink "HornHousesModel" (424 : Nat) ({ cls := "HornHousesModel", name := "isSeen", desc := "()Z" } : Jvm.MethodName)) ∈ lw_all := lw_g (lw_at lw_m9 184 rfl) rfl
theorem q2226 : (Jvm.Cond.privateMethod ({ cls := "HornHousesModel", name := "isSeen", desc := "()Z" } : Jvm.MethodName)) ∈ lw_tbl := lw_at lw_m9 185 rfl
theorem q2227 : (Jvm.Cond.instanceMethod ({ cls := "HornHousesModel", name := "isSeen", desc := "()Z" } : Jvm.MethodName)) ∈ lw_all := lw_g (lw_at lw_m9 186 rfl) rfl
theorem q2228 : (Jvm.Cond.code ({ cls := "HornHousesModel", name := "isSeen", desc := "()Z" } : Jvm.MethodName) prog_12_method_106_code (3 : Nat) (Option.some Jvm.ClassFile.FieldType.boolean)) ∈ lw_all := lw_g (lw_at lw_m9 187 rfl) rfl
theorem q2229 : (Jvm.Cond.methodLink "HornHousesModel" (427 : Nat) ({ cls := "HornHousesModel", name := "isGuess", desc := "(I)Z" } : Jvm.MethodName)) ∈ lw_all := lw_g (lw_at lw_m9 188 rfl) rfl
theorem q2230 : (Jvm.Cond.privateMethod ({ cls := "HornHousesModel", name := "isGuess", desc := "(I)Z" } : Jvm.MethodName)) ∈ lw_tbl := lw_at lw_m9 189 rfl
theorem q2231 : (Jvm.Cond.instanceMethod ({ cls := "HornHousesModel", name := "isGuess", desc := "(I)Z" } : Jvm.MethodName)) ∈ lw_all := lw_g (lw_at lw_m9 190 rfl) rfl
theorem q2232 : (Jvm.Cond.code ({ cls := "HornHousesModel", name := "isGuess", desc := "(I)Z" } : Jvm.MethodName) prog_12_method_107_code (3 : Nat) (Option.some Jvm.ClassFile.FieldType.boolean)) ∈ lw_all := lw_g (lw_at lw_m9 191 rfl) rfl
theorem q2234 : (Jvm.Cond.instanceMethod ({ cls := "HornHousesModel", name := "next", desc := "(I)I" } : Jvm.MethodName)) ∈ lw_all := lw_g (lw_at lw_m9 193 rfl) rfl
theorem q2235 : (Jvm.Cond.selects "HornHousesModel" ({ cls := "HornHousesModel", name := "next", desc := "(I)I" } : Jvm.MethodName) ({ cls := "HornHousesModel", name := "next", desc := "(I)I" } : Jvm.MethodName)) ∈ lw_all := lw_g (lw_at lw_m9 194 rfl) rfl
theorem q2236 : (Jvm.Cond.code ({ cls := "HornHousesModel", name := "next", desc := "(I)I" } : Jvm.MethodName) prog_12_method_109_code (10 : Nat) (Option.some Jvm.ClassFile.FieldType.int)) ∈ lw_all := lw_g (lw_at lw_m9 195 rfl) rfl
theorem q2238 : (Jvm.Cond.instanceMethod ({ cls := "HornHousesModel", name := "byDamp", desc := "(III)I" } : Jvm.MethodName)) ∈ lw_all := lw_g (lw_at lw_m9 197 rfl) rfl
theorem q2239 : (Jvm.Cond.selects "HornHousesModel" ({ cls := "HornHousesModel", name := "byDamp", desc := "(III)I" } : Jvm.MethodName) ({ cls := "HornHousesModel", name := "byDamp", desc := "(III)I" } : Jvm.MethodName)) ∈ lw_all := lw_g (lw_at lw_m9 198 rfl) rfl
theorem q2240 : (Jvm.Cond.code ({ cls := "HornHousesModel", name := "byDamp", desc := "(III)I" } : Jvm.MethodName) prog_12_method_110_code (9 : Nat) (Option.some Jvm.ClassFile.FieldType.int)) ∈ lw_all := lw_g (lw_at lw_m9 199 rfl) rfl
theorem q2242 : (Jvm.Cond.instanceMethod ({ cls := "HornHousesModel", name := "game", desc := "(IIII)I" } : Jvm.MethodName)) ∈ lw_all := lw_g (lw_at lw_m9 201 rfl) rfl
theorem q2243 : (Jvm.Cond.selects "HornHousesModel" ({ cls := "HornHousesModel", name := "game", desc := "(IIII)I" } : Jvm.MethodName) ({ cls := "HornHousesModel", name := "game", desc := "(IIII)I" } : Jvm.MethodName)) ∈ lw_all := lw_g (lw_at lw_m9 202 rfl) rfl
theorem q2244 : (Jvm.Cond.code ({ cls := "HornHousesModel", name := "game", desc := "(IIII)I" } : Jvm.MethodName) prog_12_method_112_code (10 : Nat) (Option.some Jvm.ClassFile.FieldType.int)) ∈ lw_all := lw_g (lw_at lw_m9 203 rfl) rfl
theorem q2245 : (Jvm.Cond.methodLink "HornHousesModel" (430 : Nat) ({ cls := "HornHousesModel", name := "gains", desc := "(IIIII)I" } : Jvm.MethodName)) ∈ lw_all := lw_g (lw_at lw_m9 204 rfl) rfl
theorem q2246 : (Jvm.Cond.privateMethod ({ cls := "HornHousesModel", name := "gains", desc := "(IIIII)I" } : Jvm.MethodName)) ∈ lw_tbl := lw_at lw_m9 205 rfl
theorem q2247 : (Jvm.Cond.instanceMethod ({ cls := "HornHousesModel", name := "gains", desc := "(IIIII)I" } : Jvm.MethodName)) ∈ lw_all := lw_g (lw_at lw_m9 206 rfl) rfl
theorem q2248 : (Jvm.Cond.code ({ cls := "HornHousesModel", name := "gains", desc := "(IIIII)I" } : Jvm.MethodName) prog_12_method_111_code (8 : Nat) (Option.some Jvm.ClassFile.FieldType.int)) ∈ lw_all := lw_g (lw_at lw_m9 207 rfl) rfl
theorem q2250 : (Jvm.Cond.instanceMethod ({ cls := "HornHousesModel", name := "years", desc := "(III)I" } : Jvm.MethodName)) ∈ lw_all := lw_g (lw_at lw_m9 209 rfl) rfl
theorem q2251 : (Jvm.Cond.selects "HornHousesModel" ({ cls := "HornHousesModel", name := "years", desc := "(III)I" } : Jvm.MethodName) ({ cls := "HornHousesModel", name := "years", desc := "(III)I" } : Jvm.MethodName)) ∈ lw_all := lw_g (lw_at lw_m9 210 rfl) rfl
theorem q2252 : (Jvm.Cond.code ({ cls := "HornHousesModel", name := "years", desc := "(III)I" } : Jvm.MethodName) prog_12_method_115_code (5 : Nat) (Option.some Jvm.ClassFile.FieldType.int)) ∈ lw_all := lw_g (lw_at lw_m9 211 rfl) rfl
theorem q2253 : (Jvm.Cond.methodLink "HornHousesModel" (438 : Nat) ({ cls := "HornHousesModel", name := "draw", desc := "(I)I" } : Jvm.MethodName)) ∈ lw_all := lw_g (lw_at lw_m9 212 rfl) rfl
theorem q2254 : (Jvm.Cond.privateMethod ({ cls := "HornHousesModel", name := "draw", desc := "(I)I" } : Jvm.MethodName)) ∈ lw_tbl := lw_at lw_m9 213 rfl
theorem q2255 : (Jvm.Cond.instanceMethod ({ cls := "HornHousesModel", name := "draw", desc := "(I)I" } : Jvm.MethodName)) ∈ lw_all := lw_g (lw_at lw_m9 214 rfl) rfl
theorem q2256 : (Jvm.Cond.code ({ cls := "HornHousesModel", name := "draw", desc := "(I)I" } : Jvm.MethodName) prog_12_method_113_code (2 : Nat) (Option.some Jvm.ClassFile.FieldType.int)) ∈ lw_all := lw_g (lw_at lw_m9 215 rfl) rfl
theorem q2257 : (Jvm.Cond.constant "HornHousesModel" (437 : Nat) (1103515245 : Int32)) ∈ lw_all := lw_g (lw_at lw_m9 216 rfl) rfl
theorem q2258 : (Jvm.Cond.methodLink "HornHousesModel" (441 : Nat) ({ cls := "HornHousesModel", name := "happens", desc := "()V" } : Jvm.MethodName)) ∈ lw_all := lw_g (lw_at lw_m9 217 rfl) rfl
theorem q2259 : (Jvm.Cond.privateMethod ({ cls := "HornHousesModel", name := "happens", desc := "()V" } : Jvm.MethodName)) ∈ lw_tbl := lw_at lw_m9 218 rfl
theorem q2260 : (Jvm.Cond.instanceMethod ({ cls := "HornHousesModel", name := "happens", desc := "()V" } : Jvm.MethodName)) ∈ lw_all := lw_g (lw_at lw_m9 219 rfl) rfl
theorem q2261 : (Jvm.Cond.code ({ cls := "HornHousesModel", name := "happens", desc := "()V" } : Jvm.MethodName) prog_12_method_114_code (3 : Nat) (Option.none : Option Jvm.ClassFile.FieldType)) ∈ lw_all := lw_g (lw_at lw_m9 220 rfl) rfl
theorem q2262 : (Jvm.Cond.methodLink "HornHousesModel" (444 : Nat) ({ cls := "HornHousesModel", name := "bits", desc := "(I)I" } : Jvm.MethodName)) ∈ lw_all := lw_g (lw_at lw_m9 221 rfl) rfl
theorem q2263 : (Jvm.Cond.static ({ cls := "HornHousesModel", name := "bits", desc := "(I)I" } : Jvm.MethodName)) ∈ lw_all := lw_g (lw_at lw_m9 222 rfl) rfl
theorem q2264 : (Jvm.Cond.code ({ cls := "HornHousesModel", name := "bits", desc := "(I)I" } : Jvm.MethodName) prog_12_method_9_code (3 : Nat) (Option.some Jvm.ClassFile.FieldType.int)) ∈ lw_all := lw_g (lw_at lw_m9 223 rfl) rfl
theorem q2266 : (Jvm.Cond.instanceMethod ({ cls := "HornHousesModel", name := "toGrow", desc := "(II)I" } : Jvm.MethodName)) ∈ lw_all := lw_g (lw_at lw_m9 225 rfl) rfl
theorem q2267 : (Jvm.Cond.selects "HornHousesModel" ({ cls := "HornHousesModel", name := "toGrow", desc := "(II)I" } : Jvm.MethodName) ({ cls := "HornHousesModel", name := "toGrow", desc := "(II)I" } : Jvm.MethodName)) ∈ lw_all := lw_g (lw_at lw_m9 226 rfl) rfl
theorem q2268 : (Jvm.Cond.code ({ cls := "HornHousesModel", name := "toGrow", desc := "(II)I" } : Jvm.MethodName) prog_12_method_116_code (4 : Nat) (Option.some Jvm.ClassFile.FieldType.int)) ∈ lw_all := lw_g (lw_at lw_m9 227 rfl) rfl
theorem q2270 : (Jvm.Cond.instanceMethod ({ cls := "HornHousesModel", name := "paid", desc := "(I)I" } : Jvm.MethodName)) ∈ lw_all := lw_g (lw_at lw_m9 229 rfl) rfl
theorem q2271 : (Jvm.Cond.selects "HornHousesModel" ({ cls := "HornHousesModel", name := "paid", desc := "(I)I" } : Jvm.MethodName) ({ cls := "HornHousesModel", name := "paid", desc := "(I)I" } : Jvm.MethodName)) ∈ lw_all := lw_g (lw_at lw_m9 230 rfl) rfl
theorem q2272 : (Jvm.Cond.code ({ cls := "HornHousesModel", name := "paid", desc := "(I)I" } : Jvm.MethodName) prog_12_method_117_code (2 : Nat) (Option.some Jvm.ClassFile.FieldType.int)) ∈ lw_all := lw_g (lw_at lw_m9 231 rfl) rfl
theorem q2274 : (Jvm.Cond.instanceMethod ({ cls := "HornHousesModel", name := "wornest", desc := "(I)I" } : Jvm.MethodName)) ∈ lw_all := lw_g (lw_at lw_m9 233 rfl) rfl
theorem q2275 : (Jvm.Cond.selects "HornHousesModel" ({ cls := "HornHousesModel", name := "wornest", desc := "(I)I" } : Jvm.MethodName) ({ cls := "HornHousesModel", name := "wornest", desc := "(I)I" } : Jvm.MethodName)) ∈ lw_all := lw_g (lw_at lw_m9 234 rfl) rfl
theorem q2276 : (Jvm.Cond.code ({ cls := "HornHousesModel", name := "wornest", desc := "(I)I" } : Jvm.MethodName) prog_12_method_118_code (4 : Nat) (Option.some Jvm.ClassFile.FieldType.int)) ∈ lw_all := lw_g (lw_at lw_m9 235 rfl) rfl
theorem q2278 : (Jvm.Cond.instanceMethod ({ cls := "HornHousesModel", name := "dampest", desc := "(I)I" } : Jvm.MethodName)) ∈ lw_all := lw_g (lw_at lw_m9 237 rfl) rfl
theorem q2279 : (Jvm.Cond.selects "HornHousesModel" ({ cls := "HornHousesModel", name := "dampest", desc := "(I)I" } : Jvm.MethodName) ({ cls := "HornHousesModel", name := "dampest", desc := "(I)I" } : Jvm.MethodName)) ∈ lw_all := lw_g (lw_at lw_m9 238 rfl) rfl
theorem q2280 : (Jvm.Cond.code ({ cls := "HornHousesModel", name := "dampest", desc := "(I)I" } : Jvm.MethodName) prog_12_method_119_code (6 : Nat) (Option.some Jvm.ClassFile.FieldType.int)) ∈ lw_all := lw_g (lw_at lw_m9 239 rfl) rfl
theorem q2282 : (Jvm.Cond.instanceMethod ({ cls := "HornHousesModel", name := "kept", desc := "(I)I" } : Jvm.MethodName)) ∈ lw_all := lw_g (lw_at lw_m10 1 rfl) rfl
theorem q2283 : (Jvm.Cond.selects "HornHousesModel" ({ cls := "HornHousesModel", name := "kept", desc := "(I)I" } : Jvm.MethodName) ({ cls := "HornHousesModel", name := "kept", desc := "(I)I" } : Jvm.MethodName)) ∈ lw_all := lw_g (lw_at lw_m10 2 rfl) rfl
theorem q2284 : (Jvm.Cond.code ({ cls := "HornHousesModel", name := "kept", desc := "(I)I" } : Jvm.MethodName) prog_12_method_120_code (4 : Nat) (Option.some Jvm.ClassFile.FieldType.int)) ∈ lw_all := lw_g (lw_at lw_m10 3 rfl) rfl
theorem q2286 : (Jvm.Cond.instanceMethod ({ cls := "HornHousesModel", name := "sorest", desc := "(I)I" } : Jvm.MethodName)) ∈ lw_all := lw_g (lw_at lw_m10 5 rfl) rfl
theorem q2287 : (Jvm.Cond.selects "HornHousesModel" ({ cls := "HornHousesModel", name := "sorest", desc := "(I)I" } : Jvm.MethodName) ({ cls := "HornHousesModel", name := "sorest", desc := "(I)I" } : Jvm.MethodName)) ∈ lw_all := lw_g (lw_at lw_m10 6 rfl) rfl
theorem q2288 : (Jvm.Cond.code ({ cls := "HornHousesModel", name := "sorest", desc := "(I)I" } : Jvm.MethodName) prog_12_method_121_code (4 : Nat) (Option.some Jvm.ClassFile.FieldType.int)) ∈ lw_all := lw_g (lw_at lw_m10 7 rfl) rfl
theorem q2290 : (Jvm.Cond.instanceMethod ({ cls := "HornHousesModel", name := "eased", desc := "(III)I" } : Jvm.MethodName)) ∈ lw_all := lw_g (lw_at lw_m10 9 rfl) rfl
theorem q2291 : (Jvm.Cond.selects "HornHousesModel" ({ cls := "HornHousesModel", name := "eased", desc := "(III)I" } : Jvm.MethodName) ({ cls := "HornHousesModel", name := "eased", desc := "(III)I" } : Jvm.MethodName)) ∈ lw_all := lw_g (lw_at lw_m10 10 rfl) rfl
theorem q2292 : (Jvm.Cond.code ({ cls := "HornHousesModel", name := "eased", desc := "(III)I" } : Jvm.MethodName) prog_12_method_122_code (8 : Nat) (Option.some Jvm.ClassFile.FieldType.int)) ∈ lw_all := lw_g (lw_at lw_m10 11 rfl) rfl
theorem q2294 : (Jvm.Cond.instanceMethod ({ cls := "HornHousesModel", name := "free", desc := "(I)I" } : Jvm.MethodName)) ∈ lw_all := lw_g (lw_at lw_m10 13 rfl) rfl
theorem q2295 : (Jvm.Cond.selects "HornHousesModel" ({ cls := "HornHousesModel", name := "free", desc := "(I)I" } : Jvm.MethodName) ({ cls := "HornHousesModel", name := "free", desc := "(I)I" } : Jvm.MethodName)) ∈ lw_all := lw_g (lw_at lw_m10 14 rfl) rfl
theorem q2296 : (Jvm.Cond.code ({ cls := "HornHousesModel", name := "free", desc := "(I)I" } : Jvm.MethodName) prog_12_method_123_code (4 : Nat) (Option.some Jvm.ClassFile.FieldType.int)) ∈ lw_all := lw_g (lw_at lw_m10 15 rfl) rfl
theorem q2298 : (Jvm.Cond.instanceMethod ({ cls := "HornHousesModel", name := "larger", desc := "(I)I" } : Jvm.MethodName)) ∈ lw_all := lw_g (lw_at lw_m10 17 rfl) rfl
theorem q2299 : (Jvm.Cond.selects "HornHousesModel" ({ cls := "HornHousesModel", name := "larger", desc := "(I)I" } : Jvm.MethodName) ({ cls := "HornHousesModel", name := "larger", desc := "(I)I" } : Jvm.MethodName)) ∈ lw_all := lw_g (lw_at lw_m10 18 rfl) rfl
theorem q2300 : (Jvm.Cond.code ({ cls := "HornHousesModel", name := "larger", desc := "(I)I" } : Jvm.MethodName) prog_12_method_124_code (4 : Nat) (Option.some Jvm.ClassFile.FieldType.int)) ∈ lw_all := lw_g (lw_at lw_m10 19 rfl) rfl
theorem q2302 : (Jvm.Cond.instanceMethod ({ cls := "HornHousesModel", name := "wide", desc := "(I)I" } : Jvm.MethodName)) ∈ lw_all := lw_g (lw_at lw_m10 21 rfl) rfl
theorem q2303 : (Jvm.Cond.selects "HornHousesModel" ({ cls := "HornHousesModel", name := "wide", desc := "(I)I" } : Jvm.MethodName) ({ cls := "HornHousesModel", name := "wide", desc := "(I)I" } : Jvm.MethodName)) ∈ lw_all := lw_g (lw_at lw_m10 22 rfl) rfl
theorem q2304 : (Jvm.Cond.code ({ cls := "HornHousesModel", name := "wide", desc := "(I)I" } : Jvm.MethodName) prog_12_method_125_code (4 : Nat) (Option.some Jvm.ClassFile.FieldType.int)) ∈ lw_all := lw_g (lw_at lw_m10 23 rfl) rfl
theorem q2306 : (Jvm.Cond.instanceMethod ({ cls := "HornHousesModel", name := "endures", desc := "(II)I" } : Jvm.MethodName)) ∈ lw_all := lw_g (lw_at lw_m10 25 rfl) rfl
theorem q2307 : (Jvm.Cond.selects "HornHousesModel" ({ cls := "HornHousesModel", name := "endures", desc := "(II)I" } : Jvm.MethodName) ({ cls := "HornHousesModel", name := "endures", desc := "(II)I" } : Jvm.MethodName)) ∈ lw_all := lw_g (lw_at lw_m10 26 rfl) rfl
theorem q2308 : (Jvm.Cond.code ({ cls := "HornHousesModel", name := "endures", desc := "(II)I" } : Jvm.MethodName) prog_12_method_126_code (5 : Nat) (Option.some Jvm.ClassFile.FieldType.int)) ∈ lw_all := lw_g (lw_at lw_m10 27 rfl) rfl
theorem q2310 : (Jvm.Cond.instanceMethod ({ cls := "HornHousesModel", name := "image", desc := "()V" } : Jvm.MethodName)) ∈ lw_all := lw_g (lw_at lw_m10 29 rfl) rfl
theorem q2311 : (Jvm.Cond.selects "HornHousesModel" ({ cls := "HornHousesModel", name := "image", desc := "()V" } : Jvm.MethodName) ({ cls := "HornHousesModel", name := "image", desc := "()V" } : Jvm.MethodName)) ∈ lw_all := lw_g (lw_at lw_m10 30 rfl) rfl
theorem q2312 : (Jvm.Cond.code ({ cls := "HornHousesModel", name := "image", desc := "()V" } : Jvm.MethodName) prog_12_method_127_code (2 : Nat) (Option.none : Option Jvm.ClassFile.FieldType)) ∈ lw_all := lw_g (lw_at lw_m10 31 rfl) rfl
theorem q2314 : (Jvm.Cond.instanceMethod ({ cls := "HornHousesModel", name := "restore", desc := "()Z" } : Jvm.MethodName)) ∈ lw_all := lw_g (lw_at lw_m10 33 rfl) rfl
theorem q2315 : (Jvm.Cond.selects "HornHousesModel" ({ cls := "HornHousesModel", name := "restore", desc := "()Z" } : Jvm.MethodName) ({ cls := "HornHousesModel", name := "restore", desc := "()Z" } : Jvm.MethodName)) ∈ lw_all := lw_g (lw_at lw_m10 34 rfl) rfl
theorem q2316 : (Jvm.Cond.code ({ cls := "HornHousesModel", name := "restore", desc := "()Z" } : Jvm.MethodName) prog_12_method_128_code (2 : Nat) (Option.some Jvm.ClassFile.FieldType.boolean)) ∈ lw_all := lw_g (lw_at lw_m10 35 rfl) rfl
theorem q2330 : (Jvm.Cond.castable "HornHousesModel" "java/lang/Object") ∈ lw_tbl := lw_at lw_m10 49 rfl
theorem in_X4 : ∀ w ∈ wsX40, w ∈ lw_all := lw_in wsX40 [1692, 1694, 1696, 1698, 1700, 1702, 1704, 1706, 1708, 1710, 1712, 1714, 1716, 1718, 1720, 1722, 1724, 1726, 1728, 1730, 1732, 1734, 1736, 1738, 1740, 1742, 1744, 1746, 1748, 1750, 1752, 1754, 1756, 1758, 1760, 1762, 1764, 1766, 1768, 1770, 1772, 1774, 1776, 1778, 1780, 1782, 1784, 1786, 1788, 1790, 1792, 1794, 1796, 1798, 1800, 1802, 1804, 1806, 1808, 1810, 1812, 1814] (by decide +kernel) (by decide +kernel)
