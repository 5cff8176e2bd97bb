/-! HornHouses$Town -/
set_option maxRecDepth 100000
def RX2 : String := "HornHouses$Town"
def TX2 : u_T := fun k => match k with
  | 0 => ("HornHouses$Town", "gives", "Ljava/util/List;", true)
  | 1 => ("HornHouses$Town", "places", "Ljava/util/List;", true)
  | 2 => ("HornHouses$Town", "grows", "Ljava/util/List;", true)
  | 3 => ("HornHouses$Town", "damps", "Ljava/util/List;", true)
  | 4 => ("HornHouses$Town", "eases", "LHornHouses$Form;", false)
  | _ => ("HornHouses$Town", "bursts", "LHornHouses$Form;", false)
def tyX2 : Nat → FieldType := fun k => match k with
  | 0 => .object "java/util/List"
  | 1 => .object "java/util/List"
  | 2 => .object "java/util/List"
  | 3 => .object "java/util/List"
  | 4 => .object "HornHouses$Form"
  | _ => .object "HornHouses$Form"
abbrev wsX20 : List Cond := u_ws RX2 TX2 6
theorem nmX2 : ∀ a, a < 6 → ∀ b, b < 6 → a ≠ b → (TX2 a).2.1 ≠ (TX2 b).2.1 := by decide +kernel
theorem tyX2_ok : ∀ k, k < 6 → parseFieldDescriptor (TX2 k).2.2.1 = some (tyX2 k) := by decide +kernel
abbrev cX2_init : ByteArray := prog_8_method_1_code
def yX2_init : MethodName := ⟨RX2, "<init>", "()V"⟩
def dkwX2_init_2 : List UInt8 := [181, 0, 22, 177]
abbrev dktX2_init_2 : List UInt8 := dkwX2_init_2 ++ []
def dkwX2_init_1 : List UInt8 := [181, 0, 16, 42, 187, 0, 7, 89, 183, 0, 9, 181, 0, 19, 42, 187, 0, 7, 89, 183, 0, 9]
abbrev dktX2_init_1 : List UInt8 := dkwX2_init_1 ++ dktX2_init_2
def dkwX2_init_0 : List UInt8 := [42, 183, 0, 1, 42, 187, 0, 7, 89, 183, 0, 9, 181, 0, 10, 42, 187, 0, 7, 89, 183, 0, 9]
abbrev dktX2_init_0 : List UInt8 := dkwX2_init_0 ++ dktX2_init_1
theorem dksX2_init_0 : cX2_init.data.toList.drop 0 = dktX2_init_0 := by decide +kernel
theorem dksX2_init_1 : cX2_init.data.toList.drop 23 = dktX2_init_1 := dk_seg dksX2_init_0 23 rfl rfl
theorem dksX2_init_2 : cX2_init.data.toList.drop 45 = dktX2_init_2 := dk_seg dksX2_init_1 22 rfl rfl
theorem dX2_init_0 : decode cX2_init 0 = .ok (.aload_n 0, 1) := dk_42 (dk_at dksX2_init_0 0 rfl rfl)
theorem dX2_init_1 : decode cX2_init 1 = .ok (.invokespecial 1, 3) := dk_183 0 1 (dk_at dksX2_init_0 1 rfl rfl)
theorem dX2_init_4 : decode cX2_init 4 = .ok (.aload_n 0, 1) := dk_42 (dk_at dksX2_init_0 4 rfl rfl)
theorem dX2_init_5 : decode cX2_init 5 = .ok (.new 7, 3) := dk_187 0 7 (dk_at dksX2_init_0 5 rfl rfl)
theorem dX2_init_8 : decode cX2_init 8 = .ok (.dup, 1) := dk_89 (dk_at dksX2_init_0 8 rfl rfl)
theorem dX2_init_9 : decode cX2_init 9 = .ok (.invokespecial 9, 3) := dk_183 0 9 (dk_at dksX2_init_0 9 rfl rfl)
theorem dX2_init_12 : decode cX2_init 12 = .ok (.putfield 10, 3) := dk_181 0 10 (dk_at dksX2_init_0 12 rfl rfl)
theorem dX2_init_15 : decode cX2_init 15 = .ok (.aload_n 0, 1) := dk_42 (dk_at dksX2_init_0 15 rfl rfl)
theorem dX2_init_16 : decode cX2_init 16 = .ok (.new 7, 3) := dk_187 0 7 (dk_at dksX2_init_0 16 rfl rfl)
theorem dX2_init_19 : decode cX2_init 19 = .ok (.dup, 1) := dk_89 (dk_at dksX2_init_0 19 rfl rfl)
theorem dX2_init_20 : decode cX2_init 20 = .ok (.invokespecial 9, 3) := dk_183 0 9 (dk_at dksX2_init_0 20 rfl rfl)
theorem dX2_init_23 : decode cX2_init 23 = .ok (.putfield 16, 3) := dk_181 0 16 (dk_at dksX2_init_1 0 rfl rfl)
theorem dX2_init_26 : decode cX2_init 26 = .ok (.aload_n 0, 1) := dk_42 (dk_at dksX2_init_1 3 rfl rfl)
theorem dX2_init_27 : decode cX2_init 27 = .ok (.new 7, 3) := dk_187 0 7 (dk_at dksX2_init_1 4 rfl rfl)
theorem dX2_init_30 : decode cX2_init 30 = .ok (.dup, 1) := dk_89 (dk_at dksX2_init_1 7 rfl rfl)
theorem dX2_init_31 : decode cX2_init 31 = .ok (.invokespecial 9, 3) := dk_183 0 9 (dk_at dksX2_init_1 8 rfl rfl)
theorem dX2_init_34 : decode cX2_init 34 = .ok (.putfield 19, 3) := dk_181 0 19 (dk_at dksX2_init_1 11 rfl rfl)
theorem dX2_init_37 : decode cX2_init 37 = .ok (.aload_n 0, 1) := dk_42 (dk_at dksX2_init_1 14 rfl rfl)
theorem dX2_init_38 : decode cX2_init 38 = .ok (.new 7, 3) := dk_187 0 7 (dk_at dksX2_init_1 15 rfl rfl)
theorem dX2_init_41 : decode cX2_init 41 = .ok (.dup, 1) := dk_89 (dk_at dksX2_init_1 18 rfl rfl)
theorem dX2_init_42 : decode cX2_init 42 = .ok (.invokespecial 9, 3) := dk_183 0 9 (dk_at dksX2_init_1 19 rfl rfl)
theorem dX2_init_45 : decode cX2_init 45 = .ok (.putfield 22, 3) := dk_181 0 22 (dk_at dksX2_init_2 0 rfl rfl)
theorem dX2_init_48 : decode cX2_init 48 = .ok (.return_, 1) := dk_177 (dk_at dksX2_init_2 3 rfl rfl)
abbrev cX2_houses : ByteArray := prog_8_method_2_code
def yX2_houses : MethodName := ⟨RX2, "houses", "()I"⟩
def dkwX2_houses_0 : List UInt8 := [42, 180, 0, 10, 185, 0, 25, 1, 0, 172]
abbrev dktX2_houses_0 : List UInt8 := dkwX2_houses_0 ++ []
theorem dksX2_houses_0 : cX2_houses.data.toList.drop 0 = dktX2_houses_0 := by decide +kernel
theorem dX2_houses_0 : decode cX2_houses 0 = .ok (.aload_n 0, 1) := dk_42 (dk_at dksX2_houses_0 0 rfl rfl)
theorem dX2_houses_1 : decode cX2_houses 1 = .ok (.getfield 10, 3) := dk_180 0 10 (dk_at dksX2_houses_0 1 rfl rfl)
theorem dX2_houses_4 : decode cX2_houses 4 = .ok (.invokeinterface 25 1, 5) := by decide +kernel
theorem dX2_houses_9 : decode cX2_houses 9 = .ok (.ireturn, 1) := dk_172 (dk_at dksX2_houses_0 9 rfl rfl)
abbrev cX2_people : ByteArray := prog_8_method_3_code
def yX2_people : MethodName := ⟨RX2, "people", "()I"⟩
def dkwX2_people_0 : List UInt8 := [42, 180, 0, 19, 185, 0, 25, 1, 0, 172]
abbrev dktX2_people_0 : List UInt8 := dkwX2_people_0 ++ []
theorem dksX2_people_0 : cX2_people.data.toList.drop 0 = dktX2_people_0 := by decide +kernel
theorem dX2_people_0 : decode cX2_people 0 = .ok (.aload_n 0, 1) := dk_42 (dk_at dksX2_people_0 0 rfl rfl)
theorem dX2_people_1 : decode cX2_people 1 = .ok (.getfield 19, 3) := dk_180 0 19 (dk_at dksX2_people_0 1 rfl rfl)
theorem dX2_people_4 : decode cX2_people 4 = .ok (.invokeinterface 25 1, 5) := by decide +kernel
theorem dX2_people_9 : decode cX2_people 9 = .ok (.ireturn, 1) := dk_172 (dk_at dksX2_people_0 9 rfl rfl)
abbrev cX2_damp : ByteArray := prog_8_method_4_code
def yX2_damp : MethodName := ⟨RX2, "damp", "(I)I"⟩
def dkwX2_damp_1 : List UInt8 := [180, 0, 22, 185, 0, 25, 1, 0, 112, 185, 0, 35, 2, 0, 192, 0, 39, 182, 0, 41, 172]
abbrev dktX2_damp_1 : List UInt8 := dkwX2_damp_1 ++ []
def dkwX2_damp_0 : List UInt8 := [42, 180, 0, 22, 185, 0, 31, 1, 0, 153, 0, 7, 6, 167, 0, 29, 42, 180, 0, 22, 27, 42]
abbrev dktX2_damp_0 : List UInt8 := dkwX2_damp_0 ++ dktX2_damp_1
theorem dksX2_damp_0 : cX2_damp.data.toList.drop 0 = dktX2_damp_0 := by decide +kernel
theorem dksX2_damp_1 : cX2_damp.data.toList.drop 22 = dktX2_damp_1 := dk_seg dksX2_damp_0 22 rfl rfl
theorem dX2_damp_0 : decode cX2_damp 0 = .ok (.aload_n 0, 1) := dk_42 (dk_at dksX2_damp_0 0 rfl rfl)
theorem dX2_damp_1 : decode cX2_damp 1 = .ok (.getfield 22, 3) := dk_180 0 22 (dk_at dksX2_damp_0 1 rfl rfl)
theorem dX2_damp_4 : decode cX2_damp 4 = .ok (.invokeinterface 31 1, 5) := by decide +kernel
theorem dX2_damp_9 : decode cX2_damp 9 = .ok (.ifCond .eq 7, 3) := dk_153 0 7 (dk_at dksX2_damp_0 9 rfl rfl)
theorem dX2_damp_12 : decode cX2_damp 12 = .ok (.iconst 3, 1) := dk_6 (dk_at dksX2_damp_0 12 rfl rfl)
theorem dX2_damp_13 : decode cX2_damp 13 = .ok (.goto 29, 3) := dk_167 0 29 (dk_at dksX2_damp_0 13 rfl rfl)
theorem dX2_damp_16 : decode cX2_damp 16 = .ok (.aload_n 0, 1) := dk_42 (dk_at dksX2_damp_0 16 rfl rfl)
theorem dX2_damp_17 : decode cX2_damp 17 = .ok (.getfield 22, 3) := dk_180 0 22 (dk_at dksX2_damp_0 17 rfl rfl)
theorem dX2_damp_20 : decode cX2_damp 20 = .ok (.iload_n 1, 1) := dk_27 (dk_at dksX2_damp_0 20 rfl rfl)
theorem dX2_damp_21 : decode cX2_damp 21 = .ok (.aload_n 0, 1) := dk_42 (dk_at dksX2_damp_0 21 rfl rfl)
theorem dX2_damp_22 : decode cX2_damp 22 = .ok (.getfield 22, 3) := dk_180 0 22 (dk_at dksX2_damp_1 0 rfl rfl)
theorem dX2_damp_25 : decode cX2_damp 25 = .ok (.invokeinterface 25 1, 5) := by decide +kernel
theorem dX2_damp_30 : decode cX2_damp 30 = .ok (.irem, 1) := dk_112 (dk_at dksX2_damp_1 8 rfl rfl)
theorem dX2_damp_31 : decode cX2_damp 31 = .ok (.invokeinterface 35 2, 5) := by decide +kernel
theorem dX2_damp_36 : decode cX2_damp 36 = .ok (.checkcast 39, 3) := dk_192 0 39 (dk_at dksX2_damp_1 14 rfl rfl)
theorem dX2_damp_39 : decode cX2_damp 39 = .ok (.invokevirtual 41, 3) := dk_182 0 41 (dk_at dksX2_damp_1 17 rfl rfl)
theorem dX2_damp_42 : decode cX2_damp 42 = .ok (.ireturn, 1) := dk_172 (dk_at dksX2_damp_1 20 rfl rfl)
theorem q123 : (Jvm.Cond.initialized "HornHouses$Town") ∈ lw_all := lw_g (lw_at lw_m1 2 rfl) rfl
theorem q164 : (Jvm.Cond.instantiable "HornHouses$Town" (6 : Nat)) ∈ lw_all := lw_g (lw_at lw_m1 43 rfl) rfl
theorem q166 : (Jvm.Cond.instanceMethod ({ cls := "HornHouses$Town", name := "<init>", desc := "()V" } : Jvm.MethodName)) ∈ lw_all := lw_g (lw_at lw_m1 45 rfl) rfl
theorem q167 : (Jvm.Cond.code ({ cls := "HornHouses$Town", name := "<init>", desc := "()V" } : Jvm.MethodName) prog_8_method_1_code (1 : Nat) (Option.none : Option Jvm.ClassFile.FieldType)) ∈ lw_all := lw_g (lw_at lw_m1 46 rfl) rfl
theorem q168 : (Jvm.Cond.methodLink "HornHouses$Town" (1 : Nat) ({ cls := "java/lang/Object", name := "<init>", desc := "()V" } : Jvm.MethodName)) ∈ lw_all := lw_g (lw_at lw_m1 47 rfl) rfl
theorem q169 : (Jvm.Cond.classLink "HornHouses$Town" (7 : Nat) "java/util/ArrayList") ∈ lw_all := lw_g (lw_at lw_m1 48 rfl) rfl
theorem q171 : (Jvm.Cond.methodLink "HornHouses$Town" (9 : Nat) ({ cls := "java/util/ArrayList", name := "<init>", desc := "()V" } : Jvm.MethodName)) ∈ lw_all := lw_g (lw_at lw_m1 50 rfl) rfl
theorem q196 : (Jvm.Cond.fieldLink "HornHouses$Town" (10 : Nat) "HornHouses$Town" "gives" "Ljava/util/List;") ∈ lw_all := lw_g (lw_at lw_m1 75 rfl) rfl
theorem q200 : (Jvm.Cond.fieldLink "HornHouses$Town" (16 : Nat) "HornHouses$Town" "places" "Ljava/util/List;") ∈ lw_all := lw_g (lw_at lw_m1 79 rfl) rfl
theorem q203 : (Jvm.Cond.fieldLink "HornHouses$Town" (19 : Nat) "HornHouses$Town" "grows" "Ljava/util/List;") ∈ lw_all := lw_g (lw_at lw_m1 82 rfl) rfl
theorem q207 : (Jvm.Cond.fieldLink "HornHouses$Town" (22 : Nat) "HornHouses$Town" "damps" "Ljava/util/List;") ∈ lw_all := lw_g (lw_at lw_m1 86 rfl) rfl
theorem q213 : (Jvm.Cond.laysFinal "HornHouses$Town" "HornHouses$Town" "gives" "Ljava/util/List;") ∈ lw_all := lw_g (lw_at lw_m1 92 rfl) rfl
theorem q214 : (Jvm.Cond.soleField "HornHouses$Town" "gives") ∈ lw_all := lw_g (lw_at lw_m1 93 rfl) rfl
theorem q215 : (Jvm.Cond.laysFinal "HornHouses$Town" "HornHouses$Town" "places" "Ljava/util/List;") ∈ lw_all := lw_g (lw_at lw_m1 94 rfl) rfl
theorem q216 : (Jvm.Cond.soleField "HornHouses$Town" "places") ∈ lw_all := lw_g (lw_at lw_m1 95 rfl) rfl
theorem q217 : (Jvm.Cond.laysFinal "HornHouses$Town" "HornHouses$Town" "grows" "Ljava/util/List;") ∈ lw_all := lw_g (lw_at lw_m1 96 rfl) rfl
theorem q218 : (Jvm.Cond.soleField "HornHouses$Town" "grows") ∈ lw_all := lw_g (lw_at lw_m1 97 rfl) rfl
theorem q219 : (Jvm.Cond.laysFinal "HornHouses$Town" "HornHouses$Town" "damps" "Ljava/util/List;") ∈ lw_all := lw_g (lw_at lw_m1 98 rfl) rfl
theorem q220 : (Jvm.Cond.soleField "HornHouses$Town" "damps") ∈ lw_all := lw_g (lw_at lw_m1 99 rfl) rfl
theorem q221 : (Jvm.Cond.lays "HornHouses$Town" "HornHouses$Town" "eases" "LHornHouses$Form;") ∈ lw_all := lw_g (lw_at lw_m1 100 rfl) rfl
theorem q222 : (Jvm.Cond.soleField "HornHouses$Town" "eases") ∈ lw_all := lw_g (lw_at lw_m1 101 rfl) rfl
theorem q223 : (Jvm.Cond.lays "HornHouses$Town" "HornHouses$Town" "bursts" "LHornHouses$Form;") ∈ lw_all := lw_g (lw_at lw_m1 102 rfl) rfl
theorem q224 : (Jvm.Cond.soleField "HornHouses$Town" "bursts") ∈ lw_all := lw_g (lw_at lw_m1 103 rfl) rfl
theorem q225 : (Jvm.Cond.superclass "HornHouses$Town" "java/lang/Object") ∈ lw_all := lw_g (lw_at lw_m1 104 rfl) rfl
theorem q401 : (Jvm.Cond.selects "HornHouses$Town" ({ cls := "java/lang/Object", name := "getClass", desc := "()Ljava/lang/Class;" } : Jvm.MethodName) ({ cls := "java/lang/Object", name := "getClass", desc := "()Ljava/lang/Class;" } : Jvm.MethodName)) ∈ lw_all := lw_g (lw_at lw_m2 40 rfl) rfl
theorem q463 : (Jvm.Cond.instanceMethod ({ cls := "HornHouses$Town", name := "houses", desc := "()I" } : Jvm.MethodName)) ∈ lw_all := lw_g (lw_at lw_m2 102 rfl) rfl
theorem q464 : (Jvm.Cond.selects "HornHouses$Town" ({ cls := "HornHouses$Town", name := "houses", desc := "()I" } : Jvm.MethodName) ({ cls := "HornHouses$Town", name := "houses", desc := "()I" } : Jvm.MethodName)) ∈ lw_all := lw_g (lw_at lw_m2 103 rfl) rfl
theorem q465 : (Jvm.Cond.code ({ cls := "HornHouses$Town", name := "houses", desc := "()I" } : Jvm.MethodName) prog_8_method_2_code (1 : Nat) (Option.some Jvm.ClassFile.FieldType.int)) ∈ lw_all := lw_g (lw_at lw_m2 104 rfl) rfl
theorem q466 : (Jvm.Cond.interfaceEntry "HornHouses$Town" (25 : Nat)) ∈ lw_tbl := lw_at lw_m2 105 rfl
theorem q467 : (Jvm.Cond.methodLink "HornHouses$Town" (25 : Nat) ({ cls := "java/util/List", name := "size", desc := "()I" } : Jvm.MethodName)) ∈ lw_all := lw_g (lw_at lw_m2 106 rfl) rfl
theorem q473 : (Jvm.Cond.instanceMethod ({ cls := "HornHouses$Town", name := "people", desc := "()I" } : Jvm.MethodName)) ∈ lw_all := lw_g (lw_at lw_m2 112 rfl) rfl
theorem q474 : (Jvm.Cond.selects "HornHouses$Town" ({ cls := "HornHouses$Town", name := "people", desc := "()I" } : Jvm.MethodName) ({ cls := "HornHouses$Town", name := "people", desc := "()I" } : Jvm.MethodName)) ∈ lw_all := lw_g (lw_at lw_m2 113 rfl) rfl
theorem q475 : (Jvm.Cond.code ({ cls := "HornHouses$Town", name := "people", desc := "()I" } : Jvm.MethodName) prog_8_method_3_code (1 : Nat) (Option.some Jvm.ClassFile.FieldType.int)) ∈ lw_all := lw_g (lw_at lw_m2 114 rfl) rfl
theorem q517 : (Jvm.Cond.instanceMethod ({ cls := "HornHouses$Town", name := "damp", desc := "(I)I" } : Jvm.MethodName)) ∈ lw_all := lw_g (lw_at lw_m2 156 rfl) rfl
theorem q518 : (Jvm.Cond.selects "HornHouses$Town" ({ cls := "HornHouses$Town", name := "damp", desc := "(I)I" } : Jvm.MethodName) ({ cls := "HornHouses$Town", name := "damp", desc := "(I)I" } : Jvm.MethodName)) ∈ lw_all := lw_g (lw_at lw_m2 157 rfl) rfl
theorem q519 : (Jvm.Cond.code ({ cls := "HornHouses$Town", name := "damp", desc := "(I)I" } : Jvm.MethodName) prog_8_method_4_code (2 : Nat) (Option.some Jvm.ClassFile.FieldType.int)) ∈ lw_all := lw_g (lw_at lw_m2 158 rfl) rfl
theorem q520 : (Jvm.Cond.interfaceEntry "HornHouses$Town" (31 : Nat)) ∈ lw_tbl := lw_at lw_m2 159 rfl
theorem q521 : (Jvm.Cond.methodLink "HornHouses$Town" (31 : Nat) ({ cls := "java/util/List", name := "isEmpty", desc := "()Z" } : Jvm.MethodName)) ∈ lw_all := lw_g (lw_at lw_m2 160 rfl) rfl
theorem q529 : (Jvm.Cond.interfaceEntry "HornHouses$Town" (35 : Nat)) ∈ lw_tbl := lw_at lw_m2 168 rfl
theorem q530 : (Jvm.Cond.methodLink "HornHouses$Town" (35 : Nat) ({ cls := "java/util/List", name := "get", desc := "(I)Ljava/lang/Object;" } : Jvm.MethodName)) ∈ lw_all := lw_g (lw_at lw_m2 169 rfl) rfl
theorem q531 : (Jvm.Cond.classLink "HornHouses$Town" (39 : Nat) "java/lang/Integer") ∈ lw_all := lw_g (lw_at lw_m2 170 rfl) rfl
theorem q532 : (Jvm.Cond.methodLink "HornHouses$Town" (41 : Nat) ({ cls := "java/lang/Integer", name := "intValue", desc := "()I" } : Jvm.MethodName)) ∈ lw_all := lw_g (lw_at lw_m2 171 rfl) rfl
theorem q2327 : (Jvm.Cond.castable "HornHouses$Town" "java/lang/Object") ∈ lw_tbl := lw_at lw_m10 46 rfl
theorem in_X2 : ∀ w ∈ wsX20, w ∈ lw_all := lw_in wsX20 [213, 215, 217, 219, 221, 223] (by decide +kernel) (by decide +kernel)
/-! HornHouses$Street -/
set_option maxRecDepth 100000
def RX3 : String := "HornHouses$Street"
def TX3 : u_T := fun k => match k with
  | 0 => ("HornHouses$Street", "size", "[I", true)
  | 1 => ("HornHouses$Street", "worn", "[I", true)
  | 2 => ("HornHouses$Street", "heel", "[I", true)
  | 3 => ("HornHouses$Street", "house", "[I", true)
  | 4 => ("HornHouses$Street", "blisters", "[I", true)
  | 5 => ("HornHouses$Street", "day", "I", false)
  | 6 => ("HornHouses$Street", "burst", "I", false)
  | 7 => ("HornHouses$Street", "letIn", "Z", false)
  | 8 => ("HornHouses$Street", "damp", "I", false)
  | _ => ("HornHouses$Street", "this$0", "LHornHouses;", true)
def tyX3 : Nat → FieldType := fun k => match k with
  | 0 => .array .int
  | 1 => .array .int
  | 2 => .array .int
  | 3 => .array .int
  | 4 => .array .int
  | 5 => .int
  | 6 => .int
  | 7 => .boolean
  | 8 => .int
  | _ => .object "HornHouses"
abbrev wsX30 : List Cond := u_ws RX3 TX3 10
theorem nmX3 : ∀ a, a < 10 → ∀ b, b < 10 → a ≠ b → (TX3 a).2.1 ≠ (TX3 b).2.1 := by decide +kernel
theorem tyX3_ok : ∀ k, k < 10 → parseFieldDescriptor (TX3 k).2.2.1 = some (tyX3 k) := by decide +kernel
abbrev cX3_init : ByteArray := prog_7_method_1_code
def yX3_init : MethodName := ⟨RX3, "<init>", "(LHornHouses;)V"⟩
def dkwX3_init_2 : List UInt8 := [181, 0, 28, 42, 2, 181, 0, 31, 177]
abbrev dktX3_init_2 : List UInt8 := dkwX3_init_2 ++ []
def dkwX3_init_1 : List UInt8 := [181, 0, 19, 42, 16, 8, 188, 10, 181, 0, 22, 42, 16, 8, 188, 10, 181, 0, 25, 42, 16, 8, 188, 10]
abbrev dktX3_init_1 : List UInt8 := dkwX3_init_1 ++ dktX3_init_2
def dkwX3_init_0 : List UInt8 := [42, 43, 181, 0, 3, 42, 183, 0, 9, 42, 16, 8, 188, 10, 181, 0, 15, 42, 16, 8, 188, 10]
abbrev dktX3_init_0 : List UInt8 := dkwX3_init_0 ++ dktX3_init_1
theorem dksX3_init_0 : cX3_init.data.toList.drop 0 = dktX3_init_0 := by decide +kernel
theorem dksX3_init_1 : cX3_init.data.toList.drop 22 = dktX3_init_1 := dk_seg dksX3_init_0 22 rfl rfl
theorem dksX3_init_2 : cX3_init.data.toList.drop 46 = dktX3_init_2 := dk_seg dksX3_init_1 24 rfl rfl
theorem dX3_init_0 : decode cX3_init 0 = .ok (.aload_n 0, 1) := dk_42 (dk_at dksX3_init_0 0 rfl rfl)
theorem dX3_init_1 : decode cX3_init 1 = .ok (.aload_n 1, 1) := dk_43 (dk_at dksX3_init_0 1 rfl rfl)
theorem dX3_init_2 : decode cX3_init 2 = .ok (.putfield 3, 3) := dk_181 0 3 (dk_at dksX3_init_0 2 rfl rfl)
theorem dX3_init_5 : decode cX3_init 5 = .ok (.aload_n 0, 1) := dk_42 (dk_at dksX3_init_0 5 rfl rfl)
theorem dX3_init_6 : decode cX3_init 6 = .ok (.invokespecial 9, 3) := dk_183 0 9 (dk_at dksX3_init_0 6 rfl rfl)
theorem dX3_init_9 : decode cX3_init 9 = .ok (.aload_n 0, 1) := dk_42 (dk_at dksX3_init_0 9 rfl rfl)
theorem dX3_init_10 : decode cX3_init 10 = .ok (.bipush 8, 2) := dk_16 8 (dk_at dksX3_init_0 10 rfl rfl)
theorem dX3_init_12 : decode cX3_init 12 = .ok (.newarray .int, 2) := dk_188_10 (dk_at dksX3_init_0 12 rfl rfl)
theorem dX3_init_14 : decode cX3_init 14 = .ok (.putfield 15, 3) := dk_181 0 15 (dk_at dksX3_init_0 14 rfl rfl)
theorem dX3_init_17 : decode cX3_init 17 = .ok (.aload_n 0, 1) := dk_42 (dk_at dksX3_init_0 17 rfl rfl)
theorem dX3_init_18 : decode cX3_init 18 = .ok (.bipush 8, 2) := dk_16 8 (dk_at dksX3_init_0 18 rfl rfl)
theorem dX3_init_20 : decode cX3_init 20 = .ok (.newarray .int, 2) := dk_188_10 (dk_at dksX3_init_0 20 rfl rfl)
theorem dX3_init_22 : decode cX3_init 22 = .ok (.putfield 19, 3) := dk_181 0 19 (dk_at dksX3_init_1 0 rfl rfl)
theorem dX3_init_25 : decode cX3_init 25 = .ok (.aload_n 0, 1) := dk_42 (dk_at dksX3_init_1 3 rfl rfl)
theorem dX3_init_26 : decode cX3_init 26 = .ok (.bipush 8, 2) := dk_16 8 (dk_at dksX3_init_1 4 rfl rfl)
theorem dX3_init_28 : decode cX3_init 28 = .ok (.newarray .int, 2) := dk_188_10 (dk_at dksX3_init_1 6 rfl rfl)
theorem dX3_init_30 : decode cX3_init 30 = .ok (.putfield 22, 3) := dk_181 0 22 (dk_at dksX3_init_1 8 rfl rfl)
theorem dX3_init_33 : decode cX3_init 33 = .ok (.aload_n 0, 1) := dk_42 (dk_at dksX3_init_1 11 rfl rfl)
theorem dX3_init_34 : decode cX3_init 34 = .ok (.bipush 8, 2) := dk_16 8 (dk_at dksX3_init_1 12 rfl rfl)
theorem dX3_init_36 : decode cX3_init 36 = .ok (.newarray .int, 2) := dk_188_10 (dk_at dksX3_init_1 14 rfl rfl)
theorem dX3_init_38 : decode cX3_init 38 = .ok (.putfield 25, 3) := dk_181 0 25 (dk_at dksX3_init_1 16 rfl rfl)
theorem dX3_init_41 : decode cX3_init 41 = .ok (.aload_n 0, 1) := dk_42 (dk_at dksX3_init_1 19 rfl rfl)
theorem dX3_init_42 : decode cX3_init 42 = .ok (.bipush 8, 2) := dk_16 8 (dk_at dksX3_init_1 20 rfl rfl)
theorem dX3_init_44 : decode cX3_init 44 = .ok (.newarray .int, 2) := dk_188_10 (dk_at dksX3_init_1 22 rfl rfl)
theorem dX3_init_46 : decode cX3_init 46 = .ok (.putfield 28, 3) := dk_181 0 28 (dk_at dksX3_init_2 0 rfl rfl)
theorem dX3_init_49 : decode cX3_init 49 = .ok (.aload_n 0, 1) := dk_42 (dk_at dksX3_init_2 3 rfl rfl)
theorem dX3_init_50 : decode cX3_init 50 = .ok (.iconst (-1), 1) := dk_2 (dk_at dksX3_init_2 4 rfl rfl)
theorem dX3_init_51 : decode cX3_init 51 = .ok (.putfield 31, 3) := dk_181 0 31 (dk_at dksX3_init_2 5 rfl rfl)
theorem dX3_init_54 : decode cX3_init 54 = .ok (.return_, 1) := dk_177 (dk_at dksX3_init_2 8 rfl rfl)
abbrev cX3_copy : ByteArray := prog_7_method_2_code
def yX3_copy : MethodName := ⟨RX3, "copy", "()LHornHouses$Street;"⟩
def dkwX3_copy_0 : List UInt8 := [187, 0, 4, 89, 42, 180, 0, 3, 183, 0, 35, 42, 182, 0, 38, 176]
abbrev dktX3_copy_0 : List UInt8 := dkwX3_copy_0 ++ []
theorem dksX3_copy_0 : cX3_copy.data.toList.drop 0 = dktX3_copy_0 := by decide +kernel
theorem dX3_copy_0 : decode cX3_copy 0 = .ok (.new 4, 3) := dk_187 0 4 (dk_at dksX3_copy_0 0 rfl rfl)
theorem dX3_copy_3 : decode cX3_copy 3 = .ok (.dup, 1) := dk_89 (dk_at dksX3_copy_0 3 rfl rfl)
theorem dX3_copy_4 : decode cX3_copy 4 = .ok (.aload_n 0, 1) := dk_42 (dk_at dksX3_copy_0 4 rfl rfl)
theorem dX3_copy_5 : decode cX3_copy 5 = .ok (.getfield 3, 3) := dk_180 0 3 (dk_at dksX3_copy_0 5 rfl rfl)
theorem dX3_copy_8 : decode cX3_copy 8 = .ok (.invokespecial 35, 3) := dk_183 0 35 (dk_at dksX3_copy_0 8 rfl rfl)
theorem dX3_copy_11 : decode cX3_copy 11 = .ok (.aload_n 0, 1) := dk_42 (dk_at dksX3_copy_0 11 rfl rfl)
theorem dX3_copy_12 : decode cX3_copy 12 = .ok (.invokevirtual 38, 3) := dk_182 0 38 (dk_at dksX3_copy_0 12 rfl rfl)
theorem dX3_copy_15 : decode cX3_copy 15 = .ok (.areturn, 1) := dk_176 (dk_at dksX3_copy_0 15 rfl rfl)
abbrev cX3_be : ByteArray := prog_7_method_3_code
def yX3_be : MethodName := ⟨RX3, "be", "(LHornHouses$Street;)LHornHouses$Street;"⟩
def dkwX3_be_5 : List UInt8 := [42, 176]
abbrev dktX3_be_5 : List UInt8 := dkwX3_be_5 ++ []
def dkwX3_be_4 : List UInt8 := [181, 0, 42, 42, 43, 180, 0, 45, 181, 0, 45, 42, 43, 180, 0, 48, 181, 0, 48, 42, 2, 181, 0, 31]
abbrev dktX3_be_4 : List UInt8 := dkwX3_be_4 ++ dktX3_be_5
def dkwX3_be_3 : List UInt8 := [180, 0, 28, 28, 43, 180, 0, 28, 28, 46, 79, 132, 2, 1, 167, 255, 211, 42, 43, 180, 0, 42]
abbrev dktX3_be_3 : List UInt8 := dkwX3_be_3 ++ dktX3_be_4
def dkwX3_be_2 : List UInt8 := [180, 0, 22, 28, 43, 180, 0, 22, 28, 46, 79, 42, 180, 0, 25, 28, 43, 180, 0, 25, 28, 46, 79, 42]
abbrev dktX3_be_2 : List UInt8 := dkwX3_be_2 ++ dktX3_be_3
def dkwX3_be_1 : List UInt8 := [28, 43, 180, 0, 19, 28, 46, 79, 132, 2, 1, 167, 255, 223, 3, 61, 28, 16, 8, 162, 0, 45, 42]
abbrev dktX3_be_1 : List UInt8 := dkwX3_be_1 ++ dktX3_be_2
def dkwX3_be_0 : List UInt8 := [3, 61, 28, 16, 8, 162, 0, 33, 42, 180, 0, 15, 28, 43, 180, 0, 15, 28, 46, 79, 42, 180, 0, 19]
abbrev dktX3_be_0 : List UInt8 := dkwX3_be_0 ++ dktX3_be_1
theorem dksX3_be_0 : cX3_be.data.toList.drop 0 = dktX3_be_0 := by decide +kernel
theorem dksX3_be_1 : cX3_be.data.toList.drop 24 = dktX3_be_1 := dk_seg dksX3_be_0 24 rfl rfl
theorem dksX3_be_2 : cX3_be.data.toList.drop 47 = dktX3_be_2 := dk_seg dksX3_be_1 23 rfl rfl
theorem dksX3_be_3 : cX3_be.data.toList.drop 71 = dktX3_be_3 := dk_seg dksX3_be_2 24 rfl rfl
theorem dksX3_be_4 : cX3_be.data.toList.drop 93 = dktX3_be_4 := dk_seg dksX3_be_3 22 rfl rfl
theorem dksX3_be_5 : cX3_be.data.toList.drop 117 = dktX3_be_5 := dk_seg dksX3_be_4 24 rfl rfl
theorem dX3_be_0 : decode cX3_be 0 = .ok (.iconst 0, 1) := dk_3 (dk_at dksX3_be_0 0 rfl rfl)
theorem dX3_be_1 : decode cX3_be 1 = .ok (.istore_n 2, 1) := dk_61 (dk_at dksX3_be_0 1 rfl rfl)
theorem dX3_be_2 : decode cX3_be 2 = .ok (.iload_n 2, 1) := dk_28 (dk_at dksX3_be_0 2 rfl rfl)
theorem dX3_be_3 : decode cX3_be 3 = .ok (.bipush 8, 2) := dk_16 8 (dk_at dksX3_be_0 3 rfl rfl)
theorem dX3_be_5 : decode cX3_be 5 = .ok (.if_icmp .ge 33, 3) := dk_162 0 33 (dk_at dksX3_be_0 5 rfl rfl)
theorem dX3_be_8 : decode cX3_be 8 = .ok (.aload_n 0, 1) := dk_42 (dk_at dksX3_be_0 8 rfl rfl)
theorem dX3_be_9 : decode cX3_be 9 = .ok (.getfield 15, 3) := dk_180 0 15 (dk_at dksX3_be_0 9 rfl rfl)
theorem dX3_be_12 : decode cX3_be 12 = .ok (.iload_n 2, 1) := dk_28 (dk_at dksX3_be_0 12 rfl rfl)
theorem dX3_be_13 : decode cX3_be 13 = .ok (.aload_n 1, 1) := dk_43 (dk_at dksX3_be_0 13 rfl rfl)
theorem dX3_be_14 : decode cX3_be 14 = .ok (.getfield 15, 3) := dk_180 0 15 (dk_at dksX3_be_0 14 rfl rfl)
theorem dX3_be_17 : decode cX3_be 17 = .ok (.iload_n 2, 1) := dk_28 (dk_at dksX3_be_0 17 rfl rfl)
theorem dX3_be_18 : decode cX3_be 18 = .ok (.iaload, 1) := dk_46 (dk_at dksX3_be_0 18 rfl rfl)
theorem dX3_be_19 : decode cX3_be 19 = .ok (.iastore, 1) := dk_79 (dk_at dksX3_be_0 19 rfl rfl)
theorem dX3_be_20 : decode cX3_be 20 = .ok (.aload_n 0, 1) := dk_42 (dk_at dksX3_be_0 20 rfl rfl)
theorem dX3_be_21 : decode cX3_be 21 = .ok (.getfield 19, 3) := dk_180 0 19 (dk_at dksX3_be_0 21 rfl rfl)
theorem dX3_be_24 : decode cX3_be 24 = .ok (.iload_n 2, 1) := dk_28 (dk_at dksX3_be_1 0 rfl rfl)
theorem dX3_be_25 : decode cX3_be 25 = .ok (.aload_n 1, 1) := dk_43 (dk_at dksX3_be_1 1 rfl rfl)
theorem dX3_be_26 : decode cX3_be 26 = .ok (.getfield 19, 3) := dk_180 0 19 (dk_at dksX3_be_1 2 rfl rfl)
theorem dX3_be_29 : decode cX3_be 29 = .ok (.iload_n 2, 1) := dk_28 (dk_at dksX3_be_1 5 rfl rfl)
theorem dX3_be_30 : decode cX3_be 30 = .ok (.iaload, 1) := dk_46 (dk_at dksX3_be_1 6 rfl rfl)
theorem dX3_be_31 : decode cX3_be 31 = .ok (.iastore, 1) := dk_79 (dk_at dksX3_be_1 7 rfl rfl)
theorem dX3_be_32 : decode cX3_be 32 = .ok (.iinc 2 1, 3) := dk_132 2 1 (dk_at dksX3_be_1 8 rfl rfl)
theorem dX3_be_35 : decode cX3_be 35 = .ok (.goto (-33), 3) := dk_167 255 223 (dk_at dksX3_be_1 11 rfl rfl)
theorem dX3_be_38 : decode cX3_be 38 = .ok (.iconst 0, 1) := dk_3 (dk_at dksX3_be_1 14 rfl rfl)
theorem dX3_be_39 : decode cX3_be 39 = .ok (.istore_n 2, 1) := dk_61 (dk_at dksX3_be_1 15 rfl rfl)
theorem dX3_be_40 : decode cX3_be 40 = .ok (.iload_n 2, 1) := dk_28 (dk_at dksX3_be_1 16 rfl rfl)
theorem dX3_be_41 : decode cX3_be 41 = .ok (.bipush 8, 2) := dk_16 8 (dk_at dksX3_be_1 17 rfl rfl)
theorem dX3_be_43 : decode cX3_be 43 = .ok (.if_icmp .ge 45, 3) := dk_162 0 45 (dk_at dksX3_be_1 19 rfl rfl)
theorem dX3_be_46 : decode cX3_be 46 = .ok (.aload_n 0, 1) := dk_42 (dk_at dksX3_be_1 22 rfl rfl)
theorem dX3_be_47 : decode cX3_be 47 = .ok (.getfield 22, 3) := dk_180 0 22 (dk_at dksX3_be_2 0 rfl rfl)
theorem dX3_be_50 : decode cX3_be 50 = .ok (.iload_n 2, 1) := dk_28 (dk_at dksX3_be_2 3 rfl rfl)
theorem dX3_be_51 : decode cX3_be 51 = .ok (.aload_n 1, 1) := dk_43 (dk_at dksX3_be_2 4 rfl rfl)
theorem dX3_be_52 : decode cX3_be 52 = .ok (.getfield 22, 3) := dk_180 0 22 (dk_at dksX3_be_2 5 rfl rfl)
theorem dX3_be_55 : decode cX3_be 55 = .ok (.iload_n 2, 1) := dk_28 (dk_at dksX3_be_2 8 rfl rfl)
theorem dX3_be_56 : decode cX3_be 56 = .ok (.iaload, 1) := dk_46 (dk_at dksX3_be_2 9 rfl rfl)
theorem dX3_be_57 : decode cX3_be 57 = .ok (.iastore, 1) := dk_79 (dk_at dksX3_be_2 10 rfl rfl)
theorem dX3_be_58 : decode cX3_be 58 = .ok (.aload_n 0, 1) := dk_42 (dk_at dksX3_be_2 11 rfl rfl)
theorem dX3_be_59 : decode cX3_be 59 = .ok (.getfield 25, 3) := dk_180 0 25 (dk_at dksX3_be_2 12 rfl rfl)
theorem dX3_be_62 : decode cX3_be 62 = .ok (.iload_n 2, 1) := dk_28 (dk_at dksX3_be_2 15 rfl rfl)
theorem dX3_be_63 : decode cX3_be 63 = .ok (.aload_n 1, 1) := dk_43 (dk_at dksX3_be_2 16 rfl rfl)
theorem dX3_be_64 : decode cX3_be 64 = .ok (.getfield 25, 3) := dk_180 0 25 (dk_at dksX3_be_2 17 rfl rfl)
theorem dX3_be_67 : decode cX3_be 67 = .ok (.iload_n 2, 1) := dk_28 (dk_at dksX3_be_2 20 rfl rfl)
theorem dX3_be_68 : decode cX3_be 68 = .ok (.iaload, 1) := dk_46 (dk_at dksX3_be_2 21 rfl rfl)
theorem dX3_be_69 : decode cX3_be 69 = .ok (.iastore, 1) := dk_79 (dk_at dksX3_be_2 22 rfl rfl)
theorem dX3_be_70 : decode cX3_be 70 = .ok (.aload_n 0, 1) := dk_42 (dk_at dksX3_be_2 23 rfl rfl)
theorem dX3_be_71 : decode cX3_be 71 = .ok (.getfield 28, 3) := dk_180 0 28 (dk_at dksX3_be_3 0 rfl rfl)
theorem dX3_be_74 : decode cX3_be 74 = .ok (.iload_n 2, 1) := dk_28 (dk_at dksX3_be_3 3 rfl rfl)
theorem dX3_be_75 : decode cX3_be 75 = .ok (.aload_n 1, 1) := dk_43 (dk_at dksX3_be_3 4 rfl rfl)
theorem dX3_be_76 : decode cX3_be 76 = .ok (.getfield 28, 3) := dk_180 0 28 (dk_at dksX3_be_3 5 rfl rfl)
theorem dX3_be_79 : decode cX3_be 79 = .ok (.iload_n 2, 1) := dk_28 (dk_at dksX3_be_3 8 rfl rfl)
theorem dX3_be_80 : decode cX3_be 80 = .ok (.iaload, 1) := dk_46 (dk_at dksX3_be_3 9 rfl rfl)
theorem dX3_be_81 : decode cX3_be 81 = .ok (.iastore, 1) := dk_79 (dk_at dksX3_be_3 10 rfl rfl)
theorem dX3_be_82 : decode cX3_be 82 = .ok (.iinc 2 1, 3) := dk_132 2 1 (dk_at dksX3_be_3 11 rfl rfl)
theorem dX3_be_85 : decode cX3_be 85 = .ok (.goto (-45), 3) := dk_167 255 211 (dk_at dksX3_be_3 14 rfl rfl)
theorem dX3_be_88 : decode cX3_be 88 = .ok (.aload_n 0, 1) := dk_42 (dk_at dksX3_be_3 17 rfl rfl)
theorem dX3_be_89 : decode cX3_be 89 = .ok (.aload_n 1, 1) := dk_43 (dk_at dksX3_be_3 18 rfl rfl)
theorem dX3_be_90 : decode cX3_be 90 = .ok (.getfield 42, 3) := dk_180 0 42 (dk_at dksX3_be_3 19 rfl rfl)
theorem dX3_be_93 : decode cX3_be 93 = .ok (.putfield 42, 3) := dk_181 0 42 (dk_at dksX3_be_4 0 rfl rfl)
theorem dX3_be_96 : decode cX3_be 96 = .ok (.aload_n 0, 1) := dk_42 (dk_at dksX3_be_4 3 rfl rfl)
theorem dX3_be_97 : decode cX3_be 97 = .ok (.aload_n 1, 1) := dk_43 (dk_at dksX3_be_4 4 rfl rfl)
theorem dX3_be_98 : decode cX3_be 98 = .ok (.getfield 45, 3) := dk_180 0 45 (dk_at dksX3_be_4 5 rfl rfl)
theorem dX3_be_101 : decode cX3_be 101 = .ok (.putfield 45, 3) := dk_181 0 45 (dk_at dksX3_be_4 8 rfl rfl)
theorem dX3_be_104 : decode cX3_be 104 = .ok (.aload_n 0, 1) := dk_42 (dk_at dksX3_be_4 11 rfl rfl)
theorem dX3_be_105 : decode cX3_be 105 = .ok (.aload_n 1, 1) := dk_43 (dk_at dksX3_be_4 12 rfl rfl)
theorem dX3_be_106 : decode cX3_be 106 = .ok (.getfield 48, 3) := dk_180 0 48 (dk_at dksX3_be_4 13 rfl rfl)
theorem dX3_be_109 : decode cX3_be 109 = .ok (.putfield 48, 3) := dk_181 0 48 (dk_at dksX3_be_4 16 rfl rfl)
theorem dX3_be_112 : decode cX3_be 112 = .ok (.aload_n 0, 1) := dk_42 (dk_at dksX3_be_4 19 rfl rfl)
theorem dX3_be_113 : decode cX3_be 113 = .ok (.iconst (-1), 1) := dk_2 (dk_at dksX3_be_4 20 rfl rfl)
theorem dX3_be_114 : decode cX3_be 114 = .ok (.putfield 31, 3) := dk_181 0 31 (dk_at dksX3_be_4 21 rfl rfl)
theorem dX3_be_117 : decode cX3_be 117 = .ok (.aload_n 0, 1) := dk_42 (dk_at dksX3_be_5 0 rfl rfl)
theorem dX3_be_118 : decode cX3_be 118 = .ok (.areturn, 1) := dk_176 (dk_at dksX3_be_5 1 rfl rfl)
abbrev cX3_after : ByteArray := prog_7_method_14_code
def yX3_after : MethodName := ⟨RX3, "after", "(I)LHornHouses$Street;"⟩
def dkwX3_after_0 : List UInt8 := [3, 61, 28, 27, 162, 0, 14, 42, 182, 0, 138, 87, 132, 2, 1, 167, 255, 243, 42, 176]
abbrev dktX3_after_0 : List UInt8 := dkwX3_after_0 ++ []
theorem dksX3_after_0 : cX3_after.data.toList.drop 0 = dktX3_after_0 := by decide +kernel
theorem dX3_after_0 : decode cX3_after 0 = .ok (.iconst 0, 1) := dk_3 (dk_at dksX3_after_0 0 rfl rfl)
theorem dX3_after_1 : decode cX3_after 1 = .ok (.istore_n 2, 1) := dk_61 (dk_at dksX3_after_0 1 rfl rfl)
theorem dX3_after_2 : decode cX3_after 2 = .ok (.iload_n 2, 1) := dk_28 (dk_at dksX3_after_0 2 rfl rfl)
theorem dX3_after_3 : decode cX3_after 3 = .ok (.iload_n 1, 1) := dk_27 (dk_at dksX3_after_0 3 rfl rfl)
theorem dX3_after_4 : decode cX3_after 4 = .ok (.if_icmp .ge 14, 3) := dk_162 0 14 (dk_at dksX3_after_0 4 rfl rfl)
theorem dX3_after_7 : decode cX3_after 7 = .ok (.aload_n 0, 1) := dk_42 (dk_at dksX3_after_0 7 rfl rfl)
theorem dX3_after_8 : decode cX3_after 8 = .ok (.invokevirtual 138, 3) := dk_182 0 138 (dk_at dksX3_after_0 8 rfl rfl)
theorem dX3_after_11 : decode cX3_after 11 = .ok (.pop, 1) := dk_87 (dk_at dksX3_after_0 11 rfl rfl)
theorem dX3_after_12 : decode cX3_after 12 = .ok (.iinc 2 1, 3) := dk_132 2 1 (dk_at dksX3_after_0 12 rfl rfl)
theorem dX3_after_15 : decode cX3_after 15 = .ok (.goto (-13), 3) := dk_167 255 243 (dk_at dksX3_after_0 15 rfl rfl)
theorem dX3_after_18 : decode cX3_after 18 = .ok (.aload_n 0, 1) := dk_42 (dk_at dksX3_after_0 18 rfl rfl)
theorem dX3_after_19 : decode cX3_after 19 = .ok (.areturn, 1) := dk_176 (dk_at dksX3_after_0 19 rfl rfl)
abbrev cX3_pass : ByteArray := prog_7_method_13_code
def yX3_pass : MethodName := ⟨RX3, "pass", "()LHornHouses$Street;"⟩
def dkwX3_pass_5 : List UInt8 := [181, 0, 42, 42, 176]
abbrev dktX3_pass_5 : List UInt8 := dkwX3_pass_5 ++ []
def dkwX3_pass_4 : List UInt8 := [184, 0, 108, 79, 132, 1, 1, 167, 255, 199, 42, 3, 181, 0, 48, 42, 89, 180, 0, 42, 4, 96]
abbrev dktX3_pass_4 : List UInt8 := dkwX3_pass_4 ++ dktX3_pass_5
def dkwX3_pass_3 : List UInt8 := [46, 42, 180, 0, 3, 180, 0, 52, 180, 0, 135, 27, 185, 0, 78, 2, 0, 192, 0, 84, 182, 0, 86, 96]
abbrev dktX3_pass_3 : List UInt8 := dkwX3_pass_3 ++ dktX3_pass_4
def dkwX3_pass_2 : List UInt8 := [180, 0, 3, 180, 0, 52, 182, 0, 67, 162, 0, 49, 42, 180, 0, 22, 27, 16, 99, 42, 180, 0, 22, 27]
abbrev dktX3_pass_2 : List UInt8 := dkwX3_pass_2 ++ dktX3_pass_3
def dkwX3_pass_1 : List UInt8 := [159, 0, 13, 42, 42, 27, 182, 0, 117, 27, 182, 0, 131, 132, 1, 1, 167, 255, 220, 3, 60, 27, 42]
abbrev dktX3_pass_1 : List UInt8 := dkwX3_pass_1 ++ dktX3_pass_2
def dkwX3_pass_0 : List UInt8 := [3, 60, 27, 42, 180, 0, 3, 180, 0, 52, 182, 0, 128, 162, 0, 28, 42, 27, 182, 0, 117, 2]
abbrev dktX3_pass_0 : List UInt8 := dkwX3_pass_0 ++ dktX3_pass_1
theorem dksX3_pass_0 : cX3_pass.data.toList.drop 0 = dktX3_pass_0 := by decide +kernel
theorem dksX3_pass_1 : cX3_pass.data.toList.drop 22 = dktX3_pass_1 := dk_seg dksX3_pass_0 22 rfl rfl
theorem dksX3_pass_2 : cX3_pass.data.toList.drop 45 = dktX3_pass_2 := dk_seg dksX3_pass_1 23 rfl rfl
theorem dksX3_pass_3 : cX3_pass.data.toList.drop 69 = dktX3_pass_3 := dk_seg dksX3_pass_2 24 rfl rfl
theorem dksX3_pass_4 : cX3_pass.data.toList.drop 93 = dktX3_pass_4 := dk_seg dksX3_pass_3 24 rfl rfl
theorem dksX3_pass_5 : cX3_pass.data.toList.drop 115 = dktX3_pass_5 := dk_seg dksX3_pass_4 22 rfl rfl
theorem dX3_pass_0 : decode cX3_pass 0 = .ok (.iconst 0, 1) := dk_3 (dk_at dksX3_pass_0 0 rfl rfl)
theorem dX3_pass_1 : decode cX3_pass 1 = .ok (.istore_n 1, 1) := dk_60 (dk_at dksX3_pass_0 1 rfl rfl)
theorem dX3_pass_2 : decode cX3_pass 2 = .ok (.iload_n 1, 1) := dk_27 (dk_at dksX3_pass_0 2 rfl rfl)
theorem dX3_pass_3 : decode cX3_pass 3 = .ok (.aload_n 0, 1) := dk_42 (dk_at dksX3_pass_0 3 rfl rfl)
theorem dX3_pass_4 : decode cX3_pass 4 = .ok (.getfield 3, 3) := dk_180 0 3 (dk_at dksX3_pass_0 4 rfl rfl)
theorem dX3_pass_7 : decode cX3_pass 7 = .ok (.getfield 52, 3) := dk_180 0 52 (dk_at dksX3_pass_0 7 rfl rfl)
theorem dX3_pass_10 : decode cX3_pass 10 = .ok (.invokevirtual 128, 3) := dk_182 0 128 (dk_at dksX3_pass_0 10 rfl rfl)
theorem dX3_pass_13 : decode cX3_pass 13 = .ok (.if_icmp .ge 28, 3) := dk_162 0 28 (dk_at dksX3_pass_0 13 rfl rfl)
theorem dX3_pass_16 : decode cX3_pass 16 = .ok (.aload_n 0, 1) := dk_42 (dk_at dksX3_pass_0 16 rfl rfl)
theorem dX3_pass_17 : decode cX3_pass 17 = .ok (.iload_n 1, 1) := dk_27 (dk_at dksX3_pass_0 17 rfl rfl)
theorem dX3_pass_18 : decode cX3_pass 18 = .ok (.invokevirtual 117, 3) := dk_182 0 117 (dk_at dksX3_pass_0 18 rfl rfl)
theorem dX3_pass_21 : decode cX3_pass 21 = .ok (.iconst (-1), 1) := dk_2 (dk_at dksX3_pass_0 21 rfl rfl)
theorem dX3_pass_22 : decode cX3_pass 22 = .ok (.if_icmp .eq 13, 3) := dk_159 0 13 (dk_at dksX3_pass_1 0 rfl rfl)
theorem dX3_pass_25 : decode cX3_pass 25 = .ok (.aload_n 0, 1) := dk_42 (dk_at dksX3_pass_1 3 rfl rfl)
theorem dX3_pass_26 : decode cX3_pass 26 = .ok (.aload_n 0, 1) := dk_42 (dk_at dksX3_pass_1 4 rfl rfl)
theorem dX3_pass_27 : decode cX3_pass 27 = .ok (.iload_n 1, 1) := dk_27 (dk_at dksX3_pass_1 5 rfl rfl)
theorem dX3_pass_28 : decode cX3_pass 28 = .ok (.invokevirtual 117, 3) := dk_182 0 117 (dk_at dksX3_pass_1 6 rfl rfl)
theorem dX3_pass_31 : decode cX3_pass 31 = .ok (.iload_n 1, 1) := dk_27 (dk_at dksX3_pass_1 9 rfl rfl)
theorem dX3_pass_32 : decode cX3_pass 32 = .ok (.invokevirtual 131, 3) := dk_182 0 131 (dk_at dksX3_pass_1 10 rfl rfl)
theorem dX3_pass_35 : decode cX3_pass 35 = .ok (.iinc 1 1, 3) := dk_132 1 1 (dk_at dksX3_pass_1 13 rfl rfl)
theorem dX3_pass_38 : decode cX3_pass 38 = .ok (.goto (-36), 3) := dk_167 255 220 (dk_at dksX3_pass_1 16 rfl rfl)
theorem dX3_pass_41 : decode cX3_pass 41 = .ok (.iconst 0, 1) := dk_3 (dk_at dksX3_pass_1 19 rfl rfl)
theorem dX3_pass_42 : decode cX3_pass 42 = .ok (.istore_n 1, 1) := dk_60 (dk_at dksX3_pass_1 20 rfl rfl)
theorem dX3_pass_43 : decode cX3_pass 43 = .ok (.iload_n 1, 1) := dk_27 (dk_at dksX3_pass_1 21 rfl rfl)
theorem dX3_pass_44 : decode cX3_pass 44 = .ok (.aload_n 0, 1) := dk_42 (dk_at dksX3_pass_1 22 rfl rfl)
theorem dX3_pass_45 : decode cX3_pass 45 = .ok (.getfield 3, 3) := dk_180 0 3 (dk_at dksX3_pass_2 0 rfl rfl)
theorem dX3_pass_48 : decode cX3_pass 48 = .ok (.getfield 52, 3) := dk_180 0 52 (dk_at dksX3_pass_2 3 rfl rfl)
theorem dX3_pass_51 : decode cX3_pass 51 = .ok (.invokevirtual 67, 3) := dk_182 0 67 (dk_at dksX3_pass_2 6 rfl rfl)
theorem dX3_pass_54 : decode cX3_pass 54 = .ok (.if_icmp .ge 49, 3) := dk_162 0 49 (dk_at dksX3_pass_2 9 rfl rfl)
theorem dX3_pass_57 : decode cX3_pass 57 = .ok (.aload_n 0, 1) := dk_42 (dk_at dksX3_pass_2 12 rfl rfl)
theorem dX3_pass_58 : decode cX3_pass 58 = .ok (.getfield 22, 3) := dk_180 0 22 (dk_at dksX3_pass_2 13 rfl rfl)
theorem dX3_pass_61 : decode cX3_pass 61 = .ok (.iload_n 1, 1) := dk_27 (dk_at dksX3_pass_2 16 rfl rfl)
theorem dX3_pass_62 : decode cX3_pass 62 = .ok (.bipush 99, 2) := dk_16 99 (dk_at dksX3_pass_2 17 rfl rfl)
theorem dX3_pass_64 : decode cX3_pass 64 = .ok (.aload_n 0, 1) := dk_42 (dk_at dksX3_pass_2 19 rfl rfl)
theorem dX3_pass_65 : decode cX3_pass 65 = .ok (.getfield 22, 3) := dk_180 0 22 (dk_at dksX3_pass_2 20 rfl rfl)
theorem dX3_pass_68 : decode cX3_pass 68 = .ok (.iload_n 1, 1) := dk_27 (dk_at dksX3_pass_2 23 rfl rfl)
theorem dX3_pass_69 : decode cX3_pass 69 = .ok (.iaload, 1) := dk_46 (dk_at dksX3_pass_3 0 rfl rfl)
theorem dX3_pass_70 : decode cX3_pass 70 = .ok (.aload_n 0, 1) := dk_42 (dk_at dksX3_pass_3 1 rfl rfl)
theorem dX3_pass_71 : decode cX3_pass 71 = .ok (.getfield 3, 3) := dk_180 0 3 (dk_at dksX3_pass_3 2 rfl rfl)
theorem dX3_pass_74 : decode cX3_pass 74 = .ok (.getfield 52, 3) := dk_180 0 52 (dk_at dksX3_pass_3 5 rfl rfl)
theorem dX3_pass_77 : decode cX3_pass 77 = .ok (.getfield 135, 3) := dk_180 0 135 (dk_at dksX3_pass_3 8 rfl rfl)
theorem dX3_pass_80 : decode cX3_pass 80 = .ok (.iload_n 1, 1) := dk_27 (dk_at dksX3_pass_3 11 rfl rfl)
theorem dX3_pass_81 : decode cX3_pass 81 = .ok (.invokeinterface 78 2, 5) := by decide +kernel
theorem dX3_pass_86 : decode cX3_pass 86 = .ok (.checkcast 84, 3) := dk_192 0 84 (dk_at dksX3_pass_3 17 rfl rfl)
theorem dX3_pass_89 : decode cX3_pass 89 = .ok (.invokevirtual 86, 3) := dk_182 0 86 (dk_at dksX3_pass_3 20 rfl rfl)
theorem dX3_pass_92 : decode cX3_pass 92 = .ok (.iadd, 1) := dk_96 (dk_at dksX3_pass_3 23 rfl rfl)
theorem dX3_pass_93 : decode cX3_pass 93 = .ok (.invokestatic 108, 3) := dk_184 0 108 (dk_at dksX3_pass_4 0 rfl rfl)
theorem dX3_pass_96 : decode cX3_pass 96 = .ok (.iastore, 1) := dk_79 (dk_at dksX3_pass_4 3 rfl rfl)
theorem dX3_pass_97 : decode cX3_pass 97 = .ok (.iinc 1 1, 3) := dk_132 1 1 (dk_at dksX3_pass_4 4 rfl rfl)
theorem dX3_pass_100 : decode cX3_pass 100 = .ok (.goto (-57), 3) := dk_167 255 199 (dk_at dksX3_pass_4 7 rfl rfl)
theorem dX3_pass_103 : decode cX3_pass 103 = .ok (.aload_n 0, 1) := dk_42 (dk_at dksX3_pass_4 10 rfl rfl)
theorem dX3_pass_104 : decode cX3_pass 104 = .ok (.iconst 0, 1) := dk_3 (dk_at dksX3_pass_4 11 rfl rfl)
theorem dX3_pass_105 : decode cX3_pass 105 = .ok (.putfield 48, 3) := dk_181 0 48 (dk_at dksX3_pass_4 12 rfl rfl)
theorem dX3_pass_108 : decode cX3_pass 108 = .ok (.aload_n 0, 1) := dk_42 (dk_at dksX3_pass_4 15 rfl rfl)
theorem dX3_pass_109 : decode cX3_pass 109 = .ok (.dup, 1) := dk_89 (dk_at dksX3_pass_4 16 rfl rfl)
theorem dX3_pass_110 : decode cX3_pass 110 = .ok (.getfield 42, 3) := dk_180 0 42 (dk_at dksX3_pass_4 17 rfl rfl)
theorem dX3_pass_113 : decode cX3_pass 113 = .ok (.iconst 1, 1) := dk_4 (dk_at dksX3_pass_4 20 rfl rfl)
theorem dX3_pass_114 : decode cX3_pass 114 = .ok (.iadd, 1) := dk_96 (dk_at dksX3_pass_4 21 rfl rfl)
theorem dX3_pass_115 : decode cX3_pass 115 = .ok (.putfield 42, 3) := dk_181 0 42 (dk_at dksX3_pass_5 0 rfl rfl)
theorem dX3_pass_118 : decode cX3_pass 118 = .ok (.aload_n 0, 1) := dk_42 (dk_at dksX3_pass_5 3 rfl rfl)
theorem dX3_pass_119 : decode cX3_pass 119 = .ok (.areturn, 1) := dk_176 (dk_at dksX3_pass_5 4 rfl rfl)
abbrev cX3_in : ByteArray := prog_7_method_6_code
def yX3_in : MethodName := ⟨RX3, "in", "(I)I"⟩
def dkwX3_in_1 : List UInt8 := [160, 0, 5, 28, 172, 132, 2, 1, 167, 255, 227, 2, 172]
abbrev dktX3_in_1 : List UInt8 := dkwX3_in_1 ++ []
def dkwX3_in_0 : List UInt8 := [3, 61, 28, 42, 180, 0, 3, 180, 0, 52, 182, 0, 67, 162, 0, 21, 42, 180, 0, 25, 28, 46, 27]
abbrev dktX3_in_0 : List UInt8 := dkwX3_in_0 ++ dktX3_in_1
theorem dksX3_in_0 : cX3_in.data.toList.drop 0 = dktX3_in_0 := by decide +kernel
theorem dksX3_in_1 : cX3_in.data.toList.drop 23 = dktX3_in_1 := dk_seg dksX3_in_0 23 rfl rfl
theorem dX3_in_0 : decode cX3_in 0 = .ok (.iconst 0, 1) := dk_3 (dk_at dksX3_in_0 0 rfl rfl)
theorem dX3_in_1 : decode cX3_in 1 = .ok (.istore_n 2, 1) := dk_61 (dk_at dksX3_in_0 1 rfl rfl)
theorem dX3_in_2 : decode cX3_in 2 = .ok (.iload_n 2, 1) := dk_28 (dk_at dksX3_in_0 2 rfl rfl)
theorem dX3_in_3 : decode cX3_in 3 = .ok (.aload_n 0, 1) := dk_42 (dk_at dksX3_in_0 3 rfl rfl)
theorem dX3_in_4 : decode cX3_in 4 = .ok (.getfield 3, 3) := dk_180 0 3 (dk_at dksX3_in_0 4 rfl rfl)
theorem dX3_in_7 : decode cX3_in 7 = .ok (.getfield 52, 3) := dk_180 0 52 (dk_at dksX3_in_0 7 rfl rfl)
theorem dX3_in_10 : decode cX3_in 10 = .ok (.invokevirtual 67, 3) := dk_182 0 67 (dk_at dksX3_in_0 10 rfl rfl)
theorem dX3_in_13 : decode cX3_in 13 = .ok (.if_icmp .ge 21, 3) := dk_162 0 21 (dk_at dksX3_in_0 13 rfl rfl)
theorem dX3_in_16 : decode cX3_in 16 = .ok (.aload_n 0, 1) := dk_42 (dk_at dksX3_in_0 16 rfl rfl)
theorem dX3_in_17 : decode cX3_in 17 = .ok (.getfield 25, 3) := dk_180 0 25 (dk_at dksX3_in_0 17 rfl rfl)
theorem dX3_in_20 : decode cX3_in 20 = .ok (.iload_n 2, 1) := dk_28 (dk_at dksX3_in_0 20 rfl rfl)
theorem dX3_in_21 : decode cX3_in 21 = .ok (.iaload, 1) := dk_46 (dk_at dksX3_in_0 21 rfl rfl)
theorem dX3_in_22 : decode cX3_in 22 = .ok (.iload_n 1, 1) := dk_27 (dk_at dksX3_in_0 22 rfl rfl)
theorem dX3_in_23 : decode cX3_in 23 = .ok (.if_icmp .ne 5, 3) := dk_160 0 5 (dk_at dksX3_in_1 0 rfl rfl)
theorem dX3_in_26 : decode cX3_in 26 = .ok (.iload_n 2, 1) := dk_28 (dk_at dksX3_in_1 3 rfl rfl)
theorem dX3_in_27 : decode cX3_in 27 = .ok (.ireturn, 1) := dk_172 (dk_at dksX3_in_1 4 rfl rfl)
theorem dX3_in_28 : decode cX3_in 28 = .ok (.iinc 2 1, 3) := dk_132 2 1 (dk_at dksX3_in_1 5 rfl rfl)
theorem dX3_in_31 : decode cX3_in 31 = .ok (.goto (-29), 3) := dk_167 255 227 (dk_at dksX3_in_1 8 rfl rfl)
theorem dX3_in_34 : decode cX3_in 34 = .ok (.iconst (-1), 1) := dk_2 (dk_at dksX3_in_1 11 rfl rfl)
theorem dX3_in_35 : decode cX3_in 35 = .ok (.ireturn, 1) := dk_172 (dk_at dksX3_in_1 12 rfl rfl)
abbrev cX3_wear : ByteArray := prog_7_method_12_code
def yX3_wear : MethodName := ⟨RX3, "wear", "(II)V"⟩
def dkwX3_wear_3 : List UInt8 := [180, 0, 25, 27, 2, 79, 177]
abbrev dktX3_wear_3 : List UInt8 := dkwX3_wear_3 ++ []
def dkwX3_wear_2 : List UInt8 := [79, 42, 27, 28, 182, 0, 126, 154, 0, 4, 177, 42, 89, 180, 0, 45, 4, 28, 120, 128, 181, 0, 45, 42]
abbrev dktX3_wear_2 : List UInt8 := dkwX3_wear_2 ++ dktX3_wear_3
def dkwX3_wear_1 : List UInt8 := [42, 180, 0, 28, 27, 17, 3, 231, 42, 180, 0, 28, 27, 46, 42, 27, 28, 182, 0, 91, 96, 184, 0, 108]
abbrev dktX3_wear_1 : List UInt8 := dkwX3_wear_1 ++ dktX3_wear_2
def dkwX3_wear_0 : List UInt8 := [42, 180, 0, 19, 28, 16, 99, 42, 180, 0, 19, 28, 46, 42, 27, 28, 182, 0, 91, 96, 184, 0, 108, 79]
abbrev dktX3_wear_0 : List UInt8 := dkwX3_wear_0 ++ dktX3_wear_1
theorem dksX3_wear_0 : cX3_wear.data.toList.drop 0 = dktX3_wear_0 := by decide +kernel
theorem dksX3_wear_1 : cX3_wear.data.toList.drop 24 = dktX3_wear_1 := dk_seg dksX3_wear_0 24 rfl rfl
theorem dksX3_wear_2 : cX3_wear.data.toList.drop 48 = dktX3_wear_2 := dk_seg dksX3_wear_1 24 rfl rfl
theorem dksX3_wear_3 : cX3_wear.data.toList.drop 72 = dktX3_wear_3 := dk_seg dksX3_wear_2 24 rfl rfl
theorem dX3_wear_0 : decode cX3_wear 0 = .ok (.aload_n 0, 1) := dk_42 (dk_at dksX3_wear_0 0 rfl rfl)
theorem dX3_wear_1 : decode cX3_wear 1 = .ok (.getfield 19, 3) := dk_180 0 19 (dk_at dksX3_wear_0 1 rfl rfl)
theorem dX3_wear_4 : decode cX3_wear 4 = .ok (.iload_n 2, 1) := dk_28 (dk_at dksX3_wear_0 4 rfl rfl)
theorem dX3_wear_5 : decode cX3_wear 5 = .ok (.bipush 99, 2) := dk_16 99 (dk_at dksX3_wear_0 5 rfl rfl)
theorem dX3_wear_7 : decode cX3_wear 7 = .ok (.aload_n 0, 1) := dk_42 (dk_at dksX3_wear_0 7 rfl rfl)
theorem dX3_wear_8 : decode cX3_wear 8 = .ok (.getfield 19, 3) := dk_180 0 19 (dk_at dksX3_wear_0 8 rfl rfl)
theorem dX3_wear_11 : decode cX3_wear 11 = .ok (.iload_n 2, 1) := dk_28 (dk_at dksX3_wear_0 11 rfl rfl)
theorem dX3_wear_12 : decode cX3_wear 12 = .ok (.iaload, 1) := dk_46 (dk_at dksX3_wear_0 12 rfl rfl)
theorem dX3_wear_13 : decode cX3_wear 13 = .ok (.aload_n 0, 1) := dk_42 (dk_at dksX3_wear_0 13 rfl rfl)
theorem dX3_wear_14 : decode cX3_wear 14 = .ok (.iload_n 1, 1) := dk_27 (dk_at dksX3_wear_0 14 rfl rfl)
theorem dX3_wear_15 : decode cX3_wear 15 = .ok (.iload_n 2, 1) := dk_28 (dk_at dksX3_wear_0 15 rfl rfl)
theorem dX3_wear_16 : decode cX3_wear 16 = .ok (.invokevirtual 91, 3) := dk_182 0 91 (dk_at dksX3_wear_0 16 rfl rfl)
theorem dX3_wear_19 : decode cX3_wear 19 = .ok (.iadd, 1) := dk_96 (dk_at dksX3_wear_0 19 rfl rfl)
theorem dX3_wear_20 : decode cX3_wear 20 = .ok (.invokestatic 108, 3) := dk_184 0 108 (dk_at dksX3_wear_0 20 rfl rfl)
theorem dX3_wear_23 : decode cX3_wear 23 = .ok (.iastore, 1) := dk_79 (dk_at dksX3_wear_0 23 rfl rfl)
theorem dX3_wear_24 : decode cX3_wear 24 = .ok (.aload_n 0, 1) := dk_42 (dk_at dksX3_wear_1 0 rfl rfl)
theorem dX3_wear_25 : decode cX3_wear 25 = .ok (.getfield 28, 3) := dk_180 0 28 (dk_at dksX3_wear_1 1 rfl rfl)
theorem dX3_wear_28 : decode cX3_wear 28 = .ok (.iload_n 1, 1) := dk_27 (dk_at dksX3_wear_1 4 rfl rfl)
theorem dX3_wear_29 : decode cX3_wear 29 = .ok (.sipush 999, 3) := dk_17 3 231 (dk_at dksX3_wear_1 5 rfl rfl)
theorem dX3_wear_32 : decode cX3_wear 32 = .ok (.aload_n 0, 1) := dk_42 (dk_at dksX3_wear_1 8 rfl rfl)
theorem dX3_wear_33 : decode cX3_wear 33 = .ok (.getfield 28, 3) := dk_180 0 28 (dk_at dksX3_wear_1 9 rfl rfl)
theorem dX3_wear_36 : decode cX3_wear 36 = .ok (.iload_n 1, 1) := dk_27 (dk_at dksX3_wear_1 12 rfl rfl)
theorem dX3_wear_37 : decode cX3_wear 37 = .ok (.iaload, 1) := dk_46 (dk_at dksX3_wear_1 13 rfl rfl)
theorem dX3_wear_38 : decode cX3_wear 38 = .ok (.aload_n 0, 1) := dk_42 (dk_at dksX3_wear_1 14 rfl rfl)
theorem dX3_wear_39 : decode cX3_wear 39 = .ok (.iload_n 1, 1) := dk_27 (dk_at dksX3_wear_1 15 rfl rfl)
theorem dX3_wear_40 : decode cX3_wear 40 = .ok (.iload_n 2, 1) := dk_28 (dk_at dksX3_wear_1 16 rfl rfl)
theorem dX3_wear_41 : decode cX3_wear 41 = .ok (.invokevirtual 91, 3) := dk_182 0 91 (dk_at dksX3_wear_1 17 rfl rfl)
theorem dX3_wear_44 : decode cX3_wear 44 = .ok (.iadd, 1) := dk_96 (dk_at dksX3_wear_1 20 rfl rfl)
theorem dX3_wear_45 : decode cX3_wear 45 = .ok (.invokestatic 108, 3) := dk_184 0 108 (dk_at dksX3_wear_1 21 rfl rfl)
theorem dX3_wear_48 : decode cX3_wear 48 = .ok (.iastore, 1) := dk_79 (dk_at dksX3_wear_2 0 rfl rfl)
theorem dX3_wear_49 : decode cX3_wear 49 = .ok (.aload_n 0, 1) := dk_42 (dk_at dksX3_wear_2 1 rfl rfl)
theorem dX3_wear_50 : decode cX3_wear 50 = .ok (.iload_n 1, 1) := dk_27 (dk_at dksX3_wear_2 2 rfl rfl)
theorem dX3_wear_51 : decode cX3_wear 51 = .ok (.iload_n 2, 1) := dk_28 (dk_at dksX3_wear_2 3 rfl rfl)
theorem dX3_wear_52 : decode cX3_wear 52 = .ok (.invokevirtual 126, 3) := dk_182 0 126 (dk_at dksX3_wear_2 4 rfl rfl)
theorem dX3_wear_55 : decode cX3_wear 55 = .ok (.ifCond .ne 4, 3) := dk_154 0 4 (dk_at dksX3_wear_2 7 rfl rfl)
theorem dX3_wear_58 : decode cX3_wear 58 = .ok (.return_, 1) := dk_177 (dk_at dksX3_wear_2 10 rfl rfl)
theorem dX3_wear_59 : decode cX3_wear 59 = .ok (.aload_n 0, 1) := dk_42 (dk_at dksX3_wear_2 11 rfl rfl)
theorem dX3_wear_60 : decode cX3_wear 60 = .ok (.dup, 1) := dk_89 (dk_at dksX3_wear_2 12 rfl rfl)
theorem dX3_wear_61 : decode cX3_wear 61 = .ok (.getfield 45, 3) := dk_180 0 45 (dk_at dksX3_wear_2 13 rfl rfl)
theorem dX3_wear_64 : decode cX3_wear 64 = .ok (.iconst 1, 1) := dk_4 (dk_at dksX3_wear_2 16 rfl rfl)
theorem dX3_wear_65 : decode cX3_wear 65 = .ok (.iload_n 2, 1) := dk_28 (dk_at dksX3_wear_2 17 rfl rfl)
theorem dX3_wear_66 : decode cX3_wear 66 = .ok (.ishl, 1) := dk_120 (dk_at dksX3_wear_2 18 rfl rfl)
theorem dX3_wear_67 : decode cX3_wear 67 = .ok (.ior, 1) := dk_128 (dk_at dksX3_wear_2 19 rfl rfl)
theorem dX3_wear_68 : decode cX3_wear 68 = .ok (.putfield 45, 3) := dk_181 0 45 (dk_at dksX3_wear_2 20 rfl rfl)
theorem dX3_wear_71 : decode cX3_wear 71 = .ok (.aload_n 0, 1) := dk_42 (dk_at dksX3_wear_2 23 rfl rfl)
theorem dX3_wear_72 : decode cX3_wear 72 = .ok (.getfield 25, 3) := dk_180 0 25 (dk_at dksX3_wear_3 0 rfl rfl)
theorem dX3_wear_75 : decode cX3_wear 75 = .ok (.iload_n 1, 1) := dk_27 (dk_at dksX3_wear_3 3 rfl rfl)
theorem dX3_wear_76 : decode cX3_wear 76 = .ok (.iconst (-1), 1) := dk_2 (dk_at dksX3_wear_3 4 rfl rfl)
theorem dX3_wear_77 : decode cX3_wear 77 = .ok (.iastore, 1) := dk_79 (dk_at dksX3_wear_3 5 rfl rfl)
theorem dX3_wear_78 : decode cX3_wear 78 = .ok (.return_, 1) := dk_177 (dk_at dksX3_wear_3 6 rfl rfl)
abbrev cX3_tight : ByteArray := prog_7_method_5_code
def yX3_tight : MethodName := ⟨RX3, "tight", "(II)I"⟩
def dkwX3_tight_0 : List UInt8 := [3, 42, 180, 0, 22, 27, 46, 42, 180, 0, 15, 28, 46, 100, 184, 0, 61, 172]
abbrev dktX3_tight_0 : List UInt8 := dkwX3_tight_0 ++ []
theorem dksX3_tight_0 : cX3_tight.data.toList.drop 0 = dktX3_tight_0 := by decide +kernel
theorem dX3_tight_0 : decode cX3_tight 0 = .ok (.iconst 0, 1) := dk_3 (dk_at dksX3_tight_0 0 rfl rfl)
theorem dX3_tight_1 : decode cX3_tight 1 = .ok (.aload_n 0, 1) := dk_42 (dk_at dksX3_tight_0 1 rfl rfl)
theorem dX3_tight_2 : decode cX3_tight 2 = .ok (.getfield 22, 3) := dk_180 0 22 (dk_at dksX3_tight_0 2 rfl rfl)
theorem dX3_tight_5 : decode cX3_tight 5 = .ok (.iload_n 1, 1) := dk_27 (dk_at dksX3_tight_0 5 rfl rfl)
theorem dX3_tight_6 : decode cX3_tight 6 = .ok (.iaload, 1) := dk_46 (dk_at dksX3_tight_0 6 rfl rfl)
theorem dX3_tight_7 : decode cX3_tight 7 = .ok (.aload_n 0, 1) := dk_42 (dk_at dksX3_tight_0 7 rfl rfl)
theorem dX3_tight_8 : decode cX3_tight 8 = .ok (.getfield 15, 3) := dk_180 0 15 (dk_at dksX3_tight_0 8 rfl rfl)
theorem dX3_tight_11 : decode cX3_tight 11 = .ok (.iload_n 2, 1) := dk_28 (dk_at dksX3_tight_0 11 rfl rfl)
theorem dX3_tight_12 : decode cX3_tight 12 = .ok (.iaload, 1) := dk_46 (dk_at dksX3_tight_0 12 rfl rfl)
theorem dX3_tight_13 : decode cX3_tight 13 = .ok (.isub, 1) := dk_100 (dk_at dksX3_tight_0 13 rfl rfl)
theorem dX3_tight_14 : decode cX3_tight 14 = .ok (.invokestatic 61, 3) := dk_184 0 61 (dk_at dksX3_tight_0 14 rfl rfl)
theorem dX3_tight_17 : decode cX3_tight 17 = .ok (.ireturn, 1) := dk_172 (dk_at dksX3_tight_0 17 rfl rfl)
abbrev cX3_bursts : ByteArray := prog_7_method_11_code
def yX3_bursts : MethodName := ⟨RX3, "bursts", "(II)Z"⟩
def dkwX3_bursts_3 : List UInt8 := [182, 0, 104, 158, 0, 7, 4, 167, 0, 4, 3, 172]
abbrev dktX3_bursts_3 : List UInt8 := dkwX3_bursts_3 ++ []
def dkwX3_bursts_2 : List UInt8 := [164, 0, 7, 4, 167, 0, 31, 3, 167, 0, 27, 42, 42, 180, 0, 3, 180, 0, 52, 180, 0, 123, 27, 28]
abbrev dktX3_bursts_2 : List UInt8 := dkwX3_bursts_2 ++ dktX3_bursts_3
def dkwX3_bursts_1 : List UInt8 := [180, 0, 3, 180, 0, 52, 180, 0, 74, 28, 185, 0, 78, 2, 0, 192, 0, 84, 182, 0, 86, 96]
abbrev dktX3_bursts_1 : List UInt8 := dkwX3_bursts_1 ++ dktX3_bursts_2
def dkwX3_bursts_0 : List UInt8 := [42, 180, 0, 3, 180, 0, 52, 180, 0, 123, 199, 0, 45, 42, 27, 28, 182, 0, 91, 16, 9, 42]
abbrev dktX3_bursts_0 : List UInt8 := dkwX3_bursts_0 ++ dktX3_bursts_1
theorem dksX3_bursts_0 : cX3_bursts.data.toList.drop 0 = dktX3_bursts_0 := by decide +kernel
theorem dksX3_bursts_1 : cX3_bursts.data.toList.drop 22 = dktX3_bursts_1 := dk_seg dksX3_bursts_0 22 rfl rfl
theorem dksX3_bursts_2 : cX3_bursts.data.toList.drop 44 = dktX3_bursts_2 := dk_seg dksX3_bursts_1 22 rfl rfl
theorem dksX3_bursts_3 : cX3_bursts.data.toList.drop 68 = dktX3_bursts_3 := dk_seg dksX3_bursts_2 24 rfl rfl
theorem dX3_bursts_0 : decode cX3_bursts 0 = .ok (.aload_n 0, 1) := dk_42 (dk_at dksX3_bursts_0 0 rfl rfl)
theorem dX3_bursts_1 : decode cX3_bursts 1 = .ok (.getfield 3, 3) := dk_180 0 3 (dk_at dksX3_bursts_0 1 rfl rfl)
theorem dX3_bursts_4 : decode cX3_bursts 4 = .ok (.getfield 52, 3) := dk_180 0 52 (dk_at dksX3_bursts_0 4 rfl rfl)
theorem dX3_bursts_7 : decode cX3_bursts 7 = .ok (.getfield 123, 3) := dk_180 0 123 (dk_at dksX3_bursts_0 7 rfl rfl)
theorem dX3_bursts_10 : decode cX3_bursts 10 = .ok (.ifnonnull 45, 3) := dk_199 0 45 (dk_at dksX3_bursts_0 10 rfl rfl)
theorem dX3_bursts_13 : decode cX3_bursts 13 = .ok (.aload_n 0, 1) := dk_42 (dk_at dksX3_bursts_0 13 rfl rfl)
theorem dX3_bursts_14 : decode cX3_bursts 14 = .ok (.iload_n 1, 1) := dk_27 (dk_at dksX3_bursts_0 14 rfl rfl)
theorem dX3_bursts_15 : decode cX3_bursts 15 = .ok (.iload_n 2, 1) := dk_28 (dk_at dksX3_bursts_0 15 rfl rfl)
theorem dX3_bursts_16 : decode cX3_bursts 16 = .ok (.invokevirtual 91, 3) := dk_182 0 91 (dk_at dksX3_bursts_0 16 rfl rfl)
theorem dX3_bursts_19 : decode cX3_bursts 19 = .ok (.bipush 9, 2) := dk_16 9 (dk_at dksX3_bursts_0 19 rfl rfl)
theorem dX3_bursts_21 : decode cX3_bursts 21 = .ok (.aload_n 0, 1) := dk_42 (dk_at dksX3_bursts_0 21 rfl rfl)
theorem dX3_bursts_22 : decode cX3_bursts 22 = .ok (.getfield 3, 3) := dk_180 0 3 (dk_at dksX3_bursts_1 0 rfl rfl)
theorem dX3_bursts_25 : decode cX3_bursts 25 = .ok (.getfield 52, 3) := dk_180 0 52 (dk_at dksX3_bursts_1 3 rfl rfl)
theorem dX3_bursts_28 : decode cX3_bursts 28 = .ok (.getfield 74, 3) := dk_180 0 74 (dk_at dksX3_bursts_1 6 rfl rfl)
theorem dX3_bursts_31 : decode cX3_bursts 31 = .ok (.iload_n 2, 1) := dk_28 (dk_at dksX3_bursts_1 9 rfl rfl)
theorem dX3_bursts_32 : decode cX3_bursts 32 = .ok (.invokeinterface 78 2, 5) := by decide +kernel
theorem dX3_bursts_37 : decode cX3_bursts 37 = .ok (.checkcast 84, 3) := dk_192 0 84 (dk_at dksX3_bursts_1 15 rfl rfl)
theorem dX3_bursts_40 : decode cX3_bursts 40 = .ok (.invokevirtual 86, 3) := dk_182 0 86 (dk_at dksX3_bursts_1 18 rfl rfl)
theorem dX3_bursts_43 : decode cX3_bursts 43 = .ok (.iadd, 1) := dk_96 (dk_at dksX3_bursts_1 21 rfl rfl)
theorem dX3_bursts_44 : decode cX3_bursts 44 = .ok (.if_icmp .le 7, 3) := dk_164 0 7 (dk_at dksX3_bursts_2 0 rfl rfl)
theorem dX3_bursts_47 : decode cX3_bursts 47 = .ok (.iconst 1, 1) := dk_4 (dk_at dksX3_bursts_2 3 rfl rfl)
theorem dX3_bursts_48 : decode cX3_bursts 48 = .ok (.goto 31, 3) := dk_167 0 31 (dk_at dksX3_bursts_2 4 rfl rfl)
theorem dX3_bursts_51 : decode cX3_bursts 51 = .ok (.iconst 0, 1) := dk_3 (dk_at dksX3_bursts_2 7 rfl rfl)
theorem dX3_bursts_52 : decode cX3_bursts 52 = .ok (.goto 27, 3) := dk_167 0 27 (dk_at dksX3_bursts_2 8 rfl rfl)
theorem dX3_bursts_55 : decode cX3_bursts 55 = .ok (.aload_n 0, 1) := dk_42 (dk_at dksX3_bursts_2 11 rfl rfl)
theorem dX3_bursts_56 : decode cX3_bursts 56 = .ok (.aload_n 0, 1) := dk_42 (dk_at dksX3_bursts_2 12 rfl rfl)
theorem dX3_bursts_57 : decode cX3_bursts 57 = .ok (.getfield 3, 3) := dk_180 0 3 (dk_at dksX3_bursts_2 13 rfl rfl)
theorem dX3_bursts_60 : decode cX3_bursts 60 = .ok (.getfield 52, 3) := dk_180 0 52 (dk_at dksX3_bursts_2 16 rfl rfl)
theorem dX3_bursts_63 : decode cX3_bursts 63 = .ok (.getfield 123, 3) := dk_180 0 123 (dk_at dksX3_bursts_2 19 rfl rfl)
theorem dX3_bursts_66 : decode cX3_bursts 66 = .ok (.iload_n 1, 1) := dk_27 (dk_at dksX3_bursts_2 22 rfl rfl)
theorem dX3_bursts_67 : decode cX3_bursts 67 = .ok (.iload_n 2, 1) := dk_28 (dk_at dksX3_bursts_2 23 rfl rfl)
theorem dX3_bursts_68 : decode cX3_bursts 68 = .ok (.invokevirtual 104, 3) := dk_182 0 104 (dk_at dksX3_bursts_3 0 rfl rfl)
theorem dX3_bursts_71 : decode cX3_bursts 71 = .ok (.ifCond .le 7, 3) := dk_158 0 7 (dk_at dksX3_bursts_3 3 rfl rfl)
theorem dX3_bursts_74 : decode cX3_bursts 74 = .ok (.iconst 1, 1) := dk_4 (dk_at dksX3_bursts_3 6 rfl rfl)
theorem dX3_bursts_75 : decode cX3_bursts 75 = .ok (.goto 4, 3) := dk_167 0 4 (dk_at dksX3_bursts_3 7 rfl rfl)
theorem dX3_bursts_78 : decode cX3_bursts 78 = .ok (.iconst 0, 1) := dk_3 (dk_at dksX3_bursts_3 10 rfl rfl)
theorem dX3_bursts_79 : decode cX3_bursts 79 = .ok (.ireturn, 1) := dk_172 (dk_at dksX3_bursts_3 11 rfl rfl)
abbrev cX3_asked : ByteArray := prog_7_method_7_code
def yX3_asked : MethodName := ⟨RX3, "asked", "(LHornHouses$Form;II)I"⟩
def dkwX3_asked_5 : List UInt8 := [79, 43, 42, 180, 0, 3, 180, 0, 71, 185, 0, 94, 2, 0, 172]
abbrev dktX3_asked_5 : List UInt8 := dkwX3_asked_5 ++ []
def dkwX3_asked_4 : List UInt8 := [180, 0, 71, 8, 42, 180, 0, 42, 79, 42, 180, 0, 3, 180, 0, 71, 16, 6, 42, 28, 29, 182, 0, 91]
abbrev dktX3_asked_4 : List UInt8 := dkwX3_asked_4 ++ dktX3_asked_5
def dkwX3_asked_3 : List UInt8 := [180, 0, 19, 29, 46, 79, 42, 180, 0, 3, 180, 0, 71, 7, 42, 182, 0, 89, 79, 42, 180, 0, 3]
abbrev dktX3_asked_3 : List UInt8 := dkwX3_asked_3 ++ dktX3_asked_4
def dkwX3_asked_2 : List UInt8 := [29, 185, 0, 78, 2, 0, 192, 0, 84, 182, 0, 86, 79, 42, 180, 0, 3, 180, 0, 71, 6, 42]
abbrev dktX3_asked_2 : List UInt8 := dkwX3_asked_2 ++ dktX3_asked_3
def dkwX3_asked_1 : List UInt8 := [180, 0, 15, 29, 46, 79, 42, 180, 0, 3, 180, 0, 71, 5, 42, 180, 0, 3, 180, 0, 52, 180, 0, 74]
abbrev dktX3_asked_1 : List UInt8 := dkwX3_asked_1 ++ dktX3_asked_2
def dkwX3_asked_0 : List UInt8 := [42, 180, 0, 3, 180, 0, 71, 3, 42, 180, 0, 22, 28, 46, 79, 42, 180, 0, 3, 180, 0, 71, 4, 42]
abbrev dktX3_asked_0 : List UInt8 := dkwX3_asked_0 ++ dktX3_asked_1
theorem dksX3_asked_0 : cX3_asked.data.toList.drop 0 = dktX3_asked_0 := by decide +kernel
theorem dksX3_asked_1 : cX3_asked.data.toList.drop 24 = dktX3_asked_1 := dk_seg dksX3_asked_0 24 rfl rfl
theorem dksX3_asked_2 : cX3_asked.data.toList.drop 48 = dktX3_asked_2 := dk_seg dksX3_asked_1 24 rfl rfl
theorem dksX3_asked_3 : cX3_asked.data.toList.drop 70 = dktX3_asked_3 := dk_seg dksX3_asked_2 22 rfl rfl
theorem dksX3_asked_4 : cX3_asked.data.toList.drop 93 = dktX3_asked_4 := dk_seg dksX3_asked_3 23 rfl rfl
theorem dksX3_asked_5 : cX3_asked.data.toList.drop 117 = dktX3_asked_5 := dk_seg dksX3_asked_4 24 rfl rfl
theorem dX3_asked_0 : decode cX3_asked 0 = .ok (.aload_n 0, 1) := dk_42 (dk_at dksX3_asked_0 0 rfl rfl)
theorem dX3_asked_1 : decode cX3_asked 1 = .ok (.getfield 3, 3) := dk_180 0 3 (dk_at dksX3_asked_0 1 rfl rfl)
theorem dX3_asked_4 : decode cX3_asked 4 = .ok (.getfield 71, 3) := dk_180 0 71 (dk_at dksX3_asked_0 4 rfl rfl)
theorem dX3_asked_7 : decode cX3_asked 7 = .ok (.iconst 0, 1) := dk_3 (dk_at dksX3_asked_0 7 rfl rfl)
theorem dX3_asked_8 : decode cX3_asked 8 = .ok (.aload_n 0, 1) := dk_42 (dk_at dksX3_asked_0 8 rfl rfl)
theorem dX3_asked_9 : decode cX3_asked 9 = .ok (.getfield 22, 3) := dk_180 0 22 (dk_at dksX3_asked_0 9 rfl rfl)
theorem dX3_asked_12 : decode cX3_asked 12 = .ok (.iload_n 2, 1) := dk_28 (dk_at dksX3_asked_0 12 rfl rfl)
theorem dX3_asked_13 : decode cX3_asked 13 = .ok (.iaload, 1) := dk_46 (dk_at dksX3_asked_0 13 rfl rfl)
theorem dX3_asked_14 : decode cX3_asked 14 = .ok (.iastore, 1) := dk_79 (dk_at dksX3_asked_0 14 rfl rfl)
theorem dX3_asked_15 : decode cX3_asked 15 = .ok (.aload_n 0, 1) := dk_42 (dk_at dksX3_asked_0 15 rfl rfl)
theorem dX3_asked_16 : decode cX3_asked 16 = .ok (.getfield 3, 3) := dk_180 0 3 (dk_at dksX3_asked_0 16 rfl rfl)
theorem dX3_asked_19 : decode cX3_asked 19 = .ok (.getfield 71, 3) := dk_180 0 71 (dk_at dksX3_asked_0 19 rfl rfl)
theorem dX3_asked_22 : decode cX3_asked 22 = .ok (.iconst 1, 1) := dk_4 (dk_at dksX3_asked_0 22 rfl rfl)
theorem dX3_asked_23 : decode cX3_asked 23 = .ok (.aload_n 0, 1) := dk_42 (dk_at dksX3_asked_0 23 rfl rfl)
theorem dX3_asked_24 : decode cX3_asked 24 = .ok (.getfield 15, 3) := dk_180 0 15 (dk_at dksX3_asked_1 0 rfl rfl)
theorem dX3_asked_27 : decode cX3_asked 27 = .ok (.iload_n 3, 1) := dk_29 (dk_at dksX3_asked_1 3 rfl rfl)
theorem dX3_asked_28 : decode cX3_asked 28 = .ok (.iaload, 1) := dk_46 (dk_at dksX3_asked_1 4 rfl rfl)
theorem dX3_asked_29 : decode cX3_asked 29 = .ok (.iastore, 1) := dk_79 (dk_at dksX3_asked_1 5 rfl rfl)
theorem dX3_asked_30 : decode cX3_asked 30 = .ok (.aload_n 0, 1) := dk_42 (dk_at dksX3_asked_1 6 rfl rfl)
theorem dX3_asked_31 : decode cX3_asked 31 = .ok (.getfield 3, 3) := dk_180 0 3 (dk_at dksX3_asked_1 7 rfl rfl)
theorem dX3_asked_34 : decode cX3_asked 34 = .ok (.getfield 71, 3) := dk_180 0 71 (dk_at dksX3_asked_1 10 rfl rfl)
theorem dX3_asked_37 : decode cX3_asked 37 = .ok (.iconst 2, 1) := dk_5 (dk_at dksX3_asked_1 13 rfl rfl)
theorem dX3_asked_38 : decode cX3_asked 38 = .ok (.aload_n 0, 1) := dk_42 (dk_at dksX3_asked_1 14 rfl rfl)
theorem dX3_asked_39 : decode cX3_asked 39 = .ok (.getfield 3, 3) := dk_180 0 3 (dk_at dksX3_asked_1 15 rfl rfl)
theorem dX3_asked_42 : decode cX3_asked 42 = .ok (.getfield 52, 3) := dk_180 0 52 (dk_at dksX3_asked_1 18 rfl rfl)
theorem dX3_asked_45 : decode cX3_asked 45 = .ok (.getfield 74, 3) := dk_180 0 74 (dk_at dksX3_asked_1 21 rfl rfl)
theorem dX3_asked_48 : decode cX3_asked 48 = .ok (.iload_n 3, 1) := dk_29 (dk_at dksX3_asked_2 0 rfl rfl)
theorem dX3_asked_49 : decode cX3_asked 49 = .ok (.invokeinterface 78 2, 5) := by decide +kernel
theorem dX3_asked_54 : decode cX3_asked 54 = .ok (.checkcast 84, 3) := dk_192 0 84 (dk_at dksX3_asked_2 6 rfl rfl)
theorem dX3_asked_57 : decode cX3_asked 57 = .ok (.invokevirtual 86, 3) := dk_182 0 86 (dk_at dksX3_asked_2 9 rfl rfl)
theorem dX3_asked_60 : decode cX3_asked 60 = .ok (.iastore, 1) := dk_79 (dk_at dksX3_asked_2 12 rfl rfl)
theorem dX3_asked_61 : decode cX3_asked 61 = .ok (.aload_n 0, 1) := dk_42 (dk_at dksX3_asked_2 13 rfl rfl)
theorem dX3_asked_62 : decode cX3_asked 62 = .ok (.getfield 3, 3) := dk_180 0 3 (dk_at dksX3_asked_2 14 rfl rfl)
theorem dX3_asked_65 : decode cX3_asked 65 = .ok (.getfield 71, 3) := dk_180 0 71 (dk_at dksX3_asked_2 17 rfl rfl)
theorem dX3_asked_68 : decode cX3_asked 68 = .ok (.iconst 3, 1) := dk_6 (dk_at dksX3_asked_2 20 rfl rfl)
theorem dX3_asked_69 : decode cX3_asked 69 = .ok (.aload_n 0, 1) := dk_42 (dk_at dksX3_asked_2 21 rfl rfl)
theorem dX3_asked_70 : decode cX3_asked 70 = .ok (.getfield 19, 3) := dk_180 0 19 (dk_at dksX3_asked_3 0 rfl rfl)
theorem dX3_asked_73 : decode cX3_asked 73 = .ok (.iload_n 3, 1) := dk_29 (dk_at dksX3_asked_3 3 rfl rfl)
theorem dX3_asked_74 : decode cX3_asked 74 = .ok (.iaload, 1) := dk_46 (dk_at dksX3_asked_3 4 rfl rfl)
theorem dX3_asked_75 : decode cX3_asked 75 = .ok (.iastore, 1) := dk_79 (dk_at dksX3_asked_3 5 rfl rfl)
theorem dX3_asked_76 : decode cX3_asked 76 = .ok (.aload_n 0, 1) := dk_42 (dk_at dksX3_asked_3 6 rfl rfl)
theorem dX3_asked_77 : decode cX3_asked 77 = .ok (.getfield 3, 3) := dk_180 0 3 (dk_at dksX3_asked_3 7 rfl rfl)
theorem dX3_asked_80 : decode cX3_asked 80 = .ok (.getfield 71, 3) := dk_180 0 71 (dk_at dksX3_asked_3 10 rfl rfl)
theorem dX3_asked_83 : decode cX3_asked 83 = .ok (.iconst 4, 1) := dk_7 (dk_at dksX3_asked_3 13 rfl rfl)
theorem dX3_asked_84 : decode cX3_asked 84 = .ok (.aload_n 0, 1) := dk_42 (dk_at dksX3_asked_3 14 rfl rfl)
theorem dX3_asked_85 : decode cX3_asked 85 = .ok (.invokevirtual 89, 3) := dk_182 0 89 (dk_at dksX3_asked_3 15 rfl rfl)
theorem dX3_asked_88 : decode cX3_asked 88 = .ok (.iastore, 1) := dk_79 (dk_at dksX3_asked_3 18 rfl rfl)
theorem dX3_asked_89 : decode cX3_asked 89 = .ok (.aload_n 0, 1) := dk_42 (dk_at dksX3_asked_3 19 rfl rfl)
theorem dX3_asked_90 : decode cX3_asked 90 = .ok (.getfield 3, 3) := dk_180 0 3 (dk_at dksX3_asked_3 20 rfl rfl)
theorem dX3_asked_93 : decode cX3_asked 93 = .ok (.getfield 71, 3) := dk_180 0 71 (dk_at dksX3_asked_4 0 rfl rfl)
theorem dX3_asked_96 : decode cX3_asked 96 = .ok (.iconst 5, 1) := dk_8 (dk_at dksX3_asked_4 3 rfl rfl)
theorem dX3_asked_97 : decode cX3_asked 97 = .ok (.aload_n 0, 1) := dk_42 (dk_at dksX3_asked_4 4 rfl rfl)
theorem dX3_asked_98 : decode cX3_asked 98 = .ok (.getfield 42, 3) := dk_180 0 42 (dk_at dksX3_asked_4 5 rfl rfl)
theorem dX3_asked_101 : decode cX3_asked 101 = .ok (.iastore, 1) := dk_79 (dk_at dksX3_asked_4 8 rfl rfl)
theorem dX3_asked_102 : decode cX3_asked 102 = .ok (.aload_n 0, 1) := dk_42 (dk_at dksX3_asked_4 9 rfl rfl)
theorem dX3_asked_103 : decode cX3_asked 103 = .ok (.getfield 3, 3) := dk_180 0 3 (dk_at dksX3_asked_4 10 rfl rfl)
theorem dX3_asked_106 : decode cX3_asked 106 = .ok (.getfield 71, 3) := dk_180 0 71 (dk_at dksX3_asked_4 13 rfl rfl)
theorem dX3_asked_109 : decode cX3_asked 109 = .ok (.bipush 6, 2) := dk_16 6 (dk_at dksX3_asked_4 16 rfl rfl)
theorem dX3_asked_111 : decode cX3_asked 111 = .ok (.aload_n 0, 1) := dk_42 (dk_at dksX3_asked_4 18 rfl rfl)
theorem dX3_asked_112 : decode cX3_asked 112 = .ok (.iload_n 2, 1) := dk_28 (dk_at dksX3_asked_4 19 rfl rfl)
theorem dX3_asked_113 : decode cX3_asked 113 = .ok (.iload_n 3, 1) := dk_29 (dk_at dksX3_asked_4 20 rfl rfl)
theorem dX3_asked_114 : decode cX3_asked 114 = .ok (.invokevirtual 91, 3) := dk_182 0 91 (dk_at dksX3_asked_4 21 rfl rfl)
theorem dX3_asked_117 : decode cX3_asked 117 = .ok (.iastore, 1) := dk_79 (dk_at dksX3_asked_5 0 rfl rfl)
theorem dX3_asked_118 : decode cX3_asked 118 = .ok (.aload_n 1, 1) := dk_43 (dk_at dksX3_asked_5 1 rfl rfl)
theorem dX3_asked_119 : decode cX3_asked 119 = .ok (.aload_n 0, 1) := dk_42 (dk_at dksX3_asked_5 2 rfl rfl)
theorem dX3_asked_120 : decode cX3_asked 120 = .ok (.getfield 3, 3) := dk_180 0 3 (dk_at dksX3_asked_5 3 rfl rfl)
theorem dX3_asked_123 : decode cX3_asked 123 = .ok (.getfield 71, 3) := dk_180 0 71 (dk_at dksX3_asked_5 6 rfl rfl)
theorem dX3_asked_126 : decode cX3_asked 126 = .ok (.invokeinterface 94 2, 5) := by decide +kernel
theorem dX3_asked_131 : decode cX3_asked 131 = .ok (.ireturn, 1) := dk_172 (dk_at dksX3_asked_5 14 rfl rfl)
abbrev cX3_damp : ByteArray := prog_7_method_4_code
def yX3_damp : MethodName := ⟨RX3, "damp", "()I"⟩
def dkwX3_damp_1 : List UInt8 := [167, 0, 17, 42, 180, 0, 3, 180, 0, 52, 42, 180, 0, 42, 182, 0, 56, 172]
abbrev dktX3_damp_1 : List UInt8 := dkwX3_damp_1 ++ []
def dkwX3_damp_0 : List UInt8 := [42, 180, 0, 31, 2, 159, 0, 10, 42, 180, 0, 31, 167, 0, 29, 42, 180, 0, 48, 153, 0, 8, 16, 9]
abbrev dktX3_damp_0 : List UInt8 := dkwX3_damp_0 ++ dktX3_damp_1
theorem dksX3_damp_0 : cX3_damp.data.toList.drop 0 = dktX3_damp_0 := by decide +kernel
theorem dksX3_damp_1 : cX3_damp.data.toList.drop 24 = dktX3_damp_1 := dk_seg dksX3_damp_0 24 rfl rfl
theorem dX3_damp_0 : decode cX3_damp 0 = .ok (.aload_n 0, 1) := dk_42 (dk_at dksX3_damp_0 0 rfl rfl)
theorem dX3_damp_1 : decode cX3_damp 1 = .ok (.getfield 31, 3) := dk_180 0 31 (dk_at dksX3_damp_0 1 rfl rfl)
theorem dX3_damp_4 : decode cX3_damp 4 = .ok (.iconst (-1), 1) := dk_2 (dk_at dksX3_damp_0 4 rfl rfl)
theorem dX3_damp_5 : decode cX3_damp 5 = .ok (.if_icmp .eq 10, 3) := dk_159 0 10 (dk_at dksX3_damp_0 5 rfl rfl)
theorem dX3_damp_8 : decode cX3_damp 8 = .ok (.aload_n 0, 1) := dk_42 (dk_at dksX3_damp_0 8 rfl rfl)
theorem dX3_damp_9 : decode cX3_damp 9 = .ok (.getfield 31, 3) := dk_180 0 31 (dk_at dksX3_damp_0 9 rfl rfl)
theorem dX3_damp_12 : decode cX3_damp 12 = .ok (.goto 29, 3) := dk_167 0 29 (dk_at dksX3_damp_0 12 rfl rfl)
theorem dX3_damp_15 : decode cX3_damp 15 = .ok (.aload_n 0, 1) := dk_42 (dk_at dksX3_damp_0 15 rfl rfl)
theorem dX3_damp_16 : decode cX3_damp 16 = .ok (.getfield 48, 3) := dk_180 0 48 (dk_at dksX3_damp_0 16 rfl rfl)
theorem dX3_damp_19 : decode cX3_damp 19 = .ok (.ifCond .eq 8, 3) := dk_153 0 8 (dk_at dksX3_damp_0 19 rfl rfl)
theorem dX3_damp_22 : decode cX3_damp 22 = .ok (.bipush 9, 2) := dk_16 9 (dk_at dksX3_damp_0 22 rfl rfl)
theorem dX3_damp_24 : decode cX3_damp 24 = .ok (.goto 17, 3) := dk_167 0 17 (dk_at dksX3_damp_1 0 rfl rfl)
theorem dX3_damp_27 : decode cX3_damp 27 = .ok (.aload_n 0, 1) := dk_42 (dk_at dksX3_damp_1 3 rfl rfl)
theorem dX3_damp_28 : decode cX3_damp 28 = .ok (.getfield 3, 3) := dk_180 0 3 (dk_at dksX3_damp_1 4 rfl rfl)
theorem dX3_damp_31 : decode cX3_damp 31 = .ok (.getfield 52, 3) := dk_180 0 52 (dk_at dksX3_damp_1 7 rfl rfl)
theorem dX3_damp_34 : decode cX3_damp 34 = .ok (.aload_n 0, 1) := dk_42 (dk_at dksX3_damp_1 10 rfl rfl)
theorem dX3_damp_35 : decode cX3_damp 35 = .ok (.getfield 42, 3) := dk_180 0 42 (dk_at dksX3_damp_1 11 rfl rfl)
theorem dX3_damp_38 : decode cX3_damp 38 = .ok (.invokevirtual 56, 3) := dk_182 0 56 (dk_at dksX3_damp_1 14 rfl rfl)
theorem dX3_damp_41 : decode cX3_damp 41 = .ok (.ireturn, 1) := dk_172 (dk_at dksX3_damp_1 17 rfl rfl)
abbrev cX3_lodging : ByteArray := prog_7_method_15_code
def yX3_lodging : MethodName := ⟨RX3, "lodging", "()I"⟩
def dkwX3_lodging_1 : List UInt8 := [2, 160, 0, 9, 27, 4, 28, 120, 128, 60, 132, 2, 1, 167, 255, 223, 27, 172]
abbrev dktX3_lodging_1 : List UInt8 := dkwX3_lodging_1 ++ []
def dkwX3_lodging_0 : List UInt8 := [3, 60, 3, 61, 28, 42, 180, 0, 3, 180, 0, 52, 182, 0, 67, 162, 0, 25, 42, 180, 0, 25, 28, 46]
abbrev dktX3_lodging_0 : List UInt8 := dkwX3_lodging_0 ++ dktX3_lodging_1
theorem dksX3_lodging_0 : cX3_lodging.data.toList.drop 0 = dktX3_lodging_0 := by decide +kernel
theorem dksX3_lodging_1 : cX3_lodging.data.toList.drop 24 = dktX3_lodging_1 := dk_seg dksX3_lodging_0 24 rfl rfl
theorem dX3_lodging_0 : decode cX3_lodging 0 = .ok (.iconst 0, 1) := dk_3 (dk_at dksX3_lodging_0 0 rfl rfl)
theorem dX3_lodging_1 : decode cX3_lodging 1 = .ok (.istore_n 1, 1) := dk_60 (dk_at dksX3_lodging_0 1 rfl rfl)
theorem dX3_lodging_2 : decode cX3_lodging 2 = .ok (.iconst 0, 1) := dk_3 (dk_at dksX3_lodging_0 2 rfl rfl)
theorem dX3_lodging_3 : decode cX3_lodging 3 = .ok (.istore_n 2, 1) := dk_61 (dk_at dksX3_lodging_0 3 rfl rfl)
theorem dX3_lodging_4 : decode cX3_lodging 4 = .ok (.iload_n 2, 1) := dk_28 (dk_at dksX3_lodging_0 4 rfl rfl)
theorem dX3_lodging_5 : decode cX3_lodging 5 = .ok (.aload_n 0, 1) := dk_42 (dk_at dksX3_lodging_0 5 rfl rfl)
theorem dX3_lodging_6 : decode cX3_lodging 6 = .ok (.getfield 3, 3) := dk_180 0 3 (dk_at dksX3_lodging_0 6 rfl rfl)
theorem dX3_lodging_9 : decode cX3_lodging 9 = .ok (.getfield 52, 3) := dk_180 0 52 (dk_at dksX3_lodging_0 9 rfl rfl)
theorem dX3_lodging_12 : decode cX3_lodging 12 = .ok (.invokevirtual 67, 3) := dk_182 0 67 (dk_at dksX3_lodging_0 12 rfl rfl)
theorem dX3_lodging_15 : decode cX3_lodging 15 = .ok (.if_icmp .ge 25, 3) := dk_162 0 25 (dk_at dksX3_lodging_0 15 rfl rfl)
theorem dX3_lodging_18 : decode cX3_lodging 18 = .ok (.aload_n 0, 1) := dk_42 (dk_at dksX3_lodging_0 18 rfl rfl)
theorem dX3_lodging_19 : decode cX3_lodging 19 = .ok (.getfield 25, 3) := dk_180 0 25 (dk_at dksX3_lodging_0 19 rfl rfl)
theorem dX3_lodging_22 : decode cX3_lodging 22 = .ok (.iload_n 2, 1) := dk_28 (dk_at dksX3_lodging_0 22 rfl rfl)
theorem dX3_lodging_23 : decode cX3_lodging 23 = .ok (.iaload, 1) := dk_46 (dk_at dksX3_lodging_0 23 rfl rfl)
theorem dX3_lodging_24 : decode cX3_lodging 24 = .ok (.iconst (-1), 1) := dk_2 (dk_at dksX3_lodging_1 0 rfl rfl)
theorem dX3_lodging_25 : decode cX3_lodging 25 = .ok (.if_icmp .ne 9, 3) := dk_160 0 9 (dk_at dksX3_lodging_1 1 rfl rfl)
theorem dX3_lodging_28 : decode cX3_lodging 28 = .ok (.iload_n 1, 1) := dk_27 (dk_at dksX3_lodging_1 4 rfl rfl)
theorem dX3_lodging_29 : decode cX3_lodging 29 = .ok (.iconst 1, 1) := dk_4 (dk_at dksX3_lodging_1 5 rfl rfl)
theorem dX3_lodging_30 : decode cX3_lodging 30 = .ok (.iload_n 2, 1) := dk_28 (dk_at dksX3_lodging_1 6 rfl rfl)
theorem dX3_lodging_31 : decode cX3_lodging 31 = .ok (.ishl, 1) := dk_120 (dk_at dksX3_lodging_1 7 rfl rfl)
theorem dX3_lodging_32 : decode cX3_lodging 32 = .ok (.ior, 1) := dk_128 (dk_at dksX3_lodging_1 8 rfl rfl)
theorem dX3_lodging_33 : decode cX3_lodging 33 = .ok (.istore_n 1, 1) := dk_60 (dk_at dksX3_lodging_1 9 rfl rfl)
theorem dX3_lodging_34 : decode cX3_lodging 34 = .ok (.iinc 2 1, 3) := dk_132 2 1 (dk_at dksX3_lodging_1 10 rfl rfl)
theorem dX3_lodging_37 : decode cX3_lodging 37 = .ok (.goto (-33), 3) := dk_167 255 223 (dk_at dksX3_lodging_1 13 rfl rfl)
theorem dX3_lodging_40 : decode cX3_lodging 40 = .ok (.iload_n 1, 1) := dk_27 (dk_at dksX3_lodging_1 16 rfl rfl)
theorem dX3_lodging_41 : decode cX3_lodging 41 = .ok (.ireturn, 1) := dk_172 (dk_at dksX3_lodging_1 17 rfl rfl)
abbrev cX3_allBlisters : ByteArray := prog_7_method_16_code
def yX3_allBlisters : MethodName := ⟨RX3, "allBlisters", "()I"⟩
def dkwX3_allBlisters_1 : List UInt8 := [46, 96, 60, 132, 2, 1, 167, 255, 230, 27, 172]
abbrev dktX3_allBlisters_1 : List UInt8 := dkwX3_allBlisters_1 ++ []
def dkwX3_allBlisters_0 : List UInt8 := [3, 60, 3, 61, 28, 42, 180, 0, 3, 180, 0, 52, 182, 0, 67, 162, 0, 18, 27, 42, 180, 0, 28, 28]
abbrev dktX3_allBlisters_0 : List UInt8 := dkwX3_allBlisters_0 ++ dktX3_allBlisters_1
theorem dksX3_allBlisters_0 : cX3_allBlisters.data.toList.drop 0 = dktX3_allBlisters_0 := by decide +kernel
theorem dksX3_allBlisters_1 : cX3_allBlisters.data.toList.drop 24 = dktX3_allBlisters_1 := dk_seg dksX3_allBlisters_0 24 rfl rfl
theorem dX3_allBlisters_0 : decode cX3_allBlisters 0 = .ok (.iconst 0, 1) := dk_3 (dk_at dksX3_allBlisters_0 0 rfl rfl)
theorem dX3_allBlisters_1 : decode cX3_allBlisters 1 = .ok (.istore_n 1, 1) := dk_60 (dk_at dksX3_allBlisters_0 1 rfl rfl)
theorem dX3_allBlisters_2 : decode cX3_allBlisters 2 = .ok (.iconst 0, 1) := dk_3 (dk_at dksX3_allBlisters_0 2 rfl rfl)
theorem dX3_allBlisters_3 : decode cX3_allBlisters 3 = .ok (.istore_n 2, 1) := dk_61 (dk_at dksX3_allBlisters_0 3 rfl rfl)
theorem dX3_allBlisters_4 : decode cX3_allBlisters 4 = .ok (.iload_n 2, 1) := dk_28 (dk_at dksX3_allBlisters_0 4 rfl rfl)
theorem dX3_allBlisters_5 : decode cX3_allBlisters 5 = .ok (.aload_n 0, 1) := dk_42 (dk_at dksX3_allBlisters_0 5 rfl rfl)
theorem dX3_allBlisters_6 : decode cX3_allBlisters 6 = .ok (.getfield 3, 3) := dk_180 0 3 (dk_at dksX3_allBlisters_0 6 rfl rfl)
theorem dX3_allBlisters_9 : decode cX3_allBlisters 9 = .ok (.getfield 52, 3) := dk_180 0 52 (dk_at dksX3_allBlisters_0 9 rfl rfl)
theorem dX3_allBlisters_12 : decode cX3_allBlisters 12 = .ok (.invokevirtual 67, 3) := dk_182 0 67 (dk_at dksX3_allBlisters_0 12 rfl rfl)
theorem dX3_allBlisters_15 : decode cX3_allBlisters 15 = .ok (.if_icmp .ge 18, 3) := dk_162 0 18 (dk_at dksX3_allBlisters_0 15 rfl rfl)
theorem dX3_allBlisters_18 : decode cX3_allBlisters 18 = .ok (.iload_n 1, 1) := dk_27 (dk_at dksX3_allBlisters_0 18 rfl rfl)
theorem dX3_allBlisters_19 : decode cX3_allBlisters 19 = .ok (.aload_n 0, 1) := dk_42 (dk_at dksX3_allBlisters_0 19 rfl rfl)
theorem dX3_allBlisters_20 : decode cX3_allBlisters 20 = .ok (.getfield 28, 3) := dk_180 0 28 (dk_at dksX3_allBlisters_0 20 rfl rfl)
theorem dX3_allBlisters_23 : decode cX3_allBlisters 23 = .ok (.iload_n 2, 1) := dk_28 (dk_at dksX3_allBlisters_0 23 rfl rfl)
theorem dX3_allBlisters_24 : decode cX3_allBlisters 24 = .ok (.iaload, 1) := dk_46 (dk_at dksX3_allBlisters_1 0 rfl rfl)
theorem dX3_allBlisters_25 : decode cX3_allBlisters 25 = .ok (.iadd, 1) := dk_96 (dk_at dksX3_allBlisters_1 1 rfl rfl)
theorem dX3_allBlisters_26 : decode cX3_allBlisters 26 = .ok (.istore_n 1, 1) := dk_60 (dk_at dksX3_allBlisters_1 2 rfl rfl)
theorem dX3_allBlisters_27 : decode cX3_allBlisters 27 = .ok (.iinc 2 1, 3) := dk_132 2 1 (dk_at dksX3_allBlisters_1 3 rfl rfl)
theorem dX3_allBlisters_30 : decode cX3_allBlisters 30 = .ok (.goto (-26), 3) := dk_167 255 230 (dk_at dksX3_allBlisters_1 6 rfl rfl)
theorem dX3_allBlisters_33 : decode cX3_allBlisters 33 = .ok (.iload_n 1, 1) := dk_27 (dk_at dksX3_allBlisters_1 9 rfl rfl)
theorem dX3_allBlisters_34 : decode cX3_allBlisters 34 = .ok (.ireturn, 1) := dk_172 (dk_at dksX3_allBlisters_1 10 rfl rfl)
abbrev cX3_goesIn : ByteArray := prog_7_method_9_code
def yX3_goesIn : MethodName := ⟨RX3, "goesIn", "(II)Z"⟩
def dkwX3_goesIn_1 : List UInt8 := [163, 0, 7, 4, 167, 0, 4, 3, 172]
abbrev dktX3_goesIn_1 : List UInt8 := dkwX3_goesIn_1 ++ []
def dkwX3_goesIn_0 : List UInt8 := [42, 180, 0, 45, 28, 184, 0, 111, 154, 0, 22, 42, 27, 28, 182, 0, 91, 42, 27, 28, 182, 0, 115]
abbrev dktX3_goesIn_0 : List UInt8 := dkwX3_goesIn_0 ++ dktX3_goesIn_1
theorem dksX3_goesIn_0 : cX3_goesIn.data.toList.drop 0 = dktX3_goesIn_0 := by decide +kernel
theorem dksX3_goesIn_1 : cX3_goesIn.data.toList.drop 23 = dktX3_goesIn_1 := dk_seg dksX3_goesIn_0 23 rfl rfl
theorem dX3_goesIn_0 : decode cX3_goesIn 0 = .ok (.aload_n 0, 1) := dk_42 (dk_at dksX3_goesIn_0 0 rfl rfl)
theorem dX3_goesIn_1 : decode cX3_goesIn 1 = .ok (.getfield 45, 3) := dk_180 0 45 (dk_at dksX3_goesIn_0 1 rfl rfl)
theorem dX3_goesIn_4 : decode cX3_goesIn 4 = .ok (.iload_n 2, 1) := dk_28 (dk_at dksX3_goesIn_0 4 rfl rfl)
theorem dX3_goesIn_5 : decode cX3_goesIn 5 = .ok (.invokestatic 111, 3) := dk_184 0 111 (dk_at dksX3_goesIn_0 5 rfl rfl)
theorem dX3_goesIn_8 : decode cX3_goesIn 8 = .ok (.ifCond .ne 22, 3) := dk_154 0 22 (dk_at dksX3_goesIn_0 8 rfl rfl)
theorem dX3_goesIn_11 : decode cX3_goesIn 11 = .ok (.aload_n 0, 1) := dk_42 (dk_at dksX3_goesIn_0 11 rfl rfl)
theorem dX3_goesIn_12 : decode cX3_goesIn 12 = .ok (.iload_n 1, 1) := dk_27 (dk_at dksX3_goesIn_0 12 rfl rfl)
theorem dX3_goesIn_13 : decode cX3_goesIn 13 = .ok (.iload_n 2, 1) := dk_28 (dk_at dksX3_goesIn_0 13 rfl rfl)
theorem dX3_goesIn_14 : decode cX3_goesIn 14 = .ok (.invokevirtual 91, 3) := dk_182 0 91 (dk_at dksX3_goesIn_0 14 rfl rfl)
theorem dX3_goesIn_17 : decode cX3_goesIn 17 = .ok (.aload_n 0, 1) := dk_42 (dk_at dksX3_goesIn_0 17 rfl rfl)
theorem dX3_goesIn_18 : decode cX3_goesIn 18 = .ok (.iload_n 1, 1) := dk_27 (dk_at dksX3_goesIn_0 18 rfl rfl)
theorem dX3_goesIn_19 : decode cX3_goesIn 19 = .ok (.iload_n 2, 1) := dk_28 (dk_at dksX3_goesIn_0 19 rfl rfl)
theorem dX3_goesIn_20 : decode cX3_goesIn 20 = .ok (.invokevirtual 115, 3) := dk_182 0 115 (dk_at dksX3_goesIn_0 20 rfl rfl)
theorem dX3_goesIn_23 : decode cX3_goesIn 23 = .ok (.if_icmp .gt 7, 3) := dk_163 0 7 (dk_at dksX3_goesIn_1 0 rfl rfl)
theorem dX3_goesIn_26 : decode cX3_goesIn 26 = .ok (.iconst 1, 1) := dk_4 (dk_at dksX3_goesIn_1 3 rfl rfl)
theorem dX3_goesIn_27 : decode cX3_goesIn 27 = .ok (.goto 4, 3) := dk_167 0 4 (dk_at dksX3_goesIn_1 4 rfl rfl)
theorem dX3_goesIn_30 : decode cX3_goesIn 30 = .ok (.iconst 0, 1) := dk_3 (dk_at dksX3_goesIn_1 7 rfl rfl)
theorem dX3_goesIn_31 : decode cX3_goesIn 31 = .ok (.ireturn, 1) := dk_172 (dk_at dksX3_goesIn_1 8 rfl rfl)
abbrev cX3_eases : ByteArray := prog_7_method_8_code
def yX3_eases : MethodName := ⟨RX3, "eases", "(II)I"⟩
def dkwX3_eases_3 : List UInt8 := [16, 30, 29, 184, 0, 108, 184, 0, 61, 172]
abbrev dktX3_eases_3 : List UInt8 := dkwX3_eases_3 ++ []
def dkwX3_eases_2 : List UInt8 := [108, 96, 167, 0, 19, 42, 42, 180, 0, 3, 180, 0, 52, 180, 0, 100, 27, 28, 182, 0, 104, 62, 3]
abbrev dktX3_eases_2 : List UInt8 := dkwX3_eases_2 ++ dktX3_eases_3
def dkwX3_eases_1 : List UInt8 := [185, 0, 78, 2, 0, 192, 0, 84, 182, 0, 86, 42, 182, 0, 89, 96, 42, 180, 0, 19, 28, 46, 16, 10]
abbrev dktX3_eases_1 : List UInt8 := dkwX3_eases_1 ++ dktX3_eases_2
def dkwX3_eases_0 : List UInt8 := [42, 180, 0, 3, 180, 0, 52, 180, 0, 100, 199, 0, 43, 42, 180, 0, 3, 180, 0, 52, 180, 0, 74, 28]
abbrev dktX3_eases_0 : List UInt8 := dkwX3_eases_0 ++ dktX3_eases_1
theorem dksX3_eases_0 : cX3_eases.data.toList.drop 0 = dktX3_eases_0 := by decide +kernel
theorem dksX3_eases_1 : cX3_eases.data.toList.drop 24 = dktX3_eases_1 := dk_seg dksX3_eases_0 24 rfl rfl
theorem dksX3_eases_2 : cX3_eases.data.toList.drop 48 = dktX3_eases_2 := dk_seg dksX3_eases_1 24 rfl rfl
theorem dksX3_eases_3 : cX3_eases.data.toList.drop 71 = dktX3_eases_3 := dk_seg dksX3_eases_2 23 rfl rfl
theorem dX3_eases_0 : decode cX3_eases 0 = .ok (.aload_n 0, 1) := dk_42 (dk_at dksX3_eases_0 0 rfl rfl)
theorem dX3_eases_1 : decode cX3_eases 1 = .ok (.getfield 3, 3) := dk_180 0 3 (dk_at dksX3_eases_0 1 rfl rfl)
theorem dX3_eases_4 : decode cX3_eases 4 = .ok (.getfield 52, 3) := dk_180 0 52 (dk_at dksX3_eases_0 4 rfl rfl)
theorem dX3_eases_7 : decode cX3_eases 7 = .ok (.getfield 100, 3) := dk_180 0 100 (dk_at dksX3_eases_0 7 rfl rfl)
theorem dX3_eases_10 : decode cX3_eases 10 = .ok (.ifnonnull 43, 3) := dk_199 0 43 (dk_at dksX3_eases_0 10 rfl rfl)
theorem dX3_eases_13 : decode cX3_eases 13 = .ok (.aload_n 0, 1) := dk_42 (dk_at dksX3_eases_0 13 rfl rfl)
theorem dX3_eases_14 : decode cX3_eases 14 = .ok (.getfield 3, 3) := dk_180 0 3 (dk_at dksX3_eases_0 14 rfl rfl)
theorem dX3_eases_17 : decode cX3_eases 17 = .ok (.getfield 52, 3) := dk_180 0 52 (dk_at dksX3_eases_0 17 rfl rfl)
theorem dX3_eases_20 : decode cX3_eases 20 = .ok (.getfield 74, 3) := dk_180 0 74 (dk_at dksX3_eases_0 20 rfl rfl)
theorem dX3_eases_23 : decode cX3_eases 23 = .ok (.iload_n 2, 1) := dk_28 (dk_at dksX3_eases_0 23 rfl rfl)
theorem dX3_eases_24 : decode cX3_eases 24 = .ok (.invokeinterface 78 2, 5) := by decide +kernel
theorem dX3_eases_29 : decode cX3_eases 29 = .ok (.checkcast 84, 3) := dk_192 0 84 (dk_at dksX3_eases_1 5 rfl rfl)
theorem dX3_eases_32 : decode cX3_eases 32 = .ok (.invokevirtual 86, 3) := dk_182 0 86 (dk_at dksX3_eases_1 8 rfl rfl)
theorem dX3_eases_35 : decode cX3_eases 35 = .ok (.aload_n 0, 1) := dk_42 (dk_at dksX3_eases_1 11 rfl rfl)
theorem dX3_eases_36 : decode cX3_eases 36 = .ok (.invokevirtual 89, 3) := dk_182 0 89 (dk_at dksX3_eases_1 12 rfl rfl)
theorem dX3_eases_39 : decode cX3_eases 39 = .ok (.iadd, 1) := dk_96 (dk_at dksX3_eases_1 15 rfl rfl)
theorem dX3_eases_40 : decode cX3_eases 40 = .ok (.aload_n 0, 1) := dk_42 (dk_at dksX3_eases_1 16 rfl rfl)
theorem dX3_eases_41 : decode cX3_eases 41 = .ok (.getfield 19, 3) := dk_180 0 19 (dk_at dksX3_eases_1 17 rfl rfl)
theorem dX3_eases_44 : decode cX3_eases 44 = .ok (.iload_n 2, 1) := dk_28 (dk_at dksX3_eases_1 20 rfl rfl)
theorem dX3_eases_45 : decode cX3_eases 45 = .ok (.iaload, 1) := dk_46 (dk_at dksX3_eases_1 21 rfl rfl)
theorem dX3_eases_46 : decode cX3_eases 46 = .ok (.bipush 10, 2) := dk_16 10 (dk_at dksX3_eases_1 22 rfl rfl)
theorem dX3_eases_48 : decode cX3_eases 48 = .ok (.idiv, 1) := dk_108 (dk_at dksX3_eases_2 0 rfl rfl)
theorem dX3_eases_49 : decode cX3_eases 49 = .ok (.iadd, 1) := dk_96 (dk_at dksX3_eases_2 1 rfl rfl)
theorem dX3_eases_50 : decode cX3_eases 50 = .ok (.goto 19, 3) := dk_167 0 19 (dk_at dksX3_eases_2 2 rfl rfl)
theorem dX3_eases_53 : decode cX3_eases 53 = .ok (.aload_n 0, 1) := dk_42 (dk_at dksX3_eases_2 5 rfl rfl)
theorem dX3_eases_54 : decode cX3_eases 54 = .ok (.aload_n 0, 1) := dk_42 (dk_at dksX3_eases_2 6 rfl rfl)
theorem dX3_eases_55 : decode cX3_eases 55 = .ok (.getfield 3, 3) := dk_180 0 3 (dk_at dksX3_eases_2 7 rfl rfl)
theorem dX3_eases_58 : decode cX3_eases 58 = .ok (.getfield 52, 3) := dk_180 0 52 (dk_at dksX3_eases_2 10 rfl rfl)
theorem dX3_eases_61 : decode cX3_eases 61 = .ok (.getfield 100, 3) := dk_180 0 100 (dk_at dksX3_eases_2 13 rfl rfl)
theorem dX3_eases_64 : decode cX3_eases 64 = .ok (.iload_n 1, 1) := dk_27 (dk_at dksX3_eases_2 16 rfl rfl)
theorem dX3_eases_65 : decode cX3_eases 65 = .ok (.iload_n 2, 1) := dk_28 (dk_at dksX3_eases_2 17 rfl rfl)
theorem dX3_eases_66 : decode cX3_eases 66 = .ok (.invokevirtual 104, 3) := dk_182 0 104 (dk_at dksX3_eases_2 18 rfl rfl)
theorem dX3_eases_69 : decode cX3_eases 69 = .ok (.istore_n 3, 1) := dk_62 (dk_at dksX3_eases_2 21 rfl rfl)
theorem dX3_eases_70 : decode cX3_eases 70 = .ok (.iconst 0, 1) := dk_3 (dk_at dksX3_eases_2 22 rfl rfl)
theorem dX3_eases_71 : decode cX3_eases 71 = .ok (.bipush 30, 2) := dk_16 30 (dk_at dksX3_eases_3 0 rfl rfl)
theorem dX3_eases_73 : decode cX3_eases 73 = .ok (.iload_n 3, 1) := dk_29 (dk_at dksX3_eases_3 2 rfl rfl)
theorem dX3_eases_74 : decode cX3_eases 74 = .ok (.invokestatic 108, 3) := dk_184 0 108 (dk_at dksX3_eases_3 3 rfl rfl)
theorem dX3_eases_77 : decode cX3_eases 77 = .ok (.invokestatic 61, 3) := dk_184 0 61 (dk_at dksX3_eases_3 6 rfl rfl)
theorem dX3_eases_80 : decode cX3_eases 80 = .ok (.ireturn, 1) := dk_172 (dk_at dksX3_eases_3 9 rfl rfl)
abbrev cX3_canPut : ByteArray := prog_7_method_10_code
def yX3_canPut : MethodName := ⟨RX3, "canPut", "(II)Z"⟩
def dkwX3_canPut_1 : List UInt8 := [182, 0, 120, 153, 0, 7, 4, 167, 0, 4, 3, 172]
abbrev dktX3_canPut_1 : List UInt8 := dkwX3_canPut_1 ++ []
def dkwX3_canPut_0 : List UInt8 := [42, 180, 0, 25, 27, 46, 2, 160, 0, 25, 42, 28, 182, 0, 117, 2, 160, 0, 16, 42, 27, 28]
abbrev dktX3_canPut_0 : List UInt8 := dkwX3_canPut_0 ++ dktX3_canPut_1
theorem dksX3_canPut_0 : cX3_canPut.data.toList.drop 0 = dktX3_canPut_0 := by decide +kernel
theorem dksX3_canPut_1 : cX3_canPut.data.toList.drop 22 = dktX3_canPut_1 := dk_seg dksX3_canPut_0 22 rfl rfl
theorem dX3_canPut_0 : decode cX3_canPut 0 = .ok (.aload_n 0, 1) := dk_42 (dk_at dksX3_canPut_0 0 rfl rfl)
theorem dX3_canPut_1 : decode cX3_canPut 1 = .ok (.getfield 25, 3) := dk_180 0 25 (dk_at dksX3_canPut_0 1 rfl rfl)
theorem dX3_canPut_4 : decode cX3_canPut 4 = .ok (.iload_n 1, 1) := dk_27 (dk_at dksX3_canPut_0 4 rfl rfl)
theorem dX3_canPut_5 : decode cX3_canPut 5 = .ok (.iaload, 1) := dk_46 (dk_at dksX3_canPut_0 5 rfl rfl)
theorem dX3_canPut_6 : decode cX3_canPut 6 = .ok (.iconst (-1), 1) := dk_2 (dk_at dksX3_canPut_0 6 rfl rfl)
theorem dX3_canPut_7 : decode cX3_canPut 7 = .ok (.if_icmp .ne 25, 3) := dk_160 0 25 (dk_at dksX3_canPut_0 7 rfl rfl)
theorem dX3_canPut_10 : decode cX3_canPut 10 = .ok (.aload_n 0, 1) := dk_42 (dk_at dksX3_canPut_0 10 rfl rfl)
theorem dX3_canPut_11 : decode cX3_canPut 11 = .ok (.iload_n 2, 1) := dk_28 (dk_at dksX3_canPut_0 11 rfl rfl)
theorem dX3_canPut_12 : decode cX3_canPut 12 = .ok (.invokevirtual 117, 3) := dk_182 0 117 (dk_at dksX3_canPut_0 12 rfl rfl)
theorem dX3_canPut_15 : decode cX3_canPut 15 = .ok (.iconst (-1), 1) := dk_2 (dk_at dksX3_canPut_0 15 rfl rfl)
theorem dX3_canPut_16 : decode cX3_canPut 16 = .ok (.if_icmp .ne 16, 3) := dk_160 0 16 (dk_at dksX3_canPut_0 16 rfl rfl)
theorem dX3_canPut_19 : decode cX3_canPut 19 = .ok (.aload_n 0, 1) := dk_42 (dk_at dksX3_canPut_0 19 rfl rfl)
theorem dX3_canPut_20 : decode cX3_canPut 20 = .ok (.iload_n 1, 1) := dk_27 (dk_at dksX3_canPut_0 20 rfl rfl)
theorem dX3_canPut_21 : decode cX3_canPut 21 = .ok (.iload_n 2, 1) := dk_28 (dk_at dksX3_canPut_0 21 rfl rfl)
theorem dX3_canPut_22 : decode cX3_canPut 22 = .ok (.invokevirtual 120, 3) := dk_182 0 120 (dk_at dksX3_canPut_1 0 rfl rfl)
theorem dX3_canPut_25 : decode cX3_canPut 25 = .ok (.ifCond .eq 7, 3) := dk_153 0 7 (dk_at dksX3_canPut_1 3 rfl rfl)
theorem dX3_canPut_28 : decode cX3_canPut 28 = .ok (.iconst 1, 1) := dk_4 (dk_at dksX3_canPut_1 6 rfl rfl)
theorem dX3_canPut_29 : decode cX3_canPut 29 = .ok (.goto 4, 3) := dk_167 0 4 (dk_at dksX3_canPut_1 7 rfl rfl)
theorem dX3_canPut_32 : decode cX3_canPut 32 = .ok (.iconst 0, 1) := dk_3 (dk_at dksX3_canPut_1 10 rfl rfl)
theorem dX3_canPut_33 : decode cX3_canPut 33 = .ok (.ireturn, 1) := dk_172 (dk_at dksX3_canPut_1 11 rfl rfl)
theorem q127 : (Jvm.Cond.initialized "HornHouses$Street") ∈ lw_all := lw_g (lw_at lw_m1 6 rfl) rfl
theorem q197 : (Jvm.Cond.fieldLinkNest "HornHouses$Street" (74 : Nat) "HornHouses$Town" "gives" "Ljava/util/List;" "HornHouses") ∈ lw_tbl := lw_at lw_m1 76 rfl
theorem q204 : (Jvm.Cond.fieldLinkNest "HornHouses$Street" (135 : Nat) "HornHouses$Town" "grows" "Ljava/util/List;" "HornHouses") ∈ lw_tbl := lw_at lw_m1 83 rfl
theorem q209 : (Jvm.Cond.fieldLinkNest "HornHouses$Street" (100 : Nat) "HornHouses$Town" "eases" "LHornHouses$Form;" "HornHouses") ∈ lw_tbl := lw_at lw_m1 88 rfl
theorem q211 : (Jvm.Cond.fieldLinkNest "HornHouses$Street" (123 : Nat) "HornHouses$Town" "bursts" "LHornHouses$Form;" "HornHouses") ∈ lw_tbl := lw_at lw_m1 90 rfl
theorem q227 : (Jvm.Cond.instantiable "HornHouses$Street" (10 : Nat)) ∈ lw_all := lw_g (lw_at lw_m1 106 rfl) rfl
theorem q229 : (Jvm.Cond.instanceMethod ({ cls := "HornHouses$Street", name := "<init>", desc := "(LHornHouses;)V" } : Jvm.MethodName)) ∈ lw_all := lw_g (lw_at lw_m1 108 rfl) rfl
theorem q230 : (Jvm.Cond.code ({ cls := "HornHouses$Street", name := "<init>", desc := "(LHornHouses;)V" } : Jvm.MethodName) prog_7_method_1_code (2 : Nat) (Option.none : Option Jvm.ClassFile.FieldType)) ∈ lw_all := lw_g (lw_at lw_m1 109 rfl) rfl
theorem q231 : (Jvm.Cond.methodLink "HornHouses$Street" (9 : Nat) ({ cls := "java/lang/Object", name := "<init>", desc := "()V" } : Jvm.MethodName)) ∈ lw_all := lw_g (lw_at lw_m1 110 rfl) rfl
theorem q232 : (Jvm.Cond.fieldLink "HornHouses$Street" (15 : Nat) "HornHouses$Street" "size" "[I") ∈ lw_all := lw_g (lw_at lw_m1 111 rfl) rfl
theorem q235 : (Jvm.Cond.fieldLink "HornHouses$Street" (19 : Nat) "HornHouses$Street" "worn" "[I") ∈ lw_all := lw_g (lw_at lw_m1 114 rfl) rfl
theorem q237 : (Jvm.Cond.fieldLink "HornHouses$Street" (22 : Nat) "HornHouses$Street" "heel" "[I") ∈ lw_all := lw_g (lw_at lw_m1 116 rfl) rfl
theorem q240 : (Jvm.Cond.fieldLink "HornHouses$Street" (25 : Nat) "HornHouses$Street" "house" "[I") ∈ lw_all := lw_g (lw_at lw_m1 119 rfl) rfl
theorem q243 : (Jvm.Cond.fieldLink "HornHouses$Street" (28 : Nat) "HornHouses$Street" "blisters" "[I") ∈ lw_all := lw_g (lw_at lw_m1 122 rfl) rfl
theorem q245 : (Jvm.Cond.fieldLink "HornHouses$Street" (42 : Nat) "HornHouses$Street" "day" "I") ∈ lw_all := lw_g (lw_at lw_m1 124 rfl) rfl
theorem q247 : (Jvm.Cond.fieldLink "HornHouses$Street" (45 : Nat) "HornHouses$Street" "burst" "I") ∈ lw_all := lw_g (lw_at lw_m1 126 rfl) rfl
theorem q249 : (Jvm.Cond.fieldLink "HornHouses$Street" (48 : Nat) "HornHouses$Street" "letIn" "Z") ∈ lw_all := lw_g (lw_at lw_m1 128 rfl) rfl
theorem q251 : (Jvm.Cond.fieldLink "HornHouses$Street" (31 : Nat) "HornHouses$Street" "damp" "I") ∈ lw_all := lw_g (lw_at lw_m1 130 rfl) rfl
theorem q253 : (Jvm.Cond.fieldLink "HornHouses$Street" (3 : Nat) "HornHouses$Street" "this$0" "LHornHouses;") ∈ lw_all := lw_g (lw_at lw_m1 132 rfl) rfl
theorem q254 : (Jvm.Cond.laysFinal "HornHouses$Street" "HornHouses$Street" "size" "[I") ∈ lw_all := lw_g (lw_at lw_m1 133 rfl) rfl
theorem q255 : (Jvm.Cond.soleField "HornHouses$Street" "size") ∈ lw_all := lw_g (lw_at lw_m1 134 rfl) rfl
theorem q256 : (Jvm.Cond.laysFinal "HornHouses$Street" "HornHouses$Street" "worn" "[I") ∈ lw_all := lw_g (lw_at lw_m1 135 rfl) rfl
theorem q257 : (Jvm.Cond.soleField "HornHouses$Street" "worn") ∈ lw_all := lw_g (lw_at lw_m1 136 rfl) rfl
theorem q258 : (Jvm.Cond.laysFinal "HornHouses$Street" "HornHouses$Street" "heel" "[I") ∈ lw_all := lw_g (lw_at lw_m1 137 rfl) rfl
theorem q259 : (Jvm.Cond.soleField "HornHouses$Street" "heel") ∈ lw_all := lw_g (lw_at lw_m1 138 rfl) rfl
theorem q260 : (Jvm.Cond.laysFinal "HornHouses$Street" "HornHouses$Street" "house" "[I") ∈ lw_all := lw_g (lw_at lw_m1 139 rfl) rfl
theorem q261 : (Jvm.Cond.soleField "HornHouses$Street" "house") ∈ lw_all := lw_g (lw_at lw_m1 140 rfl) rfl
theorem q262 : (Jvm.Cond.laysFinal "HornHouses$Street" "HornHouses$Street" "blisters" "[I") ∈ lw_all := lw_g (lw_at lw_m1 141 rfl) rfl
theorem q263 : (Jvm.Cond.soleField "HornHouses$Street" "blisters") ∈ lw_all := lw_g (lw_at lw_m1 142 rfl) rfl
theorem q264 : (Jvm.Cond.lays "HornHouses$Street" "HornHouses$Street" "day" "I") ∈ lw_all := lw_g (lw_at lw_m1 143 rfl) rfl
theorem q265 : (Jvm.Cond.soleField "HornHouses$Street" "day") ∈ lw_all := lw_g (lw_at lw_m1 144 rfl) rfl
theorem q266 : (Jvm.Cond.lays "HornHouses$Street" "HornHouses$Street" "burst" "I") ∈ lw_all := lw_g (lw_at lw_m1 145 rfl) rfl
theorem q267 : (Jvm.Cond.soleField "HornHouses$Street" "burst") ∈ lw_all := lw_g (lw_at lw_m1 146 rfl) rfl
theorem q268 : (Jvm.Cond.lays "HornHouses$Street" "HornHouses$Street" "letIn" "Z") ∈ lw_all := lw_g (lw_at lw_m1 147 rfl) rfl
theorem q269 : (Jvm.Cond.soleField "HornHouses$Street" "letIn") ∈ lw_all := lw_g (lw_at lw_m1 148 rfl) rfl
theorem q270 : (Jvm.Cond.lays "HornHouses$Street" "HornHouses$Street" "damp" "I") ∈ lw_all := lw_g (lw_at lw_m1 149 rfl) rfl
theorem q271 : (Jvm.Cond.soleField "HornHouses$Street" "damp") ∈ lw_all := lw_g (lw_at lw_m1 150 rfl) rfl
theorem q272 : (Jvm.Cond.laysFinal "HornHouses$Street" "HornHouses$Street" "this$0" "LHornHouses;") ∈ lw_all := lw_g (lw_at lw_m1 151 rfl) rfl
theorem q273 : (Jvm.Cond.soleField "HornHouses$Street" "this$0") ∈ lw_all := lw_g (lw_at lw_m1 152 rfl) rfl
theorem q274 : (Jvm.Cond.superclass "HornHouses$Street" "java/lang/Object") ∈ lw_all := lw_g (lw_at lw_m1 153 rfl) rfl
theorem q278 : (Jvm.Cond.fieldLinkNest "HornHouses$Street" (71 : Nat) "HornHouses" "values" "[I" "HornHouses") ∈ lw_tbl := lw_at lw_m1 157 rfl
theorem q279 : (Jvm.Cond.fieldLinkNest "HornHouses$Street" (52 : Nat) "HornHouses" "town" "LHornHouses$Town;" "HornHouses") ∈ lw_tbl := lw_at lw_m1 158 rfl
theorem q348 : (Jvm.Cond.instanceMethod ({ cls := "HornHouses$Street", name := "copy", desc := "()LHornHouses$Street;" } : Jvm.MethodName)) ∈ lw_all := lw_g (lw_at lw_m1 227 rfl) rfl
theorem q349 : (Jvm.Cond.selects "HornHouses$Street" ({ cls := "HornHouses$Street", name := "copy", desc := "()LHornHouses$Street;" } : Jvm.MethodName) ({ cls := "HornHouses$Street", name := "copy", desc := "()LHornHouses$Street;" } : Jvm.MethodName)) ∈ lw_all := lw_g (lw_at lw_m1 228 rfl) rfl
theorem q350 : (Jvm.Cond.code ({ cls := "HornHouses$Street", name := "copy", desc := "()LHornHouses$Street;" } : Jvm.MethodName) prog_7_method_2_code (1 : Nat) (Option.some (Jvm.ClassFile.FieldType.object "HornHouses$Street"))) ∈ lw_all := lw_g (lw_at lw_m1 229 rfl) rfl
theorem q351 : (Jvm.Cond.classLink "HornHouses$Street" (4 : Nat) "HornHouses$Street") ∈ lw_all := lw_g (lw_at lw_m1 230 rfl) rfl
theorem q352 : (Jvm.Cond.methodLink "HornHouses$Street" (35 : Nat) ({ cls := "HornHouses$Street", name := "<init>", desc := "(LHornHouses;)V" } : Jvm.MethodName)) ∈ lw_all := lw_g (lw_at lw_m1 231 rfl) rfl
theorem q353 : (Jvm.Cond.methodLink "HornHouses$Street" (38 : Nat) ({ cls := "HornHouses$Street", name := "be", desc := "(LHornHouses$Street;)LHornHouses$Street;" } : Jvm.MethodName)) ∈ lw_all := lw_g (lw_at lw_m1 232 rfl) rfl
theorem q354 : (Jvm.Cond.instanceMethod ({ cls := "HornHouses$Street", name := "be", desc := "(LHornHouses$Street;)LHornHouses$Street;" } : Jvm.MethodName)) ∈ lw_all := lw_g (lw_at lw_m1 233 rfl) rfl
theorem q355 : (Jvm.Cond.selects "HornHouses$Street" ({ cls := "HornHouses$Street", name := "be", desc := "(LHornHouses$Street;)LHornHouses$Street;" } : Jvm.MethodName) ({ cls := "HornHouses$Street", name := "be", desc := "(LHornHouses$Street;)LHornHouses$Street;" } : Jvm.MethodName)) ∈ lw_all := lw_g (lw_at lw_m1 234 rfl) rfl
theorem q356 : (Jvm.Cond.code ({ cls := "HornHouses$Street", name := "be", desc := "(LHornHouses$Street;)LHornHouses$Street;" } : Jvm.MethodName) prog_7_method_3_code (3 : Nat) (Option.some (Jvm.ClassFile.FieldType.object "HornHouses$Street"))) ∈ lw_all := lw_g (lw_at lw_m1 235 rfl) rfl
theorem q400 : (Jvm.Cond.selects "HornHouses$Street" ({ cls := "java/lang/Object", name := "getClass", desc := "()Ljava/lang/Class;" } : Jvm.MethodName) ({ cls := "java/lang/Object", name := "getClass", desc := "()Ljava/lang/Class;" } : Jvm.MethodName)) ∈ lw_all := lw_g (lw_at lw_m2 39 rfl) rfl
theorem q455 : (Jvm.Cond.instanceMethod ({ cls := "HornHouses$Street", name := "after", desc := "(I)LHornHouses$Street;" } : Jvm.MethodName)) ∈ lw_all := lw_g (lw_at lw_m2 94 rfl) rfl
theorem q456 : (Jvm.Cond.selects "HornHouses$Street" ({ cls := "HornHouses$Street", name := "after", desc := "(I)LHornHouses$Street;" } : Jvm.MethodName) ({ cls := "HornHouses$Street", name := "after", desc := "(I)LHornHouses$Street;" } : Jvm.MethodName)) ∈ lw_all := lw_g (lw_at lw_m2 95 rfl) rfl
theorem q457 : (Jvm.Cond.code ({ cls := "HornHouses$Street", name := "after", desc := "(I)LHornHouses$Street;" } : Jvm.MethodName) prog_7_method_14_code (3 : Nat) (Option.some (Jvm.ClassFile.FieldType.object "HornHouses$Street"))) ∈ lw_all := lw_g (lw_at lw_m2 96 rfl) rfl
theorem q458 : (Jvm.Cond.methodLink "HornHouses$Street" (138 : Nat) ({ cls := "HornHouses$Street", name := "pass", desc := "()LHornHouses$Street;" } : Jvm.MethodName)) ∈ lw_all := lw_g (lw_at lw_m2 97 rfl) rfl
theorem q459 : (Jvm.Cond.instanceMethod ({ cls := "HornHouses$Street", name := "pass", desc := "()LHornHouses$Street;" } : Jvm.MethodName)) ∈ lw_all := lw_g (lw_at lw_m2 98 rfl) rfl
theorem q460 : (Jvm.Cond.selects "HornHouses$Street" ({ cls := "HornHouses$Street", name := "pass", desc := "()LHornHouses$Street;" } : Jvm.MethodName) ({ cls := "HornHouses$Street", name := "pass", desc := "()LHornHouses$Street;" } : Jvm.MethodName)) ∈ lw_all := lw_g (lw_at lw_m2 99 rfl) rfl
theorem q461 : (Jvm.Cond.code ({ cls := "HornHouses$Street", name := "pass", desc := "()LHornHouses$Street;" } : Jvm.MethodName) prog_7_method_13_code (2 : Nat) (Option.some (Jvm.ClassFile.FieldType.object "HornHouses$Street"))) ∈ lw_all := lw_g (lw_at lw_m2 100 rfl) rfl
theorem q462 : (Jvm.Cond.methodLink "HornHouses$Street" (128 : Nat) ({ cls := "HornHouses$Town", name := "houses", desc := "()I" } : Jvm.MethodName)) ∈ lw_all := lw_g (lw_at lw_m2 101 rfl) rfl
theorem q468 : (Jvm.Cond.methodLink "HornHouses$Street" (117 : Nat) ({ cls := "HornHouses$Street", name := "in", desc := "(I)I" } : Jvm.MethodName)) ∈ lw_all := lw_g (lw_at lw_m2 107 rfl) rfl
theorem q469 : (Jvm.Cond.instanceMethod ({ cls := "HornHouses$Street", name := "in", desc := "(I)I" } : Jvm.MethodName)) ∈ lw_all := lw_g (lw_at lw_m2 108 rfl) rfl
theorem q470 : (Jvm.Cond.selects "HornHouses$Street" ({ cls := "HornHouses$Street", name := "in", desc := "(I)I" } : Jvm.MethodName) ({ cls := "HornHouses$Street", name := "in", desc := "(I)I" } : Jvm.MethodName)) ∈ lw_all := lw_g (lw_at lw_m2 109 rfl) rfl
theorem q471 : (Jvm.Cond.code ({ cls := "HornHouses$Street", name := "in", desc := "(I)I" } : Jvm.MethodName) prog_7_method_6_code (3 : Nat) (Option.some Jvm.ClassFile.FieldType.int)) ∈ lw_all := lw_g (lw_at lw_m2 110 rfl) rfl
theorem q472 : (Jvm.Cond.methodLink "HornHouses$Street" (67 : Nat) ({ cls := "HornHouses$Town", name := "people", desc := "()I" } : Jvm.MethodName)) ∈ lw_all := lw_g (lw_at lw_m2 111 rfl) rfl
theorem q476 : (Jvm.Cond.methodLink "HornHouses$Street" (131 : Nat) ({ cls := "HornHouses$Street", name := "wear", desc := "(II)V" } : Jvm.MethodName)) ∈ lw_all := lw_g (lw_at lw_m2 115 rfl) rfl
theorem q477 : (Jvm.Cond.privateMethod ({ cls := "HornHouses$Street", name := "wear", desc := "(II)V" } : Jvm.MethodName)) ∈ lw_tbl := lw_at lw_m2 116 rfl
theorem q478 : (Jvm.Cond.instanceMethod ({ cls := "HornHouses$Street", name := "wear", desc := "(II)V" } : Jvm.MethodName)) ∈ lw_all := lw_g (lw_at lw_m2 117 rfl) rfl
theorem q479 : (Jvm.Cond.code ({ cls := "HornHouses$Street", name := "wear", desc := "(II)V" } : Jvm.MethodName) prog_7_method_12_code (3 : Nat) (Option.none : Option Jvm.ClassFile.FieldType)) ∈ lw_all := lw_g (lw_at lw_m2 118 rfl) rfl
theorem q480 : (Jvm.Cond.methodLink "HornHouses$Street" (91 : Nat) ({ cls := "HornHouses$Street", name := "tight", desc := "(II)I" } : Jvm.MethodName)) ∈ lw_all := lw_g (lw_at lw_m2 119 rfl) rfl
theorem q481 : (Jvm.Cond.instanceMethod ({ cls := "HornHouses$Street", name := "tight", desc := "(II)I" } : Jvm.MethodName)) ∈ lw_all := lw_g (lw_at lw_m2 120 rfl) rfl
theorem q482 : (Jvm.Cond.selects "HornHouses$Street" ({ cls := "HornHouses$Street", name := "tight", desc := "(II)I" } : Jvm.MethodName) ({ cls := "HornHouses$Street", name := "tight", desc := "(II)I" } : Jvm.MethodName)) ∈ lw_all := lw_g (lw_at lw_m2 121 rfl) rfl
theorem q483 : (Jvm.Cond.code ({ cls := "HornHouses$Street", name := "tight", desc := "(II)I" } : Jvm.MethodName) prog_7_method_5_code (3 : Nat) (Option.some Jvm.ClassFile.FieldType.int)) ∈ lw_all := lw_g (lw_at lw_m2 122 rfl) rfl
theorem q484 : (Jvm.Cond.methodLink "HornHouses$Street" (61 : Nat) ({ cls := "java/lang/Math", name := "max", desc := "(II)I" } : Jvm.MethodName)) ∈ lw_all := lw_g (lw_at lw_m2 123 rfl) rfl
theorem q485 : (Jvm.Cond.methodLink "HornHouses$Street" (108 : Nat) ({ cls := "java/lang/Math", name := "min", desc := "(II)I" } : Jvm.MethodName)) ∈ lw_all := lw_g (lw_at lw_m2 124 rfl) rfl
theorem q486 : (Jvm.Cond.methodLink "HornHouses$Street" (126 : Nat) ({ cls := "HornHouses$Street", name := "bursts", desc := "(II)Z" } : Jvm.MethodName)) ∈ lw_all := lw_g (lw_at lw_m2 125 rfl) rfl
theorem q487 : (Jvm.Cond.privateMethod ({ cls := "HornHouses$Street", name := "bursts", desc := "(II)Z" } : Jvm.MethodName)) ∈ lw_tbl := lw_at lw_m2 126 rfl
theorem q488 : (Jvm.Cond.instanceMethod ({ cls := "HornHouses$Street", name := "bursts", desc := "(II)Z" } : Jvm.MethodName)) ∈ lw_all := lw_g (lw_at lw_m2 127 rfl) rfl
theorem q489 : (Jvm.Cond.code ({ cls := "HornHouses$Street", name := "bursts", desc := "(II)Z" } : Jvm.MethodName) prog_7_method_11_code (3 : Nat) (Option.some Jvm.ClassFile.FieldType.boolean)) ∈ lw_all := lw_g (lw_at lw_m2 128 rfl) rfl
theorem q490 : (Jvm.Cond.interfaceEntry "HornHouses$Street" (78 : Nat)) ∈ lw_tbl := lw_at lw_m2 129 rfl
theorem q491 : (Jvm.Cond.methodLink "HornHouses$Street" (78 : Nat) ({ cls := "java/util/List", name := "get", desc := "(I)Ljava/lang/Object;" } : Jvm.MethodName)) ∈ lw_all := lw_g (lw_at lw_m2 130 rfl) rfl
theorem q503 : (Jvm.Cond.classLink "HornHouses$Street" (84 : Nat) "java/lang/Integer") ∈ lw_all := lw_g (lw_at lw_m2 142 rfl) rfl
theorem q504 : (Jvm.Cond.methodLink "HornHouses$Street" (86 : Nat) ({ cls := "java/lang/Integer", name := "intValue", desc := "()I" } : Jvm.MethodName)) ∈ lw_all := lw_g (lw_at lw_m2 143 rfl) rfl
theorem q508 : (Jvm.Cond.methodLink "HornHouses$Street" (104 : Nat) ({ cls := "HornHouses$Street", name := "asked", desc := "(LHornHouses$Form;II)I" } : Jvm.MethodName)) ∈ lw_all := lw_g (lw_at lw_m2 147 rfl) rfl
theorem q509 : (Jvm.Cond.privateMethod ({ cls := "HornHouses$Street", name := "asked", desc := "(LHornHouses$Form;II)I" } : Jvm.MethodName)) ∈ lw_tbl := lw_at lw_m2 148 rfl
theorem q510 : (Jvm.Cond.instanceMethod ({ cls := "HornHouses$Street", name := "asked", desc := "(LHornHouses$Form;II)I" } : Jvm.MethodName)) ∈ lw_all := lw_g (lw_at lw_m2 149 rfl) rfl
theorem q511 : (Jvm.Cond.code ({ cls := "HornHouses$Street", name := "asked", desc := "(LHornHouses$Form;II)I" } : Jvm.MethodName) prog_7_method_7_code (4 : Nat) (Option.some Jvm.ClassFile.FieldType.int)) ∈ lw_all := lw_g (lw_at lw_m2 150 rfl) rfl
theorem q512 : (Jvm.Cond.methodLink "HornHouses$Street" (89 : Nat) ({ cls := "HornHouses$Street", name := "damp", desc := "()I" } : Jvm.MethodName)) ∈ lw_all := lw_g (lw_at lw_m2 151 rfl) rfl
theorem q513 : (Jvm.Cond.instanceMethod ({ cls := "HornHouses$Street", name := "damp", desc := "()I" } : Jvm.MethodName)) ∈ lw_all := lw_g (lw_at lw_m2 152 rfl) rfl
theorem q514 : (Jvm.Cond.selects "HornHouses$Street" ({ cls := "HornHouses$Street", name := "damp", desc := "()I" } : Jvm.MethodName) ({ cls := "HornHouses$Street", name := "damp", desc := "()I" } : Jvm.MethodName)) ∈ lw_all := lw_g (lw_at lw_m2 153 rfl) rfl
theorem q515 : (Jvm.Cond.code ({ cls := "HornHouses$Street", name := "damp", desc := "()I" } : Jvm.MethodName) prog_7_method_4_code (1 : Nat) (Option.some Jvm.ClassFile.FieldType.int)) ∈ lw_all := lw_g (lw_at lw_m2 154 rfl) rfl
theorem q516 : (Jvm.Cond.methodLink "HornHouses$Street" (56 : Nat) ({ cls := "HornHouses$Town", name := "damp", desc := "(I)I" } : Jvm.MethodName)) ∈ lw_all := lw_g (lw_at lw_m2 155 rfl) rfl
theorem q533 : (Jvm.Cond.interfaceEntry "HornHouses$Street" (94 : Nat)) ∈ lw_tbl := lw_at lw_m2 172 rfl
theorem q534 : (Jvm.Cond.methodLink "HornHouses$Street" (94 : Nat) ({ cls := "HornHouses$Form", name := "of", desc := "([I)I" } : Jvm.MethodName)) ∈ lw_all := lw_g (lw_at lw_m2 173 rfl) rfl
theorem q1195 : (Jvm.Cond.instanceMethod ({ cls := "HornHouses$Street", name := "lodging", desc := "()I" } : Jvm.MethodName)) ∈ lw_all := lw_g (lw_at lw_m5 114 rfl) rfl
theorem q1196 : (Jvm.Cond.selects "HornHouses$Street" ({ cls := "HornHouses$Street", name := "lodging", desc := "()I" } : Jvm.MethodName) ({ cls := "HornHouses$Street", name := "lodging", desc := "()I" } : Jvm.MethodName)) ∈ lw_all := lw_g (lw_at lw_m5 115 rfl) rfl
theorem q1197 : (Jvm.Cond.code ({ cls := "HornHouses$Street", name := "lodging", desc := "()I" } : Jvm.MethodName) prog_7_method_15_code (3 : Nat) (Option.some Jvm.ClassFile.FieldType.int)) ∈ lw_all := lw_g (lw_at lw_m5 116 rfl) rfl
theorem q1199 : (Jvm.Cond.instanceMethod ({ cls := "HornHouses$Street", name := "allBlisters", desc := "()I" } : Jvm.MethodName)) ∈ lw_all := lw_g (lw_at lw_m5 118 rfl) rfl
theorem q1200 : (Jvm.Cond.selects "HornHouses$Street" ({ cls := "HornHouses$Street", name := "allBlisters", desc := "()I" } : Jvm.MethodName) ({ cls := "HornHouses$Street", name := "allBlisters", desc := "()I" } : Jvm.MethodName)) ∈ lw_all := lw_g (lw_at lw_m5 119 rfl) rfl
theorem q1201 : (Jvm.Cond.code ({ cls := "HornHouses$Street", name := "allBlisters", desc := "()I" } : Jvm.MethodName) prog_7_method_16_code (3 : Nat) (Option.some Jvm.ClassFile.FieldType.int)) ∈ lw_all := lw_g (lw_at lw_m5 120 rfl) rfl
theorem q1227 : (Jvm.Cond.instanceMethod ({ cls := "HornHouses$Street", name := "goesIn", desc := "(II)Z" } : Jvm.MethodName)) ∈ lw_all := lw_g (lw_at lw_m5 146 rfl) rfl
theorem q1228 : (Jvm.Cond.selects "HornHouses$Street" ({ cls := "HornHouses$Street", name := "goesIn", desc := "(II)Z" } : Jvm.MethodName) ({ cls := "HornHouses$Street", name := "goesIn", desc := "(II)Z" } : Jvm.MethodName)) ∈ lw_all := lw_g (lw_at lw_m5 147 rfl) rfl
theorem q1229 : (Jvm.Cond.code ({ cls := "HornHouses$Street", name := "goesIn", desc := "(II)Z" } : Jvm.MethodName) prog_7_method_9_code (3 : Nat) (Option.some Jvm.ClassFile.FieldType.boolean)) ∈ lw_all := lw_g (lw_at lw_m5 148 rfl) rfl
theorem q1230 : (Jvm.Cond.methodLinkNest "HornHouses$Street" (111 : Nat) ({ cls := "HornHouses", name := "isOf", desc := "(II)Z" } : Jvm.MethodName) "HornHouses") ∈ lw_tbl := lw_at lw_m5 149 rfl
theorem q1231 : (Jvm.Cond.methodLink "HornHouses$Street" (115 : Nat) ({ cls := "HornHouses$Street", name := "eases", desc := "(II)I" } : Jvm.MethodName)) ∈ lw_all := lw_g (lw_at lw_m5 150 rfl) rfl
theorem q1232 : (Jvm.Cond.instanceMethod ({ cls := "HornHouses$Street", name := "eases", desc := "(II)I" } : Jvm.MethodName)) ∈ lw_all := lw_g (lw_at lw_m5 151 rfl) rfl
theorem q1233 : (Jvm.Cond.selects "HornHouses$Street" ({ cls := "HornHouses$Street", name := "eases", desc := "(II)I" } : Jvm.MethodName) ({ cls := "HornHouses$Street", name := "eases", desc := "(II)I" } : Jvm.MethodName)) ∈ lw_all := lw_g (lw_at lw_m5 152 rfl) rfl
theorem q1234 : (Jvm.Cond.code ({ cls := "HornHouses$Street", name := "eases", desc := "(II)I" } : Jvm.MethodName) prog_7_method_8_code (4 : Nat) (Option.some Jvm.ClassFile.FieldType.int)) ∈ lw_all := lw_g (lw_at lw_m5 153 rfl) rfl
theorem q1319 : (Jvm.Cond.instanceMethod ({ cls := "HornHouses$Street", name := "canPut", desc := "(II)Z" } : Jvm.MethodName)) ∈ lw_all := lw_g (lw_at lw_m5 238 rfl) rfl
theorem q1320 : (Jvm.Cond.selects "HornHouses$Street" ({ cls := "HornHouses$Street", name := "canPut", desc := "(II)Z" } : Jvm.MethodName) ({ cls := "HornHouses$Street", name := "canPut", desc := "(II)Z" } : Jvm.MethodName)) ∈ lw_all := lw_g (lw_at lw_m5 239 rfl) rfl
theorem q1321 : (Jvm.Cond.code ({ cls := "HornHouses$Street", name := "canPut", desc := "(II)Z" } : Jvm.MethodName) prog_7_method_10_code (3 : Nat) (Option.some Jvm.ClassFile.FieldType.boolean)) ∈ lw_all := lw_g (lw_at lw_m6 0 rfl) rfl
theorem q1322 : (Jvm.Cond.methodLink "HornHouses$Street" (120 : Nat) ({ cls := "HornHouses$Street", name := "goesIn", desc := "(II)Z" } : Jvm.MethodName)) ∈ lw_all := lw_g (lw_at lw_m6 1 rfl) rfl
theorem q2329 : (Jvm.Cond.castable "HornHouses$Street" "java/lang/Object") ∈ lw_tbl := lw_at lw_m10 48 rfl
theorem in_X3 : ∀ w ∈ wsX30, w ∈ lw_all := lw_in wsX30 [254, 256, 258, 260, 262, 264, 266, 268, 270, 272] (by decide +kernel) (by decide +kernel)
/-! HornHouses$Wrong -/
set_option maxRecDepth 100000
def RX6 : String := "HornHouses$Wrong"
def TX6 : u_T := fun k => match k with
  | 0 => ("java/lang/Throwable", "cause", "Ljava/lang/Throwable;", false)
  | 1 => ("java/lang/Throwable", "stackTrace", "[Ljava/lang/StackTraceElement;", false)
  | 2 => ("java/lang/Throwable", "suppressedExceptions", "Ljava/util/List;", false)
  | 3 => ("java/lang/Throwable", "detailMessage", "Ljava/lang/String;", false)
  | 4 => ("java/lang/Throwable", "backtrace", "Ljava/lang/Object;", false)
  | 5 => ("java/lang/Throwable", "depth", "I", false)
  | _ => ("HornHouses$Wrong", "kind", "I", true)
def tyX6 : Nat → FieldType := fun k => match k with
  | 0 => .object "java/lang/Throwable"
  | 1 => .array (.object "java/lang/StackTraceElement")
  | 2 => .object "java/util/List"
  | 3 => .object "java/lang/String"
  | 4 => .object "java/lang/Object"
  | 5 => .int
  | _ => .int
abbrev wsX60 : List Cond := u_ws RX6 TX6 7
theorem nmX6 : ∀ a, a < 7 → ∀ b, b < 7 → a ≠ b → (TX6 a).2.1 ≠ (TX6 b).2.1 := by decide +kernel
theorem tyX6_ok : ∀ k, k < 7 → parseFieldDescriptor (TX6 k).2.2.1 = some (tyX6 k) := by decide +kernel
abbrev cX6_init : ByteArray := prog_10_method_1_code
def yX6_init : MethodName := ⟨RX6, "<init>", "(I)V"⟩
def dkwX6_init_0 : List UInt8 := [42, 1, 1, 3, 3, 183, 0, 1, 42, 27, 181, 0, 7, 177]
abbrev dktX6_init_0 : List UInt8 := dkwX6_init_0 ++ []
theorem dksX6_init_0 : cX6_init.data.toList.drop 0 = dktX6_init_0 := by decide +kernel
theorem dX6_init_0 : decode cX6_init 0 = .ok (.aload_n 0, 1) := dk_42 (dk_at dksX6_init_0 0 rfl rfl)
theorem dX6_init_1 : decode cX6_init 1 = .ok (.aconst_null, 1) := dk_1 (dk_at dksX6_init_0 1 rfl rfl)
theorem dX6_init_2 : decode cX6_init 2 = .ok (.aconst_null, 1) := dk_1 (dk_at dksX6_init_0 2 rfl rfl)
theorem dX6_init_3 : decode cX6_init 3 = .ok (.iconst 0, 1) := dk_3 (dk_at dksX6_init_0 3 rfl rfl)
theorem dX6_init_4 : decode cX6_init 4 = .ok (.iconst 0, 1) := dk_3 (dk_at dksX6_init_0 4 rfl rfl)
theorem dX6_init_5 : decode cX6_init 5 = .ok (.invokespecial 1, 3) := dk_183 0 1 (dk_at dksX6_init_0 5 rfl rfl)
theorem dX6_init_8 : decode cX6_init 8 = .ok (.aload_n 0, 1) := dk_42 (dk_at dksX6_init_0 8 rfl rfl)
theorem dX6_init_9 : decode cX6_init 9 = .ok (.iload_n 1, 1) := dk_27 (dk_at dksX6_init_0 9 rfl rfl)
theorem dX6_init_10 : decode cX6_init 10 = .ok (.putfield 7, 3) := dk_181 0 7 (dk_at dksX6_init_0 10 rfl rfl)
theorem dX6_init_13 : decode cX6_init 13 = .ok (.return_, 1) := dk_177 (dk_at dksX6_init_0 13 rfl rfl)
theorem q140 : (Jvm.Cond.initialized "HornHouses$Wrong") ∈ lw_all := lw_g (lw_at lw_m1 19 rfl) rfl
theorem q403 : (Jvm.Cond.selects "HornHouses$Wrong" ({ cls := "java/lang/Object", name := "getClass", desc := "()Ljava/lang/Class;" } : Jvm.MethodName) ({ cls := "java/lang/Object", name := "getClass", desc := "()Ljava/lang/Class;" } : Jvm.MethodName)) ∈ lw_all := lw_g (lw_at lw_m2 42 rfl) rfl
theorem q692 : (Jvm.Cond.selects "HornHouses$Wrong" ({ cls := "java/lang/Throwable", name := "fillInStackTrace", desc := "()Ljava/lang/Throwable;" } : Jvm.MethodName) ({ cls := "java/lang/Throwable", name := "fillInStackTrace", desc := "()Ljava/lang/Throwable;" } : Jvm.MethodName)) ∈ lw_all := lw_g (lw_at lw_m3 91 rfl) rfl
theorem q925 : (Jvm.Cond.instantiable "HornHouses$Wrong" (7 : Nat)) ∈ lw_all := lw_g (lw_at lw_m4 84 rfl) rfl
theorem q926 : (Jvm.Cond.castable "HornHouses$Wrong" "HornHouses$Wrong") ∈ lw_tbl := lw_at lw_m4 85 rfl
theorem q927 : (Jvm.Cond.selects "HornHouses$Wrong" ({ cls := "java/lang/Throwable", name := "fillInStackTrace", desc := "(I)Ljava/lang/Throwable;" } : Jvm.MethodName) ({ cls := "java/lang/Throwable", name := "fillInStackTrace", desc := "(I)Ljava/lang/Throwable;" } : Jvm.MethodName)) ∈ lw_all := lw_g (lw_at lw_m4 86 rfl) rfl
theorem q928 : (Jvm.Cond.lays "HornHouses$Wrong" "java/lang/Throwable" "cause" "Ljava/lang/Throwable;") ∈ lw_all := lw_g (lw_at lw_m4 87 rfl) rfl
theorem q929 : (Jvm.Cond.lays "HornHouses$Wrong" "java/lang/Throwable" "stackTrace" "[Ljava/lang/StackTraceElement;") ∈ lw_all := lw_g (lw_at lw_m4 88 rfl) rfl
theorem q930 : (Jvm.Cond.lays "HornHouses$Wrong" "java/lang/Throwable" "suppressedExceptions" "Ljava/util/List;") ∈ lw_all := lw_g (lw_at lw_m4 89 rfl) rfl
theorem q931 : (Jvm.Cond.lays "HornHouses$Wrong" "java/lang/Throwable" "detailMessage" "Ljava/lang/String;") ∈ lw_all := lw_g (lw_at lw_m4 90 rfl) rfl
theorem q932 : (Jvm.Cond.lays "HornHouses$Wrong" "java/lang/Throwable" "backtrace" "Ljava/lang/Object;") ∈ lw_all := lw_g (lw_at lw_m4 91 rfl) rfl
theorem q934 : (Jvm.Cond.instanceMethod ({ cls := "HornHouses$Wrong", name := "<init>", desc := "(I)V" } : Jvm.MethodName)) ∈ lw_all := lw_g (lw_at lw_m4 93 rfl) rfl
theorem q935 : (Jvm.Cond.code ({ cls := "HornHouses$Wrong", name := "<init>", desc := "(I)V" } : Jvm.MethodName) prog_10_method_1_code (2 : Nat) (Option.none : Option Jvm.ClassFile.FieldType)) ∈ lw_all := lw_g (lw_at lw_m4 94 rfl) rfl
theorem q936 : (Jvm.Cond.methodLink "HornHouses$Wrong" (1 : Nat) ({ cls := "java/lang/Exception", name := "<init>", desc := "(Ljava/lang/String;Ljava/lang/Throwable;ZZ)V" } : Jvm.MethodName)) ∈ lw_all := lw_g (lw_at lw_m4 95 rfl) rfl
theorem q942 : (Jvm.Cond.fieldLink "HornHouses$Wrong" (7 : Nat) "HornHouses$Wrong" "kind" "I") ∈ lw_all := lw_g (lw_at lw_m4 101 rfl) rfl
theorem q944 : (Jvm.Cond.laysFinal "HornHouses$Wrong" "HornHouses$Wrong" "kind" "I") ∈ lw_all := lw_g (lw_at lw_m4 103 rfl) rfl
theorem q945 : (Jvm.Cond.soleField "HornHouses$Wrong" "kind") ∈ lw_all := lw_g (lw_at lw_m4 104 rfl) rfl
theorem q946 : (Jvm.Cond.lays "HornHouses$Wrong" "java/lang/Throwable" "depth" "I") ∈ lw_all := lw_g (lw_at lw_m4 105 rfl) rfl
theorem q947 : (Jvm.Cond.superclass "HornHouses$Wrong" "java/lang/Exception") ∈ lw_all := lw_g (lw_at lw_m4 106 rfl) rfl
theorem q2333 : (Jvm.Cond.castable "HornHouses$Wrong" "java/lang/Object") ∈ lw_tbl := lw_at lw_m10 52 rfl
theorem in_X6 : ∀ w ∈ wsX60, w ∈ lw_all := lw_in wsX60 [928, 929, 930, 931, 932, 946, 944] (by decide +kernel) (by decide +kernel)
/-! HornHouses$Chain -/
set_option maxRecDepth 100000
def RX7 : String := "HornHouses$Chain"
def TX7 : u_T := fun k => match k with
  | 0 => ("HornHouses$Chain", "forms", "Ljava/util/List;", true)
  | _ => ("HornHouses$Chain", "signs", "Ljava/lang/StringBuilder;", true)
def tyX7 : Nat → FieldType := fun k => match k with
  | 0 => .object "java/util/List"
  | _ => .object "java/lang/StringBuilder"
abbrev wsX70 : List Cond := u_ws RX7 TX7 2
theorem nmX7 : ∀ a, a < 2 → ∀ b, b < 2 → a ≠ b → (TX7 a).2.1 ≠ (TX7 b).2.1 := by decide +kernel
theorem tyX7_ok : ∀ k, k < 2 → parseFieldDescriptor (TX7 k).2.2.1 = some (tyX7 k) := by decide +kernel
abbrev cX7_of : ByteArray := prog_2_method_4_code
def yX7_of : MethodName := ⟨RX7, "of", "([I)I"⟩
def dkwX7_of_3 : List UInt8 := [132, 3, 1, 167, 255, 206, 28, 172]
abbrev dktX7_of_3 : List UInt8 := dkwX7_of_3 ++ []
def dkwX7_of_2 : List UInt8 := [180, 0, 10, 29, 185, 0, 37, 2, 0, 192, 0, 41, 43, 185, 0, 43, 2, 0, 184, 0, 51, 61]
abbrev dktX7_of_2 : List UInt8 := dkwX7_of_2 ++ dktX7_of_3
def dkwX7_of_1 : List UInt8 := [180, 0, 10, 185, 0, 33, 1, 0, 162, 0, 43, 42, 180, 0, 19, 29, 4, 100, 182, 0, 47, 28, 42]
abbrev dktX7_of_1 : List UInt8 := dkwX7_of_1 ++ dktX7_of_2
def dkwX7_of_0 : List UInt8 := [42, 180, 0, 10, 3, 185, 0, 37, 2, 0, 192, 0, 41, 43, 185, 0, 43, 2, 0, 61, 4, 62, 29, 42]
abbrev dktX7_of_0 : List UInt8 := dkwX7_of_0 ++ dktX7_of_1
theorem dksX7_of_0 : cX7_of.data.toList.drop 0 = dktX7_of_0 := by decide +kernel
theorem dksX7_of_1 : cX7_of.data.toList.drop 24 = dktX7_of_1 := dk_seg dksX7_of_0 24 rfl rfl
theorem dksX7_of_2 : cX7_of.data.toList.drop 47 = dktX7_of_2 := dk_seg dksX7_of_1 23 rfl rfl
theorem dksX7_of_3 : cX7_of.data.toList.drop 69 = dktX7_of_3 := dk_seg dksX7_of_2 22 rfl rfl
theorem dX7_of_0 : decode cX7_of 0 = .ok (.aload_n 0, 1) := dk_42 (dk_at dksX7_of_0 0 rfl rfl)
theorem dX7_of_1 : decode cX7_of 1 = .ok (.getfield 10, 3) := dk_180 0 10 (dk_at dksX7_of_0 1 rfl rfl)
theorem dX7_of_4 : decode cX7_of 4 = .ok (.iconst 0, 1) := dk_3 (dk_at dksX7_of_0 4 rfl rfl)
theorem dX7_of_5 : decode cX7_of 5 = .ok (.invokeinterface 37 2, 5) := by decide +kernel
theorem dX7_of_10 : decode cX7_of 10 = .ok (.checkcast 41, 3) := dk_192 0 41 (dk_at dksX7_of_0 10 rfl rfl)
theorem dX7_of_13 : decode cX7_of 13 = .ok (.aload_n 1, 1) := dk_43 (dk_at dksX7_of_0 13 rfl rfl)
theorem dX7_of_14 : decode cX7_of 14 = .ok (.invokeinterface 43 2, 5) := by decide +kernel
theorem dX7_of_19 : decode cX7_of 19 = .ok (.istore_n 2, 1) := dk_61 (dk_at dksX7_of_0 19 rfl rfl)
theorem dX7_of_20 : decode cX7_of 20 = .ok (.iconst 1, 1) := dk_4 (dk_at dksX7_of_0 20 rfl rfl)
theorem dX7_of_21 : decode cX7_of 21 = .ok (.istore_n 3, 1) := dk_62 (dk_at dksX7_of_0 21 rfl rfl)
theorem dX7_of_22 : decode cX7_of 22 = .ok (.iload_n 3, 1) := dk_29 (dk_at dksX7_of_0 22 rfl rfl)
theorem dX7_of_23 : decode cX7_of 23 = .ok (.aload_n 0, 1) := dk_42 (dk_at dksX7_of_0 23 rfl rfl)
theorem dX7_of_24 : decode cX7_of 24 = .ok (.getfield 10, 3) := dk_180 0 10 (dk_at dksX7_of_1 0 rfl rfl)
theorem dX7_of_27 : decode cX7_of 27 = .ok (.invokeinterface 33 1, 5) := by decide +kernel
theorem dX7_of_32 : decode cX7_of 32 = .ok (.if_icmp .ge 43, 3) := dk_162 0 43 (dk_at dksX7_of_1 8 rfl rfl)
theorem dX7_of_35 : decode cX7_of 35 = .ok (.aload_n 0, 1) := dk_42 (dk_at dksX7_of_1 11 rfl rfl)
theorem dX7_of_36 : decode cX7_of 36 = .ok (.getfield 19, 3) := dk_180 0 19 (dk_at dksX7_of_1 12 rfl rfl)
theorem dX7_of_39 : decode cX7_of 39 = .ok (.iload_n 3, 1) := dk_29 (dk_at dksX7_of_1 15 rfl rfl)
theorem dX7_of_40 : decode cX7_of 40 = .ok (.iconst 1, 1) := dk_4 (dk_at dksX7_of_1 16 rfl rfl)
theorem dX7_of_41 : decode cX7_of 41 = .ok (.isub, 1) := dk_100 (dk_at dksX7_of_1 17 rfl rfl)
theorem dX7_of_42 : decode cX7_of 42 = .ok (.invokevirtual 47, 3) := dk_182 0 47 (dk_at dksX7_of_1 18 rfl rfl)
theorem dX7_of_45 : decode cX7_of 45 = .ok (.iload_n 2, 1) := dk_28 (dk_at dksX7_of_1 21 rfl rfl)
theorem dX7_of_46 : decode cX7_of 46 = .ok (.aload_n 0, 1) := dk_42 (dk_at dksX7_of_1 22 rfl rfl)
theorem dX7_of_47 : decode cX7_of 47 = .ok (.getfield 10, 3) := dk_180 0 10 (dk_at dksX7_of_2 0 rfl rfl)
theorem dX7_of_50 : decode cX7_of 50 = .ok (.iload_n 3, 1) := dk_29 (dk_at dksX7_of_2 3 rfl rfl)
theorem dX7_of_51 : decode cX7_of 51 = .ok (.invokeinterface 37 2, 5) := by decide +kernel
theorem dX7_of_56 : decode cX7_of 56 = .ok (.checkcast 41, 3) := dk_192 0 41 (dk_at dksX7_of_2 9 rfl rfl)
theorem dX7_of_59 : decode cX7_of 59 = .ok (.aload_n 1, 1) := dk_43 (dk_at dksX7_of_2 12 rfl rfl)
theorem dX7_of_60 : decode cX7_of 60 = .ok (.invokeinterface 43 2, 5) := by decide +kernel
theorem dX7_of_65 : decode cX7_of 65 = .ok (.invokestatic 51, 3) := dk_184 0 51 (dk_at dksX7_of_2 18 rfl rfl)
theorem dX7_of_68 : decode cX7_of 68 = .ok (.istore_n 2, 1) := dk_61 (dk_at dksX7_of_2 21 rfl rfl)
theorem dX7_of_69 : decode cX7_of 69 = .ok (.iinc 3 1, 3) := dk_132 3 1 (dk_at dksX7_of_3 0 rfl rfl)
theorem dX7_of_72 : decode cX7_of 72 = .ok (.goto (-50), 3) := dk_167 255 206 (dk_at dksX7_of_3 3 rfl rfl)
theorem dX7_of_75 : decode cX7_of 75 = .ok (.iload_n 2, 1) := dk_28 (dk_at dksX7_of_3 6 rfl rfl)
theorem dX7_of_76 : decode cX7_of 76 = .ok (.ireturn, 1) := dk_172 (dk_at dksX7_of_3 7 rfl rfl)
abbrev cX7_by : ByteArray := prog_2_method_5_code
def yX7_by : MethodName := ⟨RX7, "by", "(CII)I"⟩
def dkwX7_by_5 : List UInt8 := [167, 0, 4, 3, 172]
abbrev dktX7_by_5 : List UInt8 := dkwX7_by_5 ++ []
def dkwX7_by_4 : List UInt8 := [153, 0, 11, 28, 153, 0, 7, 4, 167, 0, 4, 3, 172, 27, 154, 0, 7, 28, 153, 0, 7, 4]
abbrev dktX7_by_4 : List UInt8 := dkwX7_by_4 ++ dktX7_by_5
def dkwX7_by_3 : List UInt8 := [27, 28, 162, 0, 7, 4, 167, 0, 4, 3, 172, 27, 28, 160, 0, 7, 4, 167, 0, 4, 3, 172, 27]
abbrev dktX7_by_3 : List UInt8 := dkwX7_by_3 ++ dktX7_by_4
def dkwX7_by_2 : List UInt8 := [27, 28, 96, 172, 27, 28, 100, 172, 27, 28, 104, 172, 28, 154, 0, 7, 3, 167, 0, 6, 27, 28, 108, 172]
abbrev dktX7_by_2 : List UInt8 := dkwX7_by_2 ++ dktX7_by_3
def dkwX7_by_1 : List UInt8 := [170, 0, 0, 0, 0, 0, 171, 0, 0, 0, 38, 0, 0, 0, 61, 0, 0, 0, 157, 0, 0, 0, 171, 0, 0, 0, 171, 0, 0, 0, 171, 0, 0, 0, 119, 0, 0, 0, 111, 0, 0, 0, 171, 0, 0, 0, 115, 0, 0, 0, 171, 0, 0, 0, 123, 0, 0, 0, 171, 0, 0, 0, 171, 0, 0, 0, 171, 0, 0, 0, 171, 0, 0, 0, 171, 0, 0, 0, 171, 0, 0, 0, 171, 0, 0, 0, 171, 0, 0, 0, 171, 0, 0, 0, 171, 0, 0, 0, 171, 0, 0, 0, 171, 0, 0, 0, 135, 0, 0, 0, 146]
abbrev dktX7_by_1 : List UInt8 := dkwX7_by_1 ++ dktX7_by_2
def dkwX7_by_0 : List UInt8 := [26]
abbrev dktX7_by_0 : List UInt8 := dkwX7_by_0 ++ dktX7_by_1
theorem dksX7_by_0 : cX7_by.data.toList.drop 0 = dktX7_by_0 := by decide +kernel
theorem dksX7_by_1 : cX7_by.data.toList.drop 1 = dktX7_by_1 := dk_seg dksX7_by_0 1 rfl rfl
theorem dksX7_by_2 : cX7_by.data.toList.drop 112 = dktX7_by_2 := dk_seg dksX7_by_1 111 rfl rfl
theorem dksX7_by_3 : cX7_by.data.toList.drop 136 = dktX7_by_3 := dk_seg dksX7_by_2 24 rfl rfl
theorem dksX7_by_4 : cX7_by.data.toList.drop 159 = dktX7_by_4 := dk_seg dksX7_by_3 23 rfl rfl
theorem dksX7_by_5 : cX7_by.data.toList.drop 181 = dktX7_by_5 := dk_seg dksX7_by_4 22 rfl rfl
theorem dX7_by_0 : decode cX7_by 0 = .ok (.iload_n 0, 1) := dk_26 (dk_at dksX7_by_0 0 rfl rfl)
theorem dX7_by_1 : decode cX7_by 1 = .ok (.tableswitch 171 38 61 #[157, 171, 171, 171, 119, 111, 171, 115, 171, 123, 171, 171, 171, 171, 171, 171, 171, 171, 171, 171, 171, 171, 135, 146], 111) := by decide +kernel
theorem dX7_by_112 : decode cX7_by 112 = .ok (.iload_n 1, 1) := dk_27 (dk_at dksX7_by_2 0 rfl rfl)
theorem dX7_by_113 : decode cX7_by 113 = .ok (.iload_n 2, 1) := dk_28 (dk_at dksX7_by_2 1 rfl rfl)
theorem dX7_by_114 : decode cX7_by 114 = .ok (.iadd, 1) := dk_96 (dk_at dksX7_by_2 2 rfl rfl)
theorem dX7_by_115 : decode cX7_by 115 = .ok (.ireturn, 1) := dk_172 (dk_at dksX7_by_2 3 rfl rfl)
theorem dX7_by_116 : decode cX7_by 116 = .ok (.iload_n 1, 1) := dk_27 (dk_at dksX7_by_2 4 rfl rfl)
theorem dX7_by_117 : decode cX7_by 117 = .ok (.iload_n 2, 1) := dk_28 (dk_at dksX7_by_2 5 rfl rfl)
theorem dX7_by_118 : decode cX7_by 118 = .ok (.isub, 1) := dk_100 (dk_at dksX7_by_2 6 rfl rfl)
theorem dX7_by_119 : decode cX7_by 119 = .ok (.ireturn, 1) := dk_172 (dk_at dksX7_by_2 7 rfl rfl)
theorem dX7_by_120 : decode cX7_by 120 = .ok (.iload_n 1, 1) := dk_27 (dk_at dksX7_by_2 8 rfl rfl)
theorem dX7_by_121 : decode cX7_by 121 = .ok (.iload_n 2, 1) := dk_28 (dk_at dksX7_by_2 9 rfl rfl)
theorem dX7_by_122 : decode cX7_by 122 = .ok (.imul, 1) := dk_104 (dk_at dksX7_by_2 10 rfl rfl)
theorem dX7_by_123 : decode cX7_by 123 = .ok (.ireturn, 1) := dk_172 (dk_at dksX7_by_2 11 rfl rfl)
theorem dX7_by_124 : decode cX7_by 124 = .ok (.iload_n 2, 1) := dk_28 (dk_at dksX7_by_2 12 rfl rfl)
theorem dX7_by_125 : decode cX7_by 125 = .ok (.ifCond .ne 7, 3) := dk_154 0 7 (dk_at dksX7_by_2 13 rfl rfl)
theorem dX7_by_128 : decode cX7_by 128 = .ok (.iconst 0, 1) := dk_3 (dk_at dksX7_by_2 16 rfl rfl)
theorem dX7_by_129 : decode cX7_by 129 = .ok (.goto 6, 3) := dk_167 0 6 (dk_at dksX7_by_2 17 rfl rfl)
theorem dX7_by_132 : decode cX7_by 132 = .ok (.iload_n 1, 1) := dk_27 (dk_at dksX7_by_2 20 rfl rfl)
theorem dX7_by_133 : decode cX7_by 133 = .ok (.iload_n 2, 1) := dk_28 (dk_at dksX7_by_2 21 rfl rfl)
theorem dX7_by_134 : decode cX7_by 134 = .ok (.idiv, 1) := dk_108 (dk_at dksX7_by_2 22 rfl rfl)
theorem dX7_by_135 : decode cX7_by 135 = .ok (.ireturn, 1) := dk_172 (dk_at dksX7_by_2 23 rfl rfl)
theorem dX7_by_136 : decode cX7_by 136 = .ok (.iload_n 1, 1) := dk_27 (dk_at dksX7_by_3 0 rfl rfl)
theorem dX7_by_137 : decode cX7_by 137 = .ok (.iload_n 2, 1) := dk_28 (dk_at dksX7_by_3 1 rfl rfl)
theorem dX7_by_138 : decode cX7_by 138 = .ok (.if_icmp .ge 7, 3) := dk_162 0 7 (dk_at dksX7_by_3 2 rfl rfl)
theorem dX7_by_141 : decode cX7_by 141 = .ok (.iconst 1, 1) := dk_4 (dk_at dksX7_by_3 5 rfl rfl)
theorem dX7_by_142 : decode cX7_by 142 = .ok (.goto 4, 3) := dk_167 0 4 (dk_at dksX7_by_3 6 rfl rfl)
theorem dX7_by_145 : decode cX7_by 145 = .ok (.iconst 0, 1) := dk_3 (dk_at dksX7_by_3 9 rfl rfl)
theorem dX7_by_146 : decode cX7_by 146 = .ok (.ireturn, 1) := dk_172 (dk_at dksX7_by_3 10 rfl rfl)
theorem dX7_by_147 : decode cX7_by 147 = .ok (.iload_n 1, 1) := dk_27 (dk_at dksX7_by_3 11 rfl rfl)
theorem dX7_by_148 : decode cX7_by 148 = .ok (.iload_n 2, 1) := dk_28 (dk_at dksX7_by_3 12 rfl rfl)
theorem dX7_by_149 : decode cX7_by 149 = .ok (.if_icmp .ne 7, 3) := dk_160 0 7 (dk_at dksX7_by_3 13 rfl rfl)
theorem dX7_by_152 : decode cX7_by 152 = .ok (.iconst 1, 1) := dk_4 (dk_at dksX7_by_3 16 rfl rfl)
theorem dX7_by_153 : decode cX7_by 153 = .ok (.goto 4, 3) := dk_167 0 4 (dk_at dksX7_by_3 17 rfl rfl)
theorem dX7_by_156 : decode cX7_by 156 = .ok (.iconst 0, 1) := dk_3 (dk_at dksX7_by_3 20 rfl rfl)
theorem dX7_by_157 : decode cX7_by 157 = .ok (.ireturn, 1) := dk_172 (dk_at dksX7_by_3 21 rfl rfl)
theorem dX7_by_158 : decode cX7_by 158 = .ok (.iload_n 1, 1) := dk_27 (dk_at dksX7_by_3 22 rfl rfl)
theorem dX7_by_159 : decode cX7_by 159 = .ok (.ifCond .eq 11, 3) := dk_153 0 11 (dk_at dksX7_by_4 0 rfl rfl)
theorem dX7_by_162 : decode cX7_by 162 = .ok (.iload_n 2, 1) := dk_28 (dk_at dksX7_by_4 3 rfl rfl)
theorem dX7_by_163 : decode cX7_by 163 = .ok (.ifCond .eq 7, 3) := dk_153 0 7 (dk_at dksX7_by_4 4 rfl rfl)
theorem dX7_by_166 : decode cX7_by 166 = .ok (.iconst 1, 1) := dk_4 (dk_at dksX7_by_4 7 rfl rfl)
theorem dX7_by_167 : decode cX7_by 167 = .ok (.goto 4, 3) := dk_167 0 4 (dk_at dksX7_by_4 8 rfl rfl)
theorem dX7_by_170 : decode cX7_by 170 = .ok (.iconst 0, 1) := dk_3 (dk_at dksX7_by_4 11 rfl rfl)
theorem dX7_by_171 : decode cX7_by 171 = .ok (.ireturn, 1) := dk_172 (dk_at dksX7_by_4 12 rfl rfl)
theorem dX7_by_172 : decode cX7_by 172 = .ok (.iload_n 1, 1) := dk_27 (dk_at dksX7_by_4 13 rfl rfl)
theorem dX7_by_173 : decode cX7_by 173 = .ok (.ifCond .ne 7, 3) := dk_154 0 7 (dk_at dksX7_by_4 14 rfl rfl)
theorem dX7_by_176 : decode cX7_by 176 = .ok (.iload_n 2, 1) := dk_28 (dk_at dksX7_by_4 17 rfl rfl)
theorem dX7_by_177 : decode cX7_by 177 = .ok (.ifCond .eq 7, 3) := dk_153 0 7 (dk_at dksX7_by_4 18 rfl rfl)
theorem dX7_by_180 : decode cX7_by 180 = .ok (.iconst 1, 1) := dk_4 (dk_at dksX7_by_4 21 rfl rfl)
theorem dX7_by_181 : decode cX7_by 181 = .ok (.goto 4, 3) := dk_167 0 4 (dk_at dksX7_by_5 0 rfl rfl)
theorem dX7_by_184 : decode cX7_by 184 = .ok (.iconst 0, 1) := dk_3 (dk_at dksX7_by_5 3 rfl rfl)
theorem dX7_by_185 : decode cX7_by 185 = .ok (.ireturn, 1) := dk_172 (dk_at dksX7_by_5 4 rfl rfl)
abbrev cX7_init : ByteArray := prog_2_method_1_code
def yX7_init : MethodName := ⟨RX7, "<init>", "(LHornHouses$Form;)V"⟩
def dkwX7_init_1 : List UInt8 := [181, 0, 19, 42, 180, 0, 10, 43, 185, 0, 23, 2, 0, 87, 177]
abbrev dktX7_init_1 : List UInt8 := dkwX7_init_1 ++ []
def dkwX7_init_0 : List UInt8 := [42, 183, 0, 1, 42, 187, 0, 7, 89, 183, 0, 9, 181, 0, 10, 42, 187, 0, 16, 89, 183, 0, 18]
abbrev dktX7_init_0 : List UInt8 := dkwX7_init_0 ++ dktX7_init_1
theorem dksX7_init_0 : cX7_init.data.toList.drop 0 = dktX7_init_0 := by decide +kernel
theorem dksX7_init_1 : cX7_init.data.toList.drop 23 = dktX7_init_1 := dk_seg dksX7_init_0 23 rfl rfl
theorem dX7_init_0 : decode cX7_init 0 = .ok (.aload_n 0, 1) := dk_42 (dk_at dksX7_init_0 0 rfl rfl)
theorem dX7_init_1 : decode cX7_init 1 = .ok (.invokespecial 1, 3) := dk_183 0 1 (dk_at dksX7_init_0 1 rfl rfl)
theorem dX7_init_4 : decode cX7_init 4 = .ok (.aload_n 0, 1) := dk_42 (dk_at dksX7_init_0 4 rfl rfl)
theorem dX7_init_5 : decode cX7_init 5 = .ok (.new 7, 3) := dk_187 0 7 (dk_at dksX7_init_0 5 rfl rfl)
theorem dX7_init_8 : decode cX7_init 8 = .ok (.dup, 1) := dk_89 (dk_at dksX7_init_0 8 rfl rfl)
theorem dX7_init_9 : decode cX7_init 9 = .ok (.invokespecial 9, 3) := dk_183 0 9 (dk_at dksX7_init_0 9 rfl rfl)
theorem dX7_init_12 : decode cX7_init 12 = .ok (.putfield 10, 3) := dk_181 0 10 (dk_at dksX7_init_0 12 rfl rfl)
theorem dX7_init_15 : decode cX7_init 15 = .ok (.aload_n 0, 1) := dk_42 (dk_at dksX7_init_0 15 rfl rfl)
theorem dX7_init_16 : decode cX7_init 16 = .ok (.new 16, 3) := dk_187 0 16 (dk_at dksX7_init_0 16 rfl rfl)
theorem dX7_init_19 : decode cX7_init 19 = .ok (.dup, 1) := dk_89 (dk_at dksX7_init_0 19 rfl rfl)
theorem dX7_init_20 : decode cX7_init 20 = .ok (.invokespecial 18, 3) := dk_183 0 18 (dk_at dksX7_init_0 20 rfl rfl)
theorem dX7_init_23 : decode cX7_init 23 = .ok (.putfield 19, 3) := dk_181 0 19 (dk_at dksX7_init_1 0 rfl rfl)
theorem dX7_init_26 : decode cX7_init 26 = .ok (.aload_n 0, 1) := dk_42 (dk_at dksX7_init_1 3 rfl rfl)
theorem dX7_init_27 : decode cX7_init 27 = .ok (.getfield 10, 3) := dk_180 0 10 (dk_at dksX7_init_1 4 rfl rfl)
theorem dX7_init_30 : decode cX7_init 30 = .ok (.aload_n 1, 1) := dk_43 (dk_at dksX7_init_1 7 rfl rfl)
theorem dX7_init_31 : decode cX7_init 31 = .ok (.invokeinterface 23 2, 5) := by decide +kernel
theorem dX7_init_36 : decode cX7_init 36 = .ok (.pop, 1) := dk_87 (dk_at dksX7_init_1 13 rfl rfl)
theorem dX7_init_37 : decode cX7_init 37 = .ok (.return_, 1) := dk_177 (dk_at dksX7_init_1 14 rfl rfl)
abbrev cX7_add : ByteArray := prog_2_method_2_code
def yX7_add : MethodName := ⟨RX7, "add", "(CLHornHouses$Form;)V"⟩
def dkwX7_add_0 : List UInt8 := [42, 180, 0, 19, 27, 182, 0, 29, 87, 42, 180, 0, 10, 44, 185, 0, 23, 2, 0, 87, 177]
abbrev dktX7_add_0 : List UInt8 := dkwX7_add_0 ++ []
theorem dksX7_add_0 : cX7_add.data.toList.drop 0 = dktX7_add_0 := by decide +kernel
theorem dX7_add_0 : decode cX7_add 0 = .ok (.aload_n 0, 1) := dk_42 (dk_at dksX7_add_0 0 rfl rfl)
theorem dX7_add_1 : decode cX7_add 1 = .ok (.getfield 19, 3) := dk_180 0 19 (dk_at dksX7_add_0 1 rfl rfl)
theorem dX7_add_4 : decode cX7_add 4 = .ok (.iload_n 1, 1) := dk_27 (dk_at dksX7_add_0 4 rfl rfl)
theorem dX7_add_5 : decode cX7_add 5 = .ok (.invokevirtual 29, 3) := dk_182 0 29 (dk_at dksX7_add_0 5 rfl rfl)
theorem dX7_add_8 : decode cX7_add 8 = .ok (.pop, 1) := dk_87 (dk_at dksX7_add_0 8 rfl rfl)
theorem dX7_add_9 : decode cX7_add 9 = .ok (.aload_n 0, 1) := dk_42 (dk_at dksX7_add_0 9 rfl rfl)
theorem dX7_add_10 : decode cX7_add 10 = .ok (.getfield 10, 3) := dk_180 0 10 (dk_at dksX7_add_0 10 rfl rfl)
theorem dX7_add_13 : decode cX7_add 13 = .ok (.aload_n 2, 1) := dk_44 (dk_at dksX7_add_0 13 rfl rfl)
theorem dX7_add_14 : decode cX7_add 14 = .ok (.invokeinterface 23 2, 5) := by decide +kernel
theorem dX7_add_19 : decode cX7_add 19 = .ok (.pop, 1) := dk_87 (dk_at dksX7_add_0 19 rfl rfl)
theorem dX7_add_20 : decode cX7_add 20 = .ok (.return_, 1) := dk_177 (dk_at dksX7_add_0 20 rfl rfl)
abbrev cX7_plain : ByteArray := prog_2_method_3_code
def yX7_plain : MethodName := ⟨RX7, "plain", "()LHornHouses$Form;"⟩
def dkwX7_plain_1 : List UInt8 := [192, 0, 41, 167, 0, 4, 42, 176]
abbrev dktX7_plain_1 : List UInt8 := dkwX7_plain_1 ++ []
def dkwX7_plain_0 : List UInt8 := [42, 180, 0, 10, 185, 0, 33, 1, 0, 4, 160, 0, 19, 42, 180, 0, 10, 3, 185, 0, 37, 2, 0]
abbrev dktX7_plain_0 : List UInt8 := dkwX7_plain_0 ++ dktX7_plain_1
theorem dksX7_plain_0 : cX7_plain.data.toList.drop 0 = dktX7_plain_0 := by decide +kernel
theorem dksX7_plain_1 : cX7_plain.data.toList.drop 23 = dktX7_plain_1 := dk_seg dksX7_plain_0 23 rfl rfl
theorem dX7_plain_0 : decode cX7_plain 0 = .ok (.aload_n 0, 1) := dk_42 (dk_at dksX7_plain_0 0 rfl rfl)
theorem dX7_plain_1 : decode cX7_plain 1 = .ok (.getfield 10, 3) := dk_180 0 10 (dk_at dksX7_plain_0 1 rfl rfl)
theorem dX7_plain_4 : decode cX7_plain 4 = .ok (.invokeinterface 33 1, 5) := by decide +kernel
theorem dX7_plain_9 : decode cX7_plain 9 = .ok (.iconst 1, 1) := dk_4 (dk_at dksX7_plain_0 9 rfl rfl)
theorem dX7_plain_10 : decode cX7_plain 10 = .ok (.if_icmp .ne 19, 3) := dk_160 0 19 (dk_at dksX7_plain_0 10 rfl rfl)
theorem dX7_plain_13 : decode cX7_plain 13 = .ok (.aload_n 0, 1) := dk_42 (dk_at dksX7_plain_0 13 rfl rfl)
theorem dX7_plain_14 : decode cX7_plain 14 = .ok (.getfield 10, 3) := dk_180 0 10 (dk_at dksX7_plain_0 14 rfl rfl)
theorem dX7_plain_17 : decode cX7_plain 17 = .ok (.iconst 0, 1) := dk_3 (dk_at dksX7_plain_0 17 rfl rfl)
theorem dX7_plain_18 : decode cX7_plain 18 = .ok (.invokeinterface 37 2, 5) := by decide +kernel
theorem dX7_plain_23 : decode cX7_plain 23 = .ok (.checkcast 41, 3) := dk_192 0 41 (dk_at dksX7_plain_1 0 rfl rfl)
theorem dX7_plain_26 : decode cX7_plain 26 = .ok (.goto 4, 3) := dk_167 0 4 (dk_at dksX7_plain_1 3 rfl rfl)
theorem dX7_plain_29 : decode cX7_plain 29 = .ok (.aload_n 0, 1) := dk_42 (dk_at dksX7_plain_1 6 rfl rfl)
theorem dX7_plain_30 : decode cX7_plain 30 = .ok (.areturn, 1) := dk_176 (dk_at dksX7_plain_1 7 rfl rfl)
theorem q147 : (Jvm.Cond.initialized "HornHouses$Chain") ∈ lw_all := lw_g (lw_at lw_m1 26 rfl) rfl
theorem q396 : (Jvm.Cond.selects "HornHouses$Chain" ({ cls := "java/lang/Object", name := "getClass", desc := "()Ljava/lang/Class;" } : Jvm.MethodName) ({ cls := "java/lang/Object", name := "getClass", desc := "()Ljava/lang/Class;" } : Jvm.MethodName)) ∈ lw_all := lw_g (lw_at lw_m2 35 rfl) rfl
theorem q537 : (Jvm.Cond.castable "HornHouses$Chain" "HornHouses$Form") ∈ lw_tbl := lw_at lw_m2 176 rfl
theorem q538 : (Jvm.Cond.selects "HornHouses$Chain" ({ cls := "HornHouses$Form", name := "of", desc := "([I)I" } : Jvm.MethodName) ({ cls := "HornHouses$Chain", name := "of", desc := "([I)I" } : Jvm.MethodName)) ∈ lw_all := lw_g (lw_at lw_m2 177 rfl) rfl
theorem q539 : (Jvm.Cond.unhidden "HornHouses$Chain" "of" "([I)I") ∈ lw_tbl := lw_at lw_m2 178 rfl
theorem q540 : (Jvm.Cond.instanceMethod ({ cls := "HornHouses$Chain", name := "of", desc := "([I)I" } : Jvm.MethodName)) ∈ lw_all := lw_g (lw_at lw_m2 179 rfl) rfl
theorem q541 : (Jvm.Cond.publicMethod ({ cls := "HornHouses$Chain", name := "of", desc := "([I)I" } : Jvm.MethodName)) ∈ lw_tbl := lw_at lw_m2 180 rfl
theorem q542 : (Jvm.Cond.code ({ cls := "HornHouses$Chain", name := "of", desc := "([I)I" } : Jvm.MethodName) prog_2_method_4_code (4 : Nat) (Option.some Jvm.ClassFile.FieldType.int)) ∈ lw_all := lw_g (lw_at lw_m2 181 rfl) rfl
theorem q543 : (Jvm.Cond.interfaceEntry "HornHouses$Chain" (37 : Nat)) ∈ lw_tbl := lw_at lw_m2 182 rfl
theorem q544 : (Jvm.Cond.methodLink "HornHouses$Chain" (37 : Nat) ({ cls := "java/util/List", name := "get", desc := "(I)Ljava/lang/Object;" } : Jvm.MethodName)) ∈ lw_all := lw_g (lw_at lw_m2 183 rfl) rfl
theorem q545 : (Jvm.Cond.classLink "HornHouses$Chain" (41 : Nat) "HornHouses$Form") ∈ lw_all := lw_g (lw_at lw_m2 184 rfl) rfl
theorem q546 : (Jvm.Cond.interfaceEntry "HornHouses$Chain" (43 : Nat)) ∈ lw_tbl := lw_at lw_m2 185 rfl
theorem q547 : (Jvm.Cond.methodLink "HornHouses$Chain" (43 : Nat) ({ cls := "HornHouses$Form", name := "of", desc := "([I)I" } : Jvm.MethodName)) ∈ lw_all := lw_g (lw_at lw_m2 186 rfl) rfl
theorem q568 : (Jvm.Cond.interfaceEntry "HornHouses$Chain" (33 : Nat)) ∈ lw_tbl := lw_at lw_m2 207 rfl
theorem q569 : (Jvm.Cond.methodLink "HornHouses$Chain" (33 : Nat) ({ cls := "java/util/List", name := "size", desc := "()I" } : Jvm.MethodName)) ∈ lw_all := lw_g (lw_at lw_m2 208 rfl) rfl
theorem q570 : (Jvm.Cond.methodLink "HornHouses$Chain" (47 : Nat) ({ cls := "java/lang/StringBuilder", name := "charAt", desc := "(I)C" } : Jvm.MethodName)) ∈ lw_all := lw_g (lw_at lw_m2 209 rfl) rfl
theorem q597 : (Jvm.Cond.methodLink "HornHouses$Chain" (51 : Nat) ({ cls := "HornHouses$Chain", name := "by", desc := "(CII)I" } : Jvm.MethodName)) ∈ lw_all := lw_g (lw_at lw_m2 236 rfl) rfl
theorem q598 : (Jvm.Cond.static ({ cls := "HornHouses$Chain", name := "by", desc := "(CII)I" } : Jvm.MethodName)) ∈ lw_all := lw_g (lw_at lw_m2 237 rfl) rfl
theorem q599 : (Jvm.Cond.code ({ cls := "HornHouses$Chain", name := "by", desc := "(CII)I" } : Jvm.MethodName) prog_2_method_5_code (3 : Nat) (Option.some Jvm.ClassFile.FieldType.int)) ∈ lw_all := lw_g (lw_at lw_m2 238 rfl) rfl
theorem q993 : (Jvm.Cond.instantiable "HornHouses$Chain" (2 : Nat)) ∈ lw_all := lw_g (lw_at lw_m4 152 rfl) rfl
theorem q1036 : (Jvm.Cond.instanceMethod ({ cls := "HornHouses$Chain", name := "<init>", desc := "(LHornHouses$Form;)V" } : Jvm.MethodName)) ∈ lw_all := lw_g (lw_at lw_m4 195 rfl) rfl
theorem q1037 : (Jvm.Cond.code ({ cls := "HornHouses$Chain", name := "<init>", desc := "(LHornHouses$Form;)V" } : Jvm.MethodName) prog_2_method_1_code (2 : Nat) (Option.none : Option Jvm.ClassFile.FieldType)) ∈ lw_all := lw_g (lw_at lw_m4 196 rfl) rfl
theorem q1038 : (Jvm.Cond.methodLink "HornHouses$Chain" (1 : Nat) ({ cls := "java/lang/Object", name := "<init>", desc := "()V" } : Jvm.MethodName)) ∈ lw_all := lw_g (lw_at lw_m4 197 rfl) rfl
theorem q1039 : (Jvm.Cond.classLink "HornHouses$Chain" (7 : Nat) "java/util/ArrayList") ∈ lw_all := lw_g (lw_at lw_m4 198 rfl) rfl
theorem q1040 : (Jvm.Cond.methodLink "HornHouses$Chain" (9 : Nat) ({ cls := "java/util/ArrayList", name := "<init>", desc := "()V" } : Jvm.MethodName)) ∈ lw_all := lw_g (lw_at lw_m4 199 rfl) rfl
theorem q1041 : (Jvm.Cond.classLink "HornHouses$Chain" (16 : Nat) "java/lang/StringBuilder") ∈ lw_all := lw_g (lw_at lw_m4 200 rfl) rfl
theorem q1043 : (Jvm.Cond.methodLink "HornHouses$Chain" (18 : Nat) ({ cls := "java/lang/StringBuilder", name := "<init>", desc := "()V" } : Jvm.MethodName)) ∈ lw_all := lw_g (lw_at lw_m4 202 rfl) rfl
theorem q1069 : (Jvm.Cond.interfaceEntry "HornHouses$Chain" (23 : Nat)) ∈ lw_tbl := lw_at lw_m4 228 rfl
theorem q1070 : (Jvm.Cond.methodLink "HornHouses$Chain" (23 : Nat) ({ cls := "java/util/List", name := "add", desc := "(Ljava/lang/Object;)Z" } : Jvm.MethodName)) ∈ lw_all := lw_g (lw_at lw_m4 229 rfl) rfl
theorem q1071 : (Jvm.Cond.fieldLink "HornHouses$Chain" (10 : Nat) "HornHouses$Chain" "forms" "Ljava/util/List;") ∈ lw_all := lw_g (lw_at lw_m4 230 rfl) rfl
theorem q1072 : (Jvm.Cond.fieldLink "HornHouses$Chain" (19 : Nat) "HornHouses$Chain" "signs" "Ljava/lang/StringBuilder;") ∈ lw_all := lw_g (lw_at lw_m4 231 rfl) rfl
theorem q1073 : (Jvm.Cond.laysFinal "HornHouses$Chain" "HornHouses$Chain" "forms" "Ljava/util/List;") ∈ lw_all := lw_g (lw_at lw_m4 232 rfl) rfl
theorem q1074 : (Jvm.Cond.soleField "HornHouses$Chain" "forms") ∈ lw_all := lw_g (lw_at lw_m4 233 rfl) rfl
theorem q1075 : (Jvm.Cond.laysFinal "HornHouses$Chain" "HornHouses$Chain" "signs" "Ljava/lang/StringBuilder;") ∈ lw_all := lw_g (lw_at lw_m4 234 rfl) rfl
theorem q1076 : (Jvm.Cond.soleField "HornHouses$Chain" "signs") ∈ lw_all := lw_g (lw_at lw_m4 235 rfl) rfl
theorem q1077 : (Jvm.Cond.superclass "HornHouses$Chain" "java/lang/Object") ∈ lw_all := lw_g (lw_at lw_m4 236 rfl) rfl
theorem q1083 : (Jvm.Cond.instanceMethod ({ cls := "HornHouses$Chain", name := "add", desc := "(CLHornHouses$Form;)V" } : Jvm.MethodName)) ∈ lw_all := lw_g (lw_at lw_m5 2 rfl) rfl
theorem q1084 : (Jvm.Cond.selects "HornHouses$Chain" ({ cls := "HornHouses$Chain", name := "add", desc := "(CLHornHouses$Form;)V" } : Jvm.MethodName) ({ cls := "HornHouses$Chain", name := "add", desc := "(CLHornHouses$Form;)V" } : Jvm.MethodName)) ∈ lw_all := lw_g (lw_at lw_m5 3 rfl) rfl
theorem q1085 : (Jvm.Cond.code ({ cls := "HornHouses$Chain", name := "add", desc := "(CLHornHouses$Form;)V" } : Jvm.MethodName) prog_2_method_2_code (3 : Nat) (Option.none : Option Jvm.ClassFile.FieldType)) ∈ lw_all := lw_g (lw_at lw_m5 4 rfl) rfl
theorem q1086 : (Jvm.Cond.methodLink "HornHouses$Chain" (29 : Nat) ({ cls := "java/lang/StringBuilder", name := "append", desc := "(C)Ljava/lang/StringBuilder;" } : Jvm.MethodName)) ∈ lw_all := lw_g (lw_at lw_m5 5 rfl) rfl
theorem q1147 : (Jvm.Cond.instanceMethod ({ cls := "HornHouses$Chain", name := "plain", desc := "()LHornHouses$Form;" } : Jvm.MethodName)) ∈ lw_all := lw_g (lw_at lw_m5 66 rfl) rfl
theorem q1148 : (Jvm.Cond.selects "HornHouses$Chain" ({ cls := "HornHouses$Chain", name := "plain", desc := "()LHornHouses$Form;" } : Jvm.MethodName) ({ cls := "HornHouses$Chain", name := "plain", desc := "()LHornHouses$Form;" } : Jvm.MethodName)) ∈ lw_all := lw_g (lw_at lw_m5 67 rfl) rfl
theorem q1149 : (Jvm.Cond.code ({ cls := "HornHouses$Chain", name := "plain", desc := "()LHornHouses$Form;" } : Jvm.MethodName) prog_2_method_3_code (1 : Nat) (Option.some (Jvm.ClassFile.FieldType.object "HornHouses$Form"))) ∈ lw_all := lw_g (lw_at lw_m5 68 rfl) rfl
theorem q2335 : (Jvm.Cond.castable "HornHouses$Chain" "java/lang/Object") ∈ lw_tbl := lw_at lw_m10 54 rfl
theorem in_X7 : ∀ w ∈ wsX70, w ∈ lw_all := lw_in wsX70 [1073, 1075] (by decide +kernel) (by decide +kernel)
/-! HornHouses$Number -/
set_option maxRecDepth 100000
def RX8 : String := "HornHouses$Number"
def TX8 : u_T := fun k => match k with
  | _ => ("HornHouses$Number", "value", "I", true)
def tyX8 : Nat → FieldType := fun k => match k with
  | _ => .int
abbrev wsX80 : List Cond := u_ws RX8 TX8 1
theorem nmX8 : ∀ a, a < 1 → ∀ b, b < 1 → a ≠ b → (TX8 a).2.1 ≠ (TX8 b).2.1 := by decide +kernel
theorem tyX8_ok : ∀ k, k < 1 → parseFieldDescriptor (TX8 k).2.2.1 = some (tyX8 k) := by decide +kernel
abbrev cX8_of : ByteArray := prog_5_method_2_code
def yX8_of : MethodName := ⟨RX8, "of", "([I)I"⟩
theorem dX8_of_0 : decode cX8_of 0 = .ok (.aload_n 0, 1) := by decide +kernel
theorem dX8_of_1 : decode cX8_of 1 = .ok (.getfield 7, 3) := by decide +kernel
theorem dX8_of_4 : decode cX8_of 4 = .ok (.ireturn, 1) := by decide +kernel
abbrev cX8_init : ByteArray := prog_5_method_1_code
def yX8_init : MethodName := ⟨RX8, "<init>", "(I)V"⟩
def dkwX8_init_0 : List UInt8 := [42, 183, 0, 1, 42, 27, 181, 0, 7, 177]
abbrev dktX8_init_0 : List UInt8 := dkwX8_init_0 ++ []
theorem dksX8_init_0 : cX8_init.data.toList.drop 0 = dktX8_init_0 := by decide +kernel
theorem dX8_init_0 : decode cX8_init 0 = .ok (.aload_n 0, 1) := dk_42 (dk_at dksX8_init_0 0 rfl rfl)
theorem dX8_init_1 : decode cX8_init 1 = .ok (.invokespecial 1, 3) := dk_183 0 1 (dk_at dksX8_init_0 1 rfl rfl)
theorem dX8_init_4 : decode cX8_init 4 = .ok (.aload_n 0, 1) := dk_42 (dk_at dksX8_init_0 4 rfl rfl)
theorem dX8_init_5 : decode cX8_init 5 = .ok (.iload_n 1, 1) := dk_27 (dk_at dksX8_init_0 5 rfl rfl)
theorem dX8_init_6 : decode cX8_init 6 = .ok (.putfield 7, 3) := dk_181 0 7 (dk_at dksX8_init_0 6 rfl rfl)
theorem dX8_init_9 : decode cX8_init 9 = .ok (.return_, 1) := dk_177 (dk_at dksX8_init_0 9 rfl rfl)
theorem q148 : (Jvm.Cond.initialized "HornHouses$Number") ∈ lw_all := lw_g (lw_at lw_m1 27 rfl) rfl
theorem q398 : (Jvm.Cond.selects "HornHouses$Number" ({ cls := "java/lang/Object", name := "getClass", desc := "()Ljava/lang/Class;" } : Jvm.MethodName) ({ cls := "java/lang/Object", name := "getClass", desc := "()Ljava/lang/Class;" } : Jvm.MethodName)) ∈ lw_all := lw_g (lw_at lw_m2 37 rfl) rfl
theorem q556 : (Jvm.Cond.castable "HornHouses$Number" "HornHouses$Form") ∈ lw_tbl := lw_at lw_m2 195 rfl
theorem q557 : (Jvm.Cond.selects "HornHouses$Number" ({ cls := "HornHouses$Form", name := "of", desc := "([I)I" } : Jvm.MethodName) ({ cls := "HornHouses$Number", name := "of", desc := "([I)I" } : Jvm.MethodName)) ∈ lw_all := lw_g (lw_at lw_m2 196 rfl) rfl
theorem q558 : (Jvm.Cond.unhidden "HornHouses$Number" "of" "([I)I") ∈ lw_tbl := lw_at lw_m2 197 rfl
theorem q559 : (Jvm.Cond.instanceMethod ({ cls := "HornHouses$Number", name := "of", desc := "([I)I" } : Jvm.MethodName)) ∈ lw_all := lw_g (lw_at lw_m2 198 rfl) rfl
theorem q560 : (Jvm.Cond.publicMethod ({ cls := "HornHouses$Number", name := "of", desc := "([I)I" } : Jvm.MethodName)) ∈ lw_tbl := lw_at lw_m2 199 rfl
theorem q561 : (Jvm.Cond.code ({ cls := "HornHouses$Number", name := "of", desc := "([I)I" } : Jvm.MethodName) prog_5_method_2_code (2 : Nat) (Option.some Jvm.ClassFile.FieldType.int)) ∈ lw_all := lw_g (lw_at lw_m2 200 rfl) rfl
theorem q1016 : (Jvm.Cond.instantiable "HornHouses$Number" (1 : Nat)) ∈ lw_all := lw_g (lw_at lw_m4 175 rfl) rfl
theorem q1018 : (Jvm.Cond.instanceMethod ({ cls := "HornHouses$Number", name := "<init>", desc := "(I)V" } : Jvm.MethodName)) ∈ lw_all := lw_g (lw_at lw_m4 177 rfl) rfl
theorem q1019 : (Jvm.Cond.code ({ cls := "HornHouses$Number", name := "<init>", desc := "(I)V" } : Jvm.MethodName) prog_5_method_1_code (2 : Nat) (Option.none : Option Jvm.ClassFile.FieldType)) ∈ lw_all := lw_g (lw_at lw_m4 178 rfl) rfl
theorem q1020 : (Jvm.Cond.methodLink "HornHouses$Number" (1 : Nat) ({ cls := "java/lang/Object", name := "<init>", desc := "()V" } : Jvm.MethodName)) ∈ lw_all := lw_g (lw_at lw_m4 179 rfl) rfl
theorem q1021 : (Jvm.Cond.fieldLink "HornHouses$Number" (7 : Nat) "HornHouses$Number" "value" "I") ∈ lw_all := lw_g (lw_at lw_m4 180 rfl) rfl
theorem q1022 : (Jvm.Cond.laysFinal "HornHouses$Number" "HornHouses$Number" "value" "I") ∈ lw_all := lw_g (lw_at lw_m4 181 rfl) rfl
theorem q1023 : (Jvm.Cond.soleField "HornHouses$Number" "value") ∈ lw_all := lw_g (lw_at lw_m4 182 rfl) rfl
theorem q1024 : (Jvm.Cond.superclass "HornHouses$Number" "java/lang/Object") ∈ lw_all := lw_g (lw_at lw_m4 183 rfl) rfl
theorem q2336 : (Jvm.Cond.castable "HornHouses$Number" "java/lang/Object") ∈ lw_tbl := lw_at lw_m10 55 rfl
theorem in_X8 : ∀ w ∈ wsX80, w ∈ lw_all := lw_in wsX80 [1022] (by decide +kernel) (by decide +kernel)
/-! HornHouses$Value -/
set_option maxRecDepth 100000
def RX9 : String := "HornHouses$Value"
def TX9 : u_T := fun k => match k with
  | _ => ("HornHouses$Value", "which", "I", true)
def tyX9 : Nat → FieldType := fun k => match k with
  | _ => .int
abbrev wsX90 : List Cond := u_ws RX9 TX9 1
theorem nmX9 : ∀ a, a < 1 → ∀ b, b < 1 → a ≠ b → (TX9 a).2.1 ≠ (TX9 b).2.1 := by decide +kernel
theorem tyX9_ok : ∀ k, k < 1 → parseFieldDescriptor (TX9 k).2.2.1 = some (tyX9 k) := by decide +kernel
abbrev cX9_of : ByteArray := prog_9_method_2_code
def yX9_of : MethodName := ⟨RX9, "of", "([I)I"⟩
def dkwX9_of_0 : List UInt8 := [43, 42, 180, 0, 7, 46, 172]
abbrev dktX9_of_0 : List UInt8 := dkwX9_of_0 ++ []
theorem dksX9_of_0 : cX9_of.data.toList.drop 0 = dktX9_of_0 := by decide +kernel
theorem dX9_of_0 : decode cX9_of 0 = .ok (.aload_n 1, 1) := dk_43 (dk_at dksX9_of_0 0 rfl rfl)
theorem dX9_of_1 : decode cX9_of 1 = .ok (.aload_n 0, 1) := dk_42 (dk_at dksX9_of_0 1 rfl rfl)
theorem dX9_of_2 : decode cX9_of 2 = .ok (.getfield 7, 3) := dk_180 0 7 (dk_at dksX9_of_0 2 rfl rfl)
theorem dX9_of_5 : decode cX9_of 5 = .ok (.iaload, 1) := dk_46 (dk_at dksX9_of_0 5 rfl rfl)
theorem dX9_of_6 : decode cX9_of 6 = .ok (.ireturn, 1) := dk_172 (dk_at dksX9_of_0 6 rfl rfl)
abbrev cX9_init : ByteArray := prog_9_method_1_code
def yX9_init : MethodName := ⟨RX9, "<init>", "(I)V"⟩
def dkwX9_init_0 : List UInt8 := [42, 183, 0, 1, 42, 27, 181, 0, 7, 177]
abbrev dktX9_init_0 : List UInt8 := dkwX9_init_0 ++ []
theorem dksX9_init_0 : cX9_init.data.toList.drop 0 = dktX9_init_0 := by decide +kernel
theorem dX9_init_0 : decode cX9_init 0 = .ok (.aload_n 0, 1) := dk_42 (dk_at dksX9_init_0 0 rfl rfl)
theorem dX9_init_1 : decode cX9_init 1 = .ok (.invokespecial 1, 3) := dk_183 0 1 (dk_at dksX9_init_0 1 rfl rfl)
theorem dX9_init_4 : decode cX9_init 4 = .ok (.aload_n 0, 1) := dk_42 (dk_at dksX9_init_0 4 rfl rfl)
theorem dX9_init_5 : decode cX9_init 5 = .ok (.iload_n 1, 1) := dk_27 (dk_at dksX9_init_0 5 rfl rfl)
theorem dX9_init_6 : decode cX9_init 6 = .ok (.putfield 7, 3) := dk_181 0 7 (dk_at dksX9_init_0 6 rfl rfl)
theorem dX9_init_9 : decode cX9_init 9 = .ok (.return_, 1) := dk_177 (dk_at dksX9_init_0 9 rfl rfl)
theorem q149 : (Jvm.Cond.initialized "HornHouses$Value") ∈ lw_all := lw_g (lw_at lw_m1 28 rfl) rfl
theorem q402 : (Jvm.Cond.selects "HornHouses$Value" ({ cls := "java/lang/Object", name := "getClass", desc := "()Ljava/lang/Class;" } : Jvm.MethodName) ({ cls := "java/lang/Object", name := "getClass", desc := "()Ljava/lang/Class;" } : Jvm.MethodName)) ∈ lw_all := lw_g (lw_at lw_m2 41 rfl) rfl
theorem q562 : (Jvm.Cond.castable "HornHouses$Value" "HornHouses$Form") ∈ lw_tbl := lw_at lw_m2 201 rfl
theorem q563 : (Jvm.Cond.selects "HornHouses$Value" ({ cls := "HornHouses$Form", name := "of", desc := "([I)I" } : Jvm.MethodName) ({ cls := "HornHouses$Value", name := "of", desc := "([I)I" } : Jvm.MethodName)) ∈ lw_all := lw_g (lw_at lw_m2 202 rfl) rfl
theorem q564 : (Jvm.Cond.unhidden "HornHouses$Value" "of" "([I)I") ∈ lw_tbl := lw_at lw_m2 203 rfl
theorem q565 : (Jvm.Cond.instanceMethod ({ cls := "HornHouses$Value", name := "of", desc := "([I)I" } : Jvm.MethodName)) ∈ lw_all := lw_g (lw_at lw_m2 204 rfl) rfl
theorem q566 : (Jvm.Cond.publicMethod ({ cls := "HornHouses$Value", name := "of", desc := "([I)I" } : Jvm.MethodName)) ∈ lw_tbl := lw_at lw_m2 205 rfl
theorem q567 : (Jvm.Cond.code ({ cls := "HornHouses$Value", name := "of", desc := "([I)I" } : Jvm.MethodName) prog_9_method_2_code (2 : Nat) (Option.some Jvm.ClassFile.FieldType.int)) ∈ lw_all := lw_g (lw_at lw_m2 206 rfl) rfl
theorem q1026 : (Jvm.Cond.instantiable "HornHouses$Value" (1 : Nat)) ∈ lw_all := lw_g (lw_at lw_m4 185 rfl) rfl
theorem q1028 : (Jvm.Cond.instanceMethod ({ cls := "HornHouses$Value", name := "<init>", desc := "(I)V" } : Jvm.MethodName)) ∈ lw_all := lw_g (lw_at lw_m4 187 rfl) rfl
theorem q1029 : (Jvm.Cond.code ({ cls := "HornHouses$Value", name := "<init>", desc := "(I)V" } : Jvm.MethodName) prog_9_method_1_code (2 : Nat) (Option.none : Option Jvm.ClassFile.FieldType)) ∈ lw_all := lw_g (lw_at lw_m4 188 rfl) rfl
theorem q1030 : (Jvm.Cond.methodLink "HornHouses$Value" (1 : Nat) ({ cls := "java/lang/Object", name := "<init>", desc := "()V" } : Jvm.MethodName)) ∈ lw_all := lw_g (lw_at lw_m4 189 rfl) rfl
theorem q1031 : (Jvm.Cond.fieldLink "HornHouses$Value" (7 : Nat) "HornHouses$Value" "which" "I") ∈ lw_all := lw_g (lw_at lw_m4 190 rfl) rfl
theorem q1032 : (Jvm.Cond.laysFinal "HornHouses$Value" "HornHouses$Value" "which" "I") ∈ lw_all := lw_g (lw_at lw_m4 191 rfl) rfl
theorem q1033 : (Jvm.Cond.soleField "HornHouses$Value" "which") ∈ lw_all := lw_g (lw_at lw_m4 192 rfl) rfl
theorem q1034 : (Jvm.Cond.superclass "HornHouses$Value" "java/lang/Object") ∈ lw_all := lw_g (lw_at lw_m4 193 rfl) rfl
theorem q2337 : (Jvm.Cond.castable "HornHouses$Value" "java/lang/Object") ∈ lw_tbl := lw_at lw_m10 56 rfl
theorem in_X9 : ∀ w ∈ wsX90, w ∈ lw_all := lw_in wsX90 [1032] (by decide +kernel) (by decide +kernel)
/-! HornHouses$Not -/
set_option maxRecDepth 100000
def RX10 : String := "HornHouses$Not"
def TX10 : u_T := fun k => match k with
  | _ => ("HornHouses$Not", "form", "LHornHouses$Form;", true)
def tyX10 : Nat → FieldType := fun k => match k with
  | _ => .object "HornHouses$Form"
abbrev wsX100 : List Cond := u_ws RX10 TX10 1
theorem nmX10 : ∀ a, a < 1 → ∀ b, b < 1 → a ≠ b → (TX10 a).2.1 ≠ (TX10 b).2.1 := by decide +kernel
theorem tyX10_ok : ∀ k, k < 1 → parseFieldDescriptor (TX10 k).2.2.1 = some (tyX10 k) := by decide +kernel
abbrev cX10_of : ByteArray := prog_4_method_2_code
def yX10_of : MethodName := ⟨RX10, "of", "([I)I"⟩
def dkwX10_of_0 : List UInt8 := [42, 180, 0, 7, 43, 185, 0, 13, 2, 0, 154, 0, 7, 4, 167, 0, 4, 3, 172]
abbrev dktX10_of_0 : List UInt8 := dkwX10_of_0 ++ []
theorem dksX10_of_0 : cX10_of.data.toList.drop 0 = dktX10_of_0 := by decide +kernel
theorem dX10_of_0 : decode cX10_of 0 = .ok (.aload_n 0, 1) := dk_42 (dk_at dksX10_of_0 0 rfl rfl)
theorem dX10_of_1 : decode cX10_of 1 = .ok (.getfield 7, 3) := dk_180 0 7 (dk_at dksX10_of_0 1 rfl rfl)
theorem dX10_of_4 : decode cX10_of 4 = .ok (.aload_n 1, 1) := dk_43 (dk_at dksX10_of_0 4 rfl rfl)
theorem dX10_of_5 : decode cX10_of 5 = .ok (.invokeinterface 13 2, 5) := by decide +kernel
theorem dX10_of_10 : decode cX10_of 10 = .ok (.ifCond .ne 7, 3) := dk_154 0 7 (dk_at dksX10_of_0 10 rfl rfl)
theorem dX10_of_13 : decode cX10_of 13 = .ok (.iconst 1, 1) := dk_4 (dk_at dksX10_of_0 13 rfl rfl)
theorem dX10_of_14 : decode cX10_of 14 = .ok (.goto 4, 3) := dk_167 0 4 (dk_at dksX10_of_0 14 rfl rfl)
theorem dX10_of_17 : decode cX10_of 17 = .ok (.iconst 0, 1) := dk_3 (dk_at dksX10_of_0 17 rfl rfl)
theorem dX10_of_18 : decode cX10_of 18 = .ok (.ireturn, 1) := dk_172 (dk_at dksX10_of_0 18 rfl rfl)
abbrev cX10_init : ByteArray := prog_4_method_1_code
def yX10_init : MethodName := ⟨RX10, "<init>", "(LHornHouses$Form;)V"⟩
def dkwX10_init_0 : List UInt8 := [42, 183, 0, 1, 42, 43, 181, 0, 7, 177]
abbrev dktX10_init_0 : List UInt8 := dkwX10_init_0 ++ []
theorem dksX10_init_0 : cX10_init.data.toList.drop 0 = dktX10_init_0 := by decide +kernel
theorem dX10_init_0 : decode cX10_init 0 = .ok (.aload_n 0, 1) := dk_42 (dk_at dksX10_init_0 0 rfl rfl)
theorem dX10_init_1 : decode cX10_init 1 = .ok (.invokespecial 1, 3) := dk_183 0 1 (dk_at dksX10_init_0 1 rfl rfl)
theorem dX10_init_4 : decode cX10_init 4 = .ok (.aload_n 0, 1) := dk_42 (dk_at dksX10_init_0 4 rfl rfl)
theorem dX10_init_5 : decode cX10_init 5 = .ok (.aload_n 1, 1) := dk_43 (dk_at dksX10_init_0 5 rfl rfl)
theorem dX10_init_6 : decode cX10_init 6 = .ok (.putfield 7, 3) := dk_181 0 7 (dk_at dksX10_init_0 6 rfl rfl)
theorem dX10_init_9 : decode cX10_init 9 = .ok (.return_, 1) := dk_177 (dk_at dksX10_init_0 9 rfl rfl)
theorem q153 : (Jvm.Cond.initialized "HornHouses$Not") ∈ lw_all := lw_g (lw_at lw_m1 32 rfl) rfl
theorem q397 : (Jvm.Cond.selects "HornHouses$Not" ({ cls := "java/lang/Object", name := "getClass", desc := "()Ljava/lang/Class;" } : Jvm.MethodName) ({ cls := "java/lang/Object", name := "getClass", desc := "()Ljava/lang/Class;" } : Jvm.MethodName)) ∈ lw_all := lw_g (lw_at lw_m2 36 rfl) rfl
theorem q548 : (Jvm.Cond.castable "HornHouses$Not" "HornHouses$Form") ∈ lw_tbl := lw_at lw_m2 187 rfl
theorem q549 : (Jvm.Cond.selects "HornHouses$Not" ({ cls := "HornHouses$Form", name := "of", desc := "([I)I" } : Jvm.MethodName) ({ cls := "HornHouses$Not", name := "of", desc := "([I)I" } : Jvm.MethodName)) ∈ lw_all := lw_g (lw_at lw_m2 188 rfl) rfl
theorem q550 : (Jvm.Cond.unhidden "HornHouses$Not" "of" "([I)I") ∈ lw_tbl := lw_at lw_m2 189 rfl
theorem q551 : (Jvm.Cond.instanceMethod ({ cls := "HornHouses$Not", name := "of", desc := "([I)I" } : Jvm.MethodName)) ∈ lw_all := lw_g (lw_at lw_m2 190 rfl) rfl
theorem q552 : (Jvm.Cond.publicMethod ({ cls := "HornHouses$Not", name := "of", desc := "([I)I" } : Jvm.MethodName)) ∈ lw_tbl := lw_at lw_m2 191 rfl
theorem q553 : (Jvm.Cond.code ({ cls := "HornHouses$Not", name := "of", desc := "([I)I" } : Jvm.MethodName) prog_4_method_2_code (2 : Nat) (Option.some Jvm.ClassFile.FieldType.int)) ∈ lw_all := lw_g (lw_at lw_m2 192 rfl) rfl
theorem q554 : (Jvm.Cond.interfaceEntry "HornHouses$Not" (13 : Nat)) ∈ lw_tbl := lw_at lw_m2 193 rfl
theorem q555 : (Jvm.Cond.methodLink "HornHouses$Not" (13 : Nat) ({ cls := "HornHouses$Form", name := "of", desc := "([I)I" } : Jvm.MethodName)) ∈ lw_all := lw_g (lw_at lw_m2 194 rfl) rfl
theorem q1151 : (Jvm.Cond.instantiable "HornHouses$Not" (1 : Nat)) ∈ lw_all := lw_g (lw_at lw_m5 70 rfl) rfl
theorem q1153 : (Jvm.Cond.instanceMethod ({ cls := "HornHouses$Not", name := "<init>", desc := "(LHornHouses$Form;)V" } : Jvm.MethodName)) ∈ lw_all := lw_g (lw_at lw_m5 72 rfl) rfl
theorem q1154 : (Jvm.Cond.code ({ cls := "HornHouses$Not", name := "<init>", desc := "(LHornHouses$Form;)V" } : Jvm.MethodName) prog_4_method_1_code (2 : Nat) (Option.none : Option Jvm.ClassFile.FieldType)) ∈ lw_all := lw_g (lw_at lw_m5 73 rfl) rfl
theorem q1155 : (Jvm.Cond.methodLink "HornHouses$Not" (1 : Nat) ({ cls := "java/lang/Object", name := "<init>", desc := "()V" } : Jvm.MethodName)) ∈ lw_all := lw_g (lw_at lw_m5 74 rfl) rfl
theorem q1156 : (Jvm.Cond.fieldLink "HornHouses$Not" (7 : Nat) "HornHouses$Not" "form" "LHornHouses$Form;") ∈ lw_all := lw_g (lw_at lw_m5 75 rfl) rfl
theorem q1157 : (Jvm.Cond.laysFinal "HornHouses$Not" "HornHouses$Not" "form" "LHornHouses$Form;") ∈ lw_all := lw_g (lw_at lw_m5 76 rfl) rfl
theorem q1158 : (Jvm.Cond.soleField "HornHouses$Not" "form") ∈ lw_all := lw_g (lw_at lw_m5 77 rfl) rfl
theorem q1159 : (Jvm.Cond.superclass "HornHouses$Not" "java/lang/Object") ∈ lw_all := lw_g (lw_at lw_m5 78 rfl) rfl
theorem q2339 : (Jvm.Cond.castable "HornHouses$Not" "java/lang/Object") ∈ lw_tbl := lw_at lw_m10 58 rfl
theorem in_X10 : ∀ w ∈ wsX100, w ∈ lw_all := lw_in wsX100 [1157] (by decide +kernel) (by decide +kernel)
/-! HornHouses$Reader -/
set_option maxRecDepth 100000
def RX5 : String := "HornHouses$Reader"
def TX5 : u_T := fun k => match k with
  | 0 => ("HornHouses$Reader", "size", "I", true)
  | 1 => ("HornHouses$Reader", "made", "LHornHouses$Town;", true)
  | 2 => ("HornHouses$Reader", "begun", "LHornHouses$Street;", true)
  | 3 => ("HornHouses$Reader", "once", "[Ljava/lang/String;", true)
  | 4 => ("HornHouses$Reader", "ofEases", "[Ljava/lang/String;", true)
  | 5 => ("HornHouses$Reader", "ofBursts", "[Ljava/lang/String;", true)
  | 6 => ("HornHouses$Reader", "names", "[Ljava/lang/String;", false)
  | 7 => ("HornHouses$Reader", "at", "I", false)
  | 8 => ("HornHouses$Reader", "token", "I", false)
  | 9 => ("HornHouses$Reader", "begins", "I", false)
  | 10 => ("HornHouses$Reader", "ends", "I", false)
  | 11 => ("HornHouses$Reader", "number", "I", false)
  | 12 => ("HornHouses$Reader", "done", "I", false)
  | 13 => ("HornHouses$Reader", "taken", "I", false)
  | _ => ("HornHouses$Reader", "this$0", "LHornHouses;", true)
def tyX5 : Nat → FieldType := fun k => match k with
  | 0 => .int
  | 1 => .object "HornHouses$Town"
  | 2 => .object "HornHouses$Street"
  | 3 => .array (.object "java/lang/String")
  | 4 => .array (.object "java/lang/String")
  | 5 => .array (.object "java/lang/String")
  | 6 => .array (.object "java/lang/String")
  | 7 => .int
  | 8 => .int
  | 9 => .int
  | 10 => .int
  | 11 => .int
  | 12 => .int
  | 13 => .int
  | _ => .object "HornHouses"
abbrev wsX50 : List Cond := u_ws RX5 TX5 15
set_option maxRecDepth 100000 in
theorem nmX5 : ∀ a, a < 15 → ∀ b, b < 15 → a ≠ b → (TX5 a).2.1 ≠ (TX5 b).2.1 := by decide +kernel
set_option maxRecDepth 100000 in
theorem tyX5_ok : ∀ k, k < 15 → parseFieldDescriptor (TX5 k).2.2.1 = some (tyX5 k) := by decide +kernel
abbrev cX5_init : ByteArray := prog_6_method_1_code
def yX5_init : MethodName := ⟨RX5, "<init>", "(LHornHouses;I)V"⟩
def dkwX5_init_6 : List UInt8 := [42, 42, 180, 0, 53, 181, 0, 61, 42, 28, 181, 0, 64, 177]
abbrev dktX5_init_6 : List UInt8 := dkwX5_init_6 ++ []
def dkwX5_init_5 : List UInt8 := [89, 6, 18, 49, 83, 89, 7, 18, 33, 83, 89, 8, 18, 51, 83, 89, 16, 6, 18, 56, 83, 181, 0, 58]
abbrev dktX5_init_5 : List UInt8 := dkwX5_init_5 ++ dktX5_init_6
def dkwX5_init_4 : List UInt8 := [181, 0, 53, 42, 16, 7, 189, 0, 31, 89, 3, 18, 43, 83, 89, 4, 18, 45, 83, 89, 5, 18, 47, 83]
abbrev dktX5_init_4 : List UInt8 := dkwX5_init_4 ++ dktX5_init_5
def dkwX5_init_3 : List UInt8 := [18, 45, 83, 89, 5, 18, 47, 83, 89, 6, 18, 49, 83, 89, 7, 18, 33, 83, 89, 8, 18, 51, 83]
abbrev dktX5_init_3 : List UInt8 := dkwX5_init_3 ++ dktX5_init_4
def dkwX5_init_2 : List UInt8 := [18, 35, 83, 89, 5, 18, 37, 83, 181, 0, 39, 42, 16, 6, 189, 0, 31, 89, 3, 18, 43, 83, 89, 4]
abbrev dktX5_init_2 : List UInt8 := dkwX5_init_2 ++ dktX5_init_3
def dkwX5_init_1 : List UInt8 := [89, 42, 180, 0, 3, 183, 0, 24, 181, 0, 27, 42, 6, 189, 0, 31, 89, 3, 18, 33, 83, 89, 4]
abbrev dktX5_init_1 : List UInt8 := dkwX5_init_1 ++ dktX5_init_2
def dkwX5_init_0 : List UInt8 := [42, 43, 181, 0, 3, 42, 183, 0, 9, 42, 187, 0, 15, 89, 183, 0, 17, 181, 0, 18, 42, 187, 0, 22]
abbrev dktX5_init_0 : List UInt8 := dkwX5_init_0 ++ dktX5_init_1
theorem dksX5_init_0 : cX5_init.data.toList.drop 0 = dktX5_init_0 := by decide +kernel
theorem dksX5_init_1 : cX5_init.data.toList.drop 24 = dktX5_init_1 := dk_seg dksX5_init_0 24 rfl rfl
theorem dksX5_init_2 : cX5_init.data.toList.drop 47 = dktX5_init_2 := dk_seg dksX5_init_1 23 rfl rfl
theorem dksX5_init_3 : cX5_init.data.toList.drop 71 = dktX5_init_3 := dk_seg dksX5_init_2 24 rfl rfl
theorem dksX5_init_4 : cX5_init.data.toList.drop 94 = dktX5_init_4 := dk_seg dksX5_init_3 23 rfl rfl
theorem dksX5_init_5 : cX5_init.data.toList.drop 118 = dktX5_init_5 := dk_seg dksX5_init_4 24 rfl rfl
theorem dksX5_init_6 : cX5_init.data.toList.drop 142 = dktX5_init_6 := dk_seg dksX5_init_5 24 rfl rfl
theorem dX5_init_0 : decode cX5_init 0 = .ok (.aload_n 0, 1) := dk_42 (dk_at dksX5_init_0 0 rfl rfl)
theorem dX5_init_1 : decode cX5_init 1 = .ok (.aload_n 1, 1) := dk_43 (dk_at dksX5_init_0 1 rfl rfl)
theorem dX5_init_2 : decode cX5_init 2 = .ok (.putfield 3, 3) := dk_181 0 3 (dk_at dksX5_init_0 2 rfl rfl)
theorem dX5_init_5 : decode cX5_init 5 = .ok (.aload_n 0, 1) := dk_42 (dk_at dksX5_init_0 5 rfl rfl)
theorem dX5_init_6 : decode cX5_init 6 = .ok (.invokespecial 9, 3) := dk_183 0 9 (dk_at dksX5_init_0 6 rfl rfl)
theorem dX5_init_9 : decode cX5_init 9 = .ok (.aload_n 0, 1) := dk_42 (dk_at dksX5_init_0 9 rfl rfl)
theorem dX5_init_10 : decode cX5_init 10 = .ok (.new 15, 3) := dk_187 0 15 (dk_at dksX5_init_0 10 rfl rfl)
theorem dX5_init_13 : decode cX5_init 13 = .ok (.dup, 1) := dk_89 (dk_at dksX5_init_0 13 rfl rfl)
theorem dX5_init_14 : decode cX5_init 14 = .ok (.invokespecial 17, 3) := dk_183 0 17 (dk_at dksX5_init_0 14 rfl rfl)
theorem dX5_init_17 : decode cX5_init 17 = .ok (.putfield 18, 3) := dk_181 0 18 (dk_at dksX5_init_0 17 rfl rfl)
theorem dX5_init_20 : decode cX5_init 20 = .ok (.aload_n 0, 1) := dk_42 (dk_at dksX5_init_0 20 rfl rfl)
theorem dX5_init_21 : decode cX5_init 21 = .ok (.new 22, 3) := dk_187 0 22 (dk_at dksX5_init_0 21 rfl rfl)
theorem dX5_init_24 : decode cX5_init 24 = .ok (.dup, 1) := dk_89 (dk_at dksX5_init_1 0 rfl rfl)
theorem dX5_init_25 : decode cX5_init 25 = .ok (.aload_n 0, 1) := dk_42 (dk_at dksX5_init_1 1 rfl rfl)
theorem dX5_init_26 : decode cX5_init 26 = .ok (.getfield 3, 3) := dk_180 0 3 (dk_at dksX5_init_1 2 rfl rfl)
theorem dX5_init_29 : decode cX5_init 29 = .ok (.invokespecial 24, 3) := dk_183 0 24 (dk_at dksX5_init_1 5 rfl rfl)
theorem dX5_init_32 : decode cX5_init 32 = .ok (.putfield 27, 3) := dk_181 0 27 (dk_at dksX5_init_1 8 rfl rfl)
theorem dX5_init_35 : decode cX5_init 35 = .ok (.aload_n 0, 1) := dk_42 (dk_at dksX5_init_1 11 rfl rfl)
theorem dX5_init_36 : decode cX5_init 36 = .ok (.iconst 3, 1) := dk_6 (dk_at dksX5_init_1 12 rfl rfl)
theorem dX5_init_37 : decode cX5_init 37 = .ok (.anewarray 31, 3) := dk_189 0 31 (dk_at dksX5_init_1 13 rfl rfl)
theorem dX5_init_40 : decode cX5_init 40 = .ok (.dup, 1) := dk_89 (dk_at dksX5_init_1 16 rfl rfl)
theorem dX5_init_41 : decode cX5_init 41 = .ok (.iconst 0, 1) := dk_3 (dk_at dksX5_init_1 17 rfl rfl)
theorem dX5_init_42 : decode cX5_init 42 = .ok (.ldc 33, 2) := dk_18 33 (dk_at dksX5_init_1 18 rfl rfl)
theorem dX5_init_44 : decode cX5_init 44 = .ok (.aastore, 1) := dk_83 (dk_at dksX5_init_1 20 rfl rfl)
theorem dX5_init_45 : decode cX5_init 45 = .ok (.dup, 1) := dk_89 (dk_at dksX5_init_1 21 rfl rfl)
theorem dX5_init_46 : decode cX5_init 46 = .ok (.iconst 1, 1) := dk_4 (dk_at dksX5_init_1 22 rfl rfl)
theorem dX5_init_47 : decode cX5_init 47 = .ok (.ldc 35, 2) := dk_18 35 (dk_at dksX5_init_2 0 rfl rfl)
theorem dX5_init_49 : decode cX5_init 49 = .ok (.aastore, 1) := dk_83 (dk_at dksX5_init_2 2 rfl rfl)
theorem dX5_init_50 : decode cX5_init 50 = .ok (.dup, 1) := dk_89 (dk_at dksX5_init_2 3 rfl rfl)
theorem dX5_init_51 : decode cX5_init 51 = .ok (.iconst 2, 1) := dk_5 (dk_at dksX5_init_2 4 rfl rfl)
theorem dX5_init_52 : decode cX5_init 52 = .ok (.ldc 37, 2) := dk_18 37 (dk_at dksX5_init_2 5 rfl rfl)
theorem dX5_init_54 : decode cX5_init 54 = .ok (.aastore, 1) := dk_83 (dk_at dksX5_init_2 7 rfl rfl)
theorem dX5_init_55 : decode cX5_init 55 = .ok (.putfield 39, 3) := dk_181 0 39 (dk_at dksX5_init_2 8 rfl rfl)
theorem dX5_init_58 : decode cX5_init 58 = .ok (.aload_n 0, 1) := dk_42 (dk_at dksX5_init_2 11 rfl rfl)
theorem dX5_init_59 : decode cX5_init 59 = .ok (.bipush 6, 2) := dk_16 6 (dk_at dksX5_init_2 12 rfl rfl)
theorem dX5_init_61 : decode cX5_init 61 = .ok (.anewarray 31, 3) := dk_189 0 31 (dk_at dksX5_init_2 14 rfl rfl)
theorem dX5_init_64 : decode cX5_init 64 = .ok (.dup, 1) := dk_89 (dk_at dksX5_init_2 17 rfl rfl)
theorem dX5_init_65 : decode cX5_init 65 = .ok (.iconst 0, 1) := dk_3 (dk_at dksX5_init_2 18 rfl rfl)
theorem dX5_init_66 : decode cX5_init 66 = .ok (.ldc 43, 2) := dk_18 43 (dk_at dksX5_init_2 19 rfl rfl)
theorem dX5_init_68 : decode cX5_init 68 = .ok (.aastore, 1) := dk_83 (dk_at dksX5_init_2 21 rfl rfl)
theorem dX5_init_69 : decode cX5_init 69 = .ok (.dup, 1) := dk_89 (dk_at dksX5_init_2 22 rfl rfl)
theorem dX5_init_70 : decode cX5_init 70 = .ok (.iconst 1, 1) := dk_4 (dk_at dksX5_init_2 23 rfl rfl)
theorem dX5_init_71 : decode cX5_init 71 = .ok (.ldc 45, 2) := dk_18 45 (dk_at dksX5_init_3 0 rfl rfl)
theorem dX5_init_73 : decode cX5_init 73 = .ok (.aastore, 1) := dk_83 (dk_at dksX5_init_3 2 rfl rfl)
theorem dX5_init_74 : decode cX5_init 74 = .ok (.dup, 1) := dk_89 (dk_at dksX5_init_3 3 rfl rfl)
theorem dX5_init_75 : decode cX5_init 75 = .ok (.iconst 2, 1) := dk_5 (dk_at dksX5_init_3 4 rfl rfl)
theorem dX5_init_76 : decode cX5_init 76 = .ok (.ldc 47, 2) := dk_18 47 (dk_at dksX5_init_3 5 rfl rfl)
theorem dX5_init_78 : decode cX5_init 78 = .ok (.aastore, 1) := dk_83 (dk_at dksX5_init_3 7 rfl rfl)
theorem dX5_init_79 : decode cX5_init 79 = .ok (.dup, 1) := dk_89 (dk_at dksX5_init_3 8 rfl rfl)
theorem dX5_init_80 : decode cX5_init 80 = .ok (.iconst 3, 1) := dk_6 (dk_at dksX5_init_3 9 rfl rfl)
theorem dX5_init_81 : decode cX5_init 81 = .ok (.ldc 49, 2) := dk_18 49 (dk_at dksX5_init_3 10 rfl rfl)
theorem dX5_init_83 : decode cX5_init 83 = .ok (.aastore, 1) := dk_83 (dk_at dksX5_init_3 12 rfl rfl)
theorem dX5_init_84 : decode cX5_init 84 = .ok (.dup, 1) := dk_89 (dk_at dksX5_init_3 13 rfl rfl)
theorem dX5_init_85 : decode cX5_init 85 = .ok (.iconst 4, 1) := dk_7 (dk_at dksX5_init_3 14 rfl rfl)
theorem dX5_init_86 : decode cX5_init 86 = .ok (.ldc 33, 2) := dk_18 33 (dk_at dksX5_init_3 15 rfl rfl)
theorem dX5_init_88 : decode cX5_init 88 = .ok (.aastore, 1) := dk_83 (dk_at dksX5_init_3 17 rfl rfl)
theorem dX5_init_89 : decode cX5_init 89 = .ok (.dup, 1) := dk_89 (dk_at dksX5_init_3 18 rfl rfl)
theorem dX5_init_90 : decode cX5_init 90 = .ok (.iconst 5, 1) := dk_8 (dk_at dksX5_init_3 19 rfl rfl)
theorem dX5_init_91 : decode cX5_init 91 = .ok (.ldc 51, 2) := dk_18 51 (dk_at dksX5_init_3 20 rfl rfl)
theorem dX5_init_93 : decode cX5_init 93 = .ok (.aastore, 1) := dk_83 (dk_at dksX5_init_3 22 rfl rfl)
theorem dX5_init_94 : decode cX5_init 94 = .ok (.putfield 53, 3) := dk_181 0 53 (dk_at dksX5_init_4 0 rfl rfl)
theorem dX5_init_97 : decode cX5_init 97 = .ok (.aload_n 0, 1) := dk_42 (dk_at dksX5_init_4 3 rfl rfl)
theorem dX5_init_98 : decode cX5_init 98 = .ok (.bipush 7, 2) := dk_16 7 (dk_at dksX5_init_4 4 rfl rfl)
theorem dX5_init_100 : decode cX5_init 100 = .ok (.anewarray 31, 3) := dk_189 0 31 (dk_at dksX5_init_4 6 rfl rfl)
theorem dX5_init_103 : decode cX5_init 103 = .ok (.dup, 1) := dk_89 (dk_at dksX5_init_4 9 rfl rfl)
theorem dX5_init_104 : decode cX5_init 104 = .ok (.iconst 0, 1) := dk_3 (dk_at dksX5_init_4 10 rfl rfl)
theorem dX5_init_105 : decode cX5_init 105 = .ok (.ldc 43, 2) := dk_18 43 (dk_at dksX5_init_4 11 rfl rfl)
theorem dX5_init_107 : decode cX5_init 107 = .ok (.aastore, 1) := dk_83 (dk_at dksX5_init_4 13 rfl rfl)
theorem dX5_init_108 : decode cX5_init 108 = .ok (.dup, 1) := dk_89 (dk_at dksX5_init_4 14 rfl rfl)
theorem dX5_init_109 : decode cX5_init 109 = .ok (.iconst 1, 1) := dk_4 (dk_at dksX5_init_4 15 rfl rfl)
theorem dX5_init_110 : decode cX5_init 110 = .ok (.ldc 45, 2) := dk_18 45 (dk_at dksX5_init_4 16 rfl rfl)
theorem dX5_init_112 : decode cX5_init 112 = .ok (.aastore, 1) := dk_83 (dk_at dksX5_init_4 18 rfl rfl)
theorem dX5_init_113 : decode cX5_init 113 = .ok (.dup, 1) := dk_89 (dk_at dksX5_init_4 19 rfl rfl)
theorem dX5_init_114 : decode cX5_init 114 = .ok (.iconst 2, 1) := dk_5 (dk_at dksX5_init_4 20 rfl rfl)
theorem dX5_init_115 : decode cX5_init 115 = .ok (.ldc 47, 2) := dk_18 47 (dk_at dksX5_init_4 21 rfl rfl)
theorem dX5_init_117 : decode cX5_init 117 = .ok (.aastore, 1) := dk_83 (dk_at dksX5_init_4 23 rfl rfl)
theorem dX5_init_118 : decode cX5_init 118 = .ok (.dup, 1) := dk_89 (dk_at dksX5_init_5 0 rfl rfl)
theorem dX5_init_119 : decode cX5_init 119 = .ok (.iconst 3, 1) := dk_6 (dk_at dksX5_init_5 1 rfl rfl)
theorem dX5_init_120 : decode cX5_init 120 = .ok (.ldc 49, 2) := dk_18 49 (dk_at dksX5_init_5 2 rfl rfl)
theorem dX5_init_122 : decode cX5_init 122 = .ok (.aastore, 1) := dk_83 (dk_at dksX5_init_5 4 rfl rfl)
theorem dX5_init_123 : decode cX5_init 123 = .ok (.dup, 1) := dk_89 (dk_at dksX5_init_5 5 rfl rfl)
theorem dX5_init_124 : decode cX5_init 124 = .ok (.iconst 4, 1) := dk_7 (dk_at dksX5_init_5 6 rfl rfl)
theorem dX5_init_125 : decode cX5_init 125 = .ok (.ldc 33, 2) := dk_18 33 (dk_at dksX5_init_5 7 rfl rfl)
theorem dX5_init_127 : decode cX5_init 127 = .ok (.aastore, 1) := dk_83 (dk_at dksX5_init_5 9 rfl rfl)
theorem dX5_init_128 : decode cX5_init 128 = .ok (.dup, 1) := dk_89 (dk_at dksX5_init_5 10 rfl rfl)
theorem dX5_init_129 : decode cX5_init 129 = .ok (.iconst 5, 1) := dk_8 (dk_at dksX5_init_5 11 rfl rfl)
theorem dX5_init_130 : decode cX5_init 130 = .ok (.ldc 51, 2) := dk_18 51 (dk_at dksX5_init_5 12 rfl rfl)
theorem dX5_init_132 : decode cX5_init 132 = .ok (.aastore, 1) := dk_83 (dk_at dksX5_init_5 14 rfl rfl)
theorem dX5_init_133 : decode cX5_init 133 = .ok (.dup, 1) := dk_89 (dk_at dksX5_init_5 15 rfl rfl)
theorem dX5_init_134 : decode cX5_init 134 = .ok (.bipush 6, 2) := dk_16 6 (dk_at dksX5_init_5 16 rfl rfl)
theorem dX5_init_136 : decode cX5_init 136 = .ok (.ldc 56, 2) := dk_18 56 (dk_at dksX5_init_5 18 rfl rfl)
theorem dX5_init_138 : decode cX5_init 138 = .ok (.aastore, 1) := dk_83 (dk_at dksX5_init_5 20 rfl rfl)
theorem dX5_init_139 : decode cX5_init 139 = .ok (.putfield 58, 3) := dk_181 0 58 (dk_at dksX5_init_5 21 rfl rfl)
theorem dX5_init_142 : decode cX5_init 142 = .ok (.aload_n 0, 1) := dk_42 (dk_at dksX5_init_6 0 rfl rfl)
theorem dX5_init_143 : decode cX5_init 143 = .ok (.aload_n 0, 1) := dk_42 (dk_at dksX5_init_6 1 rfl rfl)
theorem dX5_init_144 : decode cX5_init 144 = .ok (.getfield 53, 3) := dk_180 0 53 (dk_at dksX5_init_6 2 rfl rfl)
theorem dX5_init_147 : decode cX5_init 147 = .ok (.putfield 61, 3) := dk_181 0 61 (dk_at dksX5_init_6 5 rfl rfl)
theorem dX5_init_150 : decode cX5_init 150 = .ok (.aload_n 0, 1) := dk_42 (dk_at dksX5_init_6 8 rfl rfl)
theorem dX5_init_151 : decode cX5_init 151 = .ok (.iload_n 2, 1) := dk_28 (dk_at dksX5_init_6 9 rfl rfl)
theorem dX5_init_152 : decode cX5_init 152 = .ok (.putfield 64, 3) := dk_181 0 64 (dk_at dksX5_init_6 10 rfl rfl)
theorem dX5_init_155 : decode cX5_init 155 = .ok (.return_, 1) := dk_177 (dk_at dksX5_init_6 13 rfl rfl)
abbrev cX5_read : ByteArray := prog_6_method_25_code
def yX5_read : MethodName := ⟨RX5, "read", "()LHornHouses$Town;"⟩
def dkwX5_read_0 : List UInt8 := [42, 182, 0, 125, 42, 180, 0, 85, 153, 0, 10, 42, 182, 1, 14, 167, 255, 245, 42, 180, 0, 18, 176]
abbrev dktX5_read_0 : List UInt8 := dkwX5_read_0 ++ []
theorem dksX5_read_0 : cX5_read.data.toList.drop 0 = dktX5_read_0 := by decide +kernel
theorem dX5_read_0 : decode cX5_read 0 = .ok (.aload_n 0, 1) := dk_42 (dk_at dksX5_read_0 0 rfl rfl)
theorem dX5_read_1 : decode cX5_read 1 = .ok (.invokevirtual 125, 3) := dk_182 0 125 (dk_at dksX5_read_0 1 rfl rfl)
theorem dX5_read_4 : decode cX5_read 4 = .ok (.aload_n 0, 1) := dk_42 (dk_at dksX5_read_0 4 rfl rfl)
theorem dX5_read_5 : decode cX5_read 5 = .ok (.getfield 85, 3) := dk_180 0 85 (dk_at dksX5_read_0 5 rfl rfl)
theorem dX5_read_8 : decode cX5_read 8 = .ok (.ifCond .eq 10, 3) := dk_153 0 10 (dk_at dksX5_read_0 8 rfl rfl)
theorem dX5_read_11 : decode cX5_read 11 = .ok (.aload_n 0, 1) := dk_42 (dk_at dksX5_read_0 11 rfl rfl)
theorem dX5_read_12 : decode cX5_read 12 = .ok (.invokevirtual 270, 3) := dk_182 1 14 (dk_at dksX5_read_0 12 rfl rfl)
theorem dX5_read_15 : decode cX5_read 15 = .ok (.goto (-11), 3) := dk_167 255 245 (dk_at dksX5_read_0 15 rfl rfl)
theorem dX5_read_18 : decode cX5_read 18 = .ok (.aload_n 0, 1) := dk_42 (dk_at dksX5_read_0 18 rfl rfl)
theorem dX5_read_19 : decode cX5_read 19 = .ok (.getfield 18, 3) := dk_180 0 18 (dk_at dksX5_read_0 19 rfl rfl)
theorem dX5_read_22 : decode cX5_read 22 = .ok (.areturn, 1) := dk_176 (dk_at dksX5_read_0 22 rfl rfl)
abbrev cX5_next : ByteArray := prog_6_method_5_code
def yX5_next : MethodName := ⟨RX5, "next", "()V"⟩
def dkwX5_next_8 : List UInt8 := [180, 0, 67, 181, 0, 111, 177]
abbrev dktX5_next_8 : List UInt8 := dkwX5_next_8 ++ []
def dkwX5_next_7 : List UInt8 := [155, 0, 7, 6, 167, 0, 4, 7, 181, 0, 85, 42, 89, 180, 0, 67, 4, 96, 181, 0, 67, 42, 42]
abbrev dktX5_next_7 : List UInt8 := dkwX5_next_7 ++ dktX5_next_8
def dkwX5_next_6 : List UInt8 := [181, 0, 67, 167, 255, 215, 42, 5, 181, 0, 85, 167, 0, 34, 42, 18, 105, 42, 182, 0, 74, 182, 0, 107]
abbrev dktX5_next_6 : List UInt8 := dkwX5_next_6 ++ dktX5_next_7
def dkwX5_next_5 : List UInt8 := [104, 42, 182, 0, 74, 96, 16, 48, 100, 184, 0, 99, 181, 0, 95, 42, 89, 180, 0, 67, 4, 96]
abbrev dktX5_next_5 : List UInt8 := dkwX5_next_5 ++ dktX5_next_6
def dkwX5_next_4 : List UInt8 := [153, 0, 60, 42, 3, 181, 0, 95, 42, 182, 0, 92, 153, 0, 40, 42, 18, 98, 16, 10, 42, 180, 0, 95]
abbrev dktX5_next_4 : List UInt8 := dkwX5_next_4 ++ dktX5_next_5
def dkwX5_next_3 : List UInt8 := [180, 0, 67, 4, 96, 181, 0, 67, 167, 255, 239, 42, 4, 181, 0, 85, 167, 0, 98, 42, 182, 0, 92]
abbrev dktX5_next_3 : List UInt8 := dkwX5_next_3 ++ dktX5_next_4
def dkwX5_next_2 : List UInt8 := [3, 181, 0, 85, 167, 0, 133, 42, 182, 0, 88, 153, 0, 31, 42, 182, 0, 88, 153, 0, 16, 42, 89]
abbrev dktX5_next_2 : List UInt8 := dkwX5_next_2 ++ dktX5_next_3
def dkwX5_next_1 : List UInt8 := [96, 181, 0, 67, 167, 255, 228, 42, 42, 180, 0, 67, 181, 0, 82, 42, 182, 0, 74, 2, 160, 0, 11, 42]
abbrev dktX5_next_1 : List UInt8 := dkwX5_next_1 ++ dktX5_next_2
def dkwX5_next_0 : List UInt8 := [42, 182, 0, 74, 16, 32, 159, 0, 12, 42, 182, 0, 74, 16, 10, 160, 0, 16, 42, 89, 180, 0, 67, 4]
abbrev dktX5_next_0 : List UInt8 := dkwX5_next_0 ++ dktX5_next_1
theorem dksX5_next_0 : cX5_next.data.toList.drop 0 = dktX5_next_0 := by decide +kernel
theorem dksX5_next_1 : cX5_next.data.toList.drop 24 = dktX5_next_1 := dk_seg dksX5_next_0 24 rfl rfl
theorem dksX5_next_2 : cX5_next.data.toList.drop 48 = dktX5_next_2 := dk_seg dksX5_next_1 24 rfl rfl
theorem dksX5_next_3 : cX5_next.data.toList.drop 71 = dktX5_next_3 := dk_seg dksX5_next_2 23 rfl rfl
theorem dksX5_next_4 : cX5_next.data.toList.drop 94 = dktX5_next_4 := dk_seg dksX5_next_3 23 rfl rfl
theorem dksX5_next_5 : cX5_next.data.toList.drop 118 = dktX5_next_5 := dk_seg dksX5_next_4 24 rfl rfl
theorem dksX5_next_6 : cX5_next.data.toList.drop 140 = dktX5_next_6 := dk_seg dksX5_next_5 22 rfl rfl
theorem dksX5_next_7 : cX5_next.data.toList.drop 164 = dktX5_next_7 := dk_seg dksX5_next_6 24 rfl rfl
theorem dksX5_next_8 : cX5_next.data.toList.drop 187 = dktX5_next_8 := dk_seg dksX5_next_7 23 rfl rfl
theorem dX5_next_0 : decode cX5_next 0 = .ok (.aload_n 0, 1) := dk_42 (dk_at dksX5_next_0 0 rfl rfl)
theorem dX5_next_1 : decode cX5_next 1 = .ok (.invokevirtual 74, 3) := dk_182 0 74 (dk_at dksX5_next_0 1 rfl rfl)
theorem dX5_next_4 : decode cX5_next 4 = .ok (.bipush 32, 2) := dk_16 32 (dk_at dksX5_next_0 4 rfl rfl)
theorem dX5_next_6 : decode cX5_next 6 = .ok (.if_icmp .eq 12, 3) := dk_159 0 12 (dk_at dksX5_next_0 6 rfl rfl)
theorem dX5_next_9 : decode cX5_next 9 = .ok (.aload_n 0, 1) := dk_42 (dk_at dksX5_next_0 9 rfl rfl)
theorem dX5_next_10 : decode cX5_next 10 = .ok (.invokevirtual 74, 3) := dk_182 0 74 (dk_at dksX5_next_0 10 rfl rfl)
theorem dX5_next_13 : decode cX5_next 13 = .ok (.bipush 10, 2) := dk_16 10 (dk_at dksX5_next_0 13 rfl rfl)
theorem dX5_next_15 : decode cX5_next 15 = .ok (.if_icmp .ne 16, 3) := dk_160 0 16 (dk_at dksX5_next_0 15 rfl rfl)
theorem dX5_next_18 : decode cX5_next 18 = .ok (.aload_n 0, 1) := dk_42 (dk_at dksX5_next_0 18 rfl rfl)
theorem dX5_next_19 : decode cX5_next 19 = .ok (.dup, 1) := dk_89 (dk_at dksX5_next_0 19 rfl rfl)
theorem dX5_next_20 : decode cX5_next 20 = .ok (.getfield 67, 3) := dk_180 0 67 (dk_at dksX5_next_0 20 rfl rfl)
theorem dX5_next_23 : decode cX5_next 23 = .ok (.iconst 1, 1) := dk_4 (dk_at dksX5_next_0 23 rfl rfl)
theorem dX5_next_24 : decode cX5_next 24 = .ok (.iadd, 1) := dk_96 (dk_at dksX5_next_1 0 rfl rfl)
theorem dX5_next_25 : decode cX5_next 25 = .ok (.putfield 67, 3) := dk_181 0 67 (dk_at dksX5_next_1 1 rfl rfl)
theorem dX5_next_28 : decode cX5_next 28 = .ok (.goto (-28), 3) := dk_167 255 228 (dk_at dksX5_next_1 4 rfl rfl)
theorem dX5_next_31 : decode cX5_next 31 = .ok (.aload_n 0, 1) := dk_42 (dk_at dksX5_next_1 7 rfl rfl)
theorem dX5_next_32 : decode cX5_next 32 = .ok (.aload_n 0, 1) := dk_42 (dk_at dksX5_next_1 8 rfl rfl)
theorem dX5_next_33 : decode cX5_next 33 = .ok (.getfield 67, 3) := dk_180 0 67 (dk_at dksX5_next_1 9 rfl rfl)
theorem dX5_next_36 : decode cX5_next 36 = .ok (.putfield 82, 3) := dk_181 0 82 (dk_at dksX5_next_1 12 rfl rfl)
theorem dX5_next_39 : decode cX5_next 39 = .ok (.aload_n 0, 1) := dk_42 (dk_at dksX5_next_1 15 rfl rfl)
theorem dX5_next_40 : decode cX5_next 40 = .ok (.invokevirtual 74, 3) := dk_182 0 74 (dk_at dksX5_next_1 16 rfl rfl)
theorem dX5_next_43 : decode cX5_next 43 = .ok (.iconst (-1), 1) := dk_2 (dk_at dksX5_next_1 19 rfl rfl)
theorem dX5_next_44 : decode cX5_next 44 = .ok (.if_icmp .ne 11, 3) := dk_160 0 11 (dk_at dksX5_next_1 20 rfl rfl)
theorem dX5_next_47 : decode cX5_next 47 = .ok (.aload_n 0, 1) := dk_42 (dk_at dksX5_next_1 23 rfl rfl)
theorem dX5_next_48 : decode cX5_next 48 = .ok (.iconst 0, 1) := dk_3 (dk_at dksX5_next_2 0 rfl rfl)
theorem dX5_next_49 : decode cX5_next 49 = .ok (.putfield 85, 3) := dk_181 0 85 (dk_at dksX5_next_2 1 rfl rfl)
theorem dX5_next_52 : decode cX5_next 52 = .ok (.goto 133, 3) := dk_167 0 133 (dk_at dksX5_next_2 4 rfl rfl)
theorem dX5_next_55 : decode cX5_next 55 = .ok (.aload_n 0, 1) := dk_42 (dk_at dksX5_next_2 7 rfl rfl)
theorem dX5_next_56 : decode cX5_next 56 = .ok (.invokevirtual 88, 3) := dk_182 0 88 (dk_at dksX5_next_2 8 rfl rfl)
theorem dX5_next_59 : decode cX5_next 59 = .ok (.ifCond .eq 31, 3) := dk_153 0 31 (dk_at dksX5_next_2 11 rfl rfl)
theorem dX5_next_62 : decode cX5_next 62 = .ok (.aload_n 0, 1) := dk_42 (dk_at dksX5_next_2 14 rfl rfl)
theorem dX5_next_63 : decode cX5_next 63 = .ok (.invokevirtual 88, 3) := dk_182 0 88 (dk_at dksX5_next_2 15 rfl rfl)
theorem dX5_next_66 : decode cX5_next 66 = .ok (.ifCond .eq 16, 3) := dk_153 0 16 (dk_at dksX5_next_2 18 rfl rfl)
theorem dX5_next_69 : decode cX5_next 69 = .ok (.aload_n 0, 1) := dk_42 (dk_at dksX5_next_2 21 rfl rfl)
theorem dX5_next_70 : decode cX5_next 70 = .ok (.dup, 1) := dk_89 (dk_at dksX5_next_2 22 rfl rfl)
theorem dX5_next_71 : decode cX5_next 71 = .ok (.getfield 67, 3) := dk_180 0 67 (dk_at dksX5_next_3 0 rfl rfl)
theorem dX5_next_74 : decode cX5_next 74 = .ok (.iconst 1, 1) := dk_4 (dk_at dksX5_next_3 3 rfl rfl)
theorem dX5_next_75 : decode cX5_next 75 = .ok (.iadd, 1) := dk_96 (dk_at dksX5_next_3 4 rfl rfl)
theorem dX5_next_76 : decode cX5_next 76 = .ok (.putfield 67, 3) := dk_181 0 67 (dk_at dksX5_next_3 5 rfl rfl)
theorem dX5_next_79 : decode cX5_next 79 = .ok (.goto (-17), 3) := dk_167 255 239 (dk_at dksX5_next_3 8 rfl rfl)
theorem dX5_next_82 : decode cX5_next 82 = .ok (.aload_n 0, 1) := dk_42 (dk_at dksX5_next_3 11 rfl rfl)
theorem dX5_next_83 : decode cX5_next 83 = .ok (.iconst 1, 1) := dk_4 (dk_at dksX5_next_3 12 rfl rfl)
theorem dX5_next_84 : decode cX5_next 84 = .ok (.putfield 85, 3) := dk_181 0 85 (dk_at dksX5_next_3 13 rfl rfl)
theorem dX5_next_87 : decode cX5_next 87 = .ok (.goto 98, 3) := dk_167 0 98 (dk_at dksX5_next_3 16 rfl rfl)
theorem dX5_next_90 : decode cX5_next 90 = .ok (.aload_n 0, 1) := dk_42 (dk_at dksX5_next_3 19 rfl rfl)
theorem dX5_next_91 : decode cX5_next 91 = .ok (.invokevirtual 92, 3) := dk_182 0 92 (dk_at dksX5_next_3 20 rfl rfl)
theorem dX5_next_94 : decode cX5_next 94 = .ok (.ifCond .eq 60, 3) := dk_153 0 60 (dk_at dksX5_next_4 0 rfl rfl)
theorem dX5_next_97 : decode cX5_next 97 = .ok (.aload_n 0, 1) := dk_42 (dk_at dksX5_next_4 3 rfl rfl)
theorem dX5_next_98 : decode cX5_next 98 = .ok (.iconst 0, 1) := dk_3 (dk_at dksX5_next_4 4 rfl rfl)
theorem dX5_next_99 : decode cX5_next 99 = .ok (.putfield 95, 3) := dk_181 0 95 (dk_at dksX5_next_4 5 rfl rfl)
theorem dX5_next_102 : decode cX5_next 102 = .ok (.aload_n 0, 1) := dk_42 (dk_at dksX5_next_4 8 rfl rfl)
theorem dX5_next_103 : decode cX5_next 103 = .ok (.invokevirtual 92, 3) := dk_182 0 92 (dk_at dksX5_next_4 9 rfl rfl)
theorem dX5_next_106 : decode cX5_next 106 = .ok (.ifCond .eq 40, 3) := dk_153 0 40 (dk_at dksX5_next_4 12 rfl rfl)
theorem dX5_next_109 : decode cX5_next 109 = .ok (.aload_n 0, 1) := dk_42 (dk_at dksX5_next_4 15 rfl rfl)
theorem dX5_next_110 : decode cX5_next 110 = .ok (.ldc 98, 2) := dk_18 98 (dk_at dksX5_next_4 16 rfl rfl)
theorem dX5_next_112 : decode cX5_next 112 = .ok (.bipush 10, 2) := dk_16 10 (dk_at dksX5_next_4 18 rfl rfl)
theorem dX5_next_114 : decode cX5_next 114 = .ok (.aload_n 0, 1) := dk_42 (dk_at dksX5_next_4 20 rfl rfl)
theorem dX5_next_115 : decode cX5_next 115 = .ok (.getfield 95, 3) := dk_180 0 95 (dk_at dksX5_next_4 21 rfl rfl)
theorem dX5_next_118 : decode cX5_next 118 = .ok (.imul, 1) := dk_104 (dk_at dksX5_next_5 0 rfl rfl)
theorem dX5_next_119 : decode cX5_next 119 = .ok (.aload_n 0, 1) := dk_42 (dk_at dksX5_next_5 1 rfl rfl)
theorem dX5_next_120 : decode cX5_next 120 = .ok (.invokevirtual 74, 3) := dk_182 0 74 (dk_at dksX5_next_5 2 rfl rfl)
theorem dX5_next_123 : decode cX5_next 123 = .ok (.iadd, 1) := dk_96 (dk_at dksX5_next_5 5 rfl rfl)
theorem dX5_next_124 : decode cX5_next 124 = .ok (.bipush 48, 2) := dk_16 48 (dk_at dksX5_next_5 6 rfl rfl)
theorem dX5_next_126 : decode cX5_next 126 = .ok (.isub, 1) := dk_100 (dk_at dksX5_next_5 8 rfl rfl)
theorem dX5_next_127 : decode cX5_next 127 = .ok (.invokestatic 99, 3) := dk_184 0 99 (dk_at dksX5_next_5 9 rfl rfl)
theorem dX5_next_130 : decode cX5_next 130 = .ok (.putfield 95, 3) := dk_181 0 95 (dk_at dksX5_next_5 12 rfl rfl)
theorem dX5_next_133 : decode cX5_next 133 = .ok (.aload_n 0, 1) := dk_42 (dk_at dksX5_next_5 15 rfl rfl)
theorem dX5_next_134 : decode cX5_next 134 = .ok (.dup, 1) := dk_89 (dk_at dksX5_next_5 16 rfl rfl)
theorem dX5_next_135 : decode cX5_next 135 = .ok (.getfield 67, 3) := dk_180 0 67 (dk_at dksX5_next_5 17 rfl rfl)
theorem dX5_next_138 : decode cX5_next 138 = .ok (.iconst 1, 1) := dk_4 (dk_at dksX5_next_5 20 rfl rfl)
theorem dX5_next_139 : decode cX5_next 139 = .ok (.iadd, 1) := dk_96 (dk_at dksX5_next_5 21 rfl rfl)
theorem dX5_next_140 : decode cX5_next 140 = .ok (.putfield 67, 3) := dk_181 0 67 (dk_at dksX5_next_6 0 rfl rfl)
theorem dX5_next_143 : decode cX5_next 143 = .ok (.goto (-41), 3) := dk_167 255 215 (dk_at dksX5_next_6 3 rfl rfl)
theorem dX5_next_146 : decode cX5_next 146 = .ok (.aload_n 0, 1) := dk_42 (dk_at dksX5_next_6 6 rfl rfl)
theorem dX5_next_147 : decode cX5_next 147 = .ok (.iconst 2, 1) := dk_5 (dk_at dksX5_next_6 7 rfl rfl)
theorem dX5_next_148 : decode cX5_next 148 = .ok (.putfield 85, 3) := dk_181 0 85 (dk_at dksX5_next_6 8 rfl rfl)
theorem dX5_next_151 : decode cX5_next 151 = .ok (.goto 34, 3) := dk_167 0 34 (dk_at dksX5_next_6 11 rfl rfl)
theorem dX5_next_154 : decode cX5_next 154 = .ok (.aload_n 0, 1) := dk_42 (dk_at dksX5_next_6 14 rfl rfl)
theorem dX5_next_155 : decode cX5_next 155 = .ok (.ldc 105, 2) := dk_18 105 (dk_at dksX5_next_6 15 rfl rfl)
theorem dX5_next_157 : decode cX5_next 157 = .ok (.aload_n 0, 1) := dk_42 (dk_at dksX5_next_6 17 rfl rfl)
theorem dX5_next_158 : decode cX5_next 158 = .ok (.invokevirtual 74, 3) := dk_182 0 74 (dk_at dksX5_next_6 18 rfl rfl)
theorem dX5_next_161 : decode cX5_next 161 = .ok (.invokevirtual 107, 3) := dk_182 0 107 (dk_at dksX5_next_6 21 rfl rfl)
theorem dX5_next_164 : decode cX5_next 164 = .ok (.ifCond .lt 7, 3) := dk_155 0 7 (dk_at dksX5_next_7 0 rfl rfl)
theorem dX5_next_167 : decode cX5_next 167 = .ok (.iconst 3, 1) := dk_6 (dk_at dksX5_next_7 3 rfl rfl)
theorem dX5_next_168 : decode cX5_next 168 = .ok (.goto 4, 3) := dk_167 0 4 (dk_at dksX5_next_7 4 rfl rfl)
theorem dX5_next_171 : decode cX5_next 171 = .ok (.iconst 4, 1) := dk_7 (dk_at dksX5_next_7 7 rfl rfl)
theorem dX5_next_172 : decode cX5_next 172 = .ok (.putfield 85, 3) := dk_181 0 85 (dk_at dksX5_next_7 8 rfl rfl)
theorem dX5_next_175 : decode cX5_next 175 = .ok (.aload_n 0, 1) := dk_42 (dk_at dksX5_next_7 11 rfl rfl)
theorem dX5_next_176 : decode cX5_next 176 = .ok (.dup, 1) := dk_89 (dk_at dksX5_next_7 12 rfl rfl)
theorem dX5_next_177 : decode cX5_next 177 = .ok (.getfield 67, 3) := dk_180 0 67 (dk_at dksX5_next_7 13 rfl rfl)
theorem dX5_next_180 : decode cX5_next 180 = .ok (.iconst 1, 1) := dk_4 (dk_at dksX5_next_7 16 rfl rfl)
theorem dX5_next_181 : decode cX5_next 181 = .ok (.iadd, 1) := dk_96 (dk_at dksX5_next_7 17 rfl rfl)
theorem dX5_next_182 : decode cX5_next 182 = .ok (.putfield 67, 3) := dk_181 0 67 (dk_at dksX5_next_7 18 rfl rfl)
theorem dX5_next_185 : decode cX5_next 185 = .ok (.aload_n 0, 1) := dk_42 (dk_at dksX5_next_7 21 rfl rfl)
theorem dX5_next_186 : decode cX5_next 186 = .ok (.aload_n 0, 1) := dk_42 (dk_at dksX5_next_7 22 rfl rfl)
theorem dX5_next_187 : decode cX5_next 187 = .ok (.getfield 67, 3) := dk_180 0 67 (dk_at dksX5_next_8 0 rfl rfl)
theorem dX5_next_190 : decode cX5_next 190 = .ok (.putfield 111, 3) := dk_181 0 111 (dk_at dksX5_next_8 3 rfl rfl)
theorem dX5_next_193 : decode cX5_next 193 = .ok (.return_, 1) := dk_177 (dk_at dksX5_next_8 6 rfl rfl)
abbrev cX5_here : ByteArray := prog_6_method_2_code
def yX5_here : MethodName := ⟨RX5, "here", "()I"⟩
def dkwX5_here_1 : List UInt8 := [17, 0, 255, 126, 167, 0, 4, 2, 172]
abbrev dktX5_here_1 : List UInt8 := dkwX5_here_1 ++ []
def dkwX5_here_0 : List UInt8 := [42, 180, 0, 67, 42, 180, 0, 64, 162, 0, 22, 42, 180, 0, 3, 180, 0, 70, 42, 180, 0, 67, 51]
abbrev dktX5_here_0 : List UInt8 := dkwX5_here_0 ++ dktX5_here_1
theorem dksX5_here_0 : cX5_here.data.toList.drop 0 = dktX5_here_0 := by decide +kernel
theorem dksX5_here_1 : cX5_here.data.toList.drop 23 = dktX5_here_1 := dk_seg dksX5_here_0 23 rfl rfl
theorem dX5_here_0 : decode cX5_here 0 = .ok (.aload_n 0, 1) := dk_42 (dk_at dksX5_here_0 0 rfl rfl)
theorem dX5_here_1 : decode cX5_here 1 = .ok (.getfield 67, 3) := dk_180 0 67 (dk_at dksX5_here_0 1 rfl rfl)
theorem dX5_here_4 : decode cX5_here 4 = .ok (.aload_n 0, 1) := dk_42 (dk_at dksX5_here_0 4 rfl rfl)
theorem dX5_here_5 : decode cX5_here 5 = .ok (.getfield 64, 3) := dk_180 0 64 (dk_at dksX5_here_0 5 rfl rfl)
theorem dX5_here_8 : decode cX5_here 8 = .ok (.if_icmp .ge 22, 3) := dk_162 0 22 (dk_at dksX5_here_0 8 rfl rfl)
theorem dX5_here_11 : decode cX5_here 11 = .ok (.aload_n 0, 1) := dk_42 (dk_at dksX5_here_0 11 rfl rfl)
theorem dX5_here_12 : decode cX5_here 12 = .ok (.getfield 3, 3) := dk_180 0 3 (dk_at dksX5_here_0 12 rfl rfl)
theorem dX5_here_15 : decode cX5_here 15 = .ok (.getfield 70, 3) := dk_180 0 70 (dk_at dksX5_here_0 15 rfl rfl)
theorem dX5_here_18 : decode cX5_here 18 = .ok (.aload_n 0, 1) := dk_42 (dk_at dksX5_here_0 18 rfl rfl)
theorem dX5_here_19 : decode cX5_here 19 = .ok (.getfield 67, 3) := dk_180 0 67 (dk_at dksX5_here_0 19 rfl rfl)
theorem dX5_here_22 : decode cX5_here 22 = .ok (.baload, 1) := dk_51 (dk_at dksX5_here_0 22 rfl rfl)
theorem dX5_here_23 : decode cX5_here 23 = .ok (.sipush 255, 3) := dk_17 0 255 (dk_at dksX5_here_1 0 rfl rfl)
theorem dX5_here_26 : decode cX5_here 26 = .ok (.iand, 1) := dk_126 (dk_at dksX5_here_1 3 rfl rfl)
theorem dX5_here_27 : decode cX5_here 27 = .ok (.goto 4, 3) := dk_167 0 4 (dk_at dksX5_here_1 4 rfl rfl)
theorem dX5_here_30 : decode cX5_here 30 = .ok (.iconst (-1), 1) := dk_2 (dk_at dksX5_here_1 7 rfl rfl)
theorem dX5_here_31 : decode cX5_here 31 = .ok (.ireturn, 1) := dk_172 (dk_at dksX5_here_1 8 rfl rfl)
abbrev cX5_isLetter : ByteArray := prog_6_method_3_code
def yX5_isLetter : MethodName := ⟨RX5, "isLetter", "()Z"⟩
def dkwX5_isLetter_0 : List UInt8 := [42, 182, 0, 74, 16, 97, 16, 122, 184, 0, 78, 172]
abbrev dktX5_isLetter_0 : List UInt8 := dkwX5_isLetter_0 ++ []
theorem dksX5_isLetter_0 : cX5_isLetter.data.toList.drop 0 = dktX5_isLetter_0 := by decide +kernel
theorem dX5_isLetter_0 : decode cX5_isLetter 0 = .ok (.aload_n 0, 1) := dk_42 (dk_at dksX5_isLetter_0 0 rfl rfl)
theorem dX5_isLetter_1 : decode cX5_isLetter 1 = .ok (.invokevirtual 74, 3) := dk_182 0 74 (dk_at dksX5_isLetter_0 1 rfl rfl)
theorem dX5_isLetter_4 : decode cX5_isLetter 4 = .ok (.bipush 97, 2) := dk_16 97 (dk_at dksX5_isLetter_0 4 rfl rfl)
theorem dX5_isLetter_6 : decode cX5_isLetter 6 = .ok (.bipush 122, 2) := dk_16 122 (dk_at dksX5_isLetter_0 6 rfl rfl)
theorem dX5_isLetter_8 : decode cX5_isLetter 8 = .ok (.invokestatic 78, 3) := dk_184 0 78 (dk_at dksX5_isLetter_0 8 rfl rfl)
theorem dX5_isLetter_11 : decode cX5_isLetter 11 = .ok (.ireturn, 1) := dk_172 (dk_at dksX5_isLetter_0 11 rfl rfl)
abbrev cX5_isDigit : ByteArray := prog_6_method_4_code
def yX5_isDigit : MethodName := ⟨RX5, "isDigit", "()Z"⟩
def dkwX5_isDigit_0 : List UInt8 := [42, 182, 0, 74, 16, 48, 16, 57, 184, 0, 78, 172]
abbrev dktX5_isDigit_0 : List UInt8 := dkwX5_isDigit_0 ++ []
theorem dksX5_isDigit_0 : cX5_isDigit.data.toList.drop 0 = dktX5_isDigit_0 := by decide +kernel
theorem dX5_isDigit_0 : decode cX5_isDigit 0 = .ok (.aload_n 0, 1) := dk_42 (dk_at dksX5_isDigit_0 0 rfl rfl)
theorem dX5_isDigit_1 : decode cX5_isDigit 1 = .ok (.invokevirtual 74, 3) := dk_182 0 74 (dk_at dksX5_isDigit_0 1 rfl rfl)
theorem dX5_isDigit_4 : decode cX5_isDigit 4 = .ok (.bipush 48, 2) := dk_16 48 (dk_at dksX5_isDigit_0 4 rfl rfl)
theorem dX5_isDigit_6 : decode cX5_isDigit 6 = .ok (.bipush 57, 2) := dk_16 57 (dk_at dksX5_isDigit_0 6 rfl rfl)
theorem dX5_isDigit_8 : decode cX5_isDigit 8 = .ok (.invokestatic 78, 3) := dk_184 0 78 (dk_at dksX5_isDigit_0 8 rfl rfl)
theorem dX5_isDigit_11 : decode cX5_isDigit 11 = .ok (.ireturn, 1) := dk_172 (dk_at dksX5_isDigit_0 11 rfl rfl)
abbrev cX5_line : ByteArray := prog_6_method_24_code
def yX5_line : MethodName := ⟨RX5, "line", "()V"⟩
def dkwX5_line_2 : List UInt8 := [4, 182, 0, 133, 42, 182, 1, 12, 42, 42, 16, 59, 182, 0, 145, 4, 182, 0, 133, 42, 182, 0, 125, 177]
abbrev dktX5_line_2 : List UInt8 := dkwX5_line_2 ++ []
def dkwX5_line_1 : List UInt8 := [19, 1, 7, 182, 0, 121, 153, 0, 10, 42, 182, 1, 8, 167, 0, 19, 42, 42, 19, 1, 10, 182, 0, 121]
abbrev dktX5_line_1 : List UInt8 := dkwX5_line_1 ++ dktX5_line_2
def dkwX5_line_0 : List UInt8 := [42, 42, 180, 0, 39, 182, 0, 153, 60, 27, 2, 159, 0, 11, 42, 27, 182, 1, 4, 167, 0, 36, 42]
abbrev dktX5_line_0 : List UInt8 := dkwX5_line_0 ++ dktX5_line_1
theorem dksX5_line_0 : cX5_line.data.toList.drop 0 = dktX5_line_0 := by decide +kernel
theorem dksX5_line_1 : cX5_line.data.toList.drop 23 = dktX5_line_1 := dk_seg dksX5_line_0 23 rfl rfl
theorem dksX5_line_2 : cX5_line.data.toList.drop 47 = dktX5_line_2 := dk_seg dksX5_line_1 24 rfl rfl
theorem dX5_line_0 : decode cX5_line 0 = .ok (.aload_n 0, 1) := dk_42 (dk_at dksX5_line_0 0 rfl rfl)
theorem dX5_line_1 : decode cX5_line 1 = .ok (.aload_n 0, 1) := dk_42 (dk_at dksX5_line_0 1 rfl rfl)
theorem dX5_line_2 : decode cX5_line 2 = .ok (.getfield 39, 3) := dk_180 0 39 (dk_at dksX5_line_0 2 rfl rfl)
theorem dX5_line_5 : decode cX5_line 5 = .ok (.invokevirtual 153, 3) := dk_182 0 153 (dk_at dksX5_line_0 5 rfl rfl)
theorem dX5_line_8 : decode cX5_line 8 = .ok (.istore_n 1, 1) := dk_60 (dk_at dksX5_line_0 8 rfl rfl)
theorem dX5_line_9 : decode cX5_line 9 = .ok (.iload_n 1, 1) := dk_27 (dk_at dksX5_line_0 9 rfl rfl)
theorem dX5_line_10 : decode cX5_line 10 = .ok (.iconst (-1), 1) := dk_2 (dk_at dksX5_line_0 10 rfl rfl)
theorem dX5_line_11 : decode cX5_line 11 = .ok (.if_icmp .eq 11, 3) := dk_159 0 11 (dk_at dksX5_line_0 11 rfl rfl)
theorem dX5_line_14 : decode cX5_line 14 = .ok (.aload_n 0, 1) := dk_42 (dk_at dksX5_line_0 14 rfl rfl)
theorem dX5_line_15 : decode cX5_line 15 = .ok (.iload_n 1, 1) := dk_27 (dk_at dksX5_line_0 15 rfl rfl)
theorem dX5_line_16 : decode cX5_line 16 = .ok (.invokevirtual 260, 3) := dk_182 1 4 (dk_at dksX5_line_0 16 rfl rfl)
theorem dX5_line_19 : decode cX5_line 19 = .ok (.goto 36, 3) := dk_167 0 36 (dk_at dksX5_line_0 19 rfl rfl)
theorem dX5_line_22 : decode cX5_line 22 = .ok (.aload_n 0, 1) := dk_42 (dk_at dksX5_line_0 22 rfl rfl)
theorem dX5_line_23 : decode cX5_line 23 = .ok (.ldc_w 263, 3) := dk_19 1 7 (dk_at dksX5_line_1 0 rfl rfl)
theorem dX5_line_26 : decode cX5_line 26 = .ok (.invokevirtual 121, 3) := dk_182 0 121 (dk_at dksX5_line_1 3 rfl rfl)
theorem dX5_line_29 : decode cX5_line 29 = .ok (.ifCond .eq 10, 3) := dk_153 0 10 (dk_at dksX5_line_1 6 rfl rfl)
theorem dX5_line_32 : decode cX5_line 32 = .ok (.aload_n 0, 1) := dk_42 (dk_at dksX5_line_1 9 rfl rfl)
theorem dX5_line_33 : decode cX5_line 33 = .ok (.invokevirtual 264, 3) := dk_182 1 8 (dk_at dksX5_line_1 10 rfl rfl)
theorem dX5_line_36 : decode cX5_line 36 = .ok (.goto 19, 3) := dk_167 0 19 (dk_at dksX5_line_1 13 rfl rfl)
theorem dX5_line_39 : decode cX5_line 39 = .ok (.aload_n 0, 1) := dk_42 (dk_at dksX5_line_1 16 rfl rfl)
theorem dX5_line_40 : decode cX5_line 40 = .ok (.aload_n 0, 1) := dk_42 (dk_at dksX5_line_1 17 rfl rfl)
theorem dX5_line_41 : decode cX5_line 41 = .ok (.ldc_w 266, 3) := dk_19 1 10 (dk_at dksX5_line_1 18 rfl rfl)
theorem dX5_line_44 : decode cX5_line 44 = .ok (.invokevirtual 121, 3) := dk_182 0 121 (dk_at dksX5_line_1 21 rfl rfl)
theorem dX5_line_47 : decode cX5_line 47 = .ok (.iconst 1, 1) := dk_4 (dk_at dksX5_line_2 0 rfl rfl)
theorem dX5_line_48 : decode cX5_line 48 = .ok (.invokevirtual 133, 3) := dk_182 0 133 (dk_at dksX5_line_2 1 rfl rfl)
theorem dX5_line_51 : decode cX5_line 51 = .ok (.aload_n 0, 1) := dk_42 (dk_at dksX5_line_2 4 rfl rfl)
theorem dX5_line_52 : decode cX5_line 52 = .ok (.invokevirtual 268, 3) := dk_182 1 12 (dk_at dksX5_line_2 5 rfl rfl)
theorem dX5_line_55 : decode cX5_line 55 = .ok (.aload_n 0, 1) := dk_42 (dk_at dksX5_line_2 8 rfl rfl)
theorem dX5_line_56 : decode cX5_line 56 = .ok (.aload_n 0, 1) := dk_42 (dk_at dksX5_line_2 9 rfl rfl)
theorem dX5_line_57 : decode cX5_line 57 = .ok (.bipush 59, 2) := dk_16 59 (dk_at dksX5_line_2 10 rfl rfl)
theorem dX5_line_59 : decode cX5_line 59 = .ok (.invokevirtual 145, 3) := dk_182 0 145 (dk_at dksX5_line_2 12 rfl rfl)
theorem dX5_line_62 : decode cX5_line 62 = .ok (.iconst 1, 1) := dk_4 (dk_at dksX5_line_2 15 rfl rfl)
theorem dX5_line_63 : decode cX5_line 63 = .ok (.invokevirtual 133, 3) := dk_182 0 133 (dk_at dksX5_line_2 16 rfl rfl)
theorem dX5_line_66 : decode cX5_line 66 = .ok (.aload_n 0, 1) := dk_42 (dk_at dksX5_line_2 19 rfl rfl)
theorem dX5_line_67 : decode cX5_line 67 = .ok (.invokevirtual 125, 3) := dk_182 0 125 (dk_at dksX5_line_2 20 rfl rfl)
theorem dX5_line_70 : decode cX5_line 70 = .ok (.return_, 1) := dk_177 (dk_at dksX5_line_2 23 rfl rfl)
abbrev cX5_which : ByteArray := prog_6_method_7_code
def yX5_which : MethodName := ⟨RX5, "which", "([Ljava/lang/String;)I"⟩
def dkwX5_which_1 : List UInt8 := [167, 255, 235, 2, 172]
abbrev dktX5_which_1 : List UInt8 := dkwX5_which_1 ++ []
def dkwX5_which_0 : List UInt8 := [3, 61, 28, 43, 190, 162, 0, 21, 42, 43, 28, 50, 182, 0, 121, 153, 0, 5, 28, 172, 132, 2, 1]
abbrev dktX5_which_0 : List UInt8 := dkwX5_which_0 ++ dktX5_which_1
theorem dksX5_which_0 : cX5_which.data.toList.drop 0 = dktX5_which_0 := by decide +kernel
theorem dksX5_which_1 : cX5_which.data.toList.drop 23 = dktX5_which_1 := dk_seg dksX5_which_0 23 rfl rfl
theorem dX5_which_0 : decode cX5_which 0 = .ok (.iconst 0, 1) := dk_3 (dk_at dksX5_which_0 0 rfl rfl)
theorem dX5_which_1 : decode cX5_which 1 = .ok (.istore_n 2, 1) := dk_61 (dk_at dksX5_which_0 1 rfl rfl)
theorem dX5_which_2 : decode cX5_which 2 = .ok (.iload_n 2, 1) := dk_28 (dk_at dksX5_which_0 2 rfl rfl)
theorem dX5_which_3 : decode cX5_which 3 = .ok (.aload_n 1, 1) := dk_43 (dk_at dksX5_which_0 3 rfl rfl)
theorem dX5_which_4 : decode cX5_which 4 = .ok (.arraylength, 1) := dk_190 (dk_at dksX5_which_0 4 rfl rfl)
theorem dX5_which_5 : decode cX5_which 5 = .ok (.if_icmp .ge 21, 3) := dk_162 0 21 (dk_at dksX5_which_0 5 rfl rfl)
theorem dX5_which_8 : decode cX5_which 8 = .ok (.aload_n 0, 1) := dk_42 (dk_at dksX5_which_0 8 rfl rfl)
theorem dX5_which_9 : decode cX5_which 9 = .ok (.aload_n 1, 1) := dk_43 (dk_at dksX5_which_0 9 rfl rfl)
theorem dX5_which_10 : decode cX5_which 10 = .ok (.iload_n 2, 1) := dk_28 (dk_at dksX5_which_0 10 rfl rfl)
theorem dX5_which_11 : decode cX5_which 11 = .ok (.aaload, 1) := dk_50 (dk_at dksX5_which_0 11 rfl rfl)
theorem dX5_which_12 : decode cX5_which 12 = .ok (.invokevirtual 121, 3) := dk_182 0 121 (dk_at dksX5_which_0 12 rfl rfl)
theorem dX5_which_15 : decode cX5_which 15 = .ok (.ifCond .eq 5, 3) := dk_153 0 5 (dk_at dksX5_which_0 15 rfl rfl)
theorem dX5_which_18 : decode cX5_which 18 = .ok (.iload_n 2, 1) := dk_28 (dk_at dksX5_which_0 18 rfl rfl)
theorem dX5_which_19 : decode cX5_which 19 = .ok (.ireturn, 1) := dk_172 (dk_at dksX5_which_0 19 rfl rfl)
theorem dX5_which_20 : decode cX5_which 20 = .ok (.iinc 2 1, 3) := dk_132 2 1 (dk_at dksX5_which_0 20 rfl rfl)
theorem dX5_which_23 : decode cX5_which 23 = .ok (.goto (-21), 3) := dk_167 255 235 (dk_at dksX5_which_1 0 rfl rfl)
theorem dX5_which_26 : decode cX5_which 26 = .ok (.iconst (-1), 1) := dk_2 (dk_at dksX5_which_1 3 rfl rfl)
theorem dX5_which_27 : decode cX5_which 27 = .ok (.ireturn, 1) := dk_172 (dk_at dksX5_which_1 4 rfl rfl)
abbrev cX5_is : ByteArray := prog_6_method_6_code
def yX5_is : MethodName := ⟨RX5, "is", "(Ljava/lang/String;)Z"⟩
def dkwX5_is_2 : List UInt8 := [42, 180, 0, 82, 28, 96, 51, 17, 0, 255, 126, 159, 0, 5, 3, 172, 132, 2, 1, 167, 255, 217, 4, 172]
abbrev dktX5_is_2 : List UInt8 := dkwX5_is_2 ++ []
def dkwX5_is_1 : List UInt8 := [3, 172, 3, 61, 28, 43, 182, 0, 114, 162, 0, 37, 43, 28, 182, 0, 117, 42, 180, 0, 3, 180, 0, 70]
abbrev dktX5_is_1 : List UInt8 := dkwX5_is_1 ++ dktX5_is_2
def dkwX5_is_0 : List UInt8 := [42, 180, 0, 85, 4, 160, 0, 19, 43, 182, 0, 114, 42, 180, 0, 111, 42, 180, 0, 82, 100, 159, 0, 5]
abbrev dktX5_is_0 : List UInt8 := dkwX5_is_0 ++ dktX5_is_1
theorem dksX5_is_0 : cX5_is.data.toList.drop 0 = dktX5_is_0 := by decide +kernel
theorem dksX5_is_1 : cX5_is.data.toList.drop 24 = dktX5_is_1 := dk_seg dksX5_is_0 24 rfl rfl
theorem dksX5_is_2 : cX5_is.data.toList.drop 48 = dktX5_is_2 := dk_seg dksX5_is_1 24 rfl rfl
theorem dX5_is_0 : decode cX5_is 0 = .ok (.aload_n 0, 1) := dk_42 (dk_at dksX5_is_0 0 rfl rfl)
theorem dX5_is_1 : decode cX5_is 1 = .ok (.getfield 85, 3) := dk_180 0 85 (dk_at dksX5_is_0 1 rfl rfl)
theorem dX5_is_4 : decode cX5_is 4 = .ok (.iconst 1, 1) := dk_4 (dk_at dksX5_is_0 4 rfl rfl)
theorem dX5_is_5 : decode cX5_is 5 = .ok (.if_icmp .ne 19, 3) := dk_160 0 19 (dk_at dksX5_is_0 5 rfl rfl)
theorem dX5_is_8 : decode cX5_is 8 = .ok (.aload_n 1, 1) := dk_43 (dk_at dksX5_is_0 8 rfl rfl)
theorem dX5_is_9 : decode cX5_is 9 = .ok (.invokevirtual 114, 3) := dk_182 0 114 (dk_at dksX5_is_0 9 rfl rfl)
theorem dX5_is_12 : decode cX5_is 12 = .ok (.aload_n 0, 1) := dk_42 (dk_at dksX5_is_0 12 rfl rfl)
theorem dX5_is_13 : decode cX5_is 13 = .ok (.getfield 111, 3) := dk_180 0 111 (dk_at dksX5_is_0 13 rfl rfl)
theorem dX5_is_16 : decode cX5_is 16 = .ok (.aload_n 0, 1) := dk_42 (dk_at dksX5_is_0 16 rfl rfl)
theorem dX5_is_17 : decode cX5_is 17 = .ok (.getfield 82, 3) := dk_180 0 82 (dk_at dksX5_is_0 17 rfl rfl)
theorem dX5_is_20 : decode cX5_is 20 = .ok (.isub, 1) := dk_100 (dk_at dksX5_is_0 20 rfl rfl)
theorem dX5_is_21 : decode cX5_is 21 = .ok (.if_icmp .eq 5, 3) := dk_159 0 5 (dk_at dksX5_is_0 21 rfl rfl)
theorem dX5_is_24 : decode cX5_is 24 = .ok (.iconst 0, 1) := dk_3 (dk_at dksX5_is_1 0 rfl rfl)
theorem dX5_is_25 : decode cX5_is 25 = .ok (.ireturn, 1) := dk_172 (dk_at dksX5_is_1 1 rfl rfl)
theorem dX5_is_26 : decode cX5_is 26 = .ok (.iconst 0, 1) := dk_3 (dk_at dksX5_is_1 2 rfl rfl)
theorem dX5_is_27 : decode cX5_is 27 = .ok (.istore_n 2, 1) := dk_61 (dk_at dksX5_is_1 3 rfl rfl)
theorem dX5_is_28 : decode cX5_is 28 = .ok (.iload_n 2, 1) := dk_28 (dk_at dksX5_is_1 4 rfl rfl)
theorem dX5_is_29 : decode cX5_is 29 = .ok (.aload_n 1, 1) := dk_43 (dk_at dksX5_is_1 5 rfl rfl)
theorem dX5_is_30 : decode cX5_is 30 = .ok (.invokevirtual 114, 3) := dk_182 0 114 (dk_at dksX5_is_1 6 rfl rfl)
theorem dX5_is_33 : decode cX5_is 33 = .ok (.if_icmp .ge 37, 3) := dk_162 0 37 (dk_at dksX5_is_1 9 rfl rfl)
theorem dX5_is_36 : decode cX5_is 36 = .ok (.aload_n 1, 1) := dk_43 (dk_at dksX5_is_1 12 rfl rfl)
theorem dX5_is_37 : decode cX5_is 37 = .ok (.iload_n 2, 1) := dk_28 (dk_at dksX5_is_1 13 rfl rfl)
theorem dX5_is_38 : decode cX5_is 38 = .ok (.invokevirtual 117, 3) := dk_182 0 117 (dk_at dksX5_is_1 14 rfl rfl)
theorem dX5_is_41 : decode cX5_is 41 = .ok (.aload_n 0, 1) := dk_42 (dk_at dksX5_is_1 17 rfl rfl)
theorem dX5_is_42 : decode cX5_is 42 = .ok (.getfield 3, 3) := dk_180 0 3 (dk_at dksX5_is_1 18 rfl rfl)
theorem dX5_is_45 : decode cX5_is 45 = .ok (.getfield 70, 3) := dk_180 0 70 (dk_at dksX5_is_1 21 rfl rfl)
theorem dX5_is_48 : decode cX5_is 48 = .ok (.aload_n 0, 1) := dk_42 (dk_at dksX5_is_2 0 rfl rfl)
theorem dX5_is_49 : decode cX5_is 49 = .ok (.getfield 82, 3) := dk_180 0 82 (dk_at dksX5_is_2 1 rfl rfl)
theorem dX5_is_52 : decode cX5_is 52 = .ok (.iload_n 2, 1) := dk_28 (dk_at dksX5_is_2 4 rfl rfl)
theorem dX5_is_53 : decode cX5_is 53 = .ok (.iadd, 1) := dk_96 (dk_at dksX5_is_2 5 rfl rfl)
theorem dX5_is_54 : decode cX5_is 54 = .ok (.baload, 1) := dk_51 (dk_at dksX5_is_2 6 rfl rfl)
theorem dX5_is_55 : decode cX5_is 55 = .ok (.sipush 255, 3) := dk_17 0 255 (dk_at dksX5_is_2 7 rfl rfl)
theorem dX5_is_58 : decode cX5_is 58 = .ok (.iand, 1) := dk_126 (dk_at dksX5_is_2 10 rfl rfl)
theorem dX5_is_59 : decode cX5_is 59 = .ok (.if_icmp .eq 5, 3) := dk_159 0 5 (dk_at dksX5_is_2 11 rfl rfl)
theorem dX5_is_62 : decode cX5_is 62 = .ok (.iconst 0, 1) := dk_3 (dk_at dksX5_is_2 14 rfl rfl)
theorem dX5_is_63 : decode cX5_is 63 = .ok (.ireturn, 1) := dk_172 (dk_at dksX5_is_2 15 rfl rfl)
theorem dX5_is_64 : decode cX5_is 64 = .ok (.iinc 2 1, 3) := dk_132 2 1 (dk_at dksX5_is_2 16 rfl rfl)
theorem dX5_is_67 : decode cX5_is 67 = .ok (.goto (-39), 3) := dk_167 255 217 (dk_at dksX5_is_2 19 rfl rfl)
theorem dX5_is_70 : decode cX5_is 70 = .ok (.iconst 1, 1) := dk_4 (dk_at dksX5_is_2 22 rfl rfl)
theorem dX5_is_71 : decode cX5_is 71 = .ok (.ireturn, 1) := dk_172 (dk_at dksX5_is_2 23 rfl rfl)
abbrev cX5_only : ByteArray := prog_6_method_23_code
def yX5_only : MethodName := ⟨RX5, "only", "(I)V"⟩
def dkwX5_only_4 : List UInt8 := [181, 1, 2, 177]
abbrev dktX5_only_4 : List UInt8 := dkwX5_only_4 ++ []
def dkwX5_only_3 : List UInt8 := [77, 27, 4, 160, 0, 14, 42, 180, 0, 18, 44, 181, 0, 255, 167, 0, 11, 42, 180, 0, 18, 44]
abbrev dktX5_only_3 : List UInt8 := dkwX5_only_3 ++ dktX5_only_4
def dkwX5_only_2 : List UInt8 := [27, 4, 160, 0, 10, 42, 180, 0, 53, 167, 0, 7, 42, 180, 0, 58, 181, 0, 61, 42, 3, 182, 0, 149]
abbrev dktX5_only_2 : List UInt8 := dkwX5_only_2 ++ dktX5_only_3
def dkwX5_only_1 : List UInt8 := [180, 0, 250, 4, 27, 120, 128, 181, 0, 250, 42, 182, 0, 125, 27, 154, 0, 8, 42, 182, 0, 253, 177, 42]
abbrev dktX5_only_1 : List UInt8 := dkwX5_only_1 ++ dktX5_only_2
def dkwX5_only_0 : List UInt8 := [42, 42, 180, 0, 250, 27, 184, 0, 238, 154, 0, 7, 4, 167, 0, 4, 3, 8, 182, 0, 133, 42, 89]
abbrev dktX5_only_0 : List UInt8 := dkwX5_only_0 ++ dktX5_only_1
theorem dksX5_only_0 : cX5_only.data.toList.drop 0 = dktX5_only_0 := by decide +kernel
theorem dksX5_only_1 : cX5_only.data.toList.drop 23 = dktX5_only_1 := dk_seg dksX5_only_0 23 rfl rfl
theorem dksX5_only_2 : cX5_only.data.toList.drop 47 = dktX5_only_2 := dk_seg dksX5_only_1 24 rfl rfl
theorem dksX5_only_3 : cX5_only.data.toList.drop 71 = dktX5_only_3 := dk_seg dksX5_only_2 24 rfl rfl
theorem dksX5_only_4 : cX5_only.data.toList.drop 93 = dktX5_only_4 := dk_seg dksX5_only_3 22 rfl rfl
theorem dX5_only_0 : decode cX5_only 0 = .ok (.aload_n 0, 1) := dk_42 (dk_at dksX5_only_0 0 rfl rfl)
theorem dX5_only_1 : decode cX5_only 1 = .ok (.aload_n 0, 1) := dk_42 (dk_at dksX5_only_0 1 rfl rfl)
theorem dX5_only_2 : decode cX5_only 2 = .ok (.getfield 250, 3) := dk_180 0 250 (dk_at dksX5_only_0 2 rfl rfl)
theorem dX5_only_5 : decode cX5_only 5 = .ok (.iload_n 1, 1) := dk_27 (dk_at dksX5_only_0 5 rfl rfl)
theorem dX5_only_6 : decode cX5_only 6 = .ok (.invokestatic 238, 3) := dk_184 0 238 (dk_at dksX5_only_0 6 rfl rfl)
theorem dX5_only_9 : decode cX5_only 9 = .ok (.ifCond .ne 7, 3) := dk_154 0 7 (dk_at dksX5_only_0 9 rfl rfl)
theorem dX5_only_12 : decode cX5_only 12 = .ok (.iconst 1, 1) := dk_4 (dk_at dksX5_only_0 12 rfl rfl)
theorem dX5_only_13 : decode cX5_only 13 = .ok (.goto 4, 3) := dk_167 0 4 (dk_at dksX5_only_0 13 rfl rfl)
theorem dX5_only_16 : decode cX5_only 16 = .ok (.iconst 0, 1) := dk_3 (dk_at dksX5_only_0 16 rfl rfl)
theorem dX5_only_17 : decode cX5_only 17 = .ok (.iconst 5, 1) := dk_8 (dk_at dksX5_only_0 17 rfl rfl)
theorem dX5_only_18 : decode cX5_only 18 = .ok (.invokevirtual 133, 3) := dk_182 0 133 (dk_at dksX5_only_0 18 rfl rfl)
theorem dX5_only_21 : decode cX5_only 21 = .ok (.aload_n 0, 1) := dk_42 (dk_at dksX5_only_0 21 rfl rfl)
theorem dX5_only_22 : decode cX5_only 22 = .ok (.dup, 1) := dk_89 (dk_at dksX5_only_0 22 rfl rfl)
theorem dX5_only_23 : decode cX5_only 23 = .ok (.getfield 250, 3) := dk_180 0 250 (dk_at dksX5_only_1 0 rfl rfl)
theorem dX5_only_26 : decode cX5_only 26 = .ok (.iconst 1, 1) := dk_4 (dk_at dksX5_only_1 3 rfl rfl)
theorem dX5_only_27 : decode cX5_only 27 = .ok (.iload_n 1, 1) := dk_27 (dk_at dksX5_only_1 4 rfl rfl)
theorem dX5_only_28 : decode cX5_only 28 = .ok (.ishl, 1) := dk_120 (dk_at dksX5_only_1 5 rfl rfl)
theorem dX5_only_29 : decode cX5_only 29 = .ok (.ior, 1) := dk_128 (dk_at dksX5_only_1 6 rfl rfl)
theorem dX5_only_30 : decode cX5_only 30 = .ok (.putfield 250, 3) := dk_181 0 250 (dk_at dksX5_only_1 7 rfl rfl)
theorem dX5_only_33 : decode cX5_only 33 = .ok (.aload_n 0, 1) := dk_42 (dk_at dksX5_only_1 10 rfl rfl)
theorem dX5_only_34 : decode cX5_only 34 = .ok (.invokevirtual 125, 3) := dk_182 0 125 (dk_at dksX5_only_1 11 rfl rfl)
theorem dX5_only_37 : decode cX5_only 37 = .ok (.iload_n 1, 1) := dk_27 (dk_at dksX5_only_1 14 rfl rfl)
theorem dX5_only_38 : decode cX5_only 38 = .ok (.ifCond .ne 8, 3) := dk_154 0 8 (dk_at dksX5_only_1 15 rfl rfl)
theorem dX5_only_41 : decode cX5_only 41 = .ok (.aload_n 0, 1) := dk_42 (dk_at dksX5_only_1 18 rfl rfl)
theorem dX5_only_42 : decode cX5_only 42 = .ok (.invokevirtual 253, 3) := dk_182 0 253 (dk_at dksX5_only_1 19 rfl rfl)
theorem dX5_only_45 : decode cX5_only 45 = .ok (.return_, 1) := dk_177 (dk_at dksX5_only_1 22 rfl rfl)
theorem dX5_only_46 : decode cX5_only 46 = .ok (.aload_n 0, 1) := dk_42 (dk_at dksX5_only_1 23 rfl rfl)
theorem dX5_only_47 : decode cX5_only 47 = .ok (.iload_n 1, 1) := dk_27 (dk_at dksX5_only_2 0 rfl rfl)
theorem dX5_only_48 : decode cX5_only 48 = .ok (.iconst 1, 1) := dk_4 (dk_at dksX5_only_2 1 rfl rfl)
theorem dX5_only_49 : decode cX5_only 49 = .ok (.if_icmp .ne 10, 3) := dk_160 0 10 (dk_at dksX5_only_2 2 rfl rfl)
theorem dX5_only_52 : decode cX5_only 52 = .ok (.aload_n 0, 1) := dk_42 (dk_at dksX5_only_2 5 rfl rfl)
theorem dX5_only_53 : decode cX5_only 53 = .ok (.getfield 53, 3) := dk_180 0 53 (dk_at dksX5_only_2 6 rfl rfl)
theorem dX5_only_56 : decode cX5_only 56 = .ok (.goto 7, 3) := dk_167 0 7 (dk_at dksX5_only_2 9 rfl rfl)
theorem dX5_only_59 : decode cX5_only 59 = .ok (.aload_n 0, 1) := dk_42 (dk_at dksX5_only_2 12 rfl rfl)
theorem dX5_only_60 : decode cX5_only 60 = .ok (.getfield 58, 3) := dk_180 0 58 (dk_at dksX5_only_2 13 rfl rfl)
theorem dX5_only_63 : decode cX5_only 63 = .ok (.putfield 61, 3) := dk_181 0 61 (dk_at dksX5_only_2 16 rfl rfl)
theorem dX5_only_66 : decode cX5_only 66 = .ok (.aload_n 0, 1) := dk_42 (dk_at dksX5_only_2 19 rfl rfl)
theorem dX5_only_67 : decode cX5_only 67 = .ok (.iconst 0, 1) := dk_3 (dk_at dksX5_only_2 20 rfl rfl)
theorem dX5_only_68 : decode cX5_only 68 = .ok (.invokevirtual 149, 3) := dk_182 0 149 (dk_at dksX5_only_2 21 rfl rfl)
theorem dX5_only_71 : decode cX5_only 71 = .ok (.astore_n 2, 1) := dk_77 (dk_at dksX5_only_3 0 rfl rfl)
theorem dX5_only_72 : decode cX5_only 72 = .ok (.iload_n 1, 1) := dk_27 (dk_at dksX5_only_3 1 rfl rfl)
theorem dX5_only_73 : decode cX5_only 73 = .ok (.iconst 1, 1) := dk_4 (dk_at dksX5_only_3 2 rfl rfl)
theorem dX5_only_74 : decode cX5_only 74 = .ok (.if_icmp .ne 14, 3) := dk_160 0 14 (dk_at dksX5_only_3 3 rfl rfl)
theorem dX5_only_77 : decode cX5_only 77 = .ok (.aload_n 0, 1) := dk_42 (dk_at dksX5_only_3 6 rfl rfl)
theorem dX5_only_78 : decode cX5_only 78 = .ok (.getfield 18, 3) := dk_180 0 18 (dk_at dksX5_only_3 7 rfl rfl)
theorem dX5_only_81 : decode cX5_only 81 = .ok (.aload_n 2, 1) := dk_44 (dk_at dksX5_only_3 10 rfl rfl)
theorem dX5_only_82 : decode cX5_only 82 = .ok (.putfield 255, 3) := dk_181 0 255 (dk_at dksX5_only_3 11 rfl rfl)
theorem dX5_only_85 : decode cX5_only 85 = .ok (.goto 11, 3) := dk_167 0 11 (dk_at dksX5_only_3 14 rfl rfl)
theorem dX5_only_88 : decode cX5_only 88 = .ok (.aload_n 0, 1) := dk_42 (dk_at dksX5_only_3 17 rfl rfl)
theorem dX5_only_89 : decode cX5_only 89 = .ok (.getfield 18, 3) := dk_180 0 18 (dk_at dksX5_only_3 18 rfl rfl)
theorem dX5_only_92 : decode cX5_only 92 = .ok (.aload_n 2, 1) := dk_44 (dk_at dksX5_only_3 21 rfl rfl)
theorem dX5_only_93 : decode cX5_only 93 = .ok (.putfield 258, 3) := dk_181 1 2 (dk_at dksX5_only_4 0 rfl rfl)
theorem dX5_only_96 : decode cX5_only 96 = .ok (.return_, 1) := dk_177 (dk_at dksX5_only_4 3 rfl rfl)
abbrev cX5_want : ByteArray := prog_6_method_10_code
def yX5_want : MethodName := ⟨RX5, "want", "(ZI)V"⟩
def dkwX5_want_0 : List UInt8 := [27, 154, 0, 12, 187, 0, 128, 89, 28, 183, 0, 130, 191, 177]
abbrev dktX5_want_0 : List UInt8 := dkwX5_want_0 ++ []
theorem dksX5_want_0 : cX5_want.data.toList.drop 0 = dktX5_want_0 := by decide +kernel
theorem dX5_want_0 : decode cX5_want 0 = .ok (.iload_n 1, 1) := dk_27 (dk_at dksX5_want_0 0 rfl rfl)
theorem dX5_want_1 : decode cX5_want 1 = .ok (.ifCond .ne 12, 3) := dk_154 0 12 (dk_at dksX5_want_0 1 rfl rfl)
theorem dX5_want_4 : decode cX5_want 4 = .ok (.new 128, 3) := dk_187 0 128 (dk_at dksX5_want_0 4 rfl rfl)
theorem dX5_want_7 : decode cX5_want 7 = .ok (.dup, 1) := dk_89 (dk_at dksX5_want_0 7 rfl rfl)
theorem dX5_want_8 : decode cX5_want 8 = .ok (.iload_n 2, 1) := dk_28 (dk_at dksX5_want_0 8 rfl rfl)
theorem dX5_want_9 : decode cX5_want 9 = .ok (.invokespecial 130, 3) := dk_183 0 130 (dk_at dksX5_want_0 9 rfl rfl)
theorem dX5_want_12 : decode cX5_want 12 = .ok (.athrow, 1) := dk_191 (dk_at dksX5_want_0 12 rfl rfl)
theorem dX5_want_13 : decode cX5_want 13 = .ok (.return_, 1) := dk_177 (dk_at dksX5_want_0 13 rfl rfl)
abbrev cX5_damps : ByteArray := prog_6_method_22_code
def yX5_damps : MethodName := ⟨RX5, "damps", "()V"⟩
def dkwX5_damps_3 : List UInt8 := [184, 0, 212, 185, 0, 218, 2, 0, 87, 167, 255, 198, 177]
abbrev dktX5_damps_3 : List UInt8 := dkwX5_damps_3 ++ []
def dkwX5_damps_2 : List UInt8 := [167, 0, 4, 3, 5, 182, 0, 133, 42, 180, 0, 18, 180, 0, 245, 42, 3, 16, 9, 182, 0, 142]
abbrev dktX5_damps_2 : List UInt8 := dkwX5_damps_2 ++ dktX5_damps_3
def dkwX5_damps_1 : List UInt8 := [160, 0, 56, 42, 42, 180, 0, 18, 180, 0, 245, 185, 0, 248, 1, 0, 16, 8, 162, 0, 7, 4]
abbrev dktX5_damps_1 : List UInt8 := dkwX5_damps_1 ++ dktX5_damps_2
def dkwX5_damps_0 : List UInt8 := [42, 42, 180, 0, 85, 5, 160, 0, 7, 4, 167, 0, 4, 3, 4, 182, 0, 133, 42, 180, 0, 85, 5]
abbrev dktX5_damps_0 : List UInt8 := dkwX5_damps_0 ++ dktX5_damps_1
theorem dksX5_damps_0 : cX5_damps.data.toList.drop 0 = dktX5_damps_0 := by decide +kernel
theorem dksX5_damps_1 : cX5_damps.data.toList.drop 23 = dktX5_damps_1 := dk_seg dksX5_damps_0 23 rfl rfl
theorem dksX5_damps_2 : cX5_damps.data.toList.drop 45 = dktX5_damps_2 := dk_seg dksX5_damps_1 22 rfl rfl
theorem dksX5_damps_3 : cX5_damps.data.toList.drop 67 = dktX5_damps_3 := dk_seg dksX5_damps_2 22 rfl rfl
theorem dX5_damps_0 : decode cX5_damps 0 = .ok (.aload_n 0, 1) := dk_42 (dk_at dksX5_damps_0 0 rfl rfl)
theorem dX5_damps_1 : decode cX5_damps 1 = .ok (.aload_n 0, 1) := dk_42 (dk_at dksX5_damps_0 1 rfl rfl)
theorem dX5_damps_2 : decode cX5_damps 2 = .ok (.getfield 85, 3) := dk_180 0 85 (dk_at dksX5_damps_0 2 rfl rfl)
theorem dX5_damps_5 : decode cX5_damps 5 = .ok (.iconst 2, 1) := dk_5 (dk_at dksX5_damps_0 5 rfl rfl)
theorem dX5_damps_6 : decode cX5_damps 6 = .ok (.if_icmp .ne 7, 3) := dk_160 0 7 (dk_at dksX5_damps_0 6 rfl rfl)
theorem dX5_damps_9 : decode cX5_damps 9 = .ok (.iconst 1, 1) := dk_4 (dk_at dksX5_damps_0 9 rfl rfl)
theorem dX5_damps_10 : decode cX5_damps 10 = .ok (.goto 4, 3) := dk_167 0 4 (dk_at dksX5_damps_0 10 rfl rfl)
theorem dX5_damps_13 : decode cX5_damps 13 = .ok (.iconst 0, 1) := dk_3 (dk_at dksX5_damps_0 13 rfl rfl)
theorem dX5_damps_14 : decode cX5_damps 14 = .ok (.iconst 1, 1) := dk_4 (dk_at dksX5_damps_0 14 rfl rfl)
theorem dX5_damps_15 : decode cX5_damps 15 = .ok (.invokevirtual 133, 3) := dk_182 0 133 (dk_at dksX5_damps_0 15 rfl rfl)
theorem dX5_damps_18 : decode cX5_damps 18 = .ok (.aload_n 0, 1) := dk_42 (dk_at dksX5_damps_0 18 rfl rfl)
theorem dX5_damps_19 : decode cX5_damps 19 = .ok (.getfield 85, 3) := dk_180 0 85 (dk_at dksX5_damps_0 19 rfl rfl)
theorem dX5_damps_22 : decode cX5_damps 22 = .ok (.iconst 2, 1) := dk_5 (dk_at dksX5_damps_0 22 rfl rfl)
theorem dX5_damps_23 : decode cX5_damps 23 = .ok (.if_icmp .ne 56, 3) := dk_160 0 56 (dk_at dksX5_damps_1 0 rfl rfl)
theorem dX5_damps_26 : decode cX5_damps 26 = .ok (.aload_n 0, 1) := dk_42 (dk_at dksX5_damps_1 3 rfl rfl)
theorem dX5_damps_27 : decode cX5_damps 27 = .ok (.aload_n 0, 1) := dk_42 (dk_at dksX5_damps_1 4 rfl rfl)
theorem dX5_damps_28 : decode cX5_damps 28 = .ok (.getfield 18, 3) := dk_180 0 18 (dk_at dksX5_damps_1 5 rfl rfl)
theorem dX5_damps_31 : decode cX5_damps 31 = .ok (.getfield 245, 3) := dk_180 0 245 (dk_at dksX5_damps_1 8 rfl rfl)
theorem dX5_damps_34 : decode cX5_damps 34 = .ok (.invokeinterface 248 1, 5) := by decide +kernel
theorem dX5_damps_39 : decode cX5_damps 39 = .ok (.bipush 8, 2) := dk_16 8 (dk_at dksX5_damps_1 16 rfl rfl)
theorem dX5_damps_41 : decode cX5_damps 41 = .ok (.if_icmp .ge 7, 3) := dk_162 0 7 (dk_at dksX5_damps_1 18 rfl rfl)
theorem dX5_damps_44 : decode cX5_damps 44 = .ok (.iconst 1, 1) := dk_4 (dk_at dksX5_damps_1 21 rfl rfl)
theorem dX5_damps_45 : decode cX5_damps 45 = .ok (.goto 4, 3) := dk_167 0 4 (dk_at dksX5_damps_2 0 rfl rfl)
theorem dX5_damps_48 : decode cX5_damps 48 = .ok (.iconst 0, 1) := dk_3 (dk_at dksX5_damps_2 3 rfl rfl)
theorem dX5_damps_49 : decode cX5_damps 49 = .ok (.iconst 2, 1) := dk_5 (dk_at dksX5_damps_2 4 rfl rfl)
theorem dX5_damps_50 : decode cX5_damps 50 = .ok (.invokevirtual 133, 3) := dk_182 0 133 (dk_at dksX5_damps_2 5 rfl rfl)
theorem dX5_damps_53 : decode cX5_damps 53 = .ok (.aload_n 0, 1) := dk_42 (dk_at dksX5_damps_2 8 rfl rfl)
theorem dX5_damps_54 : decode cX5_damps 54 = .ok (.getfield 18, 3) := dk_180 0 18 (dk_at dksX5_damps_2 9 rfl rfl)
theorem dX5_damps_57 : decode cX5_damps 57 = .ok (.getfield 245, 3) := dk_180 0 245 (dk_at dksX5_damps_2 12 rfl rfl)
theorem dX5_damps_60 : decode cX5_damps 60 = .ok (.aload_n 0, 1) := dk_42 (dk_at dksX5_damps_2 15 rfl rfl)
theorem dX5_damps_61 : decode cX5_damps 61 = .ok (.iconst 0, 1) := dk_3 (dk_at dksX5_damps_2 16 rfl rfl)
theorem dX5_damps_62 : decode cX5_damps 62 = .ok (.bipush 9, 2) := dk_16 9 (dk_at dksX5_damps_2 17 rfl rfl)
theorem dX5_damps_64 : decode cX5_damps 64 = .ok (.invokevirtual 142, 3) := dk_182 0 142 (dk_at dksX5_damps_2 19 rfl rfl)
theorem dX5_damps_67 : decode cX5_damps 67 = .ok (.invokestatic 212, 3) := dk_184 0 212 (dk_at dksX5_damps_3 0 rfl rfl)
theorem dX5_damps_70 : decode cX5_damps 70 = .ok (.invokeinterface 218 2, 5) := by decide +kernel
theorem dX5_damps_75 : decode cX5_damps 75 = .ok (.pop, 1) := dk_87 (dk_at dksX5_damps_3 8 rfl rfl)
theorem dX5_damps_76 : decode cX5_damps 76 = .ok (.goto (-58), 3) := dk_167 255 198 (dk_at dksX5_damps_3 9 rfl rfl)
theorem dX5_damps_79 : decode cX5_damps 79 = .ok (.return_, 1) := dk_177 (dk_at dksX5_damps_3 12 rfl rfl)
abbrev cX5_number : ByteArray := prog_6_method_12_code
def yX5_number : MethodName := ⟨RX5, "number", "(II)I"⟩
def dkwX5_number_0 : List UInt8 := [42, 27, 28, 182, 0, 137, 62, 42, 182, 0, 125, 29, 172]
abbrev dktX5_number_0 : List UInt8 := dkwX5_number_0 ++ []
theorem dksX5_number_0 : cX5_number.data.toList.drop 0 = dktX5_number_0 := by decide +kernel
theorem dX5_number_0 : decode cX5_number 0 = .ok (.aload_n 0, 1) := dk_42 (dk_at dksX5_number_0 0 rfl rfl)
theorem dX5_number_1 : decode cX5_number 1 = .ok (.iload_n 1, 1) := dk_27 (dk_at dksX5_number_0 1 rfl rfl)
theorem dX5_number_2 : decode cX5_number 2 = .ok (.iload_n 2, 1) := dk_28 (dk_at dksX5_number_0 2 rfl rfl)
theorem dX5_number_3 : decode cX5_number 3 = .ok (.invokevirtual 137, 3) := dk_182 0 137 (dk_at dksX5_number_0 3 rfl rfl)
theorem dX5_number_6 : decode cX5_number 6 = .ok (.istore_n 3, 1) := dk_62 (dk_at dksX5_number_0 6 rfl rfl)
theorem dX5_number_7 : decode cX5_number 7 = .ok (.aload_n 0, 1) := dk_42 (dk_at dksX5_number_0 7 rfl rfl)
theorem dX5_number_8 : decode cX5_number 8 = .ok (.invokevirtual 125, 3) := dk_182 0 125 (dk_at dksX5_number_0 8 rfl rfl)
theorem dX5_number_11 : decode cX5_number 11 = .ok (.iload_n 3, 1) := dk_29 (dk_at dksX5_number_0 11 rfl rfl)
theorem dX5_number_12 : decode cX5_number 12 = .ok (.ireturn, 1) := dk_172 (dk_at dksX5_number_0 12 rfl rfl)
abbrev cX5_numberNow : ByteArray := prog_6_method_11_code
def yX5_numberNow : MethodName := ⟨RX5, "numberNow", "(II)I"⟩
def dkwX5_numberNow_2 : List UInt8 := [4, 167, 0, 4, 3, 5, 182, 0, 133, 42, 180, 0, 95, 172]
abbrev dktX5_numberNow_2 : List UInt8 := dkwX5_numberNow_2 ++ []
def dkwX5_numberNow_1 : List UInt8 := [180, 0, 82, 100, 7, 163, 0, 23, 42, 180, 0, 95, 27, 161, 0, 15, 42, 180, 0, 95, 28, 163, 0, 7]
abbrev dktX5_numberNow_1 : List UInt8 := dkwX5_numberNow_1 ++ dktX5_numberNow_2
def dkwX5_numberNow_0 : List UInt8 := [42, 42, 180, 0, 85, 5, 160, 0, 7, 4, 167, 0, 4, 3, 4, 182, 0, 133, 42, 42, 180, 0, 111, 42]
abbrev dktX5_numberNow_0 : List UInt8 := dkwX5_numberNow_0 ++ dktX5_numberNow_1
theorem dksX5_numberNow_0 : cX5_numberNow.data.toList.drop 0 = dktX5_numberNow_0 := by decide +kernel
theorem dksX5_numberNow_1 : cX5_numberNow.data.toList.drop 24 = dktX5_numberNow_1 := dk_seg dksX5_numberNow_0 24 rfl rfl
theorem dksX5_numberNow_2 : cX5_numberNow.data.toList.drop 48 = dktX5_numberNow_2 := dk_seg dksX5_numberNow_1 24 rfl rfl
theorem dX5_numberNow_0 : decode cX5_numberNow 0 = .ok (.aload_n 0, 1) := dk_42 (dk_at dksX5_numberNow_0 0 rfl rfl)
theorem dX5_numberNow_1 : decode cX5_numberNow 1 = .ok (.aload_n 0, 1) := dk_42 (dk_at dksX5_numberNow_0 1 rfl rfl)
theorem dX5_numberNow_2 : decode cX5_numberNow 2 = .ok (.getfield 85, 3) := dk_180 0 85 (dk_at dksX5_numberNow_0 2 rfl rfl)
theorem dX5_numberNow_5 : decode cX5_numberNow 5 = .ok (.iconst 2, 1) := dk_5 (dk_at dksX5_numberNow_0 5 rfl rfl)
theorem dX5_numberNow_6 : decode cX5_numberNow 6 = .ok (.if_icmp .ne 7, 3) := dk_160 0 7 (dk_at dksX5_numberNow_0 6 rfl rfl)
theorem dX5_numberNow_9 : decode cX5_numberNow 9 = .ok (.iconst 1, 1) := dk_4 (dk_at dksX5_numberNow_0 9 rfl rfl)
theorem dX5_numberNow_10 : decode cX5_numberNow 10 = .ok (.goto 4, 3) := dk_167 0 4 (dk_at dksX5_numberNow_0 10 rfl rfl)
theorem dX5_numberNow_13 : decode cX5_numberNow 13 = .ok (.iconst 0, 1) := dk_3 (dk_at dksX5_numberNow_0 13 rfl rfl)
theorem dX5_numberNow_14 : decode cX5_numberNow 14 = .ok (.iconst 1, 1) := dk_4 (dk_at dksX5_numberNow_0 14 rfl rfl)
theorem dX5_numberNow_15 : decode cX5_numberNow 15 = .ok (.invokevirtual 133, 3) := dk_182 0 133 (dk_at dksX5_numberNow_0 15 rfl rfl)
theorem dX5_numberNow_18 : decode cX5_numberNow 18 = .ok (.aload_n 0, 1) := dk_42 (dk_at dksX5_numberNow_0 18 rfl rfl)
theorem dX5_numberNow_19 : decode cX5_numberNow 19 = .ok (.aload_n 0, 1) := dk_42 (dk_at dksX5_numberNow_0 19 rfl rfl)
theorem dX5_numberNow_20 : decode cX5_numberNow 20 = .ok (.getfield 111, 3) := dk_180 0 111 (dk_at dksX5_numberNow_0 20 rfl rfl)
theorem dX5_numberNow_23 : decode cX5_numberNow 23 = .ok (.aload_n 0, 1) := dk_42 (dk_at dksX5_numberNow_0 23 rfl rfl)
theorem dX5_numberNow_24 : decode cX5_numberNow 24 = .ok (.getfield 82, 3) := dk_180 0 82 (dk_at dksX5_numberNow_1 0 rfl rfl)
theorem dX5_numberNow_27 : decode cX5_numberNow 27 = .ok (.isub, 1) := dk_100 (dk_at dksX5_numberNow_1 3 rfl rfl)
theorem dX5_numberNow_28 : decode cX5_numberNow 28 = .ok (.iconst 4, 1) := dk_7 (dk_at dksX5_numberNow_1 4 rfl rfl)
theorem dX5_numberNow_29 : decode cX5_numberNow 29 = .ok (.if_icmp .gt 23, 3) := dk_163 0 23 (dk_at dksX5_numberNow_1 5 rfl rfl)
theorem dX5_numberNow_32 : decode cX5_numberNow 32 = .ok (.aload_n 0, 1) := dk_42 (dk_at dksX5_numberNow_1 8 rfl rfl)
theorem dX5_numberNow_33 : decode cX5_numberNow 33 = .ok (.getfield 95, 3) := dk_180 0 95 (dk_at dksX5_numberNow_1 9 rfl rfl)
theorem dX5_numberNow_36 : decode cX5_numberNow 36 = .ok (.iload_n 1, 1) := dk_27 (dk_at dksX5_numberNow_1 12 rfl rfl)
theorem dX5_numberNow_37 : decode cX5_numberNow 37 = .ok (.if_icmp .lt 15, 3) := dk_161 0 15 (dk_at dksX5_numberNow_1 13 rfl rfl)
theorem dX5_numberNow_40 : decode cX5_numberNow 40 = .ok (.aload_n 0, 1) := dk_42 (dk_at dksX5_numberNow_1 16 rfl rfl)
theorem dX5_numberNow_41 : decode cX5_numberNow 41 = .ok (.getfield 95, 3) := dk_180 0 95 (dk_at dksX5_numberNow_1 17 rfl rfl)
theorem dX5_numberNow_44 : decode cX5_numberNow 44 = .ok (.iload_n 2, 1) := dk_28 (dk_at dksX5_numberNow_1 20 rfl rfl)
theorem dX5_numberNow_45 : decode cX5_numberNow 45 = .ok (.if_icmp .gt 7, 3) := dk_163 0 7 (dk_at dksX5_numberNow_1 21 rfl rfl)
theorem dX5_numberNow_48 : decode cX5_numberNow 48 = .ok (.iconst 1, 1) := dk_4 (dk_at dksX5_numberNow_2 0 rfl rfl)
theorem dX5_numberNow_49 : decode cX5_numberNow 49 = .ok (.goto 4, 3) := dk_167 0 4 (dk_at dksX5_numberNow_2 1 rfl rfl)
theorem dX5_numberNow_52 : decode cX5_numberNow 52 = .ok (.iconst 0, 1) := dk_3 (dk_at dksX5_numberNow_2 4 rfl rfl)
theorem dX5_numberNow_53 : decode cX5_numberNow 53 = .ok (.iconst 2, 1) := dk_5 (dk_at dksX5_numberNow_2 5 rfl rfl)
theorem dX5_numberNow_54 : decode cX5_numberNow 54 = .ok (.invokevirtual 133, 3) := dk_182 0 133 (dk_at dksX5_numberNow_2 6 rfl rfl)
theorem dX5_numberNow_57 : decode cX5_numberNow 57 = .ok (.aload_n 0, 1) := dk_42 (dk_at dksX5_numberNow_2 9 rfl rfl)
theorem dX5_numberNow_58 : decode cX5_numberNow 58 = .ok (.getfield 95, 3) := dk_180 0 95 (dk_at dksX5_numberNow_2 10 rfl rfl)
theorem dX5_numberNow_61 : decode cX5_numberNow 61 = .ok (.ireturn, 1) := dk_172 (dk_at dksX5_numberNow_2 13 rfl rfl)
abbrev cX5_expression : ByteArray := prog_6_method_19_code
def yX5_expression : MethodName := ⟨RX5, "expression", "(I)LHornHouses$Form;"⟩
def dkwX5_expression_3 : List UInt8 := [153, 0, 17, 44, 16, 124, 42, 27, 182, 0, 198, 182, 0, 172, 167, 255, 236, 44, 182, 0, 176, 176]
abbrev dktX5_expression_3 : List UInt8 := dkwX5_expression_3 ++ []
def dkwX5_expression_2 : List UInt8 := [5, 182, 0, 133, 187, 0, 160, 89, 42, 27, 182, 0, 198, 183, 0, 165, 77, 42, 18, 200, 182, 0, 195]
abbrev dktX5_expression_2 : List UInt8 := dkwX5_expression_2 ++ dktX5_expression_3
def dkwX5_expression_1 : List UInt8 := [153, 0, 7, 4, 167, 0, 4, 3, 4, 182, 0, 133, 42, 27, 16, 6, 162, 0, 7, 4, 167, 0, 4, 3]
abbrev dktX5_expression_1 : List UInt8 := dkwX5_expression_1 ++ dktX5_expression_2
def dkwX5_expression_0 : List UInt8 := [42, 42, 180, 0, 85, 5, 159, 0, 20, 42, 180, 0, 85, 4, 159, 0, 12, 42, 16, 40, 182, 0, 145]
abbrev dktX5_expression_0 : List UInt8 := dkwX5_expression_0 ++ dktX5_expression_1
theorem dksX5_expression_0 : cX5_expression.data.toList.drop 0 = dktX5_expression_0 := by decide +kernel
theorem dksX5_expression_1 : cX5_expression.data.toList.drop 23 = dktX5_expression_1 := dk_seg dksX5_expression_0 23 rfl rfl
theorem dksX5_expression_2 : cX5_expression.data.toList.drop 47 = dktX5_expression_2 := dk_seg dksX5_expression_1 24 rfl rfl
theorem dksX5_expression_3 : cX5_expression.data.toList.drop 70 = dktX5_expression_3 := dk_seg dksX5_expression_2 23 rfl rfl
theorem dX5_expression_0 : decode cX5_expression 0 = .ok (.aload_n 0, 1) := dk_42 (dk_at dksX5_expression_0 0 rfl rfl)
theorem dX5_expression_1 : decode cX5_expression 1 = .ok (.aload_n 0, 1) := dk_42 (dk_at dksX5_expression_0 1 rfl rfl)
theorem dX5_expression_2 : decode cX5_expression 2 = .ok (.getfield 85, 3) := dk_180 0 85 (dk_at dksX5_expression_0 2 rfl rfl)
theorem dX5_expression_5 : decode cX5_expression 5 = .ok (.iconst 2, 1) := dk_5 (dk_at dksX5_expression_0 5 rfl rfl)
theorem dX5_expression_6 : decode cX5_expression 6 = .ok (.if_icmp .eq 20, 3) := dk_159 0 20 (dk_at dksX5_expression_0 6 rfl rfl)
theorem dX5_expression_9 : decode cX5_expression 9 = .ok (.aload_n 0, 1) := dk_42 (dk_at dksX5_expression_0 9 rfl rfl)
theorem dX5_expression_10 : decode cX5_expression 10 = .ok (.getfield 85, 3) := dk_180 0 85 (dk_at dksX5_expression_0 10 rfl rfl)
theorem dX5_expression_13 : decode cX5_expression 13 = .ok (.iconst 1, 1) := dk_4 (dk_at dksX5_expression_0 13 rfl rfl)
theorem dX5_expression_14 : decode cX5_expression 14 = .ok (.if_icmp .eq 12, 3) := dk_159 0 12 (dk_at dksX5_expression_0 14 rfl rfl)
theorem dX5_expression_17 : decode cX5_expression 17 = .ok (.aload_n 0, 1) := dk_42 (dk_at dksX5_expression_0 17 rfl rfl)
theorem dX5_expression_18 : decode cX5_expression 18 = .ok (.bipush 40, 2) := dk_16 40 (dk_at dksX5_expression_0 18 rfl rfl)
theorem dX5_expression_20 : decode cX5_expression 20 = .ok (.invokevirtual 145, 3) := dk_182 0 145 (dk_at dksX5_expression_0 20 rfl rfl)
theorem dX5_expression_23 : decode cX5_expression 23 = .ok (.ifCond .eq 7, 3) := dk_153 0 7 (dk_at dksX5_expression_1 0 rfl rfl)
theorem dX5_expression_26 : decode cX5_expression 26 = .ok (.iconst 1, 1) := dk_4 (dk_at dksX5_expression_1 3 rfl rfl)
theorem dX5_expression_27 : decode cX5_expression 27 = .ok (.goto 4, 3) := dk_167 0 4 (dk_at dksX5_expression_1 4 rfl rfl)
theorem dX5_expression_30 : decode cX5_expression 30 = .ok (.iconst 0, 1) := dk_3 (dk_at dksX5_expression_1 7 rfl rfl)
theorem dX5_expression_31 : decode cX5_expression 31 = .ok (.iconst 1, 1) := dk_4 (dk_at dksX5_expression_1 8 rfl rfl)
theorem dX5_expression_32 : decode cX5_expression 32 = .ok (.invokevirtual 133, 3) := dk_182 0 133 (dk_at dksX5_expression_1 9 rfl rfl)
theorem dX5_expression_35 : decode cX5_expression 35 = .ok (.aload_n 0, 1) := dk_42 (dk_at dksX5_expression_1 12 rfl rfl)
theorem dX5_expression_36 : decode cX5_expression 36 = .ok (.iload_n 1, 1) := dk_27 (dk_at dksX5_expression_1 13 rfl rfl)
theorem dX5_expression_37 : decode cX5_expression 37 = .ok (.bipush 6, 2) := dk_16 6 (dk_at dksX5_expression_1 14 rfl rfl)
theorem dX5_expression_39 : decode cX5_expression 39 = .ok (.if_icmp .ge 7, 3) := dk_162 0 7 (dk_at dksX5_expression_1 16 rfl rfl)
theorem dX5_expression_42 : decode cX5_expression 42 = .ok (.iconst 1, 1) := dk_4 (dk_at dksX5_expression_1 19 rfl rfl)
theorem dX5_expression_43 : decode cX5_expression 43 = .ok (.goto 4, 3) := dk_167 0 4 (dk_at dksX5_expression_1 20 rfl rfl)
theorem dX5_expression_46 : decode cX5_expression 46 = .ok (.iconst 0, 1) := dk_3 (dk_at dksX5_expression_1 23 rfl rfl)
theorem dX5_expression_47 : decode cX5_expression 47 = .ok (.iconst 2, 1) := dk_5 (dk_at dksX5_expression_2 0 rfl rfl)
theorem dX5_expression_48 : decode cX5_expression 48 = .ok (.invokevirtual 133, 3) := dk_182 0 133 (dk_at dksX5_expression_2 1 rfl rfl)
theorem dX5_expression_51 : decode cX5_expression 51 = .ok (.new 160, 3) := dk_187 0 160 (dk_at dksX5_expression_2 4 rfl rfl)
theorem dX5_expression_54 : decode cX5_expression 54 = .ok (.dup, 1) := dk_89 (dk_at dksX5_expression_2 7 rfl rfl)
theorem dX5_expression_55 : decode cX5_expression 55 = .ok (.aload_n 0, 1) := dk_42 (dk_at dksX5_expression_2 8 rfl rfl)
theorem dX5_expression_56 : decode cX5_expression 56 = .ok (.iload_n 1, 1) := dk_27 (dk_at dksX5_expression_2 9 rfl rfl)
theorem dX5_expression_57 : decode cX5_expression 57 = .ok (.invokevirtual 198, 3) := dk_182 0 198 (dk_at dksX5_expression_2 10 rfl rfl)
theorem dX5_expression_60 : decode cX5_expression 60 = .ok (.invokespecial 165, 3) := dk_183 0 165 (dk_at dksX5_expression_2 13 rfl rfl)
theorem dX5_expression_63 : decode cX5_expression 63 = .ok (.astore_n 2, 1) := dk_77 (dk_at dksX5_expression_2 16 rfl rfl)
theorem dX5_expression_64 : decode cX5_expression 64 = .ok (.aload_n 0, 1) := dk_42 (dk_at dksX5_expression_2 17 rfl rfl)
theorem dX5_expression_65 : decode cX5_expression 65 = .ok (.ldc 200, 2) := dk_18 200 (dk_at dksX5_expression_2 18 rfl rfl)
theorem dX5_expression_67 : decode cX5_expression 67 = .ok (.invokevirtual 195, 3) := dk_182 0 195 (dk_at dksX5_expression_2 20 rfl rfl)
theorem dX5_expression_70 : decode cX5_expression 70 = .ok (.ifCond .eq 17, 3) := dk_153 0 17 (dk_at dksX5_expression_3 0 rfl rfl)
theorem dX5_expression_73 : decode cX5_expression 73 = .ok (.aload_n 2, 1) := dk_44 (dk_at dksX5_expression_3 3 rfl rfl)
theorem dX5_expression_74 : decode cX5_expression 74 = .ok (.bipush 124, 2) := dk_16 124 (dk_at dksX5_expression_3 4 rfl rfl)
theorem dX5_expression_76 : decode cX5_expression 76 = .ok (.aload_n 0, 1) := dk_42 (dk_at dksX5_expression_3 6 rfl rfl)
theorem dX5_expression_77 : decode cX5_expression 77 = .ok (.iload_n 1, 1) := dk_27 (dk_at dksX5_expression_3 7 rfl rfl)
theorem dX5_expression_78 : decode cX5_expression 78 = .ok (.invokevirtual 198, 3) := dk_182 0 198 (dk_at dksX5_expression_3 8 rfl rfl)
theorem dX5_expression_81 : decode cX5_expression 81 = .ok (.invokevirtual 172, 3) := dk_182 0 172 (dk_at dksX5_expression_3 11 rfl rfl)
theorem dX5_expression_84 : decode cX5_expression 84 = .ok (.goto (-20), 3) := dk_167 255 236 (dk_at dksX5_expression_3 14 rfl rfl)
theorem dX5_expression_87 : decode cX5_expression 87 = .ok (.aload_n 2, 1) := dk_44 (dk_at dksX5_expression_3 17 rfl rfl)
theorem dX5_expression_88 : decode cX5_expression 88 = .ok (.invokevirtual 176, 3) := dk_182 0 176 (dk_at dksX5_expression_3 18 rfl rfl)
theorem dX5_expression_91 : decode cX5_expression 91 = .ok (.areturn, 1) := dk_176 (dk_at dksX5_expression_3 21 rfl rfl)
abbrev cX5_isSign : ByteArray := prog_6_method_8_code
def yX5_isSign : MethodName := ⟨RX5, "isSign", "(C)Z"⟩
def dkwX5_isSign_1 : List UInt8 := [4, 167, 0, 4, 3, 172]
abbrev dktX5_isSign_1 : List UInt8 := dkwX5_isSign_1 ++ []
def dkwX5_isSign_0 : List UInt8 := [42, 180, 0, 85, 6, 160, 0, 23, 42, 180, 0, 3, 180, 0, 70, 42, 180, 0, 82, 51, 27, 160, 0, 7]
abbrev dktX5_isSign_0 : List UInt8 := dkwX5_isSign_0 ++ dktX5_isSign_1
theorem dksX5_isSign_0 : cX5_isSign.data.toList.drop 0 = dktX5_isSign_0 := by decide +kernel
theorem dksX5_isSign_1 : cX5_isSign.data.toList.drop 24 = dktX5_isSign_1 := dk_seg dksX5_isSign_0 24 rfl rfl
theorem dX5_isSign_0 : decode cX5_isSign 0 = .ok (.aload_n 0, 1) := dk_42 (dk_at dksX5_isSign_0 0 rfl rfl)
theorem dX5_isSign_1 : decode cX5_isSign 1 = .ok (.getfield 85, 3) := dk_180 0 85 (dk_at dksX5_isSign_0 1 rfl rfl)
theorem dX5_isSign_4 : decode cX5_isSign 4 = .ok (.iconst 3, 1) := dk_6 (dk_at dksX5_isSign_0 4 rfl rfl)
theorem dX5_isSign_5 : decode cX5_isSign 5 = .ok (.if_icmp .ne 23, 3) := dk_160 0 23 (dk_at dksX5_isSign_0 5 rfl rfl)
theorem dX5_isSign_8 : decode cX5_isSign 8 = .ok (.aload_n 0, 1) := dk_42 (dk_at dksX5_isSign_0 8 rfl rfl)
theorem dX5_isSign_9 : decode cX5_isSign 9 = .ok (.getfield 3, 3) := dk_180 0 3 (dk_at dksX5_isSign_0 9 rfl rfl)
theorem dX5_isSign_12 : decode cX5_isSign 12 = .ok (.getfield 70, 3) := dk_180 0 70 (dk_at dksX5_isSign_0 12 rfl rfl)
theorem dX5_isSign_15 : decode cX5_isSign 15 = .ok (.aload_n 0, 1) := dk_42 (dk_at dksX5_isSign_0 15 rfl rfl)
theorem dX5_isSign_16 : decode cX5_isSign 16 = .ok (.getfield 82, 3) := dk_180 0 82 (dk_at dksX5_isSign_0 16 rfl rfl)
theorem dX5_isSign_19 : decode cX5_isSign 19 = .ok (.baload, 1) := dk_51 (dk_at dksX5_isSign_0 19 rfl rfl)
theorem dX5_isSign_20 : decode cX5_isSign 20 = .ok (.iload_n 1, 1) := dk_27 (dk_at dksX5_isSign_0 20 rfl rfl)
theorem dX5_isSign_21 : decode cX5_isSign 21 = .ok (.if_icmp .ne 7, 3) := dk_160 0 7 (dk_at dksX5_isSign_0 21 rfl rfl)
theorem dX5_isSign_24 : decode cX5_isSign 24 = .ok (.iconst 1, 1) := dk_4 (dk_at dksX5_isSign_1 0 rfl rfl)
theorem dX5_isSign_25 : decode cX5_isSign 25 = .ok (.goto 4, 3) := dk_167 0 4 (dk_at dksX5_isSign_1 1 rfl rfl)
theorem dX5_isSign_28 : decode cX5_isSign 28 = .ok (.iconst 0, 1) := dk_3 (dk_at dksX5_isSign_1 4 rfl rfl)
theorem dX5_isSign_29 : decode cX5_isSign 29 = .ok (.ireturn, 1) := dk_172 (dk_at dksX5_isSign_1 5 rfl rfl)
abbrev cX5_and : ByteArray := prog_6_method_18_code
def yX5_and : MethodName := ⟨RX5, "and", "(I)LHornHouses$Form;"⟩
def dkwX5_and_1 : List UInt8 := [16, 38, 42, 27, 182, 0, 191, 182, 0, 172, 167, 255, 236, 44, 182, 0, 176, 176]
abbrev dktX5_and_1 : List UInt8 := dkwX5_and_1 ++ []
def dkwX5_and_0 : List UInt8 := [187, 0, 160, 89, 42, 27, 182, 0, 191, 183, 0, 165, 77, 42, 18, 193, 182, 0, 195, 153, 0, 17, 44]
abbrev dktX5_and_0 : List UInt8 := dkwX5_and_0 ++ dktX5_and_1
theorem dksX5_and_0 : cX5_and.data.toList.drop 0 = dktX5_and_0 := by decide +kernel
theorem dksX5_and_1 : cX5_and.data.toList.drop 23 = dktX5_and_1 := dk_seg dksX5_and_0 23 rfl rfl
theorem dX5_and_0 : decode cX5_and 0 = .ok (.new 160, 3) := dk_187 0 160 (dk_at dksX5_and_0 0 rfl rfl)
theorem dX5_and_3 : decode cX5_and 3 = .ok (.dup, 1) := dk_89 (dk_at dksX5_and_0 3 rfl rfl)
theorem dX5_and_4 : decode cX5_and 4 = .ok (.aload_n 0, 1) := dk_42 (dk_at dksX5_and_0 4 rfl rfl)
theorem dX5_and_5 : decode cX5_and 5 = .ok (.iload_n 1, 1) := dk_27 (dk_at dksX5_and_0 5 rfl rfl)
theorem dX5_and_6 : decode cX5_and 6 = .ok (.invokevirtual 191, 3) := dk_182 0 191 (dk_at dksX5_and_0 6 rfl rfl)
theorem dX5_and_9 : decode cX5_and 9 = .ok (.invokespecial 165, 3) := dk_183 0 165 (dk_at dksX5_and_0 9 rfl rfl)
theorem dX5_and_12 : decode cX5_and 12 = .ok (.astore_n 2, 1) := dk_77 (dk_at dksX5_and_0 12 rfl rfl)
theorem dX5_and_13 : decode cX5_and 13 = .ok (.aload_n 0, 1) := dk_42 (dk_at dksX5_and_0 13 rfl rfl)
theorem dX5_and_14 : decode cX5_and 14 = .ok (.ldc 193, 2) := dk_18 193 (dk_at dksX5_and_0 14 rfl rfl)
theorem dX5_and_16 : decode cX5_and 16 = .ok (.invokevirtual 195, 3) := dk_182 0 195 (dk_at dksX5_and_0 16 rfl rfl)
theorem dX5_and_19 : decode cX5_and 19 = .ok (.ifCond .eq 17, 3) := dk_153 0 17 (dk_at dksX5_and_0 19 rfl rfl)
theorem dX5_and_22 : decode cX5_and 22 = .ok (.aload_n 2, 1) := dk_44 (dk_at dksX5_and_0 22 rfl rfl)
theorem dX5_and_23 : decode cX5_and 23 = .ok (.bipush 38, 2) := dk_16 38 (dk_at dksX5_and_1 0 rfl rfl)
theorem dX5_and_25 : decode cX5_and 25 = .ok (.aload_n 0, 1) := dk_42 (dk_at dksX5_and_1 2 rfl rfl)
theorem dX5_and_26 : decode cX5_and 26 = .ok (.iload_n 1, 1) := dk_27 (dk_at dksX5_and_1 3 rfl rfl)
theorem dX5_and_27 : decode cX5_and 27 = .ok (.invokevirtual 191, 3) := dk_182 0 191 (dk_at dksX5_and_1 4 rfl rfl)
theorem dX5_and_30 : decode cX5_and 30 = .ok (.invokevirtual 172, 3) := dk_182 0 172 (dk_at dksX5_and_1 7 rfl rfl)
theorem dX5_and_33 : decode cX5_and 33 = .ok (.goto (-20), 3) := dk_167 255 236 (dk_at dksX5_and_1 10 rfl rfl)
theorem dX5_and_36 : decode cX5_and 36 = .ok (.aload_n 2, 1) := dk_44 (dk_at dksX5_and_1 13 rfl rfl)
theorem dX5_and_37 : decode cX5_and 37 = .ok (.invokevirtual 176, 3) := dk_182 0 176 (dk_at dksX5_and_1 14 rfl rfl)
theorem dX5_and_40 : decode cX5_and 40 = .ok (.areturn, 1) := dk_176 (dk_at dksX5_and_1 17 rfl rfl)
abbrev cX5_not : ByteArray := prog_6_method_17_code
def yX5_not : MethodName := ⟨RX5, "not", "(I)LHornHouses$Form;"⟩
def dkwX5_not_5 : List UInt8 := [167, 255, 236, 25, 4, 176]
abbrev dktX5_not_5 : List UInt8 := dkwX5_not_5 ++ []
def dkwX5_not_4 : List UInt8 := [54, 5, 21, 5, 28, 162, 0, 20, 187, 0, 188, 89, 25, 4, 183, 0, 190, 58, 4, 132, 5, 1]
abbrev dktX5_not_4 : List UInt8 := dkwX5_not_4 ++ dktX5_not_5
def dkwX5_not_3 : List UInt8 := [182, 0, 168, 54, 4, 45, 21, 4, 42, 27, 182, 0, 185, 182, 0, 172, 45, 182, 0, 176, 58, 4, 3]
abbrev dktX5_not_3 : List UInt8 := dkwX5_not_3 ++ dktX5_not_4
def dkwX5_not_2 : List UInt8 := [183, 0, 165, 78, 42, 16, 60, 182, 0, 145, 154, 0, 12, 42, 16, 61, 182, 0, 145, 153, 0, 20, 42]
abbrev dktX5_not_2 : List UInt8 := dkwX5_not_2 ++ dktX5_not_3
def dkwX5_not_1 : List UInt8 := [182, 0, 133, 132, 2, 1, 42, 182, 0, 125, 167, 255, 224, 187, 0, 160, 89, 42, 27, 182, 0, 185]
abbrev dktX5_not_1 : List UInt8 := dkwX5_not_1 ++ dktX5_not_2
def dkwX5_not_0 : List UInt8 := [3, 61, 42, 18, 183, 182, 0, 121, 153, 0, 29, 42, 28, 16, 6, 162, 0, 7, 4, 167, 0, 4, 3, 5]
abbrev dktX5_not_0 : List UInt8 := dkwX5_not_0 ++ dktX5_not_1
theorem dksX5_not_0 : cX5_not.data.toList.drop 0 = dktX5_not_0 := by decide +kernel
theorem dksX5_not_1 : cX5_not.data.toList.drop 24 = dktX5_not_1 := dk_seg dksX5_not_0 24 rfl rfl
theorem dksX5_not_2 : cX5_not.data.toList.drop 46 = dktX5_not_2 := dk_seg dksX5_not_1 22 rfl rfl
theorem dksX5_not_3 : cX5_not.data.toList.drop 69 = dktX5_not_3 := dk_seg dksX5_not_2 23 rfl rfl
theorem dksX5_not_4 : cX5_not.data.toList.drop 92 = dktX5_not_4 := dk_seg dksX5_not_3 23 rfl rfl
theorem dksX5_not_5 : cX5_not.data.toList.drop 114 = dktX5_not_5 := dk_seg dksX5_not_4 22 rfl rfl
theorem dX5_not_0 : decode cX5_not 0 = .ok (.iconst 0, 1) := dk_3 (dk_at dksX5_not_0 0 rfl rfl)
theorem dX5_not_1 : decode cX5_not 1 = .ok (.istore_n 2, 1) := dk_61 (dk_at dksX5_not_0 1 rfl rfl)
theorem dX5_not_2 : decode cX5_not 2 = .ok (.aload_n 0, 1) := dk_42 (dk_at dksX5_not_0 2 rfl rfl)
theorem dX5_not_3 : decode cX5_not 3 = .ok (.ldc 183, 2) := dk_18 183 (dk_at dksX5_not_0 3 rfl rfl)
theorem dX5_not_5 : decode cX5_not 5 = .ok (.invokevirtual 121, 3) := dk_182 0 121 (dk_at dksX5_not_0 5 rfl rfl)
theorem dX5_not_8 : decode cX5_not 8 = .ok (.ifCond .eq 29, 3) := dk_153 0 29 (dk_at dksX5_not_0 8 rfl rfl)
theorem dX5_not_11 : decode cX5_not 11 = .ok (.aload_n 0, 1) := dk_42 (dk_at dksX5_not_0 11 rfl rfl)
theorem dX5_not_12 : decode cX5_not 12 = .ok (.iload_n 2, 1) := dk_28 (dk_at dksX5_not_0 12 rfl rfl)
theorem dX5_not_13 : decode cX5_not 13 = .ok (.bipush 6, 2) := dk_16 6 (dk_at dksX5_not_0 13 rfl rfl)
theorem dX5_not_15 : decode cX5_not 15 = .ok (.if_icmp .ge 7, 3) := dk_162 0 7 (dk_at dksX5_not_0 15 rfl rfl)
theorem dX5_not_18 : decode cX5_not 18 = .ok (.iconst 1, 1) := dk_4 (dk_at dksX5_not_0 18 rfl rfl)
theorem dX5_not_19 : decode cX5_not 19 = .ok (.goto 4, 3) := dk_167 0 4 (dk_at dksX5_not_0 19 rfl rfl)
theorem dX5_not_22 : decode cX5_not 22 = .ok (.iconst 0, 1) := dk_3 (dk_at dksX5_not_0 22 rfl rfl)
theorem dX5_not_23 : decode cX5_not 23 = .ok (.iconst 2, 1) := dk_5 (dk_at dksX5_not_0 23 rfl rfl)
theorem dX5_not_24 : decode cX5_not 24 = .ok (.invokevirtual 133, 3) := dk_182 0 133 (dk_at dksX5_not_1 0 rfl rfl)
theorem dX5_not_27 : decode cX5_not 27 = .ok (.iinc 2 1, 3) := dk_132 2 1 (dk_at dksX5_not_1 3 rfl rfl)
theorem dX5_not_30 : decode cX5_not 30 = .ok (.aload_n 0, 1) := dk_42 (dk_at dksX5_not_1 6 rfl rfl)
theorem dX5_not_31 : decode cX5_not 31 = .ok (.invokevirtual 125, 3) := dk_182 0 125 (dk_at dksX5_not_1 7 rfl rfl)
theorem dX5_not_34 : decode cX5_not 34 = .ok (.goto (-32), 3) := dk_167 255 224 (dk_at dksX5_not_1 10 rfl rfl)
theorem dX5_not_37 : decode cX5_not 37 = .ok (.new 160, 3) := dk_187 0 160 (dk_at dksX5_not_1 13 rfl rfl)
theorem dX5_not_40 : decode cX5_not 40 = .ok (.dup, 1) := dk_89 (dk_at dksX5_not_1 16 rfl rfl)
theorem dX5_not_41 : decode cX5_not 41 = .ok (.aload_n 0, 1) := dk_42 (dk_at dksX5_not_1 17 rfl rfl)
theorem dX5_not_42 : decode cX5_not 42 = .ok (.iload_n 1, 1) := dk_27 (dk_at dksX5_not_1 18 rfl rfl)
theorem dX5_not_43 : decode cX5_not 43 = .ok (.invokevirtual 185, 3) := dk_182 0 185 (dk_at dksX5_not_1 19 rfl rfl)
theorem dX5_not_46 : decode cX5_not 46 = .ok (.invokespecial 165, 3) := dk_183 0 165 (dk_at dksX5_not_2 0 rfl rfl)
theorem dX5_not_49 : decode cX5_not 49 = .ok (.astore_n 3, 1) := dk_78 (dk_at dksX5_not_2 3 rfl rfl)
theorem dX5_not_50 : decode cX5_not 50 = .ok (.aload_n 0, 1) := dk_42 (dk_at dksX5_not_2 4 rfl rfl)
theorem dX5_not_51 : decode cX5_not 51 = .ok (.bipush 60, 2) := dk_16 60 (dk_at dksX5_not_2 5 rfl rfl)
theorem dX5_not_53 : decode cX5_not 53 = .ok (.invokevirtual 145, 3) := dk_182 0 145 (dk_at dksX5_not_2 7 rfl rfl)
theorem dX5_not_56 : decode cX5_not 56 = .ok (.ifCond .ne 12, 3) := dk_154 0 12 (dk_at dksX5_not_2 10 rfl rfl)
theorem dX5_not_59 : decode cX5_not 59 = .ok (.aload_n 0, 1) := dk_42 (dk_at dksX5_not_2 13 rfl rfl)
theorem dX5_not_60 : decode cX5_not 60 = .ok (.bipush 61, 2) := dk_16 61 (dk_at dksX5_not_2 14 rfl rfl)
theorem dX5_not_62 : decode cX5_not 62 = .ok (.invokevirtual 145, 3) := dk_182 0 145 (dk_at dksX5_not_2 16 rfl rfl)
theorem dX5_not_65 : decode cX5_not 65 = .ok (.ifCond .eq 20, 3) := dk_153 0 20 (dk_at dksX5_not_2 19 rfl rfl)
theorem dX5_not_68 : decode cX5_not 68 = .ok (.aload_n 0, 1) := dk_42 (dk_at dksX5_not_2 22 rfl rfl)
theorem dX5_not_69 : decode cX5_not 69 = .ok (.invokevirtual 168, 3) := dk_182 0 168 (dk_at dksX5_not_3 0 rfl rfl)
theorem dX5_not_72 : decode cX5_not 72 = .ok (.istore 4, 2) := dk_54 4 (dk_at dksX5_not_3 3 rfl rfl)
theorem dX5_not_74 : decode cX5_not 74 = .ok (.aload_n 3, 1) := dk_45 (dk_at dksX5_not_3 5 rfl rfl)
theorem dX5_not_75 : decode cX5_not 75 = .ok (.iload 4, 2) := dk_21 4 (dk_at dksX5_not_3 6 rfl rfl)
theorem dX5_not_77 : decode cX5_not 77 = .ok (.aload_n 0, 1) := dk_42 (dk_at dksX5_not_3 8 rfl rfl)
theorem dX5_not_78 : decode cX5_not 78 = .ok (.iload_n 1, 1) := dk_27 (dk_at dksX5_not_3 9 rfl rfl)
theorem dX5_not_79 : decode cX5_not 79 = .ok (.invokevirtual 185, 3) := dk_182 0 185 (dk_at dksX5_not_3 10 rfl rfl)
theorem dX5_not_82 : decode cX5_not 82 = .ok (.invokevirtual 172, 3) := dk_182 0 172 (dk_at dksX5_not_3 13 rfl rfl)
theorem dX5_not_85 : decode cX5_not 85 = .ok (.aload_n 3, 1) := dk_45 (dk_at dksX5_not_3 16 rfl rfl)
theorem dX5_not_86 : decode cX5_not 86 = .ok (.invokevirtual 176, 3) := dk_182 0 176 (dk_at dksX5_not_3 17 rfl rfl)
theorem dX5_not_89 : decode cX5_not 89 = .ok (.astore 4, 2) := dk_58 4 (dk_at dksX5_not_3 20 rfl rfl)
theorem dX5_not_91 : decode cX5_not 91 = .ok (.iconst 0, 1) := dk_3 (dk_at dksX5_not_3 22 rfl rfl)
theorem dX5_not_92 : decode cX5_not 92 = .ok (.istore 5, 2) := dk_54 5 (dk_at dksX5_not_4 0 rfl rfl)
theorem dX5_not_94 : decode cX5_not 94 = .ok (.iload 5, 2) := dk_21 5 (dk_at dksX5_not_4 2 rfl rfl)
theorem dX5_not_96 : decode cX5_not 96 = .ok (.iload_n 2, 1) := dk_28 (dk_at dksX5_not_4 4 rfl rfl)
theorem dX5_not_97 : decode cX5_not 97 = .ok (.if_icmp .ge 20, 3) := dk_162 0 20 (dk_at dksX5_not_4 5 rfl rfl)
theorem dX5_not_100 : decode cX5_not 100 = .ok (.new 188, 3) := dk_187 0 188 (dk_at dksX5_not_4 8 rfl rfl)
theorem dX5_not_103 : decode cX5_not 103 = .ok (.dup, 1) := dk_89 (dk_at dksX5_not_4 11 rfl rfl)
theorem dX5_not_104 : decode cX5_not 104 = .ok (.aload 4, 2) := dk_25 4 (dk_at dksX5_not_4 12 rfl rfl)
theorem dX5_not_106 : decode cX5_not 106 = .ok (.invokespecial 190, 3) := dk_183 0 190 (dk_at dksX5_not_4 14 rfl rfl)
theorem dX5_not_109 : decode cX5_not 109 = .ok (.astore 4, 2) := dk_58 4 (dk_at dksX5_not_4 17 rfl rfl)
theorem dX5_not_111 : decode cX5_not 111 = .ok (.iinc 5 1, 3) := dk_132 5 1 (dk_at dksX5_not_4 19 rfl rfl)
theorem dX5_not_114 : decode cX5_not 114 = .ok (.goto (-20), 3) := dk_167 255 236 (dk_at dksX5_not_5 0 rfl rfl)
theorem dX5_not_117 : decode cX5_not 117 = .ok (.aload 4, 2) := dk_25 4 (dk_at dksX5_not_5 3 rfl rfl)
theorem dX5_not_119 : decode cX5_not 119 = .ok (.areturn, 1) := dk_176 (dk_at dksX5_not_5 5 rfl rfl)
abbrev cX5_sum : ByteArray := prog_6_method_16_code
def yX5_sum : MethodName := ⟨RX5, "sum", "(I)LHornHouses$Form;"⟩
def dkwX5_sum_2 : List UInt8 := [167, 255, 223, 44, 182, 0, 176, 176]
abbrev dktX5_sum_2 : List UInt8 := dkwX5_sum_2 ++ []
def dkwX5_sum_1 : List UInt8 := [16, 45, 182, 0, 145, 153, 0, 21, 42, 182, 0, 168, 62, 44, 29, 42, 27, 182, 0, 180, 182, 0, 172]
abbrev dktX5_sum_1 : List UInt8 := dkwX5_sum_1 ++ dktX5_sum_2
def dkwX5_sum_0 : List UInt8 := [187, 0, 160, 89, 42, 27, 182, 0, 180, 183, 0, 165, 77, 42, 16, 43, 182, 0, 145, 154, 0, 12, 42]
abbrev dktX5_sum_0 : List UInt8 := dkwX5_sum_0 ++ dktX5_sum_1
theorem dksX5_sum_0 : cX5_sum.data.toList.drop 0 = dktX5_sum_0 := by decide +kernel
theorem dksX5_sum_1 : cX5_sum.data.toList.drop 23 = dktX5_sum_1 := dk_seg dksX5_sum_0 23 rfl rfl
theorem dksX5_sum_2 : cX5_sum.data.toList.drop 46 = dktX5_sum_2 := dk_seg dksX5_sum_1 23 rfl rfl
theorem dX5_sum_0 : decode cX5_sum 0 = .ok (.new 160, 3) := dk_187 0 160 (dk_at dksX5_sum_0 0 rfl rfl)
theorem dX5_sum_3 : decode cX5_sum 3 = .ok (.dup, 1) := dk_89 (dk_at dksX5_sum_0 3 rfl rfl)
theorem dX5_sum_4 : decode cX5_sum 4 = .ok (.aload_n 0, 1) := dk_42 (dk_at dksX5_sum_0 4 rfl rfl)
theorem dX5_sum_5 : decode cX5_sum 5 = .ok (.iload_n 1, 1) := dk_27 (dk_at dksX5_sum_0 5 rfl rfl)
theorem dX5_sum_6 : decode cX5_sum 6 = .ok (.invokevirtual 180, 3) := dk_182 0 180 (dk_at dksX5_sum_0 6 rfl rfl)
theorem dX5_sum_9 : decode cX5_sum 9 = .ok (.invokespecial 165, 3) := dk_183 0 165 (dk_at dksX5_sum_0 9 rfl rfl)
theorem dX5_sum_12 : decode cX5_sum 12 = .ok (.astore_n 2, 1) := dk_77 (dk_at dksX5_sum_0 12 rfl rfl)
theorem dX5_sum_13 : decode cX5_sum 13 = .ok (.aload_n 0, 1) := dk_42 (dk_at dksX5_sum_0 13 rfl rfl)
theorem dX5_sum_14 : decode cX5_sum 14 = .ok (.bipush 43, 2) := dk_16 43 (dk_at dksX5_sum_0 14 rfl rfl)
theorem dX5_sum_16 : decode cX5_sum 16 = .ok (.invokevirtual 145, 3) := dk_182 0 145 (dk_at dksX5_sum_0 16 rfl rfl)
theorem dX5_sum_19 : decode cX5_sum 19 = .ok (.ifCond .ne 12, 3) := dk_154 0 12 (dk_at dksX5_sum_0 19 rfl rfl)
theorem dX5_sum_22 : decode cX5_sum 22 = .ok (.aload_n 0, 1) := dk_42 (dk_at dksX5_sum_0 22 rfl rfl)
theorem dX5_sum_23 : decode cX5_sum 23 = .ok (.bipush 45, 2) := dk_16 45 (dk_at dksX5_sum_1 0 rfl rfl)
theorem dX5_sum_25 : decode cX5_sum 25 = .ok (.invokevirtual 145, 3) := dk_182 0 145 (dk_at dksX5_sum_1 2 rfl rfl)
theorem dX5_sum_28 : decode cX5_sum 28 = .ok (.ifCond .eq 21, 3) := dk_153 0 21 (dk_at dksX5_sum_1 5 rfl rfl)
theorem dX5_sum_31 : decode cX5_sum 31 = .ok (.aload_n 0, 1) := dk_42 (dk_at dksX5_sum_1 8 rfl rfl)
theorem dX5_sum_32 : decode cX5_sum 32 = .ok (.invokevirtual 168, 3) := dk_182 0 168 (dk_at dksX5_sum_1 9 rfl rfl)
theorem dX5_sum_35 : decode cX5_sum 35 = .ok (.istore_n 3, 1) := dk_62 (dk_at dksX5_sum_1 12 rfl rfl)
theorem dX5_sum_36 : decode cX5_sum 36 = .ok (.aload_n 2, 1) := dk_44 (dk_at dksX5_sum_1 13 rfl rfl)
theorem dX5_sum_37 : decode cX5_sum 37 = .ok (.iload_n 3, 1) := dk_29 (dk_at dksX5_sum_1 14 rfl rfl)
theorem dX5_sum_38 : decode cX5_sum 38 = .ok (.aload_n 0, 1) := dk_42 (dk_at dksX5_sum_1 15 rfl rfl)
theorem dX5_sum_39 : decode cX5_sum 39 = .ok (.iload_n 1, 1) := dk_27 (dk_at dksX5_sum_1 16 rfl rfl)
theorem dX5_sum_40 : decode cX5_sum 40 = .ok (.invokevirtual 180, 3) := dk_182 0 180 (dk_at dksX5_sum_1 17 rfl rfl)
theorem dX5_sum_43 : decode cX5_sum 43 = .ok (.invokevirtual 172, 3) := dk_182 0 172 (dk_at dksX5_sum_1 20 rfl rfl)
theorem dX5_sum_46 : decode cX5_sum 46 = .ok (.goto (-33), 3) := dk_167 255 223 (dk_at dksX5_sum_2 0 rfl rfl)
theorem dX5_sum_49 : decode cX5_sum 49 = .ok (.aload_n 2, 1) := dk_44 (dk_at dksX5_sum_2 3 rfl rfl)
theorem dX5_sum_50 : decode cX5_sum 50 = .ok (.invokevirtual 176, 3) := dk_182 0 176 (dk_at dksX5_sum_2 4 rfl rfl)
theorem dX5_sum_53 : decode cX5_sum 53 = .ok (.areturn, 1) := dk_176 (dk_at dksX5_sum_2 7 rfl rfl)
abbrev cX5_product : ByteArray := prog_6_method_15_code
def yX5_product : MethodName := ⟨RX5, "product", "(I)LHornHouses$Form;"⟩
def dkwX5_product_2 : List UInt8 := [167, 255, 223, 44, 182, 0, 176, 176]
abbrev dktX5_product_2 : List UInt8 := dkwX5_product_2 ++ []
def dkwX5_product_1 : List UInt8 := [16, 47, 182, 0, 145, 153, 0, 21, 42, 182, 0, 168, 62, 44, 29, 42, 27, 182, 0, 162, 182, 0, 172]
abbrev dktX5_product_1 : List UInt8 := dkwX5_product_1 ++ dktX5_product_2
def dkwX5_product_0 : List UInt8 := [187, 0, 160, 89, 42, 27, 182, 0, 162, 183, 0, 165, 77, 42, 16, 42, 182, 0, 145, 154, 0, 12, 42]
abbrev dktX5_product_0 : List UInt8 := dkwX5_product_0 ++ dktX5_product_1
theorem dksX5_product_0 : cX5_product.data.toList.drop 0 = dktX5_product_0 := by decide +kernel
theorem dksX5_product_1 : cX5_product.data.toList.drop 23 = dktX5_product_1 := dk_seg dksX5_product_0 23 rfl rfl
theorem dksX5_product_2 : cX5_product.data.toList.drop 46 = dktX5_product_2 := dk_seg dksX5_product_1 23 rfl rfl
theorem dX5_product_0 : decode cX5_product 0 = .ok (.new 160, 3) := dk_187 0 160 (dk_at dksX5_product_0 0 rfl rfl)
theorem dX5_product_3 : decode cX5_product 3 = .ok (.dup, 1) := dk_89 (dk_at dksX5_product_0 3 rfl rfl)
theorem dX5_product_4 : decode cX5_product 4 = .ok (.aload_n 0, 1) := dk_42 (dk_at dksX5_product_0 4 rfl rfl)
theorem dX5_product_5 : decode cX5_product 5 = .ok (.iload_n 1, 1) := dk_27 (dk_at dksX5_product_0 5 rfl rfl)
theorem dX5_product_6 : decode cX5_product 6 = .ok (.invokevirtual 162, 3) := dk_182 0 162 (dk_at dksX5_product_0 6 rfl rfl)
theorem dX5_product_9 : decode cX5_product 9 = .ok (.invokespecial 165, 3) := dk_183 0 165 (dk_at dksX5_product_0 9 rfl rfl)
theorem dX5_product_12 : decode cX5_product 12 = .ok (.astore_n 2, 1) := dk_77 (dk_at dksX5_product_0 12 rfl rfl)
theorem dX5_product_13 : decode cX5_product 13 = .ok (.aload_n 0, 1) := dk_42 (dk_at dksX5_product_0 13 rfl rfl)
theorem dX5_product_14 : decode cX5_product 14 = .ok (.bipush 42, 2) := dk_16 42 (dk_at dksX5_product_0 14 rfl rfl)
theorem dX5_product_16 : decode cX5_product 16 = .ok (.invokevirtual 145, 3) := dk_182 0 145 (dk_at dksX5_product_0 16 rfl rfl)
theorem dX5_product_19 : decode cX5_product 19 = .ok (.ifCond .ne 12, 3) := dk_154 0 12 (dk_at dksX5_product_0 19 rfl rfl)
theorem dX5_product_22 : decode cX5_product 22 = .ok (.aload_n 0, 1) := dk_42 (dk_at dksX5_product_0 22 rfl rfl)
theorem dX5_product_23 : decode cX5_product 23 = .ok (.bipush 47, 2) := dk_16 47 (dk_at dksX5_product_1 0 rfl rfl)
theorem dX5_product_25 : decode cX5_product 25 = .ok (.invokevirtual 145, 3) := dk_182 0 145 (dk_at dksX5_product_1 2 rfl rfl)
theorem dX5_product_28 : decode cX5_product 28 = .ok (.ifCond .eq 21, 3) := dk_153 0 21 (dk_at dksX5_product_1 5 rfl rfl)
theorem dX5_product_31 : decode cX5_product 31 = .ok (.aload_n 0, 1) := dk_42 (dk_at dksX5_product_1 8 rfl rfl)
theorem dX5_product_32 : decode cX5_product 32 = .ok (.invokevirtual 168, 3) := dk_182 0 168 (dk_at dksX5_product_1 9 rfl rfl)
theorem dX5_product_35 : decode cX5_product 35 = .ok (.istore_n 3, 1) := dk_62 (dk_at dksX5_product_1 12 rfl rfl)
theorem dX5_product_36 : decode cX5_product 36 = .ok (.aload_n 2, 1) := dk_44 (dk_at dksX5_product_1 13 rfl rfl)
theorem dX5_product_37 : decode cX5_product 37 = .ok (.iload_n 3, 1) := dk_29 (dk_at dksX5_product_1 14 rfl rfl)
theorem dX5_product_38 : decode cX5_product 38 = .ok (.aload_n 0, 1) := dk_42 (dk_at dksX5_product_1 15 rfl rfl)
theorem dX5_product_39 : decode cX5_product 39 = .ok (.iload_n 1, 1) := dk_27 (dk_at dksX5_product_1 16 rfl rfl)
theorem dX5_product_40 : decode cX5_product 40 = .ok (.invokevirtual 162, 3) := dk_182 0 162 (dk_at dksX5_product_1 17 rfl rfl)
theorem dX5_product_43 : decode cX5_product 43 = .ok (.invokevirtual 172, 3) := dk_182 0 172 (dk_at dksX5_product_1 20 rfl rfl)
theorem dX5_product_46 : decode cX5_product 46 = .ok (.goto (-33), 3) := dk_167 255 223 (dk_at dksX5_product_2 0 rfl rfl)
theorem dX5_product_49 : decode cX5_product 49 = .ok (.aload_n 2, 1) := dk_44 (dk_at dksX5_product_2 3 rfl rfl)
theorem dX5_product_50 : decode cX5_product 50 = .ok (.invokevirtual 176, 3) := dk_182 0 176 (dk_at dksX5_product_2 4 rfl rfl)
theorem dX5_product_53 : decode cX5_product 53 = .ok (.areturn, 1) := dk_176 (dk_at dksX5_product_2 7 rfl rfl)
abbrev cX5_part : ByteArray := prog_6_method_13_code
def yX5_part : MethodName := ⟨RX5, "part", "(I)LHornHouses$Form;"⟩
def dkwX5_part_4 : List UInt8 := [4, 167, 0, 4, 3, 6, 182, 0, 133, 42, 182, 0, 125, 187, 0, 157, 89, 28, 183, 0, 159, 176]
abbrev dktX5_part_4 : List UInt8 := dkwX5_part_4 ++ []
def dkwX5_part_3 : List UInt8 := [4, 167, 0, 4, 3, 4, 182, 0, 133, 42, 42, 180, 0, 61, 182, 0, 153, 61, 42, 28, 2, 159, 0, 7]
abbrev dktX5_part_3 : List UInt8 := dkwX5_part_3 ++ dktX5_part_4
def dkwX5_part_2 : List UInt8 := [16, 41, 182, 0, 145, 4, 182, 0, 133, 42, 182, 0, 125, 44, 176, 42, 42, 180, 0, 85, 4, 160, 0, 7]
abbrev dktX5_part_2 : List UInt8 := dkwX5_part_2 ++ dktX5_part_3
def dkwX5_part_1 : List UInt8 := [42, 16, 40, 182, 0, 145, 153, 0, 32, 42, 182, 0, 125, 42, 27, 4, 96, 182, 0, 149, 77, 42, 42]
abbrev dktX5_part_1 : List UInt8 := dkwX5_part_1 ++ dktX5_part_2
def dkwX5_part_0 : List UInt8 := [42, 180, 0, 85, 5, 160, 0, 19, 187, 0, 140, 89, 42, 3, 17, 39, 15, 182, 0, 142, 183, 0, 144, 176]
abbrev dktX5_part_0 : List UInt8 := dkwX5_part_0 ++ dktX5_part_1
theorem dksX5_part_0 : cX5_part.data.toList.drop 0 = dktX5_part_0 := by decide +kernel
theorem dksX5_part_1 : cX5_part.data.toList.drop 24 = dktX5_part_1 := dk_seg dksX5_part_0 24 rfl rfl
theorem dksX5_part_2 : cX5_part.data.toList.drop 47 = dktX5_part_2 := dk_seg dksX5_part_1 23 rfl rfl
theorem dksX5_part_3 : cX5_part.data.toList.drop 71 = dktX5_part_3 := dk_seg dksX5_part_2 24 rfl rfl
theorem dksX5_part_4 : cX5_part.data.toList.drop 95 = dktX5_part_4 := dk_seg dksX5_part_3 24 rfl rfl
theorem dX5_part_0 : decode cX5_part 0 = .ok (.aload_n 0, 1) := dk_42 (dk_at dksX5_part_0 0 rfl rfl)
theorem dX5_part_1 : decode cX5_part 1 = .ok (.getfield 85, 3) := dk_180 0 85 (dk_at dksX5_part_0 1 rfl rfl)
theorem dX5_part_4 : decode cX5_part 4 = .ok (.iconst 2, 1) := dk_5 (dk_at dksX5_part_0 4 rfl rfl)
theorem dX5_part_5 : decode cX5_part 5 = .ok (.if_icmp .ne 19, 3) := dk_160 0 19 (dk_at dksX5_part_0 5 rfl rfl)
theorem dX5_part_8 : decode cX5_part 8 = .ok (.new 140, 3) := dk_187 0 140 (dk_at dksX5_part_0 8 rfl rfl)
theorem dX5_part_11 : decode cX5_part 11 = .ok (.dup, 1) := dk_89 (dk_at dksX5_part_0 11 rfl rfl)
theorem dX5_part_12 : decode cX5_part 12 = .ok (.aload_n 0, 1) := dk_42 (dk_at dksX5_part_0 12 rfl rfl)
theorem dX5_part_13 : decode cX5_part 13 = .ok (.iconst 0, 1) := dk_3 (dk_at dksX5_part_0 13 rfl rfl)
theorem dX5_part_14 : decode cX5_part 14 = .ok (.sipush 9999, 3) := dk_17 39 15 (dk_at dksX5_part_0 14 rfl rfl)
theorem dX5_part_17 : decode cX5_part 17 = .ok (.invokevirtual 142, 3) := dk_182 0 142 (dk_at dksX5_part_0 17 rfl rfl)
theorem dX5_part_20 : decode cX5_part 20 = .ok (.invokespecial 144, 3) := dk_183 0 144 (dk_at dksX5_part_0 20 rfl rfl)
theorem dX5_part_23 : decode cX5_part 23 = .ok (.areturn, 1) := dk_176 (dk_at dksX5_part_0 23 rfl rfl)
theorem dX5_part_24 : decode cX5_part 24 = .ok (.aload_n 0, 1) := dk_42 (dk_at dksX5_part_1 0 rfl rfl)
theorem dX5_part_25 : decode cX5_part 25 = .ok (.bipush 40, 2) := dk_16 40 (dk_at dksX5_part_1 1 rfl rfl)
theorem dX5_part_27 : decode cX5_part 27 = .ok (.invokevirtual 145, 3) := dk_182 0 145 (dk_at dksX5_part_1 3 rfl rfl)
theorem dX5_part_30 : decode cX5_part 30 = .ok (.ifCond .eq 32, 3) := dk_153 0 32 (dk_at dksX5_part_1 6 rfl rfl)
theorem dX5_part_33 : decode cX5_part 33 = .ok (.aload_n 0, 1) := dk_42 (dk_at dksX5_part_1 9 rfl rfl)
theorem dX5_part_34 : decode cX5_part 34 = .ok (.invokevirtual 125, 3) := dk_182 0 125 (dk_at dksX5_part_1 10 rfl rfl)
theorem dX5_part_37 : decode cX5_part 37 = .ok (.aload_n 0, 1) := dk_42 (dk_at dksX5_part_1 13 rfl rfl)
theorem dX5_part_38 : decode cX5_part 38 = .ok (.iload_n 1, 1) := dk_27 (dk_at dksX5_part_1 14 rfl rfl)
theorem dX5_part_39 : decode cX5_part 39 = .ok (.iconst 1, 1) := dk_4 (dk_at dksX5_part_1 15 rfl rfl)
theorem dX5_part_40 : decode cX5_part 40 = .ok (.iadd, 1) := dk_96 (dk_at dksX5_part_1 16 rfl rfl)
theorem dX5_part_41 : decode cX5_part 41 = .ok (.invokevirtual 149, 3) := dk_182 0 149 (dk_at dksX5_part_1 17 rfl rfl)
theorem dX5_part_44 : decode cX5_part 44 = .ok (.astore_n 2, 1) := dk_77 (dk_at dksX5_part_1 20 rfl rfl)
theorem dX5_part_45 : decode cX5_part 45 = .ok (.aload_n 0, 1) := dk_42 (dk_at dksX5_part_1 21 rfl rfl)
theorem dX5_part_46 : decode cX5_part 46 = .ok (.aload_n 0, 1) := dk_42 (dk_at dksX5_part_1 22 rfl rfl)
theorem dX5_part_47 : decode cX5_part 47 = .ok (.bipush 41, 2) := dk_16 41 (dk_at dksX5_part_2 0 rfl rfl)
theorem dX5_part_49 : decode cX5_part 49 = .ok (.invokevirtual 145, 3) := dk_182 0 145 (dk_at dksX5_part_2 2 rfl rfl)
theorem dX5_part_52 : decode cX5_part 52 = .ok (.iconst 1, 1) := dk_4 (dk_at dksX5_part_2 5 rfl rfl)
theorem dX5_part_53 : decode cX5_part 53 = .ok (.invokevirtual 133, 3) := dk_182 0 133 (dk_at dksX5_part_2 6 rfl rfl)
theorem dX5_part_56 : decode cX5_part 56 = .ok (.aload_n 0, 1) := dk_42 (dk_at dksX5_part_2 9 rfl rfl)
theorem dX5_part_57 : decode cX5_part 57 = .ok (.invokevirtual 125, 3) := dk_182 0 125 (dk_at dksX5_part_2 10 rfl rfl)
theorem dX5_part_60 : decode cX5_part 60 = .ok (.aload_n 2, 1) := dk_44 (dk_at dksX5_part_2 13 rfl rfl)
theorem dX5_part_61 : decode cX5_part 61 = .ok (.areturn, 1) := dk_176 (dk_at dksX5_part_2 14 rfl rfl)
theorem dX5_part_62 : decode cX5_part 62 = .ok (.aload_n 0, 1) := dk_42 (dk_at dksX5_part_2 15 rfl rfl)
theorem dX5_part_63 : decode cX5_part 63 = .ok (.aload_n 0, 1) := dk_42 (dk_at dksX5_part_2 16 rfl rfl)
theorem dX5_part_64 : decode cX5_part 64 = .ok (.getfield 85, 3) := dk_180 0 85 (dk_at dksX5_part_2 17 rfl rfl)
theorem dX5_part_67 : decode cX5_part 67 = .ok (.iconst 1, 1) := dk_4 (dk_at dksX5_part_2 20 rfl rfl)
theorem dX5_part_68 : decode cX5_part 68 = .ok (.if_icmp .ne 7, 3) := dk_160 0 7 (dk_at dksX5_part_2 21 rfl rfl)
theorem dX5_part_71 : decode cX5_part 71 = .ok (.iconst 1, 1) := dk_4 (dk_at dksX5_part_3 0 rfl rfl)
theorem dX5_part_72 : decode cX5_part 72 = .ok (.goto 4, 3) := dk_167 0 4 (dk_at dksX5_part_3 1 rfl rfl)
theorem dX5_part_75 : decode cX5_part 75 = .ok (.iconst 0, 1) := dk_3 (dk_at dksX5_part_3 4 rfl rfl)
theorem dX5_part_76 : decode cX5_part 76 = .ok (.iconst 1, 1) := dk_4 (dk_at dksX5_part_3 5 rfl rfl)
theorem dX5_part_77 : decode cX5_part 77 = .ok (.invokevirtual 133, 3) := dk_182 0 133 (dk_at dksX5_part_3 6 rfl rfl)
theorem dX5_part_80 : decode cX5_part 80 = .ok (.aload_n 0, 1) := dk_42 (dk_at dksX5_part_3 9 rfl rfl)
theorem dX5_part_81 : decode cX5_part 81 = .ok (.aload_n 0, 1) := dk_42 (dk_at dksX5_part_3 10 rfl rfl)
theorem dX5_part_82 : decode cX5_part 82 = .ok (.getfield 61, 3) := dk_180 0 61 (dk_at dksX5_part_3 11 rfl rfl)
theorem dX5_part_85 : decode cX5_part 85 = .ok (.invokevirtual 153, 3) := dk_182 0 153 (dk_at dksX5_part_3 14 rfl rfl)
theorem dX5_part_88 : decode cX5_part 88 = .ok (.istore_n 2, 1) := dk_61 (dk_at dksX5_part_3 17 rfl rfl)
theorem dX5_part_89 : decode cX5_part 89 = .ok (.aload_n 0, 1) := dk_42 (dk_at dksX5_part_3 18 rfl rfl)
theorem dX5_part_90 : decode cX5_part 90 = .ok (.iload_n 2, 1) := dk_28 (dk_at dksX5_part_3 19 rfl rfl)
theorem dX5_part_91 : decode cX5_part 91 = .ok (.iconst (-1), 1) := dk_2 (dk_at dksX5_part_3 20 rfl rfl)
theorem dX5_part_92 : decode cX5_part 92 = .ok (.if_icmp .eq 7, 3) := dk_159 0 7 (dk_at dksX5_part_3 21 rfl rfl)
theorem dX5_part_95 : decode cX5_part 95 = .ok (.iconst 1, 1) := dk_4 (dk_at dksX5_part_4 0 rfl rfl)
theorem dX5_part_96 : decode cX5_part 96 = .ok (.goto 4, 3) := dk_167 0 4 (dk_at dksX5_part_4 1 rfl rfl)
theorem dX5_part_99 : decode cX5_part 99 = .ok (.iconst 0, 1) := dk_3 (dk_at dksX5_part_4 4 rfl rfl)
theorem dX5_part_100 : decode cX5_part 100 = .ok (.iconst 3, 1) := dk_6 (dk_at dksX5_part_4 5 rfl rfl)
theorem dX5_part_101 : decode cX5_part 101 = .ok (.invokevirtual 133, 3) := dk_182 0 133 (dk_at dksX5_part_4 6 rfl rfl)
theorem dX5_part_104 : decode cX5_part 104 = .ok (.aload_n 0, 1) := dk_42 (dk_at dksX5_part_4 9 rfl rfl)
theorem dX5_part_105 : decode cX5_part 105 = .ok (.invokevirtual 125, 3) := dk_182 0 125 (dk_at dksX5_part_4 10 rfl rfl)
theorem dX5_part_108 : decode cX5_part 108 = .ok (.new 157, 3) := dk_187 0 157 (dk_at dksX5_part_4 13 rfl rfl)
theorem dX5_part_111 : decode cX5_part 111 = .ok (.dup, 1) := dk_89 (dk_at dksX5_part_4 16 rfl rfl)
theorem dX5_part_112 : decode cX5_part 112 = .ok (.iload_n 2, 1) := dk_28 (dk_at dksX5_part_4 17 rfl rfl)
theorem dX5_part_113 : decode cX5_part 113 = .ok (.invokespecial 159, 3) := dk_183 0 159 (dk_at dksX5_part_4 18 rfl rfl)
theorem dX5_part_116 : decode cX5_part 116 = .ok (.areturn, 1) := dk_176 (dk_at dksX5_part_4 21 rfl rfl)
abbrev cX5_sign : ByteArray := prog_6_method_14_code
def yX5_sign : MethodName := ⟨RX5, "sign", "()C"⟩
def dkwX5_sign_0 : List UInt8 := [42, 180, 0, 3, 180, 0, 70, 42, 180, 0, 82, 51, 146, 60, 42, 182, 0, 125, 27, 172]
abbrev dktX5_sign_0 : List UInt8 := dkwX5_sign_0 ++ []
theorem dksX5_sign_0 : cX5_sign.data.toList.drop 0 = dktX5_sign_0 := by decide +kernel
theorem dX5_sign_0 : decode cX5_sign 0 = .ok (.aload_n 0, 1) := dk_42 (dk_at dksX5_sign_0 0 rfl rfl)
theorem dX5_sign_1 : decode cX5_sign 1 = .ok (.getfield 3, 3) := dk_180 0 3 (dk_at dksX5_sign_0 1 rfl rfl)
theorem dX5_sign_4 : decode cX5_sign 4 = .ok (.getfield 70, 3) := dk_180 0 70 (dk_at dksX5_sign_0 4 rfl rfl)
theorem dX5_sign_7 : decode cX5_sign 7 = .ok (.aload_n 0, 1) := dk_42 (dk_at dksX5_sign_0 7 rfl rfl)
theorem dX5_sign_8 : decode cX5_sign 8 = .ok (.getfield 82, 3) := dk_180 0 82 (dk_at dksX5_sign_0 8 rfl rfl)
theorem dX5_sign_11 : decode cX5_sign 11 = .ok (.baload, 1) := dk_51 (dk_at dksX5_sign_0 11 rfl rfl)
theorem dX5_sign_12 : decode cX5_sign 12 = .ok (.i2c, 1) := dk_146 (dk_at dksX5_sign_0 12 rfl rfl)
theorem dX5_sign_13 : decode cX5_sign 13 = .ok (.istore_n 1, 1) := dk_60 (dk_at dksX5_sign_0 13 rfl rfl)
theorem dX5_sign_14 : decode cX5_sign 14 = .ok (.aload_n 0, 1) := dk_42 (dk_at dksX5_sign_0 14 rfl rfl)
theorem dX5_sign_15 : decode cX5_sign 15 = .ok (.invokevirtual 125, 3) := dk_182 0 125 (dk_at dksX5_sign_0 15 rfl rfl)
theorem dX5_sign_18 : decode cX5_sign 18 = .ok (.iload_n 1, 1) := dk_27 (dk_at dksX5_sign_0 18 rfl rfl)
theorem dX5_sign_19 : decode cX5_sign 19 = .ok (.ireturn, 1) := dk_172 (dk_at dksX5_sign_0 19 rfl rfl)
abbrev cX5_passes : ByteArray := prog_6_method_9_code
def yX5_passes : MethodName := ⟨RX5, "passes", "(Ljava/lang/String;)Z"⟩
def dkwX5_passes_0 : List UInt8 := [42, 43, 182, 0, 121, 61, 28, 153, 0, 7, 42, 182, 0, 125, 28, 172]
abbrev dktX5_passes_0 : List UInt8 := dkwX5_passes_0 ++ []
theorem dksX5_passes_0 : cX5_passes.data.toList.drop 0 = dktX5_passes_0 := by decide +kernel
theorem dX5_passes_0 : decode cX5_passes 0 = .ok (.aload_n 0, 1) := dk_42 (dk_at dksX5_passes_0 0 rfl rfl)
theorem dX5_passes_1 : decode cX5_passes 1 = .ok (.aload_n 1, 1) := dk_43 (dk_at dksX5_passes_0 1 rfl rfl)
theorem dX5_passes_2 : decode cX5_passes 2 = .ok (.invokevirtual 121, 3) := dk_182 0 121 (dk_at dksX5_passes_0 2 rfl rfl)
theorem dX5_passes_5 : decode cX5_passes 5 = .ok (.istore_n 2, 1) := dk_61 (dk_at dksX5_passes_0 5 rfl rfl)
theorem dX5_passes_6 : decode cX5_passes 6 = .ok (.iload_n 2, 1) := dk_28 (dk_at dksX5_passes_0 6 rfl rfl)
theorem dX5_passes_7 : decode cX5_passes 7 = .ok (.ifCond .eq 7, 3) := dk_153 0 7 (dk_at dksX5_passes_0 7 rfl rfl)
theorem dX5_passes_10 : decode cX5_passes 10 = .ok (.aload_n 0, 1) := dk_42 (dk_at dksX5_passes_0 10 rfl rfl)
theorem dX5_passes_11 : decode cX5_passes 11 = .ok (.invokevirtual 125, 3) := dk_182 0 125 (dk_at dksX5_passes_0 11 rfl rfl)
theorem dX5_passes_14 : decode cX5_passes 14 = .ok (.iload_n 2, 1) := dk_28 (dk_at dksX5_passes_0 14 rfl rfl)
theorem dX5_passes_15 : decode cX5_passes 15 = .ok (.ireturn, 1) := dk_172 (dk_at dksX5_passes_0 15 rfl rfl)
abbrev cX5_house : ByteArray := prog_6_method_20_code
def yX5_house : MethodName := ⟨RX5, "house", "()V"⟩
def dkwX5_house_3 : List UInt8 := [185, 0, 218, 2, 0, 87, 42, 180, 0, 18, 180, 0, 223, 28, 184, 0, 212, 185, 0, 218, 2, 0, 87, 177]
abbrev dktX5_house_3 : List UInt8 := dkwX5_house_3 ++ []
def dkwX5_house_2 : List UInt8 := [182, 0, 142, 61, 42, 180, 0, 18, 180, 0, 208, 42, 3, 16, 30, 182, 0, 142, 184, 0, 212]
abbrev dktX5_house_2 : List UInt8 := dkwX5_house_2 ++ dktX5_house_3
def dkwX5_house_1 : List UInt8 := [42, 182, 0, 125, 42, 180, 0, 27, 180, 0, 205, 27, 42, 4, 16, 60, 182, 0, 142, 79, 42, 3, 16, 9]
abbrev dktX5_house_1 : List UInt8 := dkwX5_house_1 ++ dktX5_house_2
def dkwX5_house_0 : List UInt8 := [42, 180, 0, 18, 182, 0, 202, 60, 42, 27, 16, 8, 162, 0, 7, 4, 167, 0, 4, 3, 5, 182, 0, 133]
abbrev dktX5_house_0 : List UInt8 := dkwX5_house_0 ++ dktX5_house_1
theorem dksX5_house_0 : cX5_house.data.toList.drop 0 = dktX5_house_0 := by decide +kernel
theorem dksX5_house_1 : cX5_house.data.toList.drop 24 = dktX5_house_1 := dk_seg dksX5_house_0 24 rfl rfl
theorem dksX5_house_2 : cX5_house.data.toList.drop 48 = dktX5_house_2 := dk_seg dksX5_house_1 24 rfl rfl
theorem dksX5_house_3 : cX5_house.data.toList.drop 69 = dktX5_house_3 := dk_seg dksX5_house_2 21 rfl rfl
theorem dX5_house_0 : decode cX5_house 0 = .ok (.aload_n 0, 1) := dk_42 (dk_at dksX5_house_0 0 rfl rfl)
theorem dX5_house_1 : decode cX5_house 1 = .ok (.getfield 18, 3) := dk_180 0 18 (dk_at dksX5_house_0 1 rfl rfl)
theorem dX5_house_4 : decode cX5_house 4 = .ok (.invokevirtual 202, 3) := dk_182 0 202 (dk_at dksX5_house_0 4 rfl rfl)
theorem dX5_house_7 : decode cX5_house 7 = .ok (.istore_n 1, 1) := dk_60 (dk_at dksX5_house_0 7 rfl rfl)
theorem dX5_house_8 : decode cX5_house 8 = .ok (.aload_n 0, 1) := dk_42 (dk_at dksX5_house_0 8 rfl rfl)
theorem dX5_house_9 : decode cX5_house 9 = .ok (.iload_n 1, 1) := dk_27 (dk_at dksX5_house_0 9 rfl rfl)
theorem dX5_house_10 : decode cX5_house 10 = .ok (.bipush 8, 2) := dk_16 8 (dk_at dksX5_house_0 10 rfl rfl)
theorem dX5_house_12 : decode cX5_house 12 = .ok (.if_icmp .ge 7, 3) := dk_162 0 7 (dk_at dksX5_house_0 12 rfl rfl)
theorem dX5_house_15 : decode cX5_house 15 = .ok (.iconst 1, 1) := dk_4 (dk_at dksX5_house_0 15 rfl rfl)
theorem dX5_house_16 : decode cX5_house 16 = .ok (.goto 4, 3) := dk_167 0 4 (dk_at dksX5_house_0 16 rfl rfl)
theorem dX5_house_19 : decode cX5_house 19 = .ok (.iconst 0, 1) := dk_3 (dk_at dksX5_house_0 19 rfl rfl)
theorem dX5_house_20 : decode cX5_house 20 = .ok (.iconst 2, 1) := dk_5 (dk_at dksX5_house_0 20 rfl rfl)
theorem dX5_house_21 : decode cX5_house 21 = .ok (.invokevirtual 133, 3) := dk_182 0 133 (dk_at dksX5_house_0 21 rfl rfl)
theorem dX5_house_24 : decode cX5_house 24 = .ok (.aload_n 0, 1) := dk_42 (dk_at dksX5_house_1 0 rfl rfl)
theorem dX5_house_25 : decode cX5_house 25 = .ok (.invokevirtual 125, 3) := dk_182 0 125 (dk_at dksX5_house_1 1 rfl rfl)
theorem dX5_house_28 : decode cX5_house 28 = .ok (.aload_n 0, 1) := dk_42 (dk_at dksX5_house_1 4 rfl rfl)
theorem dX5_house_29 : decode cX5_house 29 = .ok (.getfield 27, 3) := dk_180 0 27 (dk_at dksX5_house_1 5 rfl rfl)
theorem dX5_house_32 : decode cX5_house 32 = .ok (.getfield 205, 3) := dk_180 0 205 (dk_at dksX5_house_1 8 rfl rfl)
theorem dX5_house_35 : decode cX5_house 35 = .ok (.iload_n 1, 1) := dk_27 (dk_at dksX5_house_1 11 rfl rfl)
theorem dX5_house_36 : decode cX5_house 36 = .ok (.aload_n 0, 1) := dk_42 (dk_at dksX5_house_1 12 rfl rfl)
theorem dX5_house_37 : decode cX5_house 37 = .ok (.iconst 1, 1) := dk_4 (dk_at dksX5_house_1 13 rfl rfl)
theorem dX5_house_38 : decode cX5_house 38 = .ok (.bipush 60, 2) := dk_16 60 (dk_at dksX5_house_1 14 rfl rfl)
theorem dX5_house_40 : decode cX5_house 40 = .ok (.invokevirtual 142, 3) := dk_182 0 142 (dk_at dksX5_house_1 16 rfl rfl)
theorem dX5_house_43 : decode cX5_house 43 = .ok (.iastore, 1) := dk_79 (dk_at dksX5_house_1 19 rfl rfl)
theorem dX5_house_44 : decode cX5_house 44 = .ok (.aload_n 0, 1) := dk_42 (dk_at dksX5_house_1 20 rfl rfl)
theorem dX5_house_45 : decode cX5_house 45 = .ok (.iconst 0, 1) := dk_3 (dk_at dksX5_house_1 21 rfl rfl)
theorem dX5_house_46 : decode cX5_house 46 = .ok (.bipush 9, 2) := dk_16 9 (dk_at dksX5_house_1 22 rfl rfl)
theorem dX5_house_48 : decode cX5_house 48 = .ok (.invokevirtual 142, 3) := dk_182 0 142 (dk_at dksX5_house_2 0 rfl rfl)
theorem dX5_house_51 : decode cX5_house 51 = .ok (.istore_n 2, 1) := dk_61 (dk_at dksX5_house_2 3 rfl rfl)
theorem dX5_house_52 : decode cX5_house 52 = .ok (.aload_n 0, 1) := dk_42 (dk_at dksX5_house_2 4 rfl rfl)
theorem dX5_house_53 : decode cX5_house 53 = .ok (.getfield 18, 3) := dk_180 0 18 (dk_at dksX5_house_2 5 rfl rfl)
theorem dX5_house_56 : decode cX5_house 56 = .ok (.getfield 208, 3) := dk_180 0 208 (dk_at dksX5_house_2 8 rfl rfl)
theorem dX5_house_59 : decode cX5_house 59 = .ok (.aload_n 0, 1) := dk_42 (dk_at dksX5_house_2 11 rfl rfl)
theorem dX5_house_60 : decode cX5_house 60 = .ok (.iconst 0, 1) := dk_3 (dk_at dksX5_house_2 12 rfl rfl)
theorem dX5_house_61 : decode cX5_house 61 = .ok (.bipush 30, 2) := dk_16 30 (dk_at dksX5_house_2 13 rfl rfl)
theorem dX5_house_63 : decode cX5_house 63 = .ok (.invokevirtual 142, 3) := dk_182 0 142 (dk_at dksX5_house_2 15 rfl rfl)
theorem dX5_house_66 : decode cX5_house 66 = .ok (.invokestatic 212, 3) := dk_184 0 212 (dk_at dksX5_house_2 18 rfl rfl)
theorem dX5_house_69 : decode cX5_house 69 = .ok (.invokeinterface 218 2, 5) := by decide +kernel
theorem dX5_house_74 : decode cX5_house 74 = .ok (.pop, 1) := dk_87 (dk_at dksX5_house_3 5 rfl rfl)
theorem dX5_house_75 : decode cX5_house 75 = .ok (.aload_n 0, 1) := dk_42 (dk_at dksX5_house_3 6 rfl rfl)
theorem dX5_house_76 : decode cX5_house 76 = .ok (.getfield 18, 3) := dk_180 0 18 (dk_at dksX5_house_3 7 rfl rfl)
theorem dX5_house_79 : decode cX5_house 79 = .ok (.getfield 223, 3) := dk_180 0 223 (dk_at dksX5_house_3 10 rfl rfl)
theorem dX5_house_82 : decode cX5_house 82 = .ok (.iload_n 2, 1) := dk_28 (dk_at dksX5_house_3 13 rfl rfl)
theorem dX5_house_83 : decode cX5_house 83 = .ok (.invokestatic 212, 3) := dk_184 0 212 (dk_at dksX5_house_3 14 rfl rfl)
theorem dX5_house_86 : decode cX5_house 86 = .ok (.invokeinterface 218 2, 5) := by decide +kernel
theorem dX5_house_91 : decode cX5_house 91 = .ok (.pop, 1) := dk_87 (dk_at dksX5_house_3 22 rfl rfl)
theorem dX5_house_92 : decode cX5_house 92 = .ok (.return_, 1) := dk_177 (dk_at dksX5_house_3 23 rfl rfl)
abbrev cX5_person : ByteArray := prog_6_method_21_code
def yX5_person : MethodName := ⟨RX5, "person", "()V"⟩
def dkwX5_person_6 : List UInt8 := [180, 0, 231, 27, 29, 79, 42, 180, 0, 18, 180, 0, 242, 28, 184, 0, 212, 185, 0, 218, 2, 0, 87, 177]
abbrev dktX5_person_6 : List UInt8 := dkwX5_person_6 ++ []
def dkwX5_person_5 : List UInt8 := [182, 0, 133, 42, 182, 0, 125, 42, 89, 180, 0, 235, 4, 29, 120, 128, 181, 0, 235, 42, 180, 0, 27]
abbrev dktX5_person_5 : List UInt8 := dkwX5_person_5 ++ dktX5_person_6
def dkwX5_person_4 : List UInt8 := [3, 6, 182, 0, 133, 42, 42, 180, 0, 235, 29, 184, 0, 238, 154, 0, 7, 4, 167, 0, 4, 3, 7]
abbrev dktX5_person_4 : List UInt8 := dkwX5_person_4 ++ dktX5_person_5
def dkwX5_person_3 : List UInt8 := [3, 17, 39, 15, 182, 0, 137, 62, 42, 29, 42, 180, 0, 18, 182, 0, 202, 162, 0, 7, 4, 167, 0, 4]
abbrev dktX5_person_3 : List UInt8 := dkwX5_person_3 ++ dktX5_person_4
def dkwX5_person_2 : List UInt8 := [180, 0, 231, 27, 2, 79, 42, 3, 16, 9, 182, 0, 142, 61, 42, 18, 234, 182, 0, 195, 153, 0, 80, 42]
abbrev dktX5_person_2 : List UInt8 := dkwX5_person_2 ++ dktX5_person_3
def dkwX5_person_1 : List UInt8 := [42, 182, 0, 125, 42, 180, 0, 27, 180, 0, 229, 27, 42, 4, 16, 60, 182, 0, 142, 79, 42, 180, 0, 27]
abbrev dktX5_person_1 : List UInt8 := dkwX5_person_1 ++ dktX5_person_2
def dkwX5_person_0 : List UInt8 := [42, 180, 0, 18, 182, 0, 226, 60, 42, 27, 16, 8, 162, 0, 7, 4, 167, 0, 4, 3, 5, 182, 0, 133]
abbrev dktX5_person_0 : List UInt8 := dkwX5_person_0 ++ dktX5_person_1
theorem dksX5_person_0 : cX5_person.data.toList.drop 0 = dktX5_person_0 := by decide +kernel
theorem dksX5_person_1 : cX5_person.data.toList.drop 24 = dktX5_person_1 := dk_seg dksX5_person_0 24 rfl rfl
theorem dksX5_person_2 : cX5_person.data.toList.drop 48 = dktX5_person_2 := dk_seg dksX5_person_1 24 rfl rfl
theorem dksX5_person_3 : cX5_person.data.toList.drop 72 = dktX5_person_3 := dk_seg dksX5_person_2 24 rfl rfl
theorem dksX5_person_4 : cX5_person.data.toList.drop 96 = dktX5_person_4 := dk_seg dksX5_person_3 24 rfl rfl
theorem dksX5_person_5 : cX5_person.data.toList.drop 119 = dktX5_person_5 := dk_seg dksX5_person_4 23 rfl rfl
theorem dksX5_person_6 : cX5_person.data.toList.drop 142 = dktX5_person_6 := dk_seg dksX5_person_5 23 rfl rfl
theorem dX5_person_0 : decode cX5_person 0 = .ok (.aload_n 0, 1) := dk_42 (dk_at dksX5_person_0 0 rfl rfl)
theorem dX5_person_1 : decode cX5_person 1 = .ok (.getfield 18, 3) := dk_180 0 18 (dk_at dksX5_person_0 1 rfl rfl)
theorem dX5_person_4 : decode cX5_person 4 = .ok (.invokevirtual 226, 3) := dk_182 0 226 (dk_at dksX5_person_0 4 rfl rfl)
theorem dX5_person_7 : decode cX5_person 7 = .ok (.istore_n 1, 1) := dk_60 (dk_at dksX5_person_0 7 rfl rfl)
theorem dX5_person_8 : decode cX5_person 8 = .ok (.aload_n 0, 1) := dk_42 (dk_at dksX5_person_0 8 rfl rfl)
theorem dX5_person_9 : decode cX5_person 9 = .ok (.iload_n 1, 1) := dk_27 (dk_at dksX5_person_0 9 rfl rfl)
theorem dX5_person_10 : decode cX5_person 10 = .ok (.bipush 8, 2) := dk_16 8 (dk_at dksX5_person_0 10 rfl rfl)
theorem dX5_person_12 : decode cX5_person 12 = .ok (.if_icmp .ge 7, 3) := dk_162 0 7 (dk_at dksX5_person_0 12 rfl rfl)
theorem dX5_person_15 : decode cX5_person 15 = .ok (.iconst 1, 1) := dk_4 (dk_at dksX5_person_0 15 rfl rfl)
theorem dX5_person_16 : decode cX5_person 16 = .ok (.goto 4, 3) := dk_167 0 4 (dk_at dksX5_person_0 16 rfl rfl)
theorem dX5_person_19 : decode cX5_person 19 = .ok (.iconst 0, 1) := dk_3 (dk_at dksX5_person_0 19 rfl rfl)
theorem dX5_person_20 : decode cX5_person 20 = .ok (.iconst 2, 1) := dk_5 (dk_at dksX5_person_0 20 rfl rfl)
theorem dX5_person_21 : decode cX5_person 21 = .ok (.invokevirtual 133, 3) := dk_182 0 133 (dk_at dksX5_person_0 21 rfl rfl)
theorem dX5_person_24 : decode cX5_person 24 = .ok (.aload_n 0, 1) := dk_42 (dk_at dksX5_person_1 0 rfl rfl)
theorem dX5_person_25 : decode cX5_person 25 = .ok (.invokevirtual 125, 3) := dk_182 0 125 (dk_at dksX5_person_1 1 rfl rfl)
theorem dX5_person_28 : decode cX5_person 28 = .ok (.aload_n 0, 1) := dk_42 (dk_at dksX5_person_1 4 rfl rfl)
theorem dX5_person_29 : decode cX5_person 29 = .ok (.getfield 27, 3) := dk_180 0 27 (dk_at dksX5_person_1 5 rfl rfl)
theorem dX5_person_32 : decode cX5_person 32 = .ok (.getfield 229, 3) := dk_180 0 229 (dk_at dksX5_person_1 8 rfl rfl)
theorem dX5_person_35 : decode cX5_person 35 = .ok (.iload_n 1, 1) := dk_27 (dk_at dksX5_person_1 11 rfl rfl)
theorem dX5_person_36 : decode cX5_person 36 = .ok (.aload_n 0, 1) := dk_42 (dk_at dksX5_person_1 12 rfl rfl)
theorem dX5_person_37 : decode cX5_person 37 = .ok (.iconst 1, 1) := dk_4 (dk_at dksX5_person_1 13 rfl rfl)
theorem dX5_person_38 : decode cX5_person 38 = .ok (.bipush 60, 2) := dk_16 60 (dk_at dksX5_person_1 14 rfl rfl)
theorem dX5_person_40 : decode cX5_person 40 = .ok (.invokevirtual 142, 3) := dk_182 0 142 (dk_at dksX5_person_1 16 rfl rfl)
theorem dX5_person_43 : decode cX5_person 43 = .ok (.iastore, 1) := dk_79 (dk_at dksX5_person_1 19 rfl rfl)
theorem dX5_person_44 : decode cX5_person 44 = .ok (.aload_n 0, 1) := dk_42 (dk_at dksX5_person_1 20 rfl rfl)
theorem dX5_person_45 : decode cX5_person 45 = .ok (.getfield 27, 3) := dk_180 0 27 (dk_at dksX5_person_1 21 rfl rfl)
theorem dX5_person_48 : decode cX5_person 48 = .ok (.getfield 231, 3) := dk_180 0 231 (dk_at dksX5_person_2 0 rfl rfl)
theorem dX5_person_51 : decode cX5_person 51 = .ok (.iload_n 1, 1) := dk_27 (dk_at dksX5_person_2 3 rfl rfl)
theorem dX5_person_52 : decode cX5_person 52 = .ok (.iconst (-1), 1) := dk_2 (dk_at dksX5_person_2 4 rfl rfl)
theorem dX5_person_53 : decode cX5_person 53 = .ok (.iastore, 1) := dk_79 (dk_at dksX5_person_2 5 rfl rfl)
theorem dX5_person_54 : decode cX5_person 54 = .ok (.aload_n 0, 1) := dk_42 (dk_at dksX5_person_2 6 rfl rfl)
theorem dX5_person_55 : decode cX5_person 55 = .ok (.iconst 0, 1) := dk_3 (dk_at dksX5_person_2 7 rfl rfl)
theorem dX5_person_56 : decode cX5_person 56 = .ok (.bipush 9, 2) := dk_16 9 (dk_at dksX5_person_2 8 rfl rfl)
theorem dX5_person_58 : decode cX5_person 58 = .ok (.invokevirtual 142, 3) := dk_182 0 142 (dk_at dksX5_person_2 10 rfl rfl)
theorem dX5_person_61 : decode cX5_person 61 = .ok (.istore_n 2, 1) := dk_61 (dk_at dksX5_person_2 13 rfl rfl)
theorem dX5_person_62 : decode cX5_person 62 = .ok (.aload_n 0, 1) := dk_42 (dk_at dksX5_person_2 14 rfl rfl)
theorem dX5_person_63 : decode cX5_person 63 = .ok (.ldc 234, 2) := dk_18 234 (dk_at dksX5_person_2 15 rfl rfl)
theorem dX5_person_65 : decode cX5_person 65 = .ok (.invokevirtual 195, 3) := dk_182 0 195 (dk_at dksX5_person_2 17 rfl rfl)
theorem dX5_person_68 : decode cX5_person 68 = .ok (.ifCond .eq 80, 3) := dk_153 0 80 (dk_at dksX5_person_2 20 rfl rfl)
theorem dX5_person_71 : decode cX5_person 71 = .ok (.aload_n 0, 1) := dk_42 (dk_at dksX5_person_2 23 rfl rfl)
theorem dX5_person_72 : decode cX5_person 72 = .ok (.iconst 0, 1) := dk_3 (dk_at dksX5_person_3 0 rfl rfl)
theorem dX5_person_73 : decode cX5_person 73 = .ok (.sipush 9999, 3) := dk_17 39 15 (dk_at dksX5_person_3 1 rfl rfl)
theorem dX5_person_76 : decode cX5_person 76 = .ok (.invokevirtual 137, 3) := dk_182 0 137 (dk_at dksX5_person_3 4 rfl rfl)
theorem dX5_person_79 : decode cX5_person 79 = .ok (.istore_n 3, 1) := dk_62 (dk_at dksX5_person_3 7 rfl rfl)
theorem dX5_person_80 : decode cX5_person 80 = .ok (.aload_n 0, 1) := dk_42 (dk_at dksX5_person_3 8 rfl rfl)
theorem dX5_person_81 : decode cX5_person 81 = .ok (.iload_n 3, 1) := dk_29 (dk_at dksX5_person_3 9 rfl rfl)
theorem dX5_person_82 : decode cX5_person 82 = .ok (.aload_n 0, 1) := dk_42 (dk_at dksX5_person_3 10 rfl rfl)
theorem dX5_person_83 : decode cX5_person 83 = .ok (.getfield 18, 3) := dk_180 0 18 (dk_at dksX5_person_3 11 rfl rfl)
theorem dX5_person_86 : decode cX5_person 86 = .ok (.invokevirtual 202, 3) := dk_182 0 202 (dk_at dksX5_person_3 14 rfl rfl)
theorem dX5_person_89 : decode cX5_person 89 = .ok (.if_icmp .ge 7, 3) := dk_162 0 7 (dk_at dksX5_person_3 17 rfl rfl)
theorem dX5_person_92 : decode cX5_person 92 = .ok (.iconst 1, 1) := dk_4 (dk_at dksX5_person_3 20 rfl rfl)
theorem dX5_person_93 : decode cX5_person 93 = .ok (.goto 4, 3) := dk_167 0 4 (dk_at dksX5_person_3 21 rfl rfl)
theorem dX5_person_96 : decode cX5_person 96 = .ok (.iconst 0, 1) := dk_3 (dk_at dksX5_person_4 0 rfl rfl)
theorem dX5_person_97 : decode cX5_person 97 = .ok (.iconst 3, 1) := dk_6 (dk_at dksX5_person_4 1 rfl rfl)
theorem dX5_person_98 : decode cX5_person 98 = .ok (.invokevirtual 133, 3) := dk_182 0 133 (dk_at dksX5_person_4 2 rfl rfl)
theorem dX5_person_101 : decode cX5_person 101 = .ok (.aload_n 0, 1) := dk_42 (dk_at dksX5_person_4 5 rfl rfl)
theorem dX5_person_102 : decode cX5_person 102 = .ok (.aload_n 0, 1) := dk_42 (dk_at dksX5_person_4 6 rfl rfl)
theorem dX5_person_103 : decode cX5_person 103 = .ok (.getfield 235, 3) := dk_180 0 235 (dk_at dksX5_person_4 7 rfl rfl)
theorem dX5_person_106 : decode cX5_person 106 = .ok (.iload_n 3, 1) := dk_29 (dk_at dksX5_person_4 10 rfl rfl)
theorem dX5_person_107 : decode cX5_person 107 = .ok (.invokestatic 238, 3) := dk_184 0 238 (dk_at dksX5_person_4 11 rfl rfl)
theorem dX5_person_110 : decode cX5_person 110 = .ok (.ifCond .ne 7, 3) := dk_154 0 7 (dk_at dksX5_person_4 14 rfl rfl)
theorem dX5_person_113 : decode cX5_person 113 = .ok (.iconst 1, 1) := dk_4 (dk_at dksX5_person_4 17 rfl rfl)
theorem dX5_person_114 : decode cX5_person 114 = .ok (.goto 4, 3) := dk_167 0 4 (dk_at dksX5_person_4 18 rfl rfl)
theorem dX5_person_117 : decode cX5_person 117 = .ok (.iconst 0, 1) := dk_3 (dk_at dksX5_person_4 21 rfl rfl)
theorem dX5_person_118 : decode cX5_person 118 = .ok (.iconst 4, 1) := dk_7 (dk_at dksX5_person_4 22 rfl rfl)
theorem dX5_person_119 : decode cX5_person 119 = .ok (.invokevirtual 133, 3) := dk_182 0 133 (dk_at dksX5_person_5 0 rfl rfl)
theorem dX5_person_122 : decode cX5_person 122 = .ok (.aload_n 0, 1) := dk_42 (dk_at dksX5_person_5 3 rfl rfl)
theorem dX5_person_123 : decode cX5_person 123 = .ok (.invokevirtual 125, 3) := dk_182 0 125 (dk_at dksX5_person_5 4 rfl rfl)
theorem dX5_person_126 : decode cX5_person 126 = .ok (.aload_n 0, 1) := dk_42 (dk_at dksX5_person_5 7 rfl rfl)
theorem dX5_person_127 : decode cX5_person 127 = .ok (.dup, 1) := dk_89 (dk_at dksX5_person_5 8 rfl rfl)
theorem dX5_person_128 : decode cX5_person 128 = .ok (.getfield 235, 3) := dk_180 0 235 (dk_at dksX5_person_5 9 rfl rfl)
theorem dX5_person_131 : decode cX5_person 131 = .ok (.iconst 1, 1) := dk_4 (dk_at dksX5_person_5 12 rfl rfl)
theorem dX5_person_132 : decode cX5_person 132 = .ok (.iload_n 3, 1) := dk_29 (dk_at dksX5_person_5 13 rfl rfl)
theorem dX5_person_133 : decode cX5_person 133 = .ok (.ishl, 1) := dk_120 (dk_at dksX5_person_5 14 rfl rfl)
theorem dX5_person_134 : decode cX5_person 134 = .ok (.ior, 1) := dk_128 (dk_at dksX5_person_5 15 rfl rfl)
theorem dX5_person_135 : decode cX5_person 135 = .ok (.putfield 235, 3) := dk_181 0 235 (dk_at dksX5_person_5 16 rfl rfl)
theorem dX5_person_138 : decode cX5_person 138 = .ok (.aload_n 0, 1) := dk_42 (dk_at dksX5_person_5 19 rfl rfl)
theorem dX5_person_139 : decode cX5_person 139 = .ok (.getfield 27, 3) := dk_180 0 27 (dk_at dksX5_person_5 20 rfl rfl)
theorem dX5_person_142 : decode cX5_person 142 = .ok (.getfield 231, 3) := dk_180 0 231 (dk_at dksX5_person_6 0 rfl rfl)
theorem dX5_person_145 : decode cX5_person 145 = .ok (.iload_n 1, 1) := dk_27 (dk_at dksX5_person_6 3 rfl rfl)
theorem dX5_person_146 : decode cX5_person 146 = .ok (.iload_n 3, 1) := dk_29 (dk_at dksX5_person_6 4 rfl rfl)
theorem dX5_person_147 : decode cX5_person 147 = .ok (.iastore, 1) := dk_79 (dk_at dksX5_person_6 5 rfl rfl)
theorem dX5_person_148 : decode cX5_person 148 = .ok (.aload_n 0, 1) := dk_42 (dk_at dksX5_person_6 6 rfl rfl)
theorem dX5_person_149 : decode cX5_person 149 = .ok (.getfield 18, 3) := dk_180 0 18 (dk_at dksX5_person_6 7 rfl rfl)
theorem dX5_person_152 : decode cX5_person 152 = .ok (.getfield 242, 3) := dk_180 0 242 (dk_at dksX5_person_6 10 rfl rfl)
theorem dX5_person_155 : decode cX5_person 155 = .ok (.iload_n 2, 1) := dk_28 (dk_at dksX5_person_6 13 rfl rfl)
theorem dX5_person_156 : decode cX5_person 156 = .ok (.invokestatic 212, 3) := dk_184 0 212 (dk_at dksX5_person_6 14 rfl rfl)
theorem dX5_person_159 : decode cX5_person 159 = .ok (.invokeinterface 218 2, 5) := by decide +kernel
theorem dX5_person_164 : decode cX5_person 164 = .ok (.pop, 1) := dk_87 (dk_at dksX5_person_6 22 rfl rfl)
theorem dX5_person_165 : decode cX5_person 165 = .ok (.return_, 1) := dk_177 (dk_at dksX5_person_6 23 rfl rfl)
theorem q133 : (Jvm.Cond.initialized "HornHouses$Reader") ∈ lw_all := lw_g (lw_at lw_m1 12 rfl) rfl
theorem q199 : (Jvm.Cond.fieldLinkNest "HornHouses$Reader" (223 : Nat) "HornHouses$Town" "gives" "Ljava/util/List;" "HornHouses") ∈ lw_tbl := lw_at lw_m1 78 rfl
theorem q202 : (Jvm.Cond.fieldLinkNest "HornHouses$Reader" (208 : Nat) "HornHouses$Town" "places" "Ljava/util/List;" "HornHouses") ∈ lw_tbl := lw_at lw_m1 81 rfl
theorem q206 : (Jvm.Cond.fieldLinkNest "HornHouses$Reader" (242 : Nat) "HornHouses$Town" "grows" "Ljava/util/List;" "HornHouses") ∈ lw_tbl := lw_at lw_m1 85 rfl
theorem q208 : (Jvm.Cond.fieldLinkNest "HornHouses$Reader" (245 : Nat) "HornHouses$Town" "damps" "Ljava/util/List;" "HornHouses") ∈ lw_tbl := lw_at lw_m1 87 rfl
theorem q210 : (Jvm.Cond.fieldLinkNest "HornHouses$Reader" (255 : Nat) "HornHouses$Town" "eases" "LHornHouses$Form;" "HornHouses") ∈ lw_tbl := lw_at lw_m1 89 rfl
theorem q212 : (Jvm.Cond.fieldLinkNest "HornHouses$Reader" (258 : Nat) "HornHouses$Town" "bursts" "LHornHouses$Form;" "HornHouses") ∈ lw_tbl := lw_at lw_m1 91 rfl
theorem q234 : (Jvm.Cond.fieldLinkNest "HornHouses$Reader" (205 : Nat) "HornHouses$Street" "size" "[I" "HornHouses") ∈ lw_tbl := lw_at lw_m1 113 rfl
theorem q239 : (Jvm.Cond.fieldLinkNest "HornHouses$Reader" (229 : Nat) "HornHouses$Street" "heel" "[I" "HornHouses") ∈ lw_tbl := lw_at lw_m1 118 rfl
theorem q242 : (Jvm.Cond.fieldLinkNest "HornHouses$Reader" (231 : Nat) "HornHouses$Street" "house" "[I" "HornHouses") ∈ lw_tbl := lw_at lw_m1 121 rfl
theorem q283 : (Jvm.Cond.fieldLinkNest "HornHouses$Reader" (70 : Nat) "HornHouses" "tape" "[B" "HornHouses") ∈ lw_tbl := lw_at lw_m1 162 rfl
theorem q399 : (Jvm.Cond.selects "HornHouses$Reader" ({ cls := "java/lang/Object", name := "getClass", desc := "()Ljava/lang/Class;" } : Jvm.MethodName) ({ cls := "java/lang/Object", name := "getClass", desc := "()Ljava/lang/Class;" } : Jvm.MethodName)) ∈ lw_all := lw_g (lw_at lw_m2 38 rfl) rfl
theorem q724 : (Jvm.Cond.instantiable "HornHouses$Reader" (15 : Nat)) ∈ lw_all := lw_g (lw_at lw_m3 123 rfl) rfl
theorem q726 : (Jvm.Cond.instanceMethod ({ cls := "HornHouses$Reader", name := "<init>", desc := "(LHornHouses;I)V" } : Jvm.MethodName)) ∈ lw_all := lw_g (lw_at lw_m3 125 rfl) rfl
theorem q727 : (Jvm.Cond.code ({ cls := "HornHouses$Reader", name := "<init>", desc := "(LHornHouses;I)V" } : Jvm.MethodName) prog_6_method_1_code (3 : Nat) (Option.none : Option Jvm.ClassFile.FieldType)) ∈ lw_all := lw_g (lw_at lw_m3 126 rfl) rfl
theorem q728 : (Jvm.Cond.methodLink "HornHouses$Reader" (9 : Nat) ({ cls := "java/lang/Object", name := "<init>", desc := "()V" } : Jvm.MethodName)) ∈ lw_all := lw_g (lw_at lw_m3 127 rfl) rfl
theorem q729 : (Jvm.Cond.classLink "HornHouses$Reader" (15 : Nat) "HornHouses$Town") ∈ lw_all := lw_g (lw_at lw_m3 128 rfl) rfl
theorem q730 : (Jvm.Cond.methodLinkNest "HornHouses$Reader" (17 : Nat) ({ cls := "HornHouses$Town", name := "<init>", desc := "()V" } : Jvm.MethodName) "HornHouses") ∈ lw_tbl := lw_at lw_m3 129 rfl
theorem q731 : (Jvm.Cond.classLink "HornHouses$Reader" (22 : Nat) "HornHouses$Street") ∈ lw_all := lw_g (lw_at lw_m3 130 rfl) rfl
theorem q732 : (Jvm.Cond.methodLinkNest "HornHouses$Reader" (24 : Nat) ({ cls := "HornHouses$Street", name := "<init>", desc := "(LHornHouses;)V" } : Jvm.MethodName) "HornHouses") ∈ lw_tbl := lw_at lw_m3 131 rfl
theorem q733 : (Jvm.Cond.classLink "HornHouses$Reader" (31 : Nat) "java/lang/String") ∈ lw_all := lw_g (lw_at lw_m3 132 rfl) rfl
theorem q735 : (Jvm.Cond.stringRef "HornHouses$Reader" (33 : Nat) "damp") ∈ lw_tbl := lw_at lw_m3 134 rfl
theorem q736 : (Jvm.Cond.stringRef "HornHouses$Reader" (35 : Nat) "eases") ∈ lw_tbl := lw_at lw_m3 135 rfl
theorem q737 : (Jvm.Cond.stringRef "HornHouses$Reader" (37 : Nat) "bursts") ∈ lw_tbl := lw_at lw_m3 136 rfl
theorem q738 : (Jvm.Cond.stringRef "HornHouses$Reader" (43 : Nat) "heel") ∈ lw_tbl := lw_at lw_m3 137 rfl
theorem q739 : (Jvm.Cond.stringRef "HornHouses$Reader" (45 : Nat) "size") ∈ lw_tbl := lw_at lw_m3 138 rfl
theorem q740 : (Jvm.Cond.stringRef "HornHouses$Reader" (47 : Nat) "give") ∈ lw_tbl := lw_at lw_m3 139 rfl
theorem q741 : (Jvm.Cond.stringRef "HornHouses$Reader" (49 : Nat) "worn") ∈ lw_tbl := lw_at lw_m3 140 rfl
theorem q742 : (Jvm.Cond.stringRef "HornHouses$Reader" (51 : Nat) "day") ∈ lw_tbl := lw_at lw_m3 141 rfl
theorem q743 : (Jvm.Cond.stringRef "HornHouses$Reader" (56 : Nat) "tight") ∈ lw_tbl := lw_at lw_m3 142 rfl
theorem q744 : (Jvm.Cond.fieldLink "HornHouses$Reader" (64 : Nat) "HornHouses$Reader" "size" "I") ∈ lw_all := lw_g (lw_at lw_m3 143 rfl) rfl
theorem q745 : (Jvm.Cond.fieldLink "HornHouses$Reader" (18 : Nat) "HornHouses$Reader" "made" "LHornHouses$Town;") ∈ lw_all := lw_g (lw_at lw_m3 144 rfl) rfl
theorem q746 : (Jvm.Cond.fieldLink "HornHouses$Reader" (27 : Nat) "HornHouses$Reader" "begun" "LHornHouses$Street;") ∈ lw_all := lw_g (lw_at lw_m3 145 rfl) rfl
theorem q748 : (Jvm.Cond.fieldLink "HornHouses$Reader" (39 : Nat) "HornHouses$Reader" "once" "[Ljava/lang/String;") ∈ lw_all := lw_g (lw_at lw_m3 147 rfl) rfl
theorem q749 : (Jvm.Cond.fieldLink "HornHouses$Reader" (53 : Nat) "HornHouses$Reader" "ofEases" "[Ljava/lang/String;") ∈ lw_all := lw_g (lw_at lw_m3 148 rfl) rfl
theorem q750 : (Jvm.Cond.fieldLink "HornHouses$Reader" (58 : Nat) "HornHouses$Reader" "ofBursts" "[Ljava/lang/String;") ∈ lw_all := lw_g (lw_at lw_m3 149 rfl) rfl
theorem q751 : (Jvm.Cond.fieldLink "HornHouses$Reader" (61 : Nat) "HornHouses$Reader" "names" "[Ljava/lang/String;") ∈ lw_all := lw_g (lw_at lw_m3 150 rfl) rfl
theorem q752 : (Jvm.Cond.fieldLink "HornHouses$Reader" (67 : Nat) "HornHouses$Reader" "at" "I") ∈ lw_all := lw_g (lw_at lw_m3 151 rfl) rfl
theorem q753 : (Jvm.Cond.fieldLink "HornHouses$Reader" (85 : Nat) "HornHouses$Reader" "token" "I") ∈ lw_all := lw_g (lw_at lw_m3 152 rfl) rfl
theorem q754 : (Jvm.Cond.fieldLink "HornHouses$Reader" (82 : Nat) "HornHouses$Reader" "begins" "I") ∈ lw_all := lw_g (lw_at lw_m3 153 rfl) rfl
theorem q756 : (Jvm.Cond.fieldLink "HornHouses$Reader" (111 : Nat) "HornHouses$Reader" "ends" "I") ∈ lw_all := lw_g (lw_at lw_m3 155 rfl) rfl
theorem q757 : (Jvm.Cond.fieldLink "HornHouses$Reader" (95 : Nat) "HornHouses$Reader" "number" "I") ∈ lw_all := lw_g (lw_at lw_m3 156 rfl) rfl
theorem q758 : (Jvm.Cond.fieldLink "HornHouses$Reader" (250 : Nat) "HornHouses$Reader" "done" "I") ∈ lw_all := lw_g (lw_at lw_m3 157 rfl) rfl
theorem q759 : (Jvm.Cond.fieldLink "HornHouses$Reader" (235 : Nat) "HornHouses$Reader" "taken" "I") ∈ lw_all := lw_g (lw_at lw_m3 158 rfl) rfl
theorem q760 : (Jvm.Cond.fieldLink "HornHouses$Reader" (3 : Nat) "HornHouses$Reader" "this$0" "LHornHouses;") ∈ lw_all := lw_g (lw_at lw_m3 159 rfl) rfl
theorem q761 : (Jvm.Cond.laysFinal "HornHouses$Reader" "HornHouses$Reader" "size" "I") ∈ lw_all := lw_g (lw_at lw_m3 160 rfl) rfl
theorem q762 : (Jvm.Cond.soleField "HornHouses$Reader" "size") ∈ lw_all := lw_g (lw_at lw_m3 161 rfl) rfl
theorem q763 : (Jvm.Cond.laysFinal "HornHouses$Reader" "HornHouses$Reader" "made" "LHornHouses$Town;") ∈ lw_all := lw_g (lw_at lw_m3 162 rfl) rfl
theorem q764 : (Jvm.Cond.soleField "HornHouses$Reader" "made") ∈ lw_all := lw_g (lw_at lw_m3 163 rfl) rfl
theorem q765 : (Jvm.Cond.laysFinal "HornHouses$Reader" "HornHouses$Reader" "begun" "LHornHouses$Street;") ∈ lw_all := lw_g (lw_at lw_m3 164 rfl) rfl
theorem q766 : (Jvm.Cond.soleField "HornHouses$Reader" "begun") ∈ lw_all := lw_g (lw_at lw_m3 165 rfl) rfl
theorem q767 : (Jvm.Cond.laysFinal "HornHouses$Reader" "HornHouses$Reader" "once" "[Ljava/lang/String;") ∈ lw_all := lw_g (lw_at lw_m3 166 rfl) rfl
theorem q768 : (Jvm.Cond.soleField "HornHouses$Reader" "once") ∈ lw_all := lw_g (lw_at lw_m3 167 rfl) rfl
theorem q769 : (Jvm.Cond.laysFinal "HornHouses$Reader" "HornHouses$Reader" "ofEases" "[Ljava/lang/String;") ∈ lw_all := lw_g (lw_at lw_m3 168 rfl) rfl
theorem q770 : (Jvm.Cond.soleField "HornHouses$Reader" "ofEases") ∈ lw_all := lw_g (lw_at lw_m3 169 rfl) rfl
theorem q771 : (Jvm.Cond.laysFinal "HornHouses$Reader" "HornHouses$Reader" "ofBursts" "[Ljava/lang/String;") ∈ lw_all := lw_g (lw_at lw_m3 170 rfl) rfl
theorem q772 : (Jvm.Cond.soleField "HornHouses$Reader" "ofBursts") ∈ lw_all := lw_g (lw_at lw_m3 171 rfl) rfl
theorem q773 : (Jvm.Cond.lays "HornHouses$Reader" "HornHouses$Reader" "names" "[Ljava/lang/String;") ∈ lw_all := lw_g (lw_at lw_m3 172 rfl) rfl
theorem q774 : (Jvm.Cond.soleField "HornHouses$Reader" "names") ∈ lw_all := lw_g (lw_at lw_m3 173 rfl) rfl
theorem q775 : (Jvm.Cond.lays "HornHouses$Reader" "HornHouses$Reader" "at" "I") ∈ lw_all := lw_g (lw_at lw_m3 174 rfl) rfl
theorem q776 : (Jvm.Cond.soleField "HornHouses$Reader" "at") ∈ lw_all := lw_g (lw_at lw_m3 175 rfl) rfl
theorem q777 : (Jvm.Cond.lays "HornHouses$Reader" "HornHouses$Reader" "token" "I") ∈ lw_all := lw_g (lw_at lw_m3 176 rfl) rfl
theorem q778 : (Jvm.Cond.soleField "HornHouses$Reader" "token") ∈ lw_all := lw_g (lw_at lw_m3 177 rfl) rfl
theorem q779 : (Jvm.Cond.lays "HornHouses$Reader" "HornHouses$Reader" "begins" "I") ∈ lw_all := lw_g (lw_at lw_m3 178 rfl) rfl
theorem q780 : (Jvm.Cond.soleField "HornHouses$Reader" "begins") ∈ lw_all := lw_g (lw_at lw_m3 179 rfl) rfl
theorem q781 : (Jvm.Cond.lays "HornHouses$Reader" "HornHouses$Reader" "ends" "I") ∈ lw_all := lw_g (lw_at lw_m3 180 rfl) rfl
theorem q782 : (Jvm.Cond.soleField "HornHouses$Reader" "ends") ∈ lw_all := lw_g (lw_at lw_m3 181 rfl) rfl
theorem q783 : (Jvm.Cond.lays "HornHouses$Reader" "HornHouses$Reader" "number" "I") ∈ lw_all := lw_g (lw_at lw_m3 182 rfl) rfl
theorem q784 : (Jvm.Cond.soleField "HornHouses$Reader" "number") ∈ lw_all := lw_g (lw_at lw_m3 183 rfl) rfl
theorem q785 : (Jvm.Cond.lays "HornHouses$Reader" "HornHouses$Reader" "done" "I") ∈ lw_all := lw_g (lw_at lw_m3 184 rfl) rfl
theorem q786 : (Jvm.Cond.soleField "HornHouses$Reader" "done") ∈ lw_all := lw_g (lw_at lw_m3 185 rfl) rfl
theorem q787 : (Jvm.Cond.lays "HornHouses$Reader" "HornHouses$Reader" "taken" "I") ∈ lw_all := lw_g (lw_at lw_m3 186 rfl) rfl
theorem q788 : (Jvm.Cond.soleField "HornHouses$Reader" "taken") ∈ lw_all := lw_g (lw_at lw_m3 187 rfl) rfl
theorem q789 : (Jvm.Cond.laysFinal "HornHouses$Reader" "HornHouses$Reader" "this$0" "LHornHouses;") ∈ lw_all := lw_g (lw_at lw_m3 188 rfl) rfl
theorem q790 : (Jvm.Cond.soleField "HornHouses$Reader" "this$0") ∈ lw_all := lw_g (lw_at lw_m3 189 rfl) rfl
theorem q791 : (Jvm.Cond.superclass "HornHouses$Reader" "java/lang/Object") ∈ lw_all := lw_g (lw_at lw_m3 190 rfl) rfl
theorem q793 : (Jvm.Cond.instanceMethod ({ cls := "HornHouses$Reader", name := "read", desc := "()LHornHouses$Town;" } : Jvm.MethodName)) ∈ lw_all := lw_g (lw_at lw_m3 192 rfl) rfl
theorem q794 : (Jvm.Cond.selects "HornHouses$Reader" ({ cls := "HornHouses$Reader", name := "read", desc := "()LHornHouses$Town;" } : Jvm.MethodName) ({ cls := "HornHouses$Reader", name := "read", desc := "()LHornHouses$Town;" } : Jvm.MethodName)) ∈ lw_all := lw_g (lw_at lw_m3 193 rfl) rfl
theorem q795 : (Jvm.Cond.code ({ cls := "HornHouses$Reader", name := "read", desc := "()LHornHouses$Town;" } : Jvm.MethodName) prog_6_method_25_code (1 : Nat) (Option.some (Jvm.ClassFile.FieldType.object "HornHouses$Town"))) ∈ lw_all := lw_g (lw_at lw_m3 194 rfl) rfl
theorem q796 : (Jvm.Cond.methodLink "HornHouses$Reader" (125 : Nat) ({ cls := "HornHouses$Reader", name := "next", desc := "()V" } : Jvm.MethodName)) ∈ lw_all := lw_g (lw_at lw_m3 195 rfl) rfl
theorem q797 : (Jvm.Cond.privateMethod ({ cls := "HornHouses$Reader", name := "next", desc := "()V" } : Jvm.MethodName)) ∈ lw_tbl := lw_at lw_m3 196 rfl
theorem q798 : (Jvm.Cond.instanceMethod ({ cls := "HornHouses$Reader", name := "next", desc := "()V" } : Jvm.MethodName)) ∈ lw_all := lw_g (lw_at lw_m3 197 rfl) rfl
theorem q799 : (Jvm.Cond.code ({ cls := "HornHouses$Reader", name := "next", desc := "()V" } : Jvm.MethodName) prog_6_method_5_code (1 : Nat) (Option.none : Option Jvm.ClassFile.FieldType)) ∈ lw_all := lw_g (lw_at lw_m3 198 rfl) rfl
theorem q800 : (Jvm.Cond.methodLink "HornHouses$Reader" (74 : Nat) ({ cls := "HornHouses$Reader", name := "here", desc := "()I" } : Jvm.MethodName)) ∈ lw_all := lw_g (lw_at lw_m3 199 rfl) rfl
theorem q801 : (Jvm.Cond.privateMethod ({ cls := "HornHouses$Reader", name := "here", desc := "()I" } : Jvm.MethodName)) ∈ lw_tbl := lw_at lw_m3 200 rfl
theorem q802 : (Jvm.Cond.instanceMethod ({ cls := "HornHouses$Reader", name := "here", desc := "()I" } : Jvm.MethodName)) ∈ lw_all := lw_g (lw_at lw_m3 201 rfl) rfl
theorem q803 : (Jvm.Cond.code ({ cls := "HornHouses$Reader", name := "here", desc := "()I" } : Jvm.MethodName) prog_6_method_2_code (1 : Nat) (Option.some Jvm.ClassFile.FieldType.int)) ∈ lw_all := lw_g (lw_at lw_m3 202 rfl) rfl
theorem q804 : (Jvm.Cond.methodLink "HornHouses$Reader" (88 : Nat) ({ cls := "HornHouses$Reader", name := "isLetter", desc := "()Z" } : Jvm.MethodName)) ∈ lw_all := lw_g (lw_at lw_m3 203 rfl) rfl
theorem q805 : (Jvm.Cond.privateMethod ({ cls := "HornHouses$Reader", name := "isLetter", desc := "()Z" } : Jvm.MethodName)) ∈ lw_tbl := lw_at lw_m3 204 rfl
theorem q806 : (Jvm.Cond.instanceMethod ({ cls := "HornHouses$Reader", name := "isLetter", desc := "()Z" } : Jvm.MethodName)) ∈ lw_all := lw_g (lw_at lw_m3 205 rfl) rfl
theorem q807 : (Jvm.Cond.code ({ cls := "HornHouses$Reader", name := "isLetter", desc := "()Z" } : Jvm.MethodName) prog_6_method_3_code (1 : Nat) (Option.some Jvm.ClassFile.FieldType.boolean)) ∈ lw_all := lw_g (lw_at lw_m3 206 rfl) rfl
theorem q808 : (Jvm.Cond.methodLinkNest "HornHouses$Reader" (78 : Nat) ({ cls := "HornHouses", name := "in", desc := "(III)Z" } : Jvm.MethodName) "HornHouses") ∈ lw_tbl := lw_at lw_m3 207 rfl
theorem q809 : (Jvm.Cond.methodLink "HornHouses$Reader" (92 : Nat) ({ cls := "HornHouses$Reader", name := "isDigit", desc := "()Z" } : Jvm.MethodName)) ∈ lw_all := lw_g (lw_at lw_m3 208 rfl) rfl
theorem q810 : (Jvm.Cond.privateMethod ({ cls := "HornHouses$Reader", name := "isDigit", desc := "()Z" } : Jvm.MethodName)) ∈ lw_tbl := lw_at lw_m3 209 rfl
theorem q811 : (Jvm.Cond.instanceMethod ({ cls := "HornHouses$Reader", name := "isDigit", desc := "()Z" } : Jvm.MethodName)) ∈ lw_all := lw_g (lw_at lw_m3 210 rfl) rfl
theorem q812 : (Jvm.Cond.code ({ cls := "HornHouses$Reader", name := "isDigit", desc := "()Z" } : Jvm.MethodName) prog_6_method_4_code (1 : Nat) (Option.some Jvm.ClassFile.FieldType.boolean)) ∈ lw_all := lw_g (lw_at lw_m3 211 rfl) rfl
theorem q813 : (Jvm.Cond.constant "HornHouses$Reader" (98 : Nat) (100000 : Int32)) ∈ lw_all := lw_g (lw_at lw_m3 212 rfl) rfl
theorem q814 : (Jvm.Cond.methodLink "HornHouses$Reader" (99 : Nat) ({ cls := "java/lang/Math", name := "min", desc := "(II)I" } : Jvm.MethodName)) ∈ lw_all := lw_g (lw_at lw_m3 213 rfl) rfl
theorem q815 : (Jvm.Cond.stringRef "HornHouses$Reader" (105 : Nat) ";()+-*/<=") ∈ lw_tbl := lw_at lw_m3 214 rfl
theorem q816 : (Jvm.Cond.methodLink "HornHouses$Reader" (107 : Nat) ({ cls := "java/lang/String", name := "indexOf", desc := "(I)I" } : Jvm.MethodName)) ∈ lw_all := lw_g (lw_at lw_m3 215 rfl) rfl
theorem q885 : (Jvm.Cond.methodLink "HornHouses$Reader" (270 : Nat) ({ cls := "HornHouses$Reader", name := "line", desc := "()V" } : Jvm.MethodName)) ∈ lw_all := lw_g (lw_at lw_m4 44 rfl) rfl
theorem q886 : (Jvm.Cond.privateMethod ({ cls := "HornHouses$Reader", name := "line", desc := "()V" } : Jvm.MethodName)) ∈ lw_tbl := lw_at lw_m4 45 rfl
theorem q887 : (Jvm.Cond.instanceMethod ({ cls := "HornHouses$Reader", name := "line", desc := "()V" } : Jvm.MethodName)) ∈ lw_all := lw_g (lw_at lw_m4 46 rfl) rfl
theorem q888 : (Jvm.Cond.code ({ cls := "HornHouses$Reader", name := "line", desc := "()V" } : Jvm.MethodName) prog_6_method_24_code (2 : Nat) (Option.none : Option Jvm.ClassFile.FieldType)) ∈ lw_all := lw_g (lw_at lw_m4 47 rfl) rfl
theorem q889 : (Jvm.Cond.methodLink "HornHouses$Reader" (153 : Nat) ({ cls := "HornHouses$Reader", name := "which", desc := "([Ljava/lang/String;)I" } : Jvm.MethodName)) ∈ lw_all := lw_g (lw_at lw_m4 48 rfl) rfl
theorem q890 : (Jvm.Cond.privateMethod ({ cls := "HornHouses$Reader", name := "which", desc := "([Ljava/lang/String;)I" } : Jvm.MethodName)) ∈ lw_tbl := lw_at lw_m4 49 rfl
theorem q891 : (Jvm.Cond.instanceMethod ({ cls := "HornHouses$Reader", name := "which", desc := "([Ljava/lang/String;)I" } : Jvm.MethodName)) ∈ lw_all := lw_g (lw_at lw_m4 50 rfl) rfl
theorem q892 : (Jvm.Cond.code ({ cls := "HornHouses$Reader", name := "which", desc := "([Ljava/lang/String;)I" } : Jvm.MethodName) prog_6_method_7_code (3 : Nat) (Option.some Jvm.ClassFile.FieldType.int)) ∈ lw_all := lw_g (lw_at lw_m4 51 rfl) rfl
theorem q893 : (Jvm.Cond.methodLink "HornHouses$Reader" (121 : Nat) ({ cls := "HornHouses$Reader", name := "is", desc := "(Ljava/lang/String;)Z" } : Jvm.MethodName)) ∈ lw_all := lw_g (lw_at lw_m4 52 rfl) rfl
theorem q894 : (Jvm.Cond.privateMethod ({ cls := "HornHouses$Reader", name := "is", desc := "(Ljava/lang/String;)Z" } : Jvm.MethodName)) ∈ lw_tbl := lw_at lw_m4 53 rfl
theorem q895 : (Jvm.Cond.instanceMethod ({ cls := "HornHouses$Reader", name := "is", desc := "(Ljava/lang/String;)Z" } : Jvm.MethodName)) ∈ lw_all := lw_g (lw_at lw_m4 54 rfl) rfl
theorem q896 : (Jvm.Cond.code ({ cls := "HornHouses$Reader", name := "is", desc := "(Ljava/lang/String;)Z" } : Jvm.MethodName) prog_6_method_6_code (3 : Nat) (Option.some Jvm.ClassFile.FieldType.boolean)) ∈ lw_all := lw_g (lw_at lw_m4 55 rfl) rfl
theorem q897 : (Jvm.Cond.methodLink "HornHouses$Reader" (114 : Nat) ({ cls := "java/lang/String", name := "length", desc := "()I" } : Jvm.MethodName)) ∈ lw_all := lw_g (lw_at lw_m4 56 rfl) rfl
theorem q898 : (Jvm.Cond.methodLink "HornHouses$Reader" (117 : Nat) ({ cls := "java/lang/String", name := "charAt", desc := "(I)C" } : Jvm.MethodName)) ∈ lw_all := lw_g (lw_at lw_m4 57 rfl) rfl
theorem q913 : (Jvm.Cond.methodLink "HornHouses$Reader" (260 : Nat) ({ cls := "HornHouses$Reader", name := "only", desc := "(I)V" } : Jvm.MethodName)) ∈ lw_all := lw_g (lw_at lw_m4 72 rfl) rfl
theorem q914 : (Jvm.Cond.privateMethod ({ cls := "HornHouses$Reader", name := "only", desc := "(I)V" } : Jvm.MethodName)) ∈ lw_tbl := lw_at lw_m4 73 rfl
theorem q915 : (Jvm.Cond.instanceMethod ({ cls := "HornHouses$Reader", name := "only", desc := "(I)V" } : Jvm.MethodName)) ∈ lw_all := lw_g (lw_at lw_m4 74 rfl) rfl
theorem q916 : (Jvm.Cond.code ({ cls := "HornHouses$Reader", name := "only", desc := "(I)V" } : Jvm.MethodName) prog_6_method_23_code (3 : Nat) (Option.none : Option Jvm.ClassFile.FieldType)) ∈ lw_all := lw_g (lw_at lw_m4 75 rfl) rfl
theorem q917 : (Jvm.Cond.methodLinkNest "HornHouses$Reader" (238 : Nat) ({ cls := "HornHouses", name := "isOf", desc := "(II)Z" } : Jvm.MethodName) "HornHouses") ∈ lw_tbl := lw_at lw_m4 76 rfl
theorem q920 : (Jvm.Cond.methodLink "HornHouses$Reader" (133 : Nat) ({ cls := "HornHouses$Reader", name := "want", desc := "(ZI)V" } : Jvm.MethodName)) ∈ lw_all := lw_g (lw_at lw_m4 79 rfl) rfl
theorem q921 : (Jvm.Cond.privateMethod ({ cls := "HornHouses$Reader", name := "want", desc := "(ZI)V" } : Jvm.MethodName)) ∈ lw_tbl := lw_at lw_m4 80 rfl
theorem q922 : (Jvm.Cond.instanceMethod ({ cls := "HornHouses$Reader", name := "want", desc := "(ZI)V" } : Jvm.MethodName)) ∈ lw_all := lw_g (lw_at lw_m4 81 rfl) rfl
theorem q923 : (Jvm.Cond.code ({ cls := "HornHouses$Reader", name := "want", desc := "(ZI)V" } : Jvm.MethodName) prog_6_method_10_code (3 : Nat) (Option.none : Option Jvm.ClassFile.FieldType)) ∈ lw_all := lw_g (lw_at lw_m4 82 rfl) rfl
theorem q924 : (Jvm.Cond.classLink "HornHouses$Reader" (128 : Nat) "HornHouses$Wrong") ∈ lw_all := lw_g (lw_at lw_m4 83 rfl) rfl
theorem q933 : (Jvm.Cond.methodLink "HornHouses$Reader" (130 : Nat) ({ cls := "HornHouses$Wrong", name := "<init>", desc := "(I)V" } : Jvm.MethodName)) ∈ lw_all := lw_g (lw_at lw_m4 92 rfl) rfl
theorem q948 : (Jvm.Cond.methodLink "HornHouses$Reader" (253 : Nat) ({ cls := "HornHouses$Reader", name := "damps", desc := "()V" } : Jvm.MethodName)) ∈ lw_all := lw_g (lw_at lw_m4 107 rfl) rfl
theorem q949 : (Jvm.Cond.privateMethod ({ cls := "HornHouses$Reader", name := "damps", desc := "()V" } : Jvm.MethodName)) ∈ lw_tbl := lw_at lw_m4 108 rfl
theorem q950 : (Jvm.Cond.instanceMethod ({ cls := "HornHouses$Reader", name := "damps", desc := "()V" } : Jvm.MethodName)) ∈ lw_all := lw_g (lw_at lw_m4 109 rfl) rfl
theorem q951 : (Jvm.Cond.code ({ cls := "HornHouses$Reader", name := "damps", desc := "()V" } : Jvm.MethodName) prog_6_method_22_code (1 : Nat) (Option.none : Option Jvm.ClassFile.FieldType)) ∈ lw_all := lw_g (lw_at lw_m4 110 rfl) rfl
theorem q952 : (Jvm.Cond.interfaceEntry "HornHouses$Reader" (248 : Nat)) ∈ lw_tbl := lw_at lw_m4 111 rfl
theorem q953 : (Jvm.Cond.methodLink "HornHouses$Reader" (248 : Nat) ({ cls := "java/util/List", name := "size", desc := "()I" } : Jvm.MethodName)) ∈ lw_all := lw_g (lw_at lw_m4 112 rfl) rfl
theorem q954 : (Jvm.Cond.methodLink "HornHouses$Reader" (142 : Nat) ({ cls := "HornHouses$Reader", name := "number", desc := "(II)I" } : Jvm.MethodName)) ∈ lw_all := lw_g (lw_at lw_m4 113 rfl) rfl
theorem q955 : (Jvm.Cond.privateMethod ({ cls := "HornHouses$Reader", name := "number", desc := "(II)I" } : Jvm.MethodName)) ∈ lw_tbl := lw_at lw_m4 114 rfl
theorem q956 : (Jvm.Cond.instanceMethod ({ cls := "HornHouses$Reader", name := "number", desc := "(II)I" } : Jvm.MethodName)) ∈ lw_all := lw_g (lw_at lw_m4 115 rfl) rfl
theorem q957 : (Jvm.Cond.code ({ cls := "HornHouses$Reader", name := "number", desc := "(II)I" } : Jvm.MethodName) prog_6_method_12_code (4 : Nat) (Option.some Jvm.ClassFile.FieldType.int)) ∈ lw_all := lw_g (lw_at lw_m4 116 rfl) rfl
theorem q958 : (Jvm.Cond.methodLink "HornHouses$Reader" (137 : Nat) ({ cls := "HornHouses$Reader", name := "numberNow", desc := "(II)I" } : Jvm.MethodName)) ∈ lw_all := lw_g (lw_at lw_m4 117 rfl) rfl
theorem q959 : (Jvm.Cond.privateMethod ({ cls := "HornHouses$Reader", name := "numberNow", desc := "(II)I" } : Jvm.MethodName)) ∈ lw_tbl := lw_at lw_m4 118 rfl
theorem q960 : (Jvm.Cond.instanceMethod ({ cls := "HornHouses$Reader", name := "numberNow", desc := "(II)I" } : Jvm.MethodName)) ∈ lw_all := lw_g (lw_at lw_m4 119 rfl) rfl
theorem q961 : (Jvm.Cond.code ({ cls := "HornHouses$Reader", name := "numberNow", desc := "(II)I" } : Jvm.MethodName) prog_6_method_11_code (3 : Nat) (Option.some Jvm.ClassFile.FieldType.int)) ∈ lw_all := lw_g (lw_at lw_m4 120 rfl) rfl
theorem q962 : (Jvm.Cond.methodLink "HornHouses$Reader" (212 : Nat) ({ cls := "java/lang/Integer", name := "valueOf", desc := "(I)Ljava/lang/Integer;" } : Jvm.MethodName)) ∈ lw_all := lw_g (lw_at lw_m4 121 rfl) rfl
theorem q982 : (Jvm.Cond.interfaceEntry "HornHouses$Reader" (218 : Nat)) ∈ lw_tbl := lw_at lw_m4 141 rfl
theorem q983 : (Jvm.Cond.methodLink "HornHouses$Reader" (218 : Nat) ({ cls := "java/util/List", name := "add", desc := "(Ljava/lang/Object;)Z" } : Jvm.MethodName)) ∈ lw_all := lw_g (lw_at lw_m4 142 rfl) rfl
theorem q984 : (Jvm.Cond.methodLink "HornHouses$Reader" (149 : Nat) ({ cls := "HornHouses$Reader", name := "expression", desc := "(I)LHornHouses$Form;" } : Jvm.MethodName)) ∈ lw_all := lw_g (lw_at lw_m4 143 rfl) rfl
theorem q985 : (Jvm.Cond.privateMethod ({ cls := "HornHouses$Reader", name := "expression", desc := "(I)LHornHouses$Form;" } : Jvm.MethodName)) ∈ lw_tbl := lw_at lw_m4 144 rfl
theorem q986 : (Jvm.Cond.instanceMethod ({ cls := "HornHouses$Reader", name := "expression", desc := "(I)LHornHouses$Form;" } : Jvm.MethodName)) ∈ lw_all := lw_g (lw_at lw_m4 145 rfl) rfl
theorem q987 : (Jvm.Cond.code ({ cls := "HornHouses$Reader", name := "expression", desc := "(I)LHornHouses$Form;" } : Jvm.MethodName) prog_6_method_19_code (3 : Nat) (Option.some (Jvm.ClassFile.FieldType.object "HornHouses$Form"))) ∈ lw_all := lw_g (lw_at lw_m4 146 rfl) rfl
theorem q988 : (Jvm.Cond.methodLink "HornHouses$Reader" (145 : Nat) ({ cls := "HornHouses$Reader", name := "isSign", desc := "(C)Z" } : Jvm.MethodName)) ∈ lw_all := lw_g (lw_at lw_m4 147 rfl) rfl
theorem q989 : (Jvm.Cond.privateMethod ({ cls := "HornHouses$Reader", name := "isSign", desc := "(C)Z" } : Jvm.MethodName)) ∈ lw_tbl := lw_at lw_m4 148 rfl
theorem q990 : (Jvm.Cond.instanceMethod ({ cls := "HornHouses$Reader", name := "isSign", desc := "(C)Z" } : Jvm.MethodName)) ∈ lw_all := lw_g (lw_at lw_m4 149 rfl) rfl
theorem q991 : (Jvm.Cond.code ({ cls := "HornHouses$Reader", name := "isSign", desc := "(C)Z" } : Jvm.MethodName) prog_6_method_8_code (2 : Nat) (Option.some Jvm.ClassFile.FieldType.boolean)) ∈ lw_all := lw_g (lw_at lw_m4 150 rfl) rfl
theorem q992 : (Jvm.Cond.classLink "HornHouses$Reader" (160 : Nat) "HornHouses$Chain") ∈ lw_all := lw_g (lw_at lw_m4 151 rfl) rfl
theorem q994 : (Jvm.Cond.methodLink "HornHouses$Reader" (198 : Nat) ({ cls := "HornHouses$Reader", name := "and", desc := "(I)LHornHouses$Form;" } : Jvm.MethodName)) ∈ lw_all := lw_g (lw_at lw_m4 153 rfl) rfl
theorem q995 : (Jvm.Cond.privateMethod ({ cls := "HornHouses$Reader", name := "and", desc := "(I)LHornHouses$Form;" } : Jvm.MethodName)) ∈ lw_tbl := lw_at lw_m4 154 rfl
theorem q996 : (Jvm.Cond.instanceMethod ({ cls := "HornHouses$Reader", name := "and", desc := "(I)LHornHouses$Form;" } : Jvm.MethodName)) ∈ lw_all := lw_g (lw_at lw_m4 155 rfl) rfl
theorem q997 : (Jvm.Cond.code ({ cls := "HornHouses$Reader", name := "and", desc := "(I)LHornHouses$Form;" } : Jvm.MethodName) prog_6_method_18_code (3 : Nat) (Option.some (Jvm.ClassFile.FieldType.object "HornHouses$Form"))) ∈ lw_all := lw_g (lw_at lw_m4 156 rfl) rfl
theorem q998 : (Jvm.Cond.methodLink "HornHouses$Reader" (191 : Nat) ({ cls := "HornHouses$Reader", name := "not", desc := "(I)LHornHouses$Form;" } : Jvm.MethodName)) ∈ lw_all := lw_g (lw_at lw_m4 157 rfl) rfl
theorem q999 : (Jvm.Cond.privateMethod ({ cls := "HornHouses$Reader", name := "not", desc := "(I)LHornHouses$Form;" } : Jvm.MethodName)) ∈ lw_tbl := lw_at lw_m4 158 rfl
theorem q1000 : (Jvm.Cond.instanceMethod ({ cls := "HornHouses$Reader", name := "not", desc := "(I)LHornHouses$Form;" } : Jvm.MethodName)) ∈ lw_all := lw_g (lw_at lw_m4 159 rfl) rfl
theorem q1001 : (Jvm.Cond.code ({ cls := "HornHouses$Reader", name := "not", desc := "(I)LHornHouses$Form;" } : Jvm.MethodName) prog_6_method_17_code (6 : Nat) (Option.some (Jvm.ClassFile.FieldType.object "HornHouses$Form"))) ∈ lw_all := lw_g (lw_at lw_m4 160 rfl) rfl
theorem q1002 : (Jvm.Cond.stringRef "HornHouses$Reader" (183 : Nat) "not") ∈ lw_tbl := lw_at lw_m4 161 rfl
theorem q1003 : (Jvm.Cond.methodLink "HornHouses$Reader" (185 : Nat) ({ cls := "HornHouses$Reader", name := "sum", desc := "(I)LHornHouses$Form;" } : Jvm.MethodName)) ∈ lw_all := lw_g (lw_at lw_m4 162 rfl) rfl
theorem q1004 : (Jvm.Cond.privateMethod ({ cls := "HornHouses$Reader", name := "sum", desc := "(I)LHornHouses$Form;" } : Jvm.MethodName)) ∈ lw_tbl := lw_at lw_m4 163 rfl
theorem q1005 : (Jvm.Cond.instanceMethod ({ cls := "HornHouses$Reader", name := "sum", desc := "(I)LHornHouses$Form;" } : Jvm.MethodName)) ∈ lw_all := lw_g (lw_at lw_m4 164 rfl) rfl
theorem q1006 : (Jvm.Cond.code ({ cls := "HornHouses$Reader", name := "sum", desc := "(I)LHornHouses$Form;" } : Jvm.MethodName) prog_6_method_16_code (4 : Nat) (Option.some (Jvm.ClassFile.FieldType.object "HornHouses$Form"))) ∈ lw_all := lw_g (lw_at lw_m4 165 rfl) rfl
theorem q1007 : (Jvm.Cond.methodLink "HornHouses$Reader" (180 : Nat) ({ cls := "HornHouses$Reader", name := "product", desc := "(I)LHornHouses$Form;" } : Jvm.MethodName)) ∈ lw_all := lw_g (lw_at lw_m4 166 rfl) rfl
theorem q1008 : (Jvm.Cond.privateMethod ({ cls := "HornHouses$Reader", name := "product", desc := "(I)LHornHouses$Form;" } : Jvm.MethodName)) ∈ lw_tbl := lw_at lw_m4 167 rfl
theorem q1009 : (Jvm.Cond.instanceMethod ({ cls := "HornHouses$Reader", name := "product", desc := "(I)LHornHouses$Form;" } : Jvm.MethodName)) ∈ lw_all := lw_g (lw_at lw_m4 168 rfl) rfl
theorem q1010 : (Jvm.Cond.code ({ cls := "HornHouses$Reader", name := "product", desc := "(I)LHornHouses$Form;" } : Jvm.MethodName) prog_6_method_15_code (4 : Nat) (Option.some (Jvm.ClassFile.FieldType.object "HornHouses$Form"))) ∈ lw_all := lw_g (lw_at lw_m4 169 rfl) rfl
theorem q1011 : (Jvm.Cond.methodLink "HornHouses$Reader" (162 : Nat) ({ cls := "HornHouses$Reader", name := "part", desc := "(I)LHornHouses$Form;" } : Jvm.MethodName)) ∈ lw_all := lw_g (lw_at lw_m4 170 rfl) rfl
theorem q1012 : (Jvm.Cond.privateMethod ({ cls := "HornHouses$Reader", name := "part", desc := "(I)LHornHouses$Form;" } : Jvm.MethodName)) ∈ lw_tbl := lw_at lw_m4 171 rfl
theorem q1013 : (Jvm.Cond.instanceMethod ({ cls := "HornHouses$Reader", name := "part", desc := "(I)LHornHouses$Form;" } : Jvm.MethodName)) ∈ lw_all := lw_g (lw_at lw_m4 172 rfl) rfl
theorem q1014 : (Jvm.Cond.code ({ cls := "HornHouses$Reader", name := "part", desc := "(I)LHornHouses$Form;" } : Jvm.MethodName) prog_6_method_13_code (3 : Nat) (Option.some (Jvm.ClassFile.FieldType.object "HornHouses$Form"))) ∈ lw_all := lw_g (lw_at lw_m4 173 rfl) rfl
theorem q1015 : (Jvm.Cond.classLink "HornHouses$Reader" (140 : Nat) "HornHouses$Number") ∈ lw_all := lw_g (lw_at lw_m4 174 rfl) rfl
theorem q1017 : (Jvm.Cond.methodLink "HornHouses$Reader" (144 : Nat) ({ cls := "HornHouses$Number", name := "<init>", desc := "(I)V" } : Jvm.MethodName)) ∈ lw_all := lw_g (lw_at lw_m4 176 rfl) rfl
theorem q1025 : (Jvm.Cond.classLink "HornHouses$Reader" (157 : Nat) "HornHouses$Value") ∈ lw_all := lw_g (lw_at lw_m4 184 rfl) rfl
theorem q1027 : (Jvm.Cond.methodLink "HornHouses$Reader" (159 : Nat) ({ cls := "HornHouses$Value", name := "<init>", desc := "(I)V" } : Jvm.MethodName)) ∈ lw_all := lw_g (lw_at lw_m4 186 rfl) rfl
theorem q1035 : (Jvm.Cond.methodLink "HornHouses$Reader" (165 : Nat) ({ cls := "HornHouses$Chain", name := "<init>", desc := "(LHornHouses$Form;)V" } : Jvm.MethodName)) ∈ lw_all := lw_g (lw_at lw_m4 194 rfl) rfl
theorem q1078 : (Jvm.Cond.methodLink "HornHouses$Reader" (168 : Nat) ({ cls := "HornHouses$Reader", name := "sign", desc := "()C" } : Jvm.MethodName)) ∈ lw_all := lw_g (lw_at lw_m4 237 rfl) rfl
theorem q1079 : (Jvm.Cond.privateMethod ({ cls := "HornHouses$Reader", name := "sign", desc := "()C" } : Jvm.MethodName)) ∈ lw_tbl := lw_at lw_m4 238 rfl
theorem q1080 : (Jvm.Cond.instanceMethod ({ cls := "HornHouses$Reader", name := "sign", desc := "()C" } : Jvm.MethodName)) ∈ lw_all := lw_g (lw_at lw_m4 239 rfl) rfl
theorem q1081 : (Jvm.Cond.code ({ cls := "HornHouses$Reader", name := "sign", desc := "()C" } : Jvm.MethodName) prog_6_method_14_code (2 : Nat) (Option.some Jvm.ClassFile.FieldType.char)) ∈ lw_all := lw_g (lw_at lw_m5 0 rfl) rfl
theorem q1082 : (Jvm.Cond.methodLink "HornHouses$Reader" (172 : Nat) ({ cls := "HornHouses$Chain", name := "add", desc := "(CLHornHouses$Form;)V" } : Jvm.MethodName)) ∈ lw_all := lw_g (lw_at lw_m5 1 rfl) rfl
theorem q1146 : (Jvm.Cond.methodLink "HornHouses$Reader" (176 : Nat) ({ cls := "HornHouses$Chain", name := "plain", desc := "()LHornHouses$Form;" } : Jvm.MethodName)) ∈ lw_all := lw_g (lw_at lw_m5 65 rfl) rfl
theorem q1150 : (Jvm.Cond.classLink "HornHouses$Reader" (188 : Nat) "HornHouses$Not") ∈ lw_all := lw_g (lw_at lw_m5 69 rfl) rfl
theorem q1152 : (Jvm.Cond.methodLink "HornHouses$Reader" (190 : Nat) ({ cls := "HornHouses$Not", name := "<init>", desc := "(LHornHouses$Form;)V" } : Jvm.MethodName)) ∈ lw_all := lw_g (lw_at lw_m5 71 rfl) rfl
theorem q1160 : (Jvm.Cond.stringRef "HornHouses$Reader" (193 : Nat) "and") ∈ lw_tbl := lw_at lw_m5 79 rfl
theorem q1161 : (Jvm.Cond.methodLink "HornHouses$Reader" (195 : Nat) ({ cls := "HornHouses$Reader", name := "passes", desc := "(Ljava/lang/String;)Z" } : Jvm.MethodName)) ∈ lw_all := lw_g (lw_at lw_m5 80 rfl) rfl
theorem q1162 : (Jvm.Cond.privateMethod ({ cls := "HornHouses$Reader", name := "passes", desc := "(Ljava/lang/String;)Z" } : Jvm.MethodName)) ∈ lw_tbl := lw_at lw_m5 81 rfl
theorem q1163 : (Jvm.Cond.instanceMethod ({ cls := "HornHouses$Reader", name := "passes", desc := "(Ljava/lang/String;)Z" } : Jvm.MethodName)) ∈ lw_all := lw_g (lw_at lw_m5 82 rfl) rfl
theorem q1164 : (Jvm.Cond.code ({ cls := "HornHouses$Reader", name := "passes", desc := "(Ljava/lang/String;)Z" } : Jvm.MethodName) prog_6_method_9_code (3 : Nat) (Option.some Jvm.ClassFile.FieldType.boolean)) ∈ lw_all := lw_g (lw_at lw_m5 83 rfl) rfl
theorem q1165 : (Jvm.Cond.stringRef "HornHouses$Reader" (200 : Nat) "or") ∈ lw_tbl := lw_at lw_m5 84 rfl
theorem q1166 : (Jvm.Cond.stringRef "HornHouses$Reader" (263 : Nat) "house") ∈ lw_tbl := lw_at lw_m5 85 rfl
theorem q1167 : (Jvm.Cond.methodLink "HornHouses$Reader" (264 : Nat) ({ cls := "HornHouses$Reader", name := "house", desc := "()V" } : Jvm.MethodName)) ∈ lw_all := lw_g (lw_at lw_m5 86 rfl) rfl
theorem q1168 : (Jvm.Cond.privateMethod ({ cls := "HornHouses$Reader", name := "house", desc := "()V" } : Jvm.MethodName)) ∈ lw_tbl := lw_at lw_m5 87 rfl
theorem q1169 : (Jvm.Cond.instanceMethod ({ cls := "HornHouses$Reader", name := "house", desc := "()V" } : Jvm.MethodName)) ∈ lw_all := lw_g (lw_at lw_m5 88 rfl) rfl
theorem q1170 : (Jvm.Cond.code ({ cls := "HornHouses$Reader", name := "house", desc := "()V" } : Jvm.MethodName) prog_6_method_20_code (3 : Nat) (Option.none : Option Jvm.ClassFile.FieldType)) ∈ lw_all := lw_g (lw_at lw_m5 89 rfl) rfl
theorem q1171 : (Jvm.Cond.methodLink "HornHouses$Reader" (202 : Nat) ({ cls := "HornHouses$Town", name := "houses", desc := "()I" } : Jvm.MethodName)) ∈ lw_all := lw_g (lw_at lw_m5 90 rfl) rfl
theorem q1172 : (Jvm.Cond.stringRef "HornHouses$Reader" (266 : Nat) "person") ∈ lw_tbl := lw_at lw_m5 91 rfl
theorem q1173 : (Jvm.Cond.methodLink "HornHouses$Reader" (268 : Nat) ({ cls := "HornHouses$Reader", name := "person", desc := "()V" } : Jvm.MethodName)) ∈ lw_all := lw_g (lw_at lw_m5 92 rfl) rfl
theorem q1174 : (Jvm.Cond.privateMethod ({ cls := "HornHouses$Reader", name := "person", desc := "()V" } : Jvm.MethodName)) ∈ lw_tbl := lw_at lw_m5 93 rfl
theorem q1175 : (Jvm.Cond.instanceMethod ({ cls := "HornHouses$Reader", name := "person", desc := "()V" } : Jvm.MethodName)) ∈ lw_all := lw_g (lw_at lw_m5 94 rfl) rfl
theorem q1176 : (Jvm.Cond.code ({ cls := "HornHouses$Reader", name := "person", desc := "()V" } : Jvm.MethodName) prog_6_method_21_code (4 : Nat) (Option.none : Option Jvm.ClassFile.FieldType)) ∈ lw_all := lw_g (lw_at lw_m5 95 rfl) rfl
theorem q1177 : (Jvm.Cond.methodLink "HornHouses$Reader" (226 : Nat) ({ cls := "HornHouses$Town", name := "people", desc := "()I" } : Jvm.MethodName)) ∈ lw_all := lw_g (lw_at lw_m5 96 rfl) rfl
theorem q1178 : (Jvm.Cond.stringRef "HornHouses$Reader" (234 : Nat) "in") ∈ lw_tbl := lw_at lw_m5 97 rfl
theorem q2332 : (Jvm.Cond.castable "HornHouses$Reader" "java/lang/Object") ∈ lw_tbl := lw_at lw_m10 51 rfl
theorem in_X5 : ∀ w ∈ wsX50, w ∈ lw_all := lw_in wsX50 [761, 763, 765, 767, 769, 771, 773, 775, 777, 779, 781, 783, 785, 787, 789] (by decide +kernel) (by decide +kernel)
