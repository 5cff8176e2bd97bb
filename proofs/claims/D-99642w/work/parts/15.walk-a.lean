/-! pure functions over the heap, printed out of the bytecode by gen/extract2.py, and their contracts -/
set_option maxRecDepth 100000
/-- an answer of a narrow type -/
def tn (ty : FieldType) (x : Int32) : Option Int32 := if narrow ty (.int x) = .int x then some x else none
theorem tn_eq {ty : FieldType} {x z : Int32} (h : tn ty x = some z) : x = z ∧ narrow ty (.int z) = .int z := by
  unfold tn at h
  split at h
  · rename_i c
    cases h
    exact ⟨rfl, c⟩
  · cases h
theorem lU_J18_329 : XLkSU "java/lang/StringBuilder" 329 mJ17_charAt := ⟨q574, q2318, q575, q576, by decide⟩
theorem xC_X7_41_6 : XCast "HornHouses$Chain" 41 6 := ⟨_, _, Or.inl ⟨by decide, _, _, rfl⟩, q545, Or.inr q537⟩
theorem xC_X7_41_7 : XCast "HornHouses$Chain" 41 7 := ⟨_, _, Or.inl ⟨by decide, _, _, rfl⟩, q545, Or.inr q556⟩
theorem xC_X7_41_8 : XCast "HornHouses$Chain" 41 8 := ⟨_, _, Or.inl ⟨by decide, _, _, rfl⟩, q545, Or.inr q562⟩
theorem xC_X7_41_9 : XCast "HornHouses$Chain" 41 9 := ⟨_, _, Or.inl ⟨by decide, _, _, rfl⟩, q545, Or.inr q548⟩
theorem lU_J17_104 : XLkP "java/lang/AbstractStringBuilder" 104 "java/lang/StringBuilder" mJ17_newCapacity := ⟨q1097, q1099, q1098, yJ17_isLatin1, rfl, q1116⟩
theorem lU_J17_83 : XLkU "java/lang/AbstractStringBuilder" 83 "java/lang/StringBuilder" "java/lang/AbstractStringBuilder" yJ17_isLatin1 mJ17_isLatin1 0 := ⟨⟨q1113, q1115, q1116, q1114, q150⟩, Or.inr ⟨q1114, _, _, _, q1117⟩, by decide, by decide, by decide +kernel⟩
theorem lU_J17_100 : XLkP "java/lang/AbstractStringBuilder" 100 "java/lang/StringBuilder" mJ17_ensureCapacityInternal := ⟨q1093, q1095, q1094, yJ17_isLatin1, rfl, q1116⟩
theorem lU_J17_195 : XLkP "java/lang/AbstractStringBuilder" 195 "java/lang/StringBuilder" mJ17_inflate := ⟨q1121, q1123, q1122, yJ17_isLatin1, rfl, q1116⟩
theorem lU_J18_50 : XLkSU "java/lang/StringBuilder" 50 mJ17_append := ⟨q1090, q2320, q575, q1091, by decide⟩
def k_J11_checkIndex (x0 : Int32) (x1 : Int32) (h : XH) : Option (Int32) := if x0 < 0 then none else if x0 < x1 then some x0 else none
set_option maxHeartbeats 4000000 in
theorem T_J11_checkIndex {l : Launch} {E : XEnv}  {x0 : Int32} {x1 : Int32} {h : XH} {x2 : Value} (hx2 : xisr x2 = true) {r : Int32} (hl : k_J11_checkIndex x0 x1 h = some r) : CM l E mJ11_checkIndex 1 [.int x0, .int x1, x2] h (.inl (some (.int r))) h := by
  unfold k_J11_checkIndex at hl
  cases x2
  case null =>
    refine cm_of (by decide +kernel) rfl (Nat.le_of_ble_eq_true rfl) ?_
    refine cx_iload_n dJ11_checkIndex_0 rfl ?_
    by_cases c1 : x0 < 0
    · rw [if_pos c1] at hl
      refine cx_if_lt (X := True) (tgt := 9) dJ11_checkIndex_1 (by decide) (fun _ => ?_) (fun z => absurd c1 z)
      cases hl
    · rw [if_neg c1] at hl
      refine cx_if_lt (X := True) (tgt := 9) dJ11_checkIndex_1 (by decide) (fun z => absurd z c1) (fun _ => ?_)
      refine cx_iload_n dJ11_checkIndex_4 rfl ?_
      refine cx_iload_n dJ11_checkIndex_5 rfl ?_
      by_cases c2 : x0 < x1
      · rw [if_pos c2] at hl
        refine cx_icmp_lt (X := True) (tgt := 16) dJ11_checkIndex_6 (by decide) (fun _ => ?_) (fun z => absurd c2 z)
        refine cx_iload_n dJ11_checkIndex_16 rfl ?_
        cases hl
        exact cx_iret dJ11_checkIndex_17 rfl rfl rfl rfl
      · rw [if_neg c2] at hl
        refine cx_icmp_lt (X := True) (tgt := 16) dJ11_checkIndex_6 (by decide) (fun z => absurd z c2) (fun _ => ?_)
        cases hl
  case ref w9 =>
    refine cm_of (by decide +kernel) rfl (Nat.le_of_ble_eq_true rfl) ?_
    refine cx_iload_n dJ11_checkIndex_0 rfl ?_
    by_cases c1 : x0 < 0
    · rw [if_pos c1] at hl
      refine cx_if_lt (X := True) (tgt := 9) dJ11_checkIndex_1 (by decide) (fun _ => ?_) (fun z => absurd c1 z)
      cases hl
    · rw [if_neg c1] at hl
      refine cx_if_lt (X := True) (tgt := 9) dJ11_checkIndex_1 (by decide) (fun z => absurd z c1) (fun _ => ?_)
      refine cx_iload_n dJ11_checkIndex_4 rfl ?_
      refine cx_iload_n dJ11_checkIndex_5 rfl ?_
      by_cases c2 : x0 < x1
      · rw [if_pos c2] at hl
        refine cx_icmp_lt (X := True) (tgt := 16) dJ11_checkIndex_6 (by decide) (fun _ => ?_) (fun z => absurd c2 z)
        refine cx_iload_n dJ11_checkIndex_16 rfl ?_
        cases hl
        exact cx_iret dJ11_checkIndex_17 rfl rfl rfl rfl
      · rw [if_neg c2] at hl
        refine cx_icmp_lt (X := True) (tgt := 16) dJ11_checkIndex_6 (by decide) (fun z => absurd z c2) (fun _ => ?_)
        cases hl
  all_goals cases hx2
def k_J19_checkIndex (x0 : Int32) (x1 : Int32) (h : XH) : Option (Int32) := (k_J11_checkIndex x0 x1 h).bind fun r1 => some r1
set_option maxHeartbeats 4000000 in
theorem T_J19_checkIndex {l : Launch} {E : XEnv}  {x0 : Int32} {x1 : Int32} {h : XH} {r : Int32} (hl : k_J19_checkIndex x0 x1 h = some r) : CM l E mJ19_checkIndex 2 [.int x0, .int x1] h (.inl (some (.int r))) h := by
  unfold k_J19_checkIndex at hl
  refine cm_of (by decide +kernel) rfl (Nat.le_of_ble_eq_true rfl) ?_
  refine cx_iload_n dJ19_checkIndex_0 rfl ?_
  refine cx_iload_n dJ19_checkIndex_1 rfl ?_
  refine cx_null dJ19_checkIndex_2 ?_
  obtain ⟨r1, er1, hl⟩ := xb hl
  refine cx_callS (T_J11_checkIndex (x2 := .null) rfl er1) lS_J19_105 C_J11_checkIndex dJ19_checkIndex_3 rfl (by omega) (Nat.le_of_ble_eq_true rfl) ?_
  cases hl
  exact cx_iret dJ19_checkIndex_6 rfl rfl rfl rfl
def k_J2_elementData (x0 : Nat) (x1 : Int32) (h : XH) : Option (Nat) := (cgR h x0 10 1).bind fun v1 => (caR h v1 104 x1).bind fun v2 => some v2
set_option maxHeartbeats 4000000 in
theorem T_J2_elementData {l : Launch} {E : XEnv}  {x0 : Nat} {x1 : Int32} {h : XH} {r : Nat} (hl : k_J2_elementData x0 x1 h = some r) : CM l E mJ2_elementData 1 [.ref x0, .int x1] h (.inl (some (.ref r))) h := by
  unfold k_J2_elementData at hl
  refine cm_of (by decide +kernel) rfl (Nat.le_of_ble_eq_true rfl) ?_
  refine cx_aload_n dJ2_elementData_0 rfl rfl ?_
  obtain ⟨v1, ev1, hl⟩ := xb hl
  refine cx_getR gF_J2_9 dJ2_elementData_1 ev1 ?_
  refine cx_iload_n dJ2_elementData_4 rfl ?_
  obtain ⟨v2, ev2, hl⟩ := xb hl
  refine cx_aald 4 (by decide) dJ2_elementData_5 ev2 ?_
  cases hl
  exact cx_aret dJ2_elementData_6 rfl rfl (Or.inl ⟨_, rfl⟩) rfl rfl
def k_J2_get (x0 : Nat) (x1 : Int32) (h : XH) : Option (Nat) := (cgI h x0 10 2).bind fun v1 => (k_J19_checkIndex x1 v1 h).bind fun r2 => (ckd h x0 10).bind fun u5 => (k_J2_elementData x0 x1 h).bind fun r4 => some r4
set_option maxHeartbeats 4000000 in
theorem T_J2_get {l : Launch} {E : XEnv}  {x0 : Nat} {x1 : Int32} {h : XH} {r : Nat} (hl : k_J2_get x0 x1 h = some r) : CM l E mJ2_get 3 [.ref x0, .int x1] h (.inl (some (.ref r))) h := by
  unfold k_J2_get at hl
  refine cm_of (by decide +kernel) rfl (Nat.le_of_ble_eq_true rfl) ?_
  refine cx_iload_n dJ2_get_0 rfl ?_
  refine cx_aload_n dJ2_get_1 rfl rfl ?_
  obtain ⟨v1, ev1, hl⟩ := xb hl
  refine cx_getI gF_J2_48 dJ2_get_2 ev1 ?_
  obtain ⟨r2, er2, hl⟩ := xb hl
  refine cx_callS (T_J19_checkIndex er2) lS_J2_118 C_J19_checkIndex dJ2_get_5 rfl (by omega) (Nat.le_of_ble_eq_true rfl) ?_
  refine cx_pop dJ2_get_8 rfl ?_
  refine cx_aload_n dJ2_get_9 rfl rfl ?_
  refine cx_iload_n dJ2_get_10 rfl ?_
  obtain ⟨u5, eu5, hl⟩ := xb hl
  obtain ⟨r4, er4, hl⟩ := xb hl
  refine cx_callV (Or.inl ⟨by decide, _, _, rfl⟩) (T_J2_elementData er4) lV_J2_123 C_J2_elementData dJ2_get_11 eu5 (by decide) rfl (by omega) (Nat.le_of_ble_eq_true rfl) ?_
  cases hl
  exact cx_aret dJ2_get_14 rfl rfl (Or.inl ⟨_, rfl⟩) rfl rfl
def k_J2_size (x0 : Nat) (h : XH) : Option (Int32) := (cgI h x0 10 2).bind fun v1 => some v1
set_option maxHeartbeats 4000000 in
theorem T_J2_size {l : Launch} {E : XEnv}  {x0 : Nat} {h : XH} {r : Int32} (hl : k_J2_size x0 h = some r) : CM l E mJ2_size 1 [.ref x0] h (.inl (some (.int r))) h := by
  unfold k_J2_size at hl
  refine cm_of (by decide +kernel) rfl (Nat.le_of_ble_eq_true rfl) ?_
  refine cx_aload_n dJ2_size_0 rfl rfl ?_
  obtain ⟨v1, ev1, hl⟩ := xb hl
  refine cx_getI gF_J2_48 dJ2_size_1 ev1 ?_
  cases hl
  exact cx_iret dJ2_size_4 rfl rfl rfl rfl
def k_J8_checkIndex (c : Nat → Value) (x0 : Int32) (x1 : Int32) (h : XH) : Option (Unit) := (vV (c 25)).bind fun v1 => (k_J11_checkIndex x0 x1 h).bind fun r2 => some ()
set_option maxHeartbeats 4000000 in
theorem T_J8_checkIndex {l : Launch} {E : XEnv}  {x0 : Int32} {x1 : Int32} {h : XH} {r : Unit} (hl : k_J8_checkIndex E.2.2.2 x0 x1 h = some r) : CM l E mJ8_checkIndex 2 [.int x0, .int x1] h (.inl none) h := by
  unfold k_J8_checkIndex at hl
  refine cm_of (by decide +kernel) rfl (Nat.le_of_ble_eq_true rfl) ?_
  refine cx_iload_n dJ8_checkIndex_0 rfl ?_
  refine cx_iload_n dJ8_checkIndex_1 rfl ?_
  obtain ⟨v1, ev1, hl⟩ := xb hl
  refine cx_gets (C := "jdk/internal/util/Preconditions") (nm := "SIOOBE_FORMATTER") (ds := "Ljava/util/function/BiFunction;") (v := E.2.2.2 25) (by simp [xstl]) q582 (Or.inl rfl) dJ8_checkIndex_2 ?_
  refine cx_val (vV_spec ev1).1 ?_
  obtain ⟨r2, er2, hl⟩ := xb hl
  refine cx_callS (T_J11_checkIndex (x2 := v1) (vV_spec ev1).2 er2) lS_J8_1059 C_J11_checkIndex dJ8_checkIndex_5 rfl (by omega) (Nat.le_of_ble_eq_true rfl) ?_
  refine cx_pop dJ8_checkIndex_8 rfl ?_
  cases hl
  exact cx_vret dJ8_checkIndex_9 rfl rfl rfl
def k_J17_charAt (c : Nat → Value) (x0 : Nat) (x1 : Int32) (h : XH) : Option (Int32) := (cgI h x0 12 1).bind fun v1 => (cgR h x0 12 0).bind fun v2 => (cgI h x0 12 3).bind fun v3 => (cal h v2).bind fun v4 => (some (imin v3 (v4 >>> ((v1 : Int32) &&& 31)))).bind fun w5 => (k_J8_checkIndex c x1 w5 h).bind fun r6 => if v1 = 0 then (caI h v2 101 x1).bind fun v9 => (tn .char ((((v9 &&& 255) : Int32).toUInt32 % 65536).toInt32)).bind fun z10 => some z10 else none
set_option maxHeartbeats 4000000 in
theorem T_J17_charAt {l : Launch} {E : XEnv}  {x0 : Nat} {x1 : Int32} {h : XH} {r : Int32} (hl : k_J17_charAt E.2.2.2 x0 x1 h = some r) : CM l E mJ17_charAt 3 [.ref x0, .int x1] h (.inl (some (.int r))) h := by
  unfold k_J17_charAt at hl
  refine cm_of (by decide +kernel) rfl (Nat.le_of_ble_eq_true rfl) ?_
  refine cx_aload_n dJ17_charAt_0 rfl rfl ?_
  obtain ⟨v1, ev1, hl⟩ := xb hl
  refine cx_getI gF_J17_22 dJ17_charAt_1 ev1 ?_
  refine cx_istore_n dJ17_charAt_4 (by decide) ?_
  refine cx_aload_n dJ17_charAt_5 rfl rfl ?_
  obtain ⟨v2, ev2, hl⟩ := xb hl
  refine cx_getR gF_J17_15 dJ17_charAt_6 ev2 ?_
  refine cx_astore_n dJ17_charAt_9 (by decide) rfl ?_
  refine cx_aload_n dJ17_charAt_10 rfl rfl ?_
  obtain ⟨v3, ev3, hl⟩ := xb hl
  refine cx_getI gF_J17_79 dJ17_charAt_11 ev3 ?_
  refine cx_aload_n dJ17_charAt_14 rfl rfl ?_
  obtain ⟨v4, ev4, hl⟩ := xb hl
  refine cx_alen dJ17_charAt_15 ev4 ?_
  refine cx_iload_n dJ17_charAt_16 rfl ?_
  refine cx_ishr dJ17_charAt_17 ?_
  refine cx_mmin q578 dJ17_charAt_18 (by omega) (Nat.le_of_ble_eq_true rfl) ?_
  obtain ⟨w5, ew5, hl⟩ := xb hl
  refine cx_top (Option.some.inj ew5) ?_
  refine cx_istore dJ17_charAt_21 (by decide) ?_
  refine cx_iload_n dJ17_charAt_23 rfl ?_
  refine cx_iload dJ17_charAt_24 rfl ?_
  obtain ⟨r6, er6, hl⟩ := xb hl
  refine cx_callS (T_J8_checkIndex er6) lS_J17_144 C_J8_checkIndex dJ17_charAt_26 rfl (by omega) (Nat.le_of_ble_eq_true rfl) ?_
  refine cx_iload_n dJ17_charAt_29 rfl ?_
  by_cases c8 : v1 = 0
  · rw [if_pos c8] at hl
    refine cx_if_ne (X := True) (tgt := 42) dJ17_charAt_30 (by decide) (fun z => absurd c8 z) (fun _ => ?_)
    refine cx_aload_n dJ17_charAt_33 rfl rfl ?_
    refine cx_iload_n dJ17_charAt_34 rfl ?_
    obtain ⟨v9, ev9, hl⟩ := xb hl
    refine cx_bald dJ17_charAt_35 ev9 ?_
    refine cx_sipush (v := 255) dJ17_charAt_36 (by decide) ?_
    refine cx_iand dJ17_charAt_39 ?_
    refine cx_i2c dJ17_charAt_40 ?_
    obtain ⟨z10, ez10, hl⟩ := xb hl
    refine cx_top (tn_eq ez10).1 ?_
    cases hl
    exact cx_iret dJ17_charAt_41 rfl (tn_eq ez10).2 rfl rfl
  · rw [if_neg c8] at hl
    refine cx_if_ne (X := True) (tgt := 42) dJ17_charAt_30 (by decide) (fun _ => ?_) (fun z => absurd z c8)
    refine cx_aload_n dJ17_charAt_42 rfl rfl ?_
    refine cx_iload_n dJ17_charAt_43 rfl ?_
    cases hl
def k_J18_charAt (c : Nat → Value) (x0 : Nat) (x1 : Int32) (h : XH) : Option (Int32) := (ckd h x0 12).bind fun u2 => (k_J17_charAt c x0 x1 h).bind fun r1 => (tn .char r1).bind fun z3 => some z3
set_option maxHeartbeats 4000000 in
theorem T_J18_charAt {l : Launch} {E : XEnv}  {x0 : Nat} {x1 : Int32} {h : XH} {r : Int32} (hl : k_J18_charAt E.2.2.2 x0 x1 h = some r) : CM l E mJ18_charAt 4 [.ref x0, .int x1] h (.inl (some (.int r))) h := by
  unfold k_J18_charAt at hl
  refine cm_of (by decide +kernel) rfl (Nat.le_of_ble_eq_true rfl) ?_
  refine cx_aload_n dJ18_charAt_0 rfl rfl ?_
  refine cx_iload_n dJ18_charAt_1 rfl ?_
  obtain ⟨u2, eu2, hl⟩ := xb hl
  obtain ⟨r1, er1, hl⟩ := xb hl
  refine cx_callSU (ci := 12) (by decide) rfl (T_J17_charAt er1) lU_J18_329 C_J17_charAt dJ18_charAt_2 eu2 rfl (by omega) (Nat.le_of_ble_eq_true rfl) ?_
  obtain ⟨z3, ez3, hl⟩ := xb hl
  refine cx_top (tn_eq ez3).1 ?_
  cases hl
  exact cx_iret dJ18_charAt_5 rfl (tn_eq ez3).2 rfl rfl
def k_X7_by (x0 : Int32) (x1 : Int32) (x2 : Int32) (h : XH) : Option (Int32) := if x0.toInt < 38 ∨ 61 < x0.toInt then if x1 = 0 then if x2 = 0 then some 0 else some 1 else some 1 else if x0 = 38 then if x1 = 0 then some 0 else if x2 = 0 then some 0 else some 1 else if x0 = 39 then if x1 = 0 then if x2 = 0 then some 0 else some 1 else some 1 else if x0 = 40 then if x1 = 0 then if x2 = 0 then some 0 else some 1 else some 1 else if x0 = 41 then if x1 = 0 then if x2 = 0 then some 0 else some 1 else some 1 else if x0 = 42 then some (x1 * x2) else if x0 = 43 then some (x1 + x2) else if x0 = 44 then if x1 = 0 then if x2 = 0 then some 0 else some 1 else some 1 else if x0 = 45 then some (x1 - x2) else if x0 = 46 then if x1 = 0 then if x2 = 0 then some 0 else some 1 else some 1 else if x0 = 47 then if x2 = 0 then some 0 else if x2 = 0 then none else some (x1 / x2) else if x0 = 48 then if x1 = 0 then if x2 = 0 then some 0 else some 1 else some 1 else if x0 = 49 then if x1 = 0 then if x2 = 0 then some 0 else some 1 else some 1 else if x0 = 50 then if x1 = 0 then if x2 = 0 then some 0 else some 1 else some 1 else if x0 = 51 then if x1 = 0 then if x2 = 0 then some 0 else some 1 else some 1 else if x0 = 52 then if x1 = 0 then if x2 = 0 then some 0 else some 1 else some 1 else if x0 = 53 then if x1 = 0 then if x2 = 0 then some 0 else some 1 else some 1 else if x0 = 54 then if x1 = 0 then if x2 = 0 then some 0 else some 1 else some 1 else if x0 = 55 then if x1 = 0 then if x2 = 0 then some 0 else some 1 else some 1 else if x0 = 56 then if x1 = 0 then if x2 = 0 then some 0 else some 1 else some 1 else if x0 = 57 then if x1 = 0 then if x2 = 0 then some 0 else some 1 else some 1 else if x0 = 58 then if x1 = 0 then if x2 = 0 then some 0 else some 1 else some 1 else if x0 = 59 then if x1 = 0 then if x2 = 0 then some 0 else some 1 else some 1 else if x0 = 60 then if x1 ≥ x2 then some 0 else some 1 else if x0 = 61 then if x1 = x2 then some 1 else some 0 else none
set_option maxHeartbeats 4000000 in
theorem T_X7_by {l : Launch} {E : XEnv}  {x0 : Int32} {x1 : Int32} {x2 : Int32} {h : XH} {r : Int32} (hl : k_X7_by x0 x1 x2 h = some r) : CM l E mX7_by 1 [.int x0, .int x1, .int x2] h (.inl (some (.int r))) h := by
  unfold k_X7_by at hl
  refine cm_of (by decide +kernel) rfl (Nat.le_of_ble_eq_true rfl) ?_
  refine cx_iload_n dX7_by_0 rfl ?_
  by_cases c3 : x0.toInt < 38 ∨ 61 < x0.toInt
  · rw [if_pos c3] at hl
    refine cx_tableOut (tgt := 172) dX7_by_1 c3 (by decide) ?_
    refine cx_iload_n dX7_by_172 rfl ?_
    by_cases c1 : x1 = 0
    · rw [if_pos c1] at hl
      refine cx_if_ne (X := True) (tgt := 180) dX7_by_173 (by decide) (fun z => absurd c1 z) (fun _ => ?_)
      refine cx_iload_n dX7_by_176 rfl ?_
      by_cases c2 : x2 = 0
      · rw [if_pos c2] at hl
        refine cx_if_eq (X := True) (tgt := 184) dX7_by_177 (by decide) (fun _ => ?_) (fun z => absurd c2 z)
        refine cx_iconst (v := 0) dX7_by_184 rfl ?_
        cases hl
        exact cx_iret dX7_by_185 rfl rfl rfl rfl
      · rw [if_neg c2] at hl
        refine cx_if_eq (X := True) (tgt := 184) dX7_by_177 (by decide) (fun z => absurd z c2) (fun _ => ?_)
        refine cx_iconst (v := 1) dX7_by_180 rfl ?_
        refine cx_goto (tgt := 185) dX7_by_181 (by decide) ?_
        cases hl
        exact cx_iret dX7_by_185 rfl rfl rfl rfl
    · rw [if_neg c1] at hl
      refine cx_if_ne (X := True) (tgt := 180) dX7_by_173 (by decide) (fun _ => ?_) (fun z => absurd z c1)
      refine cx_iconst (v := 1) dX7_by_180 rfl ?_
      refine cx_goto (tgt := 185) dX7_by_181 (by decide) ?_
      cases hl
      exact cx_iret dX7_by_185 rfl rfl rfl rfl
  rw [if_neg c3] at hl
  by_cases k4 : x0 = 38
  · rw [if_pos k4] at hl
    refine cx_tableIn (off := 157) (tgt := 158) dX7_by_1 (by rw [k4]; decide) (by rw [k4]; decide) (by rw [k4]; rfl) (by decide) ?_
    refine cx_iload_n dX7_by_158 rfl ?_
    by_cases c5 : x1 = 0
    · rw [if_pos c5] at hl
      refine cx_if_eq (X := True) (tgt := 170) dX7_by_159 (by decide) (fun _ => ?_) (fun z => absurd c5 z)
      refine cx_iconst (v := 0) dX7_by_170 rfl ?_
      cases hl
      exact cx_iret dX7_by_171 rfl rfl rfl rfl
    · rw [if_neg c5] at hl
      refine cx_if_eq (X := True) (tgt := 170) dX7_by_159 (by decide) (fun z => absurd z c5) (fun _ => ?_)
      refine cx_iload_n dX7_by_162 rfl ?_
      by_cases c6 : x2 = 0
      · rw [if_pos c6] at hl
        refine cx_if_eq (X := True) (tgt := 170) dX7_by_163 (by decide) (fun _ => ?_) (fun z => absurd c6 z)
        refine cx_iconst (v := 0) dX7_by_170 rfl ?_
        cases hl
        exact cx_iret dX7_by_171 rfl rfl rfl rfl
      · rw [if_neg c6] at hl
        refine cx_if_eq (X := True) (tgt := 170) dX7_by_163 (by decide) (fun z => absurd z c6) (fun _ => ?_)
        refine cx_iconst (v := 1) dX7_by_166 rfl ?_
        refine cx_goto (tgt := 171) dX7_by_167 (by decide) ?_
        cases hl
        exact cx_iret dX7_by_171 rfl rfl rfl rfl
  rw [if_neg k4] at hl
  by_cases k7 : x0 = 39
  · rw [if_pos k7] at hl
    refine cx_tableIn (off := 171) (tgt := 172) dX7_by_1 (by rw [k7]; decide) (by rw [k7]; decide) (by rw [k7]; rfl) (by decide) ?_
    refine cx_iload_n dX7_by_172 rfl ?_
    by_cases c8 : x1 = 0
    · rw [if_pos c8] at hl
      refine cx_if_ne (X := True) (tgt := 180) dX7_by_173 (by decide) (fun z => absurd c8 z) (fun _ => ?_)
      refine cx_iload_n dX7_by_176 rfl ?_
      by_cases c9 : x2 = 0
      · rw [if_pos c9] at hl
        refine cx_if_eq (X := True) (tgt := 184) dX7_by_177 (by decide) (fun _ => ?_) (fun z => absurd c9 z)
        refine cx_iconst (v := 0) dX7_by_184 rfl ?_
        cases hl
        exact cx_iret dX7_by_185 rfl rfl rfl rfl
      · rw [if_neg c9] at hl
        refine cx_if_eq (X := True) (tgt := 184) dX7_by_177 (by decide) (fun z => absurd z c9) (fun _ => ?_)
        refine cx_iconst (v := 1) dX7_by_180 rfl ?_
        refine cx_goto (tgt := 185) dX7_by_181 (by decide) ?_
        cases hl
        exact cx_iret dX7_by_185 rfl rfl rfl rfl
    · rw [if_neg c8] at hl
      refine cx_if_ne (X := True) (tgt := 180) dX7_by_173 (by decide) (fun _ => ?_) (fun z => absurd z c8)
      refine cx_iconst (v := 1) dX7_by_180 rfl ?_
      refine cx_goto (tgt := 185) dX7_by_181 (by decide) ?_
      cases hl
      exact cx_iret dX7_by_185 rfl rfl rfl rfl
  rw [if_neg k7] at hl
  by_cases k10 : x0 = 40
  · rw [if_pos k10] at hl
    refine cx_tableIn (off := 171) (tgt := 172) dX7_by_1 (by rw [k10]; decide) (by rw [k10]; decide) (by rw [k10]; rfl) (by decide) ?_
    refine cx_iload_n dX7_by_172 rfl ?_
    by_cases c11 : x1 = 0
    · rw [if_pos c11] at hl
      refine cx_if_ne (X := True) (tgt := 180) dX7_by_173 (by decide) (fun z => absurd c11 z) (fun _ => ?_)
      refine cx_iload_n dX7_by_176 rfl ?_
      by_cases c12 : x2 = 0
      · rw [if_pos c12] at hl
        refine cx_if_eq (X := True) (tgt := 184) dX7_by_177 (by decide) (fun _ => ?_) (fun z => absurd c12 z)
        refine cx_iconst (v := 0) dX7_by_184 rfl ?_
        cases hl
        exact cx_iret dX7_by_185 rfl rfl rfl rfl
      · rw [if_neg c12] at hl
        refine cx_if_eq (X := True) (tgt := 184) dX7_by_177 (by decide) (fun z => absurd z c12) (fun _ => ?_)
        refine cx_iconst (v := 1) dX7_by_180 rfl ?_
        refine cx_goto (tgt := 185) dX7_by_181 (by decide) ?_
        cases hl
        exact cx_iret dX7_by_185 rfl rfl rfl rfl
    · rw [if_neg c11] at hl
      refine cx_if_ne (X := True) (tgt := 180) dX7_by_173 (by decide) (fun _ => ?_) (fun z => absurd z c11)
      refine cx_iconst (v := 1) dX7_by_180 rfl ?_
      refine cx_goto (tgt := 185) dX7_by_181 (by decide) ?_
      cases hl
      exact cx_iret dX7_by_185 rfl rfl rfl rfl
  rw [if_neg k10] at hl
  by_cases k13 : x0 = 41
  · rw [if_pos k13] at hl
    refine cx_tableIn (off := 171) (tgt := 172) dX7_by_1 (by rw [k13]; decide) (by rw [k13]; decide) (by rw [k13]; rfl) (by decide) ?_
    refine cx_iload_n dX7_by_172 rfl ?_
    by_cases c14 : x1 = 0
    · rw [if_pos c14] at hl
      refine cx_if_ne (X := True) (tgt := 180) dX7_by_173 (by decide) (fun z => absurd c14 z) (fun _ => ?_)
      refine cx_iload_n dX7_by_176 rfl ?_
      by_cases c15 : x2 = 0
      · rw [if_pos c15] at hl
        refine cx_if_eq (X := True) (tgt := 184) dX7_by_177 (by decide) (fun _ => ?_) (fun z => absurd c15 z)
        refine cx_iconst (v := 0) dX7_by_184 rfl ?_
        cases hl
        exact cx_iret dX7_by_185 rfl rfl rfl rfl
      · rw [if_neg c15] at hl
        refine cx_if_eq (X := True) (tgt := 184) dX7_by_177 (by decide) (fun z => absurd z c15) (fun _ => ?_)
        refine cx_iconst (v := 1) dX7_by_180 rfl ?_
        refine cx_goto (tgt := 185) dX7_by_181 (by decide) ?_
        cases hl
        exact cx_iret dX7_by_185 rfl rfl rfl rfl
    · rw [if_neg c14] at hl
      refine cx_if_ne (X := True) (tgt := 180) dX7_by_173 (by decide) (fun _ => ?_) (fun z => absurd z c14)
      refine cx_iconst (v := 1) dX7_by_180 rfl ?_
      refine cx_goto (tgt := 185) dX7_by_181 (by decide) ?_
      cases hl
      exact cx_iret dX7_by_185 rfl rfl rfl rfl
  rw [if_neg k13] at hl
  by_cases k16 : x0 = 42
  · rw [if_pos k16] at hl
    refine cx_tableIn (off := 119) (tgt := 120) dX7_by_1 (by rw [k16]; decide) (by rw [k16]; decide) (by rw [k16]; rfl) (by decide) ?_
    refine cx_iload_n dX7_by_120 rfl ?_
    refine cx_iload_n dX7_by_121 rfl ?_
    refine cx_imul dX7_by_122 ?_
    cases hl
    exact cx_iret dX7_by_123 rfl rfl rfl rfl
  rw [if_neg k16] at hl
  by_cases k17 : x0 = 43
  · rw [if_pos k17] at hl
    refine cx_tableIn (off := 111) (tgt := 112) dX7_by_1 (by rw [k17]; decide) (by rw [k17]; decide) (by rw [k17]; rfl) (by decide) ?_
    refine cx_iload_n dX7_by_112 rfl ?_
    refine cx_iload_n dX7_by_113 rfl ?_
    refine cx_iadd dX7_by_114 ?_
    cases hl
    exact cx_iret dX7_by_115 rfl rfl rfl rfl
  rw [if_neg k17] at hl
  by_cases k18 : x0 = 44
  · rw [if_pos k18] at hl
    refine cx_tableIn (off := 171) (tgt := 172) dX7_by_1 (by rw [k18]; decide) (by rw [k18]; decide) (by rw [k18]; rfl) (by decide) ?_
    refine cx_iload_n dX7_by_172 rfl ?_
    by_cases c19 : x1 = 0
    · rw [if_pos c19] at hl
      refine cx_if_ne (X := True) (tgt := 180) dX7_by_173 (by decide) (fun z => absurd c19 z) (fun _ => ?_)
      refine cx_iload_n dX7_by_176 rfl ?_
      by_cases c20 : x2 = 0
      · rw [if_pos c20] at hl
        refine cx_if_eq (X := True) (tgt := 184) dX7_by_177 (by decide) (fun _ => ?_) (fun z => absurd c20 z)
        refine cx_iconst (v := 0) dX7_by_184 rfl ?_
        cases hl
        exact cx_iret dX7_by_185 rfl rfl rfl rfl
      · rw [if_neg c20] at hl
        refine cx_if_eq (X := True) (tgt := 184) dX7_by_177 (by decide) (fun z => absurd z c20) (fun _ => ?_)
        refine cx_iconst (v := 1) dX7_by_180 rfl ?_
        refine cx_goto (tgt := 185) dX7_by_181 (by decide) ?_
        cases hl
        exact cx_iret dX7_by_185 rfl rfl rfl rfl
    · rw [if_neg c19] at hl
      refine cx_if_ne (X := True) (tgt := 180) dX7_by_173 (by decide) (fun _ => ?_) (fun z => absurd z c19)
      refine cx_iconst (v := 1) dX7_by_180 rfl ?_
      refine cx_goto (tgt := 185) dX7_by_181 (by decide) ?_
      cases hl
      exact cx_iret dX7_by_185 rfl rfl rfl rfl
  rw [if_neg k18] at hl
  by_cases k21 : x0 = 45
  · rw [if_pos k21] at hl
    refine cx_tableIn (off := 115) (tgt := 116) dX7_by_1 (by rw [k21]; decide) (by rw [k21]; decide) (by rw [k21]; rfl) (by decide) ?_
    refine cx_iload_n dX7_by_116 rfl ?_
    refine cx_iload_n dX7_by_117 rfl ?_
    refine cx_isub dX7_by_118 ?_
    cases hl
    exact cx_iret dX7_by_119 rfl rfl rfl rfl
  rw [if_neg k21] at hl
  by_cases k22 : x0 = 46
  · rw [if_pos k22] at hl
    refine cx_tableIn (off := 171) (tgt := 172) dX7_by_1 (by rw [k22]; decide) (by rw [k22]; decide) (by rw [k22]; rfl) (by decide) ?_
    refine cx_iload_n dX7_by_172 rfl ?_
    by_cases c23 : x1 = 0
    · rw [if_pos c23] at hl
      refine cx_if_ne (X := True) (tgt := 180) dX7_by_173 (by decide) (fun z => absurd c23 z) (fun _ => ?_)
      refine cx_iload_n dX7_by_176 rfl ?_
      by_cases c24 : x2 = 0
      · rw [if_pos c24] at hl
        refine cx_if_eq (X := True) (tgt := 184) dX7_by_177 (by decide) (fun _ => ?_) (fun z => absurd c24 z)
        refine cx_iconst (v := 0) dX7_by_184 rfl ?_
        cases hl
        exact cx_iret dX7_by_185 rfl rfl rfl rfl
      · rw [if_neg c24] at hl
        refine cx_if_eq (X := True) (tgt := 184) dX7_by_177 (by decide) (fun z => absurd z c24) (fun _ => ?_)
        refine cx_iconst (v := 1) dX7_by_180 rfl ?_
        refine cx_goto (tgt := 185) dX7_by_181 (by decide) ?_
        cases hl
        exact cx_iret dX7_by_185 rfl rfl rfl rfl
    · rw [if_neg c23] at hl
      refine cx_if_ne (X := True) (tgt := 180) dX7_by_173 (by decide) (fun _ => ?_) (fun z => absurd z c23)
      refine cx_iconst (v := 1) dX7_by_180 rfl ?_
      refine cx_goto (tgt := 185) dX7_by_181 (by decide) ?_
      cases hl
      exact cx_iret dX7_by_185 rfl rfl rfl rfl
  rw [if_neg k22] at hl
  by_cases k25 : x0 = 47
  · rw [if_pos k25] at hl
    refine cx_tableIn (off := 123) (tgt := 124) dX7_by_1 (by rw [k25]; decide) (by rw [k25]; decide) (by rw [k25]; rfl) (by decide) ?_
    refine cx_iload_n dX7_by_124 rfl ?_
    by_cases c26 : x2 = 0
    · rw [if_pos c26] at hl
      refine cx_if_ne (X := True) (tgt := 132) dX7_by_125 (by decide) (fun z => absurd c26 z) (fun _ => ?_)
      refine cx_iconst (v := 0) dX7_by_128 rfl ?_
      refine cx_goto (tgt := 135) dX7_by_129 (by decide) ?_
      cases hl
      exact cx_iret dX7_by_135 rfl rfl rfl rfl
    · rw [if_neg c26] at hl
      refine cx_if_ne (X := True) (tgt := 132) dX7_by_125 (by decide) (fun _ => ?_) (fun z => absurd z c26)
      refine cx_iload_n dX7_by_132 rfl ?_
      refine cx_iload_n dX7_by_133 rfl ?_
      by_cases z27 : x2 = 0
      · rw [if_pos z27] at hl; cases hl
      rw [if_neg z27] at hl
      refine cx_idiv dX7_by_134 z27 ?_
      cases hl
      exact cx_iret dX7_by_135 rfl rfl rfl rfl
  rw [if_neg k25] at hl
  by_cases k28 : x0 = 48
  · rw [if_pos k28] at hl
    refine cx_tableIn (off := 171) (tgt := 172) dX7_by_1 (by rw [k28]; decide) (by rw [k28]; decide) (by rw [k28]; rfl) (by decide) ?_
    refine cx_iload_n dX7_by_172 rfl ?_
    by_cases c29 : x1 = 0
    · rw [if_pos c29] at hl
      refine cx_if_ne (X := True) (tgt := 180) dX7_by_173 (by decide) (fun z => absurd c29 z) (fun _ => ?_)
      refine cx_iload_n dX7_by_176 rfl ?_
      by_cases c30 : x2 = 0
      · rw [if_pos c30] at hl
        refine cx_if_eq (X := True) (tgt := 184) dX7_by_177 (by decide) (fun _ => ?_) (fun z => absurd c30 z)
        refine cx_iconst (v := 0) dX7_by_184 rfl ?_
        cases hl
        exact cx_iret dX7_by_185 rfl rfl rfl rfl
      · rw [if_neg c30] at hl
        refine cx_if_eq (X := True) (tgt := 184) dX7_by_177 (by decide) (fun z => absurd z c30) (fun _ => ?_)
        refine cx_iconst (v := 1) dX7_by_180 rfl ?_
        refine cx_goto (tgt := 185) dX7_by_181 (by decide) ?_
        cases hl
        exact cx_iret dX7_by_185 rfl rfl rfl rfl
    · rw [if_neg c29] at hl
      refine cx_if_ne (X := True) (tgt := 180) dX7_by_173 (by decide) (fun _ => ?_) (fun z => absurd z c29)
      refine cx_iconst (v := 1) dX7_by_180 rfl ?_
      refine cx_goto (tgt := 185) dX7_by_181 (by decide) ?_
      cases hl
      exact cx_iret dX7_by_185 rfl rfl rfl rfl
  rw [if_neg k28] at hl
  by_cases k31 : x0 = 49
  · rw [if_pos k31] at hl
    refine cx_tableIn (off := 171) (tgt := 172) dX7_by_1 (by rw [k31]; decide) (by rw [k31]; decide) (by rw [k31]; rfl) (by decide) ?_
    refine cx_iload_n dX7_by_172 rfl ?_
    by_cases c32 : x1 = 0
    · rw [if_pos c32] at hl
      refine cx_if_ne (X := True) (tgt := 180) dX7_by_173 (by decide) (fun z => absurd c32 z) (fun _ => ?_)
      refine cx_iload_n dX7_by_176 rfl ?_
      by_cases c33 : x2 = 0
      · rw [if_pos c33] at hl
        refine cx_if_eq (X := True) (tgt := 184) dX7_by_177 (by decide) (fun _ => ?_) (fun z => absurd c33 z)
        refine cx_iconst (v := 0) dX7_by_184 rfl ?_
        cases hl
        exact cx_iret dX7_by_185 rfl rfl rfl rfl
      · rw [if_neg c33] at hl
        refine cx_if_eq (X := True) (tgt := 184) dX7_by_177 (by decide) (fun z => absurd z c33) (fun _ => ?_)
        refine cx_iconst (v := 1) dX7_by_180 rfl ?_
        refine cx_goto (tgt := 185) dX7_by_181 (by decide) ?_
        cases hl
        exact cx_iret dX7_by_185 rfl rfl rfl rfl
    · rw [if_neg c32] at hl
      refine cx_if_ne (X := True) (tgt := 180) dX7_by_173 (by decide) (fun _ => ?_) (fun z => absurd z c32)
      refine cx_iconst (v := 1) dX7_by_180 rfl ?_
      refine cx_goto (tgt := 185) dX7_by_181 (by decide) ?_
      cases hl
      exact cx_iret dX7_by_185 rfl rfl rfl rfl
  rw [if_neg k31] at hl
  by_cases k34 : x0 = 50
  · rw [if_pos k34] at hl
    refine cx_tableIn (off := 171) (tgt := 172) dX7_by_1 (by rw [k34]; decide) (by rw [k34]; decide) (by rw [k34]; rfl) (by decide) ?_
    refine cx_iload_n dX7_by_172 rfl ?_
    by_cases c35 : x1 = 0
    · rw [if_pos c35] at hl
      refine cx_if_ne (X := True) (tgt := 180) dX7_by_173 (by decide) (fun z => absurd c35 z) (fun _ => ?_)
      refine cx_iload_n dX7_by_176 rfl ?_
      by_cases c36 : x2 = 0
      · rw [if_pos c36] at hl
        refine cx_if_eq (X := True) (tgt := 184) dX7_by_177 (by decide) (fun _ => ?_) (fun z => absurd c36 z)
        refine cx_iconst (v := 0) dX7_by_184 rfl ?_
        cases hl
        exact cx_iret dX7_by_185 rfl rfl rfl rfl
      · rw [if_neg c36] at hl
        refine cx_if_eq (X := True) (tgt := 184) dX7_by_177 (by decide) (fun z => absurd z c36) (fun _ => ?_)
        refine cx_iconst (v := 1) dX7_by_180 rfl ?_
        refine cx_goto (tgt := 185) dX7_by_181 (by decide) ?_
        cases hl
        exact cx_iret dX7_by_185 rfl rfl rfl rfl
    · rw [if_neg c35] at hl
      refine cx_if_ne (X := True) (tgt := 180) dX7_by_173 (by decide) (fun _ => ?_) (fun z => absurd z c35)
      refine cx_iconst (v := 1) dX7_by_180 rfl ?_
      refine cx_goto (tgt := 185) dX7_by_181 (by decide) ?_
      cases hl
      exact cx_iret dX7_by_185 rfl rfl rfl rfl
  rw [if_neg k34] at hl
  by_cases k37 : x0 = 51
  · rw [if_pos k37] at hl
    refine cx_tableIn (off := 171) (tgt := 172) dX7_by_1 (by rw [k37]; decide) (by rw [k37]; decide) (by rw [k37]; rfl) (by decide) ?_
    refine cx_iload_n dX7_by_172 rfl ?_
    by_cases c38 : x1 = 0
    · rw [if_pos c38] at hl
      refine cx_if_ne (X := True) (tgt := 180) dX7_by_173 (by decide) (fun z => absurd c38 z) (fun _ => ?_)
      refine cx_iload_n dX7_by_176 rfl ?_
      by_cases c39 : x2 = 0
      · rw [if_pos c39] at hl
        refine cx_if_eq (X := True) (tgt := 184) dX7_by_177 (by decide) (fun _ => ?_) (fun z => absurd c39 z)
        refine cx_iconst (v := 0) dX7_by_184 rfl ?_
        cases hl
        exact cx_iret dX7_by_185 rfl rfl rfl rfl
      · rw [if_neg c39] at hl
        refine cx_if_eq (X := True) (tgt := 184) dX7_by_177 (by decide) (fun z => absurd z c39) (fun _ => ?_)
        refine cx_iconst (v := 1) dX7_by_180 rfl ?_
        refine cx_goto (tgt := 185) dX7_by_181 (by decide) ?_
        cases hl
        exact cx_iret dX7_by_185 rfl rfl rfl rfl
    · rw [if_neg c38] at hl
      refine cx_if_ne (X := True) (tgt := 180) dX7_by_173 (by decide) (fun _ => ?_) (fun z => absurd z c38)
      refine cx_iconst (v := 1) dX7_by_180 rfl ?_
      refine cx_goto (tgt := 185) dX7_by_181 (by decide) ?_
      cases hl
      exact cx_iret dX7_by_185 rfl rfl rfl rfl
  rw [if_neg k37] at hl
  by_cases k40 : x0 = 52
  · rw [if_pos k40] at hl
    refine cx_tableIn (off := 171) (tgt := 172) dX7_by_1 (by rw [k40]; decide) (by rw [k40]; decide) (by rw [k40]; rfl) (by decide) ?_
    refine cx_iload_n dX7_by_172 rfl ?_
    by_cases c41 : x1 = 0
    · rw [if_pos c41] at hl
      refine cx_if_ne (X := True) (tgt := 180) dX7_by_173 (by decide) (fun z => absurd c41 z) (fun _ => ?_)
      refine cx_iload_n dX7_by_176 rfl ?_
      by_cases c42 : x2 = 0
      · rw [if_pos c42] at hl
        refine cx_if_eq (X := True) (tgt := 184) dX7_by_177 (by decide) (fun _ => ?_) (fun z => absurd c42 z)
        refine cx_iconst (v := 0) dX7_by_184 rfl ?_
        cases hl
        exact cx_iret dX7_by_185 rfl rfl rfl rfl
      · rw [if_neg c42] at hl
        refine cx_if_eq (X := True) (tgt := 184) dX7_by_177 (by decide) (fun z => absurd z c42) (fun _ => ?_)
        refine cx_iconst (v := 1) dX7_by_180 rfl ?_
        refine cx_goto (tgt := 185) dX7_by_181 (by decide) ?_
        cases hl
        exact cx_iret dX7_by_185 rfl rfl rfl rfl
    · rw [if_neg c41] at hl
      refine cx_if_ne (X := True) (tgt := 180) dX7_by_173 (by decide) (fun _ => ?_) (fun z => absurd z c41)
      refine cx_iconst (v := 1) dX7_by_180 rfl ?_
      refine cx_goto (tgt := 185) dX7_by_181 (by decide) ?_
      cases hl
      exact cx_iret dX7_by_185 rfl rfl rfl rfl
  rw [if_neg k40] at hl
  by_cases k43 : x0 = 53
  · rw [if_pos k43] at hl
    refine cx_tableIn (off := 171) (tgt := 172) dX7_by_1 (by rw [k43]; decide) (by rw [k43]; decide) (by rw [k43]; rfl) (by decide) ?_
    refine cx_iload_n dX7_by_172 rfl ?_
    by_cases c44 : x1 = 0
    · rw [if_pos c44] at hl
      refine cx_if_ne (X := True) (tgt := 180) dX7_by_173 (by decide) (fun z => absurd c44 z) (fun _ => ?_)
      refine cx_iload_n dX7_by_176 rfl ?_
      by_cases c45 : x2 = 0
      · rw [if_pos c45] at hl
        refine cx_if_eq (X := True) (tgt := 184) dX7_by_177 (by decide) (fun _ => ?_) (fun z => absurd c45 z)
        refine cx_iconst (v := 0) dX7_by_184 rfl ?_
        cases hl
        exact cx_iret dX7_by_185 rfl rfl rfl rfl
      · rw [if_neg c45] at hl
        refine cx_if_eq (X := True) (tgt := 184) dX7_by_177 (by decide) (fun z => absurd z c45) (fun _ => ?_)
        refine cx_iconst (v := 1) dX7_by_180 rfl ?_
        refine cx_goto (tgt := 185) dX7_by_181 (by decide) ?_
        cases hl
        exact cx_iret dX7_by_185 rfl rfl rfl rfl
    · rw [if_neg c44] at hl
      refine cx_if_ne (X := True) (tgt := 180) dX7_by_173 (by decide) (fun _ => ?_) (fun z => absurd z c44)
      refine cx_iconst (v := 1) dX7_by_180 rfl ?_
      refine cx_goto (tgt := 185) dX7_by_181 (by decide) ?_
      cases hl
      exact cx_iret dX7_by_185 rfl rfl rfl rfl
  rw [if_neg k43] at hl
  by_cases k46 : x0 = 54
  · rw [if_pos k46] at hl
    refine cx_tableIn (off := 171) (tgt := 172) dX7_by_1 (by rw [k46]; decide) (by rw [k46]; decide) (by rw [k46]; rfl) (by decide) ?_
    refine cx_iload_n dX7_by_172 rfl ?_
    by_cases c47 : x1 = 0
    · rw [if_pos c47] at hl
      refine cx_if_ne (X := True) (tgt := 180) dX7_by_173 (by decide) (fun z => absurd c47 z) (fun _ => ?_)
      refine cx_iload_n dX7_by_176 rfl ?_
      by_cases c48 : x2 = 0
      · rw [if_pos c48] at hl
        refine cx_if_eq (X := True) (tgt := 184) dX7_by_177 (by decide) (fun _ => ?_) (fun z => absurd c48 z)
        refine cx_iconst (v := 0) dX7_by_184 rfl ?_
        cases hl
        exact cx_iret dX7_by_185 rfl rfl rfl rfl
      · rw [if_neg c48] at hl
        refine cx_if_eq (X := True) (tgt := 184) dX7_by_177 (by decide) (fun z => absurd z c48) (fun _ => ?_)
        refine cx_iconst (v := 1) dX7_by_180 rfl ?_
        refine cx_goto (tgt := 185) dX7_by_181 (by decide) ?_
        cases hl
        exact cx_iret dX7_by_185 rfl rfl rfl rfl
    · rw [if_neg c47] at hl
      refine cx_if_ne (X := True) (tgt := 180) dX7_by_173 (by decide) (fun _ => ?_) (fun z => absurd z c47)
      refine cx_iconst (v := 1) dX7_by_180 rfl ?_
      refine cx_goto (tgt := 185) dX7_by_181 (by decide) ?_
      cases hl
      exact cx_iret dX7_by_185 rfl rfl rfl rfl
  rw [if_neg k46] at hl
  by_cases k49 : x0 = 55
  · rw [if_pos k49] at hl
    refine cx_tableIn (off := 171) (tgt := 172) dX7_by_1 (by rw [k49]; decide) (by rw [k49]; decide) (by rw [k49]; rfl) (by decide) ?_
    refine cx_iload_n dX7_by_172 rfl ?_
    by_cases c50 : x1 = 0
    · rw [if_pos c50] at hl
      refine cx_if_ne (X := True) (tgt := 180) dX7_by_173 (by decide) (fun z => absurd c50 z) (fun _ => ?_)
      refine cx_iload_n dX7_by_176 rfl ?_
      by_cases c51 : x2 = 0
      · rw [if_pos c51] at hl
        refine cx_if_eq (X := True) (tgt := 184) dX7_by_177 (by decide) (fun _ => ?_) (fun z => absurd c51 z)
        refine cx_iconst (v := 0) dX7_by_184 rfl ?_
        cases hl
        exact cx_iret dX7_by_185 rfl rfl rfl rfl
      · rw [if_neg c51] at hl
        refine cx_if_eq (X := True) (tgt := 184) dX7_by_177 (by decide) (fun z => absurd z c51) (fun _ => ?_)
        refine cx_iconst (v := 1) dX7_by_180 rfl ?_
        refine cx_goto (tgt := 185) dX7_by_181 (by decide) ?_
        cases hl
        exact cx_iret dX7_by_185 rfl rfl rfl rfl
    · rw [if_neg c50] at hl
      refine cx_if_ne (X := True) (tgt := 180) dX7_by_173 (by decide) (fun _ => ?_) (fun z => absurd z c50)
      refine cx_iconst (v := 1) dX7_by_180 rfl ?_
      refine cx_goto (tgt := 185) dX7_by_181 (by decide) ?_
      cases hl
      exact cx_iret dX7_by_185 rfl rfl rfl rfl
  rw [if_neg k49] at hl
  by_cases k52 : x0 = 56
  · rw [if_pos k52] at hl
    refine cx_tableIn (off := 171) (tgt := 172) dX7_by_1 (by rw [k52]; decide) (by rw [k52]; decide) (by rw [k52]; rfl) (by decide) ?_
    refine cx_iload_n dX7_by_172 rfl ?_
    by_cases c53 : x1 = 0
    · rw [if_pos c53] at hl
      refine cx_if_ne (X := True) (tgt := 180) dX7_by_173 (by decide) (fun z => absurd c53 z) (fun _ => ?_)
      refine cx_iload_n dX7_by_176 rfl ?_
      by_cases c54 : x2 = 0
      · rw [if_pos c54] at hl
        refine cx_if_eq (X := True) (tgt := 184) dX7_by_177 (by decide) (fun _ => ?_) (fun z => absurd c54 z)
        refine cx_iconst (v := 0) dX7_by_184 rfl ?_
        cases hl
        exact cx_iret dX7_by_185 rfl rfl rfl rfl
      · rw [if_neg c54] at hl
        refine cx_if_eq (X := True) (tgt := 184) dX7_by_177 (by decide) (fun z => absurd z c54) (fun _ => ?_)
        refine cx_iconst (v := 1) dX7_by_180 rfl ?_
        refine cx_goto (tgt := 185) dX7_by_181 (by decide) ?_
        cases hl
        exact cx_iret dX7_by_185 rfl rfl rfl rfl
    · rw [if_neg c53] at hl
      refine cx_if_ne (X := True) (tgt := 180) dX7_by_173 (by decide) (fun _ => ?_) (fun z => absurd z c53)
      refine cx_iconst (v := 1) dX7_by_180 rfl ?_
      refine cx_goto (tgt := 185) dX7_by_181 (by decide) ?_
      cases hl
      exact cx_iret dX7_by_185 rfl rfl rfl rfl
  rw [if_neg k52] at hl
  by_cases k55 : x0 = 57
  · rw [if_pos k55] at hl
    refine cx_tableIn (off := 171) (tgt := 172) dX7_by_1 (by rw [k55]; decide) (by rw [k55]; decide) (by rw [k55]; rfl) (by decide) ?_
    refine cx_iload_n dX7_by_172 rfl ?_
    by_cases c56 : x1 = 0
    · rw [if_pos c56] at hl
      refine cx_if_ne (X := True) (tgt := 180) dX7_by_173 (by decide) (fun z => absurd c56 z) (fun _ => ?_)
      refine cx_iload_n dX7_by_176 rfl ?_
      by_cases c57 : x2 = 0
      · rw [if_pos c57] at hl
        refine cx_if_eq (X := True) (tgt := 184) dX7_by_177 (by decide) (fun _ => ?_) (fun z => absurd c57 z)
        refine cx_iconst (v := 0) dX7_by_184 rfl ?_
        cases hl
        exact cx_iret dX7_by_185 rfl rfl rfl rfl
      · rw [if_neg c57] at hl
        refine cx_if_eq (X := True) (tgt := 184) dX7_by_177 (by decide) (fun z => absurd z c57) (fun _ => ?_)
        refine cx_iconst (v := 1) dX7_by_180 rfl ?_
        refine cx_goto (tgt := 185) dX7_by_181 (by decide) ?_
        cases hl
        exact cx_iret dX7_by_185 rfl rfl rfl rfl
    · rw [if_neg c56] at hl
      refine cx_if_ne (X := True) (tgt := 180) dX7_by_173 (by decide) (fun _ => ?_) (fun z => absurd z c56)
      refine cx_iconst (v := 1) dX7_by_180 rfl ?_
      refine cx_goto (tgt := 185) dX7_by_181 (by decide) ?_
      cases hl
      exact cx_iret dX7_by_185 rfl rfl rfl rfl
  rw [if_neg k55] at hl
  by_cases k58 : x0 = 58
  · rw [if_pos k58] at hl
    refine cx_tableIn (off := 171) (tgt := 172) dX7_by_1 (by rw [k58]; decide) (by rw [k58]; decide) (by rw [k58]; rfl) (by decide) ?_
    refine cx_iload_n dX7_by_172 rfl ?_
    by_cases c59 : x1 = 0
    · rw [if_pos c59] at hl
      refine cx_if_ne (X := True) (tgt := 180) dX7_by_173 (by decide) (fun z => absurd c59 z) (fun _ => ?_)
      refine cx_iload_n dX7_by_176 rfl ?_
      by_cases c60 : x2 = 0
      · rw [if_pos c60] at hl
        refine cx_if_eq (X := True) (tgt := 184) dX7_by_177 (by decide) (fun _ => ?_) (fun z => absurd c60 z)
        refine cx_iconst (v := 0) dX7_by_184 rfl ?_
        cases hl
        exact cx_iret dX7_by_185 rfl rfl rfl rfl
      · rw [if_neg c60] at hl
        refine cx_if_eq (X := True) (tgt := 184) dX7_by_177 (by decide) (fun z => absurd z c60) (fun _ => ?_)
        refine cx_iconst (v := 1) dX7_by_180 rfl ?_
        refine cx_goto (tgt := 185) dX7_by_181 (by decide) ?_
        cases hl
        exact cx_iret dX7_by_185 rfl rfl rfl rfl
    · rw [if_neg c59] at hl
      refine cx_if_ne (X := True) (tgt := 180) dX7_by_173 (by decide) (fun _ => ?_) (fun z => absurd z c59)
      refine cx_iconst (v := 1) dX7_by_180 rfl ?_
      refine cx_goto (tgt := 185) dX7_by_181 (by decide) ?_
      cases hl
      exact cx_iret dX7_by_185 rfl rfl rfl rfl
  rw [if_neg k58] at hl
  by_cases k61 : x0 = 59
  · rw [if_pos k61] at hl
    refine cx_tableIn (off := 171) (tgt := 172) dX7_by_1 (by rw [k61]; decide) (by rw [k61]; decide) (by rw [k61]; rfl) (by decide) ?_
    refine cx_iload_n dX7_by_172 rfl ?_
    by_cases c62 : x1 = 0
    · rw [if_pos c62] at hl
      refine cx_if_ne (X := True) (tgt := 180) dX7_by_173 (by decide) (fun z => absurd c62 z) (fun _ => ?_)
      refine cx_iload_n dX7_by_176 rfl ?_
      by_cases c63 : x2 = 0
      · rw [if_pos c63] at hl
        refine cx_if_eq (X := True) (tgt := 184) dX7_by_177 (by decide) (fun _ => ?_) (fun z => absurd c63 z)
        refine cx_iconst (v := 0) dX7_by_184 rfl ?_
        cases hl
        exact cx_iret dX7_by_185 rfl rfl rfl rfl
      · rw [if_neg c63] at hl
        refine cx_if_eq (X := True) (tgt := 184) dX7_by_177 (by decide) (fun z => absurd z c63) (fun _ => ?_)
        refine cx_iconst (v := 1) dX7_by_180 rfl ?_
        refine cx_goto (tgt := 185) dX7_by_181 (by decide) ?_
        cases hl
        exact cx_iret dX7_by_185 rfl rfl rfl rfl
    · rw [if_neg c62] at hl
      refine cx_if_ne (X := True) (tgt := 180) dX7_by_173 (by decide) (fun _ => ?_) (fun z => absurd z c62)
      refine cx_iconst (v := 1) dX7_by_180 rfl ?_
      refine cx_goto (tgt := 185) dX7_by_181 (by decide) ?_
      cases hl
      exact cx_iret dX7_by_185 rfl rfl rfl rfl
  rw [if_neg k61] at hl
  by_cases k64 : x0 = 60
  · rw [if_pos k64] at hl
    refine cx_tableIn (off := 135) (tgt := 136) dX7_by_1 (by rw [k64]; decide) (by rw [k64]; decide) (by rw [k64]; rfl) (by decide) ?_
    refine cx_iload_n dX7_by_136 rfl ?_
    refine cx_iload_n dX7_by_137 rfl ?_
    by_cases c65 : x1 ≥ x2
    · rw [if_pos c65] at hl
      refine cx_icmp_ge (X := True) (tgt := 145) dX7_by_138 (by decide) (fun _ => ?_) (fun z => absurd c65 z)
      refine cx_iconst (v := 0) dX7_by_145 rfl ?_
      cases hl
      exact cx_iret dX7_by_146 rfl rfl rfl rfl
    · rw [if_neg c65] at hl
      refine cx_icmp_ge (X := True) (tgt := 145) dX7_by_138 (by decide) (fun z => absurd z c65) (fun _ => ?_)
      refine cx_iconst (v := 1) dX7_by_141 rfl ?_
      refine cx_goto (tgt := 146) dX7_by_142 (by decide) ?_
      cases hl
      exact cx_iret dX7_by_146 rfl rfl rfl rfl
  rw [if_neg k64] at hl
  by_cases k66 : x0 = 61
  · rw [if_pos k66] at hl
    refine cx_tableIn (off := 146) (tgt := 147) dX7_by_1 (by rw [k66]; decide) (by rw [k66]; decide) (by rw [k66]; rfl) (by decide) ?_
    refine cx_iload_n dX7_by_147 rfl ?_
    refine cx_iload_n dX7_by_148 rfl ?_
    by_cases c67 : x1 = x2
    · rw [if_pos c67] at hl
      refine cx_icmp_ne (X := True) (tgt := 156) dX7_by_149 (by decide) (fun z => absurd c67 z) (fun _ => ?_)
      refine cx_iconst (v := 1) dX7_by_152 rfl ?_
      refine cx_goto (tgt := 157) dX7_by_153 (by decide) ?_
      cases hl
      exact cx_iret dX7_by_157 rfl rfl rfl rfl
    · rw [if_neg c67] at hl
      refine cx_icmp_ne (X := True) (tgt := 156) dX7_by_149 (by decide) (fun _ => ?_) (fun z => absurd z c67)
      refine cx_iconst (v := 0) dX7_by_156 rfl ?_
      cases hl
      exact cx_iret dX7_by_157 rfl rfl rfl rfl
  rw [if_neg k66] at hl
  cases hl
/-- the answer of a form, whatever its class -/
def CMof (l : Launch) (E : XEnv) (d a b : Nat) (h : XH) (r : Int32) : Prop := ∃ d', d' ≤ d ∧ ((hk h a = 6 ∧ CM l E mX7_of d' [.ref a, .ref b] h (.inl (some (.int r))) h) ∨ (hk h a = 7 ∧ CM l E mX8_of d' [.ref a, .ref b] h (.inl (some (.int r))) h) ∨ (hk h a = 8 ∧ CM l E mX9_of d' [.ref a, .ref b] h (.inl (some (.int r))) h) ∨ (hk h a = 9 ∧ CM l E mX10_of d' [.ref a, .ref b] h (.inl (some (.int r))) h))
theorem ckd_of {h : XH} {a k : Nat} (e : hk h a = k) : ckd h a k = some () := by
  unfold ckd
  rw [if_pos e]
theorem cx_callOf {l : Launch} {E : XEnv} {M : XMeth} {d pc : Nat} {ls : List (Nat × Value)} {st : List Value} {h hf : XH} {res : XO} {idx count d' a b : Nat} {r : Int32} (hX : CMof l E d' a b h r) (l7 : XLkF M.1.cls idx "HornHouses$Chain" ⟨"HornHouses$Form", "of", "([I)I"⟩ mX7_of 1) (l8 : XLkF M.1.cls idx "HornHouses$Number" ⟨"HornHouses$Form", "of", "([I)I"⟩ mX8_of 1) (l9 : XLkF M.1.cls idx "HornHouses$Value" ⟨"HornHouses$Form", "of", "([I)I"⟩ mX9_of 1) (l10 : XLkF M.1.cls idx "HornHouses$Not" ⟨"HornHouses$Form", "of", "([I)I"⟩ mX10_of 1) (hd : decode M.2.1 pc = .ok (.invokeinterface idx count, 5)) (hdd : d' + 1 ≤ d) (hst : (st.map fun v => v.category).sum ≤ 8) (kk : CX l E M d (pc + 5) ls (.int r :: st) h hf res) : CX l E M d pc ls (.ref b :: .ref a :: st) h hf res := by
  obtain ⟨d2, hle, ⟨e, hc⟩ | ⟨e, hc⟩ | ⟨e, hc⟩ | ⟨e, hc⟩⟩ := hX
  · exact cx_callF (ci := 6) (As := [.ref b]) (r := (RX7, TX7, 2)) (by decide) rfl hc l7 C_X7_of hd (ckd_of e) rfl (by omega) hst kk
  · exact cx_callF (ci := 7) (As := [.ref b]) (r := (RX8, TX8, 1)) (by decide) rfl hc l8 C_X8_of hd (ckd_of e) rfl (by omega) hst kk
  · exact cx_callF (ci := 8) (As := [.ref b]) (r := (RX9, TX9, 1)) (by decide) rfl hc l9 C_X9_of hd (ckd_of e) rfl (by omega) hst kk
  · exact cx_callF (ci := 9) (As := [.ref b]) (r := (RX10, TX10, 1)) (by decide) rfl hc l10 C_X10_of hd (ckd_of e) rfl (by omega) hst kk
def k_X7_of_L22 (of : Nat → Nat → XH → Option Int32) (n : Nat) (c : Nat → Value) (x0 : Nat) (x1 : Nat) (x2 : Int32) (x3 : Int32) (h : XH) : Option ((Int32 × Int32) ⊕ ((Int32))) := (cgR h x0 6 0).bind fun v6 => (ckd h v6 10).bind fun u8 => (k_J2_size v6 h).bind fun r7 => if x3 ≥ r7 then some (.inr x2) else (cgR h x0 6 1).bind fun v10 => (ckd h v10 12).bind fun u12 => (k_J18_charAt c v10 (x3 - 1) h).bind fun r11 => (cgR h x0 6 0).bind fun v13 => (ckd h v13 10).bind fun u15 => (k_J2_get v13 x3 h).bind fun r14 => (cfo h r14).bind fun u16 => (of r14 x1 h).bind fun v17 => (k_X7_by r11 x2 v17 h).bind fun r18 => (some (x3 + 1)).bind fun w20 => some (.inl (r18, w20))
abbrev K_X7_of_L22 (l : Launch) (E : XEnv) (hf : XH) (res : XO) (dd : Nat) (h : XH) (x0 : Nat) (x1 : Nat) (o : (Int32)) : Prop := match o with
  | e => CX l E mX7_of (dd + 5) 75 [(2, .int e)] [] h hf res
def k_X7_of (of : Nat → Nat → XH → Option Int32) (n : Nat) (c : Nat → Value) (x0 : Nat) (x1 : Nat) (h : XH) : Option (Int32) := (cgR h x0 6 0).bind fun v1 => (ckd h v1 10).bind fun u3 => (k_J2_get v1 0 h).bind fun r2 => (cfo h r2).bind fun u4 => (of r2 x1 h).bind fun v5 => (xloop (fun s => k_X7_of_L22 of n c x0 x1 s.1 s.2 h) n (v5, 1)).bind fun o21 => some o21
set_option maxHeartbeats 4000000 in
theorem k_X7_of_L22_s {l : Launch} {E : XEnv} {hf : XH} {res : XO} {dd : Nat} {of : Nat → Nat → XH → Option Int32} (hof : ∀ a b h r, of a b h = some r → CMof l E dd a b h r) {n : Nat} {x0 : Nat} {x1 : Nat} {x2 : Int32} {x3 : Int32} {h : XH} {o : (Int32 × Int32) ⊕ ((Int32))} (hl : k_X7_of_L22 of n E.2.2.2 x0 x1 x2 x3 h = some o) (hK : (xk (fun s : Int32 × Int32 => CX l E mX7_of (dd + 5) 22 [(0, .ref x0), (1, .ref x1), (2, .int s.1), (3, .int s.2)] [] h hf res) (fun r => K_X7_of_L22 l E hf res dd h x0 x1 r) o)) : CX l E mX7_of (dd + 5) 22 [(0, .ref x0), (1, .ref x1), (2, .int x2), (3, .int x3)] [] h hf res := by
  unfold k_X7_of_L22 at hl
  refine cx_iload_n dX7_of_22 rfl ?_
  refine cx_aload_n dX7_of_23 rfl rfl ?_
  obtain ⟨v6, ev6, hl⟩ := xb hl
  refine cx_getR gF_X7_10 dX7_of_24 ev6 ?_
  obtain ⟨u8, eu8, hl⟩ := xb hl
  obtain ⟨r7, er7, hl⟩ := xb hl
  refine cx_callF (ci := 10) (by decide) rfl (T_J2_size er7) lF_X7_33 C_J2_size dX7_of_27 eu8 rfl (by omega) (Nat.le_of_ble_eq_true rfl) ?_
  by_cases c9 : x3 ≥ r7
  · rw [if_pos c9] at hl
    refine cx_icmp_ge (X := True) (tgt := 75) dX7_of_32 (by decide) (fun _ => ?_) (fun z => absurd c9 z)
    cases hl
    exact cx_lsK hK ⟨rfl, trivial⟩
  · rw [if_neg c9] at hl
    refine cx_icmp_ge (X := True) (tgt := 75) dX7_of_32 (by decide) (fun z => absurd z c9) (fun _ => ?_)
    refine cx_aload_n dX7_of_35 rfl rfl ?_
    obtain ⟨v10, ev10, hl⟩ := xb hl
    refine cx_getR gF_X7_19 dX7_of_36 ev10 ?_
    refine cx_iload_n dX7_of_39 rfl ?_
    refine cx_iconst (v := 1) dX7_of_40 rfl ?_
    refine cx_isub dX7_of_41 ?_
    obtain ⟨u12, eu12, hl⟩ := xb hl
    obtain ⟨r11, er11, hl⟩ := xb hl
    refine cx_callV (Or.inl ⟨by decide, _, _, rfl⟩) (T_J18_charAt er11) lV_X7_47 C_J18_charAt dX7_of_42 eu12 (by decide) rfl (by omega) (Nat.le_of_ble_eq_true rfl) ?_
    refine cx_iload_n dX7_of_45 rfl ?_
    refine cx_aload_n dX7_of_46 rfl rfl ?_
    obtain ⟨v13, ev13, hl⟩ := xb hl
    refine cx_getR gF_X7_10 dX7_of_47 ev13 ?_
    refine cx_iload_n dX7_of_50 rfl ?_
    obtain ⟨u15, eu15, hl⟩ := xb hl
    obtain ⟨r14, er14, hl⟩ := xb hl
    refine cx_callF (ci := 10) (by decide) rfl (T_J2_get er14) lF_X7_37 C_J2_get dX7_of_51 eu15 rfl (by omega) (Nat.le_of_ble_eq_true rfl) ?_
    obtain ⟨u16, eu16, hl⟩ := xb hl
    refine cx_castF xC_X7_41_6 xC_X7_41_7 xC_X7_41_8 xC_X7_41_9 dX7_of_56 eu16 ?_
    refine cx_aload_n dX7_of_59 rfl rfl ?_
    obtain ⟨v17, ev17, hl⟩ := xb hl
    refine cx_callOf (hof _ _ _ _ ev17) lF_X7_43_X7 lF_X7_43_X8 lF_X7_43_X9 lF_X7_43_X10 dX7_of_60 (by omega) (Nat.le_of_ble_eq_true rfl) ?_
    obtain ⟨r18, er18, hl⟩ := xb hl
    refine cx_callS (T_X7_by er18) lS_X7_51 C_X7_by dX7_of_65 rfl (by omega) (Nat.le_of_ble_eq_true rfl) ?_
    refine cx_istore_n dX7_of_68 (by decide) ?_
    obtain ⟨w20, ew20, hl⟩ := xb hl
    refine cx_iinc dX7_of_69 rfl (by decide) (Option.some.inj ew20) ?_
    refine cx_goto (tgt := 22) dX7_of_72 (by decide) ?_
    cases hl
    exact cx_lsK hK ⟨rfl, rfl, rfl, rfl, trivial⟩
set_option maxHeartbeats 4000000 in
theorem k_X7_of_L22_ok {l : Launch} {E : XEnv} {hf : XH} {res : XO} {dd : Nat} {of : Nat → Nat → XH → Option Int32} (hof : ∀ a b h r, of a b h = some r → CMof l E dd a b h r) {n : Nat} {x0 : Nat} {x1 : Nat} {h : XH} {s : Int32 × Int32} {o : (Int32)} (hl : xloop (fun s => k_X7_of_L22 of n E.2.2.2 x0 x1 s.1 s.2 h) n s = some o) (hK : K_X7_of_L22 l E hf res dd h x0 x1 o) : CX l E mX7_of (dd + 5) 22 [(0, .ref x0), (1, .ref x1), (2, .int s.1), (3, .int s.2)] [] h hf res :=
  xloop_of (fun s : Int32 × Int32 => CX l E mX7_of (dd + 5) 22 [(0, .ref x0), (1, .ref x1), (2, .int s.1), (3, .int s.2)] [] h hf res) (fun r => K_X7_of_L22 l E hf res dd h x0 x1 r) (fun s o hl hk => k_X7_of_L22_s hof (h := h) (o := o) hl hk) n s o hl hK
set_option maxHeartbeats 4000000 in
theorem T_X7_of {l : Launch} {E : XEnv}  {dd : Nat} {of : Nat → Nat → XH → Option Int32} (hof : ∀ a b h r, of a b h = some r → CMof l E dd a b h r) {n : Nat} {x0 : Nat} {x1 : Nat} {h : XH} {r : Int32} (hl : k_X7_of of n E.2.2.2 x0 x1 h = some r) : CM l E mX7_of (dd + 5) [.ref x0, .ref x1] h (.inl (some (.int r))) h := by
  unfold k_X7_of at hl
  refine cm_of (by decide +kernel) rfl (Nat.le_of_ble_eq_true rfl) ?_
  refine cx_aload_n dX7_of_0 rfl rfl ?_
  obtain ⟨v1, ev1, hl⟩ := xb hl
  refine cx_getR gF_X7_10 dX7_of_1 ev1 ?_
  refine cx_iconst (v := 0) dX7_of_4 rfl ?_
  obtain ⟨u3, eu3, hl⟩ := xb hl
  obtain ⟨r2, er2, hl⟩ := xb hl
  refine cx_callF (ci := 10) (by decide) rfl (T_J2_get er2) lF_X7_37 C_J2_get dX7_of_5 eu3 rfl (by omega) (Nat.le_of_ble_eq_true rfl) ?_
  obtain ⟨u4, eu4, hl⟩ := xb hl
  refine cx_castF xC_X7_41_6 xC_X7_41_7 xC_X7_41_8 xC_X7_41_9 dX7_of_10 eu4 ?_
  refine cx_aload_n dX7_of_13 rfl rfl ?_
  obtain ⟨v5, ev5, hl⟩ := xb hl
  refine cx_callOf (hof _ _ _ _ ev5) lF_X7_43_X7 lF_X7_43_X8 lF_X7_43_X9 lF_X7_43_X10 dX7_of_14 (by omega) (Nat.le_of_ble_eq_true rfl) ?_
  refine cx_istore_n dX7_of_19 (by decide) ?_
  refine cx_iconst (v := 1) dX7_of_20 rfl ?_
  refine cx_istore_n dX7_of_21 (by decide) ?_
  obtain ⟨o21, eo21, hl⟩ := xb hl
  refine cx_lsK (k_X7_of_L22_ok hof (h := h) (s := (v5, 1)) eo21 ?_) ⟨rfl, rfl, rfl, rfl, trivial⟩
  refine cx_iload_n dX7_of_75 rfl ?_
  cases hl
  exact cx_iret dX7_of_76 rfl rfl rfl rfl
def k_X8_of (x0 : Nat) (x1 : Nat) (h : XH) : Option (Int32) := (cgI h x0 7 0).bind fun v1 => some v1
set_option maxHeartbeats 4000000 in
theorem T_X8_of {l : Launch} {E : XEnv}  {x0 : Nat} {x1 : Nat} {h : XH} {r : Int32} (hl : k_X8_of x0 x1 h = some r) : CM l E mX8_of 1 [.ref x0, .ref x1] h (.inl (some (.int r))) h := by
  unfold k_X8_of at hl
  refine cm_of (by decide +kernel) rfl (Nat.le_of_ble_eq_true rfl) ?_
  refine cx_aload_n dX8_of_0 rfl rfl ?_
  obtain ⟨v1, ev1, hl⟩ := xb hl
  refine cx_getI gF_X8_7 dX8_of_1 ev1 ?_
  cases hl
  exact cx_iret dX8_of_4 rfl rfl rfl rfl
def k_X9_of (x0 : Nat) (x1 : Nat) (h : XH) : Option (Int32) := (cgI h x0 8 0).bind fun v1 => (caI h x1 100 v1).bind fun v2 => some v2
set_option maxHeartbeats 4000000 in
theorem T_X9_of {l : Launch} {E : XEnv}  {x0 : Nat} {x1 : Nat} {h : XH} {r : Int32} (hl : k_X9_of x0 x1 h = some r) : CM l E mX9_of 1 [.ref x0, .ref x1] h (.inl (some (.int r))) h := by
  unfold k_X9_of at hl
  refine cm_of (by decide +kernel) rfl (Nat.le_of_ble_eq_true rfl) ?_
  refine cx_aload_n dX9_of_0 rfl rfl ?_
  refine cx_aload_n dX9_of_1 rfl rfl ?_
  obtain ⟨v1, ev1, hl⟩ := xb hl
  refine cx_getI gF_X9_7 dX9_of_2 ev1 ?_
  obtain ⟨v2, ev2, hl⟩ := xb hl
  refine cx_iald dX9_of_5 ev2 ?_
  cases hl
  exact cx_iret dX9_of_6 rfl rfl rfl rfl
def k_X10_of (of : Nat → Nat → XH → Option Int32) (n : Nat) (c : Nat → Value) (x0 : Nat) (x1 : Nat) (h : XH) : Option (Int32) := (cgR h x0 9 0).bind fun v1 => (of v1 x1 h).bind fun v2 => if v2 = 0 then some 1 else some 0
set_option maxHeartbeats 4000000 in
theorem T_X10_of {l : Launch} {E : XEnv}  {dd : Nat} {of : Nat → Nat → XH → Option Int32} (hof : ∀ a b h r, of a b h = some r → CMof l E dd a b h r) {n : Nat} {x0 : Nat} {x1 : Nat} {h : XH} {r : Int32} (hl : k_X10_of of n E.2.2.2 x0 x1 h = some r) : CM l E mX10_of (dd + 1) [.ref x0, .ref x1] h (.inl (some (.int r))) h := by
  unfold k_X10_of at hl
  refine cm_of (by decide +kernel) rfl (Nat.le_of_ble_eq_true rfl) ?_
  refine cx_aload_n dX10_of_0 rfl rfl ?_
  obtain ⟨v1, ev1, hl⟩ := xb hl
  refine cx_getR gF_X10_7 dX10_of_1 ev1 ?_
  refine cx_aload_n dX10_of_4 rfl rfl ?_
  obtain ⟨v2, ev2, hl⟩ := xb hl
  refine cx_callOf (hof _ _ _ _ ev2) lF_X10_13_X7 lF_X10_13_X8 lF_X10_13_X9 lF_X10_13_X10 dX10_of_5 (by omega) (Nat.le_of_ble_eq_true rfl) ?_
  by_cases c3 : v2 = 0
  · rw [if_pos c3] at hl
    refine cx_if_ne (X := True) (tgt := 17) dX10_of_10 (by decide) (fun z => absurd c3 z) (fun _ => ?_)
    refine cx_iconst (v := 1) dX10_of_13 rfl ?_
    refine cx_goto (tgt := 18) dX10_of_14 (by decide) ?_
    cases hl
    exact cx_iret dX10_of_18 rfl rfl rfl rfl
  · rw [if_neg c3] at hl
    refine cx_if_ne (X := True) (tgt := 17) dX10_of_10 (by decide) (fun _ => ?_) (fun z => absurd z c3)
    refine cx_iconst (v := 0) dX10_of_17 rfl ?_
    cases hl
    exact cx_iret dX10_of_18 rfl rfl rfl rfl
def f_of (n : Nat) (c : Nat → Value) : Nat → Nat → Nat → XH → Option Int32
  | 0, _, _, _ => none
  | g + 1, a, b, h => if hk h a = 6 then k_X7_of (f_of n c g) n c a b h else if hk h a = 7 then k_X8_of a b h else if hk h a = 8 then k_X9_of a b h else if hk h a = 9 then k_X10_of (f_of n c g) n c a b h else none
theorem f_of_ok {l : Launch} {E : XEnv} {n : Nat} : ∀ {g a b : Nat} {h : XH} {r : Int32}, f_of n E.2.2.2 g a b h = some r → CMof l E (5 * g) a b h r := by
  intro g
  induction g with
  | zero => intro a b h r hl; cases hl
  | succ g ih =>
    intro a b h r hl
    unfold f_of at hl
    by_cases e : hk h a = 6
    · rw [if_pos e] at hl
      exact ⟨_, by omega, (Or.inl ⟨e, T_X7_of (fun a b h r q => ih q) hl⟩)⟩
    rw [if_neg e] at hl
    by_cases e : hk h a = 7
    · rw [if_pos e] at hl
      exact ⟨_, by omega, (Or.inr (Or.inl ⟨e, T_X8_of hl⟩))⟩
    rw [if_neg e] at hl
    by_cases e : hk h a = 8
    · rw [if_pos e] at hl
      exact ⟨_, by omega, (Or.inr (Or.inr (Or.inl ⟨e, T_X9_of hl⟩)))⟩
    rw [if_neg e] at hl
    by_cases e : hk h a = 9
    · rw [if_pos e] at hl
      exact ⟨_, by omega, (Or.inr (Or.inr (Or.inr ⟨e, T_X10_of (fun a b h r q => ih q) hl⟩)))⟩
    rw [if_neg e] at hl
    cases hl
def k_X5_isSign (x0 : Nat) (x1 : Int32) (h : XH) : Option (Int32) := (cgI h x0 4 8).bind fun v1 => if v1 = 3 then (cgR h x0 4 14).bind fun v3 => (cgR h v3 0 4).bind fun v4 => (cgI h x0 4 9).bind fun v5 => (caI h v4 101 v5).bind fun v6 => if v6 = x1 then some 1 else some 0 else some 0
set_option maxHeartbeats 4000000 in
theorem T_X5_isSign {l : Launch} {E : XEnv}  {x0 : Nat} {x1 : Int32} {h : XH} {r : Int32} (hl : k_X5_isSign x0 x1 h = some r) : CM l E mX5_isSign 1 [.ref x0, .int x1] h (.inl (some (.int r))) h := by
  unfold k_X5_isSign at hl
  refine cm_of (by decide +kernel) rfl (Nat.le_of_ble_eq_true rfl) ?_
  refine cx_aload_n dX5_isSign_0 rfl rfl ?_
  obtain ⟨v1, ev1, hl⟩ := xb hl
  refine cx_getI gF_X5_85 dX5_isSign_1 ev1 ?_
  refine cx_iconst (v := 3) dX5_isSign_4 rfl ?_
  by_cases c2 : v1 = 3
  · rw [if_pos c2] at hl
    refine cx_icmp_ne (X := True) (tgt := 28) dX5_isSign_5 (by decide) (fun z => absurd c2 z) (fun _ => ?_)
    refine cx_aload_n dX5_isSign_8 rfl rfl ?_
    obtain ⟨v3, ev3, hl⟩ := xb hl
    refine cx_getR gF_X5_3 dX5_isSign_9 ev3 ?_
    obtain ⟨v4, ev4, hl⟩ := xb hl
    refine cx_getR gF_X5_70 dX5_isSign_12 ev4 ?_
    refine cx_aload_n dX5_isSign_15 rfl rfl ?_
    obtain ⟨v5, ev5, hl⟩ := xb hl
    refine cx_getI gF_X5_82 dX5_isSign_16 ev5 ?_
    obtain ⟨v6, ev6, hl⟩ := xb hl
    refine cx_bald dX5_isSign_19 ev6 ?_
    refine cx_iload_n dX5_isSign_20 rfl ?_
    by_cases c7 : v6 = x1
    · rw [if_pos c7] at hl
      refine cx_icmp_ne (X := True) (tgt := 28) dX5_isSign_21 (by decide) (fun z => absurd c7 z) (fun _ => ?_)
      refine cx_iconst (v := 1) dX5_isSign_24 rfl ?_
      refine cx_goto (tgt := 29) dX5_isSign_25 (by decide) ?_
      cases hl
      exact cx_iret dX5_isSign_29 rfl rfl rfl rfl
    · rw [if_neg c7] at hl
      refine cx_icmp_ne (X := True) (tgt := 28) dX5_isSign_21 (by decide) (fun _ => ?_) (fun z => absurd z c7)
      refine cx_iconst (v := 0) dX5_isSign_28 rfl ?_
      cases hl
      exact cx_iret dX5_isSign_29 rfl rfl rfl rfl
  · rw [if_neg c2] at hl
    refine cx_icmp_ne (X := True) (tgt := 28) dX5_isSign_5 (by decide) (fun _ => ?_) (fun z => absurd z c2)
    refine cx_iconst (v := 0) dX5_isSign_28 rfl ?_
    cases hl
    exact cx_iret dX5_isSign_29 rfl rfl rfl rfl
def k_J3_init_2_J41 (c : Nat → Value) (x0 : Nat) (x3 : Int32) (h : XH) : Option (XH) := (cpV h x0 5 3 .null).bind fun h8 => (cpV h8 x0 5 0 .null).bind fun h9 => if x3 = 0 then (cpV h9 x0 5 2 .null).bind fun h11 => some h11 else some h9
def k_J3_init_2 (c : Nat → Value) (x0 : Nat) (x3 : Int32) (x4 : Int32) (h : XH) : Option (XH) := (cpu h x0 5 0 (.ref x0)).bind fun h1 => (vV (c 23)).bind fun v2 => (cpV h1 x0 5 1 v2).bind fun h3 => (vV (c 24)).bind fun v4 => (cpV h3 x0 5 2 v4).bind fun h5 => if x4 = 0 then (cpV h5 x0 5 1 .null).bind fun h7 => k_J3_init_2_J41 c x0 x3 h7 else none
set_option maxHeartbeats 4000000 in
theorem k_J3_init_2_J41_s {l : Launch} {E : XEnv}  {x0 : Nat} {x3 : Int32} {h : XH} {r : XH} (hl : k_J3_init_2_J41 E.2.2.2 x0 x3 h = some r) : CX l E mJ3_init_2 2 41 [(0, .ref x0), (1, .null), (2, .null), (3, .int x3)] [] h r (.inl none) := by
  unfold k_J3_init_2_J41 at hl
  refine cx_aload_n dJ3_init_2_41 rfl rfl ?_
  refine cx_aload_n dJ3_init_2_42 rfl rfl ?_
  obtain ⟨h8, eh8, hl⟩ := xb hl
  refine cx_putV (Or.inl ⟨_, rfl⟩) pF_J3_31 dJ3_init_2_43 eh8 ?_
  refine cx_aload_n dJ3_init_2_46 rfl rfl ?_
  refine cx_aload_n dJ3_init_2_47 rfl rfl ?_
  obtain ⟨h9, eh9, hl⟩ := xb hl
  refine cx_putV (Or.inl ⟨_, rfl⟩) pF_J3_7 dJ3_init_2_48 eh9 ?_
  refine cx_iload_n dJ3_init_2_51 rfl ?_
  by_cases c10 : x3 = 0
  · rw [if_pos c10] at hl
    refine cx_if_ne (X := True) (tgt := 60) dJ3_init_2_52 (by decide) (fun z => absurd c10 z) (fun _ => ?_)
    refine cx_aload_n dJ3_init_2_55 rfl rfl ?_
    refine cx_null dJ3_init_2_56 ?_
    obtain ⟨h11, eh11, hl⟩ := xb hl
    refine cx_putV (Or.inl ⟨_, rfl⟩) pF_J3_24 dJ3_init_2_57 eh11 ?_
    cases hl
    exact cx_vret dJ3_init_2_60 rfl rfl rfl
  · rw [if_neg c10] at hl
    refine cx_if_ne (X := True) (tgt := 60) dJ3_init_2_52 (by decide) (fun _ => ?_) (fun z => absurd z c10)
    cases hl
    exact cx_vret dJ3_init_2_60 rfl rfl rfl
set_option maxHeartbeats 4000000 in
theorem T_J3_init_2 {l : Launch} {E : XEnv}  {x0 : Nat} {x3 : Int32} {x4 : Int32} {h : XH} {r : XH} (hl : k_J3_init_2 E.2.2.2 x0 x3 x4 h = some r) : CM l E mJ3_init_2 2 [.ref x0, .null, .null, .int x3, .int x4] h (.inl none) r := by
  unfold k_J3_init_2 at hl
  refine cm_of (by decide +kernel) rfl (Nat.le_of_ble_eq_true rfl) ?_
  refine cx_aload_n dJ3_init_2_0 rfl rfl ?_
  refine cx_objInit q684 q161 q162 dJ3_init_2_1 (by omega) (Nat.le_of_ble_eq_true rfl) ?_
  refine cx_aload_n dJ3_init_2_4 rfl rfl ?_
  refine cx_aload_n dJ3_init_2_5 rfl rfl ?_
  obtain ⟨h1, eh1, hl⟩ := xb hl
  refine cx_putR (Or.inl ⟨_, rfl⟩) pF_J3_7 dJ3_init_2_6 eh1 ?_
  refine cx_aload_n dJ3_init_2_9 rfl rfl ?_
  obtain ⟨v2, ev2, hl⟩ := xb hl
  refine cx_gets (C := "java/lang/Throwable") (nm := "UNASSIGNED_STACK") (ds := "[Ljava/lang/StackTraceElement;") (v := E.2.2.2 23) (by simp [xstl]) q685 (Or.inl rfl) dJ3_init_2_10 ?_
  refine cx_val (vV_spec ev2).1 ?_
  obtain ⟨h3, eh3, hl⟩ := xb hl
  refine cx_putV (Or.inr ⟨_, rfl⟩) pF_J3_17 dJ3_init_2_13 eh3 ?_
  refine cx_aload_n dJ3_init_2_16 rfl rfl ?_
  obtain ⟨v4, ev4, hl⟩ := xb hl
  refine cx_gets (C := "java/lang/Throwable") (nm := "SUPPRESSED_SENTINEL") (ds := "Ljava/util/List;") (v := E.2.2.2 24) (by simp [xstl]) q687 (Or.inl rfl) dJ3_init_2_17 ?_
  refine cx_val (vV_spec ev4).1 ?_
  obtain ⟨h5, eh5, hl⟩ := xb hl
  refine cx_putV (Or.inl ⟨_, rfl⟩) pF_J3_24 dJ3_init_2_20 eh5 ?_
  refine cx_iload dJ3_init_2_23 rfl ?_
  by_cases c6 : x4 = 0
  · rw [if_pos c6] at hl
    refine cx_if_eq (X := True) (tgt := 36) dJ3_init_2_25 (by decide) (fun _ => ?_) (fun z => absurd c6 z)
    refine cx_aload_n dJ3_init_2_36 rfl rfl ?_
    refine cx_null dJ3_init_2_37 ?_
    obtain ⟨h7, eh7, hl⟩ := xb hl
    refine cx_putV (Or.inr ⟨_, rfl⟩) pF_J3_17 dJ3_init_2_38 eh7 ?_
    exact cx_lsK (k_J3_init_2_J41_s hl) ⟨rfl, rfl, rfl, rfl, trivial⟩
  · rw [if_neg c6] at hl
    refine cx_if_eq (X := True) (tgt := 36) dJ3_init_2_25 (by decide) (fun z => absurd z c6) (fun _ => ?_)
    refine cx_aload_n dJ3_init_2_28 rfl rfl ?_
    cases hl
def k_J4_init_2 (c : Nat → Value) (x0 : Nat) (x3 : Int32) (x4 : Int32) (h : XH) : Option (XH) := (k_J3_init_2 c x0 x3 x4 h).bind fun r1 => some r1
set_option maxHeartbeats 4000000 in
theorem T_J4_init_2 {l : Launch} {E : XEnv}  {x0 : Nat} {x3 : Int32} {x4 : Int32} {h : XH} {r : XH} (hl : k_J4_init_2 E.2.2.2 x0 x3 x4 h = some r) : CM l E mJ4_init_2 3 [.ref x0, .null, .null, .int x3, .int x4] h (.inl none) r := by
  unfold k_J4_init_2 at hl
  refine cm_of (by decide +kernel) rfl (Nat.le_of_ble_eq_true rfl) ?_
  refine cx_aload_n dJ4_init_2_0 rfl rfl ?_
  refine cx_aload_n dJ4_init_2_1 rfl rfl ?_
  refine cx_aload_n dJ4_init_2_2 rfl rfl ?_
  refine cx_iload_n dJ4_init_2_3 rfl ?_
  refine cx_iload dJ4_init_2_4 rfl ?_
  obtain ⟨r1, er1, hl⟩ := xb hl
  refine cx_callI (T_J3_init_2 er1) lI_J4_16 rfl C_J3_init_2 dJ4_init_2_6 rfl (by omega) (Nat.le_of_ble_eq_true rfl) ?_
  cases hl
  exact cx_vret dJ4_init_2_9 rfl rfl rfl
def k_X6_init (c : Nat → Value) (x0 : Nat) (x1 : Int32) (h : XH) : Option (XH) := (k_J4_init_2 c x0 0 0 h).bind fun r1 => (cpu r1 x0 5 6 (.int x1)).bind fun h3 => some h3
set_option maxHeartbeats 4000000 in
theorem T_X6_init {l : Launch} {E : XEnv}  {x0 : Nat} {x1 : Int32} {h : XH} {r : XH} (hl : k_X6_init E.2.2.2 x0 x1 h = some r) : CM l E mX6_init 4 [.ref x0, .int x1] h (.inl none) r := by
  unfold k_X6_init at hl
  refine cm_of (by decide +kernel) rfl (Nat.le_of_ble_eq_true rfl) ?_
  refine cx_aload_n dX6_init_0 rfl rfl ?_
  refine cx_null dX6_init_1 ?_
  refine cx_null dX6_init_2 ?_
  refine cx_iconst (v := 0) dX6_init_3 rfl ?_
  refine cx_iconst (v := 0) dX6_init_4 rfl ?_
  obtain ⟨r1, er1, hl⟩ := xb hl
  refine cx_callI (T_J4_init_2 er1) lI_X6_1 rfl C_J4_init_2 dX6_init_5 rfl (by omega) (Nat.le_of_ble_eq_true rfl) ?_
  refine cx_aload_n dX6_init_8 rfl rfl ?_
  refine cx_iload_n dX6_init_9 rfl ?_
  obtain ⟨h3, eh3, hl⟩ := xb hl
  refine cx_putI pF_X6_7 dX6_init_10 eh3 ?_
  cases hl
  exact cx_vret dX6_init_13 rfl rfl rfl
def k_X5_want (c : Nat → Value) (x0 : Nat) (x1 : Int32) (x2 : Int32) (h : XH) : Option ((Unit ⊕ XX) × XH) := if x1 = 0 then (some (xnew h 5 7 1 7 (fun j => defaultValue (tyX6 j)))).bind fun h2 => (k_X6_init c h.2.2.1 x2 h2).bind fun r3 => (ckd r3 h.2.2.1 5).bind fun u5 => some (.inr ("HornHouses$Wrong", h.2.2.1), r3) else some (.inl (), h)
set_option maxHeartbeats 4000000 in
theorem T_X5_want {l : Launch} {E : XEnv}  {x0 : Nat} {x1 : Int32} {x2 : Int32} {h : XH} {r : (Unit ⊕ XX) × XH} (hl : k_X5_want E.2.2.2 x0 x1 x2 h = some r) : CM l E mX5_want 5 [.ref x0, .int x1, .int x2] h (xrU r.1) r.2 := by
  unfold k_X5_want at hl
  refine cm_of (by decide +kernel) rfl (Nat.le_of_ble_eq_true rfl) ?_
  refine cx_iload_n dX5_want_0 rfl ?_
  by_cases c1 : x1 = 0
  · rw [if_pos c1] at hl
    refine cx_if_ne (X := True) (tgt := 13) dX5_want_1 (by decide) (fun z => absurd c1 z) (fun _ => ?_)
    obtain ⟨h2, eh2, hl⟩ := xb hl
    refine cx_new 1 nW_X5_128 dX5_want_4 (Option.some.inj eh2) ?_
    refine cx_dup dX5_want_7 rfl ?_
    refine cx_iload_n dX5_want_8 rfl ?_
    obtain ⟨r3, er3, hl⟩ := xb hl
    refine cx_callI (T_X6_init er3) lI_X5_130 rfl C_X6_init dX5_want_9 rfl (by omega) (Nat.le_of_ble_eq_true rfl) ?_
    obtain ⟨u5, eu5, hl⟩ := xb hl
    cases hl
    exact cx_athrow dX5_want_12 (by decide) (T := TX6) (N := 7) rfl eu5 (ct_out rfl rfl (by decide))
  · rw [if_neg c1] at hl
    refine cx_if_ne (X := True) (tgt := 13) dX5_want_1 (by decide) (fun _ => ?_) (fun z => absurd z c1)
    cases hl
    exact cx_vret dX5_want_13 rfl rfl rfl
def k_J8_coder (c : Nat → Value) (x0 : Nat) (h : XH) : Option (Int32) := (cgI h x0 90 1).bind fun v1 => (tn .byte v1).bind fun z2 => some z2
set_option maxHeartbeats 4000000 in
theorem T_J8_coder {l : Launch} {E : XEnv}  {x0 : Nat} {h : XH} {r : Int32} (hl : k_J8_coder E.2.2.2 x0 h = some r) : CM l E mJ8_coder 1 [.ref x0] h (.inl (some (.int r))) h := by
  unfold k_J8_coder at hl
  refine cm_of (by decide +kernel) rfl (Nat.le_of_ble_eq_true rfl) ?_
  refine cx_gets (C := "java/lang/String") (nm := "COMPACT_STRINGS") (ds := "Z") (v := .int 1) (by simp [xstl]) q828 (Or.inl rfl) dJ8_coder_0 ?_
  refine cx_if_eq (X := True) (tgt := 13) dJ8_coder_3 (by decide) (fun c => absurd c (by decide)) (fun _ => ?_)
  refine cx_aload_n dJ8_coder_6 rfl rfl ?_
  obtain ⟨v1, ev1, hl⟩ := xb hl
  refine cx_getSc ⟨rfl, q2351⟩ dJ8_coder_7 ev1 ?_
  refine cx_goto (tgt := 14) dJ8_coder_10 (by decide) ?_
  obtain ⟨z2, ez2, hl⟩ := xb hl
  refine cx_top (tn_eq ez2).1 ?_
  cases hl
  exact cx_iret dJ8_coder_14 rfl (tn_eq ez2).2 rfl rfl
def k_J8_length (c : Nat → Value) (x0 : Nat) (h : XH) : Option (Int32) := (cgR h x0 90 0).bind fun v1 => (cal h v1).bind fun v2 => (ckd h x0 90).bind fun u4 => (k_J8_coder c x0 h).bind fun r3 => some (v2 >>> ((r3 : Int32) &&& 31))
set_option maxHeartbeats 4000000 in
theorem T_J8_length {l : Launch} {E : XEnv}  {x0 : Nat} {h : XH} {r : Int32} (hl : k_J8_length E.2.2.2 x0 h = some r) : CM l E mJ8_length 2 [.ref x0] h (.inl (some (.int r))) h := by
  unfold k_J8_length at hl
  refine cm_of (by decide +kernel) rfl (Nat.le_of_ble_eq_true rfl) ?_
  refine cx_aload_n dJ8_length_0 rfl rfl ?_
  obtain ⟨v1, ev1, hl⟩ := xb hl
  refine cx_getS ⟨rfl, q2352⟩ dJ8_length_1 ev1 ?_
  obtain ⟨v2, ev2, hl⟩ := xb hl
  refine cx_alen dJ8_length_4 ev2 ?_
  refine cx_aload_n dJ8_length_5 rfl rfl ?_
  obtain ⟨u4, eu4, hl⟩ := xb hl
  obtain ⟨r3, er3, hl⟩ := xb hl
  refine cx_callV (Or.inr ⟨rfl, rfl⟩) (T_J8_coder er3) lV_J8_335 C_J8_coder dJ8_length_6 eu4 (by decide) rfl (by omega) (Nat.le_of_ble_eq_true rfl) ?_
  refine cx_ishr dJ8_length_9 ?_
  cases hl
  exact cx_iret dJ8_length_10 rfl rfl rfl rfl
def k_J8_isLatin1 (c : Nat → Value) (x0 : Nat) (h : XH) : Option (Int32) := (cgI h x0 90 1).bind fun v1 => if v1 = 0 then some 1 else some 0
set_option maxHeartbeats 4000000 in
theorem T_J8_isLatin1 {l : Launch} {E : XEnv}  {x0 : Nat} {h : XH} {r : Int32} (hl : k_J8_isLatin1 E.2.2.2 x0 h = some r) : CM l E mJ8_isLatin1 1 [.ref x0] h (.inl (some (.int r))) h := by
  unfold k_J8_isLatin1 at hl
  refine cm_of (by decide +kernel) rfl (Nat.le_of_ble_eq_true rfl) ?_
  refine cx_gets (C := "java/lang/String") (nm := "COMPACT_STRINGS") (ds := "Z") (v := .int 1) (by simp [xstl]) q828 (Or.inl rfl) dJ8_isLatin1_0 ?_
  refine cx_if_eq (X := True) (tgt := 17) dJ8_isLatin1_3 (by decide) (fun c => absurd c (by decide)) (fun _ => ?_)
  refine cx_aload_n dJ8_isLatin1_6 rfl rfl ?_
  obtain ⟨v1, ev1, hl⟩ := xb hl
  refine cx_getSc ⟨rfl, q2351⟩ dJ8_isLatin1_7 ev1 ?_
  by_cases c2 : v1 = 0
  · rw [if_pos c2] at hl
    refine cx_if_ne (X := True) (tgt := 17) dJ8_isLatin1_10 (by decide) (fun z => absurd c2 z) (fun _ => ?_)
    refine cx_iconst (v := 1) dJ8_isLatin1_13 rfl ?_
    refine cx_goto (tgt := 18) dJ8_isLatin1_14 (by decide) ?_
    cases hl
    exact cx_iret dJ8_isLatin1_18 rfl rfl rfl rfl
  · rw [if_neg c2] at hl
    refine cx_if_ne (X := True) (tgt := 17) dJ8_isLatin1_10 (by decide) (fun _ => ?_) (fun z => absurd z c2)
    refine cx_iconst (v := 0) dJ8_isLatin1_17 rfl ?_
    cases hl
    exact cx_iret dJ8_isLatin1_18 rfl rfl rfl rfl
def k_J9_charAt (c : Nat → Value) (x0 : Nat) (x1 : Int32) (h : XH) : Option (Int32) := (cal h x0).bind fun v1 => (k_J8_checkIndex c x1 v1 h).bind fun r2 => (caI h x0 101 x1).bind fun v4 => (tn .char ((((v4 &&& 255) : Int32).toUInt32 % 65536).toInt32)).bind fun z5 => some z5
set_option maxHeartbeats 4000000 in
theorem T_J9_charAt {l : Launch} {E : XEnv}  {x0 : Nat} {x1 : Int32} {h : XH} {r : Int32} (hl : k_J9_charAt E.2.2.2 x0 x1 h = some r) : CM l E mJ9_charAt 3 [.ref x0, .int x1] h (.inl (some (.int r))) h := by
  unfold k_J9_charAt at hl
  refine cm_of (by decide +kernel) rfl (Nat.le_of_ble_eq_true rfl) ?_
  refine cx_iload_n dJ9_charAt_0 rfl ?_
  refine cx_aload_n dJ9_charAt_1 rfl rfl ?_
  obtain ⟨v1, ev1, hl⟩ := xb hl
  refine cx_alen dJ9_charAt_2 ev1 ?_
  obtain ⟨r2, er2, hl⟩ := xb hl
  refine cx_callS (T_J8_checkIndex er2) lS_J9_9 C_J8_checkIndex dJ9_charAt_3 rfl (by omega) (Nat.le_of_ble_eq_true rfl) ?_
  refine cx_aload_n dJ9_charAt_6 rfl rfl ?_
  refine cx_iload_n dJ9_charAt_7 rfl ?_
  obtain ⟨v4, ev4, hl⟩ := xb hl
  refine cx_bald dJ9_charAt_8 ev4 ?_
  refine cx_sipush (v := 255) dJ9_charAt_9 (by decide) ?_
  refine cx_iand dJ9_charAt_12 ?_
  refine cx_i2c dJ9_charAt_13 ?_
  obtain ⟨z5, ez5, hl⟩ := xb hl
  refine cx_top (tn_eq ez5).1 ?_
  cases hl
  exact cx_iret dJ9_charAt_14 rfl (tn_eq ez5).2 rfl rfl
def k_J8_charAt (c : Nat → Value) (x0 : Nat) (x1 : Int32) (h : XH) : Option (Int32) := (ckd h x0 90).bind fun u2 => (k_J8_isLatin1 c x0 h).bind fun r1 => if r1 = 0 then (cgR h x0 90 0).bind fun v4 => none else (cgR h x0 90 0).bind fun v5 => (k_J9_charAt c v5 x1 h).bind fun r6 => (tn .char r6).bind fun z8 => some z8
set_option maxHeartbeats 4000000 in
theorem T_J8_charAt {l : Launch} {E : XEnv}  {x0 : Nat} {x1 : Int32} {h : XH} {r : Int32} (hl : k_J8_charAt E.2.2.2 x0 x1 h = some r) : CM l E mJ8_charAt 4 [.ref x0, .int x1] h (.inl (some (.int r))) h := by
  unfold k_J8_charAt at hl
  refine cm_of (by decide +kernel) rfl (Nat.le_of_ble_eq_true rfl) ?_
  refine cx_aload_n dJ8_charAt_0 rfl rfl ?_
  obtain ⟨u2, eu2, hl⟩ := xb hl
  obtain ⟨r1, er1, hl⟩ := xb hl
  refine cx_callV (Or.inr ⟨rfl, rfl⟩) (T_J8_isLatin1 er1) lV_J8_492 C_J8_isLatin1 dJ8_charAt_1 eu2 (by decide) rfl (by omega) (Nat.le_of_ble_eq_true rfl) ?_
  by_cases c3 : r1 = 0
  · rw [if_pos c3] at hl
    refine cx_if_eq (X := True) (tgt := 16) dJ8_charAt_4 (by decide) (fun _ => ?_) (fun z => absurd c3 z)
    refine cx_aload_n dJ8_charAt_16 rfl rfl ?_
    obtain ⟨v4, ev4, hl⟩ := xb hl
    refine cx_getS ⟨rfl, q2352⟩ dJ8_charAt_17 ev4 ?_
    refine cx_iload_n dJ8_charAt_20 rfl ?_
    cases hl
  · rw [if_neg c3] at hl
    refine cx_if_eq (X := True) (tgt := 16) dJ8_charAt_4 (by decide) (fun z => absurd z c3) (fun _ => ?_)
    refine cx_aload_n dJ8_charAt_7 rfl rfl ?_
    obtain ⟨v5, ev5, hl⟩ := xb hl
    refine cx_getS ⟨rfl, q2352⟩ dJ8_charAt_8 ev5 ?_
    refine cx_iload_n dJ8_charAt_11 rfl ?_
    obtain ⟨r6, er6, hl⟩ := xb hl
    refine cx_callS (T_J9_charAt er6) lS_J8_495 C_J9_charAt dJ8_charAt_12 rfl (by omega) (Nat.le_of_ble_eq_true rfl) ?_
    obtain ⟨z8, ez8, hl⟩ := xb hl
    refine cx_top (tn_eq ez8).1 ?_
    cases hl
    exact cx_iret dJ8_charAt_15 rfl (tn_eq ez8).2 rfl rfl
def k_X5_is_L28 (n : Nat) (c : Nat → Value) (x0 : Nat) (x1 : Nat) (x2 : Int32) (h : XH) : Option ((Int32) ⊕ ((Unit) ⊕ (Unit))) := (ckd h x1 90).bind fun u9 => (k_J8_length c x1 h).bind fun r8 => if x2 ≥ r8 then some (.inr (.inl ())) else (ckd h x1 90).bind fun u12 => (k_J8_charAt c x1 x2 h).bind fun r11 => (cgR h x0 4 14).bind fun v13 => (cgR h v13 0 4).bind fun v14 => (cgI h x0 4 9).bind fun v15 => (caI h v14 101 (v15 + x2)).bind fun v16 => if r11 = (v16 &&& 255) then (some (x2 + 1)).bind fun w18 => some (.inl w18) else some (.inr (.inr ()))
abbrev K_X5_is_L28 (l : Launch) (E : XEnv) (hf : XH) (res : XO) (h : XH) (x0 : Nat) (x1 : Nat) (o : (Unit) ⊕ (Unit)) : Prop := match o with
  | .inl e => CX l E mX5_is 5 70 [] [] h hf res
  | .inr e => CX l E mX5_is 5 62 [] [] h hf res
def k_X5_is (n : Nat) (c : Nat → Value) (x0 : Nat) (x1 : Nat) (h : XH) : Option (Int32) := (cgI h x0 4 8).bind fun v1 => if v1 = 1 then (ckd h x1 90).bind fun u4 => (k_J8_length c x1 h).bind fun r3 => (cgI h x0 4 10).bind fun v5 => (cgI h x0 4 9).bind fun v6 => if r3 = (v5 - v6) then (xloop (fun s => k_X5_is_L28 n c x0 x1 s h) n 0).bind fun o19 => match o19 with | .inl e20 => (some 1) | .inr e21 => (some 0) else some 0 else some 0
set_option maxHeartbeats 4000000 in
theorem k_X5_is_L28_s {l : Launch} {E : XEnv} {hf : XH} {res : XO} {n : Nat} {x0 : Nat} {x1 : Nat} {x2 : Int32} {h : XH} {o : (Int32) ⊕ ((Unit) ⊕ (Unit))} (hl : k_X5_is_L28 n E.2.2.2 x0 x1 x2 h = some o) (hK : (xk (fun s : Int32 => CX l E mX5_is 5 28 [(0, .ref x0), (1, .ref x1), (2, .int s)] [] h hf res) (fun r => K_X5_is_L28 l E hf res h x0 x1 r) o)) : CX l E mX5_is 5 28 [(0, .ref x0), (1, .ref x1), (2, .int x2)] [] h hf res := by
  unfold k_X5_is_L28 at hl
  refine cx_iload_n dX5_is_28 rfl ?_
  refine cx_aload_n dX5_is_29 rfl rfl ?_
  obtain ⟨u9, eu9, hl⟩ := xb hl
  obtain ⟨r8, er8, hl⟩ := xb hl
  refine cx_callV (Or.inr ⟨rfl, rfl⟩) (T_J8_length er8) lV_X5_114 C_J8_length dX5_is_30 eu9 (by decide) rfl (by omega) (Nat.le_of_ble_eq_true rfl) ?_
  by_cases c10 : x2 ≥ r8
  · rw [if_pos c10] at hl
    refine cx_icmp_ge (X := True) (tgt := 70) dX5_is_33 (by decide) (fun _ => ?_) (fun z => absurd c10 z)
    cases hl
    exact cx_lsK hK trivial
  · rw [if_neg c10] at hl
    refine cx_icmp_ge (X := True) (tgt := 70) dX5_is_33 (by decide) (fun z => absurd z c10) (fun _ => ?_)
    refine cx_aload_n dX5_is_36 rfl rfl ?_
    refine cx_iload_n dX5_is_37 rfl ?_
    obtain ⟨u12, eu12, hl⟩ := xb hl
    obtain ⟨r11, er11, hl⟩ := xb hl
    refine cx_callV (Or.inr ⟨rfl, rfl⟩) (T_J8_charAt er11) lV_X5_117 C_J8_charAt dX5_is_38 eu12 (by decide) rfl (by omega) (Nat.le_of_ble_eq_true rfl) ?_
    refine cx_aload_n dX5_is_41 rfl rfl ?_
    obtain ⟨v13, ev13, hl⟩ := xb hl
    refine cx_getR gF_X5_3 dX5_is_42 ev13 ?_
    obtain ⟨v14, ev14, hl⟩ := xb hl
    refine cx_getR gF_X5_70 dX5_is_45 ev14 ?_
    refine cx_aload_n dX5_is_48 rfl rfl ?_
    obtain ⟨v15, ev15, hl⟩ := xb hl
    refine cx_getI gF_X5_82 dX5_is_49 ev15 ?_
    refine cx_iload_n dX5_is_52 rfl ?_
    refine cx_iadd dX5_is_53 ?_
    obtain ⟨v16, ev16, hl⟩ := xb hl
    refine cx_bald dX5_is_54 ev16 ?_
    refine cx_sipush (v := 255) dX5_is_55 (by decide) ?_
    refine cx_iand dX5_is_58 ?_
    by_cases c17 : r11 = (v16 &&& 255)
    · rw [if_pos c17] at hl
      refine cx_icmp_eq (X := True) (tgt := 64) dX5_is_59 (by decide) (fun _ => ?_) (fun z => absurd c17 z)
      obtain ⟨w18, ew18, hl⟩ := xb hl
      refine cx_iinc dX5_is_64 rfl (by decide) (Option.some.inj ew18) ?_
      refine cx_goto (tgt := 28) dX5_is_67 (by decide) ?_
      cases hl
      exact cx_lsK hK ⟨rfl, rfl, rfl, trivial⟩
    · rw [if_neg c17] at hl
      refine cx_icmp_eq (X := True) (tgt := 64) dX5_is_59 (by decide) (fun z => absurd z c17) (fun _ => ?_)
      cases hl
      exact cx_lsK hK trivial
set_option maxHeartbeats 4000000 in
theorem k_X5_is_L28_ok {l : Launch} {E : XEnv} {hf : XH} {res : XO} {n : Nat} {x0 : Nat} {x1 : Nat} {h : XH} {s : Int32} {o : (Unit) ⊕ (Unit)} (hl : xloop (fun s => k_X5_is_L28 n E.2.2.2 x0 x1 s h) n s = some o) (hK : K_X5_is_L28 l E hf res h x0 x1 o) : CX l E mX5_is 5 28 [(0, .ref x0), (1, .ref x1), (2, .int s)] [] h hf res :=
  xloop_of (fun s : Int32 => CX l E mX5_is 5 28 [(0, .ref x0), (1, .ref x1), (2, .int s)] [] h hf res) (fun r => K_X5_is_L28 l E hf res h x0 x1 r) (fun s o hl hk => k_X5_is_L28_s (h := h) (o := o) hl hk) n s o hl hK
set_option maxHeartbeats 4000000 in
theorem T_X5_is {l : Launch} {E : XEnv}  {n : Nat} {x0 : Nat} {x1 : Nat} {h : XH} {r : Int32} (hl : k_X5_is n E.2.2.2 x0 x1 h = some r) : CM l E mX5_is 5 [.ref x0, .ref x1] h (.inl (some (.int r))) h := by
  unfold k_X5_is at hl
  refine cm_of (by decide +kernel) rfl (Nat.le_of_ble_eq_true rfl) ?_
  refine cx_aload_n dX5_is_0 rfl rfl ?_
  obtain ⟨v1, ev1, hl⟩ := xb hl
  refine cx_getI gF_X5_85 dX5_is_1 ev1 ?_
  refine cx_iconst (v := 1) dX5_is_4 rfl ?_
  by_cases c2 : v1 = 1
  · rw [if_pos c2] at hl
    refine cx_icmp_ne (X := True) (tgt := 24) dX5_is_5 (by decide) (fun z => absurd c2 z) (fun _ => ?_)
    refine cx_aload_n dX5_is_8 rfl rfl ?_
    obtain ⟨u4, eu4, hl⟩ := xb hl
    obtain ⟨r3, er3, hl⟩ := xb hl
    refine cx_callV (Or.inr ⟨rfl, rfl⟩) (T_J8_length er3) lV_X5_114 C_J8_length dX5_is_9 eu4 (by decide) rfl (by omega) (Nat.le_of_ble_eq_true rfl) ?_
    refine cx_aload_n dX5_is_12 rfl rfl ?_
    obtain ⟨v5, ev5, hl⟩ := xb hl
    refine cx_getI gF_X5_111 dX5_is_13 ev5 ?_
    refine cx_aload_n dX5_is_16 rfl rfl ?_
    obtain ⟨v6, ev6, hl⟩ := xb hl
    refine cx_getI gF_X5_82 dX5_is_17 ev6 ?_
    refine cx_isub dX5_is_20 ?_
    by_cases c7 : r3 = (v5 - v6)
    · rw [if_pos c7] at hl
      refine cx_icmp_eq (X := True) (tgt := 26) dX5_is_21 (by decide) (fun _ => ?_) (fun z => absurd c7 z)
      refine cx_iconst (v := 0) dX5_is_26 rfl ?_
      refine cx_istore_n dX5_is_27 (by decide) ?_
      obtain ⟨o19, eo19, hl⟩ := xb hl
      rcases o19 with e20 | e21
      · dsimp only at hl
        refine cx_lsK (k_X5_is_L28_ok (h := h) (s := 0) eo19 ?_) ⟨rfl, rfl, rfl, trivial⟩
        refine cx_iconst (v := 1) dX5_is_70 rfl ?_
        cases hl
        exact cx_iret dX5_is_71 rfl rfl rfl rfl
      · dsimp only at hl
        refine cx_lsK (k_X5_is_L28_ok (h := h) (s := 0) eo19 ?_) ⟨rfl, rfl, rfl, trivial⟩
        refine cx_iconst (v := 0) dX5_is_62 rfl ?_
        cases hl
        exact cx_iret dX5_is_63 rfl rfl rfl rfl
    · rw [if_neg c7] at hl
      refine cx_icmp_eq (X := True) (tgt := 26) dX5_is_21 (by decide) (fun z => absurd z c7) (fun _ => ?_)
      refine cx_iconst (v := 0) dX5_is_24 rfl ?_
      cases hl
      exact cx_iret dX5_is_25 rfl rfl rfl rfl
  · rw [if_neg c2] at hl
    refine cx_icmp_ne (X := True) (tgt := 24) dX5_is_5 (by decide) (fun _ => ?_) (fun z => absurd z c2)
    refine cx_iconst (v := 0) dX5_is_24 rfl ?_
    cases hl
    exact cx_iret dX5_is_25 rfl rfl rfl rfl
def k_X5_here (x0 : Nat) (h : XH) : Option (Int32) := (cgI h x0 4 7).bind fun v1 => (cgI h x0 4 0).bind fun v2 => if v1 ≥ v2 then some (-1) else (cgR h x0 4 14).bind fun v4 => (cgR h v4 0 4).bind fun v5 => (cgI h x0 4 7).bind fun v6 => (caI h v5 101 v6).bind fun v7 => some (v7 &&& 255)
set_option maxHeartbeats 4000000 in
theorem T_X5_here {l : Launch} {E : XEnv}  {x0 : Nat} {h : XH} {r : Int32} (hl : k_X5_here x0 h = some r) : CM l E mX5_here 1 [.ref x0] h (.inl (some (.int r))) h := by
  unfold k_X5_here at hl
  refine cm_of (by decide +kernel) rfl (Nat.le_of_ble_eq_true rfl) ?_
  refine cx_aload_n dX5_here_0 rfl rfl ?_
  obtain ⟨v1, ev1, hl⟩ := xb hl
  refine cx_getI gF_X5_67 dX5_here_1 ev1 ?_
  refine cx_aload_n dX5_here_4 rfl rfl ?_
  obtain ⟨v2, ev2, hl⟩ := xb hl
  refine cx_getI gF_X5_64 dX5_here_5 ev2 ?_
  by_cases c3 : v1 ≥ v2
  · rw [if_pos c3] at hl
    refine cx_icmp_ge (X := True) (tgt := 30) dX5_here_8 (by decide) (fun _ => ?_) (fun z => absurd c3 z)
    refine cx_iconst (v := (-1)) dX5_here_30 rfl ?_
    cases hl
    exact cx_iret dX5_here_31 rfl rfl rfl rfl
  · rw [if_neg c3] at hl
    refine cx_icmp_ge (X := True) (tgt := 30) dX5_here_8 (by decide) (fun z => absurd z c3) (fun _ => ?_)
    refine cx_aload_n dX5_here_11 rfl rfl ?_
    obtain ⟨v4, ev4, hl⟩ := xb hl
    refine cx_getR gF_X5_3 dX5_here_12 ev4 ?_
    obtain ⟨v5, ev5, hl⟩ := xb hl
    refine cx_getR gF_X5_70 dX5_here_15 ev5 ?_
    refine cx_aload_n dX5_here_18 rfl rfl ?_
    obtain ⟨v6, ev6, hl⟩ := xb hl
    refine cx_getI gF_X5_67 dX5_here_19 ev6 ?_
    obtain ⟨v7, ev7, hl⟩ := xb hl
    refine cx_bald dX5_here_22 ev7 ?_
    refine cx_sipush (v := 255) dX5_here_23 (by decide) ?_
    refine cx_iand dX5_here_26 ?_
    refine cx_goto (tgt := 31) dX5_here_27 (by decide) ?_
    cases hl
    exact cx_iret dX5_here_31 rfl rfl rfl rfl
def k_X1_in (x0 : Int32) (x1 : Int32) (x2 : Int32) (h : XH) : Option (Int32) := if x0 < x1 then some 0 else if x0 > x2 then some 0 else some 1
set_option maxHeartbeats 4000000 in
theorem T_X1_in {l : Launch} {E : XEnv}  {x0 : Int32} {x1 : Int32} {x2 : Int32} {h : XH} {r : Int32} (hl : k_X1_in x0 x1 x2 h = some r) : CM l E mX1_in 1 [.int x0, .int x1, .int x2] h (.inl (some (.int r))) h := by
  unfold k_X1_in at hl
  refine cm_of (by decide +kernel) rfl (Nat.le_of_ble_eq_true rfl) ?_
  refine cx_iload_n dX1_in_0 rfl ?_
  refine cx_iload_n dX1_in_1 rfl ?_
  by_cases c1 : x0 < x1
  · rw [if_pos c1] at hl
    refine cx_icmp_lt (X := True) (tgt := 14) dX1_in_2 (by decide) (fun _ => ?_) (fun z => absurd c1 z)
    refine cx_iconst (v := 0) dX1_in_14 rfl ?_
    cases hl
    exact cx_iret dX1_in_15 rfl rfl rfl rfl
  · rw [if_neg c1] at hl
    refine cx_icmp_lt (X := True) (tgt := 14) dX1_in_2 (by decide) (fun z => absurd z c1) (fun _ => ?_)
    refine cx_iload_n dX1_in_5 rfl ?_
    refine cx_iload_n dX1_in_6 rfl ?_
    by_cases c2 : x0 > x2
    · rw [if_pos c2] at hl
      refine cx_icmp_gt (X := True) (tgt := 14) dX1_in_7 (by decide) (fun _ => ?_) (fun z => absurd c2 z)
      refine cx_iconst (v := 0) dX1_in_14 rfl ?_
      cases hl
      exact cx_iret dX1_in_15 rfl rfl rfl rfl
    · rw [if_neg c2] at hl
      refine cx_icmp_gt (X := True) (tgt := 14) dX1_in_7 (by decide) (fun z => absurd z c2) (fun _ => ?_)
      refine cx_iconst (v := 1) dX1_in_10 rfl ?_
      refine cx_goto (tgt := 15) dX1_in_11 (by decide) ?_
      cases hl
      exact cx_iret dX1_in_15 rfl rfl rfl rfl
def k_X5_isLetter (x0 : Nat) (h : XH) : Option (Int32) := (ckd h x0 4).bind fun u2 => (k_X5_here x0 h).bind fun r1 => (k_X1_in r1 97 122 h).bind fun r3 => (tz r3).bind fun z5 => some z5
set_option maxHeartbeats 4000000 in
theorem T_X5_isLetter {l : Launch} {E : XEnv}  {x0 : Nat} {h : XH} {r : Int32} (hl : k_X5_isLetter x0 h = some r) : CM l E mX5_isLetter 2 [.ref x0] h (.inl (some (.int r))) h := by
  unfold k_X5_isLetter at hl
  refine cm_of (by decide +kernel) rfl (Nat.le_of_ble_eq_true rfl) ?_
  refine cx_aload_n dX5_isLetter_0 rfl rfl ?_
  obtain ⟨u2, eu2, hl⟩ := xb hl
  obtain ⟨r1, er1, hl⟩ := xb hl
  refine cx_callV (Or.inl ⟨by decide, _, _, rfl⟩) (T_X5_here er1) lV_X5_74 C_X5_here dX5_isLetter_1 eu2 (by decide) rfl (by omega) (Nat.le_of_ble_eq_true rfl) ?_
  refine cx_bipush (v := 97) dX5_isLetter_4 (by decide) ?_
  refine cx_bipush (v := 122) dX5_isLetter_6 (by decide) ?_
  obtain ⟨r3, er3, hl⟩ := xb hl
  refine cx_callS (T_X1_in er3) lS_X5_78 C_X1_in dX5_isLetter_8 rfl (by omega) (Nat.le_of_ble_eq_true rfl) ?_
  obtain ⟨z5, ez5, hl⟩ := xb hl
  refine cx_top (tz_eq ez5).1 ?_
  cases hl
  exact cx_iret dX5_isLetter_11 rfl (tz_eq ez5).2 rfl rfl
def k_X5_isDigit (x0 : Nat) (h : XH) : Option (Int32) := (ckd h x0 4).bind fun u2 => (k_X5_here x0 h).bind fun r1 => (k_X1_in r1 48 57 h).bind fun r3 => (tz r3).bind fun z5 => some z5
set_option maxHeartbeats 4000000 in
theorem T_X5_isDigit {l : Launch} {E : XEnv}  {x0 : Nat} {h : XH} {r : Int32} (hl : k_X5_isDigit x0 h = some r) : CM l E mX5_isDigit 2 [.ref x0] h (.inl (some (.int r))) h := by
  unfold k_X5_isDigit at hl
  refine cm_of (by decide +kernel) rfl (Nat.le_of_ble_eq_true rfl) ?_
  refine cx_aload_n dX5_isDigit_0 rfl rfl ?_
  obtain ⟨u2, eu2, hl⟩ := xb hl
  obtain ⟨r1, er1, hl⟩ := xb hl
  refine cx_callV (Or.inl ⟨by decide, _, _, rfl⟩) (T_X5_here er1) lV_X5_74 C_X5_here dX5_isDigit_1 eu2 (by decide) rfl (by omega) (Nat.le_of_ble_eq_true rfl) ?_
  refine cx_bipush (v := 48) dX5_isDigit_4 (by decide) ?_
  refine cx_bipush (v := 57) dX5_isDigit_6 (by decide) ?_
  obtain ⟨r3, er3, hl⟩ := xb hl
  refine cx_callS (T_X1_in er3) lS_X5_78 C_X1_in dX5_isDigit_8 rfl (by omega) (Nat.le_of_ble_eq_true rfl) ?_
  obtain ⟨z5, ez5, hl⟩ := xb hl
  refine cx_top (tz_eq ez5).1 ?_
  cases hl
  exact cx_iret dX5_isDigit_11 rfl (tz_eq ez5).2 rfl rfl
def k_J9_canEncode (x0 : Int32) (h : XH) : Option (Int32) := if x0 < 0 then some 0 else if x0 > 255 then some 0 else some 1
set_option maxHeartbeats 4000000 in
theorem T_J9_canEncode {l : Launch} {E : XEnv}  {x0 : Int32} {h : XH} {r : Int32} (hl : k_J9_canEncode x0 h = some r) : CM l E mJ9_canEncode 1 [.int x0] h (.inl (some (.int r))) h := by
  unfold k_J9_canEncode at hl
  refine cm_of (by decide +kernel) rfl (Nat.le_of_ble_eq_true rfl) ?_
  refine cx_iload_n dJ9_canEncode_0 rfl ?_
  by_cases c1 : x0 < 0
  · rw [if_pos c1] at hl
    refine cx_if_lt (X := True) (tgt := 15) dJ9_canEncode_1 (by decide) (fun _ => ?_) (fun z => absurd c1 z)
    refine cx_iconst (v := 0) dJ9_canEncode_15 rfl ?_
    cases hl
    exact cx_iret dJ9_canEncode_16 rfl rfl rfl rfl
  · rw [if_neg c1] at hl
    refine cx_if_lt (X := True) (tgt := 15) dJ9_canEncode_1 (by decide) (fun z => absurd z c1) (fun _ => ?_)
    refine cx_iload_n dJ9_canEncode_4 rfl ?_
    refine cx_sipush (v := 255) dJ9_canEncode_5 (by decide) ?_
    by_cases c2 : x0 > 255
    · rw [if_pos c2] at hl
      refine cx_icmp_gt (X := True) (tgt := 15) dJ9_canEncode_8 (by decide) (fun _ => ?_) (fun z => absurd c2 z)
      refine cx_iconst (v := 0) dJ9_canEncode_15 rfl ?_
      cases hl
      exact cx_iret dJ9_canEncode_16 rfl rfl rfl rfl
    · rw [if_neg c2] at hl
      refine cx_icmp_gt (X := True) (tgt := 15) dJ9_canEncode_8 (by decide) (fun z => absurd z c2) (fun _ => ?_)
      refine cx_iconst (v := 1) dJ9_canEncode_11 rfl ?_
      refine cx_goto (tgt := 16) dJ9_canEncode_12 (by decide) ?_
      cases hl
      exact cx_iret dJ9_canEncode_16 rfl rfl rfl rfl
def k_J9_indexOfChar_L7 (n : Nat) (x0 : Nat) (x3 : Int32) (x4 : Int32) (x5 : Int32) (h : XH) : Option ((Int32) ⊕ ((Unit) ⊕ (Int32))) := if x5 ≥ x3 then some (.inr (.inl ())) else (caI h x0 101 x5).bind fun v3 => if v3 = x4 then some (.inr (.inr x5)) else (some (x5 + 1)).bind fun w5 => some (.inl w5)
abbrev K_J9_indexOfChar_L7 (l : Launch) (E : XEnv) (hf : XH) (res : XO) (h : XH) (x0 : Nat) (x3 : Int32) (x4 : Int32) (o : (Unit) ⊕ (Int32)) : Prop := match o with
  | .inl e => CX l E mJ9_indexOfChar 1 31 [] [] h hf res
  | .inr e => CX l E mJ9_indexOfChar 1 22 [(5, .int e)] [] h hf res
def k_J9_indexOfChar (n : Nat) (x0 : Nat) (x1 : Int32) (x2 : Int32) (x3 : Int32) (h : XH) : Option (Int32) := (some ((x1 : Int32).toInt8.toInt32)).bind fun w1 => (xloop (fun s => k_J9_indexOfChar_L7 n x0 x3 w1 s h) n x2).bind fun o6 => match o6 with | .inl e7 => (some (-1)) | .inr e8 => (some e8)
set_option maxHeartbeats 4000000 in
theorem k_J9_indexOfChar_L7_s {l : Launch} {E : XEnv} {hf : XH} {res : XO} {n : Nat} {x0 : Nat} {x3 : Int32} {x4 : Int32} {x5 : Int32} {h : XH} {o : (Int32) ⊕ ((Unit) ⊕ (Int32))} (hl : k_J9_indexOfChar_L7 n x0 x3 x4 x5 h = some o) (hK : (xk (fun s : Int32 => CX l E mJ9_indexOfChar 1 7 [(0, .ref x0), (3, .int x3), (4, .int x4), (5, .int s)] [] h hf res) (fun r => K_J9_indexOfChar_L7 l E hf res h x0 x3 x4 r) o)) : CX l E mJ9_indexOfChar 1 7 [(0, .ref x0), (3, .int x3), (4, .int x4), (5, .int x5)] [] h hf res := by
  unfold k_J9_indexOfChar_L7 at hl
  refine cx_iload dJ9_indexOfChar_7 rfl ?_
  refine cx_iload_n dJ9_indexOfChar_9 rfl ?_
  by_cases c2 : x5 ≥ x3
  · rw [if_pos c2] at hl
    refine cx_icmp_ge (X := True) (tgt := 31) dJ9_indexOfChar_10 (by decide) (fun _ => ?_) (fun z => absurd c2 z)
    cases hl
    exact cx_lsK hK trivial
  · rw [if_neg c2] at hl
    refine cx_icmp_ge (X := True) (tgt := 31) dJ9_indexOfChar_10 (by decide) (fun z => absurd z c2) (fun _ => ?_)
    refine cx_aload_n dJ9_indexOfChar_13 rfl rfl ?_
    refine cx_iload dJ9_indexOfChar_14 rfl ?_
    obtain ⟨v3, ev3, hl⟩ := xb hl
    refine cx_bald dJ9_indexOfChar_16 ev3 ?_
    refine cx_iload dJ9_indexOfChar_17 rfl ?_
    by_cases c4 : v3 = x4
    · rw [if_pos c4] at hl
      refine cx_icmp_ne (X := True) (tgt := 25) dJ9_indexOfChar_19 (by decide) (fun z => absurd c4 z) (fun _ => ?_)
      cases hl
      exact cx_lsK hK ⟨rfl, trivial⟩
    · rw [if_neg c4] at hl
      refine cx_icmp_ne (X := True) (tgt := 25) dJ9_indexOfChar_19 (by decide) (fun _ => ?_) (fun z => absurd z c4)
      obtain ⟨w5, ew5, hl⟩ := xb hl
      refine cx_iinc dJ9_indexOfChar_25 rfl (by decide) (Option.some.inj ew5) ?_
      refine cx_goto (tgt := 7) dJ9_indexOfChar_28 (by decide) ?_
      cases hl
      exact cx_lsK hK ⟨rfl, rfl, rfl, rfl, trivial⟩
set_option maxHeartbeats 4000000 in
theorem k_J9_indexOfChar_L7_ok {l : Launch} {E : XEnv} {hf : XH} {res : XO} {n : Nat} {x0 : Nat} {x3 : Int32} {x4 : Int32} {h : XH} {s : Int32} {o : (Unit) ⊕ (Int32)} (hl : xloop (fun s => k_J9_indexOfChar_L7 n x0 x3 x4 s h) n s = some o) (hK : K_J9_indexOfChar_L7 l E hf res h x0 x3 x4 o) : CX l E mJ9_indexOfChar 1 7 [(0, .ref x0), (3, .int x3), (4, .int x4), (5, .int s)] [] h hf res :=
  xloop_of (fun s : Int32 => CX l E mJ9_indexOfChar 1 7 [(0, .ref x0), (3, .int x3), (4, .int x4), (5, .int s)] [] h hf res) (fun r => K_J9_indexOfChar_L7 l E hf res h x0 x3 x4 r) (fun s o hl hk => k_J9_indexOfChar_L7_s (h := h) (o := o) hl hk) n s o hl hK
set_option maxHeartbeats 4000000 in
theorem T_J9_indexOfChar {l : Launch} {E : XEnv}  {n : Nat} {x0 : Nat} {x1 : Int32} {x2 : Int32} {x3 : Int32} {h : XH} {r : Int32} (hl : k_J9_indexOfChar n x0 x1 x2 x3 h = some r) : CM l E mJ9_indexOfChar 1 [.ref x0, .int x1, .int x2, .int x3] h (.inl (some (.int r))) h := by
  unfold k_J9_indexOfChar at hl
  refine cm_of (by decide +kernel) rfl (Nat.le_of_ble_eq_true rfl) ?_
  refine cx_iload_n dJ9_indexOfChar_0 rfl ?_
  refine cx_i2b dJ9_indexOfChar_1 ?_
  obtain ⟨w1, ew1, hl⟩ := xb hl
  refine cx_top (Option.some.inj ew1) ?_
  refine cx_istore dJ9_indexOfChar_2 (by decide) ?_
  refine cx_iload_n dJ9_indexOfChar_4 rfl ?_
  refine cx_istore dJ9_indexOfChar_5 (by decide) ?_
  obtain ⟨o6, eo6, hl⟩ := xb hl
  rcases o6 with e7 | e8
  · dsimp only at hl
    refine cx_lsK (k_J9_indexOfChar_L7_ok (h := h) (s := x2) eo6 ?_) ⟨rfl, rfl, rfl, rfl, trivial⟩
    refine cx_iconst (v := (-1)) dJ9_indexOfChar_31 rfl ?_
    cases hl
    exact cx_iret dJ9_indexOfChar_32 rfl rfl rfl rfl
  · dsimp only at hl
    refine cx_lsK (k_J9_indexOfChar_L7_ok (h := h) (s := x2) eo6 ?_) ⟨rfl, rfl, rfl, rfl, trivial⟩
    refine cx_iload dJ9_indexOfChar_22 rfl ?_
    cases hl
    exact cx_iret dJ9_indexOfChar_24 rfl rfl rfl rfl
def k_J9_indexOf (n : Nat) (x0 : Nat) (x1 : Int32) (x2 : Int32) (x3 : Int32) (h : XH) : Option (Int32) := (k_J9_canEncode x1 h).bind fun r1 => if r1 = 0 then some (-1) else (some (imax x2 0)).bind fun w4 => (cal h x0).bind fun v5 => (some (imin x3 v5)).bind fun w6 => if w4 < w6 then (k_J9_indexOfChar n x0 x1 w4 w6 h).bind fun r8 => some r8 else some (-1)
set_option maxHeartbeats 4000000 in
theorem T_J9_indexOf {l : Launch} {E : XEnv}  {n : Nat} {x0 : Nat} {x1 : Int32} {x2 : Int32} {x3 : Int32} {h : XH} {r : Int32} (hl : k_J9_indexOf n x0 x1 x2 x3 h = some r) : CM l E mJ9_indexOf 2 [.ref x0, .int x1, .int x2, .int x3] h (.inl (some (.int r))) h := by
  unfold k_J9_indexOf at hl
  refine cm_of (by decide +kernel) rfl (Nat.le_of_ble_eq_true rfl) ?_
  refine cx_iload_n dJ9_indexOf_0 rfl ?_
  obtain ⟨r1, er1, hl⟩ := xb hl
  refine cx_callS (T_J9_canEncode er1) lS_J9_88 C_J9_canEncode dJ9_indexOf_1 rfl (by omega) (Nat.le_of_ble_eq_true rfl) ?_
  by_cases c3 : r1 = 0
  · rw [if_pos c3] at hl
    refine cx_if_ne (X := True) (tgt := 9) dJ9_indexOf_4 (by decide) (fun z => absurd c3 z) (fun _ => ?_)
    refine cx_iconst (v := (-1)) dJ9_indexOf_7 rfl ?_
    cases hl
    exact cx_iret dJ9_indexOf_8 rfl rfl rfl rfl
  · rw [if_neg c3] at hl
    refine cx_if_ne (X := True) (tgt := 9) dJ9_indexOf_4 (by decide) (fun _ => ?_) (fun z => absurd z c3)
    refine cx_iload_n dJ9_indexOf_9 rfl ?_
    refine cx_iconst (v := 0) dJ9_indexOf_10 rfl ?_
    refine cx_mmax q844 dJ9_indexOf_11 (by omega) (Nat.le_of_ble_eq_true rfl) ?_
    obtain ⟨w4, ew4, hl⟩ := xb hl
    refine cx_top (Option.some.inj ew4) ?_
    refine cx_istore_n dJ9_indexOf_14 (by decide) ?_
    refine cx_iload_n dJ9_indexOf_15 rfl ?_
    refine cx_aload_n dJ9_indexOf_16 rfl rfl ?_
    obtain ⟨v5, ev5, hl⟩ := xb hl
    refine cx_alen dJ9_indexOf_17 ev5 ?_
    refine cx_mmin q845 dJ9_indexOf_18 (by omega) (Nat.le_of_ble_eq_true rfl) ?_
    obtain ⟨w6, ew6, hl⟩ := xb hl
    refine cx_top (Option.some.inj ew6) ?_
    refine cx_istore_n dJ9_indexOf_21 (by decide) ?_
    refine cx_iload_n dJ9_indexOf_22 rfl ?_
    refine cx_iload_n dJ9_indexOf_23 rfl ?_
    by_cases c7 : w4 < w6
    · rw [if_pos c7] at hl
      refine cx_icmp_lt (X := True) (tgt := 29) dJ9_indexOf_24 (by decide) (fun _ => ?_) (fun z => absurd c7 z)
      refine cx_aload_n dJ9_indexOf_29 rfl rfl ?_
      refine cx_iload_n dJ9_indexOf_30 rfl ?_
      refine cx_iload_n dJ9_indexOf_31 rfl ?_
      refine cx_iload_n dJ9_indexOf_32 rfl ?_
      obtain ⟨r8, er8, hl⟩ := xb hl
      refine cx_callS (T_J9_indexOfChar er8) lS_J9_95 C_J9_indexOfChar dJ9_indexOf_33 rfl (by omega) (Nat.le_of_ble_eq_true rfl) ?_
      cases hl
      exact cx_iret dJ9_indexOf_36 rfl rfl rfl rfl
    · rw [if_neg c7] at hl
      refine cx_icmp_lt (X := True) (tgt := 29) dJ9_indexOf_24 (by decide) (fun z => absurd z c7) (fun _ => ?_)
      refine cx_iconst (v := (-1)) dJ9_indexOf_27 rfl ?_
      cases hl
      exact cx_iret dJ9_indexOf_28 rfl rfl rfl rfl
def k_J8_indexOf_2 (n : Nat) (c : Nat → Value) (x0 : Nat) (x1 : Int32) (x2 : Int32) (h : XH) : Option (Int32) := (ckd h x0 90).bind fun u2 => (k_J8_isLatin1 c x0 h).bind fun r1 => if r1 = 0 then (cgR h x0 90 0).bind fun v4 => (ckd h x0 90).bind fun u6 => (k_J8_length c x0 h).bind fun r5 => none else (cgR h x0 90 0).bind fun v7 => (ckd h x0 90).bind fun u9 => (k_J8_length c x0 h).bind fun r8 => (k_J9_indexOf n v7 x1 x2 r8 h).bind fun r10 => some r10
set_option maxHeartbeats 4000000 in
theorem T_J8_indexOf_2 {l : Launch} {E : XEnv}  {n : Nat} {x0 : Nat} {x1 : Int32} {x2 : Int32} {h : XH} {r : Int32} (hl : k_J8_indexOf_2 n E.2.2.2 x0 x1 x2 h = some r) : CM l E mJ8_indexOf_2 3 [.ref x0, .int x1, .int x2] h (.inl (some (.int r))) h := by
  unfold k_J8_indexOf_2 at hl
  refine cm_of (by decide +kernel) rfl (Nat.le_of_ble_eq_true rfl) ?_
  refine cx_aload_n dJ8_indexOf_2_0 rfl rfl ?_
  obtain ⟨u2, eu2, hl⟩ := xb hl
  obtain ⟨r1, er1, hl⟩ := xb hl
  refine cx_callV (Or.inr ⟨rfl, rfl⟩) (T_J8_isLatin1 er1) lV_J8_492 C_J8_isLatin1 dJ8_indexOf_2_1 eu2 (by decide) rfl (by omega) (Nat.le_of_ble_eq_true rfl) ?_
  by_cases c3 : r1 = 0
  · rw [if_pos c3] at hl
    refine cx_if_eq (X := True) (tgt := 23) dJ8_indexOf_2_4 (by decide) (fun _ => ?_) (fun z => absurd c3 z)
    refine cx_aload_n dJ8_indexOf_2_23 rfl rfl ?_
    obtain ⟨v4, ev4, hl⟩ := xb hl
    refine cx_getS ⟨rfl, q2352⟩ dJ8_indexOf_2_24 ev4 ?_
    refine cx_iload_n dJ8_indexOf_2_27 rfl ?_
    refine cx_iload_n dJ8_indexOf_2_28 rfl ?_
    refine cx_aload_n dJ8_indexOf_2_29 rfl rfl ?_
    obtain ⟨u6, eu6, hl⟩ := xb hl
    obtain ⟨r5, er5, hl⟩ := xb hl
    refine cx_callV (Or.inr ⟨rfl, rfl⟩) (T_J8_length er5) lV_J8_505 C_J8_length dJ8_indexOf_2_30 eu6 (by decide) rfl (by omega) (Nat.le_of_ble_eq_true rfl) ?_
    cases hl
  · rw [if_neg c3] at hl
    refine cx_if_eq (X := True) (tgt := 23) dJ8_indexOf_2_4 (by decide) (fun z => absurd z c3) (fun _ => ?_)
    refine cx_aload_n dJ8_indexOf_2_7 rfl rfl ?_
    obtain ⟨v7, ev7, hl⟩ := xb hl
    refine cx_getS ⟨rfl, q2352⟩ dJ8_indexOf_2_8 ev7 ?_
    refine cx_iload_n dJ8_indexOf_2_11 rfl ?_
    refine cx_iload_n dJ8_indexOf_2_12 rfl ?_
    refine cx_aload_n dJ8_indexOf_2_13 rfl rfl ?_
    obtain ⟨u9, eu9, hl⟩ := xb hl
    obtain ⟨r8, er8, hl⟩ := xb hl
    refine cx_callV (Or.inr ⟨rfl, rfl⟩) (T_J8_length er8) lV_J8_505 C_J8_length dJ8_indexOf_2_14 eu9 (by decide) rfl (by omega) (Nat.le_of_ble_eq_true rfl) ?_
    obtain ⟨r10, er10, hl⟩ := xb hl
    refine cx_callS (T_J9_indexOf er10) lS_J8_637 C_J9_indexOf dJ8_indexOf_2_17 rfl (by omega) (Nat.le_of_ble_eq_true rfl) ?_
    refine cx_goto (tgt := 36) dJ8_indexOf_2_20 (by decide) ?_
    cases hl
    exact cx_iret dJ8_indexOf_2_36 rfl rfl rfl rfl
def k_J8_indexOf (n : Nat) (c : Nat → Value) (x0 : Nat) (x1 : Int32) (h : XH) : Option (Int32) := (ckd h x0 90).bind fun u2 => (k_J8_indexOf_2 n c x0 x1 0 h).bind fun r1 => some r1
set_option maxHeartbeats 4000000 in
theorem T_J8_indexOf {l : Launch} {E : XEnv}  {n : Nat} {x0 : Nat} {x1 : Int32} {h : XH} {r : Int32} (hl : k_J8_indexOf n E.2.2.2 x0 x1 h = some r) : CM l E mJ8_indexOf 4 [.ref x0, .int x1] h (.inl (some (.int r))) h := by
  unfold k_J8_indexOf at hl
  refine cm_of (by decide +kernel) rfl (Nat.le_of_ble_eq_true rfl) ?_
  refine cx_aload_n dJ8_indexOf_0 rfl rfl ?_
  refine cx_iload_n dJ8_indexOf_1 rfl ?_
  refine cx_iconst (v := 0) dJ8_indexOf_2 rfl ?_
  obtain ⟨u2, eu2, hl⟩ := xb hl
  obtain ⟨r1, er1, hl⟩ := xb hl
  refine cx_callV (Or.inr ⟨rfl, rfl⟩) (T_J8_indexOf_2 er1) lV_J8_633 C_J8_indexOf_2 dJ8_indexOf_3 eu2 (by decide) rfl (by omega) (Nat.le_of_ble_eq_true rfl) ?_
  cases hl
  exact cx_iret dJ8_indexOf_6 rfl rfl rfl rfl
def k_X5_next_J18 (n : Nat) (c : Nat → Value) (x0 : Nat) (h : XH) : Option ((XH) ⊕ ((XH))) := (cgI h x0 4 7).bind fun v4 => (cpu h x0 4 7 (.int (v4 + 1))).bind fun h5 => some (.inl h5)
def k_X5_next_L0 (n : Nat) (c : Nat → Value) (x0 : Nat) (h : XH) : Option ((XH) ⊕ ((XH))) := (ckd h x0 4).bind fun u2 => (k_X5_here x0 h).bind fun r1 => if r1 = 32 then k_X5_next_J18 n c x0 h else (ckd h x0 4).bind fun u7 => (k_X5_here x0 h).bind fun r6 => if r6 = 10 then k_X5_next_J18 n c x0 h else some (.inr h)
abbrev K_X5_next_L0 (l : Launch) (E : XEnv) (hf : XH) (res : XO) (h : XH) (x0 : Nat) (o : (XH)) : Prop := match o with
  | e => CX l E mX5_next 5 31 [(0, .ref x0)] [] e hf res
def k_X5_next_J172 (n : Nat) (c : Nat → Value) (x0 : Nat) (y0 : Int32) (y1 : Nat) (h : XH) : Option (XH) := (cpu h y1 4 8 (.int y0)).bind fun h27 => (cgI h27 x0 4 7).bind fun v28 => (cpu h27 x0 4 7 (.int (v28 + 1))).bind fun h29 => (cgI h29 x0 4 7).bind fun v30 => (cpu h29 x0 4 10 (.int v30)).bind fun h31 => some h31
def k_X5_next_L102 (n : Nat) (c : Nat → Value) (x0 : Nat) (h : XH) : Option ((XH) ⊕ ((XH))) := (ckd h x0 4).bind fun u34 => (k_X5_isDigit x0 h).bind fun r33 => if r33 = 0 then some (.inr h) else (cgI h x0 4 11).bind fun v36 => (ckd h x0 4).bind fun u38 => (k_X5_here x0 h).bind fun r37 => (cpu h x0 4 11 (.int (imin 100000 ((((10 : Int32) * v36) + r37) - 48)))).bind fun h39 => (cgI h39 x0 4 7).bind fun v40 => (cpu h39 x0 4 7 (.int (v40 + 1))).bind fun h41 => some (.inl h41)
abbrev K_X5_next_L102 (l : Launch) (E : XEnv) (hf : XH) (res : XO) (h : XH) (x0 : Nat) (o : (XH)) : Prop := match o with
  | e => CX l E mX5_next 5 146 [(0, .ref x0)] [] e hf res
def k_X5_next_L62 (n : Nat) (c : Nat → Value) (x0 : Nat) (h : XH) : Option ((XH) ⊕ ((XH))) := (ckd h x0 4).bind fun u47 => (k_X5_isLetter x0 h).bind fun r46 => if r46 = 0 then some (.inr h) else (cgI h x0 4 7).bind fun v49 => (cpu h x0 4 7 (.int (v49 + 1))).bind fun h50 => some (.inl h50)
abbrev K_X5_next_L62 (l : Launch) (E : XEnv) (hf : XH) (res : XO) (h : XH) (x0 : Nat) (o : (XH)) : Prop := match o with
  | e => CX l E mX5_next 5 82 [(0, .ref x0)] [] e hf res
def k_X5_next (n : Nat) (c : Nat → Value) (x0 : Nat) (h : XH) : Option (XH) := (xloop (fun s => k_X5_next_L0 n c x0 s) n h).bind fun o9 => (cgI o9 x0 4 7).bind fun v10 => (cpu o9 x0 4 9 (.int v10)).bind fun h11 => (ckd h11 x0 4).bind fun u13 => (k_X5_here x0 h11).bind fun r12 => if r12 = (-1) then (cpu h11 x0 4 8 (.int 0)).bind fun h55 => (cgI h55 x0 4 7).bind fun v56 => (cpu h55 x0 4 10 (.int v56)).bind fun h57 => some h57 else (ckd h11 x0 4).bind fun u16 => (k_X5_isLetter x0 h11).bind fun r15 => if r15 = 0 then (ckd h11 x0 4).bind fun u19 => (k_X5_isDigit x0 h11).bind fun r18 => if r18 = 0 then (vR (c 9)).bind fun v21 => (ckd h11 x0 4).bind fun u23 => (k_X5_here x0 h11).bind fun r22 => (ckd h11 v21 90).bind fun u25 => (k_J8_indexOf n c v21 r22 h11).bind fun r24 => if r24 < 0 then k_X5_next_J172 n c x0 4 x0 h11 else k_X5_next_J172 n c x0 3 x0 h11 else (cpu h11 x0 4 11 (.int 0)).bind fun h32 => (xloop (fun s => k_X5_next_L102 n c x0 s) n h32).bind fun o42 => (cpu o42 x0 4 8 (.int 2)).bind fun h43 => (cgI h43 x0 4 7).bind fun v44 => (cpu h43 x0 4 10 (.int v44)).bind fun h45 => some h45 else (xloop (fun s => k_X5_next_L62 n c x0 s) n h11).bind fun o51 => (cpu o51 x0 4 8 (.int 1)).bind fun h52 => (cgI h52 x0 4 7).bind fun v53 => (cpu h52 x0 4 10 (.int v53)).bind fun h54 => some h54
set_option maxHeartbeats 4000000 in
theorem k_X5_next_J18_s {l : Launch} {E : XEnv} {hf : XH} {res : XO} {n : Nat} {x0 : Nat} {h : XH} {h0 : XH} {o : (XH) ⊕ ((XH))} (hl : k_X5_next_J18 n E.2.2.2 x0 h = some o) (hK : (xk (fun s : XH => CX l E mX5_next 5 0 [(0, .ref x0)] [] s hf res) (fun r => K_X5_next_L0 l E hf res h0 x0 r) o)) : CX l E mX5_next 5 18 [(0, .ref x0)] [] h hf res := by
  unfold k_X5_next_J18 at hl
  refine cx_aload_n dX5_next_18 rfl rfl ?_
  refine cx_dup dX5_next_19 rfl ?_
  obtain ⟨v4, ev4, hl⟩ := xb hl
  refine cx_getI gF_X5_67 dX5_next_20 ev4 ?_
  refine cx_iconst (v := 1) dX5_next_23 rfl ?_
  refine cx_iadd dX5_next_24 ?_
  obtain ⟨h5, eh5, hl⟩ := xb hl
  refine cx_putI pF_X5_67 dX5_next_25 eh5 ?_
  refine cx_goto (tgt := 0) dX5_next_28 (by decide) ?_
  cases hl
  exact cx_lsK hK ⟨rfl, trivial⟩
set_option maxHeartbeats 4000000 in
theorem k_X5_next_L0_s {l : Launch} {E : XEnv} {hf : XH} {res : XO} {n : Nat} {x0 : Nat} {h : XH} {o : (XH) ⊕ ((XH))} (hl : k_X5_next_L0 n E.2.2.2 x0 h = some o) (hK : (xk (fun s : XH => CX l E mX5_next 5 0 [(0, .ref x0)] [] s hf res) (fun r => K_X5_next_L0 l E hf res h x0 r) o)) : CX l E mX5_next 5 0 [(0, .ref x0)] [] h hf res := by
  unfold k_X5_next_L0 at hl
  refine cx_aload_n dX5_next_0 rfl rfl ?_
  obtain ⟨u2, eu2, hl⟩ := xb hl
  obtain ⟨r1, er1, hl⟩ := xb hl
  refine cx_callV (Or.inl ⟨by decide, _, _, rfl⟩) (T_X5_here er1) lV_X5_74 C_X5_here dX5_next_1 eu2 (by decide) rfl (by omega) (Nat.le_of_ble_eq_true rfl) ?_
  refine cx_bipush (v := 32) dX5_next_4 (by decide) ?_
  by_cases c3 : r1 = 32
  · rw [if_pos c3] at hl
    refine cx_icmp_eq (X := True) (tgt := 18) dX5_next_6 (by decide) (fun _ => ?_) (fun z => absurd c3 z)
    exact cx_lsK (k_X5_next_J18_s hl hK) ⟨rfl, trivial⟩
  · rw [if_neg c3] at hl
    refine cx_icmp_eq (X := True) (tgt := 18) dX5_next_6 (by decide) (fun z => absurd z c3) (fun _ => ?_)
    refine cx_aload_n dX5_next_9 rfl rfl ?_
    obtain ⟨u7, eu7, hl⟩ := xb hl
    obtain ⟨r6, er6, hl⟩ := xb hl
    refine cx_callV (Or.inl ⟨by decide, _, _, rfl⟩) (T_X5_here er6) lV_X5_74 C_X5_here dX5_next_10 eu7 (by decide) rfl (by omega) (Nat.le_of_ble_eq_true rfl) ?_
    refine cx_bipush (v := 10) dX5_next_13 (by decide) ?_
    by_cases c8 : r6 = 10
    · rw [if_pos c8] at hl
      refine cx_icmp_ne (X := True) (tgt := 31) dX5_next_15 (by decide) (fun z => absurd c8 z) (fun _ => ?_)
      exact cx_lsK (k_X5_next_J18_s hl hK) ⟨rfl, trivial⟩
    · rw [if_neg c8] at hl
      refine cx_icmp_ne (X := True) (tgt := 31) dX5_next_15 (by decide) (fun _ => ?_) (fun z => absurd z c8)
      cases hl
      exact cx_lsK hK ⟨rfl, trivial⟩
set_option maxHeartbeats 4000000 in
theorem k_X5_next_L0_ok {l : Launch} {E : XEnv} {hf : XH} {res : XO} {n : Nat} {x0 : Nat} {h : XH} {s : XH} {o : (XH)} (hl : xloop (fun s => k_X5_next_L0 n E.2.2.2 x0 s) n s = some o) (hK : K_X5_next_L0 l E hf res h x0 o) : CX l E mX5_next 5 0 [(0, .ref x0)] [] s hf res :=
  xloop_of (fun s : XH => CX l E mX5_next 5 0 [(0, .ref x0)] [] s hf res) (fun r => K_X5_next_L0 l E hf res h x0 r) (fun s o hl hk => k_X5_next_L0_s (h := s) (o := o) hl hk) n s o hl hK
set_option maxHeartbeats 4000000 in
theorem k_X5_next_J172_s {l : Launch} {E : XEnv}  {n : Nat} {x0 : Nat} {y0 : Int32} {y1 : Nat} {h : XH} {r : XH} (hl : k_X5_next_J172 n E.2.2.2 x0 y0 y1 h = some r) : CX l E mX5_next 5 172 [(0, .ref x0)] [.int y0, .ref y1] h r (.inl none) := by
  unfold k_X5_next_J172 at hl
  obtain ⟨h27, eh27, hl⟩ := xb hl
  refine cx_putI pF_X5_85 dX5_next_172 eh27 ?_
  refine cx_aload_n dX5_next_175 rfl rfl ?_
  refine cx_dup dX5_next_176 rfl ?_
  obtain ⟨v28, ev28, hl⟩ := xb hl
  refine cx_getI gF_X5_67 dX5_next_177 ev28 ?_
  refine cx_iconst (v := 1) dX5_next_180 rfl ?_
  refine cx_iadd dX5_next_181 ?_
  obtain ⟨h29, eh29, hl⟩ := xb hl
  refine cx_putI pF_X5_67 dX5_next_182 eh29 ?_
  refine cx_aload_n dX5_next_185 rfl rfl ?_
  refine cx_aload_n dX5_next_186 rfl rfl ?_
  obtain ⟨v30, ev30, hl⟩ := xb hl
  refine cx_getI gF_X5_67 dX5_next_187 ev30 ?_
  obtain ⟨h31, eh31, hl⟩ := xb hl
  refine cx_putI pF_X5_111 dX5_next_190 eh31 ?_
  cases hl
  exact cx_vret dX5_next_193 rfl rfl rfl
set_option maxHeartbeats 4000000 in
theorem k_X5_next_L102_s {l : Launch} {E : XEnv} {hf : XH} {res : XO} {n : Nat} {x0 : Nat} {h : XH} {o : (XH) ⊕ ((XH))} (hl : k_X5_next_L102 n E.2.2.2 x0 h = some o) (hK : (xk (fun s : XH => CX l E mX5_next 5 102 [(0, .ref x0)] [] s hf res) (fun r => K_X5_next_L102 l E hf res h x0 r) o)) : CX l E mX5_next 5 102 [(0, .ref x0)] [] h hf res := by
  unfold k_X5_next_L102 at hl
  refine cx_aload_n dX5_next_102 rfl rfl ?_
  obtain ⟨u34, eu34, hl⟩ := xb hl
  obtain ⟨r33, er33, hl⟩ := xb hl
  refine cx_callV (Or.inl ⟨by decide, _, _, rfl⟩) (T_X5_isDigit er33) lV_X5_92 C_X5_isDigit dX5_next_103 eu34 (by decide) rfl (by omega) (Nat.le_of_ble_eq_true rfl) ?_
  by_cases c35 : r33 = 0
  · rw [if_pos c35] at hl
    refine cx_if_eq (X := True) (tgt := 146) dX5_next_106 (by decide) (fun _ => ?_) (fun z => absurd c35 z)
    cases hl
    exact cx_lsK hK ⟨rfl, trivial⟩
  · rw [if_neg c35] at hl
    refine cx_if_eq (X := True) (tgt := 146) dX5_next_106 (by decide) (fun z => absurd z c35) (fun _ => ?_)
    refine cx_aload_n dX5_next_109 rfl rfl ?_
    refine cx_ldc (v := 100000) q813 dX5_next_110 ?_
    refine cx_bipush (v := 10) dX5_next_112 (by decide) ?_
    refine cx_aload_n dX5_next_114 rfl rfl ?_
    obtain ⟨v36, ev36, hl⟩ := xb hl
    refine cx_getI gF_X5_95 dX5_next_115 ev36 ?_
    refine cx_imul dX5_next_118 ?_
    refine cx_aload_n dX5_next_119 rfl rfl ?_
    obtain ⟨u38, eu38, hl⟩ := xb hl
    obtain ⟨r37, er37, hl⟩ := xb hl
    refine cx_callV (Or.inl ⟨by decide, _, _, rfl⟩) (T_X5_here er37) lV_X5_74 C_X5_here dX5_next_120 eu38 (by decide) rfl (by omega) (Nat.le_of_ble_eq_true rfl) ?_
    refine cx_iadd dX5_next_123 ?_
    refine cx_bipush (v := 48) dX5_next_124 (by decide) ?_
    refine cx_isub dX5_next_126 ?_
    refine cx_mmin q814 dX5_next_127 (by omega) (Nat.le_of_ble_eq_true rfl) ?_
    obtain ⟨h39, eh39, hl⟩ := xb hl
    refine cx_putI pF_X5_95 dX5_next_130 eh39 ?_
    refine cx_aload_n dX5_next_133 rfl rfl ?_
    refine cx_dup dX5_next_134 rfl ?_
    obtain ⟨v40, ev40, hl⟩ := xb hl
    refine cx_getI gF_X5_67 dX5_next_135 ev40 ?_
    refine cx_iconst (v := 1) dX5_next_138 rfl ?_
    refine cx_iadd dX5_next_139 ?_
    obtain ⟨h41, eh41, hl⟩ := xb hl
    refine cx_putI pF_X5_67 dX5_next_140 eh41 ?_
    refine cx_goto (tgt := 102) dX5_next_143 (by decide) ?_
    cases hl
    exact cx_lsK hK ⟨rfl, trivial⟩
set_option maxHeartbeats 4000000 in
theorem k_X5_next_L102_ok {l : Launch} {E : XEnv} {hf : XH} {res : XO} {n : Nat} {x0 : Nat} {h : XH} {s : XH} {o : (XH)} (hl : xloop (fun s => k_X5_next_L102 n E.2.2.2 x0 s) n s = some o) (hK : K_X5_next_L102 l E hf res h x0 o) : CX l E mX5_next 5 102 [(0, .ref x0)] [] s hf res :=
  xloop_of (fun s : XH => CX l E mX5_next 5 102 [(0, .ref x0)] [] s hf res) (fun r => K_X5_next_L102 l E hf res h x0 r) (fun s o hl hk => k_X5_next_L102_s (h := s) (o := o) hl hk) n s o hl hK
set_option maxHeartbeats 4000000 in
theorem k_X5_next_L62_s {l : Launch} {E : XEnv} {hf : XH} {res : XO} {n : Nat} {x0 : Nat} {h : XH} {o : (XH) ⊕ ((XH))} (hl : k_X5_next_L62 n E.2.2.2 x0 h = some o) (hK : (xk (fun s : XH => CX l E mX5_next 5 62 [(0, .ref x0)] [] s hf res) (fun r => K_X5_next_L62 l E hf res h x0 r) o)) : CX l E mX5_next 5 62 [(0, .ref x0)] [] h hf res := by
  unfold k_X5_next_L62 at hl
  refine cx_aload_n dX5_next_62 rfl rfl ?_
  obtain ⟨u47, eu47, hl⟩ := xb hl
  obtain ⟨r46, er46, hl⟩ := xb hl
  refine cx_callV (Or.inl ⟨by decide, _, _, rfl⟩) (T_X5_isLetter er46) lV_X5_88 C_X5_isLetter dX5_next_63 eu47 (by decide) rfl (by omega) (Nat.le_of_ble_eq_true rfl) ?_
  by_cases c48 : r46 = 0
  · rw [if_pos c48] at hl
    refine cx_if_eq (X := True) (tgt := 82) dX5_next_66 (by decide) (fun _ => ?_) (fun z => absurd c48 z)
    cases hl
    exact cx_lsK hK ⟨rfl, trivial⟩
  · rw [if_neg c48] at hl
    refine cx_if_eq (X := True) (tgt := 82) dX5_next_66 (by decide) (fun z => absurd z c48) (fun _ => ?_)
    refine cx_aload_n dX5_next_69 rfl rfl ?_
    refine cx_dup dX5_next_70 rfl ?_
    obtain ⟨v49, ev49, hl⟩ := xb hl
    refine cx_getI gF_X5_67 dX5_next_71 ev49 ?_
    refine cx_iconst (v := 1) dX5_next_74 rfl ?_
    refine cx_iadd dX5_next_75 ?_
    obtain ⟨h50, eh50, hl⟩ := xb hl
    refine cx_putI pF_X5_67 dX5_next_76 eh50 ?_
    refine cx_goto (tgt := 62) dX5_next_79 (by decide) ?_
    cases hl
    exact cx_lsK hK ⟨rfl, trivial⟩
set_option maxHeartbeats 4000000 in
theorem k_X5_next_L62_ok {l : Launch} {E : XEnv} {hf : XH} {res : XO} {n : Nat} {x0 : Nat} {h : XH} {s : XH} {o : (XH)} (hl : xloop (fun s => k_X5_next_L62 n E.2.2.2 x0 s) n s = some o) (hK : K_X5_next_L62 l E hf res h x0 o) : CX l E mX5_next 5 62 [(0, .ref x0)] [] s hf res :=
  xloop_of (fun s : XH => CX l E mX5_next 5 62 [(0, .ref x0)] [] s hf res) (fun r => K_X5_next_L62 l E hf res h x0 r) (fun s o hl hk => k_X5_next_L62_s (h := s) (o := o) hl hk) n s o hl hK
set_option maxHeartbeats 4000000 in
theorem T_X5_next {l : Launch} {E : XEnv}  {n : Nat} {x0 : Nat} {h : XH} {r : XH} (hl : k_X5_next n E.2.2.2 x0 h = some r) : CM l E mX5_next 5 [.ref x0] h (.inl none) r := by
  unfold k_X5_next at hl
  refine cm_of (by decide +kernel) rfl (Nat.le_of_ble_eq_true rfl) ?_
  obtain ⟨o9, eo9, hl⟩ := xb hl
  refine cx_lsK (k_X5_next_L0_ok (h := h) (s := h) eo9 ?_) ⟨rfl, trivial⟩
  refine cx_aload_n dX5_next_31 rfl rfl ?_
  refine cx_aload_n dX5_next_32 rfl rfl ?_
  obtain ⟨v10, ev10, hl⟩ := xb hl
  refine cx_getI gF_X5_67 dX5_next_33 ev10 ?_
  obtain ⟨h11, eh11, hl⟩ := xb hl
  refine cx_putI pF_X5_82 dX5_next_36 eh11 ?_
  refine cx_aload_n dX5_next_39 rfl rfl ?_
  obtain ⟨u13, eu13, hl⟩ := xb hl
  obtain ⟨r12, er12, hl⟩ := xb hl
  refine cx_callV (Or.inl ⟨by decide, _, _, rfl⟩) (T_X5_here er12) lV_X5_74 C_X5_here dX5_next_40 eu13 (by decide) rfl (by omega) (Nat.le_of_ble_eq_true rfl) ?_
  refine cx_iconst (v := (-1)) dX5_next_43 rfl ?_
  by_cases c14 : r12 = (-1)
  · rw [if_pos c14] at hl
    refine cx_icmp_ne (X := True) (tgt := 55) dX5_next_44 (by decide) (fun z => absurd c14 z) (fun _ => ?_)
    refine cx_aload_n dX5_next_47 rfl rfl ?_
    refine cx_iconst (v := 0) dX5_next_48 rfl ?_
    obtain ⟨h55, eh55, hl⟩ := xb hl
    refine cx_putI pF_X5_85 dX5_next_49 eh55 ?_
    refine cx_goto (tgt := 185) dX5_next_52 (by decide) ?_
    refine cx_aload_n dX5_next_185 rfl rfl ?_
    refine cx_aload_n dX5_next_186 rfl rfl ?_
    obtain ⟨v56, ev56, hl⟩ := xb hl
    refine cx_getI gF_X5_67 dX5_next_187 ev56 ?_
    obtain ⟨h57, eh57, hl⟩ := xb hl
    refine cx_putI pF_X5_111 dX5_next_190 eh57 ?_
    cases hl
    exact cx_vret dX5_next_193 rfl rfl rfl
  · rw [if_neg c14] at hl
    refine cx_icmp_ne (X := True) (tgt := 55) dX5_next_44 (by decide) (fun _ => ?_) (fun z => absurd z c14)
    refine cx_aload_n dX5_next_55 rfl rfl ?_
    obtain ⟨u16, eu16, hl⟩ := xb hl
    obtain ⟨r15, er15, hl⟩ := xb hl
    refine cx_callV (Or.inl ⟨by decide, _, _, rfl⟩) (T_X5_isLetter er15) lV_X5_88 C_X5_isLetter dX5_next_56 eu16 (by decide) rfl (by omega) (Nat.le_of_ble_eq_true rfl) ?_
    by_cases c17 : r15 = 0
    · rw [if_pos c17] at hl
      refine cx_if_eq (X := True) (tgt := 90) dX5_next_59 (by decide) (fun _ => ?_) (fun z => absurd c17 z)
      refine cx_aload_n dX5_next_90 rfl rfl ?_
      obtain ⟨u19, eu19, hl⟩ := xb hl
      obtain ⟨r18, er18, hl⟩ := xb hl
      refine cx_callV (Or.inl ⟨by decide, _, _, rfl⟩) (T_X5_isDigit er18) lV_X5_92 C_X5_isDigit dX5_next_91 eu19 (by decide) rfl (by omega) (Nat.le_of_ble_eq_true rfl) ?_
      by_cases c20 : r18 = 0
      · rw [if_pos c20] at hl
        refine cx_if_eq (X := True) (tgt := 154) dX5_next_94 (by decide) (fun _ => ?_) (fun z => absurd c20 z)
        refine cx_aload_n dX5_next_154 rfl rfl ?_
        obtain ⟨v21, ev21, hl⟩ := xb hl
        refine cx_ldcS (i := 9) rfl dX5_next_155 ev21 ?_
        refine cx_aload_n dX5_next_157 rfl rfl ?_
        obtain ⟨u23, eu23, hl⟩ := xb hl
        obtain ⟨r22, er22, hl⟩ := xb hl
        refine cx_callV (Or.inl ⟨by decide, _, _, rfl⟩) (T_X5_here er22) lV_X5_74 C_X5_here dX5_next_158 eu23 (by decide) rfl (by omega) (Nat.le_of_ble_eq_true rfl) ?_
        obtain ⟨u25, eu25, hl⟩ := xb hl
        obtain ⟨r24, er24, hl⟩ := xb hl
        refine cx_callV (Or.inr ⟨rfl, rfl⟩) (T_J8_indexOf er24) lV_X5_107 C_J8_indexOf dX5_next_161 eu25 (by decide) rfl (by omega) (Nat.le_of_ble_eq_true rfl) ?_
        by_cases c26 : r24 < 0
        · rw [if_pos c26] at hl
          refine cx_if_lt (X := True) (tgt := 171) dX5_next_164 (by decide) (fun _ => ?_) (fun z => absurd c26 z)
          refine cx_iconst (v := 4) dX5_next_171 rfl ?_
          exact cx_lsK (k_X5_next_J172_s hl) ⟨rfl, trivial⟩
        · rw [if_neg c26] at hl
          refine cx_if_lt (X := True) (tgt := 171) dX5_next_164 (by decide) (fun z => absurd z c26) (fun _ => ?_)
          refine cx_iconst (v := 3) dX5_next_167 rfl ?_
          refine cx_goto (tgt := 172) dX5_next_168 (by decide) ?_
          exact cx_lsK (k_X5_next_J172_s hl) ⟨rfl, trivial⟩
      · rw [if_neg c20] at hl
        refine cx_if_eq (X := True) (tgt := 154) dX5_next_94 (by decide) (fun z => absurd z c20) (fun _ => ?_)
        refine cx_aload_n dX5_next_97 rfl rfl ?_
        refine cx_iconst (v := 0) dX5_next_98 rfl ?_
        obtain ⟨h32, eh32, hl⟩ := xb hl
        refine cx_putI pF_X5_95 dX5_next_99 eh32 ?_
        obtain ⟨o42, eo42, hl⟩ := xb hl
        refine cx_lsK (k_X5_next_L102_ok (h := h32) (s := h32) eo42 ?_) ⟨rfl, trivial⟩
        refine cx_aload_n dX5_next_146 rfl rfl ?_
        refine cx_iconst (v := 2) dX5_next_147 rfl ?_
        obtain ⟨h43, eh43, hl⟩ := xb hl
        refine cx_putI pF_X5_85 dX5_next_148 eh43 ?_
        refine cx_goto (tgt := 185) dX5_next_151 (by decide) ?_
        refine cx_aload_n dX5_next_185 rfl rfl ?_
        refine cx_aload_n dX5_next_186 rfl rfl ?_
        obtain ⟨v44, ev44, hl⟩ := xb hl
        refine cx_getI gF_X5_67 dX5_next_187 ev44 ?_
        obtain ⟨h45, eh45, hl⟩ := xb hl
        refine cx_putI pF_X5_111 dX5_next_190 eh45 ?_
        cases hl
        exact cx_vret dX5_next_193 rfl rfl rfl
    · rw [if_neg c17] at hl
      refine cx_if_eq (X := True) (tgt := 90) dX5_next_59 (by decide) (fun z => absurd z c17) (fun _ => ?_)
      obtain ⟨o51, eo51, hl⟩ := xb hl
      refine cx_lsK (k_X5_next_L62_ok (h := h11) (s := h11) eo51 ?_) ⟨rfl, trivial⟩
      refine cx_aload_n dX5_next_82 rfl rfl ?_
      refine cx_iconst (v := 1) dX5_next_83 rfl ?_
      obtain ⟨h52, eh52, hl⟩ := xb hl
      refine cx_putI pF_X5_85 dX5_next_84 eh52 ?_
      refine cx_goto (tgt := 185) dX5_next_87 (by decide) ?_
      refine cx_aload_n dX5_next_185 rfl rfl ?_
      refine cx_aload_n dX5_next_186 rfl rfl ?_
      obtain ⟨v53, ev53, hl⟩ := xb hl
      refine cx_getI gF_X5_67 dX5_next_187 ev53 ?_
      obtain ⟨h54, eh54, hl⟩ := xb hl
      refine cx_putI pF_X5_111 dX5_next_190 eh54 ?_
      cases hl
      exact cx_vret dX5_next_193 rfl rfl rfl
def k_X5_numberNow_J14 (c : Nat → Value) (x0 : Nat) (x1 : Int32) (x2 : Int32) (y0 : Int32) (y1 : Nat) (h : XH) : Option ((Int32 ⊕ XX) × XH) := (ckd h y1 4).bind fun u4 => (k_X5_want c y1 y0 1 h).bind fun r3 => match r3 with | (.inl v5, h6) => ((cgI h6 x0 4 10).bind fun v10 => (cgI h6 x0 4 9).bind fun v11 => if (v10 - v11) > 4 then (ckd h6 x0 4).bind fun u14 => (k_X5_want c x0 0 2 h6).bind fun r13 => match r13 with | (.inl v15, h16) => ((cgI h16 x0 4 11).bind fun v20 => some (.inl v20, h16)) | (.inr e17, h16) => (some (.inr e17, h16)) else (cgI h6 x0 4 11).bind fun v21 => if v21 < x1 then (ckd h6 x0 4).bind fun u24 => (k_X5_want c x0 0 2 h6).bind fun r23 => match r23 with | (.inl v25, h26) => ((cgI h26 x0 4 11).bind fun v30 => some (.inl v30, h26)) | (.inr e27, h26) => (some (.inr e27, h26)) else (cgI h6 x0 4 11).bind fun v31 => if v31 > x2 then (ckd h6 x0 4).bind fun u34 => (k_X5_want c x0 0 2 h6).bind fun r33 => match r33 with | (.inl v35, h36) => ((cgI h36 x0 4 11).bind fun v40 => some (.inl v40, h36)) | (.inr e37, h36) => (some (.inr e37, h36)) else (ckd h6 x0 4).bind fun u42 => (k_X5_want c x0 1 2 h6).bind fun r41 => match r41 with | (.inl v43, h44) => ((cgI h44 x0 4 11).bind fun v48 => some (.inl v48, h44)) | (.inr e45, h44) => (some (.inr e45, h44))) | (.inr e7, h6) => (some (.inr e7, h6))
def k_X5_numberNow (c : Nat → Value) (x0 : Nat) (x1 : Int32) (x2 : Int32) (h : XH) : Option ((Int32 ⊕ XX) × XH) := (cgI h x0 4 8).bind fun v1 => if v1 = 2 then k_X5_numberNow_J14 c x0 x1 x2 1 x0 h else k_X5_numberNow_J14 c x0 x1 x2 0 x0 h
set_option maxHeartbeats 4000000 in
theorem k_X5_numberNow_J14_s {l : Launch} {E : XEnv}  {x0 : Nat} {x1 : Int32} {x2 : Int32} {y0 : Int32} {y1 : Nat} {h : XH} {r : (Int32 ⊕ XX) × XH} (hl : k_X5_numberNow_J14 E.2.2.2 x0 x1 x2 y0 y1 h = some r) : CX l E mX5_numberNow 6 14 [(0, .ref x0), (1, .int x1), (2, .int x2)] [.int y0, .ref y1] h r.2 (xrI r.1) := by
  unfold k_X5_numberNow_J14 at hl
  refine cx_iconst (v := 1) dX5_numberNow_14 rfl ?_
  obtain ⟨u4, eu4, hl⟩ := xb hl
  obtain ⟨r3, er3, hl⟩ := xb hl
  rcases r3 with ⟨v5 | ⟨C8, q9⟩, h6⟩
  · dsimp only at hl
    refine cx_callV (Or.inl ⟨by decide, _, _, rfl⟩) (T_X5_want er3) lV_X5_133 C_X5_want dX5_numberNow_15 eu4 (by decide) rfl (by omega) (Nat.le_of_ble_eq_true rfl) ?_
    refine cx_aload_n dX5_numberNow_18 rfl rfl ?_
    refine cx_aload_n dX5_numberNow_19 rfl rfl ?_
    obtain ⟨v10, ev10, hl⟩ := xb hl
    refine cx_getI gF_X5_111 dX5_numberNow_20 ev10 ?_
    refine cx_aload_n dX5_numberNow_23 rfl rfl ?_
    obtain ⟨v11, ev11, hl⟩ := xb hl
    refine cx_getI gF_X5_82 dX5_numberNow_24 ev11 ?_
    refine cx_isub dX5_numberNow_27 ?_
    refine cx_iconst (v := 4) dX5_numberNow_28 rfl ?_
    by_cases c12 : (v10 - v11) > 4
    · rw [if_pos c12] at hl
      refine cx_icmp_gt (X := True) (tgt := 52) dX5_numberNow_29 (by decide) (fun _ => ?_) (fun z => absurd c12 z)
      refine cx_iconst (v := 0) dX5_numberNow_52 rfl ?_
      refine cx_iconst (v := 2) dX5_numberNow_53 rfl ?_
      obtain ⟨u14, eu14, hl⟩ := xb hl
      obtain ⟨r13, er13, hl⟩ := xb hl
      rcases r13 with ⟨v15 | ⟨C18, q19⟩, h16⟩
      · dsimp only at hl
        refine cx_callV (Or.inl ⟨by decide, _, _, rfl⟩) (T_X5_want er13) lV_X5_133 C_X5_want dX5_numberNow_54 eu14 (by decide) rfl (by omega) (Nat.le_of_ble_eq_true rfl) ?_
        refine cx_aload_n dX5_numberNow_57 rfl rfl ?_
        obtain ⟨v20, ev20, hl⟩ := xb hl
        refine cx_getI gF_X5_95 dX5_numberNow_58 ev20 ?_
        cases hl
        exact cx_iret dX5_numberNow_61 rfl rfl rfl rfl
      · dsimp only at hl
        cases hl
        exact cx_callVx (Or.inl ⟨by decide, _, _, rfl⟩) (T_X5_want er13) lV_X5_133 C_X5_want dX5_numberNow_54 eu14 (by decide) rfl (by omega) (Nat.le_of_ble_eq_true rfl) (ct_out rfl rfl (by decide))
    · rw [if_neg c12] at hl
      refine cx_icmp_gt (X := True) (tgt := 52) dX5_numberNow_29 (by decide) (fun z => absurd z c12) (fun _ => ?_)
      refine cx_aload_n dX5_numberNow_32 rfl rfl ?_
      obtain ⟨v21, ev21, hl⟩ := xb hl
      refine cx_getI gF_X5_95 dX5_numberNow_33 ev21 ?_
      refine cx_iload_n dX5_numberNow_36 rfl ?_
      by_cases c22 : v21 < x1
      · rw [if_pos c22] at hl
        refine cx_icmp_lt (X := True) (tgt := 52) dX5_numberNow_37 (by decide) (fun _ => ?_) (fun z => absurd c22 z)
        refine cx_iconst (v := 0) dX5_numberNow_52 rfl ?_
        refine cx_iconst (v := 2) dX5_numberNow_53 rfl ?_
        obtain ⟨u24, eu24, hl⟩ := xb hl
        obtain ⟨r23, er23, hl⟩ := xb hl
        rcases r23 with ⟨v25 | ⟨C28, q29⟩, h26⟩
        · dsimp only at hl
          refine cx_callV (Or.inl ⟨by decide, _, _, rfl⟩) (T_X5_want er23) lV_X5_133 C_X5_want dX5_numberNow_54 eu24 (by decide) rfl (by omega) (Nat.le_of_ble_eq_true rfl) ?_
          refine cx_aload_n dX5_numberNow_57 rfl rfl ?_
          obtain ⟨v30, ev30, hl⟩ := xb hl
          refine cx_getI gF_X5_95 dX5_numberNow_58 ev30 ?_
          cases hl
          exact cx_iret dX5_numberNow_61 rfl rfl rfl rfl
        · dsimp only at hl
          cases hl
          exact cx_callVx (Or.inl ⟨by decide, _, _, rfl⟩) (T_X5_want er23) lV_X5_133 C_X5_want dX5_numberNow_54 eu24 (by decide) rfl (by omega) (Nat.le_of_ble_eq_true rfl) (ct_out rfl rfl (by decide))
      · rw [if_neg c22] at hl
        refine cx_icmp_lt (X := True) (tgt := 52) dX5_numberNow_37 (by decide) (fun z => absurd z c22) (fun _ => ?_)
        refine cx_aload_n dX5_numberNow_40 rfl rfl ?_
        obtain ⟨v31, ev31, hl⟩ := xb hl
        refine cx_getI gF_X5_95 dX5_numberNow_41 ev31 ?_
        refine cx_iload_n dX5_numberNow_44 rfl ?_
        by_cases c32 : v31 > x2
        · rw [if_pos c32] at hl
          refine cx_icmp_gt (X := True) (tgt := 52) dX5_numberNow_45 (by decide) (fun _ => ?_) (fun z => absurd c32 z)
          refine cx_iconst (v := 0) dX5_numberNow_52 rfl ?_
          refine cx_iconst (v := 2) dX5_numberNow_53 rfl ?_
          obtain ⟨u34, eu34, hl⟩ := xb hl
          obtain ⟨r33, er33, hl⟩ := xb hl
          rcases r33 with ⟨v35 | ⟨C38, q39⟩, h36⟩
          · dsimp only at hl
            refine cx_callV (Or.inl ⟨by decide, _, _, rfl⟩) (T_X5_want er33) lV_X5_133 C_X5_want dX5_numberNow_54 eu34 (by decide) rfl (by omega) (Nat.le_of_ble_eq_true rfl) ?_
            refine cx_aload_n dX5_numberNow_57 rfl rfl ?_
            obtain ⟨v40, ev40, hl⟩ := xb hl
            refine cx_getI gF_X5_95 dX5_numberNow_58 ev40 ?_
            cases hl
            exact cx_iret dX5_numberNow_61 rfl rfl rfl rfl
          · dsimp only at hl
            cases hl
            exact cx_callVx (Or.inl ⟨by decide, _, _, rfl⟩) (T_X5_want er33) lV_X5_133 C_X5_want dX5_numberNow_54 eu34 (by decide) rfl (by omega) (Nat.le_of_ble_eq_true rfl) (ct_out rfl rfl (by decide))
        · rw [if_neg c32] at hl
          refine cx_icmp_gt (X := True) (tgt := 52) dX5_numberNow_45 (by decide) (fun z => absurd z c32) (fun _ => ?_)
          refine cx_iconst (v := 1) dX5_numberNow_48 rfl ?_
          refine cx_goto (tgt := 53) dX5_numberNow_49 (by decide) ?_
          refine cx_iconst (v := 2) dX5_numberNow_53 rfl ?_
          obtain ⟨u42, eu42, hl⟩ := xb hl
          obtain ⟨r41, er41, hl⟩ := xb hl
          rcases r41 with ⟨v43 | ⟨C46, q47⟩, h44⟩
          · dsimp only at hl
            refine cx_callV (Or.inl ⟨by decide, _, _, rfl⟩) (T_X5_want er41) lV_X5_133 C_X5_want dX5_numberNow_54 eu42 (by decide) rfl (by omega) (Nat.le_of_ble_eq_true rfl) ?_
            refine cx_aload_n dX5_numberNow_57 rfl rfl ?_
            obtain ⟨v48, ev48, hl⟩ := xb hl
            refine cx_getI gF_X5_95 dX5_numberNow_58 ev48 ?_
            cases hl
            exact cx_iret dX5_numberNow_61 rfl rfl rfl rfl
          · dsimp only at hl
            cases hl
            exact cx_callVx (Or.inl ⟨by decide, _, _, rfl⟩) (T_X5_want er41) lV_X5_133 C_X5_want dX5_numberNow_54 eu42 (by decide) rfl (by omega) (Nat.le_of_ble_eq_true rfl) (ct_out rfl rfl (by decide))
  · dsimp only at hl
    cases hl
    exact cx_callVx (Or.inl ⟨by decide, _, _, rfl⟩) (T_X5_want er3) lV_X5_133 C_X5_want dX5_numberNow_15 eu4 (by decide) rfl (by omega) (Nat.le_of_ble_eq_true rfl) (ct_out rfl rfl (by decide))
set_option maxHeartbeats 4000000 in
theorem T_X5_numberNow {l : Launch} {E : XEnv}  {x0 : Nat} {x1 : Int32} {x2 : Int32} {h : XH} {r : (Int32 ⊕ XX) × XH} (hl : k_X5_numberNow E.2.2.2 x0 x1 x2 h = some r) : CM l E mX5_numberNow 6 [.ref x0, .int x1, .int x2] h (xrI r.1) r.2 := by
  unfold k_X5_numberNow at hl
  refine cm_of (by decide +kernel) rfl (Nat.le_of_ble_eq_true rfl) ?_
  refine cx_aload_n dX5_numberNow_0 rfl rfl ?_
  refine cx_aload_n dX5_numberNow_1 rfl rfl ?_
  obtain ⟨v1, ev1, hl⟩ := xb hl
  refine cx_getI gF_X5_85 dX5_numberNow_2 ev1 ?_
  refine cx_iconst (v := 2) dX5_numberNow_5 rfl ?_
  by_cases c2 : v1 = 2
  · rw [if_pos c2] at hl
    refine cx_icmp_ne (X := True) (tgt := 13) dX5_numberNow_6 (by decide) (fun z => absurd c2 z) (fun _ => ?_)
    refine cx_iconst (v := 1) dX5_numberNow_9 rfl ?_
    refine cx_goto (tgt := 14) dX5_numberNow_10 (by decide) ?_
    exact cx_lsK (k_X5_numberNow_J14_s hl) ⟨rfl, rfl, rfl, trivial⟩
  · rw [if_neg c2] at hl
    refine cx_icmp_ne (X := True) (tgt := 13) dX5_numberNow_6 (by decide) (fun _ => ?_) (fun z => absurd z c2)
    refine cx_iconst (v := 0) dX5_numberNow_13 rfl ?_
    exact cx_lsK (k_X5_numberNow_J14_s hl) ⟨rfl, rfl, rfl, trivial⟩
def k_X5_number (n : Nat) (c : Nat → Value) (x0 : Nat) (x1 : Int32) (x2 : Int32) (h : XH) : Option ((Int32 ⊕ XX) × XH) := (ckd h x0 4).bind fun u2 => (k_X5_numberNow c x0 x1 x2 h).bind fun r1 => match r1 with | (.inl v3, h4) => ((ckd h4 x0 4).bind fun u9 => (k_X5_next n c x0 h4).bind fun r8 => some (.inl v3, r8)) | (.inr e5, h4) => (some (.inr e5, h4))
set_option maxHeartbeats 4000000 in
theorem T_X5_number {l : Launch} {E : XEnv}  {n : Nat} {x0 : Nat} {x1 : Int32} {x2 : Int32} {h : XH} {r : (Int32 ⊕ XX) × XH} (hl : k_X5_number n E.2.2.2 x0 x1 x2 h = some r) : CM l E mX5_number 7 [.ref x0, .int x1, .int x2] h (xrI r.1) r.2 := by
  unfold k_X5_number at hl
  refine cm_of (by decide +kernel) rfl (Nat.le_of_ble_eq_true rfl) ?_
  refine cx_aload_n dX5_number_0 rfl rfl ?_
  refine cx_iload_n dX5_number_1 rfl ?_
  refine cx_iload_n dX5_number_2 rfl ?_
  obtain ⟨u2, eu2, hl⟩ := xb hl
  obtain ⟨r1, er1, hl⟩ := xb hl
  rcases r1 with ⟨v3 | ⟨C6, q7⟩, h4⟩
  · dsimp only at hl
    refine cx_callV (Or.inl ⟨by decide, _, _, rfl⟩) (T_X5_numberNow er1) lV_X5_137 C_X5_numberNow dX5_number_3 eu2 (by decide) rfl (by omega) (Nat.le_of_ble_eq_true rfl) ?_
    refine cx_istore_n dX5_number_6 (by decide) ?_
    refine cx_aload_n dX5_number_7 rfl rfl ?_
    obtain ⟨u9, eu9, hl⟩ := xb hl
    obtain ⟨r8, er8, hl⟩ := xb hl
    refine cx_callV (Or.inl ⟨by decide, _, _, rfl⟩) (T_X5_next er8) lV_X5_125 C_X5_next dX5_number_8 eu9 (by decide) rfl (by omega) (Nat.le_of_ble_eq_true rfl) ?_
    refine cx_iload_n dX5_number_11 rfl ?_
    cases hl
    exact cx_iret dX5_number_12 rfl rfl rfl rfl
  · dsimp only at hl
    cases hl
    exact cx_callVx (Or.inl ⟨by decide, _, _, rfl⟩) (T_X5_numberNow er1) lV_X5_137 C_X5_numberNow dX5_number_3 eu2 (by decide) rfl (by omega) (Nat.le_of_ble_eq_true rfl) (ct_out rfl rfl (by decide))
def k_X8_init (x0 : Nat) (x1 : Int32) (h : XH) : Option (XH) := (cpu h x0 7 0 (.int x1)).bind fun h1 => some h1
set_option maxHeartbeats 4000000 in
theorem T_X8_init {l : Launch} {E : XEnv}  {x0 : Nat} {x1 : Int32} {h : XH} {r : XH} (hl : k_X8_init x0 x1 h = some r) : CM l E mX8_init 2 [.ref x0, .int x1] h (.inl none) r := by
  unfold k_X8_init at hl
  refine cm_of (by decide +kernel) rfl (Nat.le_of_ble_eq_true rfl) ?_
  refine cx_aload_n dX8_init_0 rfl rfl ?_
  refine cx_objInit q1020 q161 q162 dX8_init_1 (by omega) (Nat.le_of_ble_eq_true rfl) ?_
  refine cx_aload_n dX8_init_4 rfl rfl ?_
  refine cx_iload_n dX8_init_5 rfl ?_
  obtain ⟨h1, eh1, hl⟩ := xb hl
  refine cx_putI pF_X8_7 dX8_init_6 eh1 ?_
  cases hl
  exact cx_vret dX8_init_9 rfl rfl rfl
def k_X5_which_L2 (n : Nat) (c : Nat → Value) (x0 : Nat) (x1 : Nat) (x2 : Int32) (h : XH) : Option ((Int32) ⊕ ((Unit) ⊕ (Int32))) := (cal h x1).bind fun v1 => if x2 ≥ v1 then some (.inr (.inl ())) else (caR h x1 105 x2).bind fun v3 => (ckd h x0 4).bind fun u5 => (k_X5_is n c x0 v3 h).bind fun r4 => if r4 = 0 then (some (x2 + 1)).bind fun w7 => some (.inl w7) else some (.inr (.inr x2))
abbrev K_X5_which_L2 (l : Launch) (E : XEnv) (hf : XH) (res : XO) (h : XH) (x0 : Nat) (x1 : Nat) (o : (Unit) ⊕ (Int32)) : Prop := match o with
  | .inl e => CX l E mX5_which 6 26 [] [] h hf res
  | .inr e => CX l E mX5_which 6 18 [(2, .int e)] [] h hf res
def k_X5_which (n : Nat) (c : Nat → Value) (x0 : Nat) (x1 : Nat) (h : XH) : Option (Int32) := (xloop (fun s => k_X5_which_L2 n c x0 x1 s h) n 0).bind fun o8 => match o8 with | .inl e9 => (some (-1)) | .inr e10 => (some e10)
set_option maxHeartbeats 4000000 in
theorem k_X5_which_L2_s {l : Launch} {E : XEnv} {hf : XH} {res : XO} {n : Nat} {x0 : Nat} {x1 : Nat} {x2 : Int32} {h : XH} {o : (Int32) ⊕ ((Unit) ⊕ (Int32))} (hl : k_X5_which_L2 n E.2.2.2 x0 x1 x2 h = some o) (hK : (xk (fun s : Int32 => CX l E mX5_which 6 2 [(0, .ref x0), (1, .ref x1), (2, .int s)] [] h hf res) (fun r => K_X5_which_L2 l E hf res h x0 x1 r) o)) : CX l E mX5_which 6 2 [(0, .ref x0), (1, .ref x1), (2, .int x2)] [] h hf res := by
  unfold k_X5_which_L2 at hl
  refine cx_iload_n dX5_which_2 rfl ?_
  refine cx_aload_n dX5_which_3 rfl rfl ?_
  obtain ⟨v1, ev1, hl⟩ := xb hl
  refine cx_alen dX5_which_4 ev1 ?_
  by_cases c2 : x2 ≥ v1
  · rw [if_pos c2] at hl
    refine cx_icmp_ge (X := True) (tgt := 26) dX5_which_5 (by decide) (fun _ => ?_) (fun z => absurd c2 z)
    cases hl
    exact cx_lsK hK trivial
  · rw [if_neg c2] at hl
    refine cx_icmp_ge (X := True) (tgt := 26) dX5_which_5 (by decide) (fun z => absurd z c2) (fun _ => ?_)
    refine cx_aload_n dX5_which_8 rfl rfl ?_
    refine cx_aload_n dX5_which_9 rfl rfl ?_
    refine cx_iload_n dX5_which_10 rfl ?_
    obtain ⟨v3, ev3, hl⟩ := xb hl
    refine cx_aald 5 (by decide) dX5_which_11 ev3 ?_
    obtain ⟨u5, eu5, hl⟩ := xb hl
    obtain ⟨r4, er4, hl⟩ := xb hl
    refine cx_callV (Or.inl ⟨by decide, _, _, rfl⟩) (T_X5_is er4) lV_X5_121 C_X5_is dX5_which_12 eu5 (by decide) rfl (by omega) (Nat.le_of_ble_eq_true rfl) ?_
    by_cases c6 : r4 = 0
    · rw [if_pos c6] at hl
      refine cx_if_eq (X := True) (tgt := 20) dX5_which_15 (by decide) (fun _ => ?_) (fun z => absurd c6 z)
      obtain ⟨w7, ew7, hl⟩ := xb hl
      refine cx_iinc dX5_which_20 rfl (by decide) (Option.some.inj ew7) ?_
      refine cx_goto (tgt := 2) dX5_which_23 (by decide) ?_
      cases hl
      exact cx_lsK hK ⟨rfl, rfl, rfl, trivial⟩
    · rw [if_neg c6] at hl
      refine cx_if_eq (X := True) (tgt := 20) dX5_which_15 (by decide) (fun z => absurd z c6) (fun _ => ?_)
      cases hl
      exact cx_lsK hK ⟨rfl, trivial⟩
set_option maxHeartbeats 4000000 in
theorem k_X5_which_L2_ok {l : Launch} {E : XEnv} {hf : XH} {res : XO} {n : Nat} {x0 : Nat} {x1 : Nat} {h : XH} {s : Int32} {o : (Unit) ⊕ (Int32)} (hl : xloop (fun s => k_X5_which_L2 n E.2.2.2 x0 x1 s h) n s = some o) (hK : K_X5_which_L2 l E hf res h x0 x1 o) : CX l E mX5_which 6 2 [(0, .ref x0), (1, .ref x1), (2, .int s)] [] h hf res :=
  xloop_of (fun s : Int32 => CX l E mX5_which 6 2 [(0, .ref x0), (1, .ref x1), (2, .int s)] [] h hf res) (fun r => K_X5_which_L2 l E hf res h x0 x1 r) (fun s o hl hk => k_X5_which_L2_s (h := h) (o := o) hl hk) n s o hl hK
set_option maxHeartbeats 4000000 in
theorem T_X5_which {l : Launch} {E : XEnv}  {n : Nat} {x0 : Nat} {x1 : Nat} {h : XH} {r : Int32} (hl : k_X5_which n E.2.2.2 x0 x1 h = some r) : CM l E mX5_which 6 [.ref x0, .ref x1] h (.inl (some (.int r))) h := by
  unfold k_X5_which at hl
  refine cm_of (by decide +kernel) rfl (Nat.le_of_ble_eq_true rfl) ?_
  refine cx_iconst (v := 0) dX5_which_0 rfl ?_
  refine cx_istore_n dX5_which_1 (by decide) ?_
  obtain ⟨o8, eo8, hl⟩ := xb hl
  rcases o8 with e9 | e10
  · dsimp only at hl
    refine cx_lsK (k_X5_which_L2_ok (h := h) (s := 0) eo8 ?_) ⟨rfl, rfl, rfl, trivial⟩
    refine cx_iconst (v := (-1)) dX5_which_26 rfl ?_
    cases hl
    exact cx_iret dX5_which_27 rfl rfl rfl rfl
  · dsimp only at hl
    refine cx_lsK (k_X5_which_L2_ok (h := h) (s := 0) eo8 ?_) ⟨rfl, rfl, rfl, trivial⟩
    refine cx_iload_n dX5_which_18 rfl ?_
    cases hl
    exact cx_iret dX5_which_19 rfl rfl rfl rfl
def k_X9_init (x0 : Nat) (x1 : Int32) (h : XH) : Option (XH) := (cpu h x0 8 0 (.int x1)).bind fun h1 => some h1
set_option maxHeartbeats 4000000 in
theorem T_X9_init {l : Launch} {E : XEnv}  {x0 : Nat} {x1 : Int32} {h : XH} {r : XH} (hl : k_X9_init x0 x1 h = some r) : CM l E mX9_init 2 [.ref x0, .int x1] h (.inl none) r := by
  unfold k_X9_init at hl
  refine cm_of (by decide +kernel) rfl (Nat.le_of_ble_eq_true rfl) ?_
  refine cx_aload_n dX9_init_0 rfl rfl ?_
  refine cx_objInit q1030 q161 q162 dX9_init_1 (by omega) (Nat.le_of_ble_eq_true rfl) ?_
  refine cx_aload_n dX9_init_4 rfl rfl ?_
  refine cx_iload_n dX9_init_5 rfl ?_
  obtain ⟨h1, eh1, hl⟩ := xb hl
  refine cx_putI pF_X9_7 dX9_init_6 eh1 ?_
  cases hl
  exact cx_vret dX9_init_9 rfl rfl rfl
def k_X5_part_J100 (ex : Nat → Int32 → XH → Option ((Nat ⊕ XX) × XH)) (n : Nat) (c : Nat → Value) (x0 : Nat) (x2 : Int32) (y0 : Int32) (y1 : Nat) (h : XH) : Option ((Nat ⊕ XX) × XH) := (ckd h y1 4).bind fun u20 => (k_X5_want c y1 y0 3 h).bind fun r19 => match r19 with | (.inl v21, h22) => ((ckd h22 x0 4).bind fun u27 => (k_X5_next n c x0 h22).bind fun r26 => (some (xnew r26 8 1 1 1 (fun j => defaultValue (tyX9 j)))).bind fun h28 => (k_X9_init r26.2.2.1 x2 h28).bind fun r29 => some (.inl r26.2.2.1, r29)) | (.inr e23, h22) => (some (.inr e23, h22))
def k_X5_part_J76 (ex : Nat → Int32 → XH → Option ((Nat ⊕ XX) × XH)) (n : Nat) (c : Nat → Value) (x0 : Nat) (y0 : Int32) (y1 : Nat) (h : XH) : Option ((Nat ⊕ XX) × XH) := (ckd h y1 4).bind fun u9 => (k_X5_want c y1 y0 1 h).bind fun r8 => match r8 with | (.inl v10, h11) => ((cgR h11 x0 4 6).bind fun v15 => (ckd h11 x0 4).bind fun u17 => (k_X5_which n c x0 v15 h11).bind fun r16 => if r16 = (-1) then k_X5_part_J100 ex n c x0 r16 0 x0 h11 else k_X5_part_J100 ex n c x0 r16 1 x0 h11) | (.inr e12, h11) => (some (.inr e12, h11))
def k_X5_part (ex : Nat → Int32 → XH → Option ((Nat ⊕ XX) × XH)) (n : Nat) (c : Nat → Value) (x0 : Nat) (x1 : Int32) (h : XH) : Option ((Nat ⊕ XX) × XH) := (cgI h x0 4 8).bind fun v1 => if v1 = 2 then (some (xnew h 7 1 1 1 (fun j => defaultValue (tyX8 j)))).bind fun h51 => (ckd h51 x0 4).bind fun u53 => (k_X5_number n c x0 0 9999 h51).bind fun r52 => match r52 with | (.inl v54, h55) => ((k_X8_init h.2.2.1 v54 h55).bind fun r59 => some (.inl h.2.2.1, r59)) | (.inr e56, h55) => (some (.inr e56, h55)) else (ckd h x0 4).bind fun u4 => (k_X5_isSign x0 40 h).bind fun r3 => if r3 = 0 then (cgI h x0 4 8).bind fun v6 => if v6 = 1 then k_X5_part_J76 ex n c x0 1 x0 h else k_X5_part_J76 ex n c x0 0 x0 h else (ckd h x0 4).bind fun u32 => (k_X5_next n c x0 h).bind fun r31 => (ckd r31 x0 4).bind fun u34 => (ex x0 (x1 + 1) r31).bind fun r33 => match r33 with | (.inl v35, h36) => ((ckd h36 x0 4).bind fun u41 => (k_X5_isSign x0 41 h36).bind fun r40 => (ckd h36 x0 4).bind fun u43 => (k_X5_want c x0 r40 1 h36).bind fun r42 => match r42 with | (.inl v44, h45) => ((ckd h45 x0 4).bind fun u50 => (k_X5_next n c x0 h45).bind fun r49 => some (.inl v35, r49)) | (.inr e46, h45) => (some (.inr e46, h45))) | (.inr e37, h36) => (some (.inr e37, h36))
set_option maxHeartbeats 4000000 in
theorem k_X5_part_J100_s {l : Launch} {E : XEnv}  {dd : Nat} {ex : Nat → Int32 → XH → Option ((Nat ⊕ XX) × XH)} (hex : ∀ a b h r, ex a b h = some r → CM l E mX5_expression dd [.ref a, .int b] h (xrR r.1) r.2) {n : Nat} {x0 : Nat} {x2 : Int32} {y0 : Int32} {y1 : Nat} {h : XH} {r : (Nat ⊕ XX) × XH} (hl : k_X5_part_J100 ex n E.2.2.2 x0 x2 y0 y1 h = some r) : CX l E mX5_part (dd + 8) 100 [(0, .ref x0), (2, .int x2)] [.int y0, .ref y1] h r.2 (xrR r.1) := by
  unfold k_X5_part_J100 at hl
  refine cx_iconst (v := 3) dX5_part_100 rfl ?_
  obtain ⟨u20, eu20, hl⟩ := xb hl
  obtain ⟨r19, er19, hl⟩ := xb hl
  rcases r19 with ⟨v21 | ⟨C24, q25⟩, h22⟩
  · dsimp only at hl
    refine cx_callV (Or.inl ⟨by decide, _, _, rfl⟩) (T_X5_want er19) lV_X5_133 C_X5_want dX5_part_101 eu20 (by decide) rfl (by omega) (Nat.le_of_ble_eq_true rfl) ?_
    refine cx_aload_n dX5_part_104 rfl rfl ?_
    obtain ⟨u27, eu27, hl⟩ := xb hl
    obtain ⟨r26, er26, hl⟩ := xb hl
    refine cx_callV (Or.inl ⟨by decide, _, _, rfl⟩) (T_X5_next er26) lV_X5_125 C_X5_next dX5_part_105 eu27 (by decide) rfl (by omega) (Nat.le_of_ble_eq_true rfl) ?_
    obtain ⟨h28, eh28, hl⟩ := xb hl
    refine cx_new 1 nW_X5_157 dX5_part_108 (Option.some.inj eh28) ?_
    refine cx_dup dX5_part_111 rfl ?_
    refine cx_iload_n dX5_part_112 rfl ?_
    obtain ⟨r29, er29, hl⟩ := xb hl
    refine cx_callI (T_X9_init er29) lI_X5_159 rfl C_X9_init dX5_part_113 rfl (by omega) (Nat.le_of_ble_eq_true rfl) ?_
    cases hl
    exact cx_aret dX5_part_116 rfl rfl (Or.inl ⟨_, rfl⟩) rfl rfl
  · dsimp only at hl
    cases hl
    exact cx_callVx (Or.inl ⟨by decide, _, _, rfl⟩) (T_X5_want er19) lV_X5_133 C_X5_want dX5_part_101 eu20 (by decide) rfl (by omega) (Nat.le_of_ble_eq_true rfl) (ct_out rfl rfl (by decide))
set_option maxHeartbeats 4000000 in
theorem k_X5_part_J76_s {l : Launch} {E : XEnv}  {dd : Nat} {ex : Nat → Int32 → XH → Option ((Nat ⊕ XX) × XH)} (hex : ∀ a b h r, ex a b h = some r → CM l E mX5_expression dd [.ref a, .int b] h (xrR r.1) r.2) {n : Nat} {x0 : Nat} {y0 : Int32} {y1 : Nat} {h : XH} {r : (Nat ⊕ XX) × XH} (hl : k_X5_part_J76 ex n E.2.2.2 x0 y0 y1 h = some r) : CX l E mX5_part (dd + 8) 76 [(0, .ref x0)] [.int y0, .ref y1] h r.2 (xrR r.1) := by
  unfold k_X5_part_J76 at hl
  refine cx_iconst (v := 1) dX5_part_76 rfl ?_
  obtain ⟨u9, eu9, hl⟩ := xb hl
  obtain ⟨r8, er8, hl⟩ := xb hl
  rcases r8 with ⟨v10 | ⟨C13, q14⟩, h11⟩
  · dsimp only at hl
    refine cx_callV (Or.inl ⟨by decide, _, _, rfl⟩) (T_X5_want er8) lV_X5_133 C_X5_want dX5_part_77 eu9 (by decide) rfl (by omega) (Nat.le_of_ble_eq_true rfl) ?_
    refine cx_aload_n dX5_part_80 rfl rfl ?_
    refine cx_aload_n dX5_part_81 rfl rfl ?_
    obtain ⟨v15, ev15, hl⟩ := xb hl
    refine cx_getR gF_X5_61 dX5_part_82 ev15 ?_
    obtain ⟨u17, eu17, hl⟩ := xb hl
    obtain ⟨r16, er16, hl⟩ := xb hl
    refine cx_callV (Or.inl ⟨by decide, _, _, rfl⟩) (T_X5_which er16) lV_X5_153 C_X5_which dX5_part_85 eu17 (by decide) rfl (by omega) (Nat.le_of_ble_eq_true rfl) ?_
    refine cx_istore_n dX5_part_88 (by decide) ?_
    refine cx_aload_n dX5_part_89 rfl rfl ?_
    refine cx_iload_n dX5_part_90 rfl ?_
    refine cx_iconst (v := (-1)) dX5_part_91 rfl ?_
    by_cases c18 : r16 = (-1)
    · rw [if_pos c18] at hl
      refine cx_icmp_eq (X := True) (tgt := 99) dX5_part_92 (by decide) (fun _ => ?_) (fun z => absurd c18 z)
      refine cx_iconst (v := 0) dX5_part_99 rfl ?_
      exact cx_lsK (k_X5_part_J100_s hex hl) ⟨rfl, rfl, trivial⟩
    · rw [if_neg c18] at hl
      refine cx_icmp_eq (X := True) (tgt := 99) dX5_part_92 (by decide) (fun z => absurd z c18) (fun _ => ?_)
      refine cx_iconst (v := 1) dX5_part_95 rfl ?_
      refine cx_goto (tgt := 100) dX5_part_96 (by decide) ?_
      exact cx_lsK (k_X5_part_J100_s hex hl) ⟨rfl, rfl, trivial⟩
  · dsimp only at hl
    cases hl
    exact cx_callVx (Or.inl ⟨by decide, _, _, rfl⟩) (T_X5_want er8) lV_X5_133 C_X5_want dX5_part_77 eu9 (by decide) rfl (by omega) (Nat.le_of_ble_eq_true rfl) (ct_out rfl rfl (by decide))
set_option maxHeartbeats 4000000 in
theorem T_X5_part {l : Launch} {E : XEnv}  {dd : Nat} {ex : Nat → Int32 → XH → Option ((Nat ⊕ XX) × XH)} (hex : ∀ a b h r, ex a b h = some r → CM l E mX5_expression dd [.ref a, .int b] h (xrR r.1) r.2) {n : Nat} {x0 : Nat} {x1 : Int32} {h : XH} {r : (Nat ⊕ XX) × XH} (hl : k_X5_part ex n E.2.2.2 x0 x1 h = some r) : CM l E mX5_part (dd + 8) [.ref x0, .int x1] h (xrR r.1) r.2 := by
  unfold k_X5_part at hl
  refine cm_of (by decide +kernel) rfl (Nat.le_of_ble_eq_true rfl) ?_
  refine cx_aload_n dX5_part_0 rfl rfl ?_
  obtain ⟨v1, ev1, hl⟩ := xb hl
  refine cx_getI gF_X5_85 dX5_part_1 ev1 ?_
  refine cx_iconst (v := 2) dX5_part_4 rfl ?_
  by_cases c2 : v1 = 2
  · rw [if_pos c2] at hl
    refine cx_icmp_ne (X := True) (tgt := 24) dX5_part_5 (by decide) (fun z => absurd c2 z) (fun _ => ?_)
    obtain ⟨h51, eh51, hl⟩ := xb hl
    refine cx_new 1 nW_X5_140 dX5_part_8 (Option.some.inj eh51) ?_
    refine cx_dup dX5_part_11 rfl ?_
    refine cx_aload_n dX5_part_12 rfl rfl ?_
    refine cx_iconst (v := 0) dX5_part_13 rfl ?_
    refine cx_sipush (v := 9999) dX5_part_14 (by decide) ?_
    obtain ⟨u53, eu53, hl⟩ := xb hl
    obtain ⟨r52, er52, hl⟩ := xb hl
    rcases r52 with ⟨v54 | ⟨C57, q58⟩, h55⟩
    · dsimp only at hl
      refine cx_callV (Or.inl ⟨by decide, _, _, rfl⟩) (T_X5_number er52) lV_X5_142 C_X5_number dX5_part_17 eu53 (by decide) rfl (by omega) (Nat.le_of_ble_eq_true rfl) ?_
      obtain ⟨r59, er59, hl⟩ := xb hl
      refine cx_callI (T_X8_init er59) lI_X5_144 rfl C_X8_init dX5_part_20 rfl (by omega) (Nat.le_of_ble_eq_true rfl) ?_
      cases hl
      exact cx_aret dX5_part_23 rfl rfl (Or.inl ⟨_, rfl⟩) rfl rfl
    · dsimp only at hl
      cases hl
      exact cx_callVx (Or.inl ⟨by decide, _, _, rfl⟩) (T_X5_number er52) lV_X5_142 C_X5_number dX5_part_17 eu53 (by decide) rfl (by omega) (Nat.le_of_ble_eq_true rfl) (ct_out rfl rfl (by decide))
  · rw [if_neg c2] at hl
    refine cx_icmp_ne (X := True) (tgt := 24) dX5_part_5 (by decide) (fun _ => ?_) (fun z => absurd z c2)
    refine cx_aload_n dX5_part_24 rfl rfl ?_
    refine cx_bipush (v := 40) dX5_part_25 (by decide) ?_
    obtain ⟨u4, eu4, hl⟩ := xb hl
    obtain ⟨r3, er3, hl⟩ := xb hl
    refine cx_callV (Or.inl ⟨by decide, _, _, rfl⟩) (T_X5_isSign er3) lV_X5_145 C_X5_isSign dX5_part_27 eu4 (by decide) rfl (by omega) (Nat.le_of_ble_eq_true rfl) ?_
    by_cases c5 : r3 = 0
    · rw [if_pos c5] at hl
      refine cx_if_eq (X := True) (tgt := 62) dX5_part_30 (by decide) (fun _ => ?_) (fun z => absurd c5 z)
      refine cx_aload_n dX5_part_62 rfl rfl ?_
      refine cx_aload_n dX5_part_63 rfl rfl ?_
      obtain ⟨v6, ev6, hl⟩ := xb hl
      refine cx_getI gF_X5_85 dX5_part_64 ev6 ?_
      refine cx_iconst (v := 1) dX5_part_67 rfl ?_
      by_cases c7 : v6 = 1
      · rw [if_pos c7] at hl
        refine cx_icmp_ne (X := True) (tgt := 75) dX5_part_68 (by decide) (fun z => absurd c7 z) (fun _ => ?_)
        refine cx_iconst (v := 1) dX5_part_71 rfl ?_
        refine cx_goto (tgt := 76) dX5_part_72 (by decide) ?_
        exact cx_lsK (k_X5_part_J76_s hex hl) ⟨rfl, trivial⟩
      · rw [if_neg c7] at hl
        refine cx_icmp_ne (X := True) (tgt := 75) dX5_part_68 (by decide) (fun _ => ?_) (fun z => absurd z c7)
        refine cx_iconst (v := 0) dX5_part_75 rfl ?_
        exact cx_lsK (k_X5_part_J76_s hex hl) ⟨rfl, trivial⟩
    · rw [if_neg c5] at hl
      refine cx_if_eq (X := True) (tgt := 62) dX5_part_30 (by decide) (fun z => absurd z c5) (fun _ => ?_)
      refine cx_aload_n dX5_part_33 rfl rfl ?_
      obtain ⟨u32, eu32, hl⟩ := xb hl
      obtain ⟨r31, er31, hl⟩ := xb hl
      refine cx_callV (Or.inl ⟨by decide, _, _, rfl⟩) (T_X5_next er31) lV_X5_125 C_X5_next dX5_part_34 eu32 (by decide) rfl (by omega) (Nat.le_of_ble_eq_true rfl) ?_
      refine cx_aload_n dX5_part_37 rfl rfl ?_
      refine cx_iload_n dX5_part_38 rfl ?_
      refine cx_iconst (v := 1) dX5_part_39 rfl ?_
      refine cx_iadd dX5_part_40 ?_
      obtain ⟨u34, eu34, hl⟩ := xb hl
      obtain ⟨r33, er33, hl⟩ := xb hl
      rcases r33 with ⟨v35 | ⟨C38, q39⟩, h36⟩
      · dsimp only at hl
        refine cx_callV (Or.inl ⟨by decide, _, _, rfl⟩) (hex _ _ _ _ er33) lV_X5_149 C_X5_expression dX5_part_41 eu34 (by decide) rfl (by omega) (Nat.le_of_ble_eq_true rfl) ?_
        refine cx_astore_n dX5_part_44 (by decide) rfl ?_
        refine cx_aload_n dX5_part_45 rfl rfl ?_
        refine cx_aload_n dX5_part_46 rfl rfl ?_
        refine cx_bipush (v := 41) dX5_part_47 (by decide) ?_
        obtain ⟨u41, eu41, hl⟩ := xb hl
        obtain ⟨r40, er40, hl⟩ := xb hl
        refine cx_callV (Or.inl ⟨by decide, _, _, rfl⟩) (T_X5_isSign er40) lV_X5_145 C_X5_isSign dX5_part_49 eu41 (by decide) rfl (by omega) (Nat.le_of_ble_eq_true rfl) ?_
        refine cx_iconst (v := 1) dX5_part_52 rfl ?_
        obtain ⟨u43, eu43, hl⟩ := xb hl
        obtain ⟨r42, er42, hl⟩ := xb hl
        rcases r42 with ⟨v44 | ⟨C47, q48⟩, h45⟩
        · dsimp only at hl
          refine cx_callV (Or.inl ⟨by decide, _, _, rfl⟩) (T_X5_want er42) lV_X5_133 C_X5_want dX5_part_53 eu43 (by decide) rfl (by omega) (Nat.le_of_ble_eq_true rfl) ?_
          refine cx_aload_n dX5_part_56 rfl rfl ?_
          obtain ⟨u50, eu50, hl⟩ := xb hl
          obtain ⟨r49, er49, hl⟩ := xb hl
          refine cx_callV (Or.inl ⟨by decide, _, _, rfl⟩) (T_X5_next er49) lV_X5_125 C_X5_next dX5_part_57 eu50 (by decide) rfl (by omega) (Nat.le_of_ble_eq_true rfl) ?_
          refine cx_aload_n dX5_part_60 rfl rfl ?_
          cases hl
          exact cx_aret dX5_part_61 rfl rfl (Or.inl ⟨_, rfl⟩) rfl rfl
        · dsimp only at hl
          cases hl
          exact cx_callVx (Or.inl ⟨by decide, _, _, rfl⟩) (T_X5_want er42) lV_X5_133 C_X5_want dX5_part_53 eu43 (by decide) rfl (by omega) (Nat.le_of_ble_eq_true rfl) (ct_out rfl rfl (by decide))
      · dsimp only at hl
        cases hl
        exact cx_callVx (Or.inl ⟨by decide, _, _, rfl⟩) (hex _ _ _ _ er33) lV_X5_149 C_X5_expression dX5_part_41 eu34 (by decide) rfl (by omega) (Nat.le_of_ble_eq_true rfl) (ct_out rfl rfl (by decide))
def k_J0_init (x0 : Nat) (h : XH) : Option (Unit) := some ()
set_option maxHeartbeats 4000000 in
theorem T_J0_init {l : Launch} {E : XEnv}  {x0 : Nat} {h : XH} {r : Unit} (hl : k_J0_init x0 h = some r) : CM l E mJ0_init 2 [.ref x0] h (.inl none) h := by
  unfold k_J0_init at hl
  refine cm_of (by decide +kernel) rfl (Nat.le_of_ble_eq_true rfl) ?_
  refine cx_aload_n dJ0_init_0 rfl rfl ?_
  refine cx_objInit q180 q161 q162 dJ0_init_1 (by omega) (Nat.le_of_ble_eq_true rfl) ?_
  cases hl
  exact cx_vret dJ0_init_4 rfl rfl rfl
def k_J1_init (x0 : Nat) (h : XH) : Option (XH) := (k_J0_init x0 h).bind fun r1 => (cpu h x0 10 0 (.int 0)).bind fun h3 => some h3
set_option maxHeartbeats 4000000 in
theorem T_J1_init {l : Launch} {E : XEnv}  {x0 : Nat} {h : XH} {r : XH} (hl : k_J1_init x0 h = some r) : CM l E mJ1_init 3 [.ref x0] h (.inl none) r := by
  unfold k_J1_init at hl
  refine cm_of (by decide +kernel) rfl (Nat.le_of_ble_eq_true rfl) ?_
  refine cx_aload_n dJ1_init_0 rfl rfl ?_
  obtain ⟨r1, er1, hl⟩ := xb hl
  refine cx_callI (T_J0_init er1) lI_J1_1 rfl C_J0_init dJ1_init_1 rfl (by omega) (Nat.le_of_ble_eq_true rfl) ?_
  refine cx_aload_n dJ1_init_4 rfl rfl ?_
  refine cx_iconst (v := 0) dJ1_init_5 rfl ?_
  obtain ⟨h3, eh3, hl⟩ := xb hl
  refine cx_putI pF_J1_7 dJ1_init_6 eh3 ?_
  cases hl
  exact cx_vret dJ1_init_9 rfl rfl rfl
def k_J2_init (c : Nat → Value) (x0 : Nat) (h : XH) : Option (XH) := (k_J1_init x0 h).bind fun r1 => (vR (c 21)).bind fun v3 => (cpu r1 x0 10 1 (.ref v3)).bind fun h4 => (ctag h4 v3 (2000 + 8 * x0 + 6)).bind fun h5 => some h5
set_option maxHeartbeats 4000000 in
theorem T_J2_init {l : Launch} {E : XEnv}  {x0 : Nat} {h : XH} {r : XH} (hl : k_J2_init E.2.2.2 x0 h = some r) : CM l E mJ2_init 4 [.ref x0] h (.inl none) r := by
  unfold k_J2_init at hl
  refine cm_of (by decide +kernel) rfl (Nat.le_of_ble_eq_true rfl) ?_
  refine cx_aload_n dJ2_init_0 rfl rfl ?_
  obtain ⟨r1, er1, hl⟩ := xb hl
  refine cx_callI (T_J1_init er1) lI_J2_1 rfl C_J1_init dJ2_init_1 rfl (by omega) (Nat.le_of_ble_eq_true rfl) ?_
  refine cx_aload_n dJ2_init_4 rfl rfl ?_
  obtain ⟨v3, ev3, hl⟩ := xb hl
  refine cx_gets (C := "java/util/ArrayList") (nm := "DEFAULTCAPACITY_EMPTY_ELEMENTDATA") (ds := "[Ljava/lang/Object;") (v := E.2.2.2 21) (by simp [xstl]) q181 (Or.inl rfl) dJ2_init_5 ?_
  refine cx_val (vR_spec ev3) ?_
  obtain ⟨h4, eh4, hl⟩ := xb hl
  obtain ⟨h5, eh5, hl⟩ := xb hl
  refine cx_putR (Or.inr ⟨_, rfl⟩) pF_J2_9 dJ2_init_8 eh4 ?_
  refine cx_tag eh5 ?_
  cases hl
  exact cx_vret dJ2_init_11 rfl rfl rfl
def k_J17_init (c : Nat → Value) (x0 : Nat) (x1 : Int32) (h : XH) : Option (XH) := (cna h 1 (2000 + 8 * x0 + 7) x1).bind fun h1 => (cpu h1 x0 12 0 (.ref h.2.2.1)).bind fun h2 => (ctag h2 h.2.2.1 (2000 + 8 * x0 + 7)).bind fun h3 => (cpZ h3 x0 12 1 0).bind fun h4 => some h4
set_option maxHeartbeats 4000000 in
theorem T_J17_init {l : Launch} {E : XEnv}  {x0 : Nat} {x1 : Int32} {h : XH} {r : XH} (hl : k_J17_init E.2.2.2 x0 x1 h = some r) : CM l E mJ17_init 2 [.ref x0, .int x1] h (.inl none) r := by
  unfold k_J17_init at hl
  refine cm_of (by decide +kernel) rfl (Nat.le_of_ble_eq_true rfl) ?_
  refine cx_aload_n dJ17_init_0 rfl rfl ?_
  refine cx_objInit q1049 q161 q162 dJ17_init_1 (by omega) (Nat.le_of_ble_eq_true rfl) ?_
  refine cx_gets (C := "java/lang/String") (nm := "COMPACT_STRINGS") (ds := "Z") (v := .int 1) (by simp [xstl]) q1050 (Or.inl rfl) dJ17_init_4 ?_
  refine cx_if_eq (X := True) (tgt := 25) dJ17_init_7 (by decide) (fun c => absurd c (by decide)) (fun _ => ?_)
  refine cx_aload_n dJ17_init_10 rfl rfl ?_
  refine cx_iload_n dJ17_init_11 rfl ?_
  obtain ⟨h1, eh1, hl⟩ := xb hl
  refine cx_newa 1 (2000 + 8 * x0 + 7) (by decide) q323 rfl dJ17_init_12 eh1 ?_
  obtain ⟨h2, eh2, hl⟩ := xb hl
  obtain ⟨h3, eh3, hl⟩ := xb hl
  refine cx_putR (Or.inr ⟨_, rfl⟩) pF_J17_15 dJ17_init_14 eh2 ?_
  refine cx_tag eh3 ?_
  refine cx_aload_n dJ17_init_17 rfl rfl ?_
  refine cx_iconst (v := 0) dJ17_init_18 rfl ?_
  obtain ⟨h4, eh4, hl⟩ := xb hl
  refine cx_putZ (Or.inr rfl) pF_J17_22 dJ17_init_19 eh4 ?_
  refine cx_goto (tgt := 38) dJ17_init_22 (by decide) ?_
  cases hl
  exact cx_vret dJ17_init_38 rfl rfl rfl
def k_J18_init (c : Nat → Value) (x0 : Nat) (h : XH) : Option (XH) := (k_J17_init c x0 16 h).bind fun r1 => some r1
set_option maxHeartbeats 4000000 in
theorem T_J18_init {l : Launch} {E : XEnv}  {x0 : Nat} {h : XH} {r : XH} (hl : k_J18_init E.2.2.2 x0 h = some r) : CM l E mJ18_init 3 [.ref x0] h (.inl none) r := by
  unfold k_J18_init at hl
  refine cm_of (by decide +kernel) rfl (Nat.le_of_ble_eq_true rfl) ?_
  refine cx_aload_n dJ18_init_0 rfl rfl ?_
  refine cx_bipush (v := 16) dJ18_init_1 (by decide) ?_
  obtain ⟨r1, er1, hl⟩ := xb hl
  refine cx_callI (T_J17_init er1) lI_J18_1 rfl C_J17_init dJ18_init_3 rfl (by omega) (Nat.le_of_ble_eq_true rfl) ?_
  cases hl
  exact cx_vret dJ18_init_6 rfl rfl rfl
def k_J15_hugeLength (c : Nat → Value) (x0 : Int32) (x1 : Int32) (h : XH) : Option (Int32 × XH) := (some (x0 + x1)).bind fun w1 => if w1 ≥ 0 then if w1 > 2147483639 then some (w1, h) else some (2147483639, h) else none
set_option maxHeartbeats 4000000 in
theorem T_J15_hugeLength {l : Launch} {E : XEnv}  {x0 : Int32} {x1 : Int32} {h : XH} {r : Int32 × XH} (hl : k_J15_hugeLength E.2.2.2 x0 x1 h = some r) : CM l E mJ15_hugeLength 1 [.int x0, .int x1] h (.inl (some (.int r.1))) r.2 := by
  unfold k_J15_hugeLength at hl
  refine cm_of (by decide +kernel) rfl (Nat.le_of_ble_eq_true rfl) ?_
  refine cx_iload_n dJ15_hugeLength_0 rfl ?_
  refine cx_iload_n dJ15_hugeLength_1 rfl ?_
  refine cx_iadd dJ15_hugeLength_2 ?_
  obtain ⟨w1, ew1, hl⟩ := xb hl
  refine cx_top (Option.some.inj ew1) ?_
  refine cx_istore_n dJ15_hugeLength_3 (by decide) ?_
  refine cx_iload_n dJ15_hugeLength_4 rfl ?_
  by_cases c2 : w1 ≥ 0
  · rw [if_pos c2] at hl
    refine cx_if_ge (X := True) (tgt := 49) dJ15_hugeLength_5 (by decide) (fun _ => ?_) (fun z => absurd c2 z)
    refine cx_iload_n dJ15_hugeLength_49 rfl ?_
    refine cx_ldc (v := 2147483639) q385 dJ15_hugeLength_50 ?_
    by_cases c3 : w1 > 2147483639
    · rw [if_pos c3] at hl
      refine cx_icmp_gt (X := True) (tgt := 58) dJ15_hugeLength_52 (by decide) (fun _ => ?_) (fun z => absurd c3 z)
      refine cx_iload_n dJ15_hugeLength_58 rfl ?_
      cases hl
      exact cx_iret dJ15_hugeLength_59 rfl rfl rfl rfl
    · rw [if_neg c3] at hl
      refine cx_icmp_gt (X := True) (tgt := 58) dJ15_hugeLength_52 (by decide) (fun z => absurd z c3) (fun _ => ?_)
      refine cx_ldc (v := 2147483639) q385 dJ15_hugeLength_55 ?_
      cases hl
      exact cx_iret dJ15_hugeLength_57 rfl rfl rfl rfl
  · rw [if_neg c2] at hl
    refine cx_if_ge (X := True) (tgt := 49) dJ15_hugeLength_5 (by decide) (fun z => absurd z c2) (fun _ => ?_)
    cases hl
def k_J15_newLength (c : Nat → Value) (x0 : Int32) (x1 : Int32) (x2 : Int32) (h : XH) : Option (Int32 × XH) := (some (x0 + (imax x1 x2))).bind fun w1 => if (0 : Int32) ≥ w1 then (k_J15_hugeLength c x0 x1 h).bind fun r3 => some (r3.1, r3.2) else if w1 > 2147483639 then (k_J15_hugeLength c x0 x1 h).bind fun r6 => some (r6.1, r6.2) else some (w1, h)
set_option maxHeartbeats 4000000 in
theorem T_J15_newLength {l : Launch} {E : XEnv}  {x0 : Int32} {x1 : Int32} {x2 : Int32} {h : XH} {r : Int32 × XH} (hl : k_J15_newLength E.2.2.2 x0 x1 x2 h = some r) : CM l E mJ15_newLength 2 [.int x0, .int x1, .int x2] h (.inl (some (.int r.1))) r.2 := by
  unfold k_J15_newLength at hl
  refine cm_of (by decide +kernel) rfl (Nat.le_of_ble_eq_true rfl) ?_
  refine cx_iload_n dJ15_newLength_0 rfl ?_
  refine cx_iload_n dJ15_newLength_1 rfl ?_
  refine cx_iload_n dJ15_newLength_2 rfl ?_
  refine cx_mmax q382 dJ15_newLength_3 (by omega) (Nat.le_of_ble_eq_true rfl) ?_
  refine cx_iadd dJ15_newLength_6 ?_
  obtain ⟨w1, ew1, hl⟩ := xb hl
  refine cx_top (Option.some.inj ew1) ?_
  refine cx_istore_n dJ15_newLength_7 (by decide) ?_
  refine cx_iconst (v := 0) dJ15_newLength_8 rfl ?_
  refine cx_iload_n dJ15_newLength_9 rfl ?_
  by_cases c2 : (0 : Int32) ≥ w1
  · rw [if_pos c2] at hl
    refine cx_icmp_ge (X := True) (tgt := 21) dJ15_newLength_10 (by decide) (fun _ => ?_) (fun z => absurd c2 z)
    refine cx_iload_n dJ15_newLength_21 rfl ?_
    refine cx_iload_n dJ15_newLength_22 rfl ?_
    obtain ⟨r3, er3, hl⟩ := xb hl
    refine cx_callS (T_J15_hugeLength er3) lS_J15_201 C_J15_hugeLength dJ15_newLength_23 rfl (by omega) (Nat.le_of_ble_eq_true rfl) ?_
    cases hl
    exact cx_iret dJ15_newLength_26 rfl rfl rfl rfl
  · rw [if_neg c2] at hl
    refine cx_icmp_ge (X := True) (tgt := 21) dJ15_newLength_10 (by decide) (fun z => absurd z c2) (fun _ => ?_)
    refine cx_iload_n dJ15_newLength_13 rfl ?_
    refine cx_ldc (v := 2147483639) q385 dJ15_newLength_14 ?_
    by_cases c5 : w1 > 2147483639
    · rw [if_pos c5] at hl
      refine cx_icmp_gt (X := True) (tgt := 21) dJ15_newLength_16 (by decide) (fun _ => ?_) (fun z => absurd c5 z)
      refine cx_iload_n dJ15_newLength_21 rfl ?_
      refine cx_iload_n dJ15_newLength_22 rfl ?_
      obtain ⟨r6, er6, hl⟩ := xb hl
      refine cx_callS (T_J15_hugeLength er6) lS_J15_201 C_J15_hugeLength dJ15_newLength_23 rfl (by omega) (Nat.le_of_ble_eq_true rfl) ?_
      cases hl
      exact cx_iret dJ15_newLength_26 rfl rfl rfl rfl
    · rw [if_neg c5] at hl
      refine cx_icmp_gt (X := True) (tgt := 21) dJ15_newLength_16 (by decide) (fun z => absurd z c5) (fun _ => ?_)
      refine cx_iload_n dJ15_newLength_19 rfl ?_
      cases hl
      exact cx_iret dJ15_newLength_20 rfl rfl rfl rfl
def k_J16_copyOf_2_J24 (c : Nat → Value) (x0 : Nat) (x1 : Int32) (y0 : Nat) (h : XH) : Option (Nat × XH) := (cal h x0).bind fun v4 => (ccO h x0 y0 0 0 (imin v4 x1)).bind fun h5 => some (y0, h5)
def k_J16_copyOf_2 (c : Nat → Value) (x0 : Nat) (x1 : Int32) (x2 : Nat) (h : XH) : Option (Nat × XH) := (vR (c 30)).bind fun v1 => if x2 = v1 then (cnr h 4 1 x1).bind fun h3 => k_J16_copyOf_2_J24 c x0 x1 h.2.2.1 h3 else none
set_option maxHeartbeats 4000000 in
theorem k_J16_copyOf_2_J24_s {l : Launch} {E : XEnv}  {x0 : Nat} {x1 : Int32} {y0 : Nat} {h : XH} {r : Nat × XH} (hl : k_J16_copyOf_2_J24 E.2.2.2 x0 x1 y0 h = some r) : CX l E mJ16_copyOf_2 2 24 [(0, .ref x0), (1, .int x1)] [.ref y0] h r.2 (.inl (some (.ref r.1))) := by
  unfold k_J16_copyOf_2_J24 at hl
  refine cx_astore_n dJ16_copyOf_2_24 (by decide) rfl ?_
  refine cx_aload_n dJ16_copyOf_2_25 rfl rfl ?_
  refine cx_iconst (v := 0) dJ16_copyOf_2_26 rfl ?_
  refine cx_aload_n dJ16_copyOf_2_27 rfl rfl ?_
  refine cx_iconst (v := 0) dJ16_copyOf_2_28 rfl ?_
  refine cx_aload_n dJ16_copyOf_2_29 rfl rfl ?_
  obtain ⟨v4, ev4, hl⟩ := xb hl
  refine cx_alen dJ16_copyOf_2_30 ev4 ?_
  refine cx_iload_n dJ16_copyOf_2_31 rfl ?_
  refine cx_mmin q417 dJ16_copyOf_2_32 (by omega) (Nat.le_of_ble_eq_true rfl) ?_
  obtain ⟨h5, eh5, hl⟩ := xb hl
  refine cx_copyO q420 q422 q421 q146 dJ16_copyOf_2_35 eh5 (by omega) (Nat.le_of_ble_eq_true rfl) ?_
  refine cx_aload_n dJ16_copyOf_2_38 rfl rfl ?_
  cases hl
  exact cx_aret dJ16_copyOf_2_39 rfl rfl (Or.inr ⟨_, rfl⟩) rfl rfl
set_option maxHeartbeats 4000000 in
theorem T_J16_copyOf_2 {l : Launch} {E : XEnv}  {x0 : Nat} {x1 : Int32} {x2 : Nat} {h : XH} {r : Nat × XH} (hl : k_J16_copyOf_2 E.2.2.2 x0 x1 x2 h = some r) : CM l E mJ16_copyOf_2 2 [.ref x0, .int x1, .ref x2] h (.inl (some (.ref r.1))) r.2 := by
  unfold k_J16_copyOf_2 at hl
  refine cm_of (by decide +kernel) rfl (Nat.le_of_ble_eq_true rfl) ?_
  refine cx_aload_n dJ16_copyOf_2_0 rfl rfl ?_
  obtain ⟨v1, ev1, hl⟩ := xb hl
  refine cx_ldcM (C := "[Ljava/lang/Object;") (i := 30) (Or.inl ⟨rfl, rfl⟩) q414 dJ16_copyOf_2_1 ev1 ?_
  by_cases c2 : x2 = v1
  · rw [if_pos c2] at hl
    refine cx_acmp_ne (tgt := 13) dJ16_copyOf_2_3 (by decide) (fun z => absurd c2 z) (fun _ => ?_)
    refine cx_iload_n dJ16_copyOf_2_6 rfl ?_
    obtain ⟨h3, eh3, hl⟩ := xb hl
    refine cx_anew 4 1 (by decide) rfl q416 q415 dJ16_copyOf_2_7 eh3 ?_
    refine cx_goto (tgt := 24) dJ16_copyOf_2_10 (by decide) ?_
    exact cx_lsK (k_J16_copyOf_2_J24_s hl) ⟨rfl, rfl, trivial⟩
  · rw [if_neg c2] at hl
    refine cx_acmp_ne (tgt := 13) dJ16_copyOf_2_3 (by decide) (fun _ => ?_) (fun z => absurd z c2)
    refine cx_aload_n dJ16_copyOf_2_13 rfl rfl ?_
    cases hl
def k_J16_copyOf (c : Nat → Value) (x0 : Nat) (x1 : Int32) (h : XH) : Option (Nat × XH) := (ckd h x0 104).bind fun u1 => (vR (c 30)).bind fun v2 => (k_J16_copyOf_2 c x0 x1 v2 h).bind fun r3 => some (r3.1, r3.2)
set_option maxHeartbeats 4000000 in
theorem T_J16_copyOf {l : Launch} {E : XEnv}  {x0 : Nat} {x1 : Int32} {h : XH} {r : Nat × XH} (hl : k_J16_copyOf E.2.2.2 x0 x1 h = some r) : CM l E mJ16_copyOf 3 [.ref x0, .int x1] h (.inl (some (.ref r.1))) r.2 := by
  unfold k_J16_copyOf at hl
  refine cm_of (by decide +kernel) rfl (Nat.le_of_ble_eq_true rfl) ?_
  refine cx_aload_n dJ16_copyOf_0 rfl rfl ?_
  refine cx_iload_n dJ16_copyOf_1 rfl ?_
  refine cx_aload_n dJ16_copyOf_2 rfl rfl ?_
  obtain ⟨u1, eu1, hl⟩ := xb hl
  obtain ⟨v2, ev2, hl⟩ := xb hl
  refine cx_getCo q392 q2343 q393 q410 dJ16_copyOf_3 eu1 ev2 (by omega) (Nat.le_of_ble_eq_true rfl) ?_
  obtain ⟨r3, er3, hl⟩ := xb hl
  refine cx_callS (T_J16_copyOf_2 er3) lS_J16_300 C_J16_copyOf_2 dJ16_copyOf_6 rfl (by omega) (Nat.le_of_ble_eq_true rfl) ?_
  cases hl
  exact cx_aret dJ16_copyOf_9 rfl rfl (Or.inr ⟨_, rfl⟩) rfl rfl
def k_J2_grow_2_J20 (c : Nat → Value) (x0 : Nat) (x1 : Int32) (x2 : Int32) (h : XH) : Option (Nat × XH) := (k_J15_newLength c x2 (x1 - x2) (x2 >>> ((1 : Int32) &&& 31)) h).bind fun r4 => (cgR r4.2 x0 10 1).bind fun v6 => (k_J16_copyOf c v6 r4.1 r4.2).bind fun r7 => (cpu r7.2 x0 10 1 (.ref r7.1)).bind fun h9 => (ctag h9 r7.1 (2000 + 8 * x0 + 6)).bind fun h10 => some (r7.1, h10)
def k_J2_grow_2 (c : Nat → Value) (x0 : Nat) (x1 : Int32) (h : XH) : Option (Nat × XH) := (cgR h x0 10 1).bind fun v1 => (cal h v1).bind fun v2 => if v2 > 0 then k_J2_grow_2_J20 c x0 x1 v2 h else (cgR h x0 10 1).bind fun v11 => (vR (c 21)).bind fun v12 => if v11 = v12 then (cnr h 4 1 (imax 10 x1)).bind fun h14 => (cpu h14 x0 10 1 (.ref h.2.2.1)).bind fun h15 => (ctag h15 h.2.2.1 (2000 + 8 * x0 + 6)).bind fun h16 => some (h.2.2.1, h16) else k_J2_grow_2_J20 c x0 x1 v2 h
set_option maxHeartbeats 4000000 in
theorem k_J2_grow_2_J20_s {l : Launch} {E : XEnv}  {x0 : Nat} {x1 : Int32} {x2 : Int32} {h : XH} {r : Nat × XH} (hl : k_J2_grow_2_J20 E.2.2.2 x0 x1 x2 h = some r) : CX l E mJ2_grow_2 4 20 [(0, .ref x0), (1, .int x1), (2, .int x2)] [] h r.2 (.inl (some (.ref r.1))) := by
  unfold k_J2_grow_2_J20 at hl
  refine cx_iload_n dJ2_grow_2_20 rfl ?_
  refine cx_iload_n dJ2_grow_2_21 rfl ?_
  refine cx_iload_n dJ2_grow_2_22 rfl ?_
  refine cx_isub dJ2_grow_2_23 ?_
  refine cx_iload_n dJ2_grow_2_24 rfl ?_
  refine cx_iconst (v := 1) dJ2_grow_2_25 rfl ?_
  refine cx_ishr dJ2_grow_2_26 ?_
  obtain ⟨r4, er4, hl⟩ := xb hl
  refine cx_callS (T_J15_newLength er4) lS_J2_73 C_J15_newLength dJ2_grow_2_27 rfl (by omega) (Nat.le_of_ble_eq_true rfl) ?_
  refine cx_istore_n dJ2_grow_2_30 (by decide) ?_
  refine cx_aload_n dJ2_grow_2_31 rfl rfl ?_
  refine cx_aload_n dJ2_grow_2_32 rfl rfl ?_
  obtain ⟨v6, ev6, hl⟩ := xb hl
  refine cx_getR gF_J2_9 dJ2_grow_2_33 ev6 ?_
  refine cx_iload_n dJ2_grow_2_36 rfl ?_
  obtain ⟨r7, er7, hl⟩ := xb hl
  refine cx_callS (T_J16_copyOf er7) lS_J2_66 C_J16_copyOf dJ2_grow_2_37 rfl (by omega) (Nat.le_of_ble_eq_true rfl) ?_
  refine cx_dup_x1 dJ2_grow_2_40 rfl rfl ?_
  obtain ⟨h9, eh9, hl⟩ := xb hl
  obtain ⟨h10, eh10, hl⟩ := xb hl
  refine cx_putR (Or.inr ⟨_, rfl⟩) pF_J2_9 dJ2_grow_2_41 eh9 ?_
  refine cx_tag eh10 ?_
  cases hl
  exact cx_aret dJ2_grow_2_44 rfl rfl (Or.inr ⟨_, rfl⟩) rfl rfl
set_option maxHeartbeats 4000000 in
theorem T_J2_grow_2 {l : Launch} {E : XEnv}  {x0 : Nat} {x1 : Int32} {h : XH} {r : Nat × XH} (hl : k_J2_grow_2 E.2.2.2 x0 x1 h = some r) : CM l E mJ2_grow_2 4 [.ref x0, .int x1] h (.inl (some (.ref r.1))) r.2 := by
  unfold k_J2_grow_2 at hl
  refine cm_of (by decide +kernel) rfl (Nat.le_of_ble_eq_true rfl) ?_
  refine cx_aload_n dJ2_grow_2_0 rfl rfl ?_
  obtain ⟨v1, ev1, hl⟩ := xb hl
  refine cx_getR gF_J2_9 dJ2_grow_2_1 ev1 ?_
  obtain ⟨v2, ev2, hl⟩ := xb hl
  refine cx_alen dJ2_grow_2_4 ev2 ?_
  refine cx_istore_n dJ2_grow_2_5 (by decide) ?_
  refine cx_iload_n dJ2_grow_2_6 rfl ?_
  by_cases c3 : v2 > 0
  · rw [if_pos c3] at hl
    refine cx_if_gt (X := True) (tgt := 20) dJ2_grow_2_7 (by decide) (fun _ => ?_) (fun z => absurd c3 z)
    exact cx_lsK (k_J2_grow_2_J20_s hl) ⟨rfl, rfl, rfl, trivial⟩
  · rw [if_neg c3] at hl
    refine cx_if_gt (X := True) (tgt := 20) dJ2_grow_2_7 (by decide) (fun z => absurd z c3) (fun _ => ?_)
    refine cx_aload_n dJ2_grow_2_10 rfl rfl ?_
    obtain ⟨v11, ev11, hl⟩ := xb hl
    refine cx_getR gF_J2_9 dJ2_grow_2_11 ev11 ?_
    obtain ⟨v12, ev12, hl⟩ := xb hl
    refine cx_gets (C := "java/util/ArrayList") (nm := "DEFAULTCAPACITY_EMPTY_ELEMENTDATA") (ds := "[Ljava/lang/Object;") (v := E.2.2.2 21) (by simp [xstl]) q181 (Or.inl rfl) dJ2_grow_2_14 ?_
    refine cx_val (vR_spec ev12) ?_
    by_cases c13 : v11 = v12
    · rw [if_pos c13] at hl
      refine cx_acmp_eq (tgt := 45) dJ2_grow_2_17 (by decide) (fun _ => ?_) (fun z => absurd c13 z)
      refine cx_aload_n dJ2_grow_2_45 rfl rfl ?_
      refine cx_bipush (v := 10) dJ2_grow_2_46 (by decide) ?_
      refine cx_iload_n dJ2_grow_2_48 rfl ?_
      refine cx_mmax q423 dJ2_grow_2_49 (by omega) (Nat.le_of_ble_eq_true rfl) ?_
      obtain ⟨h14, eh14, hl⟩ := xb hl
      refine cx_anew 4 1 (by decide) rfl q424 q415 dJ2_grow_2_52 eh14 ?_
      refine cx_dup_x1 dJ2_grow_2_55 rfl rfl ?_
      obtain ⟨h15, eh15, hl⟩ := xb hl
      obtain ⟨h16, eh16, hl⟩ := xb hl
      refine cx_putR (Or.inr ⟨_, rfl⟩) pF_J2_9 dJ2_grow_2_56 eh15 ?_
      refine cx_tag eh16 ?_
      cases hl
      exact cx_aret dJ2_grow_2_59 rfl rfl (Or.inr ⟨_, rfl⟩) rfl rfl
    · rw [if_neg c13] at hl
      refine cx_acmp_eq (tgt := 45) dJ2_grow_2_17 (by decide) (fun z => absurd z c13) (fun _ => ?_)
      exact cx_lsK (k_J2_grow_2_J20_s hl) ⟨rfl, rfl, rfl, trivial⟩
def k_J2_grow (c : Nat → Value) (x0 : Nat) (h : XH) : Option (Nat × XH) := (cgI h x0 10 2).bind fun v1 => (ckd h x0 10).bind fun u3 => (k_J2_grow_2 c x0 (v1 + 1) h).bind fun r2 => some (r2.1, r2.2)
set_option maxHeartbeats 4000000 in
theorem T_J2_grow {l : Launch} {E : XEnv}  {x0 : Nat} {h : XH} {r : Nat × XH} (hl : k_J2_grow E.2.2.2 x0 h = some r) : CM l E mJ2_grow 5 [.ref x0] h (.inl (some (.ref r.1))) r.2 := by
  unfold k_J2_grow at hl
  refine cm_of (by decide +kernel) rfl (Nat.le_of_ble_eq_true rfl) ?_
  refine cx_aload_n dJ2_grow_0 rfl rfl ?_
  refine cx_aload_n dJ2_grow_1 rfl rfl ?_
  obtain ⟨v1, ev1, hl⟩ := xb hl
  refine cx_getI gF_J2_48 dJ2_grow_2 ev1 ?_
  refine cx_iconst (v := 1) dJ2_grow_5 rfl ?_
  refine cx_iadd dJ2_grow_6 ?_
  obtain ⟨u3, eu3, hl⟩ := xb hl
  obtain ⟨r2, er2, hl⟩ := xb hl
  refine cx_callV (Or.inl ⟨by decide, _, _, rfl⟩) (T_J2_grow_2 er2) lV_J2_69 C_J2_grow_2 dJ2_grow_7 eu3 (by decide) rfl (by omega) (Nat.le_of_ble_eq_true rfl) ?_
  cases hl
  exact cx_aret dJ2_grow_10 rfl rfl (Or.inr ⟨_, rfl⟩) rfl rfl
def k_J2_add_2_J11 (c : Nat → Value) (x0 : Nat) (x1 : Nat) (x2 : Nat) (x3 : Int32) (h : XH) : Option (XH) := (csO h x2 x3 x1).bind fun h3 => (cpu h3 x0 10 2 (.int (x3 + 1))).bind fun h4 => some h4
def k_J2_add_2 (c : Nat → Value) (x0 : Nat) (x1 : Nat) (x2 : Nat) (x3 : Int32) (h : XH) : Option (XH) := (cal h x2).bind fun v1 => if x3 = v1 then (ckd h x0 10).bind fun u6 => (k_J2_grow c x0 h).bind fun r5 => k_J2_add_2_J11 c x0 x1 r5.1 x3 r5.2 else k_J2_add_2_J11 c x0 x1 x2 x3 h
set_option maxHeartbeats 4000000 in
theorem k_J2_add_2_J11_s {l : Launch} {E : XEnv}  {x0 : Nat} {x1 : Nat} {x2 : Nat} {x3 : Int32} {h : XH} {r : XH} (hl : k_J2_add_2_J11 E.2.2.2 x0 x1 x2 x3 h = some r) : CX l E mJ2_add_2 6 11 [(0, .ref x0), (1, .ref x1), (2, .ref x2), (3, .int x3)] [] h r (.inl none) := by
  unfold k_J2_add_2_J11 at hl
  refine cx_aload_n dJ2_add_2_11 rfl rfl ?_
  refine cx_iload_n dJ2_add_2_12 rfl ?_
  refine cx_aload_n dJ2_add_2_13 rfl rfl ?_
  obtain ⟨h3, eh3, hl⟩ := xb hl
  refine cx_aastO dJ2_add_2_14 eh3 ?_
  refine cx_aload_n dJ2_add_2_15 rfl rfl ?_
  refine cx_iload_n dJ2_add_2_16 rfl ?_
  refine cx_iconst (v := 1) dJ2_add_2_17 rfl ?_
  refine cx_iadd dJ2_add_2_18 ?_
  obtain ⟨h4, eh4, hl⟩ := xb hl
  refine cx_putI pF_J2_48 dJ2_add_2_19 eh4 ?_
  cases hl
  exact cx_vret dJ2_add_2_22 rfl rfl rfl
set_option maxHeartbeats 4000000 in
theorem T_J2_add_2 {l : Launch} {E : XEnv}  {x0 : Nat} {x1 : Nat} {x2 : Nat} {x3 : Int32} {h : XH} {r : XH} (hl : k_J2_add_2 E.2.2.2 x0 x1 x2 x3 h = some r) : CM l E mJ2_add_2 6 [.ref x0, .ref x1, .ref x2, .int x3] h (.inl none) r := by
  unfold k_J2_add_2 at hl
  refine cm_of (by decide +kernel) rfl (Nat.le_of_ble_eq_true rfl) ?_
  refine cx_iload_n dJ2_add_2_0 rfl ?_
  refine cx_aload_n dJ2_add_2_1 rfl rfl ?_
  obtain ⟨v1, ev1, hl⟩ := xb hl
  refine cx_alen dJ2_add_2_2 ev1 ?_
  by_cases c2 : x3 = v1
  · rw [if_pos c2] at hl
    refine cx_icmp_ne (X := True) (tgt := 11) dJ2_add_2_3 (by decide) (fun z => absurd c2 z) (fun _ => ?_)
    refine cx_aload_n dJ2_add_2_6 rfl rfl ?_
    obtain ⟨u6, eu6, hl⟩ := xb hl
    obtain ⟨r5, er5, hl⟩ := xb hl
    refine cx_callV (Or.inl ⟨by decide, _, _, rfl⟩) (T_J2_grow er5) lV_J2_129 C_J2_grow dJ2_add_2_7 eu6 (by decide) rfl (by omega) (Nat.le_of_ble_eq_true rfl) ?_
    refine cx_astore_n dJ2_add_2_10 (by decide) rfl ?_
    exact cx_lsK (k_J2_add_2_J11_s hl) ⟨rfl, rfl, rfl, rfl, trivial⟩
  · rw [if_neg c2] at hl
    refine cx_icmp_ne (X := True) (tgt := 11) dJ2_add_2_3 (by decide) (fun _ => ?_) (fun z => absurd z c2)
    exact cx_lsK (k_J2_add_2_J11_s hl) ⟨rfl, rfl, rfl, rfl, trivial⟩
def k_J2_add (c : Nat → Value) (x0 : Nat) (x1 : Nat) (h : XH) : Option (Int32 × XH) := (cgI h x0 10 0).bind fun v1 => (cpu h x0 10 0 (.int (v1 + 1))).bind fun h2 => (cgR h2 x0 10 1).bind fun v3 => (cgI h2 x0 10 2).bind fun v4 => (ckd h2 x0 10).bind fun u6 => (k_J2_add_2 c x0 x1 v3 v4 h2).bind fun r5 => some (1, r5)
set_option maxHeartbeats 4000000 in
theorem T_J2_add {l : Launch} {E : XEnv}  {x0 : Nat} {x1 : Nat} {h : XH} {r : Int32 × XH} (hl : k_J2_add E.2.2.2 x0 x1 h = some r) : CM l E mJ2_add 7 [.ref x0, .ref x1] h (.inl (some (.int r.1))) r.2 := by
  unfold k_J2_add at hl
  refine cm_of (by decide +kernel) rfl (Nat.le_of_ble_eq_true rfl) ?_
  refine cx_aload_n dJ2_add_0 rfl rfl ?_
  refine cx_dup dJ2_add_1 rfl ?_
  obtain ⟨v1, ev1, hl⟩ := xb hl
  refine cx_getI gF_J2_63 dJ2_add_2 ev1 ?_
  refine cx_iconst (v := 1) dJ2_add_5 rfl ?_
  refine cx_iadd dJ2_add_6 ?_
  obtain ⟨h2, eh2, hl⟩ := xb hl
  refine cx_putI pF_J2_63 dJ2_add_7 eh2 ?_
  refine cx_aload_n dJ2_add_10 rfl rfl ?_
  refine cx_aload_n dJ2_add_11 rfl rfl ?_
  refine cx_aload_n dJ2_add_12 rfl rfl ?_
  obtain ⟨v3, ev3, hl⟩ := xb hl
  refine cx_getR gF_J2_9 dJ2_add_13 ev3 ?_
  refine cx_aload_n dJ2_add_16 rfl rfl ?_
  obtain ⟨v4, ev4, hl⟩ := xb hl
  refine cx_getI gF_J2_48 dJ2_add_17 ev4 ?_
  obtain ⟨u6, eu6, hl⟩ := xb hl
  obtain ⟨r5, er5, hl⟩ := xb hl
  refine cx_callV (Or.inl ⟨by decide, _, _, rfl⟩) (T_J2_add_2 er5) lV_J2_131 C_J2_add_2 dJ2_add_20 eu6 (by decide) rfl (by omega) (Nat.le_of_ble_eq_true rfl) ?_
  refine cx_iconst (v := 1) dJ2_add_23 rfl ?_
  cases hl
  exact cx_iret dJ2_add_24 rfl rfl rfl rfl
def k_X7_init (c : Nat → Value) (x0 : Nat) (x1 : Nat) (h : XH) : Option (XH) := (some (xnew h 10 3 1 3 (fun j => defaultValue (tyJ2 j)))).bind fun h1 => (k_J2_init c h.2.2.1 h1).bind fun r2 => (cpu r2 x0 6 0 (.ref h.2.2.1)).bind fun h4 => (some (xnew h4 12 4 1 4 (fun j => defaultValue (tyJ18 j)))).bind fun h5 => (k_J18_init c h4.2.2.1 h5).bind fun r6 => (cpu r6 x0 6 1 (.ref h4.2.2.1)).bind fun h8 => (cgR h8 x0 6 0).bind fun v9 => (ckd h8 v9 10).bind fun u11 => (k_J2_add c v9 x1 h8).bind fun r10 => some r10.2
set_option maxHeartbeats 4000000 in
theorem T_X7_init {l : Launch} {E : XEnv}  {x0 : Nat} {x1 : Nat} {h : XH} {r : XH} (hl : k_X7_init E.2.2.2 x0 x1 h = some r) : CM l E mX7_init 8 [.ref x0, .ref x1] h (.inl none) r := by
  unfold k_X7_init at hl
  refine cm_of (by decide +kernel) rfl (Nat.le_of_ble_eq_true rfl) ?_
  refine cx_aload_n dX7_init_0 rfl rfl ?_
  refine cx_objInit q1038 q161 q162 dX7_init_1 (by omega) (Nat.le_of_ble_eq_true rfl) ?_
  refine cx_aload_n dX7_init_4 rfl rfl ?_
  obtain ⟨h1, eh1, hl⟩ := xb hl
  refine cx_new 1 nW_X7_7 dX7_init_5 (Option.some.inj eh1) ?_
  refine cx_dup dX7_init_8 rfl ?_
  obtain ⟨r2, er2, hl⟩ := xb hl
  refine cx_callI (T_J2_init er2) lI_X7_9 rfl C_J2_init dX7_init_9 rfl (by omega) (Nat.le_of_ble_eq_true rfl) ?_
  obtain ⟨h4, eh4, hl⟩ := xb hl
  refine cx_putR (Or.inl ⟨_, rfl⟩) pF_X7_10 dX7_init_12 eh4 ?_
  refine cx_aload_n dX7_init_15 rfl rfl ?_
  obtain ⟨h5, eh5, hl⟩ := xb hl
  refine cx_new 1 nW_X7_16 dX7_init_16 (Option.some.inj eh5) ?_
  refine cx_dup dX7_init_19 rfl ?_
  obtain ⟨r6, er6, hl⟩ := xb hl
  refine cx_callI (T_J18_init er6) lI_X7_18 rfl C_J18_init dX7_init_20 rfl (by omega) (Nat.le_of_ble_eq_true rfl) ?_
  obtain ⟨h8, eh8, hl⟩ := xb hl
  refine cx_putR (Or.inl ⟨_, rfl⟩) pF_X7_19 dX7_init_23 eh8 ?_
  refine cx_aload_n dX7_init_26 rfl rfl ?_
  obtain ⟨v9, ev9, hl⟩ := xb hl
  refine cx_getR gF_X7_10 dX7_init_27 ev9 ?_
  refine cx_aload_n dX7_init_30 rfl rfl ?_
  obtain ⟨u11, eu11, hl⟩ := xb hl
  obtain ⟨r10, er10, hl⟩ := xb hl
  refine cx_callF (ci := 10) (by decide) rfl (T_J2_add er10) lF_X7_23 C_J2_add dX7_init_31 eu11 rfl (by omega) (Nat.le_of_ble_eq_true rfl) ?_
  refine cx_pop dX7_init_36 rfl ?_
  cases hl
  exact cx_vret dX7_init_37 rfl rfl rfl
def k_X5_sign (n : Nat) (c : Nat → Value) (x0 : Nat) (h : XH) : Option (Int32 × XH) := (cgR h x0 4 14).bind fun v1 => (cgR h v1 0 4).bind fun v2 => (cgI h x0 4 9).bind fun v3 => (caI h v2 101 v3).bind fun v4 => (some (((v4 : Int32).toUInt32 % 65536).toInt32)).bind fun w5 => (ckd h x0 4).bind fun u7 => (k_X5_next n c x0 h).bind fun r6 => (tn .char w5).bind fun z8 => some (z8, r6)
set_option maxHeartbeats 4000000 in
theorem T_X5_sign {l : Launch} {E : XEnv}  {n : Nat} {x0 : Nat} {h : XH} {r : Int32 × XH} (hl : k_X5_sign n E.2.2.2 x0 h = some r) : CM l E mX5_sign 6 [.ref x0] h (.inl (some (.int r.1))) r.2 := by
  unfold k_X5_sign at hl
  refine cm_of (by decide +kernel) rfl (Nat.le_of_ble_eq_true rfl) ?_
  refine cx_aload_n dX5_sign_0 rfl rfl ?_
  obtain ⟨v1, ev1, hl⟩ := xb hl
  refine cx_getR gF_X5_3 dX5_sign_1 ev1 ?_
  obtain ⟨v2, ev2, hl⟩ := xb hl
  refine cx_getR gF_X5_70 dX5_sign_4 ev2 ?_
  refine cx_aload_n dX5_sign_7 rfl rfl ?_
  obtain ⟨v3, ev3, hl⟩ := xb hl
  refine cx_getI gF_X5_82 dX5_sign_8 ev3 ?_
  obtain ⟨v4, ev4, hl⟩ := xb hl
  refine cx_bald dX5_sign_11 ev4 ?_
  refine cx_i2c dX5_sign_12 ?_
  obtain ⟨w5, ew5, hl⟩ := xb hl
  refine cx_top (Option.some.inj ew5) ?_
  refine cx_istore_n dX5_sign_13 (by decide) ?_
  refine cx_aload_n dX5_sign_14 rfl rfl ?_
  obtain ⟨u7, eu7, hl⟩ := xb hl
  obtain ⟨r6, er6, hl⟩ := xb hl
  refine cx_callV (Or.inl ⟨by decide, _, _, rfl⟩) (T_X5_next er6) lV_X5_125 C_X5_next dX5_sign_15 eu7 (by decide) rfl (by omega) (Nat.le_of_ble_eq_true rfl) ?_
  refine cx_iload_n dX5_sign_18 rfl ?_
  obtain ⟨z8, ez8, hl⟩ := xb hl
  refine cx_top (tn_eq ez8).1 ?_
  cases hl
  exact cx_iret dX5_sign_19 rfl (tn_eq ez8).2 rfl rfl
def k_J17_newCapacity (c : Nat → Value) (x0 : Nat) (x1 : Int32) (h : XH) : Option (Int32 × XH) := (cgR h x0 12 0).bind fun v1 => (cal h v1).bind fun v2 => (cgI h x0 12 1).bind fun v3 => (some (x1 <<< ((v3 : Int32) &&& 31))).bind fun w4 => (some (w4 - v2)).bind fun w5 => (cgI h x0 12 1).bind fun v6 => (k_J15_newLength c v2 w5 (v2 + ((2 : Int32) <<< ((v6 : Int32) &&& 31))) h).bind fun r7 => if r7.1 = 2147483647 then none else (cgI r7.2 x0 12 1).bind fun v10 => some ((r7.1 >>> ((v10 : Int32) &&& 31)), r7.2)
set_option maxHeartbeats 4000000 in
theorem T_J17_newCapacity {l : Launch} {E : XEnv}  {x0 : Nat} {x1 : Int32} {h : XH} {r : Int32 × XH} (hl : k_J17_newCapacity E.2.2.2 x0 x1 h = some r) : CM l E mJ17_newCapacity 3 [.ref x0, .int x1] h (.inl (some (.int r.1))) r.2 := by
  unfold k_J17_newCapacity at hl
  refine cm_of (by decide +kernel) rfl (Nat.le_of_ble_eq_true rfl) ?_
  refine cx_aload_n dJ17_newCapacity_0 rfl rfl ?_
  obtain ⟨v1, ev1, hl⟩ := xb hl
  refine cx_getR gF_J17_15 dJ17_newCapacity_1 ev1 ?_
  obtain ⟨v2, ev2, hl⟩ := xb hl
  refine cx_alen dJ17_newCapacity_4 ev2 ?_
  refine cx_istore_n dJ17_newCapacity_5 (by decide) ?_
  refine cx_iload_n dJ17_newCapacity_6 rfl ?_
  refine cx_aload_n dJ17_newCapacity_7 rfl rfl ?_
  obtain ⟨v3, ev3, hl⟩ := xb hl
  refine cx_getI gF_J17_22 dJ17_newCapacity_8 ev3 ?_
  refine cx_ishl dJ17_newCapacity_11 ?_
  obtain ⟨w4, ew4, hl⟩ := xb hl
  refine cx_top (Option.some.inj ew4) ?_
  refine cx_istore_n dJ17_newCapacity_12 (by decide) ?_
  refine cx_iload_n dJ17_newCapacity_13 rfl ?_
  refine cx_iload_n dJ17_newCapacity_14 rfl ?_
  refine cx_isub dJ17_newCapacity_15 ?_
  obtain ⟨w5, ew5, hl⟩ := xb hl
  refine cx_top (Option.some.inj ew5) ?_
  refine cx_istore dJ17_newCapacity_16 (by decide) ?_
  refine cx_iload_n dJ17_newCapacity_18 rfl ?_
  refine cx_iload dJ17_newCapacity_19 rfl ?_
  refine cx_iload_n dJ17_newCapacity_21 rfl ?_
  refine cx_iconst (v := 2) dJ17_newCapacity_22 rfl ?_
  refine cx_aload_n dJ17_newCapacity_23 rfl rfl ?_
  obtain ⟨v6, ev6, hl⟩ := xb hl
  refine cx_getI gF_J17_22 dJ17_newCapacity_24 ev6 ?_
  refine cx_ishl dJ17_newCapacity_27 ?_
  refine cx_iadd dJ17_newCapacity_28 ?_
  obtain ⟨r7, er7, hl⟩ := xb hl
  refine cx_callS (T_J15_newLength er7) lS_J17_114 C_J15_newLength dJ17_newCapacity_29 rfl (by omega) (Nat.le_of_ble_eq_true rfl) ?_
  refine cx_istore dJ17_newCapacity_32 (by decide) ?_
  refine cx_iload dJ17_newCapacity_34 rfl ?_
  refine cx_ldc (v := 2147483647) q1102 dJ17_newCapacity_36 ?_
  by_cases c9 : r7.1 = 2147483647
  · rw [if_pos c9] at hl
    refine cx_icmp_ne (X := True) (tgt := 51) dJ17_newCapacity_38 (by decide) (fun z => absurd c9 z) (fun _ => ?_)
    cases hl
  · rw [if_neg c9] at hl
    refine cx_icmp_ne (X := True) (tgt := 51) dJ17_newCapacity_38 (by decide) (fun _ => ?_) (fun z => absurd z c9)
    refine cx_iload dJ17_newCapacity_51 rfl ?_
    refine cx_aload_n dJ17_newCapacity_53 rfl rfl ?_
    obtain ⟨v10, ev10, hl⟩ := xb hl
    refine cx_getI gF_J17_22 dJ17_newCapacity_54 ev10 ?_
    refine cx_ishr dJ17_newCapacity_57 ?_
    cases hl
    exact cx_iret dJ17_newCapacity_58 rfl rfl rfl rfl
def k_J16_copyOf_3 (x0 : Nat) (x1 : Int32) (h : XH) : Option (Nat × XH) := (cal h x0).bind fun v1 => if x1 = v1 then none else (cna h 1 1 x1).bind fun h3 => (cal h3 x0).bind fun v4 => (ccB h3 x0 h.2.2.1 0 0 (imin v4 x1)).bind fun h5 => some (h.2.2.1, h5)
set_option maxHeartbeats 4000000 in
theorem T_J16_copyOf_3 {l : Launch} {E : XEnv}  {x0 : Nat} {x1 : Int32} {h : XH} {r : Nat × XH} (hl : k_J16_copyOf_3 x0 x1 h = some r) : CM l E mJ16_copyOf_3 2 [.ref x0, .int x1] h (.inl (some (.ref r.1))) r.2 := by
  unfold k_J16_copyOf_3 at hl
  refine cm_of (by decide +kernel) rfl (Nat.le_of_ble_eq_true rfl) ?_
  refine cx_iload_n dJ16_copyOf_3_0 rfl ?_
  refine cx_aload_n dJ16_copyOf_3_1 rfl rfl ?_
  obtain ⟨v1, ev1, hl⟩ := xb hl
  refine cx_alen dJ16_copyOf_3_2 ev1 ?_
  by_cases c2 : x1 = v1
  · rw [if_pos c2] at hl
    refine cx_icmp_ne (X := True) (tgt := 14) dJ16_copyOf_3_3 (by decide) (fun z => absurd c2 z) (fun _ => ?_)
    refine cx_aload_n dJ16_copyOf_3_6 rfl rfl ?_
    cases hl
  · rw [if_neg c2] at hl
    refine cx_icmp_ne (X := True) (tgt := 14) dJ16_copyOf_3_3 (by decide) (fun _ => ?_) (fun z => absurd z c2)
    refine cx_iload_n dJ16_copyOf_3_14 rfl ?_
    obtain ⟨h3, eh3, hl⟩ := xb hl
    refine cx_newa 1 1 (by decide) q323 rfl dJ16_copyOf_3_15 eh3 ?_
    refine cx_astore_n dJ16_copyOf_3_17 (by decide) rfl ?_
    refine cx_aload_n dJ16_copyOf_3_18 rfl rfl ?_
    refine cx_iconst (v := 0) dJ16_copyOf_3_19 rfl ?_
    refine cx_aload_n dJ16_copyOf_3_20 rfl rfl ?_
    refine cx_iconst (v := 0) dJ16_copyOf_3_21 rfl ?_
    refine cx_aload_n dJ16_copyOf_3_22 rfl rfl ?_
    obtain ⟨v4, ev4, hl⟩ := xb hl
    refine cx_alen dJ16_copyOf_3_23 ev4 ?_
    refine cx_iload_n dJ16_copyOf_3_24 rfl ?_
    refine cx_mmin q417 dJ16_copyOf_3_25 (by omega) (Nat.le_of_ble_eq_true rfl) ?_
    obtain ⟨h5, eh5, hl⟩ := xb hl
    refine cx_copyB q420 q422 q421 q146 dJ16_copyOf_3_28 eh5 (by omega) (Nat.le_of_ble_eq_true rfl) ?_
    refine cx_aload_n dJ16_copyOf_3_31 rfl rfl ?_
    cases hl
    exact cx_aret dJ16_copyOf_3_32 rfl rfl (Or.inr ⟨_, rfl⟩) rfl rfl
def k_J17_ensureCapacityInternal (c : Nat → Value) (x0 : Nat) (x1 : Int32) (h : XH) : Option (XH) := (cgR h x0 12 0).bind fun v1 => (cal h v1).bind fun v2 => (cgI h x0 12 1).bind fun v3 => (some (v2 >>> ((v3 : Int32) &&& 31))).bind fun w4 => if (x1 - w4) ≤ 0 then some h else (cgR h x0 12 0).bind fun v6 => (ckd h x0 12).bind fun u8 => (k_J17_newCapacity c x0 x1 h).bind fun r7 => (cgI r7.2 x0 12 1).bind fun v9 => (k_J16_copyOf_3 v6 (r7.1 <<< ((v9 : Int32) &&& 31)) r7.2).bind fun r10 => (cpu r10.2 x0 12 0 (.ref r10.1)).bind fun h12 => (ctag h12 r10.1 (2000 + 8 * x0 + 7)).bind fun h13 => some h13
set_option maxHeartbeats 4000000 in
theorem T_J17_ensureCapacityInternal {l : Launch} {E : XEnv}  {x0 : Nat} {x1 : Int32} {h : XH} {r : XH} (hl : k_J17_ensureCapacityInternal E.2.2.2 x0 x1 h = some r) : CM l E mJ17_ensureCapacityInternal 4 [.ref x0, .int x1] h (.inl none) r := by
  unfold k_J17_ensureCapacityInternal at hl
  refine cm_of (by decide +kernel) rfl (Nat.le_of_ble_eq_true rfl) ?_
  refine cx_aload_n dJ17_ensureCapacityInternal_0 rfl rfl ?_
  obtain ⟨v1, ev1, hl⟩ := xb hl
  refine cx_getR gF_J17_15 dJ17_ensureCapacityInternal_1 ev1 ?_
  obtain ⟨v2, ev2, hl⟩ := xb hl
  refine cx_alen dJ17_ensureCapacityInternal_4 ev2 ?_
  refine cx_aload_n dJ17_ensureCapacityInternal_5 rfl rfl ?_
  obtain ⟨v3, ev3, hl⟩ := xb hl
  refine cx_getI gF_J17_22 dJ17_ensureCapacityInternal_6 ev3 ?_
  refine cx_ishr dJ17_ensureCapacityInternal_9 ?_
  obtain ⟨w4, ew4, hl⟩ := xb hl
  refine cx_top (Option.some.inj ew4) ?_
  refine cx_istore_n dJ17_ensureCapacityInternal_10 (by decide) ?_
  refine cx_iload_n dJ17_ensureCapacityInternal_11 rfl ?_
  refine cx_iload_n dJ17_ensureCapacityInternal_12 rfl ?_
  refine cx_isub dJ17_ensureCapacityInternal_13 ?_
  by_cases c5 : (x1 - w4) ≤ 0
  · rw [if_pos c5] at hl
    refine cx_if_le (X := True) (tgt := 38) dJ17_ensureCapacityInternal_14 (by decide) (fun _ => ?_) (fun z => absurd c5 z)
    cases hl
    exact cx_vret dJ17_ensureCapacityInternal_38 rfl rfl rfl
  · rw [if_neg c5] at hl
    refine cx_if_le (X := True) (tgt := 38) dJ17_ensureCapacityInternal_14 (by decide) (fun z => absurd z c5) (fun _ => ?_)
    refine cx_aload_n dJ17_ensureCapacityInternal_17 rfl rfl ?_
    refine cx_aload_n dJ17_ensureCapacityInternal_18 rfl rfl ?_
    obtain ⟨v6, ev6, hl⟩ := xb hl
    refine cx_getR gF_J17_15 dJ17_ensureCapacityInternal_19 ev6 ?_
    refine cx_aload_n dJ17_ensureCapacityInternal_22 rfl rfl ?_
    refine cx_iload_n dJ17_ensureCapacityInternal_23 rfl ?_
    obtain ⟨u8, eu8, hl⟩ := xb hl
    obtain ⟨r7, er7, hl⟩ := xb hl
    refine cx_callP (ci := 12) (by decide) rfl (T_J17_newCapacity er7) lU_J17_104 C_J17_newCapacity dJ17_ensureCapacityInternal_24 eu8 rfl (by omega) (Nat.le_of_ble_eq_true rfl) ?_
    refine cx_aload_n dJ17_ensureCapacityInternal_27 rfl rfl ?_
    obtain ⟨v9, ev9, hl⟩ := xb hl
    refine cx_getI gF_J17_22 dJ17_ensureCapacityInternal_28 ev9 ?_
    refine cx_ishl dJ17_ensureCapacityInternal_31 ?_
    obtain ⟨r10, er10, hl⟩ := xb hl
    refine cx_callS (T_J16_copyOf_3 er10) lS_J17_108 C_J16_copyOf_3 dJ17_ensureCapacityInternal_32 rfl (by omega) (Nat.le_of_ble_eq_true rfl) ?_
    obtain ⟨h12, eh12, hl⟩ := xb hl
    obtain ⟨h13, eh13, hl⟩ := xb hl
    refine cx_putR (Or.inr ⟨_, rfl⟩) pF_J17_15 dJ17_ensureCapacityInternal_35 eh12 ?_
    refine cx_tag eh13 ?_
    cases hl
    exact cx_vret dJ17_ensureCapacityInternal_38 rfl rfl rfl
def k_J17_isLatin1 (c : Nat → Value) (x0 : Nat) (h : XH) : Option (Int32) := (cgI h x0 12 1).bind fun v1 => if v1 = 0 then some 1 else some 0
set_option maxHeartbeats 4000000 in
theorem T_J17_isLatin1 {l : Launch} {E : XEnv}  {x0 : Nat} {h : XH} {r : Int32} (hl : k_J17_isLatin1 E.2.2.2 x0 h = some r) : CM l E mJ17_isLatin1 1 [.ref x0] h (.inl (some (.int r))) h := by
  unfold k_J17_isLatin1 at hl
  refine cm_of (by decide +kernel) rfl (Nat.le_of_ble_eq_true rfl) ?_
  refine cx_gets (C := "java/lang/String") (nm := "COMPACT_STRINGS") (ds := "Z") (v := .int 1) (by simp [xstl]) q1050 (Or.inl rfl) dJ17_isLatin1_0 ?_
  refine cx_if_eq (X := True) (tgt := 17) dJ17_isLatin1_3 (by decide) (fun c => absurd c (by decide)) (fun _ => ?_)
  refine cx_aload_n dJ17_isLatin1_6 rfl rfl ?_
  obtain ⟨v1, ev1, hl⟩ := xb hl
  refine cx_getI gF_J17_22 dJ17_isLatin1_7 ev1 ?_
  by_cases c2 : v1 = 0
  · rw [if_pos c2] at hl
    refine cx_if_ne (X := True) (tgt := 17) dJ17_isLatin1_10 (by decide) (fun z => absurd c2 z) (fun _ => ?_)
    refine cx_iconst (v := 1) dJ17_isLatin1_13 rfl ?_
    refine cx_goto (tgt := 18) dJ17_isLatin1_14 (by decide) ?_
    cases hl
    exact cx_iret dJ17_isLatin1_18 rfl rfl rfl rfl
  · rw [if_neg c2] at hl
    refine cx_if_ne (X := True) (tgt := 17) dJ17_isLatin1_10 (by decide) (fun _ => ?_) (fun z => absurd z c2)
    refine cx_iconst (v := 0) dJ17_isLatin1_17 rfl ?_
    cases hl
    exact cx_iret dJ17_isLatin1_18 rfl rfl rfl rfl
def k_J9_canEncode_2 (x0 : Int32) (h : XH) : Option (Int32) := if x0 > 255 then some 0 else some 1
set_option maxHeartbeats 4000000 in
theorem T_J9_canEncode_2 {l : Launch} {E : XEnv}  {x0 : Int32} {h : XH} {r : Int32} (hl : k_J9_canEncode_2 x0 h = some r) : CM l E mJ9_canEncode_2 1 [.int x0] h (.inl (some (.int r))) h := by
  unfold k_J9_canEncode_2 at hl
  refine cm_of (by decide +kernel) rfl (Nat.le_of_ble_eq_true rfl) ?_
  refine cx_iload_n dJ9_canEncode_2_0 rfl ?_
  refine cx_sipush (v := 255) dJ9_canEncode_2_1 (by decide) ?_
  by_cases c1 : x0 > 255
  · rw [if_pos c1] at hl
    refine cx_icmp_gt (X := True) (tgt := 11) dJ9_canEncode_2_4 (by decide) (fun _ => ?_) (fun z => absurd c1 z)
    refine cx_iconst (v := 0) dJ9_canEncode_2_11 rfl ?_
    cases hl
    exact cx_iret dJ9_canEncode_2_12 rfl rfl rfl rfl
  · rw [if_neg c1] at hl
    refine cx_icmp_gt (X := True) (tgt := 11) dJ9_canEncode_2_4 (by decide) (fun z => absurd z c1) (fun _ => ?_)
    refine cx_iconst (v := 1) dJ9_canEncode_2_7 rfl ?_
    refine cx_goto (tgt := 12) dJ9_canEncode_2_8 (by decide) ?_
    cases hl
    exact cx_iret dJ9_canEncode_2_12 rfl rfl rfl rfl
def k_J9_inflate (x0 : Nat) (x1 : Int32) (x2 : Nat) (x3 : Int32) (x4 : Int32) (h : XH) : Option (Unit) := none
set_option maxHeartbeats 4000000 in
theorem T_J9_inflate {l : Launch} {E : XEnv}  {x0 : Nat} {x1 : Int32} {x2 : Nat} {x3 : Int32} {x4 : Int32} {h : XH} {r : Unit} (hl : k_J9_inflate x0 x1 x2 x3 x4 h = some r) : CM l E mJ9_inflate 1 [.ref x0, .int x1, .ref x2, .int x3, .int x4] h (.inl none) h := by
  unfold k_J9_inflate at hl
  refine cm_of (by decide +kernel) rfl (Nat.le_of_ble_eq_true rfl) ?_
  refine cx_aload_n dJ9_inflate_0 rfl rfl ?_
  refine cx_iload_n dJ9_inflate_1 rfl ?_
  refine cx_aload_n dJ9_inflate_2 rfl rfl ?_
  refine cx_iload_n dJ9_inflate_3 rfl ?_
  refine cx_iload dJ9_inflate_4 rfl ?_
  cases hl
def k_J17_inflate (c : Nat → Value) (x0 : Nat) (h : XH) : Option (XH) := (ckd h x0 12).bind fun u2 => (k_J17_isLatin1 c x0 h).bind fun r1 => if r1 = 0 then some h else (cgR h x0 12 0).bind fun v4 => (cal h v4).bind fun v5 => none
set_option maxHeartbeats 4000000 in
theorem T_J17_inflate {l : Launch} {E : XEnv}  {x0 : Nat} {h : XH} {r : XH} (hl : k_J17_inflate E.2.2.2 x0 h = some r) : CM l E mJ17_inflate 2 [.ref x0] h (.inl none) r := by
  unfold k_J17_inflate at hl
  refine cm_of (by decide +kernel) rfl (Nat.le_of_ble_eq_true rfl) ?_
  refine cx_aload_n dJ17_inflate_0 rfl rfl ?_
  obtain ⟨u2, eu2, hl⟩ := xb hl
  obtain ⟨r1, er1, hl⟩ := xb hl
  refine cx_callU (ci := 12) (by decide) rfl (T_J17_isLatin1 er1) lU_J17_83 C_J17_isLatin1 dJ17_inflate_1 eu2 rfl (by omega) (Nat.le_of_ble_eq_true rfl) ?_
  by_cases c3 : r1 = 0
  · rw [if_pos c3] at hl
    refine cx_if_ne (X := True) (tgt := 8) dJ17_inflate_4 (by decide) (fun z => absurd c3 z) (fun _ => ?_)
    cases hl
    exact cx_vret dJ17_inflate_7 rfl rfl rfl
  · rw [if_neg c3] at hl
    refine cx_if_ne (X := True) (tgt := 8) dJ17_inflate_4 (by decide) (fun _ => ?_) (fun z => absurd z c3)
    refine cx_aload_n dJ17_inflate_8 rfl rfl ?_
    obtain ⟨v4, ev4, hl⟩ := xb hl
    refine cx_getR gF_J17_15 dJ17_inflate_9 ev4 ?_
    obtain ⟨v5, ev5, hl⟩ := xb hl
    refine cx_alen dJ17_inflate_12 ev5 ?_
    cases hl
def k_J17_append_J56 (c : Nat → Value) (x0 : Nat) (x1 : Int32) (h : XH) : Option (Nat × XH) := (cgR h x0 12 0).bind fun v10 => (cgI h x0 12 3).bind fun v11 => (cpu h x0 12 3 (.int (v11 + 1))).bind fun h12 => none
def k_J17_append_J45 (c : Nat → Value) (x0 : Nat) (x1 : Int32) (h : XH) : Option (Nat × XH) := (ckd h x0 12).bind fun u8 => (k_J17_isLatin1 c x0 h).bind fun r7 => if r7 = 0 then k_J17_append_J56 c x0 x1 h else (ckd h x0 12).bind fun u14 => (k_J17_inflate c x0 h).bind fun r13 => k_J17_append_J56 c x0 x1 r13
def k_J17_append (c : Nat → Value) (x0 : Nat) (x1 : Int32) (h : XH) : Option (Nat × XH) := (cgI h x0 12 3).bind fun v1 => (ckd h x0 12).bind fun u3 => (k_J17_ensureCapacityInternal c x0 (v1 + 1) h).bind fun r2 => (ckd r2 x0 12).bind fun u5 => (k_J17_isLatin1 c x0 r2).bind fun r4 => if r4 = 0 then k_J17_append_J45 c x0 x1 r2 else (k_J9_canEncode_2 x1 r2).bind fun r15 => if r15 = 0 then k_J17_append_J45 c x0 x1 r2 else (cgR r2 x0 12 0).bind fun v18 => (cgI r2 x0 12 3).bind fun v19 => (cpu r2 x0 12 3 (.int (v19 + 1))).bind fun h20 => (csu h20 v18 101 v19 (.int ((((x1 : Int32).toInt8.toInt32) : Int32).toInt8.toInt32))).bind fun h21 => some (x0, h21)
set_option maxHeartbeats 4000000 in
theorem k_J17_append_J56_s {l : Launch} {E : XEnv}  {x0 : Nat} {x1 : Int32} {h : XH} {r : Nat × XH} (hl : k_J17_append_J56 E.2.2.2 x0 x1 h = some r) : CX l E mJ17_append 5 56 [(0, .ref x0), (1, .int x1)] [] h r.2 (.inl (some (.ref r.1))) := by
  unfold k_J17_append_J56 at hl
  refine cx_aload_n dJ17_append_56 rfl rfl ?_
  obtain ⟨v10, ev10, hl⟩ := xb hl
  refine cx_getR gF_J17_15 dJ17_append_57 ev10 ?_
  refine cx_aload_n dJ17_append_60 rfl rfl ?_
  refine cx_dup dJ17_append_61 rfl ?_
  obtain ⟨v11, ev11, hl⟩ := xb hl
  refine cx_getI gF_J17_79 dJ17_append_62 ev11 ?_
  refine cx_dup_x1 dJ17_append_65 rfl rfl ?_
  refine cx_iconst (v := 1) dJ17_append_66 rfl ?_
  refine cx_iadd dJ17_append_67 ?_
  obtain ⟨h12, eh12, hl⟩ := xb hl
  refine cx_putI pF_J17_79 dJ17_append_68 eh12 ?_
  refine cx_iload_n dJ17_append_71 rfl ?_
  cases hl
set_option maxHeartbeats 4000000 in
theorem k_J17_append_J45_s {l : Launch} {E : XEnv}  {x0 : Nat} {x1 : Int32} {h : XH} {r : Nat × XH} (hl : k_J17_append_J45 E.2.2.2 x0 x1 h = some r) : CX l E mJ17_append 5 45 [(0, .ref x0), (1, .int x1)] [] h r.2 (.inl (some (.ref r.1))) := by
  unfold k_J17_append_J45 at hl
  refine cx_aload_n dJ17_append_45 rfl rfl ?_
  obtain ⟨u8, eu8, hl⟩ := xb hl
  obtain ⟨r7, er7, hl⟩ := xb hl
  refine cx_callU (ci := 12) (by decide) rfl (T_J17_isLatin1 er7) lU_J17_83 C_J17_isLatin1 dJ17_append_46 eu8 rfl (by omega) (Nat.le_of_ble_eq_true rfl) ?_
  by_cases c9 : r7 = 0
  · rw [if_pos c9] at hl
    refine cx_if_eq (X := True) (tgt := 56) dJ17_append_49 (by decide) (fun _ => ?_) (fun z => absurd c9 z)
    exact cx_lsK (k_J17_append_J56_s hl) ⟨rfl, rfl, trivial⟩
  · rw [if_neg c9] at hl
    refine cx_if_eq (X := True) (tgt := 56) dJ17_append_49 (by decide) (fun z => absurd z c9) (fun _ => ?_)
    refine cx_aload_n dJ17_append_52 rfl rfl ?_
    obtain ⟨u14, eu14, hl⟩ := xb hl
    obtain ⟨r13, er13, hl⟩ := xb hl
    refine cx_callP (ci := 12) (by decide) rfl (T_J17_inflate er13) lU_J17_195 C_J17_inflate dJ17_append_53 eu14 rfl (by omega) (Nat.le_of_ble_eq_true rfl) ?_
    exact cx_lsK (k_J17_append_J56_s hl) ⟨rfl, rfl, trivial⟩
set_option maxHeartbeats 4000000 in
theorem T_J17_append {l : Launch} {E : XEnv}  {x0 : Nat} {x1 : Int32} {h : XH} {r : Nat × XH} (hl : k_J17_append E.2.2.2 x0 x1 h = some r) : CM l E mJ17_append 5 [.ref x0, .int x1] h (.inl (some (.ref r.1))) r.2 := by
  unfold k_J17_append at hl
  refine cm_of (by decide +kernel) rfl (Nat.le_of_ble_eq_true rfl) ?_
  refine cx_aload_n dJ17_append_0 rfl rfl ?_
  refine cx_aload_n dJ17_append_1 rfl rfl ?_
  obtain ⟨v1, ev1, hl⟩ := xb hl
  refine cx_getI gF_J17_79 dJ17_append_2 ev1 ?_
  refine cx_iconst (v := 1) dJ17_append_5 rfl ?_
  refine cx_iadd dJ17_append_6 ?_
  obtain ⟨u3, eu3, hl⟩ := xb hl
  obtain ⟨r2, er2, hl⟩ := xb hl
  refine cx_callP (ci := 12) (by decide) rfl (T_J17_ensureCapacityInternal er2) lU_J17_100 C_J17_ensureCapacityInternal dJ17_append_7 eu3 rfl (by omega) (Nat.le_of_ble_eq_true rfl) ?_
  refine cx_aload_n dJ17_append_10 rfl rfl ?_
  obtain ⟨u5, eu5, hl⟩ := xb hl
  obtain ⟨r4, er4, hl⟩ := xb hl
  refine cx_callU (ci := 12) (by decide) rfl (T_J17_isLatin1 er4) lU_J17_83 C_J17_isLatin1 dJ17_append_11 eu5 rfl (by omega) (Nat.le_of_ble_eq_true rfl) ?_
  by_cases c6 : r4 = 0
  · rw [if_pos c6] at hl
    refine cx_if_eq (X := True) (tgt := 45) dJ17_append_14 (by decide) (fun _ => ?_) (fun z => absurd c6 z)
    exact cx_lsK (k_J17_append_J45_s hl) ⟨rfl, rfl, trivial⟩
  · rw [if_neg c6] at hl
    refine cx_if_eq (X := True) (tgt := 45) dJ17_append_14 (by decide) (fun z => absurd z c6) (fun _ => ?_)
    refine cx_iload_n dJ17_append_17 rfl ?_
    obtain ⟨r15, er15, hl⟩ := xb hl
    refine cx_callS (T_J9_canEncode_2 er15) lS_J17_191 C_J9_canEncode_2 dJ17_append_18 rfl (by omega) (Nat.le_of_ble_eq_true rfl) ?_
    by_cases c17 : r15 = 0
    · rw [if_pos c17] at hl
      refine cx_if_eq (X := True) (tgt := 45) dJ17_append_21 (by decide) (fun _ => ?_) (fun z => absurd c17 z)
      exact cx_lsK (k_J17_append_J45_s hl) ⟨rfl, rfl, trivial⟩
    · rw [if_neg c17] at hl
      refine cx_if_eq (X := True) (tgt := 45) dJ17_append_21 (by decide) (fun z => absurd z c17) (fun _ => ?_)
      refine cx_aload_n dJ17_append_24 rfl rfl ?_
      obtain ⟨v18, ev18, hl⟩ := xb hl
      refine cx_getR gF_J17_15 dJ17_append_25 ev18 ?_
      refine cx_aload_n dJ17_append_28 rfl rfl ?_
      refine cx_dup dJ17_append_29 rfl ?_
      obtain ⟨v19, ev19, hl⟩ := xb hl
      refine cx_getI gF_J17_79 dJ17_append_30 ev19 ?_
      refine cx_dup_x1 dJ17_append_33 rfl rfl ?_
      refine cx_iconst (v := 1) dJ17_append_34 rfl ?_
      refine cx_iadd dJ17_append_35 ?_
      obtain ⟨h20, eh20, hl⟩ := xb hl
      refine cx_putI pF_J17_79 dJ17_append_36 eh20 ?_
      refine cx_iload_n dJ17_append_39 rfl ?_
      refine cx_i2b dJ17_append_40 ?_
      obtain ⟨h21, eh21, hl⟩ := xb hl
      refine cx_bast dJ17_append_41 eh21 ?_
      refine cx_goto (tgt := 75) dJ17_append_42 (by decide) ?_
      refine cx_aload_n dJ17_append_75 rfl rfl ?_
      cases hl
      exact cx_aret dJ17_append_76 rfl rfl (Or.inl ⟨_, rfl⟩) rfl rfl
def k_J18_append (c : Nat → Value) (x0 : Nat) (x1 : Int32) (h : XH) : Option (Nat × XH) := (ckd h x0 12).bind fun u2 => (k_J17_append c x0 x1 h).bind fun r1 => some (x0, r1.2)
set_option maxHeartbeats 4000000 in
theorem T_J18_append {l : Launch} {E : XEnv}  {x0 : Nat} {x1 : Int32} {h : XH} {r : Nat × XH} (hl : k_J18_append E.2.2.2 x0 x1 h = some r) : CM l E mJ18_append 6 [.ref x0, .int x1] h (.inl (some (.ref r.1))) r.2 := by
  unfold k_J18_append at hl
  refine cm_of (by decide +kernel) rfl (Nat.le_of_ble_eq_true rfl) ?_
  refine cx_aload_n dJ18_append_0 rfl rfl ?_
  refine cx_iload_n dJ18_append_1 rfl ?_
  obtain ⟨u2, eu2, hl⟩ := xb hl
  obtain ⟨r1, er1, hl⟩ := xb hl
  refine cx_callSU (ci := 12) (by decide) rfl (T_J17_append er1) lU_J18_50 C_J17_append dJ18_append_2 eu2 rfl (by omega) (Nat.le_of_ble_eq_true rfl) ?_
  refine cx_pop dJ18_append_5 rfl ?_
  refine cx_aload_n dJ18_append_6 rfl rfl ?_
  cases hl
  exact cx_aret dJ18_append_7 rfl rfl (Or.inl ⟨_, rfl⟩) rfl rfl
def k_X7_add (c : Nat → Value) (x0 : Nat) (x1 : Int32) (x2 : Nat) (h : XH) : Option (XH) := (cgR h x0 6 1).bind fun v1 => (ckd h v1 12).bind fun u3 => (k_J18_append c v1 x1 h).bind fun r2 => (cgR r2.2 x0 6 0).bind fun v4 => (ckd r2.2 v4 10).bind fun u6 => (k_J2_add c v4 x2 r2.2).bind fun r5 => some r5.2
set_option maxHeartbeats 4000000 in
theorem T_X7_add {l : Launch} {E : XEnv}  {x0 : Nat} {x1 : Int32} {x2 : Nat} {h : XH} {r : XH} (hl : k_X7_add E.2.2.2 x0 x1 x2 h = some r) : CM l E mX7_add 8 [.ref x0, .int x1, .ref x2] h (.inl none) r := by
  unfold k_X7_add at hl
  refine cm_of (by decide +kernel) rfl (Nat.le_of_ble_eq_true rfl) ?_
  refine cx_aload_n dX7_add_0 rfl rfl ?_
  obtain ⟨v1, ev1, hl⟩ := xb hl
  refine cx_getR gF_X7_19 dX7_add_1 ev1 ?_
  refine cx_iload_n dX7_add_4 rfl ?_
  obtain ⟨u3, eu3, hl⟩ := xb hl
  obtain ⟨r2, er2, hl⟩ := xb hl
  refine cx_callV (Or.inl ⟨by decide, _, _, rfl⟩) (T_J18_append er2) lV_X7_29 C_J18_append dX7_add_5 eu3 (by decide) rfl (by omega) (Nat.le_of_ble_eq_true rfl) ?_
  refine cx_pop dX7_add_8 rfl ?_
  refine cx_aload_n dX7_add_9 rfl rfl ?_
  obtain ⟨v4, ev4, hl⟩ := xb hl
  refine cx_getR gF_X7_10 dX7_add_10 ev4 ?_
  refine cx_aload_n dX7_add_13 rfl rfl ?_
  obtain ⟨u6, eu6, hl⟩ := xb hl
  obtain ⟨r5, er5, hl⟩ := xb hl
  refine cx_callF (ci := 10) (by decide) rfl (T_J2_add er5) lF_X7_23 C_J2_add dX7_add_14 eu6 rfl (by omega) (Nat.le_of_ble_eq_true rfl) ?_
  refine cx_pop dX7_add_19 rfl ?_
  cases hl
  exact cx_vret dX7_add_20 rfl rfl rfl
def k_X7_plain (x0 : Nat) (h : XH) : Option (Nat) := (cgR h x0 6 0).bind fun v1 => (ckd h v1 10).bind fun u3 => (k_J2_size v1 h).bind fun r2 => if r2 = 1 then (cgR h x0 6 0).bind fun v5 => (ckd h v5 10).bind fun u7 => (k_J2_get v5 0 h).bind fun r6 => (cfo h r6).bind fun u8 => some r6 else some x0
set_option maxHeartbeats 4000000 in
theorem T_X7_plain {l : Launch} {E : XEnv}  {x0 : Nat} {h : XH} {r : Nat} (hl : k_X7_plain x0 h = some r) : CM l E mX7_plain 4 [.ref x0] h (.inl (some (.ref r))) h := by
  unfold k_X7_plain at hl
  refine cm_of (by decide +kernel) rfl (Nat.le_of_ble_eq_true rfl) ?_
  refine cx_aload_n dX7_plain_0 rfl rfl ?_
  obtain ⟨v1, ev1, hl⟩ := xb hl
  refine cx_getR gF_X7_10 dX7_plain_1 ev1 ?_
  obtain ⟨u3, eu3, hl⟩ := xb hl
  obtain ⟨r2, er2, hl⟩ := xb hl
  refine cx_callF (ci := 10) (by decide) rfl (T_J2_size er2) lF_X7_33 C_J2_size dX7_plain_4 eu3 rfl (by omega) (Nat.le_of_ble_eq_true rfl) ?_
  refine cx_iconst (v := 1) dX7_plain_9 rfl ?_
  by_cases c4 : r2 = 1
  · rw [if_pos c4] at hl
    refine cx_icmp_ne (X := True) (tgt := 29) dX7_plain_10 (by decide) (fun z => absurd c4 z) (fun _ => ?_)
    refine cx_aload_n dX7_plain_13 rfl rfl ?_
    obtain ⟨v5, ev5, hl⟩ := xb hl
    refine cx_getR gF_X7_10 dX7_plain_14 ev5 ?_
    refine cx_iconst (v := 0) dX7_plain_17 rfl ?_
    obtain ⟨u7, eu7, hl⟩ := xb hl
    obtain ⟨r6, er6, hl⟩ := xb hl
    refine cx_callF (ci := 10) (by decide) rfl (T_J2_get er6) lF_X7_37 C_J2_get dX7_plain_18 eu7 rfl (by omega) (Nat.le_of_ble_eq_true rfl) ?_
    obtain ⟨u8, eu8, hl⟩ := xb hl
    refine cx_castF xC_X7_41_6 xC_X7_41_7 xC_X7_41_8 xC_X7_41_9 dX7_plain_23 eu8 ?_
    refine cx_goto (tgt := 30) dX7_plain_26 (by decide) ?_
    cases hl
    exact cx_aret dX7_plain_30 rfl rfl (Or.inl ⟨_, rfl⟩) rfl rfl
  · rw [if_neg c4] at hl
    refine cx_icmp_ne (X := True) (tgt := 29) dX7_plain_10 (by decide) (fun _ => ?_) (fun z => absurd z c4)
    refine cx_aload_n dX7_plain_29 rfl rfl ?_
    cases hl
    exact cx_aret dX7_plain_30 rfl rfl (Or.inl ⟨_, rfl⟩) rfl rfl
def k_X5_product_J31 (ex : Nat → Int32 → XH → Option ((Nat ⊕ XX) × XH)) (n : Nat) (c : Nat → Value) (x0 : Nat) (x1 : Int32) (x2 : Nat) (h : XH) : Option ((XH) ⊕ ((XH) ⊕ ((Nat ⊕ XX) × XH))) := (ckd h x0 4).bind fun u15 => (k_X5_sign n c x0 h).bind fun r14 => (ckd r14.2 x0 4).bind fun u17 => (k_X5_part ex n c x0 x1 r14.2).bind fun r16 => match r16 with | (.inl v18, h19) => ((ckd h19 x2 6).bind fun u24 => (k_X7_add c x2 r14.1 v18 h19).bind fun r23 => some (.inl r23)) | (.inr e20, h19) => (some (.inr (.inr (.inr e20, h19))))
def k_X5_product_L13 (ex : Nat → Int32 → XH → Option ((Nat ⊕ XX) × XH)) (n : Nat) (c : Nat → Value) (x0 : Nat) (x1 : Int32) (x2 : Nat) (h : XH) : Option ((XH) ⊕ ((XH) ⊕ ((Nat ⊕ XX) × XH))) := (ckd h x0 4).bind fun u12 => (k_X5_isSign x0 42 h).bind fun r11 => if r11 = 0 then (ckd h x0 4).bind fun u26 => (k_X5_isSign x0 47 h).bind fun r25 => if r25 = 0 then some (.inr (.inl h)) else k_X5_product_J31 ex n c x0 x1 x2 h else k_X5_product_J31 ex n c x0 x1 x2 h
abbrev K_X5_product_L13 (l : Launch) (E : XEnv) (hf : XH) (res : XO) (dd : Nat) (h : XH) (x0 : Nat) (x1 : Int32) (x2 : Nat) (o : (XH) ⊕ ((Nat ⊕ XX) × XH)) : Prop := match o with
  | .inl e => CX l E mX5_product (dd + 9) 49 [(2, .ref x2)] [] e hf res
  | .inr e => (xrR e.1 = res ∧ e.2 = hf)
def k_X5_product (ex : Nat → Int32 → XH → Option ((Nat ⊕ XX) × XH)) (n : Nat) (c : Nat → Value) (x0 : Nat) (x1 : Int32) (h : XH) : Option ((Nat ⊕ XX) × XH) := (some (xnew h 6 2 1 2 (fun j => defaultValue (tyX7 j)))).bind fun h1 => (ckd h1 x0 4).bind fun u3 => (k_X5_part ex n c x0 x1 h1).bind fun r2 => match r2 with | (.inl v4, h5) => ((k_X7_init c h.2.2.1 v4 h5).bind fun r9 => (xloop (fun s => k_X5_product_L13 ex n c x0 x1 h.2.2.1 s) n r9).bind fun o28 => match o28 with | .inl e29 => ((ckd e29 h.2.2.1 6).bind fun u32 => (k_X7_plain h.2.2.1 e29).bind fun r31 => some (.inl r31, e29)) | .inr e30 => (some e30)) | (.inr e6, h5) => (some (.inr e6, h5))
set_option maxHeartbeats 4000000 in
theorem k_X5_product_J31_s {l : Launch} {E : XEnv} {hf : XH} {res : XO} {dd : Nat} {ex : Nat → Int32 → XH → Option ((Nat ⊕ XX) × XH)} (hex : ∀ a b h r, ex a b h = some r → CM l E mX5_expression dd [.ref a, .int b] h (xrR r.1) r.2) {n : Nat} {x0 : Nat} {x1 : Int32} {x2 : Nat} {h : XH} {h0 : XH} {o : (XH) ⊕ ((XH) ⊕ ((Nat ⊕ XX) × XH))} (hl : k_X5_product_J31 ex n E.2.2.2 x0 x1 x2 h = some o) (hK : (xk (fun s : XH => CX l E mX5_product (dd + 9) 13 [(0, .ref x0), (1, .int x1), (2, .ref x2)] [] s hf res) (fun r => K_X5_product_L13 l E hf res dd h0 x0 x1 x2 r) o)) : CX l E mX5_product (dd + 9) 31 [(0, .ref x0), (1, .int x1), (2, .ref x2)] [] h hf res := by
  unfold k_X5_product_J31 at hl
  refine cx_aload_n dX5_product_31 rfl rfl ?_
  obtain ⟨u15, eu15, hl⟩ := xb hl
  obtain ⟨r14, er14, hl⟩ := xb hl
  refine cx_callV (Or.inl ⟨by decide, _, _, rfl⟩) (T_X5_sign er14) lV_X5_168 C_X5_sign dX5_product_32 eu15 (by decide) rfl (by omega) (Nat.le_of_ble_eq_true rfl) ?_
  refine cx_istore_n dX5_product_35 (by decide) ?_
  refine cx_aload_n dX5_product_36 rfl rfl ?_
  refine cx_iload_n dX5_product_37 rfl ?_
  refine cx_aload_n dX5_product_38 rfl rfl ?_
  refine cx_iload_n dX5_product_39 rfl ?_
  obtain ⟨u17, eu17, hl⟩ := xb hl
  obtain ⟨r16, er16, hl⟩ := xb hl
  rcases r16 with ⟨v18 | ⟨C21, q22⟩, h19⟩
  · dsimp only at hl
    refine cx_callV (Or.inl ⟨by decide, _, _, rfl⟩) (T_X5_part hex er16) lV_X5_162 C_X5_part dX5_product_40 eu17 (by decide) rfl (by omega) (Nat.le_of_ble_eq_true rfl) ?_
    obtain ⟨u24, eu24, hl⟩ := xb hl
    obtain ⟨r23, er23, hl⟩ := xb hl
    refine cx_callV (Or.inl ⟨by decide, _, _, rfl⟩) (T_X7_add er23) lV_X5_172 C_X7_add dX5_product_43 eu24 (by decide) rfl (by omega) (Nat.le_of_ble_eq_true rfl) ?_
    refine cx_goto (tgt := 13) dX5_product_46 (by decide) ?_
    cases hl
    exact cx_lsK hK ⟨rfl, rfl, rfl, trivial⟩
  · dsimp only at hl
    cases hl
    exact cx_callVx (Or.inl ⟨by decide, _, _, rfl⟩) (T_X5_part hex er16) lV_X5_162 C_X5_part dX5_product_40 eu17 (by decide) rfl (by omega) (Nat.le_of_ble_eq_true rfl) (ct_out hK.1 hK.2 (by decide))
set_option maxHeartbeats 4000000 in
theorem k_X5_product_L13_s {l : Launch} {E : XEnv} {hf : XH} {res : XO} {dd : Nat} {ex : Nat → Int32 → XH → Option ((Nat ⊕ XX) × XH)} (hex : ∀ a b h r, ex a b h = some r → CM l E mX5_expression dd [.ref a, .int b] h (xrR r.1) r.2) {n : Nat} {x0 : Nat} {x1 : Int32} {x2 : Nat} {h : XH} {o : (XH) ⊕ ((XH) ⊕ ((Nat ⊕ XX) × XH))} (hl : k_X5_product_L13 ex n E.2.2.2 x0 x1 x2 h = some o) (hK : (xk (fun s : XH => CX l E mX5_product (dd + 9) 13 [(0, .ref x0), (1, .int x1), (2, .ref x2)] [] s hf res) (fun r => K_X5_product_L13 l E hf res dd h x0 x1 x2 r) o)) : CX l E mX5_product (dd + 9) 13 [(0, .ref x0), (1, .int x1), (2, .ref x2)] [] h hf res := by
  unfold k_X5_product_L13 at hl
  refine cx_aload_n dX5_product_13 rfl rfl ?_
  refine cx_bipush (v := 42) dX5_product_14 (by decide) ?_
  obtain ⟨u12, eu12, hl⟩ := xb hl
  obtain ⟨r11, er11, hl⟩ := xb hl
  refine cx_callV (Or.inl ⟨by decide, _, _, rfl⟩) (T_X5_isSign er11) lV_X5_145 C_X5_isSign dX5_product_16 eu12 (by decide) rfl (by omega) (Nat.le_of_ble_eq_true rfl) ?_
  by_cases c13 : r11 = 0
  · rw [if_pos c13] at hl
    refine cx_if_ne (X := True) (tgt := 31) dX5_product_19 (by decide) (fun z => absurd c13 z) (fun _ => ?_)
    refine cx_aload_n dX5_product_22 rfl rfl ?_
    refine cx_bipush (v := 47) dX5_product_23 (by decide) ?_
    obtain ⟨u26, eu26, hl⟩ := xb hl
    obtain ⟨r25, er25, hl⟩ := xb hl
    refine cx_callV (Or.inl ⟨by decide, _, _, rfl⟩) (T_X5_isSign er25) lV_X5_145 C_X5_isSign dX5_product_25 eu26 (by decide) rfl (by omega) (Nat.le_of_ble_eq_true rfl) ?_
    by_cases c27 : r25 = 0
    · rw [if_pos c27] at hl
      refine cx_if_eq (X := True) (tgt := 49) dX5_product_28 (by decide) (fun _ => ?_) (fun z => absurd c27 z)
      cases hl
      exact cx_lsK hK ⟨rfl, trivial⟩
    · rw [if_neg c27] at hl
      refine cx_if_eq (X := True) (tgt := 49) dX5_product_28 (by decide) (fun z => absurd z c27) (fun _ => ?_)
      exact cx_lsK (k_X5_product_J31_s hex hl hK) ⟨rfl, rfl, rfl, trivial⟩
  · rw [if_neg c13] at hl
    refine cx_if_ne (X := True) (tgt := 31) dX5_product_19 (by decide) (fun _ => ?_) (fun z => absurd z c13)
    exact cx_lsK (k_X5_product_J31_s hex hl hK) ⟨rfl, rfl, rfl, trivial⟩
set_option maxHeartbeats 4000000 in
theorem k_X5_product_L13_ok {l : Launch} {E : XEnv} {hf : XH} {res : XO} {dd : Nat} {ex : Nat → Int32 → XH → Option ((Nat ⊕ XX) × XH)} (hex : ∀ a b h r, ex a b h = some r → CM l E mX5_expression dd [.ref a, .int b] h (xrR r.1) r.2) {n : Nat} {x0 : Nat} {x1 : Int32} {x2 : Nat} {h : XH} {s : XH} {o : (XH) ⊕ ((Nat ⊕ XX) × XH)} (hl : xloop (fun s => k_X5_product_L13 ex n E.2.2.2 x0 x1 x2 s) n s = some o) (hK : K_X5_product_L13 l E hf res dd h x0 x1 x2 o) : CX l E mX5_product (dd + 9) 13 [(0, .ref x0), (1, .int x1), (2, .ref x2)] [] s hf res :=
  xloop_of (fun s : XH => CX l E mX5_product (dd + 9) 13 [(0, .ref x0), (1, .int x1), (2, .ref x2)] [] s hf res) (fun r => K_X5_product_L13 l E hf res dd h x0 x1 x2 r) (fun s o hl hk => k_X5_product_L13_s hex (h := s) (o := o) hl hk) n s o hl hK
set_option maxHeartbeats 4000000 in
theorem T_X5_product {l : Launch} {E : XEnv}  {dd : Nat} {ex : Nat → Int32 → XH → Option ((Nat ⊕ XX) × XH)} (hex : ∀ a b h r, ex a b h = some r → CM l E mX5_expression dd [.ref a, .int b] h (xrR r.1) r.2) {n : Nat} {x0 : Nat} {x1 : Int32} {h : XH} {r : (Nat ⊕ XX) × XH} (hl : k_X5_product ex n E.2.2.2 x0 x1 h = some r) : CM l E mX5_product (dd + 9) [.ref x0, .int x1] h (xrR r.1) r.2 := by
  unfold k_X5_product at hl
  refine cm_of (by decide +kernel) rfl (Nat.le_of_ble_eq_true rfl) ?_
  obtain ⟨h1, eh1, hl⟩ := xb hl
  refine cx_new 1 nW_X5_160 dX5_product_0 (Option.some.inj eh1) ?_
  refine cx_dup dX5_product_3 rfl ?_
  refine cx_aload_n dX5_product_4 rfl rfl ?_
  refine cx_iload_n dX5_product_5 rfl ?_
  obtain ⟨u3, eu3, hl⟩ := xb hl
  obtain ⟨r2, er2, hl⟩ := xb hl
  rcases r2 with ⟨v4 | ⟨C7, q8⟩, h5⟩
  · dsimp only at hl
    refine cx_callV (Or.inl ⟨by decide, _, _, rfl⟩) (T_X5_part hex er2) lV_X5_162 C_X5_part dX5_product_6 eu3 (by decide) rfl (by omega) (Nat.le_of_ble_eq_true rfl) ?_
    obtain ⟨r9, er9, hl⟩ := xb hl
    refine cx_callI (T_X7_init er9) lI_X5_165 rfl C_X7_init dX5_product_9 rfl (by omega) (Nat.le_of_ble_eq_true rfl) ?_
    refine cx_astore_n dX5_product_12 (by decide) rfl ?_
    obtain ⟨o28, eo28, hl⟩ := xb hl
    rcases o28 with e29 | e30
    · dsimp only at hl
      refine cx_lsK (k_X5_product_L13_ok hex (h := r9) (s := r9) eo28 ?_) ⟨rfl, rfl, rfl, trivial⟩
      refine cx_aload_n dX5_product_49 rfl rfl ?_
      obtain ⟨u32, eu32, hl⟩ := xb hl
      obtain ⟨r31, er31, hl⟩ := xb hl
      refine cx_callV (Or.inl ⟨by decide, _, _, rfl⟩) (T_X7_plain er31) lV_X5_176 C_X7_plain dX5_product_50 eu32 (by decide) rfl (by omega) (Nat.le_of_ble_eq_true rfl) ?_
      cases hl
      exact cx_aret dX5_product_53 rfl rfl (Or.inl ⟨_, rfl⟩) rfl rfl
    · dsimp only at hl
      refine cx_lsK (k_X5_product_L13_ok hex (h := r9) (s := r9) eo28 ?_) ⟨rfl, rfl, rfl, trivial⟩
      cases hl
      exact ⟨rfl, rfl⟩
  · dsimp only at hl
    cases hl
    exact cx_callVx (Or.inl ⟨by decide, _, _, rfl⟩) (T_X5_part hex er2) lV_X5_162 C_X5_part dX5_product_6 eu3 (by decide) rfl (by omega) (Nat.le_of_ble_eq_true rfl) (ct_out rfl rfl (by decide))
def k_X5_sum_J31 (ex : Nat → Int32 → XH → Option ((Nat ⊕ XX) × XH)) (n : Nat) (c : Nat → Value) (x0 : Nat) (x1 : Int32) (x2 : Nat) (h : XH) : Option ((XH) ⊕ ((XH) ⊕ ((Nat ⊕ XX) × XH))) := (ckd h x0 4).bind fun u15 => (k_X5_sign n c x0 h).bind fun r14 => (ckd r14.2 x0 4).bind fun u17 => (k_X5_product ex n c x0 x1 r14.2).bind fun r16 => match r16 with | (.inl v18, h19) => ((ckd h19 x2 6).bind fun u24 => (k_X7_add c x2 r14.1 v18 h19).bind fun r23 => some (.inl r23)) | (.inr e20, h19) => (some (.inr (.inr (.inr e20, h19))))
def k_X5_sum_L13 (ex : Nat → Int32 → XH → Option ((Nat ⊕ XX) × XH)) (n : Nat) (c : Nat → Value) (x0 : Nat) (x1 : Int32) (x2 : Nat) (h : XH) : Option ((XH) ⊕ ((XH) ⊕ ((Nat ⊕ XX) × XH))) := (ckd h x0 4).bind fun u12 => (k_X5_isSign x0 43 h).bind fun r11 => if r11 = 0 then (ckd h x0 4).bind fun u26 => (k_X5_isSign x0 45 h).bind fun r25 => if r25 = 0 then some (.inr (.inl h)) else k_X5_sum_J31 ex n c x0 x1 x2 h else k_X5_sum_J31 ex n c x0 x1 x2 h
abbrev K_X5_sum_L13 (l : Launch) (E : XEnv) (hf : XH) (res : XO) (dd : Nat) (h : XH) (x0 : Nat) (x1 : Int32) (x2 : Nat) (o : (XH) ⊕ ((Nat ⊕ XX) × XH)) : Prop := match o with
  | .inl e => CX l E mX5_sum (dd + 10) 49 [(2, .ref x2)] [] e hf res
  | .inr e => (xrR e.1 = res ∧ e.2 = hf)
def k_X5_sum (ex : Nat → Int32 → XH → Option ((Nat ⊕ XX) × XH)) (n : Nat) (c : Nat → Value) (x0 : Nat) (x1 : Int32) (h : XH) : Option ((Nat ⊕ XX) × XH) := (some (xnew h 6 2 1 2 (fun j => defaultValue (tyX7 j)))).bind fun h1 => (ckd h1 x0 4).bind fun u3 => (k_X5_product ex n c x0 x1 h1).bind fun r2 => match r2 with | (.inl v4, h5) => ((k_X7_init c h.2.2.1 v4 h5).bind fun r9 => (xloop (fun s => k_X5_sum_L13 ex n c x0 x1 h.2.2.1 s) n r9).bind fun o28 => match o28 with | .inl e29 => ((ckd e29 h.2.2.1 6).bind fun u32 => (k_X7_plain h.2.2.1 e29).bind fun r31 => some (.inl r31, e29)) | .inr e30 => (some e30)) | (.inr e6, h5) => (some (.inr e6, h5))
set_option maxHeartbeats 4000000 in
theorem k_X5_sum_J31_s {l : Launch} {E : XEnv} {hf : XH} {res : XO} {dd : Nat} {ex : Nat → Int32 → XH → Option ((Nat ⊕ XX) × XH)} (hex : ∀ a b h r, ex a b h = some r → CM l E mX5_expression dd [.ref a, .int b] h (xrR r.1) r.2) {n : Nat} {x0 : Nat} {x1 : Int32} {x2 : Nat} {h : XH} {h0 : XH} {o : (XH) ⊕ ((XH) ⊕ ((Nat ⊕ XX) × XH))} (hl : k_X5_sum_J31 ex n E.2.2.2 x0 x1 x2 h = some o) (hK : (xk (fun s : XH => CX l E mX5_sum (dd + 10) 13 [(0, .ref x0), (1, .int x1), (2, .ref x2)] [] s hf res) (fun r => K_X5_sum_L13 l E hf res dd h0 x0 x1 x2 r) o)) : CX l E mX5_sum (dd + 10) 31 [(0, .ref x0), (1, .int x1), (2, .ref x2)] [] h hf res := by
  unfold k_X5_sum_J31 at hl
  refine cx_aload_n dX5_sum_31 rfl rfl ?_
  obtain ⟨u15, eu15, hl⟩ := xb hl
  obtain ⟨r14, er14, hl⟩ := xb hl
  refine cx_callV (Or.inl ⟨by decide, _, _, rfl⟩) (T_X5_sign er14) lV_X5_168 C_X5_sign dX5_sum_32 eu15 (by decide) rfl (by omega) (Nat.le_of_ble_eq_true rfl) ?_
  refine cx_istore_n dX5_sum_35 (by decide) ?_
  refine cx_aload_n dX5_sum_36 rfl rfl ?_
  refine cx_iload_n dX5_sum_37 rfl ?_
  refine cx_aload_n dX5_sum_38 rfl rfl ?_
  refine cx_iload_n dX5_sum_39 rfl ?_
  obtain ⟨u17, eu17, hl⟩ := xb hl
  obtain ⟨r16, er16, hl⟩ := xb hl
  rcases r16 with ⟨v18 | ⟨C21, q22⟩, h19⟩
  · dsimp only at hl
    refine cx_callV (Or.inl ⟨by decide, _, _, rfl⟩) (T_X5_product hex er16) lV_X5_180 C_X5_product dX5_sum_40 eu17 (by decide) rfl (by omega) (Nat.le_of_ble_eq_true rfl) ?_
    obtain ⟨u24, eu24, hl⟩ := xb hl
    obtain ⟨r23, er23, hl⟩ := xb hl
    refine cx_callV (Or.inl ⟨by decide, _, _, rfl⟩) (T_X7_add er23) lV_X5_172 C_X7_add dX5_sum_43 eu24 (by decide) rfl (by omega) (Nat.le_of_ble_eq_true rfl) ?_
    refine cx_goto (tgt := 13) dX5_sum_46 (by decide) ?_
    cases hl
    exact cx_lsK hK ⟨rfl, rfl, rfl, trivial⟩
  · dsimp only at hl
    cases hl
    exact cx_callVx (Or.inl ⟨by decide, _, _, rfl⟩) (T_X5_product hex er16) lV_X5_180 C_X5_product dX5_sum_40 eu17 (by decide) rfl (by omega) (Nat.le_of_ble_eq_true rfl) (ct_out hK.1 hK.2 (by decide))
set_option maxHeartbeats 4000000 in
theorem k_X5_sum_L13_s {l : Launch} {E : XEnv} {hf : XH} {res : XO} {dd : Nat} {ex : Nat → Int32 → XH → Option ((Nat ⊕ XX) × XH)} (hex : ∀ a b h r, ex a b h = some r → CM l E mX5_expression dd [.ref a, .int b] h (xrR r.1) r.2) {n : Nat} {x0 : Nat} {x1 : Int32} {x2 : Nat} {h : XH} {o : (XH) ⊕ ((XH) ⊕ ((Nat ⊕ XX) × XH))} (hl : k_X5_sum_L13 ex n E.2.2.2 x0 x1 x2 h = some o) (hK : (xk (fun s : XH => CX l E mX5_sum (dd + 10) 13 [(0, .ref x0), (1, .int x1), (2, .ref x2)] [] s hf res) (fun r => K_X5_sum_L13 l E hf res dd h x0 x1 x2 r) o)) : CX l E mX5_sum (dd + 10) 13 [(0, .ref x0), (1, .int x1), (2, .ref x2)] [] h hf res := by
  unfold k_X5_sum_L13 at hl
  refine cx_aload_n dX5_sum_13 rfl rfl ?_
  refine cx_bipush (v := 43) dX5_sum_14 (by decide) ?_
  obtain ⟨u12, eu12, hl⟩ := xb hl
  obtain ⟨r11, er11, hl⟩ := xb hl
  refine cx_callV (Or.inl ⟨by decide, _, _, rfl⟩) (T_X5_isSign er11) lV_X5_145 C_X5_isSign dX5_sum_16 eu12 (by decide) rfl (by omega) (Nat.le_of_ble_eq_true rfl) ?_
  by_cases c13 : r11 = 0
  · rw [if_pos c13] at hl
    refine cx_if_ne (X := True) (tgt := 31) dX5_sum_19 (by decide) (fun z => absurd c13 z) (fun _ => ?_)
    refine cx_aload_n dX5_sum_22 rfl rfl ?_
    refine cx_bipush (v := 45) dX5_sum_23 (by decide) ?_
    obtain ⟨u26, eu26, hl⟩ := xb hl
    obtain ⟨r25, er25, hl⟩ := xb hl
    refine cx_callV (Or.inl ⟨by decide, _, _, rfl⟩) (T_X5_isSign er25) lV_X5_145 C_X5_isSign dX5_sum_25 eu26 (by decide) rfl (by omega) (Nat.le_of_ble_eq_true rfl) ?_
    by_cases c27 : r25 = 0
    · rw [if_pos c27] at hl
      refine cx_if_eq (X := True) (tgt := 49) dX5_sum_28 (by decide) (fun _ => ?_) (fun z => absurd c27 z)
      cases hl
      exact cx_lsK hK ⟨rfl, trivial⟩
    · rw [if_neg c27] at hl
      refine cx_if_eq (X := True) (tgt := 49) dX5_sum_28 (by decide) (fun z => absurd z c27) (fun _ => ?_)
      exact cx_lsK (k_X5_sum_J31_s hex hl hK) ⟨rfl, rfl, rfl, trivial⟩
  · rw [if_neg c13] at hl
    refine cx_if_ne (X := True) (tgt := 31) dX5_sum_19 (by decide) (fun _ => ?_) (fun z => absurd z c13)
    exact cx_lsK (k_X5_sum_J31_s hex hl hK) ⟨rfl, rfl, rfl, trivial⟩
set_option maxHeartbeats 4000000 in
theorem k_X5_sum_L13_ok {l : Launch} {E : XEnv} {hf : XH} {res : XO} {dd : Nat} {ex : Nat → Int32 → XH → Option ((Nat ⊕ XX) × XH)} (hex : ∀ a b h r, ex a b h = some r → CM l E mX5_expression dd [.ref a, .int b] h (xrR r.1) r.2) {n : Nat} {x0 : Nat} {x1 : Int32} {x2 : Nat} {h : XH} {s : XH} {o : (XH) ⊕ ((Nat ⊕ XX) × XH)} (hl : xloop (fun s => k_X5_sum_L13 ex n E.2.2.2 x0 x1 x2 s) n s = some o) (hK : K_X5_sum_L13 l E hf res dd h x0 x1 x2 o) : CX l E mX5_sum (dd + 10) 13 [(0, .ref x0), (1, .int x1), (2, .ref x2)] [] s hf res :=
  xloop_of (fun s : XH => CX l E mX5_sum (dd + 10) 13 [(0, .ref x0), (1, .int x1), (2, .ref x2)] [] s hf res) (fun r => K_X5_sum_L13 l E hf res dd h x0 x1 x2 r) (fun s o hl hk => k_X5_sum_L13_s hex (h := s) (o := o) hl hk) n s o hl hK
set_option maxHeartbeats 4000000 in
theorem T_X5_sum {l : Launch} {E : XEnv}  {dd : Nat} {ex : Nat → Int32 → XH → Option ((Nat ⊕ XX) × XH)} (hex : ∀ a b h r, ex a b h = some r → CM l E mX5_expression dd [.ref a, .int b] h (xrR r.1) r.2) {n : Nat} {x0 : Nat} {x1 : Int32} {h : XH} {r : (Nat ⊕ XX) × XH} (hl : k_X5_sum ex n E.2.2.2 x0 x1 h = some r) : CM l E mX5_sum (dd + 10) [.ref x0, .int x1] h (xrR r.1) r.2 := by
  unfold k_X5_sum at hl
  refine cm_of (by decide +kernel) rfl (Nat.le_of_ble_eq_true rfl) ?_
  obtain ⟨h1, eh1, hl⟩ := xb hl
  refine cx_new 1 nW_X5_160 dX5_sum_0 (Option.some.inj eh1) ?_
  refine cx_dup dX5_sum_3 rfl ?_
  refine cx_aload_n dX5_sum_4 rfl rfl ?_
  refine cx_iload_n dX5_sum_5 rfl ?_
  obtain ⟨u3, eu3, hl⟩ := xb hl
  obtain ⟨r2, er2, hl⟩ := xb hl
  rcases r2 with ⟨v4 | ⟨C7, q8⟩, h5⟩
  · dsimp only at hl
    refine cx_callV (Or.inl ⟨by decide, _, _, rfl⟩) (T_X5_product hex er2) lV_X5_180 C_X5_product dX5_sum_6 eu3 (by decide) rfl (by omega) (Nat.le_of_ble_eq_true rfl) ?_
    obtain ⟨r9, er9, hl⟩ := xb hl
    refine cx_callI (T_X7_init er9) lI_X5_165 rfl C_X7_init dX5_sum_9 rfl (by omega) (Nat.le_of_ble_eq_true rfl) ?_
    refine cx_astore_n dX5_sum_12 (by decide) rfl ?_
    obtain ⟨o28, eo28, hl⟩ := xb hl
    rcases o28 with e29 | e30
    · dsimp only at hl
      refine cx_lsK (k_X5_sum_L13_ok hex (h := r9) (s := r9) eo28 ?_) ⟨rfl, rfl, rfl, trivial⟩
      refine cx_aload_n dX5_sum_49 rfl rfl ?_
      obtain ⟨u32, eu32, hl⟩ := xb hl
      obtain ⟨r31, er31, hl⟩ := xb hl
      refine cx_callV (Or.inl ⟨by decide, _, _, rfl⟩) (T_X7_plain er31) lV_X5_176 C_X7_plain dX5_sum_50 eu32 (by decide) rfl (by omega) (Nat.le_of_ble_eq_true rfl) ?_
      cases hl
      exact cx_aret dX5_sum_53 rfl rfl (Or.inl ⟨_, rfl⟩) rfl rfl
    · dsimp only at hl
      refine cx_lsK (k_X5_sum_L13_ok hex (h := r9) (s := r9) eo28 ?_) ⟨rfl, rfl, rfl, trivial⟩
      cases hl
      exact ⟨rfl, rfl⟩
  · dsimp only at hl
    cases hl
    exact cx_callVx (Or.inl ⟨by decide, _, _, rfl⟩) (T_X5_product hex er2) lV_X5_180 C_X5_product dX5_sum_6 eu3 (by decide) rfl (by omega) (Nat.le_of_ble_eq_true rfl) (ct_out rfl rfl (by decide))
def k_X10_init (x0 : Nat) (x1 : Nat) (h : XH) : Option (XH) := (cpu h x0 9 0 (.ref x1)).bind fun h1 => some h1
set_option maxHeartbeats 4000000 in
theorem T_X10_init {l : Launch} {E : XEnv}  {x0 : Nat} {x1 : Nat} {h : XH} {r : XH} (hl : k_X10_init x0 x1 h = some r) : CM l E mX10_init 2 [.ref x0, .ref x1] h (.inl none) r := by
  unfold k_X10_init at hl
  refine cm_of (by decide +kernel) rfl (Nat.le_of_ble_eq_true rfl) ?_
  refine cx_aload_n dX10_init_0 rfl rfl ?_
  refine cx_objInit q1155 q161 q162 dX10_init_1 (by omega) (Nat.le_of_ble_eq_true rfl) ?_
  refine cx_aload_n dX10_init_4 rfl rfl ?_
  refine cx_aload_n dX10_init_5 rfl rfl ?_
  obtain ⟨h1, eh1, hl⟩ := xb hl
  refine cx_putR (Or.inl ⟨_, rfl⟩) pF_X10_7 dX10_init_6 eh1 ?_
  cases hl
  exact cx_vret dX10_init_9 rfl rfl rfl
def k_X5_not_L2 (ex : Nat → Int32 → XH → Option ((Nat ⊕ XX) × XH)) (n : Nat) (c : Nat → Value) (x0 : Nat) (x1 : Int32) (x2 : Int32) (h : XH) : Option ((Int32 × XH) ⊕ ((Int32 × XH) ⊕ ((Nat ⊕ XX) × XH))) := (vR (c 10)).bind fun v1 => (ckd h x0 4).bind fun u3 => (k_X5_is n c x0 v1 h).bind fun r2 => if r2 = 0 then some (.inr (.inl (x2, h))) else if x2 ≥ 6 then (ckd h x0 4).bind fun u7 => (k_X5_want c x0 0 2 h).bind fun r6 => match r6 with | (.inl v8, h9) => ((some (x2 + 1)).bind fun w13 => (ckd h9 x0 4).bind fun u15 => (k_X5_next n c x0 h9).bind fun r14 => some (.inl (w13, r14))) | (.inr e10, h9) => (some (.inr (.inr (.inr e10, h9)))) else (ckd h x0 4).bind fun u17 => (k_X5_want c x0 1 2 h).bind fun r16 => match r16 with | (.inl v18, h19) => ((some (x2 + 1)).bind fun w23 => (ckd h19 x0 4).bind fun u25 => (k_X5_next n c x0 h19).bind fun r24 => some (.inl (w23, r24))) | (.inr e20, h19) => (some (.inr (.inr (.inr e20, h19))))
abbrev K_X5_not_L2 (l : Launch) (E : XEnv) (hf : XH) (res : XO) (dd : Nat) (h : XH) (x0 : Nat) (x1 : Int32) (o : (Int32 × XH) ⊕ ((Nat ⊕ XX) × XH)) : Prop := match o with
  | .inl e => CX l E mX5_not (dd + 11) 37 [(0, .ref x0), (1, .int x1), (2, .int e.1)] [] e.2 hf res
  | .inr e => (xrR e.1 = res ∧ e.2 = hf)
def k_X5_not_L94 (ex : Nat → Int32 → XH → Option ((Nat ⊕ XX) × XH)) (n : Nat) (c : Nat → Value) (x2 : Int32) (x4 : Nat) (x5 : Int32) (h : XH) : Option ((Nat × Int32 × XH) ⊕ ((Nat × XH))) := if x5 ≥ x2 then some (.inr (x4, h)) else (some (xnew h 9 1 1 1 (fun j => defaultValue (tyX10 j)))).bind fun h56 => (k_X10_init h.2.2.1 x4 h56).bind fun r57 => (some (x5 + 1)).bind fun w59 => some (.inl (h.2.2.1, w59, r57))
abbrev K_X5_not_L94 (l : Launch) (E : XEnv) (hf : XH) (res : XO) (dd : Nat) (h : XH) (x2 : Int32) (o : (Nat × XH)) : Prop := match o with
  | e => CX l E mX5_not (dd + 11) 117 [(4, .ref e.1)] [] e.2 hf res
def k_X5_not_J68 (ex : Nat → Int32 → XH → Option ((Nat ⊕ XX) × XH)) (n : Nat) (c : Nat → Value) (x0 : Nat) (x1 : Int32) (x2 : Int32) (x3 : Nat) (h : XH) : Option ((Nat ⊕ XX) × XH) := (ckd h x0 4).bind fun u43 => (k_X5_sign n c x0 h).bind fun r42 => (ckd r42.2 x0 4).bind fun u45 => (k_X5_sum ex n c x0 x1 r42.2).bind fun r44 => match r44 with | (.inl v46, h47) => ((ckd h47 x3 6).bind fun u52 => (k_X7_add c x3 r42.1 v46 h47).bind fun r51 => (ckd r51 x3 6).bind fun u54 => (k_X7_plain x3 r51).bind fun r53 => (xloop (fun s => k_X5_not_L94 ex n c x2 s.1 s.2.1 s.2.2) n (r53, 0, r51)).bind fun o60 => some (.inl o60.1, o60.2)) | (.inr e48, h47) => (some (.inr e48, h47))
def k_X5_not (ex : Nat → Int32 → XH → Option ((Nat ⊕ XX) × XH)) (n : Nat) (c : Nat → Value) (x0 : Nat) (x1 : Int32) (h : XH) : Option ((Nat ⊕ XX) × XH) := (xloop (fun s => k_X5_not_L2 ex n c x0 x1 s.1 s.2) n (0, h)).bind fun o26 => match o26 with | .inl e27 => ((some (xnew e27.2 6 2 1 2 (fun j => defaultValue (tyX7 j)))).bind fun h29 => (ckd h29 x0 4).bind fun u31 => (k_X5_sum ex n c x0 x1 h29).bind fun r30 => match r30 with | (.inl v32, h33) => ((k_X7_init c e27.2.2.2.1 v32 h33).bind fun r37 => (ckd r37 x0 4).bind fun u40 => (k_X5_isSign x0 60 r37).bind fun r39 => if r39 = 0 then (ckd r37 x0 4).bind fun u62 => (k_X5_isSign x0 61 r37).bind fun r61 => if r61 = 0 then (ckd r37 e27.2.2.2.1 6).bind fun u65 => (k_X7_plain e27.2.2.2.1 r37).bind fun r64 => (xloop (fun s => k_X5_not_L94 ex n c e27.1 s.1 s.2.1 s.2.2) n (r64, 0, r37)).bind fun o66 => some (.inl o66.1, o66.2) else k_X5_not_J68 ex n c x0 x1 e27.1 e27.2.2.2.1 r37 else k_X5_not_J68 ex n c x0 x1 e27.1 e27.2.2.2.1 r37) | (.inr e34, h33) => (some (.inr e34, h33))) | .inr e28 => (some e28)
set_option maxHeartbeats 4000000 in
theorem k_X5_not_L2_s {l : Launch} {E : XEnv} {hf : XH} {res : XO} {dd : Nat} {ex : Nat → Int32 → XH → Option ((Nat ⊕ XX) × XH)} (hex : ∀ a b h r, ex a b h = some r → CM l E mX5_expression dd [.ref a, .int b] h (xrR r.1) r.2) {n : Nat} {x0 : Nat} {x1 : Int32} {x2 : Int32} {h : XH} {o : (Int32 × XH) ⊕ ((Int32 × XH) ⊕ ((Nat ⊕ XX) × XH))} (hl : k_X5_not_L2 ex n E.2.2.2 x0 x1 x2 h = some o) (hK : (xk (fun s : Int32 × XH => CX l E mX5_not (dd + 11) 2 [(0, .ref x0), (1, .int x1), (2, .int s.1)] [] s.2 hf res) (fun r => K_X5_not_L2 l E hf res dd h x0 x1 r) o)) : CX l E mX5_not (dd + 11) 2 [(0, .ref x0), (1, .int x1), (2, .int x2)] [] h hf res := by
  unfold k_X5_not_L2 at hl
  refine cx_aload_n dX5_not_2 rfl rfl ?_
  obtain ⟨v1, ev1, hl⟩ := xb hl
  refine cx_ldcS (i := 10) rfl dX5_not_3 ev1 ?_
  obtain ⟨u3, eu3, hl⟩ := xb hl
  obtain ⟨r2, er2, hl⟩ := xb hl
  refine cx_callV (Or.inl ⟨by decide, _, _, rfl⟩) (T_X5_is er2) lV_X5_121 C_X5_is dX5_not_5 eu3 (by decide) rfl (by omega) (Nat.le_of_ble_eq_true rfl) ?_
  by_cases c4 : r2 = 0
  · rw [if_pos c4] at hl
    refine cx_if_eq (X := True) (tgt := 37) dX5_not_8 (by decide) (fun _ => ?_) (fun z => absurd c4 z)
    cases hl
    exact cx_lsK hK ⟨rfl, rfl, rfl, trivial⟩
  · rw [if_neg c4] at hl
    refine cx_if_eq (X := True) (tgt := 37) dX5_not_8 (by decide) (fun z => absurd z c4) (fun _ => ?_)
    refine cx_aload_n dX5_not_11 rfl rfl ?_
    refine cx_iload_n dX5_not_12 rfl ?_
    refine cx_bipush (v := 6) dX5_not_13 (by decide) ?_
    by_cases c5 : x2 ≥ 6
    · rw [if_pos c5] at hl
      refine cx_icmp_ge (X := True) (tgt := 22) dX5_not_15 (by decide) (fun _ => ?_) (fun z => absurd c5 z)
      refine cx_iconst (v := 0) dX5_not_22 rfl ?_
      refine cx_iconst (v := 2) dX5_not_23 rfl ?_
      obtain ⟨u7, eu7, hl⟩ := xb hl
      obtain ⟨r6, er6, hl⟩ := xb hl
      rcases r6 with ⟨v8 | ⟨C11, q12⟩, h9⟩
      · dsimp only at hl
        refine cx_callV (Or.inl ⟨by decide, _, _, rfl⟩) (T_X5_want er6) lV_X5_133 C_X5_want dX5_not_24 eu7 (by decide) rfl (by omega) (Nat.le_of_ble_eq_true rfl) ?_
        obtain ⟨w13, ew13, hl⟩ := xb hl
        refine cx_iinc dX5_not_27 rfl (by decide) (Option.some.inj ew13) ?_
        refine cx_aload_n dX5_not_30 rfl rfl ?_
        obtain ⟨u15, eu15, hl⟩ := xb hl
        obtain ⟨r14, er14, hl⟩ := xb hl
        refine cx_callV (Or.inl ⟨by decide, _, _, rfl⟩) (T_X5_next er14) lV_X5_125 C_X5_next dX5_not_31 eu15 (by decide) rfl (by omega) (Nat.le_of_ble_eq_true rfl) ?_
        refine cx_goto (tgt := 2) dX5_not_34 (by decide) ?_
        cases hl
        exact cx_lsK hK ⟨rfl, rfl, rfl, trivial⟩
      · dsimp only at hl
        cases hl
        exact cx_callVx (Or.inl ⟨by decide, _, _, rfl⟩) (T_X5_want er6) lV_X5_133 C_X5_want dX5_not_24 eu7 (by decide) rfl (by omega) (Nat.le_of_ble_eq_true rfl) (ct_out hK.1 hK.2 (by decide))
    · rw [if_neg c5] at hl
      refine cx_icmp_ge (X := True) (tgt := 22) dX5_not_15 (by decide) (fun z => absurd z c5) (fun _ => ?_)
      refine cx_iconst (v := 1) dX5_not_18 rfl ?_
      refine cx_goto (tgt := 23) dX5_not_19 (by decide) ?_
      refine cx_iconst (v := 2) dX5_not_23 rfl ?_
      obtain ⟨u17, eu17, hl⟩ := xb hl
      obtain ⟨r16, er16, hl⟩ := xb hl
      rcases r16 with ⟨v18 | ⟨C21, q22⟩, h19⟩
      · dsimp only at hl
        refine cx_callV (Or.inl ⟨by decide, _, _, rfl⟩) (T_X5_want er16) lV_X5_133 C_X5_want dX5_not_24 eu17 (by decide) rfl (by omega) (Nat.le_of_ble_eq_true rfl) ?_
        obtain ⟨w23, ew23, hl⟩ := xb hl
        refine cx_iinc dX5_not_27 rfl (by decide) (Option.some.inj ew23) ?_
        refine cx_aload_n dX5_not_30 rfl rfl ?_
        obtain ⟨u25, eu25, hl⟩ := xb hl
        obtain ⟨r24, er24, hl⟩ := xb hl
        refine cx_callV (Or.inl ⟨by decide, _, _, rfl⟩) (T_X5_next er24) lV_X5_125 C_X5_next dX5_not_31 eu25 (by decide) rfl (by omega) (Nat.le_of_ble_eq_true rfl) ?_
        refine cx_goto (tgt := 2) dX5_not_34 (by decide) ?_
        cases hl
        exact cx_lsK hK ⟨rfl, rfl, rfl, trivial⟩
      · dsimp only at hl
        cases hl
        exact cx_callVx (Or.inl ⟨by decide, _, _, rfl⟩) (T_X5_want er16) lV_X5_133 C_X5_want dX5_not_24 eu17 (by decide) rfl (by omega) (Nat.le_of_ble_eq_true rfl) (ct_out hK.1 hK.2 (by decide))
set_option maxHeartbeats 4000000 in
theorem k_X5_not_L2_ok {l : Launch} {E : XEnv} {hf : XH} {res : XO} {dd : Nat} {ex : Nat → Int32 → XH → Option ((Nat ⊕ XX) × XH)} (hex : ∀ a b h r, ex a b h = some r → CM l E mX5_expression dd [.ref a, .int b] h (xrR r.1) r.2) {n : Nat} {x0 : Nat} {x1 : Int32} {h : XH} {s : Int32 × XH} {o : (Int32 × XH) ⊕ ((Nat ⊕ XX) × XH)} (hl : xloop (fun s => k_X5_not_L2 ex n E.2.2.2 x0 x1 s.1 s.2) n s = some o) (hK : K_X5_not_L2 l E hf res dd h x0 x1 o) : CX l E mX5_not (dd + 11) 2 [(0, .ref x0), (1, .int x1), (2, .int s.1)] [] s.2 hf res :=
  xloop_of (fun s : Int32 × XH => CX l E mX5_not (dd + 11) 2 [(0, .ref x0), (1, .int x1), (2, .int s.1)] [] s.2 hf res) (fun r => K_X5_not_L2 l E hf res dd h x0 x1 r) (fun s o hl hk => k_X5_not_L2_s hex (h := s.2) (o := o) hl hk) n s o hl hK
set_option maxHeartbeats 4000000 in
theorem k_X5_not_L94_s {l : Launch} {E : XEnv} {hf : XH} {res : XO} {dd : Nat} {ex : Nat → Int32 → XH → Option ((Nat ⊕ XX) × XH)} (hex : ∀ a b h r, ex a b h = some r → CM l E mX5_expression dd [.ref a, .int b] h (xrR r.1) r.2) {n : Nat} {x2 : Int32} {x4 : Nat} {x5 : Int32} {h : XH} {o : (Nat × Int32 × XH) ⊕ ((Nat × XH))} (hl : k_X5_not_L94 ex n E.2.2.2 x2 x4 x5 h = some o) (hK : (xk (fun s : Nat × Int32 × XH => CX l E mX5_not (dd + 11) 94 [(2, .int x2), (4, .ref s.1), (5, .int s.2.1)] [] s.2.2 hf res) (fun r => K_X5_not_L94 l E hf res dd h x2 r) o)) : CX l E mX5_not (dd + 11) 94 [(2, .int x2), (4, .ref x4), (5, .int x5)] [] h hf res := by
  unfold k_X5_not_L94 at hl
  refine cx_iload dX5_not_94 rfl ?_
  refine cx_iload_n dX5_not_96 rfl ?_
  by_cases c55 : x5 ≥ x2
  · rw [if_pos c55] at hl
    refine cx_icmp_ge (X := True) (tgt := 117) dX5_not_97 (by decide) (fun _ => ?_) (fun z => absurd c55 z)
    cases hl
    exact cx_lsK hK ⟨rfl, trivial⟩
  · rw [if_neg c55] at hl
    refine cx_icmp_ge (X := True) (tgt := 117) dX5_not_97 (by decide) (fun z => absurd z c55) (fun _ => ?_)
    obtain ⟨h56, eh56, hl⟩ := xb hl
    refine cx_new 1 nW_X5_188 dX5_not_100 (Option.some.inj eh56) ?_
    refine cx_dup dX5_not_103 rfl ?_
    refine cx_aload dX5_not_104 rfl rfl ?_
    obtain ⟨r57, er57, hl⟩ := xb hl
    refine cx_callI (T_X10_init er57) lI_X5_190 rfl C_X10_init dX5_not_106 rfl (by omega) (Nat.le_of_ble_eq_true rfl) ?_
    refine cx_astore dX5_not_109 (by decide) rfl ?_
    obtain ⟨w59, ew59, hl⟩ := xb hl
    refine cx_iinc dX5_not_111 rfl (by decide) (Option.some.inj ew59) ?_
    refine cx_goto (tgt := 94) dX5_not_114 (by decide) ?_
    cases hl
    exact cx_lsK hK ⟨rfl, rfl, rfl, trivial⟩
set_option maxHeartbeats 4000000 in
theorem k_X5_not_L94_ok {l : Launch} {E : XEnv} {hf : XH} {res : XO} {dd : Nat} {ex : Nat → Int32 → XH → Option ((Nat ⊕ XX) × XH)} (hex : ∀ a b h r, ex a b h = some r → CM l E mX5_expression dd [.ref a, .int b] h (xrR r.1) r.2) {n : Nat} {x2 : Int32} {h : XH} {s : Nat × Int32 × XH} {o : (Nat × XH)} (hl : xloop (fun s => k_X5_not_L94 ex n E.2.2.2 x2 s.1 s.2.1 s.2.2) n s = some o) (hK : K_X5_not_L94 l E hf res dd h x2 o) : CX l E mX5_not (dd + 11) 94 [(2, .int x2), (4, .ref s.1), (5, .int s.2.1)] [] s.2.2 hf res :=
  xloop_of (fun s : Nat × Int32 × XH => CX l E mX5_not (dd + 11) 94 [(2, .int x2), (4, .ref s.1), (5, .int s.2.1)] [] s.2.2 hf res) (fun r => K_X5_not_L94 l E hf res dd h x2 r) (fun s o hl hk => k_X5_not_L94_s hex (h := s.2.2) (o := o) hl hk) n s o hl hK
set_option maxHeartbeats 4000000 in
theorem k_X5_not_J68_s {l : Launch} {E : XEnv}  {dd : Nat} {ex : Nat → Int32 → XH → Option ((Nat ⊕ XX) × XH)} (hex : ∀ a b h r, ex a b h = some r → CM l E mX5_expression dd [.ref a, .int b] h (xrR r.1) r.2) {n : Nat} {x0 : Nat} {x1 : Int32} {x2 : Int32} {x3 : Nat} {h : XH} {r : (Nat ⊕ XX) × XH} (hl : k_X5_not_J68 ex n E.2.2.2 x0 x1 x2 x3 h = some r) : CX l E mX5_not (dd + 11) 68 [(0, .ref x0), (1, .int x1), (2, .int x2), (3, .ref x3)] [] h r.2 (xrR r.1) := by
  unfold k_X5_not_J68 at hl
  refine cx_aload_n dX5_not_68 rfl rfl ?_
  obtain ⟨u43, eu43, hl⟩ := xb hl
  obtain ⟨r42, er42, hl⟩ := xb hl
  refine cx_callV (Or.inl ⟨by decide, _, _, rfl⟩) (T_X5_sign er42) lV_X5_168 C_X5_sign dX5_not_69 eu43 (by decide) rfl (by omega) (Nat.le_of_ble_eq_true rfl) ?_
  refine cx_istore dX5_not_72 (by decide) ?_
  refine cx_aload_n dX5_not_74 rfl rfl ?_
  refine cx_iload dX5_not_75 rfl ?_
  refine cx_aload_n dX5_not_77 rfl rfl ?_
  refine cx_iload_n dX5_not_78 rfl ?_
  obtain ⟨u45, eu45, hl⟩ := xb hl
  obtain ⟨r44, er44, hl⟩ := xb hl
  rcases r44 with ⟨v46 | ⟨C49, q50⟩, h47⟩
  · dsimp only at hl
    refine cx_callV (Or.inl ⟨by decide, _, _, rfl⟩) (T_X5_sum hex er44) lV_X5_185 C_X5_sum dX5_not_79 eu45 (by decide) rfl (by omega) (Nat.le_of_ble_eq_true rfl) ?_
    obtain ⟨u52, eu52, hl⟩ := xb hl
    obtain ⟨r51, er51, hl⟩ := xb hl
    refine cx_callV (Or.inl ⟨by decide, _, _, rfl⟩) (T_X7_add er51) lV_X5_172 C_X7_add dX5_not_82 eu52 (by decide) rfl (by omega) (Nat.le_of_ble_eq_true rfl) ?_
    refine cx_aload_n dX5_not_85 rfl rfl ?_
    obtain ⟨u54, eu54, hl⟩ := xb hl
    obtain ⟨r53, er53, hl⟩ := xb hl
    refine cx_callV (Or.inl ⟨by decide, _, _, rfl⟩) (T_X7_plain er53) lV_X5_176 C_X7_plain dX5_not_86 eu54 (by decide) rfl (by omega) (Nat.le_of_ble_eq_true rfl) ?_
    refine cx_astore dX5_not_89 (by decide) rfl ?_
    refine cx_iconst (v := 0) dX5_not_91 rfl ?_
    refine cx_istore dX5_not_92 (by decide) ?_
    obtain ⟨o60, eo60, hl⟩ := xb hl
    refine cx_lsK (k_X5_not_L94_ok hex (h := r51) (s := (r53, 0, r51)) eo60 ?_) ⟨rfl, rfl, rfl, trivial⟩
    refine cx_aload dX5_not_117 rfl rfl ?_
    cases hl
    exact cx_aret dX5_not_119 rfl rfl (Or.inl ⟨_, rfl⟩) rfl rfl
  · dsimp only at hl
    cases hl
    exact cx_callVx (Or.inl ⟨by decide, _, _, rfl⟩) (T_X5_sum hex er44) lV_X5_185 C_X5_sum dX5_not_79 eu45 (by decide) rfl (by omega) (Nat.le_of_ble_eq_true rfl) (ct_out rfl rfl (by decide))
set_option maxHeartbeats 4000000 in
theorem T_X5_not {l : Launch} {E : XEnv}  {dd : Nat} {ex : Nat → Int32 → XH → Option ((Nat ⊕ XX) × XH)} (hex : ∀ a b h r, ex a b h = some r → CM l E mX5_expression dd [.ref a, .int b] h (xrR r.1) r.2) {n : Nat} {x0 : Nat} {x1 : Int32} {h : XH} {r : (Nat ⊕ XX) × XH} (hl : k_X5_not ex n E.2.2.2 x0 x1 h = some r) : CM l E mX5_not (dd + 11) [.ref x0, .int x1] h (xrR r.1) r.2 := by
  unfold k_X5_not at hl
  refine cm_of (by decide +kernel) rfl (Nat.le_of_ble_eq_true rfl) ?_
  refine cx_iconst (v := 0) dX5_not_0 rfl ?_
  refine cx_istore_n dX5_not_1 (by decide) ?_
  obtain ⟨o26, eo26, hl⟩ := xb hl
  rcases o26 with e27 | e28
  · dsimp only at hl
    refine cx_lsK (k_X5_not_L2_ok hex (h := h) (s := (0, h)) eo26 ?_) ⟨rfl, rfl, rfl, trivial⟩
    obtain ⟨h29, eh29, hl⟩ := xb hl
    refine cx_new 1 nW_X5_160 dX5_not_37 (Option.some.inj eh29) ?_
    refine cx_dup dX5_not_40 rfl ?_
    refine cx_aload_n dX5_not_41 rfl rfl ?_
    refine cx_iload_n dX5_not_42 rfl ?_
    obtain ⟨u31, eu31, hl⟩ := xb hl
    obtain ⟨r30, er30, hl⟩ := xb hl
    rcases r30 with ⟨v32 | ⟨C35, q36⟩, h33⟩
    · dsimp only at hl
      refine cx_callV (Or.inl ⟨by decide, _, _, rfl⟩) (T_X5_sum hex er30) lV_X5_185 C_X5_sum dX5_not_43 eu31 (by decide) rfl (by omega) (Nat.le_of_ble_eq_true rfl) ?_
      obtain ⟨r37, er37, hl⟩ := xb hl
      refine cx_callI (T_X7_init er37) lI_X5_165 rfl C_X7_init dX5_not_46 rfl (by omega) (Nat.le_of_ble_eq_true rfl) ?_
      refine cx_astore_n dX5_not_49 (by decide) rfl ?_
      refine cx_aload_n dX5_not_50 rfl rfl ?_
      refine cx_bipush (v := 60) dX5_not_51 (by decide) ?_
      obtain ⟨u40, eu40, hl⟩ := xb hl
      obtain ⟨r39, er39, hl⟩ := xb hl
      refine cx_callV (Or.inl ⟨by decide, _, _, rfl⟩) (T_X5_isSign er39) lV_X5_145 C_X5_isSign dX5_not_53 eu40 (by decide) rfl (by omega) (Nat.le_of_ble_eq_true rfl) ?_
      by_cases c41 : r39 = 0
      · rw [if_pos c41] at hl
        refine cx_if_ne (X := True) (tgt := 68) dX5_not_56 (by decide) (fun z => absurd c41 z) (fun _ => ?_)
        refine cx_aload_n dX5_not_59 rfl rfl ?_
        refine cx_bipush (v := 61) dX5_not_60 (by decide) ?_
        obtain ⟨u62, eu62, hl⟩ := xb hl
        obtain ⟨r61, er61, hl⟩ := xb hl
        refine cx_callV (Or.inl ⟨by decide, _, _, rfl⟩) (T_X5_isSign er61) lV_X5_145 C_X5_isSign dX5_not_62 eu62 (by decide) rfl (by omega) (Nat.le_of_ble_eq_true rfl) ?_
        by_cases c63 : r61 = 0
        · rw [if_pos c63] at hl
          refine cx_if_eq (X := True) (tgt := 85) dX5_not_65 (by decide) (fun _ => ?_) (fun z => absurd c63 z)
          refine cx_aload_n dX5_not_85 rfl rfl ?_
          obtain ⟨u65, eu65, hl⟩ := xb hl
          obtain ⟨r64, er64, hl⟩ := xb hl
          refine cx_callV (Or.inl ⟨by decide, _, _, rfl⟩) (T_X7_plain er64) lV_X5_176 C_X7_plain dX5_not_86 eu65 (by decide) rfl (by omega) (Nat.le_of_ble_eq_true rfl) ?_
          refine cx_astore dX5_not_89 (by decide) rfl ?_
          refine cx_iconst (v := 0) dX5_not_91 rfl ?_
          refine cx_istore dX5_not_92 (by decide) ?_
          obtain ⟨o66, eo66, hl⟩ := xb hl
          refine cx_lsK (k_X5_not_L94_ok hex (h := r37) (s := (r64, 0, r37)) eo66 ?_) ⟨rfl, rfl, rfl, trivial⟩
          refine cx_aload dX5_not_117 rfl rfl ?_
          cases hl
          exact cx_aret dX5_not_119 rfl rfl (Or.inl ⟨_, rfl⟩) rfl rfl
        · rw [if_neg c63] at hl
          refine cx_if_eq (X := True) (tgt := 85) dX5_not_65 (by decide) (fun z => absurd z c63) (fun _ => ?_)
          exact cx_lsK (k_X5_not_J68_s hex hl) ⟨rfl, rfl, rfl, rfl, trivial⟩
      · rw [if_neg c41] at hl
        refine cx_if_ne (X := True) (tgt := 68) dX5_not_56 (by decide) (fun _ => ?_) (fun z => absurd z c41)
        exact cx_lsK (k_X5_not_J68_s hex hl) ⟨rfl, rfl, rfl, rfl, trivial⟩
    · dsimp only at hl
      cases hl
      exact cx_callVx (Or.inl ⟨by decide, _, _, rfl⟩) (T_X5_sum hex er30) lV_X5_185 C_X5_sum dX5_not_43 eu31 (by decide) rfl (by omega) (Nat.le_of_ble_eq_true rfl) (ct_out rfl rfl (by decide))
  · dsimp only at hl
    refine cx_lsK (k_X5_not_L2_ok hex (h := h) (s := (0, h)) eo26 ?_) ⟨rfl, rfl, rfl, trivial⟩
    cases hl
    exact ⟨rfl, rfl⟩
def k_X5_passes (n : Nat) (c : Nat → Value) (x0 : Nat) (x1 : Nat) (h : XH) : Option (Int32 × XH) := (ckd h x0 4).bind fun u2 => (k_X5_is n c x0 x1 h).bind fun r1 => if r1 = 0 then (tz r1).bind fun z4 => some (z4, h) else (ckd h x0 4).bind fun u6 => (k_X5_next n c x0 h).bind fun r5 => (tz r1).bind fun z7 => some (z7, r5)
set_option maxHeartbeats 4000000 in
theorem T_X5_passes {l : Launch} {E : XEnv}  {n : Nat} {x0 : Nat} {x1 : Nat} {h : XH} {r : Int32 × XH} (hl : k_X5_passes n E.2.2.2 x0 x1 h = some r) : CM l E mX5_passes 6 [.ref x0, .ref x1] h (.inl (some (.int r.1))) r.2 := by
  unfold k_X5_passes at hl
  refine cm_of (by decide +kernel) rfl (Nat.le_of_ble_eq_true rfl) ?_
  refine cx_aload_n dX5_passes_0 rfl rfl ?_
  refine cx_aload_n dX5_passes_1 rfl rfl ?_
  obtain ⟨u2, eu2, hl⟩ := xb hl
  obtain ⟨r1, er1, hl⟩ := xb hl
  refine cx_callV (Or.inl ⟨by decide, _, _, rfl⟩) (T_X5_is er1) lV_X5_121 C_X5_is dX5_passes_2 eu2 (by decide) rfl (by omega) (Nat.le_of_ble_eq_true rfl) ?_
  refine cx_istore_n dX5_passes_5 (by decide) ?_
  refine cx_iload_n dX5_passes_6 rfl ?_
  by_cases c3 : r1 = 0
  · rw [if_pos c3] at hl
    refine cx_if_eq (X := True) (tgt := 14) dX5_passes_7 (by decide) (fun _ => ?_) (fun z => absurd c3 z)
    refine cx_iload_n dX5_passes_14 rfl ?_
    obtain ⟨z4, ez4, hl⟩ := xb hl
    refine cx_top (tz_eq ez4).1 ?_
    cases hl
    exact cx_iret dX5_passes_15 rfl (tz_eq ez4).2 rfl rfl
  · rw [if_neg c3] at hl
    refine cx_if_eq (X := True) (tgt := 14) dX5_passes_7 (by decide) (fun z => absurd z c3) (fun _ => ?_)
    refine cx_aload_n dX5_passes_10 rfl rfl ?_
    obtain ⟨u6, eu6, hl⟩ := xb hl
    obtain ⟨r5, er5, hl⟩ := xb hl
    refine cx_callV (Or.inl ⟨by decide, _, _, rfl⟩) (T_X5_next er5) lV_X5_125 C_X5_next dX5_passes_11 eu6 (by decide) rfl (by omega) (Nat.le_of_ble_eq_true rfl) ?_
    refine cx_iload_n dX5_passes_14 rfl ?_
    obtain ⟨z7, ez7, hl⟩ := xb hl
    refine cx_top (tz_eq ez7).1 ?_
    cases hl
    exact cx_iret dX5_passes_15 rfl (tz_eq ez7).2 rfl rfl
def k_X5_and_L13 (ex : Nat → Int32 → XH → Option ((Nat ⊕ XX) × XH)) (n : Nat) (c : Nat → Value) (x0 : Nat) (x1 : Int32) (x2 : Nat) (h : XH) : Option ((XH) ⊕ ((XH) ⊕ ((Nat ⊕ XX) × XH))) := (vR (c 11)).bind fun v11 => (ckd h x0 4).bind fun u13 => (k_X5_passes n c x0 v11 h).bind fun r12 => if r12.1 = 0 then some (.inr (.inl r12.2)) else (ckd r12.2 x0 4).bind fun u16 => (k_X5_not ex n c x0 x1 r12.2).bind fun r15 => match r15 with | (.inl v17, h18) => ((ckd h18 x2 6).bind fun u23 => (k_X7_add c x2 38 v17 h18).bind fun r22 => some (.inl r22)) | (.inr e19, h18) => (some (.inr (.inr (.inr e19, h18))))
abbrev K_X5_and_L13 (l : Launch) (E : XEnv) (hf : XH) (res : XO) (dd : Nat) (h : XH) (x0 : Nat) (x1 : Int32) (x2 : Nat) (o : (XH) ⊕ ((Nat ⊕ XX) × XH)) : Prop := match o with
  | .inl e => CX l E mX5_and (dd + 12) 36 [(2, .ref x2)] [] e hf res
  | .inr e => (xrR e.1 = res ∧ e.2 = hf)
def k_X5_and (ex : Nat → Int32 → XH → Option ((Nat ⊕ XX) × XH)) (n : Nat) (c : Nat → Value) (x0 : Nat) (x1 : Int32) (h : XH) : Option ((Nat ⊕ XX) × XH) := (some (xnew h 6 2 1 2 (fun j => defaultValue (tyX7 j)))).bind fun h1 => (ckd h1 x0 4).bind fun u3 => (k_X5_not ex n c x0 x1 h1).bind fun r2 => match r2 with | (.inl v4, h5) => ((k_X7_init c h.2.2.1 v4 h5).bind fun r9 => (xloop (fun s => k_X5_and_L13 ex n c x0 x1 h.2.2.1 s) n r9).bind fun o24 => match o24 with | .inl e25 => ((ckd e25 h.2.2.1 6).bind fun u28 => (k_X7_plain h.2.2.1 e25).bind fun r27 => some (.inl r27, e25)) | .inr e26 => (some e26)) | (.inr e6, h5) => (some (.inr e6, h5))
set_option maxHeartbeats 4000000 in
theorem k_X5_and_L13_s {l : Launch} {E : XEnv} {hf : XH} {res : XO} {dd : Nat} {ex : Nat → Int32 → XH → Option ((Nat ⊕ XX) × XH)} (hex : ∀ a b h r, ex a b h = some r → CM l E mX5_expression dd [.ref a, .int b] h (xrR r.1) r.2) {n : Nat} {x0 : Nat} {x1 : Int32} {x2 : Nat} {h : XH} {o : (XH) ⊕ ((XH) ⊕ ((Nat ⊕ XX) × XH))} (hl : k_X5_and_L13 ex n E.2.2.2 x0 x1 x2 h = some o) (hK : (xk (fun s : XH => CX l E mX5_and (dd + 12) 13 [(0, .ref x0), (1, .int x1), (2, .ref x2)] [] s hf res) (fun r => K_X5_and_L13 l E hf res dd h x0 x1 x2 r) o)) : CX l E mX5_and (dd + 12) 13 [(0, .ref x0), (1, .int x1), (2, .ref x2)] [] h hf res := by
  unfold k_X5_and_L13 at hl
  refine cx_aload_n dX5_and_13 rfl rfl ?_
  obtain ⟨v11, ev11, hl⟩ := xb hl
  refine cx_ldcS (i := 11) rfl dX5_and_14 ev11 ?_
  obtain ⟨u13, eu13, hl⟩ := xb hl
  obtain ⟨r12, er12, hl⟩ := xb hl
  refine cx_callV (Or.inl ⟨by decide, _, _, rfl⟩) (T_X5_passes er12) lV_X5_195 C_X5_passes dX5_and_16 eu13 (by decide) rfl (by omega) (Nat.le_of_ble_eq_true rfl) ?_
  by_cases c14 : r12.1 = 0
  · rw [if_pos c14] at hl
    refine cx_if_eq (X := True) (tgt := 36) dX5_and_19 (by decide) (fun _ => ?_) (fun z => absurd c14 z)
    cases hl
    exact cx_lsK hK ⟨rfl, trivial⟩
  · rw [if_neg c14] at hl
    refine cx_if_eq (X := True) (tgt := 36) dX5_and_19 (by decide) (fun z => absurd z c14) (fun _ => ?_)
    refine cx_aload_n dX5_and_22 rfl rfl ?_
    refine cx_bipush (v := 38) dX5_and_23 (by decide) ?_
    refine cx_aload_n dX5_and_25 rfl rfl ?_
    refine cx_iload_n dX5_and_26 rfl ?_
    obtain ⟨u16, eu16, hl⟩ := xb hl
    obtain ⟨r15, er15, hl⟩ := xb hl
    rcases r15 with ⟨v17 | ⟨C20, q21⟩, h18⟩
    · dsimp only at hl
      refine cx_callV (Or.inl ⟨by decide, _, _, rfl⟩) (T_X5_not hex er15) lV_X5_191 C_X5_not dX5_and_27 eu16 (by decide) rfl (by omega) (Nat.le_of_ble_eq_true rfl) ?_
      obtain ⟨u23, eu23, hl⟩ := xb hl
      obtain ⟨r22, er22, hl⟩ := xb hl
      refine cx_callV (Or.inl ⟨by decide, _, _, rfl⟩) (T_X7_add er22) lV_X5_172 C_X7_add dX5_and_30 eu23 (by decide) rfl (by omega) (Nat.le_of_ble_eq_true rfl) ?_
      refine cx_goto (tgt := 13) dX5_and_33 (by decide) ?_
      cases hl
      exact cx_lsK hK ⟨rfl, rfl, rfl, trivial⟩
    · dsimp only at hl
      cases hl
      exact cx_callVx (Or.inl ⟨by decide, _, _, rfl⟩) (T_X5_not hex er15) lV_X5_191 C_X5_not dX5_and_27 eu16 (by decide) rfl (by omega) (Nat.le_of_ble_eq_true rfl) (ct_out hK.1 hK.2 (by decide))
set_option maxHeartbeats 4000000 in
theorem k_X5_and_L13_ok {l : Launch} {E : XEnv} {hf : XH} {res : XO} {dd : Nat} {ex : Nat → Int32 → XH → Option ((Nat ⊕ XX) × XH)} (hex : ∀ a b h r, ex a b h = some r → CM l E mX5_expression dd [.ref a, .int b] h (xrR r.1) r.2) {n : Nat} {x0 : Nat} {x1 : Int32} {x2 : Nat} {h : XH} {s : XH} {o : (XH) ⊕ ((Nat ⊕ XX) × XH)} (hl : xloop (fun s => k_X5_and_L13 ex n E.2.2.2 x0 x1 x2 s) n s = some o) (hK : K_X5_and_L13 l E hf res dd h x0 x1 x2 o) : CX l E mX5_and (dd + 12) 13 [(0, .ref x0), (1, .int x1), (2, .ref x2)] [] s hf res :=
  xloop_of (fun s : XH => CX l E mX5_and (dd + 12) 13 [(0, .ref x0), (1, .int x1), (2, .ref x2)] [] s hf res) (fun r => K_X5_and_L13 l E hf res dd h x0 x1 x2 r) (fun s o hl hk => k_X5_and_L13_s hex (h := s) (o := o) hl hk) n s o hl hK
set_option maxHeartbeats 4000000 in
theorem T_X5_and {l : Launch} {E : XEnv}  {dd : Nat} {ex : Nat → Int32 → XH → Option ((Nat ⊕ XX) × XH)} (hex : ∀ a b h r, ex a b h = some r → CM l E mX5_expression dd [.ref a, .int b] h (xrR r.1) r.2) {n : Nat} {x0 : Nat} {x1 : Int32} {h : XH} {r : (Nat ⊕ XX) × XH} (hl : k_X5_and ex n E.2.2.2 x0 x1 h = some r) : CM l E mX5_and (dd + 12) [.ref x0, .int x1] h (xrR r.1) r.2 := by
  unfold k_X5_and at hl
  refine cm_of (by decide +kernel) rfl (Nat.le_of_ble_eq_true rfl) ?_
  obtain ⟨h1, eh1, hl⟩ := xb hl
  refine cx_new 1 nW_X5_160 dX5_and_0 (Option.some.inj eh1) ?_
  refine cx_dup dX5_and_3 rfl ?_
  refine cx_aload_n dX5_and_4 rfl rfl ?_
  refine cx_iload_n dX5_and_5 rfl ?_
  obtain ⟨u3, eu3, hl⟩ := xb hl
  obtain ⟨r2, er2, hl⟩ := xb hl
  rcases r2 with ⟨v4 | ⟨C7, q8⟩, h5⟩
  · dsimp only at hl
    refine cx_callV (Or.inl ⟨by decide, _, _, rfl⟩) (T_X5_not hex er2) lV_X5_191 C_X5_not dX5_and_6 eu3 (by decide) rfl (by omega) (Nat.le_of_ble_eq_true rfl) ?_
    obtain ⟨r9, er9, hl⟩ := xb hl
    refine cx_callI (T_X7_init er9) lI_X5_165 rfl C_X7_init dX5_and_9 rfl (by omega) (Nat.le_of_ble_eq_true rfl) ?_
    refine cx_astore_n dX5_and_12 (by decide) rfl ?_
    obtain ⟨o24, eo24, hl⟩ := xb hl
    rcases o24 with e25 | e26
    · dsimp only at hl
      refine cx_lsK (k_X5_and_L13_ok hex (h := r9) (s := r9) eo24 ?_) ⟨rfl, rfl, rfl, trivial⟩
      refine cx_aload_n dX5_and_36 rfl rfl ?_
      obtain ⟨u28, eu28, hl⟩ := xb hl
      obtain ⟨r27, er27, hl⟩ := xb hl
      refine cx_callV (Or.inl ⟨by decide, _, _, rfl⟩) (T_X7_plain er27) lV_X5_176 C_X7_plain dX5_and_37 eu28 (by decide) rfl (by omega) (Nat.le_of_ble_eq_true rfl) ?_
      cases hl
      exact cx_aret dX5_and_40 rfl rfl (Or.inl ⟨_, rfl⟩) rfl rfl
    · dsimp only at hl
      refine cx_lsK (k_X5_and_L13_ok hex (h := r9) (s := r9) eo24 ?_) ⟨rfl, rfl, rfl, trivial⟩
      cases hl
      exact ⟨rfl, rfl⟩
  · dsimp only at hl
    cases hl
    exact cx_callVx (Or.inl ⟨by decide, _, _, rfl⟩) (T_X5_not hex er2) lV_X5_191 C_X5_not dX5_and_6 eu3 (by decide) rfl (by omega) (Nat.le_of_ble_eq_true rfl) (ct_out rfl rfl (by decide))
def k_X5_expression_L64 (ex : Nat → Int32 → XH → Option ((Nat ⊕ XX) × XH)) (n : Nat) (c : Nat → Value) (x0 : Nat) (x1 : Int32) (x2 : Nat) (h : XH) : Option ((XH) ⊕ ((XH) ⊕ ((Nat ⊕ XX) × XH))) := (vR (c 12)).bind fun v28 => (ckd h x0 4).bind fun u30 => (k_X5_passes n c x0 v28 h).bind fun r29 => if r29.1 = 0 then some (.inr (.inl r29.2)) else (ckd r29.2 x0 4).bind fun u33 => (k_X5_and ex n c x0 x1 r29.2).bind fun r32 => match r32 with | (.inl v34, h35) => ((ckd h35 x2 6).bind fun u40 => (k_X7_add c x2 124 v34 h35).bind fun r39 => some (.inl r39)) | (.inr e36, h35) => (some (.inr (.inr (.inr e36, h35))))
abbrev K_X5_expression_L64 (l : Launch) (E : XEnv) (hf : XH) (res : XO) (dd : Nat) (h : XH) (x0 : Nat) (x1 : Int32) (x2 : Nat) (o : (XH) ⊕ ((Nat ⊕ XX) × XH)) : Prop := match o with
  | .inl e => CX l E mX5_expression (dd + 13) 87 [(2, .ref x2)] [] e hf res
  | .inr e => (xrR e.1 = res ∧ e.2 = hf)
def k_X5_expression_J47 (ex : Nat → Int32 → XH → Option ((Nat ⊕ XX) × XH)) (n : Nat) (c : Nat → Value) (x0 : Nat) (x1 : Int32) (y0 : Int32) (y1 : Nat) (h : XH) : Option ((Nat ⊕ XX) × XH) := (ckd h y1 4).bind fun u12 => (k_X5_want c y1 y0 2 h).bind fun r11 => match r11 with | (.inl v13, h14) => ((some (xnew h14 6 2 1 2 (fun j => defaultValue (tyX7 j)))).bind fun h18 => (ckd h18 x0 4).bind fun u20 => (k_X5_and ex n c x0 x1 h18).bind fun r19 => match r19 with | (.inl v21, h22) => ((k_X7_init c h14.2.2.1 v21 h22).bind fun r26 => (xloop (fun s => k_X5_expression_L64 ex n c x0 x1 h14.2.2.1 s) n r26).bind fun o41 => match o41 with | .inl e42 => ((ckd e42 h14.2.2.1 6).bind fun u45 => (k_X7_plain h14.2.2.1 e42).bind fun r44 => some (.inl r44, e42)) | .inr e43 => (some e43)) | (.inr e23, h22) => (some (.inr e23, h22))) | (.inr e15, h14) => (some (.inr e15, h14))
def k_X5_expression_J31 (ex : Nat → Int32 → XH → Option ((Nat ⊕ XX) × XH)) (n : Nat) (c : Nat → Value) (x0 : Nat) (x1 : Int32) (y0 : Int32) (y1 : Nat) (h : XH) : Option ((Nat ⊕ XX) × XH) := (ckd h y1 4).bind fun u4 => (k_X5_want c y1 y0 1 h).bind fun r3 => match r3 with | (.inl v5, h6) => (if x1 ≥ 6 then k_X5_expression_J47 ex n c x0 x1 0 x0 h6 else k_X5_expression_J47 ex n c x0 x1 1 x0 h6) | (.inr e7, h6) => (some (.inr e7, h6))
def k_X5_expression_J26 (ex : Nat → Int32 → XH → Option ((Nat ⊕ XX) × XH)) (n : Nat) (c : Nat → Value) (x0 : Nat) (x1 : Int32) (y0 : Nat) (h : XH) : Option ((Nat ⊕ XX) × XH) := k_X5_expression_J31 ex n c x0 x1 1 y0 h
def k_X5_expression (ex : Nat → Int32 → XH → Option ((Nat ⊕ XX) × XH)) (n : Nat) (c : Nat → Value) (x0 : Nat) (x1 : Int32) (h : XH) : Option ((Nat ⊕ XX) × XH) := (cgI h x0 4 8).bind fun v1 => if v1 = 2 then k_X5_expression_J26 ex n c x0 x1 x0 h else (cgI h x0 4 8).bind fun v46 => if v46 = 1 then k_X5_expression_J26 ex n c x0 x1 x0 h else (ckd h x0 4).bind fun u49 => (k_X5_isSign x0 40 h).bind fun r48 => if r48 = 0 then k_X5_expression_J31 ex n c x0 x1 0 x0 h else k_X5_expression_J26 ex n c x0 x1 x0 h
set_option maxHeartbeats 4000000 in
theorem k_X5_expression_L64_s {l : Launch} {E : XEnv} {hf : XH} {res : XO} {dd : Nat} {ex : Nat → Int32 → XH → Option ((Nat ⊕ XX) × XH)} (hex : ∀ a b h r, ex a b h = some r → CM l E mX5_expression dd [.ref a, .int b] h (xrR r.1) r.2) {n : Nat} {x0 : Nat} {x1 : Int32} {x2 : Nat} {h : XH} {o : (XH) ⊕ ((XH) ⊕ ((Nat ⊕ XX) × XH))} (hl : k_X5_expression_L64 ex n E.2.2.2 x0 x1 x2 h = some o) (hK : (xk (fun s : XH => CX l E mX5_expression (dd + 13) 64 [(0, .ref x0), (1, .int x1), (2, .ref x2)] [] s hf res) (fun r => K_X5_expression_L64 l E hf res dd h x0 x1 x2 r) o)) : CX l E mX5_expression (dd + 13) 64 [(0, .ref x0), (1, .int x1), (2, .ref x2)] [] h hf res := by
  unfold k_X5_expression_L64 at hl
  refine cx_aload_n dX5_expression_64 rfl rfl ?_
  obtain ⟨v28, ev28, hl⟩ := xb hl
  refine cx_ldcS (i := 12) rfl dX5_expression_65 ev28 ?_
  obtain ⟨u30, eu30, hl⟩ := xb hl
  obtain ⟨r29, er29, hl⟩ := xb hl
  refine cx_callV (Or.inl ⟨by decide, _, _, rfl⟩) (T_X5_passes er29) lV_X5_195 C_X5_passes dX5_expression_67 eu30 (by decide) rfl (by omega) (Nat.le_of_ble_eq_true rfl) ?_
  by_cases c31 : r29.1 = 0
  · rw [if_pos c31] at hl
    refine cx_if_eq (X := True) (tgt := 87) dX5_expression_70 (by decide) (fun _ => ?_) (fun z => absurd c31 z)
    cases hl
    exact cx_lsK hK ⟨rfl, trivial⟩
  · rw [if_neg c31] at hl
    refine cx_if_eq (X := True) (tgt := 87) dX5_expression_70 (by decide) (fun z => absurd z c31) (fun _ => ?_)
    refine cx_aload_n dX5_expression_73 rfl rfl ?_
    refine cx_bipush (v := 124) dX5_expression_74 (by decide) ?_
    refine cx_aload_n dX5_expression_76 rfl rfl ?_
    refine cx_iload_n dX5_expression_77 rfl ?_
    obtain ⟨u33, eu33, hl⟩ := xb hl
    obtain ⟨r32, er32, hl⟩ := xb hl
    rcases r32 with ⟨v34 | ⟨C37, q38⟩, h35⟩
    · dsimp only at hl
      refine cx_callV (Or.inl ⟨by decide, _, _, rfl⟩) (T_X5_and hex er32) lV_X5_198 C_X5_and dX5_expression_78 eu33 (by decide) rfl (by omega) (Nat.le_of_ble_eq_true rfl) ?_
      obtain ⟨u40, eu40, hl⟩ := xb hl
      obtain ⟨r39, er39, hl⟩ := xb hl
      refine cx_callV (Or.inl ⟨by decide, _, _, rfl⟩) (T_X7_add er39) lV_X5_172 C_X7_add dX5_expression_81 eu40 (by decide) rfl (by omega) (Nat.le_of_ble_eq_true rfl) ?_
      refine cx_goto (tgt := 64) dX5_expression_84 (by decide) ?_
      cases hl
      exact cx_lsK hK ⟨rfl, rfl, rfl, trivial⟩
    · dsimp only at hl
      cases hl
      exact cx_callVx (Or.inl ⟨by decide, _, _, rfl⟩) (T_X5_and hex er32) lV_X5_198 C_X5_and dX5_expression_78 eu33 (by decide) rfl (by omega) (Nat.le_of_ble_eq_true rfl) (ct_out hK.1 hK.2 (by decide))
set_option maxHeartbeats 4000000 in
theorem k_X5_expression_L64_ok {l : Launch} {E : XEnv} {hf : XH} {res : XO} {dd : Nat} {ex : Nat → Int32 → XH → Option ((Nat ⊕ XX) × XH)} (hex : ∀ a b h r, ex a b h = some r → CM l E mX5_expression dd [.ref a, .int b] h (xrR r.1) r.2) {n : Nat} {x0 : Nat} {x1 : Int32} {x2 : Nat} {h : XH} {s : XH} {o : (XH) ⊕ ((Nat ⊕ XX) × XH)} (hl : xloop (fun s => k_X5_expression_L64 ex n E.2.2.2 x0 x1 x2 s) n s = some o) (hK : K_X5_expression_L64 l E hf res dd h x0 x1 x2 o) : CX l E mX5_expression (dd + 13) 64 [(0, .ref x0), (1, .int x1), (2, .ref x2)] [] s hf res :=
  xloop_of (fun s : XH => CX l E mX5_expression (dd + 13) 64 [(0, .ref x0), (1, .int x1), (2, .ref x2)] [] s hf res) (fun r => K_X5_expression_L64 l E hf res dd h x0 x1 x2 r) (fun s o hl hk => k_X5_expression_L64_s hex (h := s) (o := o) hl hk) n s o hl hK
set_option maxHeartbeats 4000000 in
theorem k_X5_expression_J47_s {l : Launch} {E : XEnv}  {dd : Nat} {ex : Nat → Int32 → XH → Option ((Nat ⊕ XX) × XH)} (hex : ∀ a b h r, ex a b h = some r → CM l E mX5_expression dd [.ref a, .int b] h (xrR r.1) r.2) {n : Nat} {x0 : Nat} {x1 : Int32} {y0 : Int32} {y1 : Nat} {h : XH} {r : (Nat ⊕ XX) × XH} (hl : k_X5_expression_J47 ex n E.2.2.2 x0 x1 y0 y1 h = some r) : CX l E mX5_expression (dd + 13) 47 [(0, .ref x0), (1, .int x1)] [.int y0, .ref y1] h r.2 (xrR r.1) := by
  unfold k_X5_expression_J47 at hl
  refine cx_iconst (v := 2) dX5_expression_47 rfl ?_
  obtain ⟨u12, eu12, hl⟩ := xb hl
  obtain ⟨r11, er11, hl⟩ := xb hl
  rcases r11 with ⟨v13 | ⟨C16, q17⟩, h14⟩
  · dsimp only at hl
    refine cx_callV (Or.inl ⟨by decide, _, _, rfl⟩) (T_X5_want er11) lV_X5_133 C_X5_want dX5_expression_48 eu12 (by decide) rfl (by omega) (Nat.le_of_ble_eq_true rfl) ?_
    obtain ⟨h18, eh18, hl⟩ := xb hl
    refine cx_new 1 nW_X5_160 dX5_expression_51 (Option.some.inj eh18) ?_
    refine cx_dup dX5_expression_54 rfl ?_
    refine cx_aload_n dX5_expression_55 rfl rfl ?_
    refine cx_iload_n dX5_expression_56 rfl ?_
    obtain ⟨u20, eu20, hl⟩ := xb hl
    obtain ⟨r19, er19, hl⟩ := xb hl
    rcases r19 with ⟨v21 | ⟨C24, q25⟩, h22⟩
    · dsimp only at hl
      refine cx_callV (Or.inl ⟨by decide, _, _, rfl⟩) (T_X5_and hex er19) lV_X5_198 C_X5_and dX5_expression_57 eu20 (by decide) rfl (by omega) (Nat.le_of_ble_eq_true rfl) ?_
      obtain ⟨r26, er26, hl⟩ := xb hl
      refine cx_callI (T_X7_init er26) lI_X5_165 rfl C_X7_init dX5_expression_60 rfl (by omega) (Nat.le_of_ble_eq_true rfl) ?_
      refine cx_astore_n dX5_expression_63 (by decide) rfl ?_
      obtain ⟨o41, eo41, hl⟩ := xb hl
      rcases o41 with e42 | e43
      · dsimp only at hl
        refine cx_lsK (k_X5_expression_L64_ok hex (h := r26) (s := r26) eo41 ?_) ⟨rfl, rfl, rfl, trivial⟩
        refine cx_aload_n dX5_expression_87 rfl rfl ?_
        obtain ⟨u45, eu45, hl⟩ := xb hl
        obtain ⟨r44, er44, hl⟩ := xb hl
        refine cx_callV (Or.inl ⟨by decide, _, _, rfl⟩) (T_X7_plain er44) lV_X5_176 C_X7_plain dX5_expression_88 eu45 (by decide) rfl (by omega) (Nat.le_of_ble_eq_true rfl) ?_
        cases hl
        exact cx_aret dX5_expression_91 rfl rfl (Or.inl ⟨_, rfl⟩) rfl rfl
      · dsimp only at hl
        refine cx_lsK (k_X5_expression_L64_ok hex (h := r26) (s := r26) eo41 ?_) ⟨rfl, rfl, rfl, trivial⟩
        cases hl
        exact ⟨rfl, rfl⟩
    · dsimp only at hl
      cases hl
      exact cx_callVx (Or.inl ⟨by decide, _, _, rfl⟩) (T_X5_and hex er19) lV_X5_198 C_X5_and dX5_expression_57 eu20 (by decide) rfl (by omega) (Nat.le_of_ble_eq_true rfl) (ct_out rfl rfl (by decide))
  · dsimp only at hl
    cases hl
    exact cx_callVx (Or.inl ⟨by decide, _, _, rfl⟩) (T_X5_want er11) lV_X5_133 C_X5_want dX5_expression_48 eu12 (by decide) rfl (by omega) (Nat.le_of_ble_eq_true rfl) (ct_out rfl rfl (by decide))
set_option maxHeartbeats 4000000 in
theorem k_X5_expression_J31_s {l : Launch} {E : XEnv}  {dd : Nat} {ex : Nat → Int32 → XH → Option ((Nat ⊕ XX) × XH)} (hex : ∀ a b h r, ex a b h = some r → CM l E mX5_expression dd [.ref a, .int b] h (xrR r.1) r.2) {n : Nat} {x0 : Nat} {x1 : Int32} {y0 : Int32} {y1 : Nat} {h : XH} {r : (Nat ⊕ XX) × XH} (hl : k_X5_expression_J31 ex n E.2.2.2 x0 x1 y0 y1 h = some r) : CX l E mX5_expression (dd + 13) 31 [(0, .ref x0), (1, .int x1)] [.int y0, .ref y1] h r.2 (xrR r.1) := by
  unfold k_X5_expression_J31 at hl
  refine cx_iconst (v := 1) dX5_expression_31 rfl ?_
  obtain ⟨u4, eu4, hl⟩ := xb hl
  obtain ⟨r3, er3, hl⟩ := xb hl
  rcases r3 with ⟨v5 | ⟨C8, q9⟩, h6⟩
  · dsimp only at hl
    refine cx_callV (Or.inl ⟨by decide, _, _, rfl⟩) (T_X5_want er3) lV_X5_133 C_X5_want dX5_expression_32 eu4 (by decide) rfl (by omega) (Nat.le_of_ble_eq_true rfl) ?_
    refine cx_aload_n dX5_expression_35 rfl rfl ?_
    refine cx_iload_n dX5_expression_36 rfl ?_
    refine cx_bipush (v := 6) dX5_expression_37 (by decide) ?_
    by_cases c10 : x1 ≥ 6
    · rw [if_pos c10] at hl
      refine cx_icmp_ge (X := True) (tgt := 46) dX5_expression_39 (by decide) (fun _ => ?_) (fun z => absurd c10 z)
      refine cx_iconst (v := 0) dX5_expression_46 rfl ?_
      exact cx_lsK (k_X5_expression_J47_s hex hl) ⟨rfl, rfl, trivial⟩
    · rw [if_neg c10] at hl
      refine cx_icmp_ge (X := True) (tgt := 46) dX5_expression_39 (by decide) (fun z => absurd z c10) (fun _ => ?_)
      refine cx_iconst (v := 1) dX5_expression_42 rfl ?_
      refine cx_goto (tgt := 47) dX5_expression_43 (by decide) ?_
      exact cx_lsK (k_X5_expression_J47_s hex hl) ⟨rfl, rfl, trivial⟩
  · dsimp only at hl
    cases hl
    exact cx_callVx (Or.inl ⟨by decide, _, _, rfl⟩) (T_X5_want er3) lV_X5_133 C_X5_want dX5_expression_32 eu4 (by decide) rfl (by omega) (Nat.le_of_ble_eq_true rfl) (ct_out rfl rfl (by decide))
set_option maxHeartbeats 4000000 in
theorem k_X5_expression_J26_s {l : Launch} {E : XEnv}  {dd : Nat} {ex : Nat → Int32 → XH → Option ((Nat ⊕ XX) × XH)} (hex : ∀ a b h r, ex a b h = some r → CM l E mX5_expression dd [.ref a, .int b] h (xrR r.1) r.2) {n : Nat} {x0 : Nat} {x1 : Int32} {y0 : Nat} {h : XH} {r : (Nat ⊕ XX) × XH} (hl : k_X5_expression_J26 ex n E.2.2.2 x0 x1 y0 h = some r) : CX l E mX5_expression (dd + 13) 26 [(0, .ref x0), (1, .int x1)] [.ref y0] h r.2 (xrR r.1) := by
  unfold k_X5_expression_J26 at hl
  refine cx_iconst (v := 1) dX5_expression_26 rfl ?_
  refine cx_goto (tgt := 31) dX5_expression_27 (by decide) ?_
  exact cx_lsK (k_X5_expression_J31_s hex hl) ⟨rfl, rfl, trivial⟩
set_option maxHeartbeats 4000000 in
theorem T_X5_expression {l : Launch} {E : XEnv}  {dd : Nat} {ex : Nat → Int32 → XH → Option ((Nat ⊕ XX) × XH)} (hex : ∀ a b h r, ex a b h = some r → CM l E mX5_expression dd [.ref a, .int b] h (xrR r.1) r.2) {n : Nat} {x0 : Nat} {x1 : Int32} {h : XH} {r : (Nat ⊕ XX) × XH} (hl : k_X5_expression ex n E.2.2.2 x0 x1 h = some r) : CM l E mX5_expression (dd + 13) [.ref x0, .int x1] h (xrR r.1) r.2 := by
  unfold k_X5_expression at hl
  refine cm_of (by decide +kernel) rfl (Nat.le_of_ble_eq_true rfl) ?_
  refine cx_aload_n dX5_expression_0 rfl rfl ?_
  refine cx_aload_n dX5_expression_1 rfl rfl ?_
  obtain ⟨v1, ev1, hl⟩ := xb hl
  refine cx_getI gF_X5_85 dX5_expression_2 ev1 ?_
  refine cx_iconst (v := 2) dX5_expression_5 rfl ?_
  by_cases c2 : v1 = 2
  · rw [if_pos c2] at hl
    refine cx_icmp_eq (X := True) (tgt := 26) dX5_expression_6 (by decide) (fun _ => ?_) (fun z => absurd c2 z)
    exact cx_lsK (k_X5_expression_J26_s hex hl) ⟨rfl, rfl, trivial⟩
  · rw [if_neg c2] at hl
    refine cx_icmp_eq (X := True) (tgt := 26) dX5_expression_6 (by decide) (fun z => absurd z c2) (fun _ => ?_)
    refine cx_aload_n dX5_expression_9 rfl rfl ?_
    obtain ⟨v46, ev46, hl⟩ := xb hl
    refine cx_getI gF_X5_85 dX5_expression_10 ev46 ?_
    refine cx_iconst (v := 1) dX5_expression_13 rfl ?_
    by_cases c47 : v46 = 1
    · rw [if_pos c47] at hl
      refine cx_icmp_eq (X := True) (tgt := 26) dX5_expression_14 (by decide) (fun _ => ?_) (fun z => absurd c47 z)
      exact cx_lsK (k_X5_expression_J26_s hex hl) ⟨rfl, rfl, trivial⟩
    · rw [if_neg c47] at hl
      refine cx_icmp_eq (X := True) (tgt := 26) dX5_expression_14 (by decide) (fun z => absurd z c47) (fun _ => ?_)
      refine cx_aload_n dX5_expression_17 rfl rfl ?_
      refine cx_bipush (v := 40) dX5_expression_18 (by decide) ?_
      obtain ⟨u49, eu49, hl⟩ := xb hl
      obtain ⟨r48, er48, hl⟩ := xb hl
      refine cx_callV (Or.inl ⟨by decide, _, _, rfl⟩) (T_X5_isSign er48) lV_X5_145 C_X5_isSign dX5_expression_20 eu49 (by decide) rfl (by omega) (Nat.le_of_ble_eq_true rfl) ?_
      by_cases c50 : r48 = 0
      · rw [if_pos c50] at hl
        refine cx_if_eq (X := True) (tgt := 30) dX5_expression_23 (by decide) (fun _ => ?_) (fun z => absurd c50 z)
        refine cx_iconst (v := 0) dX5_expression_30 rfl ?_
        exact cx_lsK (k_X5_expression_J31_s hex hl) ⟨rfl, rfl, trivial⟩
      · rw [if_neg c50] at hl
        refine cx_if_eq (X := True) (tgt := 30) dX5_expression_23 (by decide) (fun z => absurd z c50) (fun _ => ?_)
        exact cx_lsK (k_X5_expression_J26_s hex hl) ⟨rfl, rfl, trivial⟩
def f_ex (n : Nat) (c : Nat → Value) : Nat → Nat → Int32 → XH → Option ((Nat ⊕ XX) × XH)
  | 0, _, _, _ => none
  | g + 1, a, b, h => k_X5_expression (f_ex n c g) n c a b h
theorem f_ex_ok {l : Launch} {E : XEnv} {n : Nat} : ∀ {g a : Nat} {b : Int32} {h : XH} {r : (Nat ⊕ XX) × XH}, f_ex n E.2.2.2 g a b h = some r → CM l E mX5_expression (13 * g) [.ref a, .int b] h (xrR r.1) r.2 := by
  intro g
  induction g with
  | zero => intro a b h r hl; cases hl
  | succ g ih =>
    intro a b h r hl
    exact T_X5_expression (fun a b h r q => ih q) hl
def k_X1_isOf (x0 : Int32) (x1 : Int32) (h : XH) : Option (Int32) := if ((x0 >>> ((x1 : Int32) &&& 31)) &&& 1) = 1 then some 1 else some 0
set_option maxHeartbeats 4000000 in
theorem T_X1_isOf {l : Launch} {E : XEnv}  {x0 : Int32} {x1 : Int32} {h : XH} {r : Int32} (hl : k_X1_isOf x0 x1 h = some r) : CM l E mX1_isOf 1 [.int x0, .int x1] h (.inl (some (.int r))) h := by
  unfold k_X1_isOf at hl
  refine cm_of (by decide +kernel) rfl (Nat.le_of_ble_eq_true rfl) ?_
  refine cx_iload_n dX1_isOf_0 rfl ?_
  refine cx_iload_n dX1_isOf_1 rfl ?_
  refine cx_ishr dX1_isOf_2 ?_
  refine cx_iconst (v := 1) dX1_isOf_3 rfl ?_
  refine cx_iand dX1_isOf_4 ?_
  refine cx_iconst (v := 1) dX1_isOf_5 rfl ?_
  by_cases c1 : ((x0 >>> ((x1 : Int32) &&& 31)) &&& 1) = 1
  · rw [if_pos c1] at hl
    refine cx_icmp_ne (X := True) (tgt := 13) dX1_isOf_6 (by decide) (fun z => absurd c1 z) (fun _ => ?_)
    refine cx_iconst (v := 1) dX1_isOf_9 rfl ?_
    refine cx_goto (tgt := 14) dX1_isOf_10 (by decide) ?_
    cases hl
    exact cx_iret dX1_isOf_14 rfl rfl rfl rfl
  · rw [if_neg c1] at hl
    refine cx_icmp_ne (X := True) (tgt := 13) dX1_isOf_6 (by decide) (fun _ => ?_) (fun z => absurd z c1)
    refine cx_iconst (v := 0) dX1_isOf_13 rfl ?_
    cases hl
    exact cx_iret dX1_isOf_14 rfl rfl rfl rfl
def k_J13_init (x0 : Nat) (h : XH) : Option (Unit) := some ()
set_option maxHeartbeats 4000000 in
theorem T_J13_init {l : Launch} {E : XEnv}  {x0 : Nat} {h : XH} {r : Unit} (hl : k_J13_init x0 h = some r) : CM l E mJ13_init 2 [.ref x0] h (.inl none) h := by
  unfold k_J13_init at hl
  refine cm_of (by decide +kernel) rfl (Nat.le_of_ble_eq_true rfl) ?_
  refine cx_aload_n dJ13_init_0 rfl rfl ?_
  refine cx_objInit q977 q161 q162 dJ13_init_1 (by omega) (Nat.le_of_ble_eq_true rfl) ?_
  cases hl
  exact cx_vret dJ13_init_4 rfl rfl rfl
def k_J14_init (x0 : Nat) (x1 : Int32) (h : XH) : Option (XH) := (k_J13_init x0 h).bind fun r1 => (cpu h x0 11 0 (.int x1)).bind fun h3 => some h3
set_option maxHeartbeats 4000000 in
theorem T_J14_init {l : Launch} {E : XEnv}  {x0 : Nat} {x1 : Int32} {h : XH} {r : XH} (hl : k_J14_init x0 x1 h = some r) : CM l E mJ14_init 3 [.ref x0, .int x1] h (.inl none) r := by
  unfold k_J14_init at hl
  refine cm_of (by decide +kernel) rfl (Nat.le_of_ble_eq_true rfl) ?_
  refine cx_aload_n dJ14_init_0 rfl rfl ?_
  obtain ⟨r1, er1, hl⟩ := xb hl
  refine cx_callI (T_J13_init er1) lI_J14_202 rfl C_J13_init dJ14_init_1 rfl (by omega) (Nat.le_of_ble_eq_true rfl) ?_
  refine cx_aload_n dJ14_init_4 rfl rfl ?_
  refine cx_iload_n dJ14_init_5 rfl ?_
  obtain ⟨h3, eh3, hl⟩ := xb hl
  refine cx_putI pF_J14_205 dJ14_init_6 eh3 ?_
  cases hl
  exact cx_vret dJ14_init_9 rfl rfl rfl
def k_J14_valueOf (c : Nat → Value) (x0 : Int32) (h : XH) : Option (Nat × XH) := if x0 < (-128) then (some (xnew h 11 1 1 1 (fun j => defaultValue (tyJ14 j)))).bind fun h2 => (k_J14_init h.2.2.1 x0 h2).bind fun r3 => some (h.2.2.1, r3) else if x0 > 127 then (some (xnew h 11 1 1 1 (fun j => defaultValue (tyJ14 j)))).bind fun h6 => (k_J14_init h.2.2.1 x0 h6).bind fun r7 => some (h.2.2.1, r7) else (vR (c 20)).bind fun v9 => (caR h v9 107 (x0 + 128)).bind fun v10 => some (v10, h)
set_option maxHeartbeats 4000000 in
theorem T_J14_valueOf {l : Launch} {E : XEnv}  {x0 : Int32} {h : XH} {r : Nat × XH} (hl : k_J14_valueOf E.2.2.2 x0 h = some r) : CM l E mJ14_valueOf 4 [.int x0] h (.inl (some (.ref r.1))) r.2 := by
  unfold k_J14_valueOf at hl
  refine cm_of (by decide +kernel) rfl (Nat.le_of_ble_eq_true rfl) ?_
  refine cx_iload_n dJ14_valueOf_0 rfl ?_
  refine cx_bipush (v := (-128)) dJ14_valueOf_1 (by decide) ?_
  by_cases c1 : x0 < (-128)
  · rw [if_pos c1] at hl
    refine cx_icmp_lt (X := True) (tgt := 23) dJ14_valueOf_3 (by decide) (fun _ => ?_) (fun z => absurd c1 z)
    obtain ⟨h2, eh2, hl⟩ := xb hl
    refine cx_new 1 nW_J14_1 dJ14_valueOf_23 (Option.some.inj eh2) ?_
    refine cx_dup dJ14_valueOf_26 rfl ?_
    refine cx_iload_n dJ14_valueOf_27 rfl ?_
    obtain ⟨r3, er3, hl⟩ := xb hl
    refine cx_callI (T_J14_init er3) lI_J14_199 rfl C_J14_init dJ14_valueOf_28 rfl (by omega) (Nat.le_of_ble_eq_true rfl) ?_
    cases hl
    exact cx_aret dJ14_valueOf_31 rfl rfl (Or.inl ⟨_, rfl⟩) rfl rfl
  · rw [if_neg c1] at hl
    refine cx_icmp_lt (X := True) (tgt := 23) dJ14_valueOf_3 (by decide) (fun z => absurd z c1) (fun _ => ?_)
    refine cx_iload_n dJ14_valueOf_6 rfl ?_
    refine cx_gets (C := "java/lang/Integer$IntegerCache") (nm := "high") (ds := "I") (v := .int 127) (by simp [xstl]) q965 (Or.inl rfl) dJ14_valueOf_7 ?_
    by_cases c5 : x0 > 127
    · rw [if_pos c5] at hl
      refine cx_icmp_gt (X := True) (tgt := 23) dJ14_valueOf_10 (by decide) (fun _ => ?_) (fun z => absurd c5 z)
      obtain ⟨h6, eh6, hl⟩ := xb hl
      refine cx_new 1 nW_J14_1 dJ14_valueOf_23 (Option.some.inj eh6) ?_
      refine cx_dup dJ14_valueOf_26 rfl ?_
      refine cx_iload_n dJ14_valueOf_27 rfl ?_
      obtain ⟨r7, er7, hl⟩ := xb hl
      refine cx_callI (T_J14_init er7) lI_J14_199 rfl C_J14_init dJ14_valueOf_28 rfl (by omega) (Nat.le_of_ble_eq_true rfl) ?_
      cases hl
      exact cx_aret dJ14_valueOf_31 rfl rfl (Or.inl ⟨_, rfl⟩) rfl rfl
    · rw [if_neg c5] at hl
      refine cx_icmp_gt (X := True) (tgt := 23) dJ14_valueOf_10 (by decide) (fun z => absurd z c5) (fun _ => ?_)
      obtain ⟨v9, ev9, hl⟩ := xb hl
      refine cx_gets (C := "java/lang/Integer$IntegerCache") (nm := "cache") (ds := "[Ljava/lang/Integer;") (v := E.2.2.2 20) (by simp [xstl]) q967 (Or.inl rfl) dJ14_valueOf_13 ?_
      refine cx_val (vR_spec ev9) ?_
      refine cx_iload_n dJ14_valueOf_16 rfl ?_
      refine cx_sipush (v := 128) dJ14_valueOf_17 (by decide) ?_
      refine cx_iadd dJ14_valueOf_20 ?_
      obtain ⟨v10, ev10, hl⟩ := xb hl
      refine cx_aald 7 (by decide) dJ14_valueOf_21 ev10 ?_
      cases hl
      exact cx_aret dJ14_valueOf_22 rfl rfl (Or.inl ⟨_, rfl⟩) rfl rfl
def k_X5_damps_J49 (n : Nat) (c : Nat → Value) (x0 : Nat) (y0 : Int32) (y1 : Nat) (h : XH) : Option ((XH) ⊕ ((XH) ⊕ ((Unit ⊕ XX) × XH))) := (ckd h y1 4).bind fun u18 => (k_X5_want c y1 y0 2 h).bind fun r17 => match r17 with | (.inl v19, h20) => ((cgR h20 x0 4 1).bind fun v24 => (cgR h20 v24 1 3).bind fun v25 => (ckd h20 x0 4).bind fun u27 => (k_X5_number n c x0 0 9 h20).bind fun r26 => match r26 with | (.inl v28, h29) => ((k_J14_valueOf c v28 h29).bind fun r33 => (ckd r33.2 v25 10).bind fun u36 => (k_J2_add c v25 r33.1 r33.2).bind fun r35 => some (.inl r35.2)) | (.inr e30, h29) => (some (.inr (.inr (.inr e30, h29))))) | (.inr e21, h20) => (some (.inr (.inr (.inr e21, h20))))
def k_X5_damps_L18 (n : Nat) (c : Nat → Value) (x0 : Nat) (h : XH) : Option ((XH) ⊕ ((XH) ⊕ ((Unit ⊕ XX) × XH))) := (cgI h x0 4 8).bind fun v10 => if v10 = 2 then (cgR h x0 4 1).bind fun v12 => (cgR h v12 1 3).bind fun v13 => (ckd h v13 10).bind fun u15 => (k_J2_size v13 h).bind fun r14 => if r14 ≥ 8 then k_X5_damps_J49 n c x0 0 x0 h else k_X5_damps_J49 n c x0 1 x0 h else some (.inr (.inl h))
abbrev K_X5_damps_L18 (l : Launch) (E : XEnv) (hf : XH) (res : XO) (h : XH) (x0 : Nat) (o : (XH) ⊕ ((Unit ⊕ XX) × XH)) : Prop := match o with
  | .inl e => CX l E mX5_damps 8 79 [] [] e hf res
  | .inr e => (xrU e.1 = res ∧ e.2 = hf)
def k_X5_damps (n : Nat) (c : Nat → Value) (x0 : Nat) (h : XH) : Option ((Unit ⊕ XX) × XH) := (cgI h x0 4 8).bind fun v1 => if v1 = 2 then (ckd h x0 4).bind fun u41 => (k_X5_want c x0 1 1 h).bind fun r40 => match r40 with | (.inl v42, h43) => ((xloop (fun s => k_X5_damps_L18 n c x0 s) n h43).bind fun o47 => match o47 with | .inl e48 => (some (.inl (), e48)) | .inr e49 => (some e49)) | (.inr e44, h43) => (some (.inr e44, h43)) else (ckd h x0 4).bind fun u4 => (k_X5_want c x0 0 1 h).bind fun r3 => match r3 with | (.inl v5, h6) => ((xloop (fun s => k_X5_damps_L18 n c x0 s) n h6).bind fun o37 => match o37 with | .inl e38 => (some (.inl (), e38)) | .inr e39 => (some e39)) | (.inr e7, h6) => (some (.inr e7, h6))
set_option maxHeartbeats 4000000 in
theorem k_X5_damps_J49_s {l : Launch} {E : XEnv} {hf : XH} {res : XO} {n : Nat} {x0 : Nat} {y0 : Int32} {y1 : Nat} {h : XH} {h0 : XH} {o : (XH) ⊕ ((XH) ⊕ ((Unit ⊕ XX) × XH))} (hl : k_X5_damps_J49 n E.2.2.2 x0 y0 y1 h = some o) (hK : (xk (fun s : XH => CX l E mX5_damps 8 18 [(0, .ref x0)] [] s hf res) (fun r => K_X5_damps_L18 l E hf res h0 x0 r) o)) : CX l E mX5_damps 8 49 [(0, .ref x0)] [.int y0, .ref y1] h hf res := by
  unfold k_X5_damps_J49 at hl
  refine cx_iconst (v := 2) dX5_damps_49 rfl ?_
  obtain ⟨u18, eu18, hl⟩ := xb hl
  obtain ⟨r17, er17, hl⟩ := xb hl
  rcases r17 with ⟨v19 | ⟨C22, q23⟩, h20⟩
  · dsimp only at hl
    refine cx_callV (Or.inl ⟨by decide, _, _, rfl⟩) (T_X5_want er17) lV_X5_133 C_X5_want dX5_damps_50 eu18 (by decide) rfl (by omega) (Nat.le_of_ble_eq_true rfl) ?_
    refine cx_aload_n dX5_damps_53 rfl rfl ?_
    obtain ⟨v24, ev24, hl⟩ := xb hl
    refine cx_getR gF_X5_18 dX5_damps_54 ev24 ?_
    obtain ⟨v25, ev25, hl⟩ := xb hl
    refine cx_getR gF_X5_245 dX5_damps_57 ev25 ?_
    refine cx_aload_n dX5_damps_60 rfl rfl ?_
    refine cx_iconst (v := 0) dX5_damps_61 rfl ?_
    refine cx_bipush (v := 9) dX5_damps_62 (by decide) ?_
    obtain ⟨u27, eu27, hl⟩ := xb hl
    obtain ⟨r26, er26, hl⟩ := xb hl
    rcases r26 with ⟨v28 | ⟨C31, q32⟩, h29⟩
    · dsimp only at hl
      refine cx_callV (Or.inl ⟨by decide, _, _, rfl⟩) (T_X5_number er26) lV_X5_142 C_X5_number dX5_damps_64 eu27 (by decide) rfl (by omega) (Nat.le_of_ble_eq_true rfl) ?_
      obtain ⟨r33, er33, hl⟩ := xb hl
      refine cx_callS (T_J14_valueOf er33) lS_X5_212 C_J14_valueOf dX5_damps_67 rfl (by omega) (Nat.le_of_ble_eq_true rfl) ?_
      obtain ⟨u36, eu36, hl⟩ := xb hl
      obtain ⟨r35, er35, hl⟩ := xb hl
      refine cx_callF (ci := 10) (by decide) rfl (T_J2_add er35) lF_X5_218 C_J2_add dX5_damps_70 eu36 rfl (by omega) (Nat.le_of_ble_eq_true rfl) ?_
      refine cx_pop dX5_damps_75 rfl ?_
      refine cx_goto (tgt := 18) dX5_damps_76 (by decide) ?_
      cases hl
      exact cx_lsK hK ⟨rfl, trivial⟩
    · dsimp only at hl
      cases hl
      exact cx_callVx (Or.inl ⟨by decide, _, _, rfl⟩) (T_X5_number er26) lV_X5_142 C_X5_number dX5_damps_64 eu27 (by decide) rfl (by omega) (Nat.le_of_ble_eq_true rfl) (ct_out hK.1 hK.2 (by decide))
  · dsimp only at hl
    cases hl
    exact cx_callVx (Or.inl ⟨by decide, _, _, rfl⟩) (T_X5_want er17) lV_X5_133 C_X5_want dX5_damps_50 eu18 (by decide) rfl (by omega) (Nat.le_of_ble_eq_true rfl) (ct_out hK.1 hK.2 (by decide))
set_option maxHeartbeats 4000000 in
theorem k_X5_damps_L18_s {l : Launch} {E : XEnv} {hf : XH} {res : XO} {n : Nat} {x0 : Nat} {h : XH} {o : (XH) ⊕ ((XH) ⊕ ((Unit ⊕ XX) × XH))} (hl : k_X5_damps_L18 n E.2.2.2 x0 h = some o) (hK : (xk (fun s : XH => CX l E mX5_damps 8 18 [(0, .ref x0)] [] s hf res) (fun r => K_X5_damps_L18 l E hf res h x0 r) o)) : CX l E mX5_damps 8 18 [(0, .ref x0)] [] h hf res := by
  unfold k_X5_damps_L18 at hl
  refine cx_aload_n dX5_damps_18 rfl rfl ?_
  obtain ⟨v10, ev10, hl⟩ := xb hl
  refine cx_getI gF_X5_85 dX5_damps_19 ev10 ?_
  refine cx_iconst (v := 2) dX5_damps_22 rfl ?_
  by_cases c11 : v10 = 2
  · rw [if_pos c11] at hl
    refine cx_icmp_ne (X := True) (tgt := 79) dX5_damps_23 (by decide) (fun z => absurd c11 z) (fun _ => ?_)
    refine cx_aload_n dX5_damps_26 rfl rfl ?_
    refine cx_aload_n dX5_damps_27 rfl rfl ?_
    obtain ⟨v12, ev12, hl⟩ := xb hl
    refine cx_getR gF_X5_18 dX5_damps_28 ev12 ?_
    obtain ⟨v13, ev13, hl⟩ := xb hl
    refine cx_getR gF_X5_245 dX5_damps_31 ev13 ?_
    obtain ⟨u15, eu15, hl⟩ := xb hl
    obtain ⟨r14, er14, hl⟩ := xb hl
    refine cx_callF (ci := 10) (by decide) rfl (T_J2_size er14) lF_X5_248 C_J2_size dX5_damps_34 eu15 rfl (by omega) (Nat.le_of_ble_eq_true rfl) ?_
    refine cx_bipush (v := 8) dX5_damps_39 (by decide) ?_
    by_cases c16 : r14 ≥ 8
    · rw [if_pos c16] at hl
      refine cx_icmp_ge (X := True) (tgt := 48) dX5_damps_41 (by decide) (fun _ => ?_) (fun z => absurd c16 z)
      refine cx_iconst (v := 0) dX5_damps_48 rfl ?_
      exact cx_lsK (k_X5_damps_J49_s hl hK) ⟨rfl, trivial⟩
    · rw [if_neg c16] at hl
      refine cx_icmp_ge (X := True) (tgt := 48) dX5_damps_41 (by decide) (fun z => absurd z c16) (fun _ => ?_)
      refine cx_iconst (v := 1) dX5_damps_44 rfl ?_
      refine cx_goto (tgt := 49) dX5_damps_45 (by decide) ?_
      exact cx_lsK (k_X5_damps_J49_s hl hK) ⟨rfl, trivial⟩
  · rw [if_neg c11] at hl
    refine cx_icmp_ne (X := True) (tgt := 79) dX5_damps_23 (by decide) (fun _ => ?_) (fun z => absurd z c11)
    cases hl
    exact cx_lsK hK trivial
set_option maxHeartbeats 4000000 in
theorem k_X5_damps_L18_ok {l : Launch} {E : XEnv} {hf : XH} {res : XO} {n : Nat} {x0 : Nat} {h : XH} {s : XH} {o : (XH) ⊕ ((Unit ⊕ XX) × XH)} (hl : xloop (fun s => k_X5_damps_L18 n E.2.2.2 x0 s) n s = some o) (hK : K_X5_damps_L18 l E hf res h x0 o) : CX l E mX5_damps 8 18 [(0, .ref x0)] [] s hf res :=
  xloop_of (fun s : XH => CX l E mX5_damps 8 18 [(0, .ref x0)] [] s hf res) (fun r => K_X5_damps_L18 l E hf res h x0 r) (fun s o hl hk => k_X5_damps_L18_s (h := s) (o := o) hl hk) n s o hl hK
set_option maxHeartbeats 4000000 in
theorem T_X5_damps {l : Launch} {E : XEnv}  {n : Nat} {x0 : Nat} {h : XH} {r : (Unit ⊕ XX) × XH} (hl : k_X5_damps n E.2.2.2 x0 h = some r) : CM l E mX5_damps 8 [.ref x0] h (xrU r.1) r.2 := by
  unfold k_X5_damps at hl
  refine cm_of (by decide +kernel) rfl (Nat.le_of_ble_eq_true rfl) ?_
  refine cx_aload_n dX5_damps_0 rfl rfl ?_
  refine cx_aload_n dX5_damps_1 rfl rfl ?_
  obtain ⟨v1, ev1, hl⟩ := xb hl
  refine cx_getI gF_X5_85 dX5_damps_2 ev1 ?_
  refine cx_iconst (v := 2) dX5_damps_5 rfl ?_
  by_cases c2 : v1 = 2
  · rw [if_pos c2] at hl
    refine cx_icmp_ne (X := True) (tgt := 13) dX5_damps_6 (by decide) (fun z => absurd c2 z) (fun _ => ?_)
    refine cx_iconst (v := 1) dX5_damps_9 rfl ?_
    refine cx_goto (tgt := 14) dX5_damps_10 (by decide) ?_
    refine cx_iconst (v := 1) dX5_damps_14 rfl ?_
    obtain ⟨u41, eu41, hl⟩ := xb hl
    obtain ⟨r40, er40, hl⟩ := xb hl
    rcases r40 with ⟨v42 | ⟨C45, q46⟩, h43⟩
    · dsimp only at hl
      refine cx_callV (Or.inl ⟨by decide, _, _, rfl⟩) (T_X5_want er40) lV_X5_133 C_X5_want dX5_damps_15 eu41 (by decide) rfl (by omega) (Nat.le_of_ble_eq_true rfl) ?_
      obtain ⟨o47, eo47, hl⟩ := xb hl
      rcases o47 with e48 | e49
      · dsimp only at hl
        refine cx_lsK (k_X5_damps_L18_ok (h := h43) (s := h43) eo47 ?_) ⟨rfl, trivial⟩
        cases hl
        exact cx_vret dX5_damps_79 rfl rfl rfl
      · dsimp only at hl
        refine cx_lsK (k_X5_damps_L18_ok (h := h43) (s := h43) eo47 ?_) ⟨rfl, trivial⟩
        cases hl
        exact ⟨rfl, rfl⟩
    · dsimp only at hl
      cases hl
      exact cx_callVx (Or.inl ⟨by decide, _, _, rfl⟩) (T_X5_want er40) lV_X5_133 C_X5_want dX5_damps_15 eu41 (by decide) rfl (by omega) (Nat.le_of_ble_eq_true rfl) (ct_out rfl rfl (by decide))
  · rw [if_neg c2] at hl
    refine cx_icmp_ne (X := True) (tgt := 13) dX5_damps_6 (by decide) (fun _ => ?_) (fun z => absurd z c2)
    refine cx_iconst (v := 0) dX5_damps_13 rfl ?_
    refine cx_iconst (v := 1) dX5_damps_14 rfl ?_
    obtain ⟨u4, eu4, hl⟩ := xb hl
    obtain ⟨r3, er3, hl⟩ := xb hl
    rcases r3 with ⟨v5 | ⟨C8, q9⟩, h6⟩
    · dsimp only at hl
      refine cx_callV (Or.inl ⟨by decide, _, _, rfl⟩) (T_X5_want er3) lV_X5_133 C_X5_want dX5_damps_15 eu4 (by decide) rfl (by omega) (Nat.le_of_ble_eq_true rfl) ?_
      obtain ⟨o37, eo37, hl⟩ := xb hl
      rcases o37 with e38 | e39
      · dsimp only at hl
        refine cx_lsK (k_X5_damps_L18_ok (h := h6) (s := h6) eo37 ?_) ⟨rfl, trivial⟩
        cases hl
        exact cx_vret dX5_damps_79 rfl rfl rfl
      · dsimp only at hl
        refine cx_lsK (k_X5_damps_L18_ok (h := h6) (s := h6) eo37 ?_) ⟨rfl, trivial⟩
        cases hl
        exact ⟨rfl, rfl⟩
    · dsimp only at hl
      cases hl
      exact cx_callVx (Or.inl ⟨by decide, _, _, rfl⟩) (T_X5_want er3) lV_X5_133 C_X5_want dX5_damps_15 eu4 (by decide) rfl (by omega) (Nat.le_of_ble_eq_true rfl) (ct_out rfl rfl (by decide))
def k_X5_only_J63 (n : Nat) (g : Nat) (c : Nat → Value) (x0 : Nat) (x1 : Int32) (y0 : Nat) (y1 : Nat) (h : XH) : Option ((Unit ⊕ XX) × XH) := (cpu h y1 4 6 (.ref y0)).bind fun h19 => (ckd h19 x0 4).bind fun u21 => (f_ex n c g x0 0 h19).bind fun r20 => match r20 with | (.inl v22, h23) => (if x1 = 1 then (cgR h23 x0 4 1).bind fun v30 => (cpu h23 v30 1 4 (.ref v22)).bind fun h31 => some (.inl (), h31) else (cgR h23 x0 4 1).bind fun v28 => (cpu h23 v28 1 5 (.ref v22)).bind fun h29 => some (.inl (), h29)) | (.inr e24, h23) => (some (.inr e24, h23))
def k_X5_only_J17 (n : Nat) (g : Nat) (c : Nat → Value) (x0 : Nat) (x1 : Int32) (y0 : Int32) (y1 : Nat) (h : XH) : Option ((Unit ⊕ XX) × XH) := (ckd h y1 4).bind fun u6 => (k_X5_want c y1 y0 5 h).bind fun r5 => match r5 with | (.inl v7, h8) => ((cgI h8 x0 4 12).bind fun v12 => (cpu h8 x0 4 12 (.int (v12 ||| ((1 : Int32) <<< ((x1 : Int32) &&& 31))))).bind fun h13 => (ckd h13 x0 4).bind fun u15 => (k_X5_next n c x0 h13).bind fun r14 => if x1 = 0 then (ckd r14 x0 4).bind fun u34 => (k_X5_damps n c x0 r14).bind fun r33 => match r33 with | (.inl v35, h36) => (some (.inl (), h36)) | (.inr e37, h36) => (some (.inr e37, h36)) else if x1 = 1 then (cgR r14 x0 4 4).bind fun v32 => k_X5_only_J63 n g c x0 x1 v32 x0 r14 else (cgR r14 x0 4 5).bind fun v18 => k_X5_only_J63 n g c x0 x1 v18 x0 r14) | (.inr e9, h8) => (some (.inr e9, h8))
def k_X5_only (n : Nat) (g : Nat) (c : Nat → Value) (x0 : Nat) (x1 : Int32) (h : XH) : Option ((Unit ⊕ XX) × XH) := (cgI h x0 4 12).bind fun v1 => (k_X1_isOf v1 x1 h).bind fun r2 => if r2 = 0 then k_X5_only_J17 n g c x0 x1 1 x0 h else k_X5_only_J17 n g c x0 x1 0 x0 h
set_option maxHeartbeats 4000000 in
theorem k_X5_only_J63_s {l : Launch} {E : XEnv}  {n : Nat} {g : Nat} {x0 : Nat} {x1 : Int32} {y0 : Nat} {y1 : Nat} {h : XH} {r : (Unit ⊕ XX) × XH} (hl : k_X5_only_J63 n g E.2.2.2 x0 x1 y0 y1 h = some r) : CX l E mX5_only (13 * g + 9) 63 [(0, .ref x0), (1, .int x1)] [.ref y0, .ref y1] h r.2 (xrU r.1) := by
  unfold k_X5_only_J63 at hl
  obtain ⟨h19, eh19, hl⟩ := xb hl
  refine cx_putR (Or.inr ⟨_, rfl⟩) pF_X5_61 dX5_only_63 eh19 ?_
  refine cx_aload_n dX5_only_66 rfl rfl ?_
  refine cx_iconst (v := 0) dX5_only_67 rfl ?_
  obtain ⟨u21, eu21, hl⟩ := xb hl
  obtain ⟨r20, er20, hl⟩ := xb hl
  rcases r20 with ⟨v22 | ⟨C25, q26⟩, h23⟩
  · dsimp only at hl
    refine cx_callV (Or.inl ⟨by decide, _, _, rfl⟩) (f_ex_ok er20) lV_X5_149 C_X5_expression dX5_only_68 eu21 (by decide) rfl (by omega) (Nat.le_of_ble_eq_true rfl) ?_
    refine cx_astore_n dX5_only_71 (by decide) rfl ?_
    refine cx_iload_n dX5_only_72 rfl ?_
    refine cx_iconst (v := 1) dX5_only_73 rfl ?_
    by_cases c27 : x1 = 1
    · rw [if_pos c27] at hl
      refine cx_icmp_ne (X := True) (tgt := 88) dX5_only_74 (by decide) (fun z => absurd c27 z) (fun _ => ?_)
      refine cx_aload_n dX5_only_77 rfl rfl ?_
      obtain ⟨v30, ev30, hl⟩ := xb hl
      refine cx_getR gF_X5_18 dX5_only_78 ev30 ?_
      refine cx_aload_n dX5_only_81 rfl rfl ?_
      obtain ⟨h31, eh31, hl⟩ := xb hl
      refine cx_putR (Or.inl ⟨_, rfl⟩) pF_X5_255 dX5_only_82 eh31 ?_
      refine cx_goto (tgt := 96) dX5_only_85 (by decide) ?_
      cases hl
      exact cx_vret dX5_only_96 rfl rfl rfl
    · rw [if_neg c27] at hl
      refine cx_icmp_ne (X := True) (tgt := 88) dX5_only_74 (by decide) (fun _ => ?_) (fun z => absurd z c27)
      refine cx_aload_n dX5_only_88 rfl rfl ?_
      obtain ⟨v28, ev28, hl⟩ := xb hl
      refine cx_getR gF_X5_18 dX5_only_89 ev28 ?_
      refine cx_aload_n dX5_only_92 rfl rfl ?_
      obtain ⟨h29, eh29, hl⟩ := xb hl
      refine cx_putR (Or.inl ⟨_, rfl⟩) pF_X5_258 dX5_only_93 eh29 ?_
      cases hl
      exact cx_vret dX5_only_96 rfl rfl rfl
  · dsimp only at hl
    cases hl
    exact cx_callVx (Or.inl ⟨by decide, _, _, rfl⟩) (f_ex_ok er20) lV_X5_149 C_X5_expression dX5_only_68 eu21 (by decide) rfl (by omega) (Nat.le_of_ble_eq_true rfl) (ct_out rfl rfl (by decide))
set_option maxHeartbeats 4000000 in
theorem k_X5_only_J17_s {l : Launch} {E : XEnv}  {n : Nat} {g : Nat} {x0 : Nat} {x1 : Int32} {y0 : Int32} {y1 : Nat} {h : XH} {r : (Unit ⊕ XX) × XH} (hl : k_X5_only_J17 n g E.2.2.2 x0 x1 y0 y1 h = some r) : CX l E mX5_only (13 * g + 9) 17 [(0, .ref x0), (1, .int x1)] [.int y0, .ref y1] h r.2 (xrU r.1) := by
  unfold k_X5_only_J17 at hl
  refine cx_iconst (v := 5) dX5_only_17 rfl ?_
  obtain ⟨u6, eu6, hl⟩ := xb hl
  obtain ⟨r5, er5, hl⟩ := xb hl
  rcases r5 with ⟨v7 | ⟨C10, q11⟩, h8⟩
  · dsimp only at hl
    refine cx_callV (Or.inl ⟨by decide, _, _, rfl⟩) (T_X5_want er5) lV_X5_133 C_X5_want dX5_only_18 eu6 (by decide) rfl (by omega) (Nat.le_of_ble_eq_true rfl) ?_
    refine cx_aload_n dX5_only_21 rfl rfl ?_
    refine cx_dup dX5_only_22 rfl ?_
    obtain ⟨v12, ev12, hl⟩ := xb hl
    refine cx_getI gF_X5_250 dX5_only_23 ev12 ?_
    refine cx_iconst (v := 1) dX5_only_26 rfl ?_
    refine cx_iload_n dX5_only_27 rfl ?_
    refine cx_ishl dX5_only_28 ?_
    refine cx_ior dX5_only_29 ?_
    obtain ⟨h13, eh13, hl⟩ := xb hl
    refine cx_putI pF_X5_250 dX5_only_30 eh13 ?_
    refine cx_aload_n dX5_only_33 rfl rfl ?_
    obtain ⟨u15, eu15, hl⟩ := xb hl
    obtain ⟨r14, er14, hl⟩ := xb hl
    refine cx_callV (Or.inl ⟨by decide, _, _, rfl⟩) (T_X5_next er14) lV_X5_125 C_X5_next dX5_only_34 eu15 (by decide) rfl (by omega) (Nat.le_of_ble_eq_true rfl) ?_
    refine cx_iload_n dX5_only_37 rfl ?_
    by_cases c16 : x1 = 0
    · rw [if_pos c16] at hl
      refine cx_if_ne (X := True) (tgt := 46) dX5_only_38 (by decide) (fun z => absurd c16 z) (fun _ => ?_)
      refine cx_aload_n dX5_only_41 rfl rfl ?_
      obtain ⟨u34, eu34, hl⟩ := xb hl
      obtain ⟨r33, er33, hl⟩ := xb hl
      rcases r33 with ⟨v35 | ⟨C38, q39⟩, h36⟩
      · dsimp only at hl
        refine cx_callV (Or.inl ⟨by decide, _, _, rfl⟩) (T_X5_damps er33) lV_X5_253 C_X5_damps dX5_only_42 eu34 (by decide) rfl (by omega) (Nat.le_of_ble_eq_true rfl) ?_
        cases hl
        exact cx_vret dX5_only_45 rfl rfl rfl
      · dsimp only at hl
        cases hl
        exact cx_callVx (Or.inl ⟨by decide, _, _, rfl⟩) (T_X5_damps er33) lV_X5_253 C_X5_damps dX5_only_42 eu34 (by decide) rfl (by omega) (Nat.le_of_ble_eq_true rfl) (ct_out rfl rfl (by decide))
    · rw [if_neg c16] at hl
      refine cx_if_ne (X := True) (tgt := 46) dX5_only_38 (by decide) (fun _ => ?_) (fun z => absurd z c16)
      refine cx_aload_n dX5_only_46 rfl rfl ?_
      refine cx_iload_n dX5_only_47 rfl ?_
      refine cx_iconst (v := 1) dX5_only_48 rfl ?_
      by_cases c17 : x1 = 1
      · rw [if_pos c17] at hl
        refine cx_icmp_ne (X := True) (tgt := 59) dX5_only_49 (by decide) (fun z => absurd c17 z) (fun _ => ?_)
        refine cx_aload_n dX5_only_52 rfl rfl ?_
        obtain ⟨v32, ev32, hl⟩ := xb hl
        refine cx_getR gF_X5_53 dX5_only_53 ev32 ?_
        refine cx_goto (tgt := 63) dX5_only_56 (by decide) ?_
        exact cx_lsK (k_X5_only_J63_s hl) ⟨rfl, rfl, trivial⟩
      · rw [if_neg c17] at hl
        refine cx_icmp_ne (X := True) (tgt := 59) dX5_only_49 (by decide) (fun _ => ?_) (fun z => absurd z c17)
        refine cx_aload_n dX5_only_59 rfl rfl ?_
        obtain ⟨v18, ev18, hl⟩ := xb hl
        refine cx_getR gF_X5_58 dX5_only_60 ev18 ?_
        exact cx_lsK (k_X5_only_J63_s hl) ⟨rfl, rfl, trivial⟩
  · dsimp only at hl
    cases hl
    exact cx_callVx (Or.inl ⟨by decide, _, _, rfl⟩) (T_X5_want er5) lV_X5_133 C_X5_want dX5_only_18 eu6 (by decide) rfl (by omega) (Nat.le_of_ble_eq_true rfl) (ct_out rfl rfl (by decide))
set_option maxHeartbeats 4000000 in
theorem T_X5_only {l : Launch} {E : XEnv}  {n : Nat} {g : Nat} {x0 : Nat} {x1 : Int32} {h : XH} {r : (Unit ⊕ XX) × XH} (hl : k_X5_only n g E.2.2.2 x0 x1 h = some r) : CM l E mX5_only (13 * g + 9) [.ref x0, .int x1] h (xrU r.1) r.2 := by
  unfold k_X5_only at hl
  refine cm_of (by decide +kernel) rfl (Nat.le_of_ble_eq_true rfl) ?_
  refine cx_aload_n dX5_only_0 rfl rfl ?_
  refine cx_aload_n dX5_only_1 rfl rfl ?_
  obtain ⟨v1, ev1, hl⟩ := xb hl
  refine cx_getI gF_X5_250 dX5_only_2 ev1 ?_
  refine cx_iload_n dX5_only_5 rfl ?_
  obtain ⟨r2, er2, hl⟩ := xb hl
  refine cx_callS (T_X1_isOf er2) lS_X5_238 C_X1_isOf dX5_only_6 rfl (by omega) (Nat.le_of_ble_eq_true rfl) ?_
  by_cases c4 : r2 = 0
  · rw [if_pos c4] at hl
    refine cx_if_ne (X := True) (tgt := 16) dX5_only_9 (by decide) (fun z => absurd c4 z) (fun _ => ?_)
    refine cx_iconst (v := 1) dX5_only_12 rfl ?_
    refine cx_goto (tgt := 17) dX5_only_13 (by decide) ?_
    exact cx_lsK (k_X5_only_J17_s hl) ⟨rfl, rfl, trivial⟩
  · rw [if_neg c4] at hl
    refine cx_if_ne (X := True) (tgt := 16) dX5_only_9 (by decide) (fun _ => ?_) (fun z => absurd z c4)
    refine cx_iconst (v := 0) dX5_only_16 rfl ?_
    exact cx_lsK (k_X5_only_J17_s hl) ⟨rfl, rfl, trivial⟩
def k_X2_houses (x0 : Nat) (h : XH) : Option (Int32) := (cgR h x0 1 0).bind fun v1 => (ckd h v1 10).bind fun u3 => (k_J2_size v1 h).bind fun r2 => some r2
set_option maxHeartbeats 4000000 in
theorem T_X2_houses {l : Launch} {E : XEnv}  {x0 : Nat} {h : XH} {r : Int32} (hl : k_X2_houses x0 h = some r) : CM l E mX2_houses 2 [.ref x0] h (.inl (some (.int r))) h := by
  unfold k_X2_houses at hl
  refine cm_of (by decide +kernel) rfl (Nat.le_of_ble_eq_true rfl) ?_
  refine cx_aload_n dX2_houses_0 rfl rfl ?_
  obtain ⟨v1, ev1, hl⟩ := xb hl
  refine cx_getR gF_X2_10 dX2_houses_1 ev1 ?_
  obtain ⟨u3, eu3, hl⟩ := xb hl
  obtain ⟨r2, er2, hl⟩ := xb hl
  refine cx_callF (ci := 10) (by decide) rfl (T_J2_size er2) lF_X2_25 C_J2_size dX2_houses_4 eu3 rfl (by omega) (Nat.le_of_ble_eq_true rfl) ?_
  cases hl
  exact cx_iret dX2_houses_9 rfl rfl rfl rfl
def k_X5_house_J20 (n : Nat) (c : Nat → Value) (x0 : Nat) (x1 : Int32) (y0 : Int32) (y1 : Nat) (h : XH) : Option ((Unit ⊕ XX) × XH) := (ckd h y1 4).bind fun u6 => (k_X5_want c y1 y0 2 h).bind fun r5 => match r5 with | (.inl v7, h8) => ((ckd h8 x0 4).bind fun u13 => (k_X5_next n c x0 h8).bind fun r12 => (cgR r12 x0 4 2).bind fun v14 => (cgR r12 v14 2 0).bind fun v15 => (ckd r12 x0 4).bind fun u17 => (k_X5_number n c x0 1 60 r12).bind fun r16 => match r16 with | (.inl v18, h19) => ((csu h19 v15 100 x1 (.int v18)).bind fun h23 => (ckd h23 x0 4).bind fun u25 => (k_X5_number n c x0 0 9 h23).bind fun r24 => match r24 with | (.inl v26, h27) => ((cgR h27 x0 4 1).bind fun v31 => (cgR h27 v31 1 1).bind fun v32 => (ckd h27 x0 4).bind fun u34 => (k_X5_number n c x0 0 30 h27).bind fun r33 => match r33 with | (.inl v35, h36) => ((k_J14_valueOf c v35 h36).bind fun r40 => (ckd r40.2 v32 10).bind fun u43 => (k_J2_add c v32 r40.1 r40.2).bind fun r42 => (cgR r42.2 x0 4 1).bind fun v44 => (cgR r42.2 v44 1 0).bind fun v45 => (k_J14_valueOf c v26 r42.2).bind fun r46 => (ckd r46.2 v45 10).bind fun u49 => (k_J2_add c v45 r46.1 r46.2).bind fun r48 => some (.inl (), r48.2)) | (.inr e37, h36) => (some (.inr e37, h36))) | (.inr e28, h27) => (some (.inr e28, h27))) | (.inr e20, h19) => (some (.inr e20, h19))) | (.inr e9, h8) => (some (.inr e9, h8))
def k_X5_house (n : Nat) (c : Nat → Value) (x0 : Nat) (h : XH) : Option ((Unit ⊕ XX) × XH) := (cgR h x0 4 1).bind fun v1 => (ckd h v1 1).bind fun u3 => (k_X2_houses v1 h).bind fun r2 => if r2 ≥ 8 then k_X5_house_J20 n c x0 r2 0 x0 h else k_X5_house_J20 n c x0 r2 1 x0 h
set_option maxHeartbeats 4000000 in
theorem k_X5_house_J20_s {l : Launch} {E : XEnv}  {n : Nat} {x0 : Nat} {x1 : Int32} {y0 : Int32} {y1 : Nat} {h : XH} {r : (Unit ⊕ XX) × XH} (hl : k_X5_house_J20 n E.2.2.2 x0 x1 y0 y1 h = some r) : CX l E mX5_house 8 20 [(0, .ref x0), (1, .int x1)] [.int y0, .ref y1] h r.2 (xrU r.1) := by
  unfold k_X5_house_J20 at hl
  refine cx_iconst (v := 2) dX5_house_20 rfl ?_
  obtain ⟨u6, eu6, hl⟩ := xb hl
  obtain ⟨r5, er5, hl⟩ := xb hl
  rcases r5 with ⟨v7 | ⟨C10, q11⟩, h8⟩
  · dsimp only at hl
    refine cx_callV (Or.inl ⟨by decide, _, _, rfl⟩) (T_X5_want er5) lV_X5_133 C_X5_want dX5_house_21 eu6 (by decide) rfl (by omega) (Nat.le_of_ble_eq_true rfl) ?_
    refine cx_aload_n dX5_house_24 rfl rfl ?_
    obtain ⟨u13, eu13, hl⟩ := xb hl
    obtain ⟨r12, er12, hl⟩ := xb hl
    refine cx_callV (Or.inl ⟨by decide, _, _, rfl⟩) (T_X5_next er12) lV_X5_125 C_X5_next dX5_house_25 eu13 (by decide) rfl (by omega) (Nat.le_of_ble_eq_true rfl) ?_
    refine cx_aload_n dX5_house_28 rfl rfl ?_
    obtain ⟨v14, ev14, hl⟩ := xb hl
    refine cx_getR gF_X5_27 dX5_house_29 ev14 ?_
    obtain ⟨v15, ev15, hl⟩ := xb hl
    refine cx_getR gF_X5_205 dX5_house_32 ev15 ?_
    refine cx_iload_n dX5_house_35 rfl ?_
    refine cx_aload_n dX5_house_36 rfl rfl ?_
    refine cx_iconst (v := 1) dX5_house_37 rfl ?_
    refine cx_bipush (v := 60) dX5_house_38 (by decide) ?_
    obtain ⟨u17, eu17, hl⟩ := xb hl
    obtain ⟨r16, er16, hl⟩ := xb hl
    rcases r16 with ⟨v18 | ⟨C21, q22⟩, h19⟩
    · dsimp only at hl
      refine cx_callV (Or.inl ⟨by decide, _, _, rfl⟩) (T_X5_number er16) lV_X5_142 C_X5_number dX5_house_40 eu17 (by decide) rfl (by omega) (Nat.le_of_ble_eq_true rfl) ?_
      obtain ⟨h23, eh23, hl⟩ := xb hl
      refine cx_iast dX5_house_43 eh23 ?_
      refine cx_aload_n dX5_house_44 rfl rfl ?_
      refine cx_iconst (v := 0) dX5_house_45 rfl ?_
      refine cx_bipush (v := 9) dX5_house_46 (by decide) ?_
      obtain ⟨u25, eu25, hl⟩ := xb hl
      obtain ⟨r24, er24, hl⟩ := xb hl
      rcases r24 with ⟨v26 | ⟨C29, q30⟩, h27⟩
      · dsimp only at hl
        refine cx_callV (Or.inl ⟨by decide, _, _, rfl⟩) (T_X5_number er24) lV_X5_142 C_X5_number dX5_house_48 eu25 (by decide) rfl (by omega) (Nat.le_of_ble_eq_true rfl) ?_
        refine cx_istore_n dX5_house_51 (by decide) ?_
        refine cx_aload_n dX5_house_52 rfl rfl ?_
        obtain ⟨v31, ev31, hl⟩ := xb hl
        refine cx_getR gF_X5_18 dX5_house_53 ev31 ?_
        obtain ⟨v32, ev32, hl⟩ := xb hl
        refine cx_getR gF_X5_208 dX5_house_56 ev32 ?_
        refine cx_aload_n dX5_house_59 rfl rfl ?_
        refine cx_iconst (v := 0) dX5_house_60 rfl ?_
        refine cx_bipush (v := 30) dX5_house_61 (by decide) ?_
        obtain ⟨u34, eu34, hl⟩ := xb hl
        obtain ⟨r33, er33, hl⟩ := xb hl
        rcases r33 with ⟨v35 | ⟨C38, q39⟩, h36⟩
        · dsimp only at hl
          refine cx_callV (Or.inl ⟨by decide, _, _, rfl⟩) (T_X5_number er33) lV_X5_142 C_X5_number dX5_house_63 eu34 (by decide) rfl (by omega) (Nat.le_of_ble_eq_true rfl) ?_
          obtain ⟨r40, er40, hl⟩ := xb hl
          refine cx_callS (T_J14_valueOf er40) lS_X5_212 C_J14_valueOf dX5_house_66 rfl (by omega) (Nat.le_of_ble_eq_true rfl) ?_
          obtain ⟨u43, eu43, hl⟩ := xb hl
          obtain ⟨r42, er42, hl⟩ := xb hl
          refine cx_callF (ci := 10) (by decide) rfl (T_J2_add er42) lF_X5_218 C_J2_add dX5_house_69 eu43 rfl (by omega) (Nat.le_of_ble_eq_true rfl) ?_
          refine cx_pop dX5_house_74 rfl ?_
          refine cx_aload_n dX5_house_75 rfl rfl ?_
          obtain ⟨v44, ev44, hl⟩ := xb hl
          refine cx_getR gF_X5_18 dX5_house_76 ev44 ?_
          obtain ⟨v45, ev45, hl⟩ := xb hl
          refine cx_getR gF_X5_223 dX5_house_79 ev45 ?_
          refine cx_iload_n dX5_house_82 rfl ?_
          obtain ⟨r46, er46, hl⟩ := xb hl
          refine cx_callS (T_J14_valueOf er46) lS_X5_212 C_J14_valueOf dX5_house_83 rfl (by omega) (Nat.le_of_ble_eq_true rfl) ?_
          obtain ⟨u49, eu49, hl⟩ := xb hl
          obtain ⟨r48, er48, hl⟩ := xb hl
          refine cx_callF (ci := 10) (by decide) rfl (T_J2_add er48) lF_X5_218 C_J2_add dX5_house_86 eu49 rfl (by omega) (Nat.le_of_ble_eq_true rfl) ?_
          refine cx_pop dX5_house_91 rfl ?_
          cases hl
          exact cx_vret dX5_house_92 rfl rfl rfl
        · dsimp only at hl
          cases hl
          exact cx_callVx (Or.inl ⟨by decide, _, _, rfl⟩) (T_X5_number er33) lV_X5_142 C_X5_number dX5_house_63 eu34 (by decide) rfl (by omega) (Nat.le_of_ble_eq_true rfl) (ct_out rfl rfl (by decide))
      · dsimp only at hl
        cases hl
        exact cx_callVx (Or.inl ⟨by decide, _, _, rfl⟩) (T_X5_number er24) lV_X5_142 C_X5_number dX5_house_48 eu25 (by decide) rfl (by omega) (Nat.le_of_ble_eq_true rfl) (ct_out rfl rfl (by decide))
    · dsimp only at hl
      cases hl
      exact cx_callVx (Or.inl ⟨by decide, _, _, rfl⟩) (T_X5_number er16) lV_X5_142 C_X5_number dX5_house_40 eu17 (by decide) rfl (by omega) (Nat.le_of_ble_eq_true rfl) (ct_out rfl rfl (by decide))
  · dsimp only at hl
    cases hl
    exact cx_callVx (Or.inl ⟨by decide, _, _, rfl⟩) (T_X5_want er5) lV_X5_133 C_X5_want dX5_house_21 eu6 (by decide) rfl (by omega) (Nat.le_of_ble_eq_true rfl) (ct_out rfl rfl (by decide))
set_option maxHeartbeats 4000000 in
theorem T_X5_house {l : Launch} {E : XEnv}  {n : Nat} {x0 : Nat} {h : XH} {r : (Unit ⊕ XX) × XH} (hl : k_X5_house n E.2.2.2 x0 h = some r) : CM l E mX5_house 8 [.ref x0] h (xrU r.1) r.2 := by
  unfold k_X5_house at hl
  refine cm_of (by decide +kernel) rfl (Nat.le_of_ble_eq_true rfl) ?_
  refine cx_aload_n dX5_house_0 rfl rfl ?_
  obtain ⟨v1, ev1, hl⟩ := xb hl
  refine cx_getR gF_X5_18 dX5_house_1 ev1 ?_
  obtain ⟨u3, eu3, hl⟩ := xb hl
  obtain ⟨r2, er2, hl⟩ := xb hl
  refine cx_callV (Or.inl ⟨by decide, _, _, rfl⟩) (T_X2_houses er2) lV_X5_202 C_X2_houses dX5_house_4 eu3 (by decide) rfl (by omega) (Nat.le_of_ble_eq_true rfl) ?_
  refine cx_istore_n dX5_house_7 (by decide) ?_
  refine cx_aload_n dX5_house_8 rfl rfl ?_
  refine cx_iload_n dX5_house_9 rfl ?_
  refine cx_bipush (v := 8) dX5_house_10 (by decide) ?_
  by_cases c4 : r2 ≥ 8
  · rw [if_pos c4] at hl
    refine cx_icmp_ge (X := True) (tgt := 19) dX5_house_12 (by decide) (fun _ => ?_) (fun z => absurd c4 z)
    refine cx_iconst (v := 0) dX5_house_19 rfl ?_
    exact cx_lsK (k_X5_house_J20_s hl) ⟨rfl, rfl, trivial⟩
  · rw [if_neg c4] at hl
    refine cx_icmp_ge (X := True) (tgt := 19) dX5_house_12 (by decide) (fun z => absurd z c4) (fun _ => ?_)
    refine cx_iconst (v := 1) dX5_house_15 rfl ?_
    refine cx_goto (tgt := 20) dX5_house_16 (by decide) ?_
    exact cx_lsK (k_X5_house_J20_s hl) ⟨rfl, rfl, trivial⟩
def k_X2_people (x0 : Nat) (h : XH) : Option (Int32) := (cgR h x0 1 2).bind fun v1 => (ckd h v1 10).bind fun u3 => (k_J2_size v1 h).bind fun r2 => some r2
set_option maxHeartbeats 4000000 in
theorem T_X2_people {l : Launch} {E : XEnv}  {x0 : Nat} {h : XH} {r : Int32} (hl : k_X2_people x0 h = some r) : CM l E mX2_people 2 [.ref x0] h (.inl (some (.int r))) h := by
  unfold k_X2_people at hl
  refine cm_of (by decide +kernel) rfl (Nat.le_of_ble_eq_true rfl) ?_
  refine cx_aload_n dX2_people_0 rfl rfl ?_
  obtain ⟨v1, ev1, hl⟩ := xb hl
  refine cx_getR gF_X2_19 dX2_people_1 ev1 ?_
  obtain ⟨u3, eu3, hl⟩ := xb hl
  obtain ⟨r2, er2, hl⟩ := xb hl
  refine cx_callF (ci := 10) (by decide) rfl (T_J2_size er2) lF_X2_25 C_J2_size dX2_people_4 eu3 rfl (by omega) (Nat.le_of_ble_eq_true rfl) ?_
  cases hl
  exact cx_iret dX2_people_9 rfl rfl rfl rfl
def k_X5_person_J148 (n : Nat) (c : Nat → Value) (x0 : Nat) (x2 : Int32) (h : XH) : Option ((Unit ⊕ XX) × XH) := (cgR h x0 4 1).bind fun v38 => (cgR h v38 1 2).bind fun v39 => (k_J14_valueOf c x2 h).bind fun r40 => (ckd r40.2 v39 10).bind fun u43 => (k_J2_add c v39 r40.1 r40.2).bind fun r42 => some (.inl (), r42.2)
def k_X5_person_J118 (n : Nat) (c : Nat → Value) (x0 : Nat) (x1 : Int32) (x2 : Int32) (x3 : Int32) (y0 : Int32) (y1 : Nat) (h : XH) : Option ((Unit ⊕ XX) × XH) := (ckd h y1 4).bind fun u67 => (k_X5_want c y1 y0 4 h).bind fun r66 => match r66 with | (.inl v68, h69) => ((ckd h69 x0 4).bind fun u74 => (k_X5_next n c x0 h69).bind fun r73 => (cgI r73 x0 4 13).bind fun v75 => (cpu r73 x0 4 13 (.int (v75 ||| ((1 : Int32) <<< ((x3 : Int32) &&& 31))))).bind fun h76 => (cgR h76 x0 4 2).bind fun v77 => (cgR h76 v77 2 3).bind fun v78 => (csu h76 v78 100 x1 (.int x3)).bind fun h79 => k_X5_person_J148 n c x0 x2 h79) | (.inr e70, h69) => (some (.inr e70, h69))
def k_X5_person_J97 (n : Nat) (c : Nat → Value) (x0 : Nat) (x1 : Int32) (x2 : Int32) (x3 : Int32) (y0 : Int32) (y1 : Nat) (h : XH) : Option ((Unit ⊕ XX) × XH) := (ckd h y1 4).bind fun u56 => (k_X5_want c y1 y0 3 h).bind fun r55 => match r55 with | (.inl v57, h58) => ((cgI h58 x0 4 13).bind fun v62 => (k_X1_isOf v62 x3 h58).bind fun r63 => if r63 = 0 then k_X5_person_J118 n c x0 x1 x2 x3 1 x0 h58 else k_X5_person_J118 n c x0 x1 x2 x3 0 x0 h58) | (.inr e59, h58) => (some (.inr e59, h58))
def k_X5_person_J20 (n : Nat) (c : Nat → Value) (x0 : Nat) (x1 : Int32) (y0 : Int32) (y1 : Nat) (h : XH) : Option ((Unit ⊕ XX) × XH) := (ckd h y1 4).bind fun u6 => (k_X5_want c y1 y0 2 h).bind fun r5 => match r5 with | (.inl v7, h8) => ((ckd h8 x0 4).bind fun u13 => (k_X5_next n c x0 h8).bind fun r12 => (cgR r12 x0 4 2).bind fun v14 => (cgR r12 v14 2 2).bind fun v15 => (ckd r12 x0 4).bind fun u17 => (k_X5_number n c x0 1 60 r12).bind fun r16 => match r16 with | (.inl v18, h19) => ((csu h19 v15 100 x1 (.int v18)).bind fun h23 => (cgR h23 x0 4 2).bind fun v24 => (cgR h23 v24 2 3).bind fun v25 => (csu h23 v25 100 x1 (.int (-1))).bind fun h26 => (ckd h26 x0 4).bind fun u28 => (k_X5_number n c x0 0 9 h26).bind fun r27 => match r27 with | (.inl v29, h30) => ((vR (c 15)).bind fun v34 => (ckd h30 x0 4).bind fun u36 => (k_X5_passes n c x0 v34 h30).bind fun r35 => if r35.1 = 0 then k_X5_person_J148 n c x0 v29 r35.2 else (ckd r35.2 x0 4).bind fun u45 => (k_X5_numberNow c x0 0 9999 r35.2).bind fun r44 => match r44 with | (.inl v46, h47) => ((cgR h47 x0 4 1).bind fun v51 => (ckd h47 v51 1).bind fun u53 => (k_X2_houses v51 h47).bind fun r52 => if v46 ≥ r52 then k_X5_person_J97 n c x0 x1 v29 v46 0 x0 h47 else k_X5_person_J97 n c x0 x1 v29 v46 1 x0 h47) | (.inr e48, h47) => (some (.inr e48, h47))) | (.inr e31, h30) => (some (.inr e31, h30))) | (.inr e20, h19) => (some (.inr e20, h19))) | (.inr e9, h8) => (some (.inr e9, h8))
def k_X5_person (n : Nat) (c : Nat → Value) (x0 : Nat) (h : XH) : Option ((Unit ⊕ XX) × XH) := (cgR h x0 4 1).bind fun v1 => (ckd h v1 1).bind fun u3 => (k_X2_people v1 h).bind fun r2 => if r2 ≥ 8 then k_X5_person_J20 n c x0 r2 0 x0 h else k_X5_person_J20 n c x0 r2 1 x0 h
set_option maxHeartbeats 4000000 in
theorem k_X5_person_J148_s {l : Launch} {E : XEnv}  {n : Nat} {x0 : Nat} {x2 : Int32} {h : XH} {r : (Unit ⊕ XX) × XH} (hl : k_X5_person_J148 n E.2.2.2 x0 x2 h = some r) : CX l E mX5_person 8 148 [(0, .ref x0), (2, .int x2)] [] h r.2 (xrU r.1) := by
  unfold k_X5_person_J148 at hl
  refine cx_aload_n dX5_person_148 rfl rfl ?_
  obtain ⟨v38, ev38, hl⟩ := xb hl
  refine cx_getR gF_X5_18 dX5_person_149 ev38 ?_
  obtain ⟨v39, ev39, hl⟩ := xb hl
  refine cx_getR gF_X5_242 dX5_person_152 ev39 ?_
  refine cx_iload_n dX5_person_155 rfl ?_
  obtain ⟨r40, er40, hl⟩ := xb hl
  refine cx_callS (T_J14_valueOf er40) lS_X5_212 C_J14_valueOf dX5_person_156 rfl (by omega) (Nat.le_of_ble_eq_true rfl) ?_
  obtain ⟨u43, eu43, hl⟩ := xb hl
  obtain ⟨r42, er42, hl⟩ := xb hl
  refine cx_callF (ci := 10) (by decide) rfl (T_J2_add er42) lF_X5_218 C_J2_add dX5_person_159 eu43 rfl (by omega) (Nat.le_of_ble_eq_true rfl) ?_
  refine cx_pop dX5_person_164 rfl ?_
  cases hl
  exact cx_vret dX5_person_165 rfl rfl rfl
set_option maxHeartbeats 4000000 in
theorem k_X5_person_J118_s {l : Launch} {E : XEnv}  {n : Nat} {x0 : Nat} {x1 : Int32} {x2 : Int32} {x3 : Int32} {y0 : Int32} {y1 : Nat} {h : XH} {r : (Unit ⊕ XX) × XH} (hl : k_X5_person_J118 n E.2.2.2 x0 x1 x2 x3 y0 y1 h = some r) : CX l E mX5_person 8 118 [(0, .ref x0), (1, .int x1), (2, .int x2), (3, .int x3)] [.int y0, .ref y1] h r.2 (xrU r.1) := by
  unfold k_X5_person_J118 at hl
  refine cx_iconst (v := 4) dX5_person_118 rfl ?_
  obtain ⟨u67, eu67, hl⟩ := xb hl
  obtain ⟨r66, er66, hl⟩ := xb hl
  rcases r66 with ⟨v68 | ⟨C71, q72⟩, h69⟩
  · dsimp only at hl
    refine cx_callV (Or.inl ⟨by decide, _, _, rfl⟩) (T_X5_want er66) lV_X5_133 C_X5_want dX5_person_119 eu67 (by decide) rfl (by omega) (Nat.le_of_ble_eq_true rfl) ?_
    refine cx_aload_n dX5_person_122 rfl rfl ?_
    obtain ⟨u74, eu74, hl⟩ := xb hl
    obtain ⟨r73, er73, hl⟩ := xb hl
    refine cx_callV (Or.inl ⟨by decide, _, _, rfl⟩) (T_X5_next er73) lV_X5_125 C_X5_next dX5_person_123 eu74 (by decide) rfl (by omega) (Nat.le_of_ble_eq_true rfl) ?_
    refine cx_aload_n dX5_person_126 rfl rfl ?_
    refine cx_dup dX5_person_127 rfl ?_
    obtain ⟨v75, ev75, hl⟩ := xb hl
    refine cx_getI gF_X5_235 dX5_person_128 ev75 ?_
    refine cx_iconst (v := 1) dX5_person_131 rfl ?_
    refine cx_iload_n dX5_person_132 rfl ?_
    refine cx_ishl dX5_person_133 ?_
    refine cx_ior dX5_person_134 ?_
    obtain ⟨h76, eh76, hl⟩ := xb hl
    refine cx_putI pF_X5_235 dX5_person_135 eh76 ?_
    refine cx_aload_n dX5_person_138 rfl rfl ?_
    obtain ⟨v77, ev77, hl⟩ := xb hl
    refine cx_getR gF_X5_27 dX5_person_139 ev77 ?_
    obtain ⟨v78, ev78, hl⟩ := xb hl
    refine cx_getR gF_X5_231 dX5_person_142 ev78 ?_
    refine cx_iload_n dX5_person_145 rfl ?_
    refine cx_iload_n dX5_person_146 rfl ?_
    obtain ⟨h79, eh79, hl⟩ := xb hl
    refine cx_iast dX5_person_147 eh79 ?_
    exact cx_lsK (k_X5_person_J148_s hl) ⟨rfl, rfl, trivial⟩
  · dsimp only at hl
    cases hl
    exact cx_callVx (Or.inl ⟨by decide, _, _, rfl⟩) (T_X5_want er66) lV_X5_133 C_X5_want dX5_person_119 eu67 (by decide) rfl (by omega) (Nat.le_of_ble_eq_true rfl) (ct_out rfl rfl (by decide))
set_option maxHeartbeats 4000000 in
theorem k_X5_person_J97_s {l : Launch} {E : XEnv}  {n : Nat} {x0 : Nat} {x1 : Int32} {x2 : Int32} {x3 : Int32} {y0 : Int32} {y1 : Nat} {h : XH} {r : (Unit ⊕ XX) × XH} (hl : k_X5_person_J97 n E.2.2.2 x0 x1 x2 x3 y0 y1 h = some r) : CX l E mX5_person 8 97 [(0, .ref x0), (1, .int x1), (2, .int x2), (3, .int x3)] [.int y0, .ref y1] h r.2 (xrU r.1) := by
  unfold k_X5_person_J97 at hl
  refine cx_iconst (v := 3) dX5_person_97 rfl ?_
  obtain ⟨u56, eu56, hl⟩ := xb hl
  obtain ⟨r55, er55, hl⟩ := xb hl
  rcases r55 with ⟨v57 | ⟨C60, q61⟩, h58⟩
  · dsimp only at hl
    refine cx_callV (Or.inl ⟨by decide, _, _, rfl⟩) (T_X5_want er55) lV_X5_133 C_X5_want dX5_person_98 eu56 (by decide) rfl (by omega) (Nat.le_of_ble_eq_true rfl) ?_
    refine cx_aload_n dX5_person_101 rfl rfl ?_
    refine cx_aload_n dX5_person_102 rfl rfl ?_
    obtain ⟨v62, ev62, hl⟩ := xb hl
    refine cx_getI gF_X5_235 dX5_person_103 ev62 ?_
    refine cx_iload_n dX5_person_106 rfl ?_
    obtain ⟨r63, er63, hl⟩ := xb hl
    refine cx_callS (T_X1_isOf er63) lS_X5_238 C_X1_isOf dX5_person_107 rfl (by omega) (Nat.le_of_ble_eq_true rfl) ?_
    by_cases c65 : r63 = 0
    · rw [if_pos c65] at hl
      refine cx_if_ne (X := True) (tgt := 117) dX5_person_110 (by decide) (fun z => absurd c65 z) (fun _ => ?_)
      refine cx_iconst (v := 1) dX5_person_113 rfl ?_
      refine cx_goto (tgt := 118) dX5_person_114 (by decide) ?_
      exact cx_lsK (k_X5_person_J118_s hl) ⟨rfl, rfl, rfl, rfl, trivial⟩
    · rw [if_neg c65] at hl
      refine cx_if_ne (X := True) (tgt := 117) dX5_person_110 (by decide) (fun _ => ?_) (fun z => absurd z c65)
      refine cx_iconst (v := 0) dX5_person_117 rfl ?_
      exact cx_lsK (k_X5_person_J118_s hl) ⟨rfl, rfl, rfl, rfl, trivial⟩
  · dsimp only at hl
    cases hl
    exact cx_callVx (Or.inl ⟨by decide, _, _, rfl⟩) (T_X5_want er55) lV_X5_133 C_X5_want dX5_person_98 eu56 (by decide) rfl (by omega) (Nat.le_of_ble_eq_true rfl) (ct_out rfl rfl (by decide))
set_option maxHeartbeats 4000000 in
theorem k_X5_person_J20_s {l : Launch} {E : XEnv}  {n : Nat} {x0 : Nat} {x1 : Int32} {y0 : Int32} {y1 : Nat} {h : XH} {r : (Unit ⊕ XX) × XH} (hl : k_X5_person_J20 n E.2.2.2 x0 x1 y0 y1 h = some r) : CX l E mX5_person 8 20 [(0, .ref x0), (1, .int x1)] [.int y0, .ref y1] h r.2 (xrU r.1) := by
  unfold k_X5_person_J20 at hl
  refine cx_iconst (v := 2) dX5_person_20 rfl ?_
  obtain ⟨u6, eu6, hl⟩ := xb hl
  obtain ⟨r5, er5, hl⟩ := xb hl
  rcases r5 with ⟨v7 | ⟨C10, q11⟩, h8⟩
  · dsimp only at hl
    refine cx_callV (Or.inl ⟨by decide, _, _, rfl⟩) (T_X5_want er5) lV_X5_133 C_X5_want dX5_person_21 eu6 (by decide) rfl (by omega) (Nat.le_of_ble_eq_true rfl) ?_
    refine cx_aload_n dX5_person_24 rfl rfl ?_
    obtain ⟨u13, eu13, hl⟩ := xb hl
    obtain ⟨r12, er12, hl⟩ := xb hl
    refine cx_callV (Or.inl ⟨by decide, _, _, rfl⟩) (T_X5_next er12) lV_X5_125 C_X5_next dX5_person_25 eu13 (by decide) rfl (by omega) (Nat.le_of_ble_eq_true rfl) ?_
    refine cx_aload_n dX5_person_28 rfl rfl ?_
    obtain ⟨v14, ev14, hl⟩ := xb hl
    refine cx_getR gF_X5_27 dX5_person_29 ev14 ?_
    obtain ⟨v15, ev15, hl⟩ := xb hl
    refine cx_getR gF_X5_229 dX5_person_32 ev15 ?_
    refine cx_iload_n dX5_person_35 rfl ?_
    refine cx_aload_n dX5_person_36 rfl rfl ?_
    refine cx_iconst (v := 1) dX5_person_37 rfl ?_
    refine cx_bipush (v := 60) dX5_person_38 (by decide) ?_
    obtain ⟨u17, eu17, hl⟩ := xb hl
    obtain ⟨r16, er16, hl⟩ := xb hl
    rcases r16 with ⟨v18 | ⟨C21, q22⟩, h19⟩
    · dsimp only at hl
      refine cx_callV (Or.inl ⟨by decide, _, _, rfl⟩) (T_X5_number er16) lV_X5_142 C_X5_number dX5_person_40 eu17 (by decide) rfl (by omega) (Nat.le_of_ble_eq_true rfl) ?_
      obtain ⟨h23, eh23, hl⟩ := xb hl
      refine cx_iast dX5_person_43 eh23 ?_
      refine cx_aload_n dX5_person_44 rfl rfl ?_
      obtain ⟨v24, ev24, hl⟩ := xb hl
      refine cx_getR gF_X5_27 dX5_person_45 ev24 ?_
      obtain ⟨v25, ev25, hl⟩ := xb hl
      refine cx_getR gF_X5_231 dX5_person_48 ev25 ?_
      refine cx_iload_n dX5_person_51 rfl ?_
      refine cx_iconst (v := (-1)) dX5_person_52 rfl ?_
      obtain ⟨h26, eh26, hl⟩ := xb hl
      refine cx_iast dX5_person_53 eh26 ?_
      refine cx_aload_n dX5_person_54 rfl rfl ?_
      refine cx_iconst (v := 0) dX5_person_55 rfl ?_
      refine cx_bipush (v := 9) dX5_person_56 (by decide) ?_
      obtain ⟨u28, eu28, hl⟩ := xb hl
      obtain ⟨r27, er27, hl⟩ := xb hl
      rcases r27 with ⟨v29 | ⟨C32, q33⟩, h30⟩
      · dsimp only at hl
        refine cx_callV (Or.inl ⟨by decide, _, _, rfl⟩) (T_X5_number er27) lV_X5_142 C_X5_number dX5_person_58 eu28 (by decide) rfl (by omega) (Nat.le_of_ble_eq_true rfl) ?_
        refine cx_istore_n dX5_person_61 (by decide) ?_
        refine cx_aload_n dX5_person_62 rfl rfl ?_
        obtain ⟨v34, ev34, hl⟩ := xb hl
        refine cx_ldcS (i := 15) rfl dX5_person_63 ev34 ?_
        obtain ⟨u36, eu36, hl⟩ := xb hl
        obtain ⟨r35, er35, hl⟩ := xb hl
        refine cx_callV (Or.inl ⟨by decide, _, _, rfl⟩) (T_X5_passes er35) lV_X5_195 C_X5_passes dX5_person_65 eu36 (by decide) rfl (by omega) (Nat.le_of_ble_eq_true rfl) ?_
        by_cases c37 : r35.1 = 0
        · rw [if_pos c37] at hl
          refine cx_if_eq (X := True) (tgt := 148) dX5_person_68 (by decide) (fun _ => ?_) (fun z => absurd c37 z)
          exact cx_lsK (k_X5_person_J148_s hl) ⟨rfl, rfl, trivial⟩
        · rw [if_neg c37] at hl
          refine cx_if_eq (X := True) (tgt := 148) dX5_person_68 (by decide) (fun z => absurd z c37) (fun _ => ?_)
          refine cx_aload_n dX5_person_71 rfl rfl ?_
          refine cx_iconst (v := 0) dX5_person_72 rfl ?_
          refine cx_sipush (v := 9999) dX5_person_73 (by decide) ?_
          obtain ⟨u45, eu45, hl⟩ := xb hl
          obtain ⟨r44, er44, hl⟩ := xb hl
          rcases r44 with ⟨v46 | ⟨C49, q50⟩, h47⟩
          · dsimp only at hl
            refine cx_callV (Or.inl ⟨by decide, _, _, rfl⟩) (T_X5_numberNow er44) lV_X5_137 C_X5_numberNow dX5_person_76 eu45 (by decide) rfl (by omega) (Nat.le_of_ble_eq_true rfl) ?_
            refine cx_istore_n dX5_person_79 (by decide) ?_
            refine cx_aload_n dX5_person_80 rfl rfl ?_
            refine cx_iload_n dX5_person_81 rfl ?_
            refine cx_aload_n dX5_person_82 rfl rfl ?_
            obtain ⟨v51, ev51, hl⟩ := xb hl
            refine cx_getR gF_X5_18 dX5_person_83 ev51 ?_
            obtain ⟨u53, eu53, hl⟩ := xb hl
            obtain ⟨r52, er52, hl⟩ := xb hl
            refine cx_callV (Or.inl ⟨by decide, _, _, rfl⟩) (T_X2_houses er52) lV_X5_202 C_X2_houses dX5_person_86 eu53 (by decide) rfl (by omega) (Nat.le_of_ble_eq_true rfl) ?_
            by_cases c54 : v46 ≥ r52
            · rw [if_pos c54] at hl
              refine cx_icmp_ge (X := True) (tgt := 96) dX5_person_89 (by decide) (fun _ => ?_) (fun z => absurd c54 z)
              refine cx_iconst (v := 0) dX5_person_96 rfl ?_
              exact cx_lsK (k_X5_person_J97_s hl) ⟨rfl, rfl, rfl, rfl, trivial⟩
            · rw [if_neg c54] at hl
              refine cx_icmp_ge (X := True) (tgt := 96) dX5_person_89 (by decide) (fun z => absurd z c54) (fun _ => ?_)
              refine cx_iconst (v := 1) dX5_person_92 rfl ?_
              refine cx_goto (tgt := 97) dX5_person_93 (by decide) ?_
              exact cx_lsK (k_X5_person_J97_s hl) ⟨rfl, rfl, rfl, rfl, trivial⟩
          · dsimp only at hl
            cases hl
            exact cx_callVx (Or.inl ⟨by decide, _, _, rfl⟩) (T_X5_numberNow er44) lV_X5_137 C_X5_numberNow dX5_person_76 eu45 (by decide) rfl (by omega) (Nat.le_of_ble_eq_true rfl) (ct_out rfl rfl (by decide))
      · dsimp only at hl
        cases hl
        exact cx_callVx (Or.inl ⟨by decide, _, _, rfl⟩) (T_X5_number er27) lV_X5_142 C_X5_number dX5_person_58 eu28 (by decide) rfl (by omega) (Nat.le_of_ble_eq_true rfl) (ct_out rfl rfl (by decide))
    · dsimp only at hl
      cases hl
      exact cx_callVx (Or.inl ⟨by decide, _, _, rfl⟩) (T_X5_number er16) lV_X5_142 C_X5_number dX5_person_40 eu17 (by decide) rfl (by omega) (Nat.le_of_ble_eq_true rfl) (ct_out rfl rfl (by decide))
  · dsimp only at hl
    cases hl
    exact cx_callVx (Or.inl ⟨by decide, _, _, rfl⟩) (T_X5_want er5) lV_X5_133 C_X5_want dX5_person_21 eu6 (by decide) rfl (by omega) (Nat.le_of_ble_eq_true rfl) (ct_out rfl rfl (by decide))
set_option maxHeartbeats 4000000 in
theorem T_X5_person {l : Launch} {E : XEnv}  {n : Nat} {x0 : Nat} {h : XH} {r : (Unit ⊕ XX) × XH} (hl : k_X5_person n E.2.2.2 x0 h = some r) : CM l E mX5_person 8 [.ref x0] h (xrU r.1) r.2 := by
  unfold k_X5_person at hl
  refine cm_of (by decide +kernel) rfl (Nat.le_of_ble_eq_true rfl) ?_
  refine cx_aload_n dX5_person_0 rfl rfl ?_
  obtain ⟨v1, ev1, hl⟩ := xb hl
  refine cx_getR gF_X5_18 dX5_person_1 ev1 ?_
  obtain ⟨u3, eu3, hl⟩ := xb hl
  obtain ⟨r2, er2, hl⟩ := xb hl
  refine cx_callV (Or.inl ⟨by decide, _, _, rfl⟩) (T_X2_people er2) lV_X5_226 C_X2_people dX5_person_4 eu3 (by decide) rfl (by omega) (Nat.le_of_ble_eq_true rfl) ?_
  refine cx_istore_n dX5_person_7 (by decide) ?_
  refine cx_aload_n dX5_person_8 rfl rfl ?_
  refine cx_iload_n dX5_person_9 rfl ?_
  refine cx_bipush (v := 8) dX5_person_10 (by decide) ?_
  by_cases c4 : r2 ≥ 8
  · rw [if_pos c4] at hl
    refine cx_icmp_ge (X := True) (tgt := 19) dX5_person_12 (by decide) (fun _ => ?_) (fun z => absurd c4 z)
    refine cx_iconst (v := 0) dX5_person_19 rfl ?_
    exact cx_lsK (k_X5_person_J20_s hl) ⟨rfl, rfl, trivial⟩
  · rw [if_neg c4] at hl
    refine cx_icmp_ge (X := True) (tgt := 19) dX5_person_12 (by decide) (fun z => absurd z c4) (fun _ => ?_)
    refine cx_iconst (v := 1) dX5_person_15 rfl ?_
    refine cx_goto (tgt := 20) dX5_person_16 (by decide) ?_
    exact cx_lsK (k_X5_person_J20_s hl) ⟨rfl, rfl, trivial⟩
def k_X5_line_J55 (n : Nat) (g : Nat) (c : Nat → Value) (x0 : Nat) (h : XH) : Option ((Unit ⊕ XX) × XH) := (ckd h x0 4).bind fun u27 => (k_X5_isSign x0 59 h).bind fun r26 => (ckd h x0 4).bind fun u29 => (k_X5_want c x0 r26 1 h).bind fun r28 => match r28 with | (.inl v30, h31) => ((ckd h31 x0 4).bind fun u36 => (k_X5_next n c x0 h31).bind fun r35 => some (.inl (), r35)) | (.inr e32, h31) => (some (.inr e32, h31))
def k_X5_line (n : Nat) (g : Nat) (c : Nat → Value) (x0 : Nat) (h : XH) : Option ((Unit ⊕ XX) × XH) := (cgR h x0 4 3).bind fun v1 => (ckd h x0 4).bind fun u3 => (k_X5_which n c x0 v1 h).bind fun r2 => if r2 = (-1) then (vR (c 13)).bind fun v5 => (ckd h x0 4).bind fun u7 => (k_X5_is n c x0 v5 h).bind fun r6 => if r6 = 0 then (vR (c 14)).bind fun v9 => (ckd h x0 4).bind fun u11 => (k_X5_is n c x0 v9 h).bind fun r10 => (ckd h x0 4).bind fun u13 => (k_X5_want c x0 r10 1 h).bind fun r12 => match r12 with | (.inl v14, h15) => ((ckd h15 x0 4).bind fun u20 => (k_X5_person n c x0 h15).bind fun r19 => match r19 with | (.inl v21, h22) => (k_X5_line_J55 n g c x0 h22) | (.inr e23, h22) => (some (.inr e23, h22))) | (.inr e16, h15) => (some (.inr e16, h15)) else (ckd h x0 4).bind fun u38 => (k_X5_house n c x0 h).bind fun r37 => match r37 with | (.inl v39, h40) => (k_X5_line_J55 n g c x0 h40) | (.inr e41, h40) => (some (.inr e41, h40)) else (ckd h x0 4).bind fun u45 => (k_X5_only n g c x0 r2 h).bind fun r44 => match r44 with | (.inl v46, h47) => (k_X5_line_J55 n g c x0 h47) | (.inr e48, h47) => (some (.inr e48, h47))
set_option maxHeartbeats 4000000 in
theorem k_X5_line_J55_s {l : Launch} {E : XEnv}  {n : Nat} {g : Nat} {x0 : Nat} {h : XH} {r : (Unit ⊕ XX) × XH} (hl : k_X5_line_J55 n g E.2.2.2 x0 h = some r) : CX l E mX5_line (13 * g + 10) 55 [(0, .ref x0)] [] h r.2 (xrU r.1) := by
  unfold k_X5_line_J55 at hl
  refine cx_aload_n dX5_line_55 rfl rfl ?_
  refine cx_aload_n dX5_line_56 rfl rfl ?_
  refine cx_bipush (v := 59) dX5_line_57 (by decide) ?_
  obtain ⟨u27, eu27, hl⟩ := xb hl
  obtain ⟨r26, er26, hl⟩ := xb hl
  refine cx_callV (Or.inl ⟨by decide, _, _, rfl⟩) (T_X5_isSign er26) lV_X5_145 C_X5_isSign dX5_line_59 eu27 (by decide) rfl (by omega) (Nat.le_of_ble_eq_true rfl) ?_
  refine cx_iconst (v := 1) dX5_line_62 rfl ?_
  obtain ⟨u29, eu29, hl⟩ := xb hl
  obtain ⟨r28, er28, hl⟩ := xb hl
  rcases r28 with ⟨v30 | ⟨C33, q34⟩, h31⟩
  · dsimp only at hl
    refine cx_callV (Or.inl ⟨by decide, _, _, rfl⟩) (T_X5_want er28) lV_X5_133 C_X5_want dX5_line_63 eu29 (by decide) rfl (by omega) (Nat.le_of_ble_eq_true rfl) ?_
    refine cx_aload_n dX5_line_66 rfl rfl ?_
    obtain ⟨u36, eu36, hl⟩ := xb hl
    obtain ⟨r35, er35, hl⟩ := xb hl
    refine cx_callV (Or.inl ⟨by decide, _, _, rfl⟩) (T_X5_next er35) lV_X5_125 C_X5_next dX5_line_67 eu36 (by decide) rfl (by omega) (Nat.le_of_ble_eq_true rfl) ?_
    cases hl
    exact cx_vret dX5_line_70 rfl rfl rfl
  · dsimp only at hl
    cases hl
    exact cx_callVx (Or.inl ⟨by decide, _, _, rfl⟩) (T_X5_want er28) lV_X5_133 C_X5_want dX5_line_63 eu29 (by decide) rfl (by omega) (Nat.le_of_ble_eq_true rfl) (ct_out rfl rfl (by decide))
set_option maxHeartbeats 4000000 in
theorem T_X5_line {l : Launch} {E : XEnv}  {n : Nat} {g : Nat} {x0 : Nat} {h : XH} {r : (Unit ⊕ XX) × XH} (hl : k_X5_line n g E.2.2.2 x0 h = some r) : CM l E mX5_line (13 * g + 10) [.ref x0] h (xrU r.1) r.2 := by
  unfold k_X5_line at hl
  refine cm_of (by decide +kernel) rfl (Nat.le_of_ble_eq_true rfl) ?_
  refine cx_aload_n dX5_line_0 rfl rfl ?_
  refine cx_aload_n dX5_line_1 rfl rfl ?_
  obtain ⟨v1, ev1, hl⟩ := xb hl
  refine cx_getR gF_X5_39 dX5_line_2 ev1 ?_
  obtain ⟨u3, eu3, hl⟩ := xb hl
  obtain ⟨r2, er2, hl⟩ := xb hl
  refine cx_callV (Or.inl ⟨by decide, _, _, rfl⟩) (T_X5_which er2) lV_X5_153 C_X5_which dX5_line_5 eu3 (by decide) rfl (by omega) (Nat.le_of_ble_eq_true rfl) ?_
  refine cx_istore_n dX5_line_8 (by decide) ?_
  refine cx_iload_n dX5_line_9 rfl ?_
  refine cx_iconst (v := (-1)) dX5_line_10 rfl ?_
  by_cases c4 : r2 = (-1)
  · rw [if_pos c4] at hl
    refine cx_icmp_eq (X := True) (tgt := 22) dX5_line_11 (by decide) (fun _ => ?_) (fun z => absurd c4 z)
    refine cx_aload_n dX5_line_22 rfl rfl ?_
    obtain ⟨v5, ev5, hl⟩ := xb hl
    refine cx_ldcwS (i := 13) rfl dX5_line_23 ev5 ?_
    obtain ⟨u7, eu7, hl⟩ := xb hl
    obtain ⟨r6, er6, hl⟩ := xb hl
    refine cx_callV (Or.inl ⟨by decide, _, _, rfl⟩) (T_X5_is er6) lV_X5_121 C_X5_is dX5_line_26 eu7 (by decide) rfl (by omega) (Nat.le_of_ble_eq_true rfl) ?_
    by_cases c8 : r6 = 0
    · rw [if_pos c8] at hl
      refine cx_if_eq (X := True) (tgt := 39) dX5_line_29 (by decide) (fun _ => ?_) (fun z => absurd c8 z)
      refine cx_aload_n dX5_line_39 rfl rfl ?_
      refine cx_aload_n dX5_line_40 rfl rfl ?_
      obtain ⟨v9, ev9, hl⟩ := xb hl
      refine cx_ldcwS (i := 14) rfl dX5_line_41 ev9 ?_
      obtain ⟨u11, eu11, hl⟩ := xb hl
      obtain ⟨r10, er10, hl⟩ := xb hl
      refine cx_callV (Or.inl ⟨by decide, _, _, rfl⟩) (T_X5_is er10) lV_X5_121 C_X5_is dX5_line_44 eu11 (by decide) rfl (by omega) (Nat.le_of_ble_eq_true rfl) ?_
      refine cx_iconst (v := 1) dX5_line_47 rfl ?_
      obtain ⟨u13, eu13, hl⟩ := xb hl
      obtain ⟨r12, er12, hl⟩ := xb hl
      rcases r12 with ⟨v14 | ⟨C17, q18⟩, h15⟩
      · dsimp only at hl
        refine cx_callV (Or.inl ⟨by decide, _, _, rfl⟩) (T_X5_want er12) lV_X5_133 C_X5_want dX5_line_48 eu13 (by decide) rfl (by omega) (Nat.le_of_ble_eq_true rfl) ?_
        refine cx_aload_n dX5_line_51 rfl rfl ?_
        obtain ⟨u20, eu20, hl⟩ := xb hl
        obtain ⟨r19, er19, hl⟩ := xb hl
        rcases r19 with ⟨v21 | ⟨C24, q25⟩, h22⟩
        · dsimp only at hl
          refine cx_callV (Or.inl ⟨by decide, _, _, rfl⟩) (T_X5_person er19) lV_X5_268 C_X5_person dX5_line_52 eu20 (by decide) rfl (by omega) (Nat.le_of_ble_eq_true rfl) ?_
          exact cx_lsK (k_X5_line_J55_s hl) ⟨rfl, trivial⟩
        · dsimp only at hl
          cases hl
          exact cx_callVx (Or.inl ⟨by decide, _, _, rfl⟩) (T_X5_person er19) lV_X5_268 C_X5_person dX5_line_52 eu20 (by decide) rfl (by omega) (Nat.le_of_ble_eq_true rfl) (ct_out rfl rfl (by decide))
      · dsimp only at hl
        cases hl
        exact cx_callVx (Or.inl ⟨by decide, _, _, rfl⟩) (T_X5_want er12) lV_X5_133 C_X5_want dX5_line_48 eu13 (by decide) rfl (by omega) (Nat.le_of_ble_eq_true rfl) (ct_out rfl rfl (by decide))
    · rw [if_neg c8] at hl
      refine cx_if_eq (X := True) (tgt := 39) dX5_line_29 (by decide) (fun z => absurd z c8) (fun _ => ?_)
      refine cx_aload_n dX5_line_32 rfl rfl ?_
      obtain ⟨u38, eu38, hl⟩ := xb hl
      obtain ⟨r37, er37, hl⟩ := xb hl
      rcases r37 with ⟨v39 | ⟨C42, q43⟩, h40⟩
      · dsimp only at hl
        refine cx_callV (Or.inl ⟨by decide, _, _, rfl⟩) (T_X5_house er37) lV_X5_264 C_X5_house dX5_line_33 eu38 (by decide) rfl (by omega) (Nat.le_of_ble_eq_true rfl) ?_
        refine cx_goto (tgt := 55) dX5_line_36 (by decide) ?_
        exact cx_lsK (k_X5_line_J55_s hl) ⟨rfl, trivial⟩
      · dsimp only at hl
        cases hl
        exact cx_callVx (Or.inl ⟨by decide, _, _, rfl⟩) (T_X5_house er37) lV_X5_264 C_X5_house dX5_line_33 eu38 (by decide) rfl (by omega) (Nat.le_of_ble_eq_true rfl) (ct_out rfl rfl (by decide))
  · rw [if_neg c4] at hl
    refine cx_icmp_eq (X := True) (tgt := 22) dX5_line_11 (by decide) (fun z => absurd z c4) (fun _ => ?_)
    refine cx_aload_n dX5_line_14 rfl rfl ?_
    refine cx_iload_n dX5_line_15 rfl ?_
    obtain ⟨u45, eu45, hl⟩ := xb hl
    obtain ⟨r44, er44, hl⟩ := xb hl
    rcases r44 with ⟨v46 | ⟨C49, q50⟩, h47⟩
    · dsimp only at hl
      refine cx_callV (Or.inl ⟨by decide, _, _, rfl⟩) (T_X5_only er44) lV_X5_260 C_X5_only dX5_line_16 eu45 (by decide) rfl (by omega) (Nat.le_of_ble_eq_true rfl) ?_
      refine cx_goto (tgt := 55) dX5_line_19 (by decide) ?_
      exact cx_lsK (k_X5_line_J55_s hl) ⟨rfl, trivial⟩
    · dsimp only at hl
      cases hl
      exact cx_callVx (Or.inl ⟨by decide, _, _, rfl⟩) (T_X5_only er44) lV_X5_260 C_X5_only dX5_line_16 eu45 (by decide) rfl (by omega) (Nat.le_of_ble_eq_true rfl) (ct_out rfl rfl (by decide))
def k_X5_read_L4 (n : Nat) (g : Nat) (c : Nat → Value) (x0 : Nat) (h : XH) : Option ((XH) ⊕ ((XH) ⊕ ((Nat ⊕ XX) × XH))) := (cgI h x0 4 8).bind fun v3 => if v3 = 0 then some (.inr (.inl h)) else (ckd h x0 4).bind fun u6 => (k_X5_line n g c x0 h).bind fun r5 => match r5 with | (.inl v7, h8) => (some (.inl h8)) | (.inr e9, h8) => (some (.inr (.inr (.inr e9, h8))))
abbrev K_X5_read_L4 (l : Launch) (E : XEnv) (hf : XH) (res : XO) (g : Nat) (h : XH) (x0 : Nat) (o : (XH) ⊕ ((Nat ⊕ XX) × XH)) : Prop := match o with
  | .inl e => CX l E mX5_read (13 * g + 11) 18 [(0, .ref x0)] [] e hf res
  | .inr e => (xrR e.1 = res ∧ e.2 = hf)
def k_X5_read (n : Nat) (g : Nat) (c : Nat → Value) (x0 : Nat) (h : XH) : Option ((Nat ⊕ XX) × XH) := (ckd h x0 4).bind fun u2 => (k_X5_next n c x0 h).bind fun r1 => (xloop (fun s => k_X5_read_L4 n g c x0 s) n r1).bind fun o12 => match o12 with | .inl e13 => ((cgR e13 x0 4 1).bind fun v15 => some (.inl v15, e13)) | .inr e14 => (some e14)
set_option maxHeartbeats 4000000 in
theorem k_X5_read_L4_s {l : Launch} {E : XEnv} {hf : XH} {res : XO} {n : Nat} {g : Nat} {x0 : Nat} {h : XH} {o : (XH) ⊕ ((XH) ⊕ ((Nat ⊕ XX) × XH))} (hl : k_X5_read_L4 n g E.2.2.2 x0 h = some o) (hK : (xk (fun s : XH => CX l E mX5_read (13 * g + 11) 4 [(0, .ref x0)] [] s hf res) (fun r => K_X5_read_L4 l E hf res g h x0 r) o)) : CX l E mX5_read (13 * g + 11) 4 [(0, .ref x0)] [] h hf res := by
  unfold k_X5_read_L4 at hl
  refine cx_aload_n dX5_read_4 rfl rfl ?_
  obtain ⟨v3, ev3, hl⟩ := xb hl
  refine cx_getI gF_X5_85 dX5_read_5 ev3 ?_
  by_cases c4 : v3 = 0
  · rw [if_pos c4] at hl
    refine cx_if_eq (X := True) (tgt := 18) dX5_read_8 (by decide) (fun _ => ?_) (fun z => absurd c4 z)
    cases hl
    exact cx_lsK hK ⟨rfl, trivial⟩
  · rw [if_neg c4] at hl
    refine cx_if_eq (X := True) (tgt := 18) dX5_read_8 (by decide) (fun z => absurd z c4) (fun _ => ?_)
    refine cx_aload_n dX5_read_11 rfl rfl ?_
    obtain ⟨u6, eu6, hl⟩ := xb hl
    obtain ⟨r5, er5, hl⟩ := xb hl
    rcases r5 with ⟨v7 | ⟨C10, q11⟩, h8⟩
    · dsimp only at hl
      refine cx_callV (Or.inl ⟨by decide, _, _, rfl⟩) (T_X5_line er5) lV_X5_270 C_X5_line dX5_read_12 eu6 (by decide) rfl (by omega) (Nat.le_of_ble_eq_true rfl) ?_
      refine cx_goto (tgt := 4) dX5_read_15 (by decide) ?_
      cases hl
      exact cx_lsK hK ⟨rfl, trivial⟩
    · dsimp only at hl
      cases hl
      exact cx_callVx (Or.inl ⟨by decide, _, _, rfl⟩) (T_X5_line er5) lV_X5_270 C_X5_line dX5_read_12 eu6 (by decide) rfl (by omega) (Nat.le_of_ble_eq_true rfl) (ct_out hK.1 hK.2 (by decide))
set_option maxHeartbeats 4000000 in
theorem k_X5_read_L4_ok {l : Launch} {E : XEnv} {hf : XH} {res : XO} {n : Nat} {g : Nat} {x0 : Nat} {h : XH} {s : XH} {o : (XH) ⊕ ((Nat ⊕ XX) × XH)} (hl : xloop (fun s => k_X5_read_L4 n g E.2.2.2 x0 s) n s = some o) (hK : K_X5_read_L4 l E hf res g h x0 o) : CX l E mX5_read (13 * g + 11) 4 [(0, .ref x0)] [] s hf res :=
  xloop_of (fun s : XH => CX l E mX5_read (13 * g + 11) 4 [(0, .ref x0)] [] s hf res) (fun r => K_X5_read_L4 l E hf res g h x0 r) (fun s o hl hk => k_X5_read_L4_s (h := s) (o := o) hl hk) n s o hl hK
set_option maxHeartbeats 4000000 in
theorem T_X5_read {l : Launch} {E : XEnv}  {n : Nat} {g : Nat} {x0 : Nat} {h : XH} {r : (Nat ⊕ XX) × XH} (hl : k_X5_read n g E.2.2.2 x0 h = some r) : CM l E mX5_read (13 * g + 11) [.ref x0] h (xrR r.1) r.2 := by
  unfold k_X5_read at hl
  refine cm_of (by decide +kernel) rfl (Nat.le_of_ble_eq_true rfl) ?_
  refine cx_aload_n dX5_read_0 rfl rfl ?_
  obtain ⟨u2, eu2, hl⟩ := xb hl
  obtain ⟨r1, er1, hl⟩ := xb hl
  refine cx_callV (Or.inl ⟨by decide, _, _, rfl⟩) (T_X5_next er1) lV_X5_125 C_X5_next dX5_read_1 eu2 (by decide) rfl (by omega) (Nat.le_of_ble_eq_true rfl) ?_
  obtain ⟨o12, eo12, hl⟩ := xb hl
  rcases o12 with e13 | e14
  · dsimp only at hl
    refine cx_lsK (k_X5_read_L4_ok (h := r1) (s := r1) eo12 ?_) ⟨rfl, trivial⟩
    refine cx_aload_n dX5_read_18 rfl rfl ?_
    obtain ⟨v15, ev15, hl⟩ := xb hl
    refine cx_getR gF_X5_18 dX5_read_19 ev15 ?_
    cases hl
    exact cx_aret dX5_read_22 rfl rfl (Or.inl ⟨_, rfl⟩) rfl rfl
  · dsimp only at hl
    refine cx_lsK (k_X5_read_L4_ok (h := r1) (s := r1) eo12 ?_) ⟨rfl, trivial⟩
    cases hl
    exact ⟨rfl, rfl⟩
def k_X4_init (x0 : Nat) (h : XH) : Option (XH) := (cpu h x0 3 4 (.int (-1))).bind fun h1 => (cpu h1 x0 3 5 (.int (-1))).bind fun h2 => (cna h2 0 1006 8).bind fun h3 => (cpu h3 x0 3 6 (.ref h2.2.2.1)).bind fun h4 => (cna h4 0 1007 8).bind fun h5 => (cpu h5 x0 3 7 (.ref h4.2.2.1)).bind fun h6 => (cna h6 0 1008 8).bind fun h7 => (cpu h7 x0 3 8 (.ref h6.2.2.1)).bind fun h8 => (cna h8 0 1009 8).bind fun h9 => (cpu h9 x0 3 9 (.ref h8.2.2.1)).bind fun h10 => (cna h10 0 1010 1400).bind fun h11 => (cpu h11 x0 3 10 (.ref h10.2.2.1)).bind fun h12 => (cna h12 0 1011 700).bind fun h13 => (cpu h13 x0 3 11 (.ref h12.2.2.1)).bind fun h14 => (cpu h14 x0 3 14 (.int (-1))).bind fun h15 => (cna h15 0 1015 3).bind fun h16 => (cpu h16 x0 3 15 (.ref h15.2.2.1)).bind fun h17 => (cna h17 0 1033 8).bind fun h18 => (cpu h18 x0 3 33 (.ref h17.2.2.1)).bind fun h19 => (cna h19 0 1034 8).bind fun h20 => (cpu h20 x0 3 34 (.ref h19.2.2.1)).bind fun h21 => (cna h21 0 1035 8).bind fun h22 => (cpu h22 x0 3 35 (.ref h21.2.2.1)).bind fun h23 => (cna h23 0 1036 8).bind fun h24 => (cpu h24 x0 3 36 (.ref h23.2.2.1)).bind fun h25 => (cna h25 0 1037 43).bind fun h26 => (cpu h26 x0 3 37 (.ref h25.2.2.1)).bind fun h27 => (cna h27 0 1038 1400).bind fun h28 => (cpu h28 x0 3 38 (.ref h27.2.2.1)).bind fun h29 => (cna h29 0 1039 950).bind fun h30 => (cpu h30 x0 3 39 (.ref h29.2.2.1)).bind fun h31 => (cna h31 2 1040 9).bind fun h32 => (cpu h32 x0 3 40 (.ref h31.2.2.1)).bind fun h33 => (cna h33 0 1041 86).bind fun h34 => (cpu h34 x0 3 41 (.ref h33.2.2.1)).bind fun h35 => (cna h35 0 1042 1720).bind fun h36 => (cpu h36 x0 3 42 (.ref h35.2.2.1)).bind fun h37 => (cna h37 0 1044 7).bind fun h38 => (cpu h38 x0 3 44 (.ref h37.2.2.1)).bind fun h39 => (cna h39 0 1045 950).bind fun h40 => (cpu h40 x0 3 45 (.ref h39.2.2.1)).bind fun h41 => (cpu h41 x0 3 46 (.int (-1))).bind fun h42 => (cna h42 0 1047 2304).bind fun h43 => (cpu h43 x0 3 47 (.ref h42.2.2.1)).bind fun h44 => (cna h44 0 1048 8).bind fun h45 => (cpu h45 x0 3 48 (.ref h44.2.2.1)).bind fun h46 => (cna h46 0 1049 8).bind fun h47 => (cpu h47 x0 3 49 (.ref h46.2.2.1)).bind fun h48 => (cna h48 0 1050 8).bind fun h49 => (cpu h49 x0 3 50 (.ref h48.2.2.1)).bind fun h50 => (cna h50 0 1052 24).bind fun h51 => (cpu h51 x0 3 52 (.ref h50.2.2.1)).bind fun h52 => (cna h52 0 1053 8).bind fun h53 => (cpu h53 x0 3 53 (.ref h52.2.2.1)).bind fun h54 => (cna h54 0 1054 3840).bind fun h55 => (cpu h55 x0 3 54 (.ref h54.2.2.1)).bind fun h56 => (cna h56 0 1059 43).bind fun h57 => (cpu h57 x0 3 59 (.ref h56.2.2.1)).bind fun h58 => (cna h58 0 1060 1720).bind fun h59 => (cpu h59 x0 3 60 (.ref h58.2.2.1)).bind fun h60 => (cna h60 0 1061 24).bind fun h61 => (cpu h61 x0 3 61 (.ref h60.2.2.1)).bind fun h62 => some h62
set_option maxHeartbeats 4000000 in
theorem T_X4_init {l : Launch} {E : XEnv}  {x0 : Nat} {h : XH} {r : XH} (hl : k_X4_init x0 h = some r) : CM l E mX4_init 2 [.ref x0] h (.inl none) r := by
  unfold k_X4_init at hl
  refine cm_of (by decide +kernel) rfl (Nat.le_of_ble_eq_true rfl) ?_
  refine cx_aload_n dX4_init_0 rfl rfl ?_
  refine cx_objInit q1629 q161 q162 dX4_init_1 (by omega) (Nat.le_of_ble_eq_true rfl) ?_
  refine cx_aload_n dX4_init_4 rfl rfl ?_
  refine cx_iconst (v := (-1)) dX4_init_5 rfl ?_
  obtain ⟨h1, eh1, hl⟩ := xb hl
  refine cx_putI pF_X4_9 dX4_init_6 eh1 ?_
  refine cx_aload_n dX4_init_9 rfl rfl ?_
  refine cx_iconst (v := (-1)) dX4_init_10 rfl ?_
  obtain ⟨h2, eh2, hl⟩ := xb hl
  refine cx_putI pF_X4_13 dX4_init_11 eh2 ?_
  refine cx_aload_n dX4_init_14 rfl rfl ?_
  refine cx_bipush (v := 8) dX4_init_15 (by decide) ?_
  obtain ⟨h3, eh3, hl⟩ := xb hl
  refine cx_newa 0 1006 (by decide) q195 rfl dX4_init_17 eh3 ?_
  obtain ⟨h4, eh4, hl⟩ := xb hl
  refine cx_putR (Or.inr ⟨_, rfl⟩) pF_X4_16 dX4_init_19 eh4 ?_
  refine cx_aload_n dX4_init_22 rfl rfl ?_
  refine cx_bipush (v := 8) dX4_init_23 (by decide) ?_
  obtain ⟨h5, eh5, hl⟩ := xb hl
  refine cx_newa 0 1007 (by decide) q195 rfl dX4_init_25 eh5 ?_
  obtain ⟨h6, eh6, hl⟩ := xb hl
  refine cx_putR (Or.inr ⟨_, rfl⟩) pF_X4_20 dX4_init_27 eh6 ?_
  refine cx_aload_n dX4_init_30 rfl rfl ?_
  refine cx_bipush (v := 8) dX4_init_31 (by decide) ?_
  obtain ⟨h7, eh7, hl⟩ := xb hl
  refine cx_newa 0 1008 (by decide) q195 rfl dX4_init_33 eh7 ?_
  obtain ⟨h8, eh8, hl⟩ := xb hl
  refine cx_putR (Or.inr ⟨_, rfl⟩) pF_X4_23 dX4_init_35 eh8 ?_
  refine cx_aload_n dX4_init_38 rfl rfl ?_
  refine cx_bipush (v := 8) dX4_init_39 (by decide) ?_
  obtain ⟨h9, eh9, hl⟩ := xb hl
  refine cx_newa 0 1009 (by decide) q195 rfl dX4_init_41 eh9 ?_
  obtain ⟨h10, eh10, hl⟩ := xb hl
  refine cx_putR (Or.inr ⟨_, rfl⟩) pF_X4_26 dX4_init_43 eh10 ?_
  refine cx_aload_n dX4_init_46 rfl rfl ?_
  refine cx_sipush (v := 1400) dX4_init_47 (by decide) ?_
  obtain ⟨h11, eh11, hl⟩ := xb hl
  refine cx_newa 0 1010 (by decide) q195 rfl dX4_init_50 eh11 ?_
  obtain ⟨h12, eh12, hl⟩ := xb hl
  refine cx_putR (Or.inr ⟨_, rfl⟩) pF_X4_29 dX4_init_52 eh12 ?_
  refine cx_aload_n dX4_init_55 rfl rfl ?_
  refine cx_sipush (v := 700) dX4_init_56 (by decide) ?_
  obtain ⟨h13, eh13, hl⟩ := xb hl
  refine cx_newa 0 1011 (by decide) q195 rfl dX4_init_59 eh13 ?_
  obtain ⟨h14, eh14, hl⟩ := xb hl
  refine cx_putR (Or.inr ⟨_, rfl⟩) pF_X4_32 dX4_init_61 eh14 ?_
  refine cx_aload_n dX4_init_64 rfl rfl ?_
  refine cx_iconst (v := (-1)) dX4_init_65 rfl ?_
  obtain ⟨h15, eh15, hl⟩ := xb hl
  refine cx_putI pF_X4_35 dX4_init_66 eh15 ?_
  refine cx_aload_n dX4_init_69 rfl rfl ?_
  refine cx_iconst (v := 3) dX4_init_70 rfl ?_
  obtain ⟨h16, eh16, hl⟩ := xb hl
  refine cx_newa 0 1015 (by decide) q195 rfl dX4_init_71 eh16 ?_
  obtain ⟨h17, eh17, hl⟩ := xb hl
  refine cx_putR (Or.inr ⟨_, rfl⟩) pF_X4_38 dX4_init_73 eh17 ?_
  refine cx_aload_n dX4_init_76 rfl rfl ?_
  refine cx_bipush (v := 8) dX4_init_77 (by decide) ?_
  obtain ⟨h18, eh18, hl⟩ := xb hl
  refine cx_newa 0 1033 (by decide) q195 rfl dX4_init_79 eh18 ?_
  obtain ⟨h19, eh19, hl⟩ := xb hl
  refine cx_putR (Or.inr ⟨_, rfl⟩) pF_X4_41 dX4_init_81 eh19 ?_
  refine cx_aload_n dX4_init_84 rfl rfl ?_
  refine cx_bipush (v := 8) dX4_init_85 (by decide) ?_
  obtain ⟨h20, eh20, hl⟩ := xb hl
  refine cx_newa 0 1034 (by decide) q195 rfl dX4_init_87 eh20 ?_
  obtain ⟨h21, eh21, hl⟩ := xb hl
  refine cx_putR (Or.inr ⟨_, rfl⟩) pF_X4_44 dX4_init_89 eh21 ?_
  refine cx_aload_n dX4_init_92 rfl rfl ?_
  refine cx_bipush (v := 8) dX4_init_93 (by decide) ?_
  obtain ⟨h22, eh22, hl⟩ := xb hl
  refine cx_newa 0 1035 (by decide) q195 rfl dX4_init_95 eh22 ?_
  obtain ⟨h23, eh23, hl⟩ := xb hl
  refine cx_putR (Or.inr ⟨_, rfl⟩) pF_X4_47 dX4_init_97 eh23 ?_
  refine cx_aload_n dX4_init_100 rfl rfl ?_
  refine cx_bipush (v := 8) dX4_init_101 (by decide) ?_
  obtain ⟨h24, eh24, hl⟩ := xb hl
  refine cx_newa 0 1036 (by decide) q195 rfl dX4_init_103 eh24 ?_
  obtain ⟨h25, eh25, hl⟩ := xb hl
  refine cx_putR (Or.inr ⟨_, rfl⟩) pF_X4_50 dX4_init_105 eh25 ?_
  refine cx_aload_n dX4_init_108 rfl rfl ?_
  refine cx_bipush (v := 43) dX4_init_109 (by decide) ?_
  obtain ⟨h26, eh26, hl⟩ := xb hl
  refine cx_newa 0 1037 (by decide) q195 rfl dX4_init_111 eh26 ?_
  obtain ⟨h27, eh27, hl⟩ := xb hl
  refine cx_putR (Or.inr ⟨_, rfl⟩) pF_X4_53 dX4_init_113 eh27 ?_
  refine cx_aload_n dX4_init_116 rfl rfl ?_
  refine cx_sipush (v := 1400) dX4_init_117 (by decide) ?_
  obtain ⟨h28, eh28, hl⟩ := xb hl
  refine cx_newa 0 1038 (by decide) q195 rfl dX4_init_120 eh28 ?_
  obtain ⟨h29, eh29, hl⟩ := xb hl
  refine cx_putR (Or.inr ⟨_, rfl⟩) pF_X4_56 dX4_init_122 eh29 ?_
  refine cx_aload_n dX4_init_125 rfl rfl ?_
  refine cx_sipush (v := 950) dX4_init_126 (by decide) ?_
  obtain ⟨h30, eh30, hl⟩ := xb hl
  refine cx_newa 0 1039 (by decide) q195 rfl dX4_init_129 eh30 ?_
  obtain ⟨h31, eh31, hl⟩ := xb hl
  refine cx_putR (Or.inr ⟨_, rfl⟩) pF_X4_59 dX4_init_131 eh31 ?_
  refine cx_aload_n dX4_init_134 rfl rfl ?_
  refine cx_bipush (v := 9) dX4_init_135 (by decide) ?_
  obtain ⟨h32, eh32, hl⟩ := xb hl
  refine cx_newa 2 1040 (by decide) q1817 rfl dX4_init_137 eh32 ?_
  obtain ⟨h33, eh33, hl⟩ := xb hl
  refine cx_putR (Or.inr ⟨_, rfl⟩) pF_X4_62 dX4_init_139 eh33 ?_
  refine cx_aload_n dX4_init_142 rfl rfl ?_
  refine cx_bipush (v := 86) dX4_init_143 (by decide) ?_
  obtain ⟨h34, eh34, hl⟩ := xb hl
  refine cx_newa 0 1041 (by decide) q195 rfl dX4_init_145 eh34 ?_
  obtain ⟨h35, eh35, hl⟩ := xb hl
  refine cx_putR (Or.inr ⟨_, rfl⟩) pF_X4_66 dX4_init_147 eh35 ?_
  refine cx_aload_n dX4_init_150 rfl rfl ?_
  refine cx_sipush (v := 1720) dX4_init_151 (by decide) ?_
  obtain ⟨h36, eh36, hl⟩ := xb hl
  refine cx_newa 0 1042 (by decide) q195 rfl dX4_init_154 eh36 ?_
  obtain ⟨h37, eh37, hl⟩ := xb hl
  refine cx_putR (Or.inr ⟨_, rfl⟩) pF_X4_69 dX4_init_156 eh37 ?_
  refine cx_aload_n dX4_init_159 rfl rfl ?_
  refine cx_bipush (v := 7) dX4_init_160 (by decide) ?_
  obtain ⟨h38, eh38, hl⟩ := xb hl
  refine cx_newa 0 1044 (by decide) q195 rfl dX4_init_162 eh38 ?_
  obtain ⟨h39, eh39, hl⟩ := xb hl
  refine cx_putR (Or.inr ⟨_, rfl⟩) pF_X4_72 dX4_init_164 eh39 ?_
  refine cx_aload_n dX4_init_167 rfl rfl ?_
  refine cx_sipush (v := 950) dX4_init_168 (by decide) ?_
  obtain ⟨h40, eh40, hl⟩ := xb hl
  refine cx_newa 0 1045 (by decide) q195 rfl dX4_init_171 eh40 ?_
  obtain ⟨h41, eh41, hl⟩ := xb hl
  refine cx_putR (Or.inr ⟨_, rfl⟩) pF_X4_75 dX4_init_173 eh41 ?_
  refine cx_aload_n dX4_init_176 rfl rfl ?_
  refine cx_iconst (v := (-1)) dX4_init_177 rfl ?_
  obtain ⟨h42, eh42, hl⟩ := xb hl
  refine cx_putI pF_X4_78 dX4_init_178 eh42 ?_
  refine cx_aload_n dX4_init_181 rfl rfl ?_
  refine cx_sipush (v := 2304) dX4_init_182 (by decide) ?_
  obtain ⟨h43, eh43, hl⟩ := xb hl
  refine cx_newa 0 1047 (by decide) q195 rfl dX4_init_185 eh43 ?_
  obtain ⟨h44, eh44, hl⟩ := xb hl
  refine cx_putR (Or.inr ⟨_, rfl⟩) pF_X4_81 dX4_init_187 eh44 ?_
  refine cx_aload_n dX4_init_190 rfl rfl ?_
  refine cx_bipush (v := 8) dX4_init_191 (by decide) ?_
  obtain ⟨h45, eh45, hl⟩ := xb hl
  refine cx_newa 0 1048 (by decide) q195 rfl dX4_init_193 eh45 ?_
  obtain ⟨h46, eh46, hl⟩ := xb hl
  refine cx_putR (Or.inr ⟨_, rfl⟩) pF_X4_84 dX4_init_195 eh46 ?_
  refine cx_aload_n dX4_init_198 rfl rfl ?_
  refine cx_bipush (v := 8) dX4_init_199 (by decide) ?_
  obtain ⟨h47, eh47, hl⟩ := xb hl
  refine cx_newa 0 1049 (by decide) q195 rfl dX4_init_201 eh47 ?_
  obtain ⟨h48, eh48, hl⟩ := xb hl
  refine cx_putR (Or.inr ⟨_, rfl⟩) pF_X4_87 dX4_init_203 eh48 ?_
  refine cx_aload_n dX4_init_206 rfl rfl ?_
  refine cx_bipush (v := 8) dX4_init_207 (by decide) ?_
  obtain ⟨h49, eh49, hl⟩ := xb hl
  refine cx_newa 0 1050 (by decide) q195 rfl dX4_init_209 eh49 ?_
  obtain ⟨h50, eh50, hl⟩ := xb hl
  refine cx_putR (Or.inr ⟨_, rfl⟩) pF_X4_90 dX4_init_211 eh50 ?_
  refine cx_aload_n dX4_init_214 rfl rfl ?_
  refine cx_bipush (v := 24) dX4_init_215 (by decide) ?_
  obtain ⟨h51, eh51, hl⟩ := xb hl
  refine cx_newa 0 1052 (by decide) q195 rfl dX4_init_217 eh51 ?_
  obtain ⟨h52, eh52, hl⟩ := xb hl
  refine cx_putR (Or.inr ⟨_, rfl⟩) pF_X4_93 dX4_init_219 eh52 ?_
  refine cx_aload_n dX4_init_222 rfl rfl ?_
  refine cx_bipush (v := 8) dX4_init_223 (by decide) ?_
  obtain ⟨h53, eh53, hl⟩ := xb hl
  refine cx_newa 0 1053 (by decide) q195 rfl dX4_init_225 eh53 ?_
  obtain ⟨h54, eh54, hl⟩ := xb hl
  refine cx_putR (Or.inr ⟨_, rfl⟩) pF_X4_96 dX4_init_227 eh54 ?_
  refine cx_aload_n dX4_init_230 rfl rfl ?_
  refine cx_sipush (v := 3840) dX4_init_231 (by decide) ?_
  obtain ⟨h55, eh55, hl⟩ := xb hl
  refine cx_newa 0 1054 (by decide) q195 rfl dX4_init_234 eh55 ?_
  obtain ⟨h56, eh56, hl⟩ := xb hl
  refine cx_putR (Or.inr ⟨_, rfl⟩) pF_X4_99 dX4_init_236 eh56 ?_
  refine cx_aload_n dX4_init_239 rfl rfl ?_
  refine cx_bipush (v := 43) dX4_init_240 (by decide) ?_
  obtain ⟨h57, eh57, hl⟩ := xb hl
  refine cx_newa 0 1059 (by decide) q195 rfl dX4_init_242 eh57 ?_
  obtain ⟨h58, eh58, hl⟩ := xb hl
  refine cx_putR (Or.inr ⟨_, rfl⟩) pF_X4_102 dX4_init_244 eh58 ?_
  refine cx_aload_n dX4_init_247 rfl rfl ?_
  refine cx_sipush (v := 1720) dX4_init_248 (by decide) ?_
  obtain ⟨h59, eh59, hl⟩ := xb hl
  refine cx_newa 0 1060 (by decide) q195 rfl dX4_init_251 eh59 ?_
  obtain ⟨h60, eh60, hl⟩ := xb hl
  refine cx_putR (Or.inr ⟨_, rfl⟩) pF_X4_105 dX4_init_253 eh60 ?_
  refine cx_aload_n dX4_init_256 rfl rfl ?_
  refine cx_bipush (v := 24) dX4_init_257 (by decide) ?_
  obtain ⟨h61, eh61, hl⟩ := xb hl
  refine cx_newa 0 1061 (by decide) q195 rfl dX4_init_259 eh61 ?_
  obtain ⟨h62, eh62, hl⟩ := xb hl
  refine cx_putR (Or.inr ⟨_, rfl⟩) pF_X4_108 dX4_init_261 eh62 ?_
  cases hl
  exact cx_vret dX4_init_264 rfl rfl rfl
