/-! pure functions over the heap, printed out of the bytecode by gen/extract2.py, and their contracts -/
set_option maxRecDepth 100000
theorem xC_X2_39_11 : XCast "HornHouses$Town" 39 11 := ⟨_, _, Or.inl ⟨by decide, _, _, rfl⟩, q531, Or.inl rfl⟩
theorem xC_X3_84_11 : XCast "HornHouses$Street" 84 11 := ⟨_, _, Or.inl ⟨by decide, _, _, rfl⟩, q503, Or.inl rfl⟩
theorem xC_X1_26_2 : XCast "HornHouses" 26 2 := ⟨_, _, Or.inl ⟨by decide, _, _, rfl⟩, q226, Or.inl rfl⟩
theorem xC_X1_152_11 : XCast "HornHouses" 152 11 := ⟨_, _, Or.inl ⟨by decide, _, _, rfl⟩, q1271, Or.inl rfl⟩
def k_X2_init (c : Nat → Value) (x0 : Nat) (h : XH) : Option (XH) := (some (xnew h 10 3 1 3 (fun j => defaultValue (tyJ2 j)))).bind fun h1 => (k_J2_init c h.2.2.1 h1).bind fun r2 => (cpu r2 x0 1 0 (.ref h.2.2.1)).bind fun h4 => (some (xnew h4 10 3 1 3 (fun j => defaultValue (tyJ2 j)))).bind fun h5 => (k_J2_init c h4.2.2.1 h5).bind fun r6 => (cpu r6 x0 1 1 (.ref h4.2.2.1)).bind fun h8 => (some (xnew h8 10 3 1 3 (fun j => defaultValue (tyJ2 j)))).bind fun h9 => (k_J2_init c h8.2.2.1 h9).bind fun r10 => (cpu r10 x0 1 2 (.ref h8.2.2.1)).bind fun h12 => (some (xnew h12 10 3 1 3 (fun j => defaultValue (tyJ2 j)))).bind fun h13 => (k_J2_init c h12.2.2.1 h13).bind fun r14 => (cpu r14 x0 1 3 (.ref h12.2.2.1)).bind fun h16 => some h16
set_option maxHeartbeats 4000000 in
theorem T_X2_init {l : Launch} {E : XEnv}  {x0 : Nat} {h : XH} {r : XH} (hl : k_X2_init E.2.2.2 x0 h = some r) : CM l E mX2_init 5 [.ref x0] h (.inl none) r := by
  unfold k_X2_init at hl
  refine cm_of (by decide +kernel) rfl (Nat.le_of_ble_eq_true rfl) ?_
  refine cx_aload_n dX2_init_0 rfl rfl ?_
  refine cx_objInit q168 q161 q162 dX2_init_1 (by omega) (Nat.le_of_ble_eq_true rfl) ?_
  refine cx_aload_n dX2_init_4 rfl rfl ?_
  obtain ⟨h1, eh1, hl⟩ := xb hl
  refine cx_new 1 nW_X2_7 dX2_init_5 (Option.some.inj eh1) ?_
  refine cx_dup dX2_init_8 rfl ?_
  obtain ⟨r2, er2, hl⟩ := xb hl
  refine cx_callI (T_J2_init er2) lI_X2_9 rfl C_J2_init dX2_init_9 rfl (by omega) (Nat.le_of_ble_eq_true rfl) ?_
  obtain ⟨h4, eh4, hl⟩ := xb hl
  refine cx_putR (Or.inl ⟨_, rfl⟩) pF_X2_10 dX2_init_12 eh4 ?_
  refine cx_aload_n dX2_init_15 rfl rfl ?_
  obtain ⟨h5, eh5, hl⟩ := xb hl
  refine cx_new 1 nW_X2_7 dX2_init_16 (Option.some.inj eh5) ?_
  refine cx_dup dX2_init_19 rfl ?_
  obtain ⟨r6, er6, hl⟩ := xb hl
  refine cx_callI (T_J2_init er6) lI_X2_9 rfl C_J2_init dX2_init_20 rfl (by omega) (Nat.le_of_ble_eq_true rfl) ?_
  obtain ⟨h8, eh8, hl⟩ := xb hl
  refine cx_putR (Or.inl ⟨_, rfl⟩) pF_X2_16 dX2_init_23 eh8 ?_
  refine cx_aload_n dX2_init_26 rfl rfl ?_
  obtain ⟨h9, eh9, hl⟩ := xb hl
  refine cx_new 1 nW_X2_7 dX2_init_27 (Option.some.inj eh9) ?_
  refine cx_dup dX2_init_30 rfl ?_
  obtain ⟨r10, er10, hl⟩ := xb hl
  refine cx_callI (T_J2_init er10) lI_X2_9 rfl C_J2_init dX2_init_31 rfl (by omega) (Nat.le_of_ble_eq_true rfl) ?_
  obtain ⟨h12, eh12, hl⟩ := xb hl
  refine cx_putR (Or.inl ⟨_, rfl⟩) pF_X2_19 dX2_init_34 eh12 ?_
  refine cx_aload_n dX2_init_37 rfl rfl ?_
  obtain ⟨h13, eh13, hl⟩ := xb hl
  refine cx_new 1 nW_X2_7 dX2_init_38 (Option.some.inj eh13) ?_
  refine cx_dup dX2_init_41 rfl ?_
  obtain ⟨r14, er14, hl⟩ := xb hl
  refine cx_callI (T_J2_init er14) lI_X2_9 rfl C_J2_init dX2_init_42 rfl (by omega) (Nat.le_of_ble_eq_true rfl) ?_
  obtain ⟨h16, eh16, hl⟩ := xb hl
  refine cx_putR (Or.inl ⟨_, rfl⟩) pF_X2_22 dX2_init_45 eh16 ?_
  cases hl
  exact cx_vret dX2_init_48 rfl rfl rfl
def k_X3_init (x0 : Nat) (x1 : Nat) (h : XH) : Option (XH) := (cpu h x0 2 9 (.ref x1)).bind fun h1 => (cna h1 0 (2000 + 8 * x0 + 0) 8).bind fun h2 => (cpu h2 x0 2 0 (.ref h1.2.2.1)).bind fun h3 => (cna h3 0 (2000 + 8 * x0 + 1) 8).bind fun h4 => (cpu h4 x0 2 1 (.ref h3.2.2.1)).bind fun h5 => (cna h5 0 (2000 + 8 * x0 + 2) 8).bind fun h6 => (cpu h6 x0 2 2 (.ref h5.2.2.1)).bind fun h7 => (cna h7 0 (2000 + 8 * x0 + 3) 8).bind fun h8 => (cpu h8 x0 2 3 (.ref h7.2.2.1)).bind fun h9 => (cna h9 0 (2000 + 8 * x0 + 4) 8).bind fun h10 => (cpu h10 x0 2 4 (.ref h9.2.2.1)).bind fun h11 => (cpu h11 x0 2 8 (.int (-1))).bind fun h12 => some h12
set_option maxHeartbeats 4000000 in
theorem T_X3_init {l : Launch} {E : XEnv}  {x0 : Nat} {x1 : Nat} {h : XH} {r : XH} (hl : k_X3_init x0 x1 h = some r) : CM l E mX3_init 2 [.ref x0, .ref x1] h (.inl none) r := by
  unfold k_X3_init at hl
  refine cm_of (by decide +kernel) rfl (Nat.le_of_ble_eq_true rfl) ?_
  refine cx_aload_n dX3_init_0 rfl rfl ?_
  refine cx_aload_n dX3_init_1 rfl rfl ?_
  obtain ⟨h1, eh1, hl⟩ := xb hl
  refine cx_putR (Or.inl ⟨_, rfl⟩) pF_X3_3 dX3_init_2 eh1 ?_
  refine cx_aload_n dX3_init_5 rfl rfl ?_
  refine cx_objInit q231 q161 q162 dX3_init_6 (by omega) (Nat.le_of_ble_eq_true rfl) ?_
  refine cx_aload_n dX3_init_9 rfl rfl ?_
  refine cx_bipush (v := 8) dX3_init_10 (by decide) ?_
  obtain ⟨h2, eh2, hl⟩ := xb hl
  refine cx_newa 0 (2000 + 8 * x0 + 0) (by decide) q195 rfl dX3_init_12 eh2 ?_
  obtain ⟨h3, eh3, hl⟩ := xb hl
  refine cx_putR (Or.inr ⟨_, rfl⟩) pF_X3_15 dX3_init_14 eh3 ?_
  refine cx_aload_n dX3_init_17 rfl rfl ?_
  refine cx_bipush (v := 8) dX3_init_18 (by decide) ?_
  obtain ⟨h4, eh4, hl⟩ := xb hl
  refine cx_newa 0 (2000 + 8 * x0 + 1) (by decide) q195 rfl dX3_init_20 eh4 ?_
  obtain ⟨h5, eh5, hl⟩ := xb hl
  refine cx_putR (Or.inr ⟨_, rfl⟩) pF_X3_19 dX3_init_22 eh5 ?_
  refine cx_aload_n dX3_init_25 rfl rfl ?_
  refine cx_bipush (v := 8) dX3_init_26 (by decide) ?_
  obtain ⟨h6, eh6, hl⟩ := xb hl
  refine cx_newa 0 (2000 + 8 * x0 + 2) (by decide) q195 rfl dX3_init_28 eh6 ?_
  obtain ⟨h7, eh7, hl⟩ := xb hl
  refine cx_putR (Or.inr ⟨_, rfl⟩) pF_X3_22 dX3_init_30 eh7 ?_
  refine cx_aload_n dX3_init_33 rfl rfl ?_
  refine cx_bipush (v := 8) dX3_init_34 (by decide) ?_
  obtain ⟨h8, eh8, hl⟩ := xb hl
  refine cx_newa 0 (2000 + 8 * x0 + 3) (by decide) q195 rfl dX3_init_36 eh8 ?_
  obtain ⟨h9, eh9, hl⟩ := xb hl
  refine cx_putR (Or.inr ⟨_, rfl⟩) pF_X3_25 dX3_init_38 eh9 ?_
  refine cx_aload_n dX3_init_41 rfl rfl ?_
  refine cx_bipush (v := 8) dX3_init_42 (by decide) ?_
  obtain ⟨h10, eh10, hl⟩ := xb hl
  refine cx_newa 0 (2000 + 8 * x0 + 4) (by decide) q195 rfl dX3_init_44 eh10 ?_
  obtain ⟨h11, eh11, hl⟩ := xb hl
  refine cx_putR (Or.inr ⟨_, rfl⟩) pF_X3_28 dX3_init_46 eh11 ?_
  refine cx_aload_n dX3_init_49 rfl rfl ?_
  refine cx_iconst (v := (-1)) dX3_init_50 rfl ?_
  obtain ⟨h12, eh12, hl⟩ := xb hl
  refine cx_putI pF_X3_31 dX3_init_51 eh12 ?_
  cases hl
  exact cx_vret dX3_init_54 rfl rfl rfl
def k_X1_init (c : Nat → Value) (x0 : Nat) (h : XH) : Option (XH) := (cna h 0 11 7).bind fun h1 => (cpu h1 x0 0 0 (.ref h.2.2.1)).bind fun h2 => (some (xnew h2 1 6 1 6 (fun j => defaultValue (tyX2 j)))).bind fun h3 => (k_X2_init c h2.2.2.1 h3).bind fun r4 => (cpu r4 x0 0 1 (.ref h2.2.2.1)).bind fun h6 => (some (xnew h6 2 10 1 10 (fun j => defaultValue (tyX3 j)))).bind fun h7 => (k_X3_init h6.2.2.1 x0 h7).bind fun r8 => (cpu r8 x0 0 2 (.ref h6.2.2.1)).bind fun h10 => (some (xnew h10 2 10 1 10 (fun j => defaultValue (tyX3 j)))).bind fun h11 => (k_X3_init h10.2.2.1 x0 h11).bind fun r12 => (cpu r12 x0 0 3 (.ref h10.2.2.1)).bind fun h14 => (cna h14 1 12 700).bind fun h15 => (cpu h15 x0 0 4 (.ref h14.2.2.1)).bind fun h16 => (cpu h16 x0 0 6 (.int (-1))).bind fun h17 => (cna h17 0 13 3).bind fun h18 => (cpu h18 x0 0 7 (.ref h17.2.2.1)).bind fun h19 => (some (xnew h19 10 3 1 3 (fun j => defaultValue (tyJ2 j)))).bind fun h20 => (k_J2_init c h19.2.2.1 h20).bind fun r21 => (cpu r21 x0 0 8 (.ref h19.2.2.1)).bind fun h23 => (some (xnew h23 10 3 1 3 (fun j => defaultValue (tyJ2 j)))).bind fun h24 => (k_J2_init c h23.2.2.1 h24).bind fun r25 => (cpu r25 x0 0 9 (.ref h23.2.2.1)).bind fun h27 => some h27
set_option maxHeartbeats 4000000 in
theorem T_X1_init {l : Launch} {E : XEnv}  {x0 : Nat} {h : XH} {r : XH} (hl : k_X1_init E.2.2.2 x0 h = some r) : CM l E mX1_init 6 [.ref x0] h (.inl none) r := by
  unfold k_X1_init at hl
  refine cm_of (by decide +kernel) rfl (Nat.le_of_ble_eq_true rfl) ?_
  refine cx_aload_n dX1_init_0 rfl rfl ?_
  refine cx_objInit q160 q161 q162 dX1_init_1 (by omega) (Nat.le_of_ble_eq_true rfl) ?_
  refine cx_aload_n dX1_init_4 rfl rfl ?_
  refine cx_bipush (v := 7) dX1_init_5 (by decide) ?_
  obtain ⟨h1, eh1, hl⟩ := xb hl
  refine cx_newa 0 11 (by decide) q195 rfl dX1_init_7 eh1 ?_
  obtain ⟨h2, eh2, hl⟩ := xb hl
  refine cx_putR (Or.inr ⟨_, rfl⟩) pF_X1_13 dX1_init_9 eh2 ?_
  refine cx_aload_n dX1_init_12 rfl rfl ?_
  obtain ⟨h3, eh3, hl⟩ := xb hl
  refine cx_new 1 nW_X1_19 dX1_init_13 (Option.some.inj eh3) ?_
  refine cx_dup dX1_init_16 rfl ?_
  obtain ⟨r4, er4, hl⟩ := xb hl
  refine cx_callI (T_X2_init er4) lI_X1_21 rfl C_X2_init dX1_init_17 rfl (by omega) (Nat.le_of_ble_eq_true rfl) ?_
  obtain ⟨h6, eh6, hl⟩ := xb hl
  refine cx_putR (Or.inl ⟨_, rfl⟩) pF_X1_22 dX1_init_20 eh6 ?_
  refine cx_aload_n dX1_init_23 rfl rfl ?_
  obtain ⟨h7, eh7, hl⟩ := xb hl
  refine cx_new 1 nW_X1_26 dX1_init_24 (Option.some.inj eh7) ?_
  refine cx_dup dX1_init_27 rfl ?_
  refine cx_aload_n dX1_init_28 rfl rfl ?_
  obtain ⟨r8, er8, hl⟩ := xb hl
  refine cx_callI (T_X3_init er8) lI_X1_28 rfl C_X3_init dX1_init_29 rfl (by omega) (Nat.le_of_ble_eq_true rfl) ?_
  obtain ⟨h10, eh10, hl⟩ := xb hl
  refine cx_putR (Or.inl ⟨_, rfl⟩) pF_X1_31 dX1_init_32 eh10 ?_
  refine cx_aload_n dX1_init_35 rfl rfl ?_
  obtain ⟨h11, eh11, hl⟩ := xb hl
  refine cx_new 1 nW_X1_26 dX1_init_36 (Option.some.inj eh11) ?_
  refine cx_dup dX1_init_39 rfl ?_
  refine cx_aload_n dX1_init_40 rfl rfl ?_
  obtain ⟨r12, er12, hl⟩ := xb hl
  refine cx_callI (T_X3_init er12) lI_X1_28 rfl C_X3_init dX1_init_41 rfl (by omega) (Nat.le_of_ble_eq_true rfl) ?_
  obtain ⟨h14, eh14, hl⟩ := xb hl
  refine cx_putR (Or.inl ⟨_, rfl⟩) pF_X1_35 dX1_init_44 eh14 ?_
  refine cx_aload_n dX1_init_47 rfl rfl ?_
  refine cx_sipush (v := 700) dX1_init_48 (by decide) ?_
  obtain ⟨h15, eh15, hl⟩ := xb hl
  refine cx_newa 1 12 (by decide) q323 rfl dX1_init_51 eh15 ?_
  obtain ⟨h16, eh16, hl⟩ := xb hl
  refine cx_putR (Or.inr ⟨_, rfl⟩) pF_X1_38 dX1_init_53 eh16 ?_
  refine cx_aload_n dX1_init_56 rfl rfl ?_
  refine cx_iconst (v := (-1)) dX1_init_57 rfl ?_
  obtain ⟨h17, eh17, hl⟩ := xb hl
  refine cx_putI pF_X1_42 dX1_init_58 eh17 ?_
  refine cx_aload_n dX1_init_61 rfl rfl ?_
  refine cx_iconst (v := 3) dX1_init_62 rfl ?_
  obtain ⟨h18, eh18, hl⟩ := xb hl
  refine cx_newa 0 13 (by decide) q195 rfl dX1_init_63 eh18 ?_
  obtain ⟨h19, eh19, hl⟩ := xb hl
  refine cx_putR (Or.inr ⟨_, rfl⟩) pF_X1_46 dX1_init_65 eh19 ?_
  refine cx_aload_n dX1_init_68 rfl rfl ?_
  obtain ⟨h20, eh20, hl⟩ := xb hl
  refine cx_new 1 nW_X1_49 dX1_init_69 (Option.some.inj eh20) ?_
  refine cx_dup dX1_init_72 rfl ?_
  obtain ⟨r21, er21, hl⟩ := xb hl
  refine cx_callI (T_J2_init er21) lI_X1_51 rfl C_J2_init dX1_init_73 rfl (by omega) (Nat.le_of_ble_eq_true rfl) ?_
  obtain ⟨h23, eh23, hl⟩ := xb hl
  refine cx_putR (Or.inl ⟨_, rfl⟩) pF_X1_52 dX1_init_76 eh23 ?_
  refine cx_aload_n dX1_init_79 rfl rfl ?_
  obtain ⟨h24, eh24, hl⟩ := xb hl
  refine cx_new 1 nW_X1_49 dX1_init_80 (Option.some.inj eh24) ?_
  refine cx_dup dX1_init_83 rfl ?_
  obtain ⟨r25, er25, hl⟩ := xb hl
  refine cx_callI (T_J2_init er25) lI_X1_51 rfl C_J2_init dX1_init_84 rfl (by omega) (Nat.le_of_ble_eq_true rfl) ?_
  obtain ⟨h27, eh27, hl⟩ := xb hl
  refine cx_putR (Or.inl ⟨_, rfl⟩) pF_X1_56 dX1_init_87 eh27 ?_
  cases hl
  exact cx_vret dX1_init_90 rfl rfl rfl
def k_X1_feed_J71 (n : Nat) (x0 : Nat) (x1 : Int32) (x2 : Int32) (x3 : Int32) (x4 : Int32) (x5 : Int32) (x6 : Int32) (y0 : Int32) (h : XH) : Option ((Int32 × XH) ⊕ ((XH))) := (cgR h x0 0 4).bind fun v8 => (cgI h x0 0 5).bind fun v9 => (csu h v8 101 (v9 + x6) (.int (((((y0 >>> ((((24 : Int32) - ((8 : Int32) * (x6 - x6 / 4 * 4))) : Int32) &&& 31)) : Int32).toInt8.toInt32) : Int32).toInt8.toInt32))).bind fun h10 => (some (x6 + 1)).bind fun w11 => some (.inl (w11, h10))
def k_X1_feed_L18 (n : Nat) (x0 : Nat) (x1 : Int32) (x2 : Int32) (x3 : Int32) (x4 : Int32) (x5 : Int32) (x6 : Int32) (h : XH) : Option ((Int32 × XH) ⊕ ((XH))) := if x6 ≥ 20 then some (.inr h) else if x6 ≥ 4 then if x6 ≥ 8 then if x6 ≥ 12 then if x6 ≥ 16 then k_X1_feed_J71 n x0 x1 x2 x3 x4 x5 x6 x5 h else k_X1_feed_J71 n x0 x1 x2 x3 x4 x5 x6 x4 h else k_X1_feed_J71 n x0 x1 x2 x3 x4 x5 x6 x3 h else k_X1_feed_J71 n x0 x1 x2 x3 x4 x5 x6 x2 h else k_X1_feed_J71 n x0 x1 x2 x3 x4 x5 x6 x1 h
abbrev K_X1_feed_L18 (l : Launch) (E : XEnv) (hf : XH) (res : XO) (h : XH) (x0 : Nat) (x1 : Int32) (x2 : Int32) (x3 : Int32) (x4 : Int32) (x5 : Int32) (o : (XH)) : Prop := match o with
  | e => CX l E mX1_feed 1 105 [(0, .ref x0)] [] e hf res
def k_X1_feed (n : Nat) (x0 : Nat) (x1 : Int32) (x2 : Int32) (x3 : Int32) (x4 : Int32) (x5 : Int32) (h : XH) : Option (Int32 × XH) := (cgI h x0 0 5).bind fun v1 => if (v1 + 20) ≤ 700 then (xloop (fun s => k_X1_feed_L18 n x0 x1 x2 x3 x4 x5 s.1 s.2) n (0, h)).bind fun o12 => (cgI o12 x0 0 5).bind fun v13 => (cpu o12 x0 0 5 (.int (v13 + 20))).bind fun h14 => (cgI h14 x0 0 5).bind fun v15 => some (v15, h14) else some ((-1), h)
set_option maxHeartbeats 4000000 in
theorem k_X1_feed_J71_s {l : Launch} {E : XEnv} {hf : XH} {res : XO} {n : Nat} {x0 : Nat} {x1 : Int32} {x2 : Int32} {x3 : Int32} {x4 : Int32} {x5 : Int32} {x6 : Int32} {y0 : Int32} {h : XH} {h0 : XH} {o : (Int32 × XH) ⊕ ((XH))} (hl : k_X1_feed_J71 n x0 x1 x2 x3 x4 x5 x6 y0 h = some o) (hK : (xk (fun s : Int32 × XH => CX l E mX1_feed 1 18 [(0, .ref x0), (1, .int x1), (2, .int x2), (3, .int x3), (4, .int x4), (5, .int x5), (6, .int s.1)] [] s.2 hf res) (fun r => K_X1_feed_L18 l E hf res h0 x0 x1 x2 x3 x4 x5 r) o)) : CX l E mX1_feed 1 71 [(0, .ref x0), (1, .int x1), (2, .int x2), (3, .int x3), (4, .int x4), (5, .int x5), (6, .int x6)] [.int y0] h hf res := by
  unfold k_X1_feed_J71 at hl
  refine cx_istore dX1_feed_71 (by decide) ?_
  refine cx_aload_n dX1_feed_73 rfl rfl ?_
  obtain ⟨v8, ev8, hl⟩ := xb hl
  refine cx_getR gF_X1_38 dX1_feed_74 ev8 ?_
  refine cx_aload_n dX1_feed_77 rfl rfl ?_
  obtain ⟨v9, ev9, hl⟩ := xb hl
  refine cx_getI gF_X1_59 dX1_feed_78 ev9 ?_
  refine cx_iload dX1_feed_81 rfl ?_
  refine cx_iadd dX1_feed_83 ?_
  refine cx_iload dX1_feed_84 rfl ?_
  refine cx_bipush (v := 24) dX1_feed_86 (by decide) ?_
  refine cx_bipush (v := 8) dX1_feed_88 (by decide) ?_
  refine cx_iload dX1_feed_90 rfl ?_
  refine cx_iconst (v := 4) dX1_feed_92 rfl ?_
  refine cx_irem dX1_feed_93 (by decide) ?_
  refine cx_imul dX1_feed_94 ?_
  refine cx_isub dX1_feed_95 ?_
  refine cx_ishr dX1_feed_96 ?_
  refine cx_i2b dX1_feed_97 ?_
  obtain ⟨h10, eh10, hl⟩ := xb hl
  refine cx_bast dX1_feed_98 eh10 ?_
  obtain ⟨w11, ew11, hl⟩ := xb hl
  refine cx_iinc dX1_feed_99 rfl (by decide) (Option.some.inj ew11) ?_
  refine cx_goto (tgt := 18) dX1_feed_102 (by decide) ?_
  cases hl
  exact cx_lsK hK ⟨rfl, rfl, rfl, rfl, rfl, rfl, rfl, trivial⟩
set_option maxHeartbeats 4000000 in
theorem k_X1_feed_L18_s {l : Launch} {E : XEnv} {hf : XH} {res : XO} {n : Nat} {x0 : Nat} {x1 : Int32} {x2 : Int32} {x3 : Int32} {x4 : Int32} {x5 : Int32} {x6 : Int32} {h : XH} {o : (Int32 × XH) ⊕ ((XH))} (hl : k_X1_feed_L18 n x0 x1 x2 x3 x4 x5 x6 h = some o) (hK : (xk (fun s : Int32 × XH => CX l E mX1_feed 1 18 [(0, .ref x0), (1, .int x1), (2, .int x2), (3, .int x3), (4, .int x4), (5, .int x5), (6, .int s.1)] [] s.2 hf res) (fun r => K_X1_feed_L18 l E hf res h x0 x1 x2 x3 x4 x5 r) o)) : CX l E mX1_feed 1 18 [(0, .ref x0), (1, .int x1), (2, .int x2), (3, .int x3), (4, .int x4), (5, .int x5), (6, .int x6)] [] h hf res := by
  unfold k_X1_feed_L18 at hl
  refine cx_iload dX1_feed_18 rfl ?_
  refine cx_bipush (v := 20) dX1_feed_20 (by decide) ?_
  by_cases c3 : x6 ≥ 20
  · rw [if_pos c3] at hl
    refine cx_icmp_ge (X := True) (tgt := 105) dX1_feed_22 (by decide) (fun _ => ?_) (fun z => absurd c3 z)
    cases hl
    exact cx_lsK hK ⟨rfl, trivial⟩
  · rw [if_neg c3] at hl
    refine cx_icmp_ge (X := True) (tgt := 105) dX1_feed_22 (by decide) (fun z => absurd z c3) (fun _ => ?_)
    refine cx_iload dX1_feed_25 rfl ?_
    refine cx_iconst (v := 4) dX1_feed_27 rfl ?_
    by_cases c4 : x6 ≥ 4
    · rw [if_pos c4] at hl
      refine cx_icmp_ge (X := True) (tgt := 35) dX1_feed_28 (by decide) (fun _ => ?_) (fun z => absurd c4 z)
      refine cx_iload dX1_feed_35 rfl ?_
      refine cx_bipush (v := 8) dX1_feed_37 (by decide) ?_
      by_cases c5 : x6 ≥ 8
      · rw [if_pos c5] at hl
        refine cx_icmp_ge (X := True) (tgt := 46) dX1_feed_39 (by decide) (fun _ => ?_) (fun z => absurd c5 z)
        refine cx_iload dX1_feed_46 rfl ?_
        refine cx_bipush (v := 12) dX1_feed_48 (by decide) ?_
        by_cases c6 : x6 ≥ 12
        · rw [if_pos c6] at hl
          refine cx_icmp_ge (X := True) (tgt := 57) dX1_feed_50 (by decide) (fun _ => ?_) (fun z => absurd c6 z)
          refine cx_iload dX1_feed_57 rfl ?_
          refine cx_bipush (v := 16) dX1_feed_59 (by decide) ?_
          by_cases c7 : x6 ≥ 16
          · rw [if_pos c7] at hl
            refine cx_icmp_ge (X := True) (tgt := 69) dX1_feed_61 (by decide) (fun _ => ?_) (fun z => absurd c7 z)
            refine cx_iload dX1_feed_69 rfl ?_
            exact cx_lsK (k_X1_feed_J71_s hl hK) ⟨rfl, rfl, rfl, rfl, rfl, rfl, rfl, trivial⟩
          · rw [if_neg c7] at hl
            refine cx_icmp_ge (X := True) (tgt := 69) dX1_feed_61 (by decide) (fun z => absurd z c7) (fun _ => ?_)
            refine cx_iload dX1_feed_64 rfl ?_
            refine cx_goto (tgt := 71) dX1_feed_66 (by decide) ?_
            exact cx_lsK (k_X1_feed_J71_s hl hK) ⟨rfl, rfl, rfl, rfl, rfl, rfl, rfl, trivial⟩
        · rw [if_neg c6] at hl
          refine cx_icmp_ge (X := True) (tgt := 57) dX1_feed_50 (by decide) (fun z => absurd z c6) (fun _ => ?_)
          refine cx_iload_n dX1_feed_53 rfl ?_
          refine cx_goto (tgt := 71) dX1_feed_54 (by decide) ?_
          exact cx_lsK (k_X1_feed_J71_s hl hK) ⟨rfl, rfl, rfl, rfl, rfl, rfl, rfl, trivial⟩
      · rw [if_neg c5] at hl
        refine cx_icmp_ge (X := True) (tgt := 46) dX1_feed_39 (by decide) (fun z => absurd z c5) (fun _ => ?_)
        refine cx_iload_n dX1_feed_42 rfl ?_
        refine cx_goto (tgt := 71) dX1_feed_43 (by decide) ?_
        exact cx_lsK (k_X1_feed_J71_s hl hK) ⟨rfl, rfl, rfl, rfl, rfl, rfl, rfl, trivial⟩
    · rw [if_neg c4] at hl
      refine cx_icmp_ge (X := True) (tgt := 35) dX1_feed_28 (by decide) (fun z => absurd z c4) (fun _ => ?_)
      refine cx_iload_n dX1_feed_31 rfl ?_
      refine cx_goto (tgt := 71) dX1_feed_32 (by decide) ?_
      exact cx_lsK (k_X1_feed_J71_s hl hK) ⟨rfl, rfl, rfl, rfl, rfl, rfl, rfl, trivial⟩
set_option maxHeartbeats 4000000 in
theorem k_X1_feed_L18_ok {l : Launch} {E : XEnv} {hf : XH} {res : XO} {n : Nat} {x0 : Nat} {x1 : Int32} {x2 : Int32} {x3 : Int32} {x4 : Int32} {x5 : Int32} {h : XH} {s : Int32 × XH} {o : (XH)} (hl : xloop (fun s => k_X1_feed_L18 n x0 x1 x2 x3 x4 x5 s.1 s.2) n s = some o) (hK : K_X1_feed_L18 l E hf res h x0 x1 x2 x3 x4 x5 o) : CX l E mX1_feed 1 18 [(0, .ref x0), (1, .int x1), (2, .int x2), (3, .int x3), (4, .int x4), (5, .int x5), (6, .int s.1)] [] s.2 hf res :=
  xloop_of (fun s : Int32 × XH => CX l E mX1_feed 1 18 [(0, .ref x0), (1, .int x1), (2, .int x2), (3, .int x3), (4, .int x4), (5, .int x5), (6, .int s.1)] [] s.2 hf res) (fun r => K_X1_feed_L18 l E hf res h x0 x1 x2 x3 x4 x5 r) (fun s o hl hk => k_X1_feed_L18_s (h := s.2) (o := o) hl hk) n s o hl hK
set_option maxHeartbeats 4000000 in
theorem T_X1_feed {l : Launch} {E : XEnv}  {n : Nat} {x0 : Nat} {x1 : Int32} {x2 : Int32} {x3 : Int32} {x4 : Int32} {x5 : Int32} {h : XH} {r : Int32 × XH} (hl : k_X1_feed n x0 x1 x2 x3 x4 x5 h = some r) : CM l E mX1_feed 1 [.ref x0, .int x1, .int x2, .int x3, .int x4, .int x5] h (.inl (some (.int r.1))) r.2 := by
  unfold k_X1_feed at hl
  refine cm_of (by decide +kernel) rfl (Nat.le_of_ble_eq_true rfl) ?_
  refine cx_aload_n dX1_feed_0 rfl rfl ?_
  obtain ⟨v1, ev1, hl⟩ := xb hl
  refine cx_getI gF_X1_59 dX1_feed_1 ev1 ?_
  refine cx_bipush (v := 20) dX1_feed_4 (by decide) ?_
  refine cx_iadd dX1_feed_6 ?_
  refine cx_sipush (v := 700) dX1_feed_7 (by decide) ?_
  by_cases c2 : (v1 + 20) ≤ 700
  · rw [if_pos c2] at hl
    refine cx_icmp_le (X := True) (tgt := 15) dX1_feed_10 (by decide) (fun _ => ?_) (fun z => absurd c2 z)
    refine cx_iconst (v := 0) dX1_feed_15 rfl ?_
    refine cx_istore dX1_feed_16 (by decide) ?_
    obtain ⟨o12, eo12, hl⟩ := xb hl
    refine cx_lsK (k_X1_feed_L18_ok (h := h) (s := (0, h)) eo12 ?_) ⟨rfl, rfl, rfl, rfl, rfl, rfl, rfl, trivial⟩
    refine cx_aload_n dX1_feed_105 rfl rfl ?_
    refine cx_dup dX1_feed_106 rfl ?_
    obtain ⟨v13, ev13, hl⟩ := xb hl
    refine cx_getI gF_X1_59 dX1_feed_107 ev13 ?_
    refine cx_bipush (v := 20) dX1_feed_110 (by decide) ?_
    refine cx_iadd dX1_feed_112 ?_
    obtain ⟨h14, eh14, hl⟩ := xb hl
    refine cx_putI pF_X1_59 dX1_feed_113 eh14 ?_
    refine cx_aload_n dX1_feed_116 rfl rfl ?_
    obtain ⟨v15, ev15, hl⟩ := xb hl
    refine cx_getI gF_X1_59 dX1_feed_117 ev15 ?_
    cases hl
    exact cx_iret dX1_feed_120 rfl rfl rfl rfl
  · rw [if_neg c2] at hl
    refine cx_icmp_le (X := True) (tgt := 15) dX1_feed_10 (by decide) (fun z => absurd z c2) (fun _ => ?_)
    refine cx_iconst (v := (-1)) dX1_feed_13 rfl ?_
    cases hl
    exact cx_iret dX1_feed_14 rfl rfl rfl rfl
def k_X1_fault (x0 : Nat) (h : XH) : Option (Int32) := (cgI h x0 0 6).bind fun v1 => some v1
set_option maxHeartbeats 4000000 in
theorem T_X1_fault {l : Launch} {E : XEnv}  {x0 : Nat} {h : XH} {r : Int32} (hl : k_X1_fault x0 h = some r) : CM l E mX1_fault 1 [.ref x0] h (.inl (some (.int r))) h := by
  unfold k_X1_fault at hl
  refine cm_of (by decide +kernel) rfl (Nat.le_of_ble_eq_true rfl) ?_
  refine cx_aload_n dX1_fault_0 rfl rfl ?_
  obtain ⟨v1, ev1, hl⟩ := xb hl
  refine cx_getI gF_X1_42 dX1_fault_1 ev1 ?_
  cases hl
  exact cx_iret dX1_fault_4 rfl rfl rfl rfl
def k_X1_refuse (x0 : Nat) (x1 : Int32) (h : XH) : Option (Int32 × XH) := (cgR h x0 0 7).bind fun v1 => (caI h v1 100 x1).bind fun v2 => (csu h v1 100 x1 (.int (v2 + 1))).bind fun h3 => some ((-1), h3)
set_option maxHeartbeats 4000000 in
theorem T_X1_refuse {l : Launch} {E : XEnv}  {x0 : Nat} {x1 : Int32} {h : XH} {r : Int32 × XH} (hl : k_X1_refuse x0 x1 h = some r) : CM l E mX1_refuse 1 [.ref x0, .int x1] h (.inl (some (.int r.1))) r.2 := by
  unfold k_X1_refuse at hl
  refine cm_of (by decide +kernel) rfl (Nat.le_of_ble_eq_true rfl) ?_
  refine cx_aload_n dX1_refuse_0 rfl rfl ?_
  obtain ⟨v1, ev1, hl⟩ := xb hl
  refine cx_getR gF_X1_46 dX1_refuse_1 ev1 ?_
  refine cx_iload_n dX1_refuse_4 rfl ?_
  refine cx_dup2 dX1_refuse_5 rfl rfl ?_
  obtain ⟨v2, ev2, hl⟩ := xb hl
  refine cx_iald dX1_refuse_6 ev2 ?_
  refine cx_iconst (v := 1) dX1_refuse_7 rfl ?_
  refine cx_iadd dX1_refuse_8 ?_
  obtain ⟨h3, eh3, hl⟩ := xb hl
  refine cx_iast dX1_refuse_9 eh3 ?_
  refine cx_iconst (v := (-1)) dX1_refuse_10 rfl ?_
  cases hl
  exact cx_iret dX1_refuse_11 rfl rfl rfl rfl
def k_X3_be_L2 (n : Nat) (x0 : Nat) (x1 : Nat) (x2 : Int32) (h : XH) : Option ((Int32 × XH) ⊕ ((XH))) := if x2 ≥ 8 then some (.inr h) else (cgR h x0 2 0).bind fun v2 => (cgR h x1 2 0).bind fun v3 => (caI h v3 100 x2).bind fun v4 => (csu h v2 100 x2 (.int v4)).bind fun h5 => (cgR h5 x0 2 1).bind fun v6 => (cgR h5 x1 2 1).bind fun v7 => (caI h5 v7 100 x2).bind fun v8 => (csu h5 v6 100 x2 (.int v8)).bind fun h9 => (some (x2 + 1)).bind fun w10 => some (.inl (w10, h9))
abbrev K_X3_be_L2 (l : Launch) (E : XEnv) (hf : XH) (res : XO) (h : XH) (x0 : Nat) (x1 : Nat) (o : (XH)) : Prop := match o with
  | e => CX l E mX3_be 1 38 [(0, .ref x0), (1, .ref x1)] [] e hf res
def k_X3_be_L40 (n : Nat) (x0 : Nat) (x1 : Nat) (x2 : Int32) (h : XH) : Option ((Int32 × XH) ⊕ ((XH))) := if x2 ≥ 8 then some (.inr h) else (cgR h x0 2 2).bind fun v13 => (cgR h x1 2 2).bind fun v14 => (caI h v14 100 x2).bind fun v15 => (csu h v13 100 x2 (.int v15)).bind fun h16 => (cgR h16 x0 2 3).bind fun v17 => (cgR h16 x1 2 3).bind fun v18 => (caI h16 v18 100 x2).bind fun v19 => (csu h16 v17 100 x2 (.int v19)).bind fun h20 => (cgR h20 x0 2 4).bind fun v21 => (cgR h20 x1 2 4).bind fun v22 => (caI h20 v22 100 x2).bind fun v23 => (csu h20 v21 100 x2 (.int v23)).bind fun h24 => (some (x2 + 1)).bind fun w25 => some (.inl (w25, h24))
abbrev K_X3_be_L40 (l : Launch) (E : XEnv) (hf : XH) (res : XO) (h : XH) (x0 : Nat) (x1 : Nat) (o : (XH)) : Prop := match o with
  | e => CX l E mX3_be 1 88 [(0, .ref x0), (1, .ref x1)] [] e hf res
def k_X3_be (n : Nat) (x0 : Nat) (x1 : Nat) (h : XH) : Option (Nat × XH) := (xloop (fun s => k_X3_be_L2 n x0 x1 s.1 s.2) n (0, h)).bind fun o11 => (xloop (fun s => k_X3_be_L40 n x0 x1 s.1 s.2) n (0, o11)).bind fun o26 => (cgI o26 x1 2 5).bind fun v27 => (cpu o26 x0 2 5 (.int v27)).bind fun h28 => (cgI h28 x1 2 6).bind fun v29 => (cpu h28 x0 2 6 (.int v29)).bind fun h30 => (cgI h30 x1 2 7).bind fun v31 => (cpZ h30 x0 2 7 v31).bind fun h32 => (cpu h32 x0 2 8 (.int (-1))).bind fun h33 => some (x0, h33)
set_option maxHeartbeats 4000000 in
theorem k_X3_be_L2_s {l : Launch} {E : XEnv} {hf : XH} {res : XO} {n : Nat} {x0 : Nat} {x1 : Nat} {x2 : Int32} {h : XH} {o : (Int32 × XH) ⊕ ((XH))} (hl : k_X3_be_L2 n x0 x1 x2 h = some o) (hK : (xk (fun s : Int32 × XH => CX l E mX3_be 1 2 [(0, .ref x0), (1, .ref x1), (2, .int s.1)] [] s.2 hf res) (fun r => K_X3_be_L2 l E hf res h x0 x1 r) o)) : CX l E mX3_be 1 2 [(0, .ref x0), (1, .ref x1), (2, .int x2)] [] h hf res := by
  unfold k_X3_be_L2 at hl
  refine cx_iload_n dX3_be_2 rfl ?_
  refine cx_bipush (v := 8) dX3_be_3 (by decide) ?_
  by_cases c1 : x2 ≥ 8
  · rw [if_pos c1] at hl
    refine cx_icmp_ge (X := True) (tgt := 38) dX3_be_5 (by decide) (fun _ => ?_) (fun z => absurd c1 z)
    cases hl
    exact cx_lsK hK ⟨rfl, rfl, trivial⟩
  · rw [if_neg c1] at hl
    refine cx_icmp_ge (X := True) (tgt := 38) dX3_be_5 (by decide) (fun z => absurd z c1) (fun _ => ?_)
    refine cx_aload_n dX3_be_8 rfl rfl ?_
    obtain ⟨v2, ev2, hl⟩ := xb hl
    refine cx_getR gF_X3_15 dX3_be_9 ev2 ?_
    refine cx_iload_n dX3_be_12 rfl ?_
    refine cx_aload_n dX3_be_13 rfl rfl ?_
    obtain ⟨v3, ev3, hl⟩ := xb hl
    refine cx_getR gF_X3_15 dX3_be_14 ev3 ?_
    refine cx_iload_n dX3_be_17 rfl ?_
    obtain ⟨v4, ev4, hl⟩ := xb hl
    refine cx_iald dX3_be_18 ev4 ?_
    obtain ⟨h5, eh5, hl⟩ := xb hl
    refine cx_iast dX3_be_19 eh5 ?_
    refine cx_aload_n dX3_be_20 rfl rfl ?_
    obtain ⟨v6, ev6, hl⟩ := xb hl
    refine cx_getR gF_X3_19 dX3_be_21 ev6 ?_
    refine cx_iload_n dX3_be_24 rfl ?_
    refine cx_aload_n dX3_be_25 rfl rfl ?_
    obtain ⟨v7, ev7, hl⟩ := xb hl
    refine cx_getR gF_X3_19 dX3_be_26 ev7 ?_
    refine cx_iload_n dX3_be_29 rfl ?_
    obtain ⟨v8, ev8, hl⟩ := xb hl
    refine cx_iald dX3_be_30 ev8 ?_
    obtain ⟨h9, eh9, hl⟩ := xb hl
    refine cx_iast dX3_be_31 eh9 ?_
    obtain ⟨w10, ew10, hl⟩ := xb hl
    refine cx_iinc dX3_be_32 rfl (by decide) (Option.some.inj ew10) ?_
    refine cx_goto (tgt := 2) dX3_be_35 (by decide) ?_
    cases hl
    exact cx_lsK hK ⟨rfl, rfl, rfl, trivial⟩
set_option maxHeartbeats 4000000 in
theorem k_X3_be_L2_ok {l : Launch} {E : XEnv} {hf : XH} {res : XO} {n : Nat} {x0 : Nat} {x1 : Nat} {h : XH} {s : Int32 × XH} {o : (XH)} (hl : xloop (fun s => k_X3_be_L2 n x0 x1 s.1 s.2) n s = some o) (hK : K_X3_be_L2 l E hf res h x0 x1 o) : CX l E mX3_be 1 2 [(0, .ref x0), (1, .ref x1), (2, .int s.1)] [] s.2 hf res :=
  xloop_of (fun s : Int32 × XH => CX l E mX3_be 1 2 [(0, .ref x0), (1, .ref x1), (2, .int s.1)] [] s.2 hf res) (fun r => K_X3_be_L2 l E hf res h x0 x1 r) (fun s o hl hk => k_X3_be_L2_s (h := s.2) (o := o) hl hk) n s o hl hK
set_option maxHeartbeats 4000000 in
theorem k_X3_be_L40_s {l : Launch} {E : XEnv} {hf : XH} {res : XO} {n : Nat} {x0 : Nat} {x1 : Nat} {x2 : Int32} {h : XH} {o : (Int32 × XH) ⊕ ((XH))} (hl : k_X3_be_L40 n x0 x1 x2 h = some o) (hK : (xk (fun s : Int32 × XH => CX l E mX3_be 1 40 [(0, .ref x0), (1, .ref x1), (2, .int s.1)] [] s.2 hf res) (fun r => K_X3_be_L40 l E hf res h x0 x1 r) o)) : CX l E mX3_be 1 40 [(0, .ref x0), (1, .ref x1), (2, .int x2)] [] h hf res := by
  unfold k_X3_be_L40 at hl
  refine cx_iload_n dX3_be_40 rfl ?_
  refine cx_bipush (v := 8) dX3_be_41 (by decide) ?_
  by_cases c12 : x2 ≥ 8
  · rw [if_pos c12] at hl
    refine cx_icmp_ge (X := True) (tgt := 88) dX3_be_43 (by decide) (fun _ => ?_) (fun z => absurd c12 z)
    cases hl
    exact cx_lsK hK ⟨rfl, rfl, trivial⟩
  · rw [if_neg c12] at hl
    refine cx_icmp_ge (X := True) (tgt := 88) dX3_be_43 (by decide) (fun z => absurd z c12) (fun _ => ?_)
    refine cx_aload_n dX3_be_46 rfl rfl ?_
    obtain ⟨v13, ev13, hl⟩ := xb hl
    refine cx_getR gF_X3_22 dX3_be_47 ev13 ?_
    refine cx_iload_n dX3_be_50 rfl ?_
    refine cx_aload_n dX3_be_51 rfl rfl ?_
    obtain ⟨v14, ev14, hl⟩ := xb hl
    refine cx_getR gF_X3_22 dX3_be_52 ev14 ?_
    refine cx_iload_n dX3_be_55 rfl ?_
    obtain ⟨v15, ev15, hl⟩ := xb hl
    refine cx_iald dX3_be_56 ev15 ?_
    obtain ⟨h16, eh16, hl⟩ := xb hl
    refine cx_iast dX3_be_57 eh16 ?_
    refine cx_aload_n dX3_be_58 rfl rfl ?_
    obtain ⟨v17, ev17, hl⟩ := xb hl
    refine cx_getR gF_X3_25 dX3_be_59 ev17 ?_
    refine cx_iload_n dX3_be_62 rfl ?_
    refine cx_aload_n dX3_be_63 rfl rfl ?_
    obtain ⟨v18, ev18, hl⟩ := xb hl
    refine cx_getR gF_X3_25 dX3_be_64 ev18 ?_
    refine cx_iload_n dX3_be_67 rfl ?_
    obtain ⟨v19, ev19, hl⟩ := xb hl
    refine cx_iald dX3_be_68 ev19 ?_
    obtain ⟨h20, eh20, hl⟩ := xb hl
    refine cx_iast dX3_be_69 eh20 ?_
    refine cx_aload_n dX3_be_70 rfl rfl ?_
    obtain ⟨v21, ev21, hl⟩ := xb hl
    refine cx_getR gF_X3_28 dX3_be_71 ev21 ?_
    refine cx_iload_n dX3_be_74 rfl ?_
    refine cx_aload_n dX3_be_75 rfl rfl ?_
    obtain ⟨v22, ev22, hl⟩ := xb hl
    refine cx_getR gF_X3_28 dX3_be_76 ev22 ?_
    refine cx_iload_n dX3_be_79 rfl ?_
    obtain ⟨v23, ev23, hl⟩ := xb hl
    refine cx_iald dX3_be_80 ev23 ?_
    obtain ⟨h24, eh24, hl⟩ := xb hl
    refine cx_iast dX3_be_81 eh24 ?_
    obtain ⟨w25, ew25, hl⟩ := xb hl
    refine cx_iinc dX3_be_82 rfl (by decide) (Option.some.inj ew25) ?_
    refine cx_goto (tgt := 40) dX3_be_85 (by decide) ?_
    cases hl
    exact cx_lsK hK ⟨rfl, rfl, rfl, trivial⟩
set_option maxHeartbeats 4000000 in
theorem k_X3_be_L40_ok {l : Launch} {E : XEnv} {hf : XH} {res : XO} {n : Nat} {x0 : Nat} {x1 : Nat} {h : XH} {s : Int32 × XH} {o : (XH)} (hl : xloop (fun s => k_X3_be_L40 n x0 x1 s.1 s.2) n s = some o) (hK : K_X3_be_L40 l E hf res h x0 x1 o) : CX l E mX3_be 1 40 [(0, .ref x0), (1, .ref x1), (2, .int s.1)] [] s.2 hf res :=
  xloop_of (fun s : Int32 × XH => CX l E mX3_be 1 40 [(0, .ref x0), (1, .ref x1), (2, .int s.1)] [] s.2 hf res) (fun r => K_X3_be_L40 l E hf res h x0 x1 r) (fun s o hl hk => k_X3_be_L40_s (h := s.2) (o := o) hl hk) n s o hl hK
set_option maxHeartbeats 4000000 in
theorem T_X3_be {l : Launch} {E : XEnv}  {n : Nat} {x0 : Nat} {x1 : Nat} {h : XH} {r : Nat × XH} (hl : k_X3_be n x0 x1 h = some r) : CM l E mX3_be 1 [.ref x0, .ref x1] h (.inl (some (.ref r.1))) r.2 := by
  unfold k_X3_be at hl
  refine cm_of (by decide +kernel) rfl (Nat.le_of_ble_eq_true rfl) ?_
  refine cx_iconst (v := 0) dX3_be_0 rfl ?_
  refine cx_istore_n dX3_be_1 (by decide) ?_
  obtain ⟨o11, eo11, hl⟩ := xb hl
  refine cx_lsK (k_X3_be_L2_ok (h := h) (s := (0, h)) eo11 ?_) ⟨rfl, rfl, rfl, trivial⟩
  refine cx_iconst (v := 0) dX3_be_38 rfl ?_
  refine cx_istore_n dX3_be_39 (by decide) ?_
  obtain ⟨o26, eo26, hl⟩ := xb hl
  refine cx_lsK (k_X3_be_L40_ok (h := o11) (s := (0, o11)) eo26 ?_) ⟨rfl, rfl, rfl, trivial⟩
  refine cx_aload_n dX3_be_88 rfl rfl ?_
  refine cx_aload_n dX3_be_89 rfl rfl ?_
  obtain ⟨v27, ev27, hl⟩ := xb hl
  refine cx_getI gF_X3_42 dX3_be_90 ev27 ?_
  obtain ⟨h28, eh28, hl⟩ := xb hl
  refine cx_putI pF_X3_42 dX3_be_93 eh28 ?_
  refine cx_aload_n dX3_be_96 rfl rfl ?_
  refine cx_aload_n dX3_be_97 rfl rfl ?_
  obtain ⟨v29, ev29, hl⟩ := xb hl
  refine cx_getI gF_X3_45 dX3_be_98 ev29 ?_
  obtain ⟨h30, eh30, hl⟩ := xb hl
  refine cx_putI pF_X3_45 dX3_be_101 eh30 ?_
  refine cx_aload_n dX3_be_104 rfl rfl ?_
  refine cx_aload_n dX3_be_105 rfl rfl ?_
  obtain ⟨v31, ev31, hl⟩ := xb hl
  refine cx_getI gF_X3_48 dX3_be_106 ev31 ?_
  obtain ⟨h32, eh32, hl⟩ := xb hl
  refine cx_putZ (Or.inl rfl) pF_X3_48 dX3_be_109 eh32 ?_
  refine cx_aload_n dX3_be_112 rfl rfl ?_
  refine cx_iconst (v := (-1)) dX3_be_113 rfl ?_
  obtain ⟨h33, eh33, hl⟩ := xb hl
  refine cx_putI pF_X3_31 dX3_be_114 eh33 ?_
  refine cx_aload_n dX3_be_117 rfl rfl ?_
  cases hl
  exact cx_aret dX3_be_118 rfl rfl (Or.inl ⟨_, rfl⟩) rfl rfl
def k_X3_copy (n : Nat) (x0 : Nat) (h : XH) : Option (Nat × XH) := (some (xnew h 2 10 1 10 (fun j => defaultValue (tyX3 j)))).bind fun h1 => (cgR h1 x0 2 9).bind fun v2 => (k_X3_init h.2.2.1 v2 h1).bind fun r3 => (ckd r3 h.2.2.1 2).bind fun u6 => (k_X3_be n h.2.2.1 x0 r3).bind fun r5 => some (r5.1, r5.2)
set_option maxHeartbeats 4000000 in
theorem T_X3_copy {l : Launch} {E : XEnv}  {n : Nat} {x0 : Nat} {h : XH} {r : Nat × XH} (hl : k_X3_copy n x0 h = some r) : CM l E mX3_copy 3 [.ref x0] h (.inl (some (.ref r.1))) r.2 := by
  unfold k_X3_copy at hl
  refine cm_of (by decide +kernel) rfl (Nat.le_of_ble_eq_true rfl) ?_
  obtain ⟨h1, eh1, hl⟩ := xb hl
  refine cx_new 1 nW_X3_4 dX3_copy_0 (Option.some.inj eh1) ?_
  refine cx_dup dX3_copy_3 rfl ?_
  refine cx_aload_n dX3_copy_4 rfl rfl ?_
  obtain ⟨v2, ev2, hl⟩ := xb hl
  refine cx_getR gF_X3_3 dX3_copy_5 ev2 ?_
  obtain ⟨r3, er3, hl⟩ := xb hl
  refine cx_callI (T_X3_init er3) lI_X3_35 rfl C_X3_init dX3_copy_8 rfl (by omega) (Nat.le_of_ble_eq_true rfl) ?_
  refine cx_aload_n dX3_copy_11 rfl rfl ?_
  obtain ⟨u6, eu6, hl⟩ := xb hl
  obtain ⟨r5, er5, hl⟩ := xb hl
  refine cx_callV (Or.inl ⟨by decide, _, _, rfl⟩) (T_X3_be er5) lV_X3_38 C_X3_be dX3_copy_12 eu6 (by decide) rfl (by omega) (Nat.le_of_ble_eq_true rfl) ?_
  cases hl
  exact cx_aret dX3_copy_15 rfl rfl (Or.inl ⟨_, rfl⟩) rfl rfl
def k_J2_fastRemove_J34 (x0 : Nat) (x1 : Nat) (x3 : Int32) (h : XH) : Option (XH) := (cpu h x0 10 2 (.int x3)).bind fun h6 => (csu h6 x1 104 x3 .null).bind fun h7 => some h7
def k_J2_fastRemove (x0 : Nat) (x1 : Nat) (x2 : Int32) (h : XH) : Option (XH) := (cgI h x0 10 0).bind fun v1 => (cpu h x0 10 0 (.int (v1 + 1))).bind fun h2 => (cgI h2 x0 10 2).bind fun v3 => (some (v3 - 1)).bind fun w4 => if (v3 - 1) ≤ x2 then k_J2_fastRemove_J34 x0 x1 w4 h2 else (ccO h2 x1 x1 (x2 + 1) x2 (w4 - x2)).bind fun h8 => k_J2_fastRemove_J34 x0 x1 w4 h8
set_option maxHeartbeats 4000000 in
theorem k_J2_fastRemove_J34_s {l : Launch} {E : XEnv}  {x0 : Nat} {x1 : Nat} {x3 : Int32} {h : XH} {r : XH} (hl : k_J2_fastRemove_J34 x0 x1 x3 h = some r) : CX l E mJ2_fastRemove 2 34 [(0, .ref x0), (1, .ref x1), (3, .int x3)] [] h r (.inl none) := by
  unfold k_J2_fastRemove_J34 at hl
  refine cx_aload_n dJ2_fastRemove_34 rfl rfl ?_
  refine cx_aload_n dJ2_fastRemove_35 rfl rfl ?_
  refine cx_iload_n dJ2_fastRemove_36 rfl ?_
  refine cx_dup_x1 dJ2_fastRemove_37 rfl rfl ?_
  obtain ⟨h6, eh6, hl⟩ := xb hl
  refine cx_putI pF_J2_48 dJ2_fastRemove_38 eh6 ?_
  refine cx_null dJ2_fastRemove_41 ?_
  obtain ⟨h7, eh7, hl⟩ := xb hl
  refine cx_aastN dJ2_fastRemove_42 eh7 ?_
  cases hl
  exact cx_vret dJ2_fastRemove_43 rfl rfl rfl
set_option maxHeartbeats 4000000 in
theorem T_J2_fastRemove {l : Launch} {E : XEnv}  {x0 : Nat} {x1 : Nat} {x2 : Int32} {h : XH} {r : XH} (hl : k_J2_fastRemove x0 x1 x2 h = some r) : CM l E mJ2_fastRemove 2 [.ref x0, .ref x1, .int x2] h (.inl none) r := by
  unfold k_J2_fastRemove at hl
  refine cm_of (by decide +kernel) rfl (Nat.le_of_ble_eq_true rfl) ?_
  refine cx_aload_n dJ2_fastRemove_0 rfl rfl ?_
  refine cx_dup dJ2_fastRemove_1 rfl ?_
  obtain ⟨v1, ev1, hl⟩ := xb hl
  refine cx_getI gF_J2_63 dJ2_fastRemove_2 ev1 ?_
  refine cx_iconst (v := 1) dJ2_fastRemove_5 rfl ?_
  refine cx_iadd dJ2_fastRemove_6 ?_
  obtain ⟨h2, eh2, hl⟩ := xb hl
  refine cx_putI pF_J2_63 dJ2_fastRemove_7 eh2 ?_
  refine cx_aload_n dJ2_fastRemove_10 rfl rfl ?_
  obtain ⟨v3, ev3, hl⟩ := xb hl
  refine cx_getI gF_J2_48 dJ2_fastRemove_11 ev3 ?_
  refine cx_iconst (v := 1) dJ2_fastRemove_14 rfl ?_
  refine cx_isub dJ2_fastRemove_15 ?_
  refine cx_dup dJ2_fastRemove_16 rfl ?_
  obtain ⟨w4, ew4, hl⟩ := xb hl
  refine cx_top (Option.some.inj ew4) ?_
  refine cx_istore_n dJ2_fastRemove_17 (by decide) ?_
  refine cx_iload_n dJ2_fastRemove_18 rfl ?_
  by_cases c5 : (v3 - 1) ≤ x2
  · rw [if_pos c5] at hl
    refine cx_icmp_le (X := True) (tgt := 34) dJ2_fastRemove_19 (by decide) (fun _ => ?_) (fun z => absurd c5 z)
    exact cx_lsK (k_J2_fastRemove_J34_s hl) ⟨rfl, rfl, rfl, trivial⟩
  · rw [if_neg c5] at hl
    refine cx_icmp_le (X := True) (tgt := 34) dJ2_fastRemove_19 (by decide) (fun z => absurd z c5) (fun _ => ?_)
    refine cx_aload_n dJ2_fastRemove_22 rfl rfl ?_
    refine cx_iload_n dJ2_fastRemove_23 rfl ?_
    refine cx_iconst (v := 1) dJ2_fastRemove_24 rfl ?_
    refine cx_iadd dJ2_fastRemove_25 ?_
    refine cx_aload_n dJ2_fastRemove_26 rfl rfl ?_
    refine cx_iload_n dJ2_fastRemove_27 rfl ?_
    refine cx_iload_n dJ2_fastRemove_28 rfl ?_
    refine cx_iload_n dJ2_fastRemove_29 rfl ?_
    refine cx_isub dJ2_fastRemove_30 ?_
    obtain ⟨h8, eh8, hl⟩ := xb hl
    refine cx_copyO q453 q422 q421 q146 dJ2_fastRemove_31 eh8 (by omega) (Nat.le_of_ble_eq_true rfl) ?_
    exact cx_lsK (k_J2_fastRemove_J34_s hl) ⟨rfl, rfl, rfl, trivial⟩
def k_J2_remove (x0 : Nat) (x1 : Int32) (h : XH) : Option (Nat × XH) := (cgI h x0 10 2).bind fun v1 => (k_J19_checkIndex x1 v1 h).bind fun r2 => (cgR h x0 10 1).bind fun v4 => (caR h v4 104 x1).bind fun v5 => (ckd h x0 10).bind fun u7 => (k_J2_fastRemove x0 v4 x1 h).bind fun r6 => some (v5, r6)
set_option maxHeartbeats 4000000 in
theorem T_J2_remove {l : Launch} {E : XEnv}  {x0 : Nat} {x1 : Int32} {h : XH} {r : Nat × XH} (hl : k_J2_remove x0 x1 h = some r) : CM l E mJ2_remove 3 [.ref x0, .int x1] h (.inl (some (.ref r.1))) r.2 := by
  unfold k_J2_remove at hl
  refine cm_of (by decide +kernel) rfl (Nat.le_of_ble_eq_true rfl) ?_
  refine cx_iload_n dJ2_remove_0 rfl ?_
  refine cx_aload_n dJ2_remove_1 rfl rfl ?_
  obtain ⟨v1, ev1, hl⟩ := xb hl
  refine cx_getI gF_J2_48 dJ2_remove_2 ev1 ?_
  obtain ⟨r2, er2, hl⟩ := xb hl
  refine cx_callS (T_J19_checkIndex er2) lS_J2_118 C_J19_checkIndex dJ2_remove_5 rfl (by omega) (Nat.le_of_ble_eq_true rfl) ?_
  refine cx_pop dJ2_remove_8 rfl ?_
  refine cx_aload_n dJ2_remove_9 rfl rfl ?_
  obtain ⟨v4, ev4, hl⟩ := xb hl
  refine cx_getR gF_J2_9 dJ2_remove_10 ev4 ?_
  refine cx_astore_n dJ2_remove_13 (by decide) rfl ?_
  refine cx_aload_n dJ2_remove_14 rfl rfl ?_
  refine cx_iload_n dJ2_remove_15 rfl ?_
  obtain ⟨v5, ev5, hl⟩ := xb hl
  refine cx_aald 4 (by decide) dJ2_remove_16 ev5 ?_
  refine cx_astore_n dJ2_remove_17 (by decide) rfl ?_
  refine cx_aload_n dJ2_remove_18 rfl rfl ?_
  refine cx_aload_n dJ2_remove_19 rfl rfl ?_
  refine cx_iload_n dJ2_remove_20 rfl ?_
  obtain ⟨u7, eu7, hl⟩ := xb hl
  obtain ⟨r6, er6, hl⟩ := xb hl
  refine cx_callV (Or.inl ⟨by decide, _, _, rfl⟩) (T_J2_fastRemove er6) lV_J2_144 C_J2_fastRemove dJ2_remove_21 eu7 (by decide) rfl (by omega) (Nat.le_of_ble_eq_true rfl) ?_
  refine cx_aload_n dJ2_remove_24 rfl rfl ?_
  cases hl
  exact cx_aret dJ2_remove_25 rfl rfl (Or.inl ⟨_, rfl⟩) rfl rfl
def k_X1_keep (n : Nat) (c : Nat → Value) (x0 : Nat) (h : XH) : Option (XH) := (cgR h x0 0 8).bind fun v1 => (cgR h x0 0 2).bind fun v2 => (ckd h v2 2).bind fun u4 => (k_X3_copy n v2 h).bind fun r3 => (ckd r3.2 v1 10).bind fun u6 => (k_J2_add c v1 r3.1 r3.2).bind fun r5 => (cgR r5.2 x0 0 8).bind fun v7 => (ckd r5.2 v7 10).bind fun u9 => (k_J2_size v7 r5.2).bind fun r8 => if r8 ≤ 40 then some r5.2 else (cgR r5.2 x0 0 8).bind fun v11 => (ckd r5.2 v11 10).bind fun u13 => (k_J2_remove v11 0 r5.2).bind fun r12 => some r12.2
set_option maxHeartbeats 4000000 in
theorem T_X1_keep {l : Launch} {E : XEnv}  {n : Nat} {x0 : Nat} {h : XH} {r : XH} (hl : k_X1_keep n E.2.2.2 x0 h = some r) : CM l E mX1_keep 8 [.ref x0] h (.inl none) r := by
  unfold k_X1_keep at hl
  refine cm_of (by decide +kernel) rfl (Nat.le_of_ble_eq_true rfl) ?_
  refine cx_aload_n dX1_keep_0 rfl rfl ?_
  obtain ⟨v1, ev1, hl⟩ := xb hl
  refine cx_getR gF_X1_52 dX1_keep_1 ev1 ?_
  refine cx_aload_n dX1_keep_4 rfl rfl ?_
  obtain ⟨v2, ev2, hl⟩ := xb hl
  refine cx_getR gF_X1_31 dX1_keep_5 ev2 ?_
  obtain ⟨u4, eu4, hl⟩ := xb hl
  obtain ⟨r3, er3, hl⟩ := xb hl
  refine cx_callV (Or.inl ⟨by decide, _, _, rfl⟩) (T_X3_copy er3) lV_X1_209 C_X3_copy dX1_keep_8 eu4 (by decide) rfl (by omega) (Nat.le_of_ble_eq_true rfl) ?_
  obtain ⟨u6, eu6, hl⟩ := xb hl
  obtain ⟨r5, er5, hl⟩ := xb hl
  refine cx_callF (ci := 10) (by decide) rfl (T_J2_add er5) lF_X1_213 C_J2_add dX1_keep_11 eu6 rfl (by omega) (Nat.le_of_ble_eq_true rfl) ?_
  refine cx_pop dX1_keep_16 rfl ?_
  refine cx_aload_n dX1_keep_17 rfl rfl ?_
  obtain ⟨v7, ev7, hl⟩ := xb hl
  refine cx_getR gF_X1_52 dX1_keep_18 ev7 ?_
  obtain ⟨u9, eu9, hl⟩ := xb hl
  obtain ⟨r8, er8, hl⟩ := xb hl
  refine cx_callF (ci := 10) (by decide) rfl (T_J2_size er8) lF_X1_134 C_J2_size dX1_keep_21 eu9 rfl (by omega) (Nat.le_of_ble_eq_true rfl) ?_
  refine cx_bipush (v := 40) dX1_keep_26 (by decide) ?_
  by_cases c10 : r8 ≤ 40
  · rw [if_pos c10] at hl
    refine cx_icmp_le (X := True) (tgt := 42) dX1_keep_28 (by decide) (fun _ => ?_) (fun z => absurd c10 z)
    cases hl
    exact cx_vret dX1_keep_42 rfl rfl rfl
  · rw [if_neg c10] at hl
    refine cx_icmp_le (X := True) (tgt := 42) dX1_keep_28 (by decide) (fun z => absurd z c10) (fun _ => ?_)
    refine cx_aload_n dX1_keep_31 rfl rfl ?_
    obtain ⟨v11, ev11, hl⟩ := xb hl
    refine cx_getR gF_X1_52 dX1_keep_32 ev11 ?_
    refine cx_iconst (v := 0) dX1_keep_35 rfl ?_
    obtain ⟨u13, eu13, hl⟩ := xb hl
    obtain ⟨r12, er12, hl⟩ := xb hl
    refine cx_callF (ci := 10) (by decide) rfl (T_J2_remove er12) lF_X1_217 C_J2_remove dX1_keep_36 eu13 rfl (by omega) (Nat.le_of_ble_eq_true rfl) ?_
    refine cx_pop dX1_keep_41 rfl ?_
    cases hl
    exact cx_vret dX1_keep_42 rfl rfl rfl
def k_X3_in_L2 (n : Nat) (x0 : Nat) (x1 : Int32) (x2 : Int32) (h : XH) : Option ((Int32) ⊕ ((Unit) ⊕ (Int32))) := (cgR h x0 2 9).bind fun v1 => (cgR h v1 0 1).bind fun v2 => (ckd h v2 1).bind fun u4 => (k_X2_people v2 h).bind fun r3 => if x2 ≥ r3 then some (.inr (.inl ())) else (cgR h x0 2 3).bind fun v6 => (caI h v6 100 x2).bind fun v7 => if v7 = x1 then some (.inr (.inr x2)) else (some (x2 + 1)).bind fun w9 => some (.inl w9)
abbrev K_X3_in_L2 (l : Launch) (E : XEnv) (hf : XH) (res : XO) (h : XH) (x0 : Nat) (x1 : Int32) (o : (Unit) ⊕ (Int32)) : Prop := match o with
  | .inl e => CX l E mX3_in 3 34 [] [] h hf res
  | .inr e => CX l E mX3_in 3 26 [(2, .int e)] [] h hf res
def k_X3_in (n : Nat) (x0 : Nat) (x1 : Int32) (h : XH) : Option (Int32) := (xloop (fun s => k_X3_in_L2 n x0 x1 s h) n 0).bind fun o10 => match o10 with | .inl e11 => (some (-1)) | .inr e12 => (some e12)
set_option maxHeartbeats 4000000 in
theorem k_X3_in_L2_s {l : Launch} {E : XEnv} {hf : XH} {res : XO} {n : Nat} {x0 : Nat} {x1 : Int32} {x2 : Int32} {h : XH} {o : (Int32) ⊕ ((Unit) ⊕ (Int32))} (hl : k_X3_in_L2 n x0 x1 x2 h = some o) (hK : (xk (fun s : Int32 => CX l E mX3_in 3 2 [(0, .ref x0), (1, .int x1), (2, .int s)] [] h hf res) (fun r => K_X3_in_L2 l E hf res h x0 x1 r) o)) : CX l E mX3_in 3 2 [(0, .ref x0), (1, .int x1), (2, .int x2)] [] h hf res := by
  unfold k_X3_in_L2 at hl
  refine cx_iload_n dX3_in_2 rfl ?_
  refine cx_aload_n dX3_in_3 rfl rfl ?_
  obtain ⟨v1, ev1, hl⟩ := xb hl
  refine cx_getR gF_X3_3 dX3_in_4 ev1 ?_
  obtain ⟨v2, ev2, hl⟩ := xb hl
  refine cx_getR gF_X3_52 dX3_in_7 ev2 ?_
  obtain ⟨u4, eu4, hl⟩ := xb hl
  obtain ⟨r3, er3, hl⟩ := xb hl
  refine cx_callV (Or.inl ⟨by decide, _, _, rfl⟩) (T_X2_people er3) lV_X3_67 C_X2_people dX3_in_10 eu4 (by decide) rfl (by omega) (Nat.le_of_ble_eq_true rfl) ?_
  by_cases c5 : x2 ≥ r3
  · rw [if_pos c5] at hl
    refine cx_icmp_ge (X := True) (tgt := 34) dX3_in_13 (by decide) (fun _ => ?_) (fun z => absurd c5 z)
    cases hl
    exact cx_lsK hK trivial
  · rw [if_neg c5] at hl
    refine cx_icmp_ge (X := True) (tgt := 34) dX3_in_13 (by decide) (fun z => absurd z c5) (fun _ => ?_)
    refine cx_aload_n dX3_in_16 rfl rfl ?_
    obtain ⟨v6, ev6, hl⟩ := xb hl
    refine cx_getR gF_X3_25 dX3_in_17 ev6 ?_
    refine cx_iload_n dX3_in_20 rfl ?_
    obtain ⟨v7, ev7, hl⟩ := xb hl
    refine cx_iald dX3_in_21 ev7 ?_
    refine cx_iload_n dX3_in_22 rfl ?_
    by_cases c8 : v7 = x1
    · rw [if_pos c8] at hl
      refine cx_icmp_ne (X := True) (tgt := 28) dX3_in_23 (by decide) (fun z => absurd c8 z) (fun _ => ?_)
      cases hl
      exact cx_lsK hK ⟨rfl, trivial⟩
    · rw [if_neg c8] at hl
      refine cx_icmp_ne (X := True) (tgt := 28) dX3_in_23 (by decide) (fun _ => ?_) (fun z => absurd z c8)
      obtain ⟨w9, ew9, hl⟩ := xb hl
      refine cx_iinc dX3_in_28 rfl (by decide) (Option.some.inj ew9) ?_
      refine cx_goto (tgt := 2) dX3_in_31 (by decide) ?_
      cases hl
      exact cx_lsK hK ⟨rfl, rfl, rfl, trivial⟩
set_option maxHeartbeats 4000000 in
theorem k_X3_in_L2_ok {l : Launch} {E : XEnv} {hf : XH} {res : XO} {n : Nat} {x0 : Nat} {x1 : Int32} {h : XH} {s : Int32} {o : (Unit) ⊕ (Int32)} (hl : xloop (fun s => k_X3_in_L2 n x0 x1 s h) n s = some o) (hK : K_X3_in_L2 l E hf res h x0 x1 o) : CX l E mX3_in 3 2 [(0, .ref x0), (1, .int x1), (2, .int s)] [] h hf res :=
  xloop_of (fun s : Int32 => CX l E mX3_in 3 2 [(0, .ref x0), (1, .int x1), (2, .int s)] [] h hf res) (fun r => K_X3_in_L2 l E hf res h x0 x1 r) (fun s o hl hk => k_X3_in_L2_s (h := h) (o := o) hl hk) n s o hl hK
set_option maxHeartbeats 4000000 in
theorem T_X3_in {l : Launch} {E : XEnv}  {n : Nat} {x0 : Nat} {x1 : Int32} {h : XH} {r : Int32} (hl : k_X3_in n x0 x1 h = some r) : CM l E mX3_in 3 [.ref x0, .int x1] h (.inl (some (.int r))) h := by
  unfold k_X3_in at hl
  refine cm_of (by decide +kernel) rfl (Nat.le_of_ble_eq_true rfl) ?_
  refine cx_iconst (v := 0) dX3_in_0 rfl ?_
  refine cx_istore_n dX3_in_1 (by decide) ?_
  obtain ⟨o10, eo10, hl⟩ := xb hl
  rcases o10 with e11 | e12
  · dsimp only at hl
    refine cx_lsK (k_X3_in_L2_ok (h := h) (s := 0) eo10 ?_) ⟨rfl, rfl, rfl, trivial⟩
    refine cx_iconst (v := (-1)) dX3_in_34 rfl ?_
    cases hl
    exact cx_iret dX3_in_35 rfl rfl rfl rfl
  · dsimp only at hl
    refine cx_lsK (k_X3_in_L2_ok (h := h) (s := 0) eo10 ?_) ⟨rfl, rfl, rfl, trivial⟩
    refine cx_iload_n dX3_in_26 rfl ?_
    cases hl
    exact cx_iret dX3_in_27 rfl rfl rfl rfl
def k_X3_tight (x0 : Nat) (x1 : Int32) (x2 : Int32) (h : XH) : Option (Int32) := (cgR h x0 2 2).bind fun v1 => (caI h v1 100 x1).bind fun v2 => (cgR h x0 2 0).bind fun v3 => (caI h v3 100 x2).bind fun v4 => some (imax 0 (v2 - v4))
set_option maxHeartbeats 4000000 in
theorem T_X3_tight {l : Launch} {E : XEnv}  {x0 : Nat} {x1 : Int32} {x2 : Int32} {h : XH} {r : Int32} (hl : k_X3_tight x0 x1 x2 h = some r) : CM l E mX3_tight 2 [.ref x0, .int x1, .int x2] h (.inl (some (.int r))) h := by
  unfold k_X3_tight at hl
  refine cm_of (by decide +kernel) rfl (Nat.le_of_ble_eq_true rfl) ?_
  refine cx_iconst (v := 0) dX3_tight_0 rfl ?_
  refine cx_aload_n dX3_tight_1 rfl rfl ?_
  obtain ⟨v1, ev1, hl⟩ := xb hl
  refine cx_getR gF_X3_22 dX3_tight_2 ev1 ?_
  refine cx_iload_n dX3_tight_5 rfl ?_
  obtain ⟨v2, ev2, hl⟩ := xb hl
  refine cx_iald dX3_tight_6 ev2 ?_
  refine cx_aload_n dX3_tight_7 rfl rfl ?_
  obtain ⟨v3, ev3, hl⟩ := xb hl
  refine cx_getR gF_X3_15 dX3_tight_8 ev3 ?_
  refine cx_iload_n dX3_tight_11 rfl ?_
  obtain ⟨v4, ev4, hl⟩ := xb hl
  refine cx_iald dX3_tight_12 ev4 ?_
  refine cx_isub dX3_tight_13 ?_
  refine cx_mmax q484 dX3_tight_14 (by omega) (Nat.le_of_ble_eq_true rfl) ?_
  cases hl
  exact cx_iret dX3_tight_17 rfl rfl rfl rfl
def k_J14_intValue (x0 : Nat) (h : XH) : Option (Int32) := (cgI h x0 11 0).bind fun v1 => some v1
set_option maxHeartbeats 4000000 in
theorem T_J14_intValue {l : Launch} {E : XEnv}  {x0 : Nat} {h : XH} {r : Int32} (hl : k_J14_intValue x0 h = some r) : CM l E mJ14_intValue 1 [.ref x0] h (.inl (some (.int r))) h := by
  unfold k_J14_intValue at hl
  refine cm_of (by decide +kernel) rfl (Nat.le_of_ble_eq_true rfl) ?_
  refine cx_aload_n dJ14_intValue_0 rfl rfl ?_
  obtain ⟨v1, ev1, hl⟩ := xb hl
  refine cx_getI gF_J14_205 dJ14_intValue_1 ev1 ?_
  cases hl
  exact cx_iret dJ14_intValue_4 rfl rfl rfl rfl
def k_J2_isEmpty (x0 : Nat) (h : XH) : Option (Int32) := (cgI h x0 10 2).bind fun v1 => if v1 = 0 then some 1 else some 0
set_option maxHeartbeats 4000000 in
theorem T_J2_isEmpty {l : Launch} {E : XEnv}  {x0 : Nat} {h : XH} {r : Int32} (hl : k_J2_isEmpty x0 h = some r) : CM l E mJ2_isEmpty 1 [.ref x0] h (.inl (some (.int r))) h := by
  unfold k_J2_isEmpty at hl
  refine cm_of (by decide +kernel) rfl (Nat.le_of_ble_eq_true rfl) ?_
  refine cx_aload_n dJ2_isEmpty_0 rfl rfl ?_
  obtain ⟨v1, ev1, hl⟩ := xb hl
  refine cx_getI gF_J2_48 dJ2_isEmpty_1 ev1 ?_
  by_cases c2 : v1 = 0
  · rw [if_pos c2] at hl
    refine cx_if_ne (X := True) (tgt := 11) dJ2_isEmpty_4 (by decide) (fun z => absurd c2 z) (fun _ => ?_)
    refine cx_iconst (v := 1) dJ2_isEmpty_7 rfl ?_
    refine cx_goto (tgt := 12) dJ2_isEmpty_8 (by decide) ?_
    cases hl
    exact cx_iret dJ2_isEmpty_12 rfl rfl rfl rfl
  · rw [if_neg c2] at hl
    refine cx_if_ne (X := True) (tgt := 11) dJ2_isEmpty_4 (by decide) (fun _ => ?_) (fun z => absurd z c2)
    refine cx_iconst (v := 0) dJ2_isEmpty_11 rfl ?_
    cases hl
    exact cx_iret dJ2_isEmpty_12 rfl rfl rfl rfl
def k_X2_damp (x0 : Nat) (x1 : Int32) (h : XH) : Option (Int32) := (cgR h x0 1 3).bind fun v1 => (ckd h v1 10).bind fun u3 => (k_J2_isEmpty v1 h).bind fun r2 => if r2 = 0 then (cgR h x0 1 3).bind fun v5 => (cgR h x0 1 3).bind fun v6 => (ckd h v6 10).bind fun u8 => (k_J2_size v6 h).bind fun r7 => if r7 = 0 then none else (ckd h v5 10).bind fun u10 => (k_J2_get v5 (x1 - x1 / r7 * r7) h).bind fun r9 => (ckd h r9 11).bind fun u11 => (ckd h r9 11).bind fun u13 => (k_J14_intValue r9 h).bind fun r12 => some r12 else some 3
set_option maxHeartbeats 4000000 in
theorem T_X2_damp {l : Launch} {E : XEnv}  {x0 : Nat} {x1 : Int32} {h : XH} {r : Int32} (hl : k_X2_damp x0 x1 h = some r) : CM l E mX2_damp 4 [.ref x0, .int x1] h (.inl (some (.int r))) h := by
  unfold k_X2_damp at hl
  refine cm_of (by decide +kernel) rfl (Nat.le_of_ble_eq_true rfl) ?_
  refine cx_aload_n dX2_damp_0 rfl rfl ?_
  obtain ⟨v1, ev1, hl⟩ := xb hl
  refine cx_getR gF_X2_22 dX2_damp_1 ev1 ?_
  obtain ⟨u3, eu3, hl⟩ := xb hl
  obtain ⟨r2, er2, hl⟩ := xb hl
  refine cx_callF (ci := 10) (by decide) rfl (T_J2_isEmpty er2) lF_X2_31 C_J2_isEmpty dX2_damp_4 eu3 rfl (by omega) (Nat.le_of_ble_eq_true rfl) ?_
  by_cases c4 : r2 = 0
  · rw [if_pos c4] at hl
    refine cx_if_eq (X := True) (tgt := 16) dX2_damp_9 (by decide) (fun _ => ?_) (fun z => absurd c4 z)
    refine cx_aload_n dX2_damp_16 rfl rfl ?_
    obtain ⟨v5, ev5, hl⟩ := xb hl
    refine cx_getR gF_X2_22 dX2_damp_17 ev5 ?_
    refine cx_iload_n dX2_damp_20 rfl ?_
    refine cx_aload_n dX2_damp_21 rfl rfl ?_
    obtain ⟨v6, ev6, hl⟩ := xb hl
    refine cx_getR gF_X2_22 dX2_damp_22 ev6 ?_
    obtain ⟨u8, eu8, hl⟩ := xb hl
    obtain ⟨r7, er7, hl⟩ := xb hl
    refine cx_callF (ci := 10) (by decide) rfl (T_J2_size er7) lF_X2_25 C_J2_size dX2_damp_25 eu8 rfl (by omega) (Nat.le_of_ble_eq_true rfl) ?_
    by_cases z14 : r7 = 0
    · rw [if_pos z14] at hl; cases hl
    rw [if_neg z14] at hl
    refine cx_irem dX2_damp_30 z14 ?_
    obtain ⟨u10, eu10, hl⟩ := xb hl
    obtain ⟨r9, er9, hl⟩ := xb hl
    refine cx_callF (ci := 10) (by decide) rfl (T_J2_get er9) lF_X2_35 C_J2_get dX2_damp_31 eu10 rfl (by omega) (Nat.le_of_ble_eq_true rfl) ?_
    obtain ⟨u11, eu11, hl⟩ := xb hl
    refine cx_castO xC_X2_39_11 dX2_damp_36 (by decide) eu11 ?_
    obtain ⟨u13, eu13, hl⟩ := xb hl
    obtain ⟨r12, er12, hl⟩ := xb hl
    refine cx_callV (Or.inl ⟨by decide, _, _, rfl⟩) (T_J14_intValue er12) lV_X2_41 C_J14_intValue dX2_damp_39 eu13 (by decide) rfl (by omega) (Nat.le_of_ble_eq_true rfl) ?_
    cases hl
    exact cx_iret dX2_damp_42 rfl rfl rfl rfl
  · rw [if_neg c4] at hl
    refine cx_if_eq (X := True) (tgt := 16) dX2_damp_9 (by decide) (fun z => absurd z c4) (fun _ => ?_)
    refine cx_iconst (v := 3) dX2_damp_12 rfl ?_
    refine cx_goto (tgt := 42) dX2_damp_13 (by decide) ?_
    cases hl
    exact cx_iret dX2_damp_42 rfl rfl rfl rfl
def k_X3_damp (x0 : Nat) (h : XH) : Option (Int32) := (cgI h x0 2 8).bind fun v1 => if v1 = (-1) then (cgI h x0 2 7).bind fun v3 => if v3 = 0 then (cgR h x0 2 9).bind fun v5 => (cgR h v5 0 1).bind fun v6 => (cgI h x0 2 5).bind fun v7 => (ckd h v6 1).bind fun u9 => (k_X2_damp v6 v7 h).bind fun r8 => some r8 else some 9 else (cgI h x0 2 8).bind fun v10 => some v10
set_option maxHeartbeats 4000000 in
theorem T_X3_damp {l : Launch} {E : XEnv}  {x0 : Nat} {h : XH} {r : Int32} (hl : k_X3_damp x0 h = some r) : CM l E mX3_damp 5 [.ref x0] h (.inl (some (.int r))) h := by
  unfold k_X3_damp at hl
  refine cm_of (by decide +kernel) rfl (Nat.le_of_ble_eq_true rfl) ?_
  refine cx_aload_n dX3_damp_0 rfl rfl ?_
  obtain ⟨v1, ev1, hl⟩ := xb hl
  refine cx_getI gF_X3_31 dX3_damp_1 ev1 ?_
  refine cx_iconst (v := (-1)) dX3_damp_4 rfl ?_
  by_cases c2 : v1 = (-1)
  · rw [if_pos c2] at hl
    refine cx_icmp_eq (X := True) (tgt := 15) dX3_damp_5 (by decide) (fun _ => ?_) (fun z => absurd c2 z)
    refine cx_aload_n dX3_damp_15 rfl rfl ?_
    obtain ⟨v3, ev3, hl⟩ := xb hl
    refine cx_getI gF_X3_48 dX3_damp_16 ev3 ?_
    by_cases c4 : v3 = 0
    · rw [if_pos c4] at hl
      refine cx_if_eq (X := True) (tgt := 27) dX3_damp_19 (by decide) (fun _ => ?_) (fun z => absurd c4 z)
      refine cx_aload_n dX3_damp_27 rfl rfl ?_
      obtain ⟨v5, ev5, hl⟩ := xb hl
      refine cx_getR gF_X3_3 dX3_damp_28 ev5 ?_
      obtain ⟨v6, ev6, hl⟩ := xb hl
      refine cx_getR gF_X3_52 dX3_damp_31 ev6 ?_
      refine cx_aload_n dX3_damp_34 rfl rfl ?_
      obtain ⟨v7, ev7, hl⟩ := xb hl
      refine cx_getI gF_X3_42 dX3_damp_35 ev7 ?_
      obtain ⟨u9, eu9, hl⟩ := xb hl
      obtain ⟨r8, er8, hl⟩ := xb hl
      refine cx_callV (Or.inl ⟨by decide, _, _, rfl⟩) (T_X2_damp er8) lV_X3_56 C_X2_damp dX3_damp_38 eu9 (by decide) rfl (by omega) (Nat.le_of_ble_eq_true rfl) ?_
      cases hl
      exact cx_iret dX3_damp_41 rfl rfl rfl rfl
    · rw [if_neg c4] at hl
      refine cx_if_eq (X := True) (tgt := 27) dX3_damp_19 (by decide) (fun z => absurd z c4) (fun _ => ?_)
      refine cx_bipush (v := 9) dX3_damp_22 (by decide) ?_
      refine cx_goto (tgt := 41) dX3_damp_24 (by decide) ?_
      cases hl
      exact cx_iret dX3_damp_41 rfl rfl rfl rfl
  · rw [if_neg c2] at hl
    refine cx_icmp_eq (X := True) (tgt := 15) dX3_damp_5 (by decide) (fun z => absurd z c2) (fun _ => ?_)
    refine cx_aload_n dX3_damp_8 rfl rfl ?_
    obtain ⟨v10, ev10, hl⟩ := xb hl
    refine cx_getI gF_X3_31 dX3_damp_9 ev10 ?_
    refine cx_goto (tgt := 41) dX3_damp_12 (by decide) ?_
    cases hl
    exact cx_iret dX3_damp_41 rfl rfl rfl rfl
def k_X3_asked (n : Nat) (g : Nat) (c : Nat → Value) (x0 : Nat) (x1 : Nat) (x2 : Int32) (x3 : Int32) (h : XH) : Option (Int32 × XH) := (cgR h x0 2 9).bind fun v1 => (cgR h v1 0 0).bind fun v2 => (cgR h x0 2 2).bind fun v3 => (caI h v3 100 x2).bind fun v4 => (csu h v2 100 0 (.int v4)).bind fun h5 => (cgR h5 x0 2 9).bind fun v6 => (cgR h5 v6 0 0).bind fun v7 => (cgR h5 x0 2 0).bind fun v8 => (caI h5 v8 100 x3).bind fun v9 => (csu h5 v7 100 1 (.int v9)).bind fun h10 => (cgR h10 x0 2 9).bind fun v11 => (cgR h10 v11 0 0).bind fun v12 => (cgR h10 x0 2 9).bind fun v13 => (cgR h10 v13 0 1).bind fun v14 => (cgR h10 v14 1 0).bind fun v15 => (ckd h10 v15 10).bind fun u17 => (k_J2_get v15 x3 h10).bind fun r16 => (ckd h10 r16 11).bind fun u18 => (ckd h10 r16 11).bind fun u20 => (k_J14_intValue r16 h10).bind fun r19 => (csu h10 v12 100 2 (.int r19)).bind fun h21 => (cgR h21 x0 2 9).bind fun v22 => (cgR h21 v22 0 0).bind fun v23 => (cgR h21 x0 2 1).bind fun v24 => (caI h21 v24 100 x3).bind fun v25 => (csu h21 v23 100 3 (.int v25)).bind fun h26 => (cgR h26 x0 2 9).bind fun v27 => (cgR h26 v27 0 0).bind fun v28 => (ckd h26 x0 2).bind fun u30 => (k_X3_damp x0 h26).bind fun r29 => (csu h26 v28 100 4 (.int r29)).bind fun h31 => (cgR h31 x0 2 9).bind fun v32 => (cgR h31 v32 0 0).bind fun v33 => (cgI h31 x0 2 5).bind fun v34 => (csu h31 v33 100 5 (.int v34)).bind fun h35 => (cgR h35 x0 2 9).bind fun v36 => (cgR h35 v36 0 0).bind fun v37 => (ckd h35 x0 2).bind fun u39 => (k_X3_tight x0 x2 x3 h35).bind fun r38 => (csu h35 v37 100 6 (.int r38)).bind fun h40 => (cgR h40 x0 2 9).bind fun v41 => (cgR h40 v41 0 0).bind fun v42 => (f_of n c g x1 v42 h40).bind fun v43 => some (v43, h40)
set_option maxHeartbeats 4000000 in
theorem T_X3_asked {l : Launch} {E : XEnv}  {n : Nat} {g : Nat} {x0 : Nat} {x1 : Nat} {x2 : Int32} {x3 : Int32} {h : XH} {r : Int32 × XH} (hl : k_X3_asked n g E.2.2.2 x0 x1 x2 x3 h = some r) : CM l E mX3_asked (5 * g + 6) [.ref x0, .ref x1, .int x2, .int x3] h (.inl (some (.int r.1))) r.2 := by
  unfold k_X3_asked at hl
  refine cm_of (by decide +kernel) rfl (Nat.le_of_ble_eq_true rfl) ?_
  refine cx_aload_n dX3_asked_0 rfl rfl ?_
  obtain ⟨v1, ev1, hl⟩ := xb hl
  refine cx_getR gF_X3_3 dX3_asked_1 ev1 ?_
  obtain ⟨v2, ev2, hl⟩ := xb hl
  refine cx_getR gF_X3_71 dX3_asked_4 ev2 ?_
  refine cx_iconst (v := 0) dX3_asked_7 rfl ?_
  refine cx_aload_n dX3_asked_8 rfl rfl ?_
  obtain ⟨v3, ev3, hl⟩ := xb hl
  refine cx_getR gF_X3_22 dX3_asked_9 ev3 ?_
  refine cx_iload_n dX3_asked_12 rfl ?_
  obtain ⟨v4, ev4, hl⟩ := xb hl
  refine cx_iald dX3_asked_13 ev4 ?_
  obtain ⟨h5, eh5, hl⟩ := xb hl
  refine cx_iast dX3_asked_14 eh5 ?_
  refine cx_aload_n dX3_asked_15 rfl rfl ?_
  obtain ⟨v6, ev6, hl⟩ := xb hl
  refine cx_getR gF_X3_3 dX3_asked_16 ev6 ?_
  obtain ⟨v7, ev7, hl⟩ := xb hl
  refine cx_getR gF_X3_71 dX3_asked_19 ev7 ?_
  refine cx_iconst (v := 1) dX3_asked_22 rfl ?_
  refine cx_aload_n dX3_asked_23 rfl rfl ?_
  obtain ⟨v8, ev8, hl⟩ := xb hl
  refine cx_getR gF_X3_15 dX3_asked_24 ev8 ?_
  refine cx_iload_n dX3_asked_27 rfl ?_
  obtain ⟨v9, ev9, hl⟩ := xb hl
  refine cx_iald dX3_asked_28 ev9 ?_
  obtain ⟨h10, eh10, hl⟩ := xb hl
  refine cx_iast dX3_asked_29 eh10 ?_
  refine cx_aload_n dX3_asked_30 rfl rfl ?_
  obtain ⟨v11, ev11, hl⟩ := xb hl
  refine cx_getR gF_X3_3 dX3_asked_31 ev11 ?_
  obtain ⟨v12, ev12, hl⟩ := xb hl
  refine cx_getR gF_X3_71 dX3_asked_34 ev12 ?_
  refine cx_iconst (v := 2) dX3_asked_37 rfl ?_
  refine cx_aload_n dX3_asked_38 rfl rfl ?_
  obtain ⟨v13, ev13, hl⟩ := xb hl
  refine cx_getR gF_X3_3 dX3_asked_39 ev13 ?_
  obtain ⟨v14, ev14, hl⟩ := xb hl
  refine cx_getR gF_X3_52 dX3_asked_42 ev14 ?_
  obtain ⟨v15, ev15, hl⟩ := xb hl
  refine cx_getR gF_X3_74 dX3_asked_45 ev15 ?_
  refine cx_iload_n dX3_asked_48 rfl ?_
  obtain ⟨u17, eu17, hl⟩ := xb hl
  obtain ⟨r16, er16, hl⟩ := xb hl
  refine cx_callF (ci := 10) (by decide) rfl (T_J2_get er16) lF_X3_78 C_J2_get dX3_asked_49 eu17 rfl (by omega) (Nat.le_of_ble_eq_true rfl) ?_
  obtain ⟨u18, eu18, hl⟩ := xb hl
  refine cx_castO xC_X3_84_11 dX3_asked_54 (by decide) eu18 ?_
  obtain ⟨u20, eu20, hl⟩ := xb hl
  obtain ⟨r19, er19, hl⟩ := xb hl
  refine cx_callV (Or.inl ⟨by decide, _, _, rfl⟩) (T_J14_intValue er19) lV_X3_86 C_J14_intValue dX3_asked_57 eu20 (by decide) rfl (by omega) (Nat.le_of_ble_eq_true rfl) ?_
  obtain ⟨h21, eh21, hl⟩ := xb hl
  refine cx_iast dX3_asked_60 eh21 ?_
  refine cx_aload_n dX3_asked_61 rfl rfl ?_
  obtain ⟨v22, ev22, hl⟩ := xb hl
  refine cx_getR gF_X3_3 dX3_asked_62 ev22 ?_
  obtain ⟨v23, ev23, hl⟩ := xb hl
  refine cx_getR gF_X3_71 dX3_asked_65 ev23 ?_
  refine cx_iconst (v := 3) dX3_asked_68 rfl ?_
  refine cx_aload_n dX3_asked_69 rfl rfl ?_
  obtain ⟨v24, ev24, hl⟩ := xb hl
  refine cx_getR gF_X3_19 dX3_asked_70 ev24 ?_
  refine cx_iload_n dX3_asked_73 rfl ?_
  obtain ⟨v25, ev25, hl⟩ := xb hl
  refine cx_iald dX3_asked_74 ev25 ?_
  obtain ⟨h26, eh26, hl⟩ := xb hl
  refine cx_iast dX3_asked_75 eh26 ?_
  refine cx_aload_n dX3_asked_76 rfl rfl ?_
  obtain ⟨v27, ev27, hl⟩ := xb hl
  refine cx_getR gF_X3_3 dX3_asked_77 ev27 ?_
  obtain ⟨v28, ev28, hl⟩ := xb hl
  refine cx_getR gF_X3_71 dX3_asked_80 ev28 ?_
  refine cx_iconst (v := 4) dX3_asked_83 rfl ?_
  refine cx_aload_n dX3_asked_84 rfl rfl ?_
  obtain ⟨u30, eu30, hl⟩ := xb hl
  obtain ⟨r29, er29, hl⟩ := xb hl
  refine cx_callV (Or.inl ⟨by decide, _, _, rfl⟩) (T_X3_damp er29) lV_X3_89 C_X3_damp dX3_asked_85 eu30 (by decide) rfl (by omega) (Nat.le_of_ble_eq_true rfl) ?_
  obtain ⟨h31, eh31, hl⟩ := xb hl
  refine cx_iast dX3_asked_88 eh31 ?_
  refine cx_aload_n dX3_asked_89 rfl rfl ?_
  obtain ⟨v32, ev32, hl⟩ := xb hl
  refine cx_getR gF_X3_3 dX3_asked_90 ev32 ?_
  obtain ⟨v33, ev33, hl⟩ := xb hl
  refine cx_getR gF_X3_71 dX3_asked_93 ev33 ?_
  refine cx_iconst (v := 5) dX3_asked_96 rfl ?_
  refine cx_aload_n dX3_asked_97 rfl rfl ?_
  obtain ⟨v34, ev34, hl⟩ := xb hl
  refine cx_getI gF_X3_42 dX3_asked_98 ev34 ?_
  obtain ⟨h35, eh35, hl⟩ := xb hl
  refine cx_iast dX3_asked_101 eh35 ?_
  refine cx_aload_n dX3_asked_102 rfl rfl ?_
  obtain ⟨v36, ev36, hl⟩ := xb hl
  refine cx_getR gF_X3_3 dX3_asked_103 ev36 ?_
  obtain ⟨v37, ev37, hl⟩ := xb hl
  refine cx_getR gF_X3_71 dX3_asked_106 ev37 ?_
  refine cx_bipush (v := 6) dX3_asked_109 (by decide) ?_
  refine cx_aload_n dX3_asked_111 rfl rfl ?_
  refine cx_iload_n dX3_asked_112 rfl ?_
  refine cx_iload_n dX3_asked_113 rfl ?_
  obtain ⟨u39, eu39, hl⟩ := xb hl
  obtain ⟨r38, er38, hl⟩ := xb hl
  refine cx_callV (Or.inl ⟨by decide, _, _, rfl⟩) (T_X3_tight er38) lV_X3_91 C_X3_tight dX3_asked_114 eu39 (by decide) rfl (by omega) (Nat.le_of_ble_eq_true rfl) ?_
  obtain ⟨h40, eh40, hl⟩ := xb hl
  refine cx_iast dX3_asked_117 eh40 ?_
  refine cx_aload_n dX3_asked_118 rfl rfl ?_
  refine cx_aload_n dX3_asked_119 rfl rfl ?_
  obtain ⟨v41, ev41, hl⟩ := xb hl
  refine cx_getR gF_X3_3 dX3_asked_120 ev41 ?_
  obtain ⟨v42, ev42, hl⟩ := xb hl
  refine cx_getR gF_X3_71 dX3_asked_123 ev42 ?_
  obtain ⟨v43, ev43, hl⟩ := xb hl
  refine cx_callOf (f_of_ok ev43) lF_X3_94_X7 lF_X3_94_X8 lF_X3_94_X9 lF_X3_94_X10 dX3_asked_126 (by omega) (Nat.le_of_ble_eq_true rfl) ?_
  cases hl
  exact cx_iret dX3_asked_131 rfl rfl rfl rfl
def k_X3_bursts (n : Nat) (g : Nat) (c : Nat → Value) (x0 : Nat) (x1 : Int32) (x2 : Int32) (h : XH) : Option (Int32 × XH) := (cgR h x0 2 9).bind fun v1 => (cgR h v1 0 1).bind fun v2 => (cgV h v2 1 5).bind fun v3 => if v3 = .null then (ckd h x0 2).bind fun u6 => (k_X3_tight x0 x1 x2 h).bind fun r5 => (cgR h x0 2 9).bind fun v7 => (cgR h v7 0 1).bind fun v8 => (cgR h v8 1 0).bind fun v9 => (ckd h v9 10).bind fun u11 => (k_J2_get v9 x2 h).bind fun r10 => (ckd h r10 11).bind fun u12 => (ckd h r10 11).bind fun u14 => (k_J14_intValue r10 h).bind fun r13 => if r5 ≤ ((9 : Int32) + r13) then some (0, h) else some (1, h) else (cgR h x0 2 9).bind fun v16 => (cgR h v16 0 1).bind fun v17 => (cgR h v17 1 5).bind fun v18 => (ckd h x0 2).bind fun u20 => (k_X3_asked n g c x0 v18 x1 x2 h).bind fun r19 => if r19.1 ≤ 0 then some (0, r19.2) else some (1, r19.2)
set_option maxHeartbeats 4000000 in
theorem T_X3_bursts {l : Launch} {E : XEnv}  {n : Nat} {g : Nat} {x0 : Nat} {x1 : Int32} {x2 : Int32} {h : XH} {r : Int32 × XH} (hl : k_X3_bursts n g E.2.2.2 x0 x1 x2 h = some r) : CM l E mX3_bursts (5 * g + 7) [.ref x0, .int x1, .int x2] h (.inl (some (.int r.1))) r.2 := by
  unfold k_X3_bursts at hl
  refine cm_of (by decide +kernel) rfl (Nat.le_of_ble_eq_true rfl) ?_
  refine cx_aload_n dX3_bursts_0 rfl rfl ?_
  obtain ⟨v1, ev1, hl⟩ := xb hl
  refine cx_getR gF_X3_3 dX3_bursts_1 ev1 ?_
  obtain ⟨v2, ev2, hl⟩ := xb hl
  refine cx_getR gF_X3_52 dX3_bursts_4 ev2 ?_
  obtain ⟨v3, ev3, hl⟩ := xb hl
  refine cx_getV gF_X3_123 dX3_bursts_7 ev3 ?_
  by_cases c4 : v3 = .null
  · rw [if_pos c4] at hl
    refine cx_ifnonnull (tgt := 55) (cgV_spec ev3 gF_X3_123.ne).2.2 dX3_bursts_10 (by decide) (fun z => absurd c4 z) (fun _ => ?_)
    refine cx_aload_n dX3_bursts_13 rfl rfl ?_
    refine cx_iload_n dX3_bursts_14 rfl ?_
    refine cx_iload_n dX3_bursts_15 rfl ?_
    obtain ⟨u6, eu6, hl⟩ := xb hl
    obtain ⟨r5, er5, hl⟩ := xb hl
    refine cx_callV (Or.inl ⟨by decide, _, _, rfl⟩) (T_X3_tight er5) lV_X3_91 C_X3_tight dX3_bursts_16 eu6 (by decide) rfl (by omega) (Nat.le_of_ble_eq_true rfl) ?_
    refine cx_bipush (v := 9) dX3_bursts_19 (by decide) ?_
    refine cx_aload_n dX3_bursts_21 rfl rfl ?_
    obtain ⟨v7, ev7, hl⟩ := xb hl
    refine cx_getR gF_X3_3 dX3_bursts_22 ev7 ?_
    obtain ⟨v8, ev8, hl⟩ := xb hl
    refine cx_getR gF_X3_52 dX3_bursts_25 ev8 ?_
    obtain ⟨v9, ev9, hl⟩ := xb hl
    refine cx_getR gF_X3_74 dX3_bursts_28 ev9 ?_
    refine cx_iload_n dX3_bursts_31 rfl ?_
    obtain ⟨u11, eu11, hl⟩ := xb hl
    obtain ⟨r10, er10, hl⟩ := xb hl
    refine cx_callF (ci := 10) (by decide) rfl (T_J2_get er10) lF_X3_78 C_J2_get dX3_bursts_32 eu11 rfl (by omega) (Nat.le_of_ble_eq_true rfl) ?_
    obtain ⟨u12, eu12, hl⟩ := xb hl
    refine cx_castO xC_X3_84_11 dX3_bursts_37 (by decide) eu12 ?_
    obtain ⟨u14, eu14, hl⟩ := xb hl
    obtain ⟨r13, er13, hl⟩ := xb hl
    refine cx_callV (Or.inl ⟨by decide, _, _, rfl⟩) (T_J14_intValue er13) lV_X3_86 C_J14_intValue dX3_bursts_40 eu14 (by decide) rfl (by omega) (Nat.le_of_ble_eq_true rfl) ?_
    refine cx_iadd dX3_bursts_43 ?_
    by_cases c15 : r5 ≤ ((9 : Int32) + r13)
    · rw [if_pos c15] at hl
      refine cx_icmp_le (X := True) (tgt := 51) dX3_bursts_44 (by decide) (fun _ => ?_) (fun z => absurd c15 z)
      refine cx_iconst (v := 0) dX3_bursts_51 rfl ?_
      refine cx_goto (tgt := 79) dX3_bursts_52 (by decide) ?_
      cases hl
      exact cx_iret dX3_bursts_79 rfl rfl rfl rfl
    · rw [if_neg c15] at hl
      refine cx_icmp_le (X := True) (tgt := 51) dX3_bursts_44 (by decide) (fun z => absurd z c15) (fun _ => ?_)
      refine cx_iconst (v := 1) dX3_bursts_47 rfl ?_
      refine cx_goto (tgt := 79) dX3_bursts_48 (by decide) ?_
      cases hl
      exact cx_iret dX3_bursts_79 rfl rfl rfl rfl
  · rw [if_neg c4] at hl
    refine cx_ifnonnull (tgt := 55) (cgV_spec ev3 gF_X3_123.ne).2.2 dX3_bursts_10 (by decide) (fun _ => ?_) (fun z => absurd z c4)
    refine cx_aload_n dX3_bursts_55 rfl rfl ?_
    refine cx_aload_n dX3_bursts_56 rfl rfl ?_
    obtain ⟨v16, ev16, hl⟩ := xb hl
    refine cx_getR gF_X3_3 dX3_bursts_57 ev16 ?_
    obtain ⟨v17, ev17, hl⟩ := xb hl
    refine cx_getR gF_X3_52 dX3_bursts_60 ev17 ?_
    obtain ⟨v18, ev18, hl⟩ := xb hl
    refine cx_getR gF_X3_123 dX3_bursts_63 ev18 ?_
    refine cx_iload_n dX3_bursts_66 rfl ?_
    refine cx_iload_n dX3_bursts_67 rfl ?_
    obtain ⟨u20, eu20, hl⟩ := xb hl
    obtain ⟨r19, er19, hl⟩ := xb hl
    refine cx_callV (Or.inl ⟨by decide, _, _, rfl⟩) (T_X3_asked er19) lV_X3_104 C_X3_asked dX3_bursts_68 eu20 (by decide) rfl (by omega) (Nat.le_of_ble_eq_true rfl) ?_
    by_cases c21 : r19.1 ≤ 0
    · rw [if_pos c21] at hl
      refine cx_if_le (X := True) (tgt := 78) dX3_bursts_71 (by decide) (fun _ => ?_) (fun z => absurd c21 z)
      refine cx_iconst (v := 0) dX3_bursts_78 rfl ?_
      cases hl
      exact cx_iret dX3_bursts_79 rfl rfl rfl rfl
    · rw [if_neg c21] at hl
      refine cx_if_le (X := True) (tgt := 78) dX3_bursts_71 (by decide) (fun z => absurd z c21) (fun _ => ?_)
      refine cx_iconst (v := 1) dX3_bursts_74 rfl ?_
      refine cx_goto (tgt := 79) dX3_bursts_75 (by decide) ?_
      cases hl
      exact cx_iret dX3_bursts_79 rfl rfl rfl rfl
def k_X3_wear (n : Nat) (g : Nat) (c : Nat → Value) (x0 : Nat) (x1 : Int32) (x2 : Int32) (h : XH) : Option (XH) := (cgR h x0 2 1).bind fun v1 => (cgR h x0 2 1).bind fun v2 => (caI h v2 100 x2).bind fun v3 => (ckd h x0 2).bind fun u5 => (k_X3_tight x0 x1 x2 h).bind fun r4 => (csu h v1 100 x2 (.int (imin 99 (v3 + r4)))).bind fun h6 => (cgR h6 x0 2 4).bind fun v7 => (cgR h6 x0 2 4).bind fun v8 => (caI h6 v8 100 x1).bind fun v9 => (ckd h6 x0 2).bind fun u11 => (k_X3_tight x0 x1 x2 h6).bind fun r10 => (csu h6 v7 100 x1 (.int (imin 999 (v9 + r10)))).bind fun h12 => (ckd h12 x0 2).bind fun u14 => (k_X3_bursts n g c x0 x1 x2 h12).bind fun r13 => if r13.1 = 0 then some r13.2 else (cgI r13.2 x0 2 6).bind fun v16 => (cpu r13.2 x0 2 6 (.int (v16 ||| ((1 : Int32) <<< ((x2 : Int32) &&& 31))))).bind fun h17 => (cgR h17 x0 2 3).bind fun v18 => (csu h17 v18 100 x1 (.int (-1))).bind fun h19 => some h19
set_option maxHeartbeats 4000000 in
theorem T_X3_wear {l : Launch} {E : XEnv}  {n : Nat} {g : Nat} {x0 : Nat} {x1 : Int32} {x2 : Int32} {h : XH} {r : XH} (hl : k_X3_wear n g E.2.2.2 x0 x1 x2 h = some r) : CM l E mX3_wear (5 * g + 8) [.ref x0, .int x1, .int x2] h (.inl none) r := by
  unfold k_X3_wear at hl
  refine cm_of (by decide +kernel) rfl (Nat.le_of_ble_eq_true rfl) ?_
  refine cx_aload_n dX3_wear_0 rfl rfl ?_
  obtain ⟨v1, ev1, hl⟩ := xb hl
  refine cx_getR gF_X3_19 dX3_wear_1 ev1 ?_
  refine cx_iload_n dX3_wear_4 rfl ?_
  refine cx_bipush (v := 99) dX3_wear_5 (by decide) ?_
  refine cx_aload_n dX3_wear_7 rfl rfl ?_
  obtain ⟨v2, ev2, hl⟩ := xb hl
  refine cx_getR gF_X3_19 dX3_wear_8 ev2 ?_
  refine cx_iload_n dX3_wear_11 rfl ?_
  obtain ⟨v3, ev3, hl⟩ := xb hl
  refine cx_iald dX3_wear_12 ev3 ?_
  refine cx_aload_n dX3_wear_13 rfl rfl ?_
  refine cx_iload_n dX3_wear_14 rfl ?_
  refine cx_iload_n dX3_wear_15 rfl ?_
  obtain ⟨u5, eu5, hl⟩ := xb hl
  obtain ⟨r4, er4, hl⟩ := xb hl
  refine cx_callV (Or.inl ⟨by decide, _, _, rfl⟩) (T_X3_tight er4) lV_X3_91 C_X3_tight dX3_wear_16 eu5 (by decide) rfl (by omega) (Nat.le_of_ble_eq_true rfl) ?_
  refine cx_iadd dX3_wear_19 ?_
  refine cx_mmin q485 dX3_wear_20 (by omega) (Nat.le_of_ble_eq_true rfl) ?_
  obtain ⟨h6, eh6, hl⟩ := xb hl
  refine cx_iast dX3_wear_23 eh6 ?_
  refine cx_aload_n dX3_wear_24 rfl rfl ?_
  obtain ⟨v7, ev7, hl⟩ := xb hl
  refine cx_getR gF_X3_28 dX3_wear_25 ev7 ?_
  refine cx_iload_n dX3_wear_28 rfl ?_
  refine cx_sipush (v := 999) dX3_wear_29 (by decide) ?_
  refine cx_aload_n dX3_wear_32 rfl rfl ?_
  obtain ⟨v8, ev8, hl⟩ := xb hl
  refine cx_getR gF_X3_28 dX3_wear_33 ev8 ?_
  refine cx_iload_n dX3_wear_36 rfl ?_
  obtain ⟨v9, ev9, hl⟩ := xb hl
  refine cx_iald dX3_wear_37 ev9 ?_
  refine cx_aload_n dX3_wear_38 rfl rfl ?_
  refine cx_iload_n dX3_wear_39 rfl ?_
  refine cx_iload_n dX3_wear_40 rfl ?_
  obtain ⟨u11, eu11, hl⟩ := xb hl
  obtain ⟨r10, er10, hl⟩ := xb hl
  refine cx_callV (Or.inl ⟨by decide, _, _, rfl⟩) (T_X3_tight er10) lV_X3_91 C_X3_tight dX3_wear_41 eu11 (by decide) rfl (by omega) (Nat.le_of_ble_eq_true rfl) ?_
  refine cx_iadd dX3_wear_44 ?_
  refine cx_mmin q485 dX3_wear_45 (by omega) (Nat.le_of_ble_eq_true rfl) ?_
  obtain ⟨h12, eh12, hl⟩ := xb hl
  refine cx_iast dX3_wear_48 eh12 ?_
  refine cx_aload_n dX3_wear_49 rfl rfl ?_
  refine cx_iload_n dX3_wear_50 rfl ?_
  refine cx_iload_n dX3_wear_51 rfl ?_
  obtain ⟨u14, eu14, hl⟩ := xb hl
  obtain ⟨r13, er13, hl⟩ := xb hl
  refine cx_callV (Or.inl ⟨by decide, _, _, rfl⟩) (T_X3_bursts er13) lV_X3_126 C_X3_bursts dX3_wear_52 eu14 (by decide) rfl (by omega) (Nat.le_of_ble_eq_true rfl) ?_
  by_cases c15 : r13.1 = 0
  · rw [if_pos c15] at hl
    refine cx_if_ne (X := True) (tgt := 59) dX3_wear_55 (by decide) (fun z => absurd c15 z) (fun _ => ?_)
    cases hl
    exact cx_vret dX3_wear_58 rfl rfl rfl
  · rw [if_neg c15] at hl
    refine cx_if_ne (X := True) (tgt := 59) dX3_wear_55 (by decide) (fun _ => ?_) (fun z => absurd z c15)
    refine cx_aload_n dX3_wear_59 rfl rfl ?_
    refine cx_dup dX3_wear_60 rfl ?_
    obtain ⟨v16, ev16, hl⟩ := xb hl
    refine cx_getI gF_X3_45 dX3_wear_61 ev16 ?_
    refine cx_iconst (v := 1) dX3_wear_64 rfl ?_
    refine cx_iload_n dX3_wear_65 rfl ?_
    refine cx_ishl dX3_wear_66 ?_
    refine cx_ior dX3_wear_67 ?_
    obtain ⟨h17, eh17, hl⟩ := xb hl
    refine cx_putI pF_X3_45 dX3_wear_68 eh17 ?_
    refine cx_aload_n dX3_wear_71 rfl rfl ?_
    obtain ⟨v18, ev18, hl⟩ := xb hl
    refine cx_getR gF_X3_25 dX3_wear_72 ev18 ?_
    refine cx_iload_n dX3_wear_75 rfl ?_
    refine cx_iconst (v := (-1)) dX3_wear_76 rfl ?_
    obtain ⟨h19, eh19, hl⟩ := xb hl
    refine cx_iast dX3_wear_77 eh19 ?_
    cases hl
    exact cx_vret dX3_wear_78 rfl rfl rfl
def k_X3_pass_L2 (n : Nat) (g : Nat) (c : Nat → Value) (x0 : Nat) (x1 : Int32) (h : XH) : Option ((Int32 × XH) ⊕ ((XH))) := (cgR h x0 2 9).bind fun v1 => (cgR h v1 0 1).bind fun v2 => (ckd h v2 1).bind fun u4 => (k_X2_houses v2 h).bind fun r3 => if x1 ≥ r3 then some (.inr h) else (ckd h x0 2).bind fun u7 => (k_X3_in n x0 x1 h).bind fun r6 => if r6 = (-1) then (some (x1 + 1)).bind fun w9 => some (.inl (w9, h)) else (ckd h x0 2).bind fun u11 => (k_X3_in n x0 x1 h).bind fun r10 => (ckd h x0 2).bind fun u13 => (k_X3_wear n g c x0 r10 x1 h).bind fun r12 => (some (x1 + 1)).bind fun w14 => some (.inl (w14, r12))
abbrev K_X3_pass_L2 (l : Launch) (E : XEnv) (hf : XH) (res : XO) (g : Nat) (h : XH) (x0 : Nat) (o : (XH)) : Prop := match o with
  | e => CX l E mX3_pass (5 * g + 9) 41 [(0, .ref x0)] [] e hf res
def k_X3_pass_L43 (n : Nat) (g : Nat) (c : Nat → Value) (x0 : Nat) (x1 : Int32) (h : XH) : Option ((Int32 × XH) ⊕ ((XH))) := (cgR h x0 2 9).bind fun v16 => (cgR h v16 0 1).bind fun v17 => (ckd h v17 1).bind fun u19 => (k_X2_people v17 h).bind fun r18 => if x1 ≥ r18 then some (.inr h) else (cgR h x0 2 2).bind fun v21 => (cgR h x0 2 2).bind fun v22 => (caI h v22 100 x1).bind fun v23 => (cgR h x0 2 9).bind fun v24 => (cgR h v24 0 1).bind fun v25 => (cgR h v25 1 2).bind fun v26 => (ckd h v26 10).bind fun u28 => (k_J2_get v26 x1 h).bind fun r27 => (ckd h r27 11).bind fun u29 => (ckd h r27 11).bind fun u31 => (k_J14_intValue r27 h).bind fun r30 => (csu h v21 100 x1 (.int (imin 99 (v23 + r30)))).bind fun h32 => (some (x1 + 1)).bind fun w33 => some (.inl (w33, h32))
abbrev K_X3_pass_L43 (l : Launch) (E : XEnv) (hf : XH) (res : XO) (g : Nat) (h : XH) (x0 : Nat) (o : (XH)) : Prop := match o with
  | e => CX l E mX3_pass (5 * g + 9) 103 [(0, .ref x0)] [] e hf res
def k_X3_pass (n : Nat) (g : Nat) (c : Nat → Value) (x0 : Nat) (h : XH) : Option (Nat × XH) := (xloop (fun s => k_X3_pass_L2 n g c x0 s.1 s.2) n (0, h)).bind fun o15 => (xloop (fun s => k_X3_pass_L43 n g c x0 s.1 s.2) n (0, o15)).bind fun o34 => (cpZ o34 x0 2 7 0).bind fun h35 => (cgI h35 x0 2 5).bind fun v36 => (cpu h35 x0 2 5 (.int (v36 + 1))).bind fun h37 => some (x0, h37)
set_option maxHeartbeats 4000000 in
theorem k_X3_pass_L2_s {l : Launch} {E : XEnv} {hf : XH} {res : XO} {n : Nat} {g : Nat} {x0 : Nat} {x1 : Int32} {h : XH} {o : (Int32 × XH) ⊕ ((XH))} (hl : k_X3_pass_L2 n g E.2.2.2 x0 x1 h = some o) (hK : (xk (fun s : Int32 × XH => CX l E mX3_pass (5 * g + 9) 2 [(0, .ref x0), (1, .int s.1)] [] s.2 hf res) (fun r => K_X3_pass_L2 l E hf res g h x0 r) o)) : CX l E mX3_pass (5 * g + 9) 2 [(0, .ref x0), (1, .int x1)] [] h hf res := by
  unfold k_X3_pass_L2 at hl
  refine cx_iload_n dX3_pass_2 rfl ?_
  refine cx_aload_n dX3_pass_3 rfl rfl ?_
  obtain ⟨v1, ev1, hl⟩ := xb hl
  refine cx_getR gF_X3_3 dX3_pass_4 ev1 ?_
  obtain ⟨v2, ev2, hl⟩ := xb hl
  refine cx_getR gF_X3_52 dX3_pass_7 ev2 ?_
  obtain ⟨u4, eu4, hl⟩ := xb hl
  obtain ⟨r3, er3, hl⟩ := xb hl
  refine cx_callV (Or.inl ⟨by decide, _, _, rfl⟩) (T_X2_houses er3) lV_X3_128 C_X2_houses dX3_pass_10 eu4 (by decide) rfl (by omega) (Nat.le_of_ble_eq_true rfl) ?_
  by_cases c5 : x1 ≥ r3
  · rw [if_pos c5] at hl
    refine cx_icmp_ge (X := True) (tgt := 41) dX3_pass_13 (by decide) (fun _ => ?_) (fun z => absurd c5 z)
    cases hl
    exact cx_lsK hK ⟨rfl, trivial⟩
  · rw [if_neg c5] at hl
    refine cx_icmp_ge (X := True) (tgt := 41) dX3_pass_13 (by decide) (fun z => absurd z c5) (fun _ => ?_)
    refine cx_aload_n dX3_pass_16 rfl rfl ?_
    refine cx_iload_n dX3_pass_17 rfl ?_
    obtain ⟨u7, eu7, hl⟩ := xb hl
    obtain ⟨r6, er6, hl⟩ := xb hl
    refine cx_callV (Or.inl ⟨by decide, _, _, rfl⟩) (T_X3_in er6) lV_X3_117 C_X3_in dX3_pass_18 eu7 (by decide) rfl (by omega) (Nat.le_of_ble_eq_true rfl) ?_
    refine cx_iconst (v := (-1)) dX3_pass_21 rfl ?_
    by_cases c8 : r6 = (-1)
    · rw [if_pos c8] at hl
      refine cx_icmp_eq (X := True) (tgt := 35) dX3_pass_22 (by decide) (fun _ => ?_) (fun z => absurd c8 z)
      obtain ⟨w9, ew9, hl⟩ := xb hl
      refine cx_iinc dX3_pass_35 rfl (by decide) (Option.some.inj ew9) ?_
      refine cx_goto (tgt := 2) dX3_pass_38 (by decide) ?_
      cases hl
      exact cx_lsK hK ⟨rfl, rfl, trivial⟩
    · rw [if_neg c8] at hl
      refine cx_icmp_eq (X := True) (tgt := 35) dX3_pass_22 (by decide) (fun z => absurd z c8) (fun _ => ?_)
      refine cx_aload_n dX3_pass_25 rfl rfl ?_
      refine cx_aload_n dX3_pass_26 rfl rfl ?_
      refine cx_iload_n dX3_pass_27 rfl ?_
      obtain ⟨u11, eu11, hl⟩ := xb hl
      obtain ⟨r10, er10, hl⟩ := xb hl
      refine cx_callV (Or.inl ⟨by decide, _, _, rfl⟩) (T_X3_in er10) lV_X3_117 C_X3_in dX3_pass_28 eu11 (by decide) rfl (by omega) (Nat.le_of_ble_eq_true rfl) ?_
      refine cx_iload_n dX3_pass_31 rfl ?_
      obtain ⟨u13, eu13, hl⟩ := xb hl
      obtain ⟨r12, er12, hl⟩ := xb hl
      refine cx_callV (Or.inl ⟨by decide, _, _, rfl⟩) (T_X3_wear er12) lV_X3_131 C_X3_wear dX3_pass_32 eu13 (by decide) rfl (by omega) (Nat.le_of_ble_eq_true rfl) ?_
      obtain ⟨w14, ew14, hl⟩ := xb hl
      refine cx_iinc dX3_pass_35 rfl (by decide) (Option.some.inj ew14) ?_
      refine cx_goto (tgt := 2) dX3_pass_38 (by decide) ?_
      cases hl
      exact cx_lsK hK ⟨rfl, rfl, trivial⟩
set_option maxHeartbeats 4000000 in
theorem k_X3_pass_L2_ok {l : Launch} {E : XEnv} {hf : XH} {res : XO} {n : Nat} {g : Nat} {x0 : Nat} {h : XH} {s : Int32 × XH} {o : (XH)} (hl : xloop (fun s => k_X3_pass_L2 n g E.2.2.2 x0 s.1 s.2) n s = some o) (hK : K_X3_pass_L2 l E hf res g h x0 o) : CX l E mX3_pass (5 * g + 9) 2 [(0, .ref x0), (1, .int s.1)] [] s.2 hf res :=
  xloop_of (fun s : Int32 × XH => CX l E mX3_pass (5 * g + 9) 2 [(0, .ref x0), (1, .int s.1)] [] s.2 hf res) (fun r => K_X3_pass_L2 l E hf res g h x0 r) (fun s o hl hk => k_X3_pass_L2_s (h := s.2) (o := o) hl hk) n s o hl hK
set_option maxHeartbeats 4000000 in
theorem k_X3_pass_L43_s {l : Launch} {E : XEnv} {hf : XH} {res : XO} {n : Nat} {g : Nat} {x0 : Nat} {x1 : Int32} {h : XH} {o : (Int32 × XH) ⊕ ((XH))} (hl : k_X3_pass_L43 n g E.2.2.2 x0 x1 h = some o) (hK : (xk (fun s : Int32 × XH => CX l E mX3_pass (5 * g + 9) 43 [(0, .ref x0), (1, .int s.1)] [] s.2 hf res) (fun r => K_X3_pass_L43 l E hf res g h x0 r) o)) : CX l E mX3_pass (5 * g + 9) 43 [(0, .ref x0), (1, .int x1)] [] h hf res := by
  unfold k_X3_pass_L43 at hl
  refine cx_iload_n dX3_pass_43 rfl ?_
  refine cx_aload_n dX3_pass_44 rfl rfl ?_
  obtain ⟨v16, ev16, hl⟩ := xb hl
  refine cx_getR gF_X3_3 dX3_pass_45 ev16 ?_
  obtain ⟨v17, ev17, hl⟩ := xb hl
  refine cx_getR gF_X3_52 dX3_pass_48 ev17 ?_
  obtain ⟨u19, eu19, hl⟩ := xb hl
  obtain ⟨r18, er18, hl⟩ := xb hl
  refine cx_callV (Or.inl ⟨by decide, _, _, rfl⟩) (T_X2_people er18) lV_X3_67 C_X2_people dX3_pass_51 eu19 (by decide) rfl (by omega) (Nat.le_of_ble_eq_true rfl) ?_
  by_cases c20 : x1 ≥ r18
  · rw [if_pos c20] at hl
    refine cx_icmp_ge (X := True) (tgt := 103) dX3_pass_54 (by decide) (fun _ => ?_) (fun z => absurd c20 z)
    cases hl
    exact cx_lsK hK ⟨rfl, trivial⟩
  · rw [if_neg c20] at hl
    refine cx_icmp_ge (X := True) (tgt := 103) dX3_pass_54 (by decide) (fun z => absurd z c20) (fun _ => ?_)
    refine cx_aload_n dX3_pass_57 rfl rfl ?_
    obtain ⟨v21, ev21, hl⟩ := xb hl
    refine cx_getR gF_X3_22 dX3_pass_58 ev21 ?_
    refine cx_iload_n dX3_pass_61 rfl ?_
    refine cx_bipush (v := 99) dX3_pass_62 (by decide) ?_
    refine cx_aload_n dX3_pass_64 rfl rfl ?_
    obtain ⟨v22, ev22, hl⟩ := xb hl
    refine cx_getR gF_X3_22 dX3_pass_65 ev22 ?_
    refine cx_iload_n dX3_pass_68 rfl ?_
    obtain ⟨v23, ev23, hl⟩ := xb hl
    refine cx_iald dX3_pass_69 ev23 ?_
    refine cx_aload_n dX3_pass_70 rfl rfl ?_
    obtain ⟨v24, ev24, hl⟩ := xb hl
    refine cx_getR gF_X3_3 dX3_pass_71 ev24 ?_
    obtain ⟨v25, ev25, hl⟩ := xb hl
    refine cx_getR gF_X3_52 dX3_pass_74 ev25 ?_
    obtain ⟨v26, ev26, hl⟩ := xb hl
    refine cx_getR gF_X3_135 dX3_pass_77 ev26 ?_
    refine cx_iload_n dX3_pass_80 rfl ?_
    obtain ⟨u28, eu28, hl⟩ := xb hl
    obtain ⟨r27, er27, hl⟩ := xb hl
    refine cx_callF (ci := 10) (by decide) rfl (T_J2_get er27) lF_X3_78 C_J2_get dX3_pass_81 eu28 rfl (by omega) (Nat.le_of_ble_eq_true rfl) ?_
    obtain ⟨u29, eu29, hl⟩ := xb hl
    refine cx_castO xC_X3_84_11 dX3_pass_86 (by decide) eu29 ?_
    obtain ⟨u31, eu31, hl⟩ := xb hl
    obtain ⟨r30, er30, hl⟩ := xb hl
    refine cx_callV (Or.inl ⟨by decide, _, _, rfl⟩) (T_J14_intValue er30) lV_X3_86 C_J14_intValue dX3_pass_89 eu31 (by decide) rfl (by omega) (Nat.le_of_ble_eq_true rfl) ?_
    refine cx_iadd dX3_pass_92 ?_
    refine cx_mmin q485 dX3_pass_93 (by omega) (Nat.le_of_ble_eq_true rfl) ?_
    obtain ⟨h32, eh32, hl⟩ := xb hl
    refine cx_iast dX3_pass_96 eh32 ?_
    obtain ⟨w33, ew33, hl⟩ := xb hl
    refine cx_iinc dX3_pass_97 rfl (by decide) (Option.some.inj ew33) ?_
    refine cx_goto (tgt := 43) dX3_pass_100 (by decide) ?_
    cases hl
    exact cx_lsK hK ⟨rfl, rfl, trivial⟩
set_option maxHeartbeats 4000000 in
theorem k_X3_pass_L43_ok {l : Launch} {E : XEnv} {hf : XH} {res : XO} {n : Nat} {g : Nat} {x0 : Nat} {h : XH} {s : Int32 × XH} {o : (XH)} (hl : xloop (fun s => k_X3_pass_L43 n g E.2.2.2 x0 s.1 s.2) n s = some o) (hK : K_X3_pass_L43 l E hf res g h x0 o) : CX l E mX3_pass (5 * g + 9) 43 [(0, .ref x0), (1, .int s.1)] [] s.2 hf res :=
  xloop_of (fun s : Int32 × XH => CX l E mX3_pass (5 * g + 9) 43 [(0, .ref x0), (1, .int s.1)] [] s.2 hf res) (fun r => K_X3_pass_L43 l E hf res g h x0 r) (fun s o hl hk => k_X3_pass_L43_s (h := s.2) (o := o) hl hk) n s o hl hK
set_option maxHeartbeats 4000000 in
theorem T_X3_pass {l : Launch} {E : XEnv}  {n : Nat} {g : Nat} {x0 : Nat} {h : XH} {r : Nat × XH} (hl : k_X3_pass n g E.2.2.2 x0 h = some r) : CM l E mX3_pass (5 * g + 9) [.ref x0] h (.inl (some (.ref r.1))) r.2 := by
  unfold k_X3_pass at hl
  refine cm_of (by decide +kernel) rfl (Nat.le_of_ble_eq_true rfl) ?_
  refine cx_iconst (v := 0) dX3_pass_0 rfl ?_
  refine cx_istore_n dX3_pass_1 (by decide) ?_
  obtain ⟨o15, eo15, hl⟩ := xb hl
  refine cx_lsK (k_X3_pass_L2_ok (h := h) (s := (0, h)) eo15 ?_) ⟨rfl, rfl, trivial⟩
  refine cx_iconst (v := 0) dX3_pass_41 rfl ?_
  refine cx_istore_n dX3_pass_42 (by decide) ?_
  obtain ⟨o34, eo34, hl⟩ := xb hl
  refine cx_lsK (k_X3_pass_L43_ok (h := o15) (s := (0, o15)) eo34 ?_) ⟨rfl, rfl, trivial⟩
  refine cx_aload_n dX3_pass_103 rfl rfl ?_
  refine cx_iconst (v := 0) dX3_pass_104 rfl ?_
  obtain ⟨h35, eh35, hl⟩ := xb hl
  refine cx_putZ (Or.inl rfl) pF_X3_48 dX3_pass_105 eh35 ?_
  refine cx_aload_n dX3_pass_108 rfl rfl ?_
  refine cx_dup dX3_pass_109 rfl ?_
  obtain ⟨v36, ev36, hl⟩ := xb hl
  refine cx_getI gF_X3_42 dX3_pass_110 ev36 ?_
  refine cx_iconst (v := 1) dX3_pass_113 rfl ?_
  refine cx_iadd dX3_pass_114 ?_
  obtain ⟨h37, eh37, hl⟩ := xb hl
  refine cx_putI pF_X3_42 dX3_pass_115 eh37 ?_
  refine cx_aload_n dX3_pass_118 rfl rfl ?_
  cases hl
  exact cx_aret dX3_pass_119 rfl rfl (Or.inl ⟨_, rfl⟩) rfl rfl
def k_X3_after_L2 (n : Nat) (g : Nat) (c : Nat → Value) (x0 : Nat) (x1 : Int32) (x2 : Int32) (h : XH) : Option ((Int32 × XH) ⊕ ((XH))) := if x2 ≥ x1 then some (.inr h) else (ckd h x0 2).bind fun u3 => (k_X3_pass n g c x0 h).bind fun r2 => (some (x2 + 1)).bind fun w4 => some (.inl (w4, r2.2))
abbrev K_X3_after_L2 (l : Launch) (E : XEnv) (hf : XH) (res : XO) (g : Nat) (h : XH) (x0 : Nat) (x1 : Int32) (o : (XH)) : Prop := match o with
  | e => CX l E mX3_after (5 * g + 10) 18 [(0, .ref x0)] [] e hf res
def k_X3_after (n : Nat) (g : Nat) (c : Nat → Value) (x0 : Nat) (x1 : Int32) (h : XH) : Option (Nat × XH) := (xloop (fun s => k_X3_after_L2 n g c x0 x1 s.1 s.2) n (0, h)).bind fun o5 => some (x0, o5)
set_option maxHeartbeats 4000000 in
theorem k_X3_after_L2_s {l : Launch} {E : XEnv} {hf : XH} {res : XO} {n : Nat} {g : Nat} {x0 : Nat} {x1 : Int32} {x2 : Int32} {h : XH} {o : (Int32 × XH) ⊕ ((XH))} (hl : k_X3_after_L2 n g E.2.2.2 x0 x1 x2 h = some o) (hK : (xk (fun s : Int32 × XH => CX l E mX3_after (5 * g + 10) 2 [(0, .ref x0), (1, .int x1), (2, .int s.1)] [] s.2 hf res) (fun r => K_X3_after_L2 l E hf res g h x0 x1 r) o)) : CX l E mX3_after (5 * g + 10) 2 [(0, .ref x0), (1, .int x1), (2, .int x2)] [] h hf res := by
  unfold k_X3_after_L2 at hl
  refine cx_iload_n dX3_after_2 rfl ?_
  refine cx_iload_n dX3_after_3 rfl ?_
  by_cases c1 : x2 ≥ x1
  · rw [if_pos c1] at hl
    refine cx_icmp_ge (X := True) (tgt := 18) dX3_after_4 (by decide) (fun _ => ?_) (fun z => absurd c1 z)
    cases hl
    exact cx_lsK hK ⟨rfl, trivial⟩
  · rw [if_neg c1] at hl
    refine cx_icmp_ge (X := True) (tgt := 18) dX3_after_4 (by decide) (fun z => absurd z c1) (fun _ => ?_)
    refine cx_aload_n dX3_after_7 rfl rfl ?_
    obtain ⟨u3, eu3, hl⟩ := xb hl
    obtain ⟨r2, er2, hl⟩ := xb hl
    refine cx_callV (Or.inl ⟨by decide, _, _, rfl⟩) (T_X3_pass er2) lV_X3_138 C_X3_pass dX3_after_8 eu3 (by decide) rfl (by omega) (Nat.le_of_ble_eq_true rfl) ?_
    refine cx_pop dX3_after_11 rfl ?_
    obtain ⟨w4, ew4, hl⟩ := xb hl
    refine cx_iinc dX3_after_12 rfl (by decide) (Option.some.inj ew4) ?_
    refine cx_goto (tgt := 2) dX3_after_15 (by decide) ?_
    cases hl
    exact cx_lsK hK ⟨rfl, rfl, rfl, trivial⟩
set_option maxHeartbeats 4000000 in
theorem k_X3_after_L2_ok {l : Launch} {E : XEnv} {hf : XH} {res : XO} {n : Nat} {g : Nat} {x0 : Nat} {x1 : Int32} {h : XH} {s : Int32 × XH} {o : (XH)} (hl : xloop (fun s => k_X3_after_L2 n g E.2.2.2 x0 x1 s.1 s.2) n s = some o) (hK : K_X3_after_L2 l E hf res g h x0 x1 o) : CX l E mX3_after (5 * g + 10) 2 [(0, .ref x0), (1, .int x1), (2, .int s.1)] [] s.2 hf res :=
  xloop_of (fun s : Int32 × XH => CX l E mX3_after (5 * g + 10) 2 [(0, .ref x0), (1, .int x1), (2, .int s.1)] [] s.2 hf res) (fun r => K_X3_after_L2 l E hf res g h x0 x1 r) (fun s o hl hk => k_X3_after_L2_s (h := s.2) (o := o) hl hk) n s o hl hK
set_option maxHeartbeats 4000000 in
theorem T_X3_after {l : Launch} {E : XEnv}  {n : Nat} {g : Nat} {x0 : Nat} {x1 : Int32} {h : XH} {r : Nat × XH} (hl : k_X3_after n g E.2.2.2 x0 x1 h = some r) : CM l E mX3_after (5 * g + 10) [.ref x0, .int x1] h (.inl (some (.ref r.1))) r.2 := by
  unfold k_X3_after at hl
  refine cm_of (by decide +kernel) rfl (Nat.le_of_ble_eq_true rfl) ?_
  refine cx_iconst (v := 0) dX3_after_0 rfl ?_
  refine cx_istore_n dX3_after_1 (by decide) ?_
  obtain ⟨o5, eo5, hl⟩ := xb hl
  refine cx_lsK (k_X3_after_L2_ok (h := h) (s := (0, h)) eo5 ?_) ⟨rfl, rfl, rfl, trivial⟩
  refine cx_aload_n dX3_after_18 rfl rfl ?_
  cases hl
  exact cx_aret dX3_after_19 rfl rfl (Or.inl ⟨_, rfl⟩) rfl rfl
def k_X1_days (n : Nat) (g : Nat) (c : Nat → Value) (x0 : Nat) (x1 : Int32) (h : XH) : Option (Int32 × XH) := (k_X1_in x1 1 20 h).bind fun r1 => if r1 = 0 then (ckd h x0 0).bind fun u5 => (k_X1_refuse x0 1 h).bind fun r4 => some (r4.1, r4.2) else (cgR h x0 0 2).bind fun v6 => (cgI h v6 2 5).bind fun v7 => if (v7 + x1) ≤ 999 then (ckd h x0 0).bind fun u10 => (k_X1_keep n c x0 h).bind fun r9 => (cgR r9 x0 0 2).bind fun v11 => (ckd r9 v11 2).bind fun u13 => (k_X3_after n g c v11 x1 r9).bind fun r12 => (cgI r12.2 r12.1 2 5).bind fun v14 => some (v14, r12.2) else (ckd h x0 0).bind fun u16 => (k_X1_refuse x0 1 h).bind fun r15 => some (r15.1, r15.2)
set_option maxHeartbeats 4000000 in
theorem T_X1_days {l : Launch} {E : XEnv}  {n : Nat} {g : Nat} {x0 : Nat} {x1 : Int32} {h : XH} {r : Int32 × XH} (hl : k_X1_days n g E.2.2.2 x0 x1 h = some r) : CM l E mX1_days (5 * g + 11) [.ref x0, .int x1] h (.inl (some (.int r.1))) r.2 := by
  unfold k_X1_days at hl
  refine cm_of (by decide +kernel) rfl (Nat.le_of_ble_eq_true rfl) ?_
  refine cx_iload_n dX1_days_0 rfl ?_
  refine cx_iconst (v := 1) dX1_days_1 rfl ?_
  refine cx_bipush (v := 20) dX1_days_2 (by decide) ?_
  obtain ⟨r1, er1, hl⟩ := xb hl
  refine cx_callS (T_X1_in er1) lS_X1_139 C_X1_in dX1_days_4 rfl (by omega) (Nat.le_of_ble_eq_true rfl) ?_
  by_cases c3 : r1 = 0
  · rw [if_pos c3] at hl
    refine cx_if_eq (X := True) (tgt := 25) dX1_days_7 (by decide) (fun _ => ?_) (fun z => absurd c3 z)
    refine cx_aload_n dX1_days_25 rfl rfl ?_
    refine cx_iconst (v := 1) dX1_days_26 rfl ?_
    obtain ⟨u5, eu5, hl⟩ := xb hl
    obtain ⟨r4, er4, hl⟩ := xb hl
    refine cx_callV (Or.inl ⟨by decide, _, _, rfl⟩) (T_X1_refuse er4) lV_X1_220 C_X1_refuse dX1_days_27 eu5 (by decide) rfl (by omega) (Nat.le_of_ble_eq_true rfl) ?_
    cases hl
    exact cx_iret dX1_days_30 rfl rfl rfl rfl
  · rw [if_neg c3] at hl
    refine cx_if_eq (X := True) (tgt := 25) dX1_days_7 (by decide) (fun z => absurd z c3) (fun _ => ?_)
    refine cx_aload_n dX1_days_10 rfl rfl ?_
    obtain ⟨v6, ev6, hl⟩ := xb hl
    refine cx_getR gF_X1_31 dX1_days_11 ev6 ?_
    obtain ⟨v7, ev7, hl⟩ := xb hl
    refine cx_getI gF_X1_110 dX1_days_14 ev7 ?_
    refine cx_iload_n dX1_days_17 rfl ?_
    refine cx_iadd dX1_days_18 ?_
    refine cx_sipush (v := 999) dX1_days_19 (by decide) ?_
    by_cases c8 : (v7 + x1) ≤ 999
    · rw [if_pos c8] at hl
      refine cx_icmp_le (X := True) (tgt := 31) dX1_days_22 (by decide) (fun _ => ?_) (fun z => absurd c8 z)
      refine cx_aload_n dX1_days_31 rfl rfl ?_
      obtain ⟨u10, eu10, hl⟩ := xb hl
      obtain ⟨r9, er9, hl⟩ := xb hl
      refine cx_callV (Or.inl ⟨by decide, _, _, rfl⟩) (T_X1_keep er9) lV_X1_223 C_X1_keep dX1_days_32 eu10 (by decide) rfl (by omega) (Nat.le_of_ble_eq_true rfl) ?_
      refine cx_aload_n dX1_days_35 rfl rfl ?_
      obtain ⟨v11, ev11, hl⟩ := xb hl
      refine cx_getR gF_X1_31 dX1_days_36 ev11 ?_
      refine cx_iload_n dX1_days_39 rfl ?_
      obtain ⟨u13, eu13, hl⟩ := xb hl
      obtain ⟨r12, er12, hl⟩ := xb hl
      refine cx_callV (Or.inl ⟨by decide, _, _, rfl⟩) (T_X3_after er12) lV_X1_226 C_X3_after dX1_days_40 eu13 (by decide) rfl (by omega) (Nat.le_of_ble_eq_true rfl) ?_
      obtain ⟨v14, ev14, hl⟩ := xb hl
      refine cx_getI gF_X1_110 dX1_days_43 ev14 ?_
      cases hl
      exact cx_iret dX1_days_46 rfl rfl rfl rfl
    · rw [if_neg c8] at hl
      refine cx_icmp_le (X := True) (tgt := 31) dX1_days_22 (by decide) (fun z => absurd z c8) (fun _ => ?_)
      refine cx_aload_n dX1_days_25 rfl rfl ?_
      refine cx_iconst (v := 1) dX1_days_26 rfl ?_
      obtain ⟨u16, eu16, hl⟩ := xb hl
      obtain ⟨r15, er15, hl⟩ := xb hl
      refine cx_callV (Or.inl ⟨by decide, _, _, rfl⟩) (T_X1_refuse er15) lV_X1_220 C_X1_refuse dX1_days_27 eu16 (by decide) rfl (by omega) (Nat.le_of_ble_eq_true rfl) ?_
      cases hl
      exact cx_iret dX1_days_30 rfl rfl rfl rfl
def k_X1_letIn (n : Nat) (c : Nat → Value) (x0 : Nat) (h : XH) : Option (Int32 × XH) := (cgR h x0 0 2).bind fun v1 => (cgI h v1 2 7).bind fun v2 => if v2 = 0 then (ckd h x0 0).bind fun u5 => (k_X1_keep n c x0 h).bind fun r4 => (cgR r4 x0 0 2).bind fun v6 => (ckd r4 v6 2).bind fun u8 => (k_X3_damp v6 r4).bind fun r7 => (cgR r4 x0 0 2).bind fun v9 => (cpZ r4 v9 2 7 1).bind fun h10 => some (r7, h10) else (ckd h x0 0).bind fun u12 => (k_X1_refuse x0 1 h).bind fun r11 => some (r11.1, r11.2)
set_option maxHeartbeats 4000000 in
theorem T_X1_letIn {l : Launch} {E : XEnv}  {n : Nat} {x0 : Nat} {h : XH} {r : Int32 × XH} (hl : k_X1_letIn n E.2.2.2 x0 h = some r) : CM l E mX1_letIn 9 [.ref x0] h (.inl (some (.int r.1))) r.2 := by
  unfold k_X1_letIn at hl
  refine cm_of (by decide +kernel) rfl (Nat.le_of_ble_eq_true rfl) ?_
  refine cx_aload_n dX1_letIn_0 rfl rfl ?_
  obtain ⟨v1, ev1, hl⟩ := xb hl
  refine cx_getR gF_X1_31 dX1_letIn_1 ev1 ?_
  obtain ⟨v2, ev2, hl⟩ := xb hl
  refine cx_getI gF_X1_236 dX1_letIn_4 ev2 ?_
  by_cases c3 : v2 = 0
  · rw [if_pos c3] at hl
    refine cx_if_eq (X := True) (tgt := 16) dX1_letIn_7 (by decide) (fun _ => ?_) (fun z => absurd c3 z)
    refine cx_aload_n dX1_letIn_16 rfl rfl ?_
    obtain ⟨u5, eu5, hl⟩ := xb hl
    obtain ⟨r4, er4, hl⟩ := xb hl
    refine cx_callV (Or.inl ⟨by decide, _, _, rfl⟩) (T_X1_keep er4) lV_X1_223 C_X1_keep dX1_letIn_17 eu5 (by decide) rfl (by omega) (Nat.le_of_ble_eq_true rfl) ?_
    refine cx_aload_n dX1_letIn_20 rfl rfl ?_
    obtain ⟨v6, ev6, hl⟩ := xb hl
    refine cx_getR gF_X1_31 dX1_letIn_21 ev6 ?_
    obtain ⟨u8, eu8, hl⟩ := xb hl
    obtain ⟨r7, er7, hl⟩ := xb hl
    refine cx_callV (Or.inl ⟨by decide, _, _, rfl⟩) (T_X3_damp er7) lV_X1_113 C_X3_damp dX1_letIn_24 eu8 (by decide) rfl (by omega) (Nat.le_of_ble_eq_true rfl) ?_
    refine cx_istore_n dX1_letIn_27 (by decide) ?_
    refine cx_aload_n dX1_letIn_28 rfl rfl ?_
    obtain ⟨v9, ev9, hl⟩ := xb hl
    refine cx_getR gF_X1_31 dX1_letIn_29 ev9 ?_
    refine cx_iconst (v := 1) dX1_letIn_32 rfl ?_
    obtain ⟨h10, eh10, hl⟩ := xb hl
    refine cx_putZ (Or.inl rfl) pF_X1_236 dX1_letIn_33 eh10 ?_
    refine cx_iload_n dX1_letIn_36 rfl ?_
    cases hl
    exact cx_iret dX1_letIn_37 rfl rfl rfl rfl
  · rw [if_neg c3] at hl
    refine cx_if_eq (X := True) (tgt := 16) dX1_letIn_7 (by decide) (fun z => absurd z c3) (fun _ => ?_)
    refine cx_aload_n dX1_letIn_10 rfl rfl ?_
    refine cx_iconst (v := 1) dX1_letIn_11 rfl ?_
    obtain ⟨u12, eu12, hl⟩ := xb hl
    obtain ⟨r11, er11, hl⟩ := xb hl
    refine cx_callV (Or.inl ⟨by decide, _, _, rfl⟩) (T_X1_refuse er11) lV_X1_220 C_X1_refuse dX1_letIn_12 eu12 (by decide) rfl (by omega) (Nat.le_of_ble_eq_true rfl) ?_
    cases hl
    exact cx_iret dX1_letIn_15 rfl rfl rfl rfl
def k_X1_undo (n : Nat) (x0 : Nat) (h : XH) : Option (Int32 × XH) := (cgR h x0 0 8).bind fun v1 => (ckd h v1 10).bind fun u3 => (k_J2_isEmpty v1 h).bind fun r2 => if r2 = 0 then (cgR h x0 0 8).bind fun v5 => (cgR h x0 0 8).bind fun v6 => (ckd h v6 10).bind fun u8 => (k_J2_size v6 h).bind fun r7 => (ckd h v5 10).bind fun u10 => (k_J2_remove v5 (r7 - 1) h).bind fun r9 => (ckd r9.2 r9.1 2).bind fun u11 => (ckd r9.2 r9.1 2).bind fun u13 => (k_X3_copy n r9.1 r9.2).bind fun r12 => (cpu r12.2 x0 0 2 (.ref r12.1)).bind fun h14 => (cgR h14 x0 0 8).bind fun v15 => (ckd h14 v15 10).bind fun u17 => (k_J2_size v15 h14).bind fun r16 => some (r16, h14) else some ((-1), h)
set_option maxHeartbeats 4000000 in
theorem T_X1_undo {l : Launch} {E : XEnv}  {n : Nat} {x0 : Nat} {h : XH} {r : Int32 × XH} (hl : k_X1_undo n x0 h = some r) : CM l E mX1_undo 4 [.ref x0] h (.inl (some (.int r.1))) r.2 := by
  unfold k_X1_undo at hl
  refine cm_of (by decide +kernel) rfl (Nat.le_of_ble_eq_true rfl) ?_
  refine cx_aload_n dX1_undo_0 rfl rfl ?_
  obtain ⟨v1, ev1, hl⟩ := xb hl
  refine cx_getR gF_X1_52 dX1_undo_1 ev1 ?_
  obtain ⟨u3, eu3, hl⟩ := xb hl
  obtain ⟨r2, er2, hl⟩ := xb hl
  refine cx_callF (ci := 10) (by decide) rfl (T_J2_isEmpty er2) lF_X1_240 C_J2_isEmpty dX1_undo_4 eu3 rfl (by omega) (Nat.le_of_ble_eq_true rfl) ?_
  by_cases c4 : r2 = 0
  · rw [if_pos c4] at hl
    refine cx_if_eq (X := True) (tgt := 14) dX1_undo_9 (by decide) (fun _ => ?_) (fun z => absurd c4 z)
    refine cx_aload_n dX1_undo_14 rfl rfl ?_
    refine cx_aload_n dX1_undo_15 rfl rfl ?_
    obtain ⟨v5, ev5, hl⟩ := xb hl
    refine cx_getR gF_X1_52 dX1_undo_16 ev5 ?_
    refine cx_aload_n dX1_undo_19 rfl rfl ?_
    obtain ⟨v6, ev6, hl⟩ := xb hl
    refine cx_getR gF_X1_52 dX1_undo_20 ev6 ?_
    obtain ⟨u8, eu8, hl⟩ := xb hl
    obtain ⟨r7, er7, hl⟩ := xb hl
    refine cx_callF (ci := 10) (by decide) rfl (T_J2_size er7) lF_X1_134 C_J2_size dX1_undo_23 eu8 rfl (by omega) (Nat.le_of_ble_eq_true rfl) ?_
    refine cx_iconst (v := 1) dX1_undo_28 rfl ?_
    refine cx_isub dX1_undo_29 ?_
    obtain ⟨u10, eu10, hl⟩ := xb hl
    obtain ⟨r9, er9, hl⟩ := xb hl
    refine cx_callF (ci := 10) (by decide) rfl (T_J2_remove er9) lF_X1_217 C_J2_remove dX1_undo_30 eu10 rfl (by omega) (Nat.le_of_ble_eq_true rfl) ?_
    obtain ⟨u11, eu11, hl⟩ := xb hl
    refine cx_castO xC_X1_26_2 dX1_undo_35 (by decide) eu11 ?_
    obtain ⟨u13, eu13, hl⟩ := xb hl
    obtain ⟨r12, er12, hl⟩ := xb hl
    refine cx_callV (Or.inl ⟨by decide, _, _, rfl⟩) (T_X3_copy er12) lV_X1_209 C_X3_copy dX1_undo_38 eu13 (by decide) rfl (by omega) (Nat.le_of_ble_eq_true rfl) ?_
    obtain ⟨h14, eh14, hl⟩ := xb hl
    refine cx_putR (Or.inl ⟨_, rfl⟩) pF_X1_31 dX1_undo_41 eh14 ?_
    refine cx_aload_n dX1_undo_44 rfl rfl ?_
    obtain ⟨v15, ev15, hl⟩ := xb hl
    refine cx_getR gF_X1_52 dX1_undo_45 ev15 ?_
    obtain ⟨u17, eu17, hl⟩ := xb hl
    obtain ⟨r16, er16, hl⟩ := xb hl
    refine cx_callF (ci := 10) (by decide) rfl (T_J2_size er16) lF_X1_134 C_J2_size dX1_undo_48 eu17 rfl (by omega) (Nat.le_of_ble_eq_true rfl) ?_
    cases hl
    exact cx_iret dX1_undo_53 rfl rfl rfl rfl
  · rw [if_neg c4] at hl
    refine cx_if_eq (X := True) (tgt := 14) dX1_undo_9 (by decide) (fun z => absurd z c4) (fun _ => ?_)
    refine cx_iconst (v := (-1)) dX1_undo_12 rfl ?_
    cases hl
    exact cx_iret dX1_undo_13 rfl rfl rfl rfl
def k_X1_forget (c : Nat → Value) (x0 : Nat) (h : XH) : Option (XH) := (some (xnew h 10 3 1 3 (fun j => defaultValue (tyJ2 j)))).bind fun h1 => (k_J2_init c h.2.2.1 h1).bind fun r2 => (cpu r2 x0 0 9 (.ref h.2.2.1)).bind fun h4 => some h4
set_option maxHeartbeats 4000000 in
theorem T_X1_forget {l : Launch} {E : XEnv}  {x0 : Nat} {h : XH} {r : XH} (hl : k_X1_forget E.2.2.2 x0 h = some r) : CM l E mX1_forget 5 [.ref x0] h (.inl none) r := by
  unfold k_X1_forget at hl
  refine cm_of (by decide +kernel) rfl (Nat.le_of_ble_eq_true rfl) ?_
  refine cx_aload_n dX1_forget_0 rfl rfl ?_
  obtain ⟨h1, eh1, hl⟩ := xb hl
  refine cx_new 1 nW_X1_49 dX1_forget_1 (Option.some.inj eh1) ?_
  refine cx_dup dX1_forget_4 rfl ?_
  obtain ⟨r2, er2, hl⟩ := xb hl
  refine cx_callI (T_J2_init er2) lI_X1_51 rfl C_J2_init dX1_forget_5 rfl (by omega) (Nat.le_of_ble_eq_true rfl) ?_
  obtain ⟨h4, eh4, hl⟩ := xb hl
  refine cx_putR (Or.inl ⟨_, rfl⟩) pF_X1_56 dX1_forget_8 eh4 ?_
  cases hl
  exact cx_vret dX1_forget_11 rfl rfl rfl
def k_J2_toArray (c : Nat → Value) (x0 : Nat) (h : XH) : Option (Nat × XH) := (cgR h x0 10 1).bind fun v1 => (cgI h x0 10 2).bind fun v2 => (k_J16_copyOf c v1 v2 h).bind fun r3 => some (r3.1, r3.2)
set_option maxHeartbeats 4000000 in
theorem T_J2_toArray {l : Launch} {E : XEnv}  {x0 : Nat} {h : XH} {r : Nat × XH} (hl : k_J2_toArray E.2.2.2 x0 h = some r) : CM l E mJ2_toArray 4 [.ref x0] h (.inl (some (.ref r.1))) r.2 := by
  unfold k_J2_toArray at hl
  refine cm_of (by decide +kernel) rfl (Nat.le_of_ble_eq_true rfl) ?_
  refine cx_aload_n dJ2_toArray_0 rfl rfl ?_
  obtain ⟨v1, ev1, hl⟩ := xb hl
  refine cx_getR gF_J2_9 dJ2_toArray_1 ev1 ?_
  refine cx_aload_n dJ2_toArray_4 rfl rfl ?_
  obtain ⟨v2, ev2, hl⟩ := xb hl
  refine cx_getI gF_J2_48 dJ2_toArray_5 ev2 ?_
  obtain ⟨r3, er3, hl⟩ := xb hl
  refine cx_callS (T_J16_copyOf er3) lS_J2_66 C_J16_copyOf dJ2_toArray_8 rfl (by omega) (Nat.le_of_ble_eq_true rfl) ?_
  cases hl
  exact cx_aret dJ2_toArray_11 rfl rfl (Or.inr ⟨_, rfl⟩) rfl rfl
def k_J2_init_2 (c : Nat → Value) (x0 : Nat) (x1 : Nat) (h : XH) : Option (XH) := (k_J1_init x0 h).bind fun r1 => (ckd r1 x1 10).bind fun u4 => (k_J2_toArray c x1 r1).bind fun r3 => (cal r3.2 r3.1).bind fun v5 => (cpu r3.2 x0 10 2 (.int v5)).bind fun h6 => if v5 = 0 then (vR (c 22)).bind fun v8 => (cpu h6 x0 10 1 (.ref v8)).bind fun h9 => (ctag h9 v8 (2000 + 8 * x0 + 6)).bind fun h10 => some h10 else (ckd h6 x1 10).bind fun u11 => (vR (c 31)).bind fun v12 => (vR (c 31)).bind fun v13 => if v12 = v13 then (cpu h6 x0 10 1 (.ref r3.1)).bind fun h15 => (ctag h15 r3.1 (2000 + 8 * x0 + 6)).bind fun h16 => some h16 else (cgI h6 x0 10 2).bind fun v17 => (vR (c 30)).bind fun v18 => (k_J16_copyOf_2 c r3.1 v17 v18 h6).bind fun r19 => (cpu r19.2 x0 10 1 (.ref r19.1)).bind fun h21 => (ctag h21 r19.1 (2000 + 8 * x0 + 6)).bind fun h22 => some h22
set_option maxHeartbeats 4000000 in
theorem T_J2_init_2 {l : Launch} {E : XEnv}  {x0 : Nat} {x1 : Nat} {h : XH} {r : XH} (hl : k_J2_init_2 E.2.2.2 x0 x1 h = some r) : CM l E mJ2_init_2 5 [.ref x0, .ref x1] h (.inl none) r := by
  unfold k_J2_init_2 at hl
  refine cm_of (by decide +kernel) rfl (Nat.le_of_ble_eq_true rfl) ?_
  refine cx_aload_n dJ2_init_2_0 rfl rfl ?_
  obtain ⟨r1, er1, hl⟩ := xb hl
  refine cx_callI (T_J1_init er1) lI_J2_1 rfl C_J1_init dJ2_init_2_1 rfl (by omega) (Nat.le_of_ble_eq_true rfl) ?_
  refine cx_aload_n dJ2_init_2_4 rfl rfl ?_
  obtain ⟨u4, eu4, hl⟩ := xb hl
  obtain ⟨r3, er3, hl⟩ := xb hl
  refine cx_callF (ci := 10) (by decide) rfl (T_J2_toArray er3) lF_J2_42 C_J2_toArray dJ2_init_2_5 eu4 rfl (by omega) (Nat.le_of_ble_eq_true rfl) ?_
  refine cx_astore_n dJ2_init_2_10 (by decide) rfl ?_
  refine cx_aload_n dJ2_init_2_11 rfl rfl ?_
  refine cx_aload_n dJ2_init_2_12 rfl rfl ?_
  obtain ⟨v5, ev5, hl⟩ := xb hl
  refine cx_alen dJ2_init_2_13 ev5 ?_
  refine cx_dup_x1 dJ2_init_2_14 rfl rfl ?_
  obtain ⟨h6, eh6, hl⟩ := xb hl
  refine cx_putI pF_J2_48 dJ2_init_2_15 eh6 ?_
  by_cases c7 : v5 = 0
  · rw [if_pos c7] at hl
    refine cx_if_eq (X := True) (tgt := 57) dJ2_init_2_18 (by decide) (fun _ => ?_) (fun z => absurd c7 z)
    refine cx_aload_n dJ2_init_2_57 rfl rfl ?_
    obtain ⟨v8, ev8, hl⟩ := xb hl
    refine cx_gets (C := "java/util/ArrayList") (nm := "EMPTY_ELEMENTDATA") (ds := "[Ljava/lang/Object;") (v := E.2.2.2 22) (by simp [xstl]) q641 (Or.inl rfl) dJ2_init_2_58 ?_
    refine cx_val (vR_spec ev8) ?_
    obtain ⟨h9, eh9, hl⟩ := xb hl
    obtain ⟨h10, eh10, hl⟩ := xb hl
    refine cx_putR (Or.inr ⟨_, rfl⟩) pF_J2_9 dJ2_init_2_61 eh9 ?_
    refine cx_tag eh10 ?_
    cases hl
    exact cx_vret dJ2_init_2_64 rfl rfl rfl
  · rw [if_neg c7] at hl
    refine cx_if_eq (X := True) (tgt := 57) dJ2_init_2_18 (by decide) (fun z => absurd z c7) (fun _ => ?_)
    refine cx_aload_n dJ2_init_2_21 rfl rfl ?_
    obtain ⟨u11, eu11, hl⟩ := xb hl
    obtain ⟨v12, ev12, hl⟩ := xb hl
    refine cx_getCI q633 q634 q408 q393 q410 q637 q636 q626 dJ2_init_2_22 eu11 ev12 (by omega) (Nat.le_of_ble_eq_true rfl) ?_
    obtain ⟨v13, ev13, hl⟩ := xb hl
    refine cx_ldcM (C := "java/util/ArrayList") (i := 31) (Or.inr ⟨rfl, rfl⟩) q638 dJ2_init_2_27 ev13 ?_
    by_cases c14 : v12 = v13
    · rw [if_pos c14] at hl
      refine cx_acmp_ne (tgt := 40) dJ2_init_2_29 (by decide) (fun z => absurd c14 z) (fun _ => ?_)
      refine cx_aload_n dJ2_init_2_32 rfl rfl ?_
      refine cx_aload_n dJ2_init_2_33 rfl rfl ?_
      obtain ⟨h15, eh15, hl⟩ := xb hl
      obtain ⟨h16, eh16, hl⟩ := xb hl
      refine cx_putR (Or.inr ⟨_, rfl⟩) pF_J2_9 dJ2_init_2_34 eh15 ?_
      refine cx_tag eh16 ?_
      refine cx_goto (tgt := 64) dJ2_init_2_37 (by decide) ?_
      cases hl
      exact cx_vret dJ2_init_2_64 rfl rfl rfl
    · rw [if_neg c14] at hl
      refine cx_acmp_ne (tgt := 40) dJ2_init_2_29 (by decide) (fun _ => ?_) (fun z => absurd z c14)
      refine cx_aload_n dJ2_init_2_40 rfl rfl ?_
      refine cx_aload_n dJ2_init_2_41 rfl rfl ?_
      refine cx_aload_n dJ2_init_2_42 rfl rfl ?_
      obtain ⟨v17, ev17, hl⟩ := xb hl
      refine cx_getI gF_J2_48 dJ2_init_2_43 ev17 ?_
      obtain ⟨v18, ev18, hl⟩ := xb hl
      refine cx_ldcM (C := "[Ljava/lang/Object;") (i := 30) (Or.inl ⟨rfl, rfl⟩) q639 dJ2_init_2_46 ev18 ?_
      obtain ⟨r19, er19, hl⟩ := xb hl
      refine cx_callS (T_J16_copyOf_2 er19) lS_J2_57 C_J16_copyOf_2 dJ2_init_2_48 rfl (by omega) (Nat.le_of_ble_eq_true rfl) ?_
      obtain ⟨h21, eh21, hl⟩ := xb hl
      obtain ⟨h22, eh22, hl⟩ := xb hl
      refine cx_putR (Or.inr ⟨_, rfl⟩) pF_J2_9 dJ2_init_2_51 eh21 ?_
      refine cx_tag eh22 ?_
      refine cx_goto (tgt := 64) dJ2_init_2_54 (by decide) ?_
      cases hl
      exact cx_vret dJ2_init_2_64 rfl rfl rfl
def k_X1_image (n : Nat) (c : Nat → Value) (x0 : Nat) (h : XH) : Option (XH) := (cgR h x0 0 2).bind fun v1 => (ckd h v1 2).bind fun u3 => (k_X3_copy n v1 h).bind fun r2 => (cpu r2.2 x0 0 10 (.ref r2.1)).bind fun h4 => (some (xnew h4 10 3 1 3 (fun j => defaultValue (tyJ2 j)))).bind fun h5 => (cgR h5 x0 0 8).bind fun v6 => (k_J2_init_2 c h4.2.2.1 v6 h5).bind fun r7 => (cpu r7 x0 0 11 (.ref h4.2.2.1)).bind fun h9 => (some (xnew h9 10 3 1 3 (fun j => defaultValue (tyJ2 j)))).bind fun h10 => (cgR h10 x0 0 9).bind fun v11 => (k_J2_init_2 c h9.2.2.1 v11 h10).bind fun r12 => (cpu r12 x0 0 12 (.ref h9.2.2.1)).bind fun h14 => some h14
set_option maxHeartbeats 4000000 in
theorem T_X1_image {l : Launch} {E : XEnv}  {n : Nat} {x0 : Nat} {h : XH} {r : XH} (hl : k_X1_image n E.2.2.2 x0 h = some r) : CM l E mX1_image 6 [.ref x0] h (.inl none) r := by
  unfold k_X1_image at hl
  refine cm_of (by decide +kernel) rfl (Nat.le_of_ble_eq_true rfl) ?_
  refine cx_aload_n dX1_image_0 rfl rfl ?_
  refine cx_aload_n dX1_image_1 rfl rfl ?_
  obtain ⟨v1, ev1, hl⟩ := xb hl
  refine cx_getR gF_X1_31 dX1_image_2 ev1 ?_
  obtain ⟨u3, eu3, hl⟩ := xb hl
  obtain ⟨r2, er2, hl⟩ := xb hl
  refine cx_callV (Or.inl ⟨by decide, _, _, rfl⟩) (T_X3_copy er2) lV_X1_209 C_X3_copy dX1_image_5 eu3 (by decide) rfl (by omega) (Nat.le_of_ble_eq_true rfl) ?_
  obtain ⟨h4, eh4, hl⟩ := xb hl
  refine cx_putR (Or.inl ⟨_, rfl⟩) pF_X1_86 dX1_image_8 eh4 ?_
  refine cx_aload_n dX1_image_11 rfl rfl ?_
  obtain ⟨h5, eh5, hl⟩ := xb hl
  refine cx_new 1 nW_X1_49 dX1_image_12 (Option.some.inj eh5) ?_
  refine cx_dup dX1_image_15 rfl ?_
  refine cx_aload_n dX1_image_16 rfl rfl ?_
  obtain ⟨v6, ev6, hl⟩ := xb hl
  refine cx_getR gF_X1_52 dX1_image_17 ev6 ?_
  obtain ⟨r7, er7, hl⟩ := xb hl
  refine cx_callI (T_J2_init_2 er7) lI_X1_317 rfl C_J2_init_2 dX1_image_20 rfl (by omega) (Nat.le_of_ble_eq_true rfl) ?_
  obtain ⟨h9, eh9, hl⟩ := xb hl
  refine cx_putR (Or.inl ⟨_, rfl⟩) pF_X1_320 dX1_image_23 eh9 ?_
  refine cx_aload_n dX1_image_26 rfl rfl ?_
  obtain ⟨h10, eh10, hl⟩ := xb hl
  refine cx_new 1 nW_X1_49 dX1_image_27 (Option.some.inj eh10) ?_
  refine cx_dup dX1_image_30 rfl ?_
  refine cx_aload_n dX1_image_31 rfl rfl ?_
  obtain ⟨v11, ev11, hl⟩ := xb hl
  refine cx_getR gF_X1_56 dX1_image_32 ev11 ?_
  obtain ⟨r12, er12, hl⟩ := xb hl
  refine cx_callI (T_J2_init_2 er12) lI_X1_317 rfl C_J2_init_2 dX1_image_35 rfl (by omega) (Nat.le_of_ble_eq_true rfl) ?_
  obtain ⟨h14, eh14, hl⟩ := xb hl
  refine cx_putR (Or.inl ⟨_, rfl⟩) pF_X1_323 dX1_image_38 eh14 ?_
  cases hl
  exact cx_vret dX1_image_41 rfl rfl rfl
def k_X1_restore (n : Nat) (c : Nat → Value) (x0 : Nat) (h : XH) : Option (Int32 × XH) := (cgV h x0 0 10).bind fun v1 => if v1 = .null then some (0, h) else (cgR h x0 0 10).bind fun v3 => (ckd h v3 2).bind fun u5 => (k_X3_copy n v3 h).bind fun r4 => (cpu r4.2 x0 0 2 (.ref r4.1)).bind fun h6 => (some (xnew h6 10 3 1 3 (fun j => defaultValue (tyJ2 j)))).bind fun h7 => (cgR h7 x0 0 11).bind fun v8 => (k_J2_init_2 c h6.2.2.1 v8 h7).bind fun r9 => (cpu r9 x0 0 8 (.ref h6.2.2.1)).bind fun h11 => (some (xnew h11 10 3 1 3 (fun j => defaultValue (tyJ2 j)))).bind fun h12 => (cgR h12 x0 0 12).bind fun v13 => (k_J2_init_2 c h11.2.2.1 v13 h12).bind fun r14 => (cpu r14 x0 0 9 (.ref h11.2.2.1)).bind fun h16 => some (1, h16)
set_option maxHeartbeats 4000000 in
theorem T_X1_restore {l : Launch} {E : XEnv}  {n : Nat} {x0 : Nat} {h : XH} {r : Int32 × XH} (hl : k_X1_restore n E.2.2.2 x0 h = some r) : CM l E mX1_restore 6 [.ref x0] h (.inl (some (.int r.1))) r.2 := by
  unfold k_X1_restore at hl
  refine cm_of (by decide +kernel) rfl (Nat.le_of_ble_eq_true rfl) ?_
  refine cx_aload_n dX1_restore_0 rfl rfl ?_
  obtain ⟨v1, ev1, hl⟩ := xb hl
  refine cx_getV gF_X1_86 dX1_restore_1 ev1 ?_
  by_cases c2 : v1 = .null
  · rw [if_pos c2] at hl
    refine cx_ifnonnull (tgt := 9) (cgV_spec ev1 gF_X1_86.ne).2.2 dX1_restore_4 (by decide) (fun z => absurd c2 z) (fun _ => ?_)
    refine cx_iconst (v := 0) dX1_restore_7 rfl ?_
    cases hl
    exact cx_iret dX1_restore_8 rfl rfl rfl rfl
  · rw [if_neg c2] at hl
    refine cx_ifnonnull (tgt := 9) (cgV_spec ev1 gF_X1_86.ne).2.2 dX1_restore_4 (by decide) (fun _ => ?_) (fun z => absurd z c2)
    refine cx_aload_n dX1_restore_9 rfl rfl ?_
    refine cx_aload_n dX1_restore_10 rfl rfl ?_
    obtain ⟨v3, ev3, hl⟩ := xb hl
    refine cx_getR gF_X1_86 dX1_restore_11 ev3 ?_
    obtain ⟨u5, eu5, hl⟩ := xb hl
    obtain ⟨r4, er4, hl⟩ := xb hl
    refine cx_callV (Or.inl ⟨by decide, _, _, rfl⟩) (T_X3_copy er4) lV_X1_209 C_X3_copy dX1_restore_14 eu5 (by decide) rfl (by omega) (Nat.le_of_ble_eq_true rfl) ?_
    obtain ⟨h6, eh6, hl⟩ := xb hl
    refine cx_putR (Or.inl ⟨_, rfl⟩) pF_X1_31 dX1_restore_17 eh6 ?_
    refine cx_aload_n dX1_restore_20 rfl rfl ?_
    obtain ⟨h7, eh7, hl⟩ := xb hl
    refine cx_new 1 nW_X1_49 dX1_restore_21 (Option.some.inj eh7) ?_
    refine cx_dup dX1_restore_24 rfl ?_
    refine cx_aload_n dX1_restore_25 rfl rfl ?_
    obtain ⟨v8, ev8, hl⟩ := xb hl
    refine cx_getR gF_X1_320 dX1_restore_26 ev8 ?_
    obtain ⟨r9, er9, hl⟩ := xb hl
    refine cx_callI (T_J2_init_2 er9) lI_X1_317 rfl C_J2_init_2 dX1_restore_29 rfl (by omega) (Nat.le_of_ble_eq_true rfl) ?_
    obtain ⟨h11, eh11, hl⟩ := xb hl
    refine cx_putR (Or.inl ⟨_, rfl⟩) pF_X1_52 dX1_restore_32 eh11 ?_
    refine cx_aload_n dX1_restore_35 rfl rfl ?_
    obtain ⟨h12, eh12, hl⟩ := xb hl
    refine cx_new 1 nW_X1_49 dX1_restore_36 (Option.some.inj eh12) ?_
    refine cx_dup dX1_restore_39 rfl ?_
    refine cx_aload_n dX1_restore_40 rfl rfl ?_
    obtain ⟨v13, ev13, hl⟩ := xb hl
    refine cx_getR gF_X1_323 dX1_restore_41 ev13 ?_
    obtain ⟨r14, er14, hl⟩ := xb hl
    refine cx_callI (T_J2_init_2 er14) lI_X1_317 rfl C_J2_init_2 dX1_restore_44 rfl (by omega) (Nat.le_of_ble_eq_true rfl) ?_
    obtain ⟨h16, eh16, hl⟩ := xb hl
    refine cx_putR (Or.inl ⟨_, rfl⟩) pF_X1_56 dX1_restore_47 eh16 ?_
    refine cx_iconst (v := 1) dX1_restore_50 rfl ?_
    cases hl
    exact cx_iret dX1_restore_51 rfl rfl rfl rfl
def k_X1_right (x0 : Int32) (h : XH) : Option ((Unit ⊕ XX) × XH) := if x0 = 0 then (some (cmk h 14 5)).bind fun h2 => (ckd h2 h.2.2.1 14).bind fun u3 => some (.inr ("java/lang/IllegalArgumentException", h.2.2.1), h2) else some (.inl (), h)
set_option maxHeartbeats 4000000 in
theorem T_X1_right {l : Launch} {E : XEnv}  {x0 : Int32} {h : XH} {r : (Unit ⊕ XX) × XH} (hl : k_X1_right x0 h = some r) : CM l E mX1_right 8 [.int x0] h (xrU r.1) r.2 := by
  unfold k_X1_right at hl
  refine cm_of (by decide +kernel) rfl (Nat.le_of_ble_eq_true rfl) ?_
  refine cx_iload_n dX1_right_0 rfl ?_
  by_cases c1 : x0 = 0
  · rw [if_pos c1] at hl
    refine cx_if_ne (X := True) (tgt := 12) dX1_right_1 (by decide) (fun z => absurd c1 z) (fun _ => ?_)
    obtain ⟨h2, eh2, hl⟩ := xb hl
    refine mk_X1_4_X1_right (Option.some.inj eh2) (by omega) ?_
    obtain ⟨u3, eu3, hl⟩ := xb hl
    cases hl
    exact cx_athrow dX1_right_11 (by decide) (T := TJ6) (N := 0) rfl eu3 (ct_out rfl rfl (by decide))
  · rw [if_neg c1] at hl
    refine cx_if_ne (X := True) (tgt := 12) dX1_right_1 (by decide) (fun _ => ?_) (fun z => absurd z c1)
    cases hl
    exact cx_vret dX1_right_12 rfl rfl rfl
def k_X5_init (c : Nat → Value) (x0 : Nat) (x1 : Nat) (x2 : Int32) (h : XH) : Option (XH) := (cpu h x0 4 14 (.ref x1)).bind fun h1 => (some (xnew h1 1 6 1 6 (fun j => defaultValue (tyX2 j)))).bind fun h2 => (k_X2_init c h1.2.2.1 h2).bind fun r3 => (cpu r3 x0 4 1 (.ref h1.2.2.1)).bind fun h5 => (some (xnew h5 2 10 1 10 (fun j => defaultValue (tyX3 j)))).bind fun h6 => (cgR h6 x0 4 14).bind fun v7 => (k_X3_init h5.2.2.1 v7 h6).bind fun r8 => (cpu r8 x0 4 2 (.ref h5.2.2.1)).bind fun h10 => (cnr h10 5 1 3).bind fun h11 => (vR (c 0)).bind fun v12 => (csS h11 h10.2.2.1 0 v12).bind fun h13 => (vR (c 1)).bind fun v14 => (csS h13 h10.2.2.1 1 v14).bind fun h15 => (vR (c 2)).bind fun v16 => (csS h15 h10.2.2.1 2 v16).bind fun h17 => (cpu h17 x0 4 3 (.ref h10.2.2.1)).bind fun h18 => (cnr h18 5 1 6).bind fun h19 => (vR (c 3)).bind fun v20 => (csS h19 h18.2.2.1 0 v20).bind fun h21 => (vR (c 4)).bind fun v22 => (csS h21 h18.2.2.1 1 v22).bind fun h23 => (vR (c 5)).bind fun v24 => (csS h23 h18.2.2.1 2 v24).bind fun h25 => (vR (c 6)).bind fun v26 => (csS h25 h18.2.2.1 3 v26).bind fun h27 => (vR (c 0)).bind fun v28 => (csS h27 h18.2.2.1 4 v28).bind fun h29 => (vR (c 7)).bind fun v30 => (csS h29 h18.2.2.1 5 v30).bind fun h31 => (cpu h31 x0 4 4 (.ref h18.2.2.1)).bind fun h32 => (cnr h32 5 1 7).bind fun h33 => (vR (c 3)).bind fun v34 => (csS h33 h32.2.2.1 0 v34).bind fun h35 => (vR (c 4)).bind fun v36 => (csS h35 h32.2.2.1 1 v36).bind fun h37 => (vR (c 5)).bind fun v38 => (csS h37 h32.2.2.1 2 v38).bind fun h39 => (vR (c 6)).bind fun v40 => (csS h39 h32.2.2.1 3 v40).bind fun h41 => (vR (c 0)).bind fun v42 => (csS h41 h32.2.2.1 4 v42).bind fun h43 => (vR (c 7)).bind fun v44 => (csS h43 h32.2.2.1 5 v44).bind fun h45 => (vR (c 8)).bind fun v46 => (csS h45 h32.2.2.1 6 v46).bind fun h47 => (cpu h47 x0 4 5 (.ref h32.2.2.1)).bind fun h48 => (cgR h48 x0 4 4).bind fun v49 => (cpu h48 x0 4 6 (.ref v49)).bind fun h50 => (cpu h50 x0 4 0 (.int x2)).bind fun h51 => some h51
set_option maxHeartbeats 4000000 in
theorem T_X5_init {l : Launch} {E : XEnv}  {x0 : Nat} {x1 : Nat} {x2 : Int32} {h : XH} {r : XH} (hl : k_X5_init E.2.2.2 x0 x1 x2 h = some r) : CM l E mX5_init 6 [.ref x0, .ref x1, .int x2] h (.inl none) r := by
  unfold k_X5_init at hl
  refine cm_of (by decide +kernel) rfl (Nat.le_of_ble_eq_true rfl) ?_
  refine cx_aload_n dX5_init_0 rfl rfl ?_
  refine cx_aload_n dX5_init_1 rfl rfl ?_
  obtain ⟨h1, eh1, hl⟩ := xb hl
  refine cx_putR (Or.inl ⟨_, rfl⟩) pF_X5_3 dX5_init_2 eh1 ?_
  refine cx_aload_n dX5_init_5 rfl rfl ?_
  refine cx_objInit q728 q161 q162 dX5_init_6 (by omega) (Nat.le_of_ble_eq_true rfl) ?_
  refine cx_aload_n dX5_init_9 rfl rfl ?_
  obtain ⟨h2, eh2, hl⟩ := xb hl
  refine cx_new 1 nW_X5_15 dX5_init_10 (Option.some.inj eh2) ?_
  refine cx_dup dX5_init_13 rfl ?_
  obtain ⟨r3, er3, hl⟩ := xb hl
  refine cx_callI (T_X2_init er3) lI_X5_17 rfl C_X2_init dX5_init_14 rfl (by omega) (Nat.le_of_ble_eq_true rfl) ?_
  obtain ⟨h5, eh5, hl⟩ := xb hl
  refine cx_putR (Or.inl ⟨_, rfl⟩) pF_X5_18 dX5_init_17 eh5 ?_
  refine cx_aload_n dX5_init_20 rfl rfl ?_
  obtain ⟨h6, eh6, hl⟩ := xb hl
  refine cx_new 1 nW_X5_22 dX5_init_21 (Option.some.inj eh6) ?_
  refine cx_dup dX5_init_24 rfl ?_
  refine cx_aload_n dX5_init_25 rfl rfl ?_
  obtain ⟨v7, ev7, hl⟩ := xb hl
  refine cx_getR gF_X5_3 dX5_init_26 ev7 ?_
  obtain ⟨r8, er8, hl⟩ := xb hl
  refine cx_callI (T_X3_init er8) lI_X5_24 rfl C_X3_init dX5_init_29 rfl (by omega) (Nat.le_of_ble_eq_true rfl) ?_
  obtain ⟨h10, eh10, hl⟩ := xb hl
  refine cx_putR (Or.inl ⟨_, rfl⟩) pF_X5_27 dX5_init_32 eh10 ?_
  refine cx_aload_n dX5_init_35 rfl rfl ?_
  refine cx_iconst (v := 3) dX5_init_36 rfl ?_
  obtain ⟨h11, eh11, hl⟩ := xb hl
  refine cx_anew 5 1 (by decide) rfl q733 q734 dX5_init_37 eh11 ?_
  refine cx_dup dX5_init_40 rfl ?_
  refine cx_iconst (v := 0) dX5_init_41 rfl ?_
  obtain ⟨v12, ev12, hl⟩ := xb hl
  refine cx_ldcS (i := 0) rfl dX5_init_42 ev12 ?_
  obtain ⟨h13, eh13, hl⟩ := xb hl
  refine cx_aastS dX5_init_44 eh13 ?_
  refine cx_dup dX5_init_45 rfl ?_
  refine cx_iconst (v := 1) dX5_init_46 rfl ?_
  obtain ⟨v14, ev14, hl⟩ := xb hl
  refine cx_ldcS (i := 1) rfl dX5_init_47 ev14 ?_
  obtain ⟨h15, eh15, hl⟩ := xb hl
  refine cx_aastS dX5_init_49 eh15 ?_
  refine cx_dup dX5_init_50 rfl ?_
  refine cx_iconst (v := 2) dX5_init_51 rfl ?_
  obtain ⟨v16, ev16, hl⟩ := xb hl
  refine cx_ldcS (i := 2) rfl dX5_init_52 ev16 ?_
  obtain ⟨h17, eh17, hl⟩ := xb hl
  refine cx_aastS dX5_init_54 eh17 ?_
  obtain ⟨h18, eh18, hl⟩ := xb hl
  refine cx_putR (Or.inr ⟨_, rfl⟩) pF_X5_39 dX5_init_55 eh18 ?_
  refine cx_aload_n dX5_init_58 rfl rfl ?_
  refine cx_bipush (v := 6) dX5_init_59 (by decide) ?_
  obtain ⟨h19, eh19, hl⟩ := xb hl
  refine cx_anew 5 1 (by decide) rfl q733 q734 dX5_init_61 eh19 ?_
  refine cx_dup dX5_init_64 rfl ?_
  refine cx_iconst (v := 0) dX5_init_65 rfl ?_
  obtain ⟨v20, ev20, hl⟩ := xb hl
  refine cx_ldcS (i := 3) rfl dX5_init_66 ev20 ?_
  obtain ⟨h21, eh21, hl⟩ := xb hl
  refine cx_aastS dX5_init_68 eh21 ?_
  refine cx_dup dX5_init_69 rfl ?_
  refine cx_iconst (v := 1) dX5_init_70 rfl ?_
  obtain ⟨v22, ev22, hl⟩ := xb hl
  refine cx_ldcS (i := 4) rfl dX5_init_71 ev22 ?_
  obtain ⟨h23, eh23, hl⟩ := xb hl
  refine cx_aastS dX5_init_73 eh23 ?_
  refine cx_dup dX5_init_74 rfl ?_
  refine cx_iconst (v := 2) dX5_init_75 rfl ?_
  obtain ⟨v24, ev24, hl⟩ := xb hl
  refine cx_ldcS (i := 5) rfl dX5_init_76 ev24 ?_
  obtain ⟨h25, eh25, hl⟩ := xb hl
  refine cx_aastS dX5_init_78 eh25 ?_
  refine cx_dup dX5_init_79 rfl ?_
  refine cx_iconst (v := 3) dX5_init_80 rfl ?_
  obtain ⟨v26, ev26, hl⟩ := xb hl
  refine cx_ldcS (i := 6) rfl dX5_init_81 ev26 ?_
  obtain ⟨h27, eh27, hl⟩ := xb hl
  refine cx_aastS dX5_init_83 eh27 ?_
  refine cx_dup dX5_init_84 rfl ?_
  refine cx_iconst (v := 4) dX5_init_85 rfl ?_
  obtain ⟨v28, ev28, hl⟩ := xb hl
  refine cx_ldcS (i := 0) rfl dX5_init_86 ev28 ?_
  obtain ⟨h29, eh29, hl⟩ := xb hl
  refine cx_aastS dX5_init_88 eh29 ?_
  refine cx_dup dX5_init_89 rfl ?_
  refine cx_iconst (v := 5) dX5_init_90 rfl ?_
  obtain ⟨v30, ev30, hl⟩ := xb hl
  refine cx_ldcS (i := 7) rfl dX5_init_91 ev30 ?_
  obtain ⟨h31, eh31, hl⟩ := xb hl
  refine cx_aastS dX5_init_93 eh31 ?_
  obtain ⟨h32, eh32, hl⟩ := xb hl
  refine cx_putR (Or.inr ⟨_, rfl⟩) pF_X5_53 dX5_init_94 eh32 ?_
  refine cx_aload_n dX5_init_97 rfl rfl ?_
  refine cx_bipush (v := 7) dX5_init_98 (by decide) ?_
  obtain ⟨h33, eh33, hl⟩ := xb hl
  refine cx_anew 5 1 (by decide) rfl q733 q734 dX5_init_100 eh33 ?_
  refine cx_dup dX5_init_103 rfl ?_
  refine cx_iconst (v := 0) dX5_init_104 rfl ?_
  obtain ⟨v34, ev34, hl⟩ := xb hl
  refine cx_ldcS (i := 3) rfl dX5_init_105 ev34 ?_
  obtain ⟨h35, eh35, hl⟩ := xb hl
  refine cx_aastS dX5_init_107 eh35 ?_
  refine cx_dup dX5_init_108 rfl ?_
  refine cx_iconst (v := 1) dX5_init_109 rfl ?_
  obtain ⟨v36, ev36, hl⟩ := xb hl
  refine cx_ldcS (i := 4) rfl dX5_init_110 ev36 ?_
  obtain ⟨h37, eh37, hl⟩ := xb hl
  refine cx_aastS dX5_init_112 eh37 ?_
  refine cx_dup dX5_init_113 rfl ?_
  refine cx_iconst (v := 2) dX5_init_114 rfl ?_
  obtain ⟨v38, ev38, hl⟩ := xb hl
  refine cx_ldcS (i := 5) rfl dX5_init_115 ev38 ?_
  obtain ⟨h39, eh39, hl⟩ := xb hl
  refine cx_aastS dX5_init_117 eh39 ?_
  refine cx_dup dX5_init_118 rfl ?_
  refine cx_iconst (v := 3) dX5_init_119 rfl ?_
  obtain ⟨v40, ev40, hl⟩ := xb hl
  refine cx_ldcS (i := 6) rfl dX5_init_120 ev40 ?_
  obtain ⟨h41, eh41, hl⟩ := xb hl
  refine cx_aastS dX5_init_122 eh41 ?_
  refine cx_dup dX5_init_123 rfl ?_
  refine cx_iconst (v := 4) dX5_init_124 rfl ?_
  obtain ⟨v42, ev42, hl⟩ := xb hl
  refine cx_ldcS (i := 0) rfl dX5_init_125 ev42 ?_
  obtain ⟨h43, eh43, hl⟩ := xb hl
  refine cx_aastS dX5_init_127 eh43 ?_
  refine cx_dup dX5_init_128 rfl ?_
  refine cx_iconst (v := 5) dX5_init_129 rfl ?_
  obtain ⟨v44, ev44, hl⟩ := xb hl
  refine cx_ldcS (i := 7) rfl dX5_init_130 ev44 ?_
  obtain ⟨h45, eh45, hl⟩ := xb hl
  refine cx_aastS dX5_init_132 eh45 ?_
  refine cx_dup dX5_init_133 rfl ?_
  refine cx_bipush (v := 6) dX5_init_134 (by decide) ?_
  obtain ⟨v46, ev46, hl⟩ := xb hl
  refine cx_ldcS (i := 8) rfl dX5_init_136 ev46 ?_
  obtain ⟨h47, eh47, hl⟩ := xb hl
  refine cx_aastS dX5_init_138 eh47 ?_
  obtain ⟨h48, eh48, hl⟩ := xb hl
  refine cx_putR (Or.inr ⟨_, rfl⟩) pF_X5_58 dX5_init_139 eh48 ?_
  refine cx_aload_n dX5_init_142 rfl rfl ?_
  refine cx_aload_n dX5_init_143 rfl rfl ?_
  obtain ⟨v49, ev49, hl⟩ := xb hl
  refine cx_getR gF_X5_53 dX5_init_144 ev49 ?_
  obtain ⟨h50, eh50, hl⟩ := xb hl
  refine cx_putR (Or.inr ⟨_, rfl⟩) pF_X5_61 dX5_init_147 eh50 ?_
  refine cx_aload_n dX5_init_150 rfl rfl ?_
  refine cx_iload_n dX5_init_151 rfl ?_
  obtain ⟨h51, eh51, hl⟩ := xb hl
  refine cx_putI pF_X5_64 dX5_init_152 eh51 ?_
  cases hl
  exact cx_vret dX5_init_155 rfl rfl rfl
def k_X1_town_J51 (n : Nat) (g : Nat) (c : Nat → Value) (x0 : Nat) (x2 : Nat) (y0 : Nat) (h : XH) : Option ((Int32 ⊕ XX) × XH) := (cgI h x2 4 9).bind fun v33 => (cpu h x0 0 6 (.int v33)).bind fun h34 => (cgR h34 x0 0 7).bind fun v35 => (caI h34 v35 100 0).bind fun v36 => (csu h34 v35 100 0 (.int (v36 + 1))).bind fun h37 => (cgI h37 y0 5 6).bind fun v38 => some (.inl v38, h37)
def k_X1_town_J17 (n : Nat) (g : Nat) (c : Nat → Value) (x0 : Nat) (x1 : Int32) (y0 : Int32) (h : XH) : Option ((Int32 ⊕ XX) × XH) := (k_X1_right y0 h).bind fun r2 => match r2 with | (.inl v4, h5) => ((cpu h5 x0 0 5 (.int 0)).bind fun h9 => (cpu h9 x0 0 6 (.int (-1))).bind fun h10 => (some (xnew h10 4 15 1 15 (fun j => defaultValue (tyX5 j)))).bind fun h11 => (k_X5_init c h10.2.2.1 x0 x1 h11).bind fun r12 => (ckd r12 h10.2.2.1 4).bind fun u15 => (k_X5_read n g c h10.2.2.1 r12).bind fun r14 => match r14 with | (.inl v16, h17) => ((cpu h17 x0 0 1 (.ref v16)).bind fun h21 => (cgR h21 h10.2.2.1 4 2).bind fun v22 => (cpu h21 x0 0 2 (.ref v22)).bind fun h23 => (some (xnew h23 10 3 1 3 (fun j => defaultValue (tyJ2 j)))).bind fun h24 => (k_J2_init c h23.2.2.1 h24).bind fun r25 => (cpu r25 x0 0 8 (.ref h23.2.2.1)).bind fun h27 => (some (xnew h27 10 3 1 3 (fun j => defaultValue (tyJ2 j)))).bind fun h28 => (k_J2_init c h27.2.2.1 h28).bind fun r29 => (cpu r29 x0 0 9 (.ref h27.2.2.1)).bind fun h31 => (cpV h31 x0 0 10 .null).bind fun h32 => some (.inl 0, h32)) | (.inr e18, h17) => (if e18.1 = "HornHouses$Wrong" then k_X1_town_J51 n g c x0 h10.2.2.1 e18.2 h17 else none)) | (.inr e6, h5) => (some (.inr e6, h5))
def k_X1_town_J16 (n : Nat) (g : Nat) (c : Nat → Value) (x0 : Nat) (x1 : Int32) (h : XH) : Option ((Int32 ⊕ XX) × XH) := k_X1_town_J17 n g c x0 x1 0 h
def k_X1_town (n : Nat) (g : Nat) (c : Nat → Value) (x0 : Nat) (x1 : Int32) (h : XH) : Option ((Int32 ⊕ XX) × XH) := if x1 < 0 then k_X1_town_J16 n g c x0 x1 h else (cgI h x0 0 5).bind fun v40 => if x1 > v40 then k_X1_town_J16 n g c x0 x1 h else k_X1_town_J17 n g c x0 x1 1 h
set_option maxHeartbeats 4000000 in
theorem k_X1_town_J51_s {l : Launch} {E : XEnv}  {n : Nat} {g : Nat} {x0 : Nat} {x2 : Nat} {y0 : Nat} {h : XH} {r : (Int32 ⊕ XX) × XH} (hl : k_X1_town_J51 n g E.2.2.2 x0 x2 y0 h = some r) : CX l E mX1_town (13 * g + 12) 51 [(0, .ref x0), (2, .ref x2)] [.ref y0] h r.2 (xrI r.1) := by
  unfold k_X1_town_J51 at hl
  refine cx_astore_n dX1_town_51 (by decide) rfl ?_
  refine cx_aload_n dX1_town_52 rfl rfl ?_
  refine cx_aload_n dX1_town_53 rfl rfl ?_
  obtain ⟨v33, ev33, hl⟩ := xb hl
  refine cx_getI gF_X1_77 dX1_town_54 ev33 ?_
  obtain ⟨h34, eh34, hl⟩ := xb hl
  refine cx_putI pF_X1_42 dX1_town_57 eh34 ?_
  refine cx_aload_n dX1_town_60 rfl rfl ?_
  obtain ⟨v35, ev35, hl⟩ := xb hl
  refine cx_getR gF_X1_46 dX1_town_61 ev35 ?_
  refine cx_iconst (v := 0) dX1_town_64 rfl ?_
  refine cx_dup2 dX1_town_65 rfl rfl ?_
  obtain ⟨v36, ev36, hl⟩ := xb hl
  refine cx_iald dX1_town_66 ev36 ?_
  refine cx_iconst (v := 1) dX1_town_67 rfl ?_
  refine cx_iadd dX1_town_68 ?_
  obtain ⟨h37, eh37, hl⟩ := xb hl
  refine cx_iast dX1_town_69 eh37 ?_
  refine cx_aload_n dX1_town_70 rfl rfl ?_
  obtain ⟨v38, ev38, hl⟩ := xb hl
  refine cx_getI gF_X1_80 dX1_town_71 ev38 ?_
  cases hl
  exact cx_iret dX1_town_74 rfl rfl rfl rfl
set_option maxHeartbeats 4000000 in
theorem k_X1_town_J17_s {l : Launch} {E : XEnv}  {n : Nat} {g : Nat} {x0 : Nat} {x1 : Int32} {y0 : Int32} {h : XH} {r : (Int32 ⊕ XX) × XH} (hl : k_X1_town_J17 n g E.2.2.2 x0 x1 y0 h = some r) : CX l E mX1_town (13 * g + 12) 17 [(0, .ref x0), (1, .int x1)] [.int y0] h r.2 (xrI r.1) := by
  unfold k_X1_town_J17 at hl
  obtain ⟨r2, er2, hl⟩ := xb hl
  rcases r2 with ⟨v4 | ⟨C7, q8⟩, h5⟩
  · dsimp only at hl
    refine cx_callS (T_X1_right er2) lS_X1_62 C_X1_right dX1_town_17 rfl (by omega) (Nat.le_of_ble_eq_true rfl) ?_
    refine cx_aload_n dX1_town_20 rfl rfl ?_
    refine cx_iconst (v := 0) dX1_town_21 rfl ?_
    obtain ⟨h9, eh9, hl⟩ := xb hl
    refine cx_putI pF_X1_59 dX1_town_22 eh9 ?_
    refine cx_aload_n dX1_town_25 rfl rfl ?_
    refine cx_iconst (v := (-1)) dX1_town_26 rfl ?_
    obtain ⟨h10, eh10, hl⟩ := xb hl
    refine cx_putI pF_X1_42 dX1_town_27 eh10 ?_
    obtain ⟨h11, eh11, hl⟩ := xb hl
    refine cx_new 1 nW_X1_66 dX1_town_30 (Option.some.inj eh11) ?_
    refine cx_dup dX1_town_33 rfl ?_
    refine cx_aload_n dX1_town_34 rfl rfl ?_
    refine cx_iload_n dX1_town_35 rfl ?_
    obtain ⟨r12, er12, hl⟩ := xb hl
    refine cx_callI (T_X5_init er12) lI_X1_68 rfl C_X5_init dX1_town_36 rfl (by omega) (Nat.le_of_ble_eq_true rfl) ?_
    refine cx_astore_n dX1_town_39 (by decide) rfl ?_
    refine cx_aload_n dX1_town_40 rfl rfl ?_
    refine cx_aload_n dX1_town_41 rfl rfl ?_
    obtain ⟨u15, eu15, hl⟩ := xb hl
    obtain ⟨r14, er14, hl⟩ := xb hl
    rcases r14 with ⟨v16 | ⟨C19, q20⟩, h17⟩
    · dsimp only at hl
      refine cx_callV (Or.inl ⟨by decide, _, _, rfl⟩) (T_X5_read er14) lV_X1_71 C_X5_read dX1_town_42 eu15 (by decide) rfl (by omega) (Nat.le_of_ble_eq_true rfl) ?_
      obtain ⟨h21, eh21, hl⟩ := xb hl
      refine cx_putR (Or.inl ⟨_, rfl⟩) pF_X1_22 dX1_town_45 eh21 ?_
      refine cx_goto (tgt := 75) dX1_town_48 (by decide) ?_
      refine cx_aload_n dX1_town_75 rfl rfl ?_
      refine cx_aload_n dX1_town_76 rfl rfl ?_
      obtain ⟨v22, ev22, hl⟩ := xb hl
      refine cx_getR gF_X1_83 dX1_town_77 ev22 ?_
      obtain ⟨h23, eh23, hl⟩ := xb hl
      refine cx_putR (Or.inl ⟨_, rfl⟩) pF_X1_31 dX1_town_80 eh23 ?_
      refine cx_aload_n dX1_town_83 rfl rfl ?_
      obtain ⟨h24, eh24, hl⟩ := xb hl
      refine cx_new 1 nW_X1_49 dX1_town_84 (Option.some.inj eh24) ?_
      refine cx_dup dX1_town_87 rfl ?_
      obtain ⟨r25, er25, hl⟩ := xb hl
      refine cx_callI (T_J2_init er25) lI_X1_51 rfl C_J2_init dX1_town_88 rfl (by omega) (Nat.le_of_ble_eq_true rfl) ?_
      obtain ⟨h27, eh27, hl⟩ := xb hl
      refine cx_putR (Or.inl ⟨_, rfl⟩) pF_X1_52 dX1_town_91 eh27 ?_
      refine cx_aload_n dX1_town_94 rfl rfl ?_
      obtain ⟨h28, eh28, hl⟩ := xb hl
      refine cx_new 1 nW_X1_49 dX1_town_95 (Option.some.inj eh28) ?_
      refine cx_dup dX1_town_98 rfl ?_
      obtain ⟨r29, er29, hl⟩ := xb hl
      refine cx_callI (T_J2_init er29) lI_X1_51 rfl C_J2_init dX1_town_99 rfl (by omega) (Nat.le_of_ble_eq_true rfl) ?_
      obtain ⟨h31, eh31, hl⟩ := xb hl
      refine cx_putR (Or.inl ⟨_, rfl⟩) pF_X1_56 dX1_town_102 eh31 ?_
      refine cx_aload_n dX1_town_105 rfl rfl ?_
      refine cx_null dX1_town_106 ?_
      obtain ⟨h32, eh32, hl⟩ := xb hl
      refine cx_putV (Or.inl ⟨_, rfl⟩) pF_X1_86 dX1_town_107 eh32 ?_
      refine cx_iconst (v := 0) dX1_town_110 rfl ?_
      cases hl
      exact cx_iret dX1_town_111 rfl rfl rfl rfl
    · dsimp only at hl
      by_cases c39 : C19 = "HornHouses$Wrong"
      · rw [if_pos c39] at hl
        subst c39
        refine cx_callVx (Or.inl ⟨by decide, _, _, rfl⟩) (T_X5_read er14) lV_X1_71 C_X5_read dX1_town_42 eu15 (by decide) rfl (by omega) (Nat.le_of_ble_eq_true rfl) ?_
        refine ct_catch [] _ _ rfl (fun z hz => by cases hz) (by decide) (by decide) q655 q926 ?_
        exact cx_lsK (k_X1_town_J51_s hl) ⟨rfl, rfl, trivial⟩
      rw [if_neg c39] at hl
      cases hl
  · dsimp only at hl
    cases hl
    exact cx_callSx (T_X1_right er2) lS_X1_62 C_X1_right dX1_town_17 rfl (by omega) (Nat.le_of_ble_eq_true rfl) (ct_out rfl rfl (by decide))
set_option maxHeartbeats 4000000 in
theorem k_X1_town_J16_s {l : Launch} {E : XEnv}  {n : Nat} {g : Nat} {x0 : Nat} {x1 : Int32} {h : XH} {r : (Int32 ⊕ XX) × XH} (hl : k_X1_town_J16 n g E.2.2.2 x0 x1 h = some r) : CX l E mX1_town (13 * g + 12) 16 [(0, .ref x0), (1, .int x1)] [] h r.2 (xrI r.1) := by
  unfold k_X1_town_J16 at hl
  refine cx_iconst (v := 0) dX1_town_16 rfl ?_
  exact cx_lsK (k_X1_town_J17_s hl) ⟨rfl, rfl, trivial⟩
set_option maxHeartbeats 4000000 in
theorem T_X1_town {l : Launch} {E : XEnv}  {n : Nat} {g : Nat} {x0 : Nat} {x1 : Int32} {h : XH} {r : (Int32 ⊕ XX) × XH} (hl : k_X1_town n g E.2.2.2 x0 x1 h = some r) : CM l E mX1_town (13 * g + 12) [.ref x0, .int x1] h (xrI r.1) r.2 := by
  unfold k_X1_town at hl
  refine cm_ofH (by decide +kernel) (by decide) (Nat.le_of_ble_eq_true rfl) ?_
  refine cx_iload_n dX1_town_0 rfl ?_
  by_cases c1 : x1 < 0
  · rw [if_pos c1] at hl
    refine cx_if_lt (X := True) (tgt := 16) dX1_town_1 (by decide) (fun _ => ?_) (fun z => absurd c1 z)
    exact cx_lsK (k_X1_town_J16_s hl) ⟨rfl, rfl, trivial⟩
  · rw [if_neg c1] at hl
    refine cx_if_lt (X := True) (tgt := 16) dX1_town_1 (by decide) (fun z => absurd z c1) (fun _ => ?_)
    refine cx_iload_n dX1_town_4 rfl ?_
    refine cx_aload_n dX1_town_5 rfl rfl ?_
    obtain ⟨v40, ev40, hl⟩ := xb hl
    refine cx_getI gF_X1_59 dX1_town_6 ev40 ?_
    by_cases c41 : x1 > v40
    · rw [if_pos c41] at hl
      refine cx_icmp_gt (X := True) (tgt := 16) dX1_town_9 (by decide) (fun _ => ?_) (fun z => absurd c41 z)
      exact cx_lsK (k_X1_town_J16_s hl) ⟨rfl, rfl, trivial⟩
    · rw [if_neg c41] at hl
      refine cx_icmp_gt (X := True) (tgt := 16) dX1_town_9 (by decide) (fun z => absurd z c41) (fun _ => ?_)
      refine cx_iconst (v := 1) dX1_town_12 rfl ?_
      refine cx_goto (tgt := 17) dX1_town_13 (by decide) ?_
      exact cx_lsK (k_X1_town_J17_s hl) ⟨rfl, rfl, trivial⟩
def k_X1_taken_L4 (n : Nat) (x0 : Nat) (x1 : Int32) (x2 : Int32) (h : XH) : Option ((Int32 × Int32) ⊕ ((Int32))) := (cgR h x0 0 1).bind fun v1 => (ckd h v1 1).bind fun u3 => (k_X2_houses v1 h).bind fun r2 => if x2 ≥ r2 then some (.inr x1) else (cgR h x0 0 2).bind fun v5 => (ckd h v5 2).bind fun u7 => (k_X3_in n v5 x2 h).bind fun r6 => if r6 = (-1) then (some (x2 + 1)).bind fun w9 => some (.inl (x1, w9)) else (some (x1 ||| ((1 : Int32) <<< ((x2 : Int32) &&& 31)))).bind fun w10 => (some (x2 + 1)).bind fun w11 => some (.inl (w10, w11))
abbrev K_X1_taken_L4 (l : Launch) (E : XEnv) (hf : XH) (res : XO) (h : XH) (x0 : Nat) (o : (Int32)) : Prop := match o with
  | e => CX l E mX1_taken 4 39 [(1, .int e)] [] h hf res
def k_X1_taken (n : Nat) (x0 : Nat) (h : XH) : Option (Int32) := (xloop (fun s => k_X1_taken_L4 n x0 s.1 s.2 h) n (0, 0)).bind fun o12 => some o12
set_option maxHeartbeats 4000000 in
theorem k_X1_taken_L4_s {l : Launch} {E : XEnv} {hf : XH} {res : XO} {n : Nat} {x0 : Nat} {x1 : Int32} {x2 : Int32} {h : XH} {o : (Int32 × Int32) ⊕ ((Int32))} (hl : k_X1_taken_L4 n x0 x1 x2 h = some o) (hK : (xk (fun s : Int32 × Int32 => CX l E mX1_taken 4 4 [(0, .ref x0), (1, .int s.1), (2, .int s.2)] [] h hf res) (fun r => K_X1_taken_L4 l E hf res h x0 r) o)) : CX l E mX1_taken 4 4 [(0, .ref x0), (1, .int x1), (2, .int x2)] [] h hf res := by
  unfold k_X1_taken_L4 at hl
  refine cx_iload_n dX1_taken_4 rfl ?_
  refine cx_aload_n dX1_taken_5 rfl rfl ?_
  obtain ⟨v1, ev1, hl⟩ := xb hl
  refine cx_getR gF_X1_22 dX1_taken_6 ev1 ?_
  obtain ⟨u3, eu3, hl⟩ := xb hl
  obtain ⟨r2, er2, hl⟩ := xb hl
  refine cx_callV (Or.inl ⟨by decide, _, _, rfl⟩) (T_X2_houses er2) lV_X1_89 C_X2_houses dX1_taken_9 eu3 (by decide) rfl (by omega) (Nat.le_of_ble_eq_true rfl) ?_
  by_cases c4 : x2 ≥ r2
  · rw [if_pos c4] at hl
    refine cx_icmp_ge (X := True) (tgt := 39) dX1_taken_12 (by decide) (fun _ => ?_) (fun z => absurd c4 z)
    cases hl
    exact cx_lsK hK ⟨rfl, trivial⟩
  · rw [if_neg c4] at hl
    refine cx_icmp_ge (X := True) (tgt := 39) dX1_taken_12 (by decide) (fun z => absurd z c4) (fun _ => ?_)
    refine cx_aload_n dX1_taken_15 rfl rfl ?_
    obtain ⟨v5, ev5, hl⟩ := xb hl
    refine cx_getR gF_X1_31 dX1_taken_16 ev5 ?_
    refine cx_iload_n dX1_taken_19 rfl ?_
    obtain ⟨u7, eu7, hl⟩ := xb hl
    obtain ⟨r6, er6, hl⟩ := xb hl
    refine cx_callV (Or.inl ⟨by decide, _, _, rfl⟩) (T_X3_in er6) lV_X1_93 C_X3_in dX1_taken_20 eu7 (by decide) rfl (by omega) (Nat.le_of_ble_eq_true rfl) ?_
    refine cx_iconst (v := (-1)) dX1_taken_23 rfl ?_
    by_cases c8 : r6 = (-1)
    · rw [if_pos c8] at hl
      refine cx_icmp_eq (X := True) (tgt := 33) dX1_taken_24 (by decide) (fun _ => ?_) (fun z => absurd c8 z)
      obtain ⟨w9, ew9, hl⟩ := xb hl
      refine cx_iinc dX1_taken_33 rfl (by decide) (Option.some.inj ew9) ?_
      refine cx_goto (tgt := 4) dX1_taken_36 (by decide) ?_
      cases hl
      exact cx_lsK hK ⟨rfl, rfl, rfl, trivial⟩
    · rw [if_neg c8] at hl
      refine cx_icmp_eq (X := True) (tgt := 33) dX1_taken_24 (by decide) (fun z => absurd z c8) (fun _ => ?_)
      refine cx_iload_n dX1_taken_27 rfl ?_
      refine cx_iconst (v := 1) dX1_taken_28 rfl ?_
      refine cx_iload_n dX1_taken_29 rfl ?_
      refine cx_ishl dX1_taken_30 ?_
      refine cx_ior dX1_taken_31 ?_
      obtain ⟨w10, ew10, hl⟩ := xb hl
      refine cx_top (Option.some.inj ew10) ?_
      refine cx_istore_n dX1_taken_32 (by decide) ?_
      obtain ⟨w11, ew11, hl⟩ := xb hl
      refine cx_iinc dX1_taken_33 rfl (by decide) (Option.some.inj ew11) ?_
      refine cx_goto (tgt := 4) dX1_taken_36 (by decide) ?_
      cases hl
      exact cx_lsK hK ⟨rfl, rfl, rfl, trivial⟩
set_option maxHeartbeats 4000000 in
theorem k_X1_taken_L4_ok {l : Launch} {E : XEnv} {hf : XH} {res : XO} {n : Nat} {x0 : Nat} {h : XH} {s : Int32 × Int32} {o : (Int32)} (hl : xloop (fun s => k_X1_taken_L4 n x0 s.1 s.2 h) n s = some o) (hK : K_X1_taken_L4 l E hf res h x0 o) : CX l E mX1_taken 4 4 [(0, .ref x0), (1, .int s.1), (2, .int s.2)] [] h hf res :=
  xloop_of (fun s : Int32 × Int32 => CX l E mX1_taken 4 4 [(0, .ref x0), (1, .int s.1), (2, .int s.2)] [] h hf res) (fun r => K_X1_taken_L4 l E hf res h x0 r) (fun s o hl hk => k_X1_taken_L4_s (h := h) (o := o) hl hk) n s o hl hK
set_option maxHeartbeats 4000000 in
theorem T_X1_taken {l : Launch} {E : XEnv}  {n : Nat} {x0 : Nat} {h : XH} {r : Int32} (hl : k_X1_taken n x0 h = some r) : CM l E mX1_taken 4 [.ref x0] h (.inl (some (.int r))) h := by
  unfold k_X1_taken at hl
  refine cm_of (by decide +kernel) rfl (Nat.le_of_ble_eq_true rfl) ?_
  refine cx_iconst (v := 0) dX1_taken_0 rfl ?_
  refine cx_istore_n dX1_taken_1 (by decide) ?_
  refine cx_iconst (v := 0) dX1_taken_2 rfl ?_
  refine cx_istore_n dX1_taken_3 (by decide) ?_
  obtain ⟨o12, eo12, hl⟩ := xb hl
  refine cx_lsK (k_X1_taken_L4_ok (h := h) (s := (0, 0)) eo12 ?_) ⟨rfl, rfl, rfl, trivial⟩
  refine cx_iload_n dX1_taken_39 rfl ?_
  cases hl
  exact cx_iret dX1_taken_40 rfl rfl rfl rfl
def k_X3_lodging_L4 (n : Nat) (x0 : Nat) (x1 : Int32) (x2 : Int32) (h : XH) : Option ((Int32 × Int32) ⊕ ((Int32))) := (cgR h x0 2 9).bind fun v1 => (cgR h v1 0 1).bind fun v2 => (ckd h v2 1).bind fun u4 => (k_X2_people v2 h).bind fun r3 => if x2 ≥ r3 then some (.inr x1) else (cgR h x0 2 3).bind fun v6 => (caI h v6 100 x2).bind fun v7 => if v7 = (-1) then (some (x1 ||| ((1 : Int32) <<< ((x2 : Int32) &&& 31)))).bind fun w10 => (some (x2 + 1)).bind fun w11 => some (.inl (w10, w11)) else (some (x2 + 1)).bind fun w9 => some (.inl (x1, w9))
abbrev K_X3_lodging_L4 (l : Launch) (E : XEnv) (hf : XH) (res : XO) (h : XH) (x0 : Nat) (o : (Int32)) : Prop := match o with
  | e => CX l E mX3_lodging 3 40 [(1, .int e)] [] h hf res
def k_X3_lodging (n : Nat) (x0 : Nat) (h : XH) : Option (Int32) := (xloop (fun s => k_X3_lodging_L4 n x0 s.1 s.2 h) n (0, 0)).bind fun o12 => some o12
set_option maxHeartbeats 4000000 in
theorem k_X3_lodging_L4_s {l : Launch} {E : XEnv} {hf : XH} {res : XO} {n : Nat} {x0 : Nat} {x1 : Int32} {x2 : Int32} {h : XH} {o : (Int32 × Int32) ⊕ ((Int32))} (hl : k_X3_lodging_L4 n x0 x1 x2 h = some o) (hK : (xk (fun s : Int32 × Int32 => CX l E mX3_lodging 3 4 [(0, .ref x0), (1, .int s.1), (2, .int s.2)] [] h hf res) (fun r => K_X3_lodging_L4 l E hf res h x0 r) o)) : CX l E mX3_lodging 3 4 [(0, .ref x0), (1, .int x1), (2, .int x2)] [] h hf res := by
  unfold k_X3_lodging_L4 at hl
  refine cx_iload_n dX3_lodging_4 rfl ?_
  refine cx_aload_n dX3_lodging_5 rfl rfl ?_
  obtain ⟨v1, ev1, hl⟩ := xb hl
  refine cx_getR gF_X3_3 dX3_lodging_6 ev1 ?_
  obtain ⟨v2, ev2, hl⟩ := xb hl
  refine cx_getR gF_X3_52 dX3_lodging_9 ev2 ?_
  obtain ⟨u4, eu4, hl⟩ := xb hl
  obtain ⟨r3, er3, hl⟩ := xb hl
  refine cx_callV (Or.inl ⟨by decide, _, _, rfl⟩) (T_X2_people er3) lV_X3_67 C_X2_people dX3_lodging_12 eu4 (by decide) rfl (by omega) (Nat.le_of_ble_eq_true rfl) ?_
  by_cases c5 : x2 ≥ r3
  · rw [if_pos c5] at hl
    refine cx_icmp_ge (X := True) (tgt := 40) dX3_lodging_15 (by decide) (fun _ => ?_) (fun z => absurd c5 z)
    cases hl
    exact cx_lsK hK ⟨rfl, trivial⟩
  · rw [if_neg c5] at hl
    refine cx_icmp_ge (X := True) (tgt := 40) dX3_lodging_15 (by decide) (fun z => absurd z c5) (fun _ => ?_)
    refine cx_aload_n dX3_lodging_18 rfl rfl ?_
    obtain ⟨v6, ev6, hl⟩ := xb hl
    refine cx_getR gF_X3_25 dX3_lodging_19 ev6 ?_
    refine cx_iload_n dX3_lodging_22 rfl ?_
    obtain ⟨v7, ev7, hl⟩ := xb hl
    refine cx_iald dX3_lodging_23 ev7 ?_
    refine cx_iconst (v := (-1)) dX3_lodging_24 rfl ?_
    by_cases c8 : v7 = (-1)
    · rw [if_pos c8] at hl
      refine cx_icmp_ne (X := True) (tgt := 34) dX3_lodging_25 (by decide) (fun z => absurd c8 z) (fun _ => ?_)
      refine cx_iload_n dX3_lodging_28 rfl ?_
      refine cx_iconst (v := 1) dX3_lodging_29 rfl ?_
      refine cx_iload_n dX3_lodging_30 rfl ?_
      refine cx_ishl dX3_lodging_31 ?_
      refine cx_ior dX3_lodging_32 ?_
      obtain ⟨w10, ew10, hl⟩ := xb hl
      refine cx_top (Option.some.inj ew10) ?_
      refine cx_istore_n dX3_lodging_33 (by decide) ?_
      obtain ⟨w11, ew11, hl⟩ := xb hl
      refine cx_iinc dX3_lodging_34 rfl (by decide) (Option.some.inj ew11) ?_
      refine cx_goto (tgt := 4) dX3_lodging_37 (by decide) ?_
      cases hl
      exact cx_lsK hK ⟨rfl, rfl, rfl, trivial⟩
    · rw [if_neg c8] at hl
      refine cx_icmp_ne (X := True) (tgt := 34) dX3_lodging_25 (by decide) (fun _ => ?_) (fun z => absurd z c8)
      obtain ⟨w9, ew9, hl⟩ := xb hl
      refine cx_iinc dX3_lodging_34 rfl (by decide) (Option.some.inj ew9) ?_
      refine cx_goto (tgt := 4) dX3_lodging_37 (by decide) ?_
      cases hl
      exact cx_lsK hK ⟨rfl, rfl, rfl, trivial⟩
set_option maxHeartbeats 4000000 in
theorem k_X3_lodging_L4_ok {l : Launch} {E : XEnv} {hf : XH} {res : XO} {n : Nat} {x0 : Nat} {h : XH} {s : Int32 × Int32} {o : (Int32)} (hl : xloop (fun s => k_X3_lodging_L4 n x0 s.1 s.2 h) n s = some o) (hK : K_X3_lodging_L4 l E hf res h x0 o) : CX l E mX3_lodging 3 4 [(0, .ref x0), (1, .int s.1), (2, .int s.2)] [] h hf res :=
  xloop_of (fun s : Int32 × Int32 => CX l E mX3_lodging 3 4 [(0, .ref x0), (1, .int s.1), (2, .int s.2)] [] h hf res) (fun r => K_X3_lodging_L4 l E hf res h x0 r) (fun s o hl hk => k_X3_lodging_L4_s (h := h) (o := o) hl hk) n s o hl hK
set_option maxHeartbeats 4000000 in
theorem T_X3_lodging {l : Launch} {E : XEnv}  {n : Nat} {x0 : Nat} {h : XH} {r : Int32} (hl : k_X3_lodging n x0 h = some r) : CM l E mX3_lodging 3 [.ref x0] h (.inl (some (.int r))) h := by
  unfold k_X3_lodging at hl
  refine cm_of (by decide +kernel) rfl (Nat.le_of_ble_eq_true rfl) ?_
  refine cx_iconst (v := 0) dX3_lodging_0 rfl ?_
  refine cx_istore_n dX3_lodging_1 (by decide) ?_
  refine cx_iconst (v := 0) dX3_lodging_2 rfl ?_
  refine cx_istore_n dX3_lodging_3 (by decide) ?_
  obtain ⟨o12, eo12, hl⟩ := xb hl
  refine cx_lsK (k_X3_lodging_L4_ok (h := h) (s := (0, 0)) eo12 ?_) ⟨rfl, rfl, rfl, trivial⟩
  refine cx_iload_n dX3_lodging_40 rfl ?_
  cases hl
  exact cx_iret dX3_lodging_41 rfl rfl rfl rfl
def k_X3_allBlisters_L4 (n : Nat) (x0 : Nat) (x1 : Int32) (x2 : Int32) (h : XH) : Option ((Int32 × Int32) ⊕ ((Int32))) := (cgR h x0 2 9).bind fun v1 => (cgR h v1 0 1).bind fun v2 => (ckd h v2 1).bind fun u4 => (k_X2_people v2 h).bind fun r3 => if x2 ≥ r3 then some (.inr x1) else (cgR h x0 2 4).bind fun v6 => (caI h v6 100 x2).bind fun v7 => (some (x1 + v7)).bind fun w8 => (some (x2 + 1)).bind fun w9 => some (.inl (w8, w9))
abbrev K_X3_allBlisters_L4 (l : Launch) (E : XEnv) (hf : XH) (res : XO) (h : XH) (x0 : Nat) (o : (Int32)) : Prop := match o with
  | e => CX l E mX3_allBlisters 3 33 [(1, .int e)] [] h hf res
def k_X3_allBlisters (n : Nat) (x0 : Nat) (h : XH) : Option (Int32) := (xloop (fun s => k_X3_allBlisters_L4 n x0 s.1 s.2 h) n (0, 0)).bind fun o10 => some o10
set_option maxHeartbeats 4000000 in
theorem k_X3_allBlisters_L4_s {l : Launch} {E : XEnv} {hf : XH} {res : XO} {n : Nat} {x0 : Nat} {x1 : Int32} {x2 : Int32} {h : XH} {o : (Int32 × Int32) ⊕ ((Int32))} (hl : k_X3_allBlisters_L4 n x0 x1 x2 h = some o) (hK : (xk (fun s : Int32 × Int32 => CX l E mX3_allBlisters 3 4 [(0, .ref x0), (1, .int s.1), (2, .int s.2)] [] h hf res) (fun r => K_X3_allBlisters_L4 l E hf res h x0 r) o)) : CX l E mX3_allBlisters 3 4 [(0, .ref x0), (1, .int x1), (2, .int x2)] [] h hf res := by
  unfold k_X3_allBlisters_L4 at hl
  refine cx_iload_n dX3_allBlisters_4 rfl ?_
  refine cx_aload_n dX3_allBlisters_5 rfl rfl ?_
  obtain ⟨v1, ev1, hl⟩ := xb hl
  refine cx_getR gF_X3_3 dX3_allBlisters_6 ev1 ?_
  obtain ⟨v2, ev2, hl⟩ := xb hl
  refine cx_getR gF_X3_52 dX3_allBlisters_9 ev2 ?_
  obtain ⟨u4, eu4, hl⟩ := xb hl
  obtain ⟨r3, er3, hl⟩ := xb hl
  refine cx_callV (Or.inl ⟨by decide, _, _, rfl⟩) (T_X2_people er3) lV_X3_67 C_X2_people dX3_allBlisters_12 eu4 (by decide) rfl (by omega) (Nat.le_of_ble_eq_true rfl) ?_
  by_cases c5 : x2 ≥ r3
  · rw [if_pos c5] at hl
    refine cx_icmp_ge (X := True) (tgt := 33) dX3_allBlisters_15 (by decide) (fun _ => ?_) (fun z => absurd c5 z)
    cases hl
    exact cx_lsK hK ⟨rfl, trivial⟩
  · rw [if_neg c5] at hl
    refine cx_icmp_ge (X := True) (tgt := 33) dX3_allBlisters_15 (by decide) (fun z => absurd z c5) (fun _ => ?_)
    refine cx_iload_n dX3_allBlisters_18 rfl ?_
    refine cx_aload_n dX3_allBlisters_19 rfl rfl ?_
    obtain ⟨v6, ev6, hl⟩ := xb hl
    refine cx_getR gF_X3_28 dX3_allBlisters_20 ev6 ?_
    refine cx_iload_n dX3_allBlisters_23 rfl ?_
    obtain ⟨v7, ev7, hl⟩ := xb hl
    refine cx_iald dX3_allBlisters_24 ev7 ?_
    refine cx_iadd dX3_allBlisters_25 ?_
    obtain ⟨w8, ew8, hl⟩ := xb hl
    refine cx_top (Option.some.inj ew8) ?_
    refine cx_istore_n dX3_allBlisters_26 (by decide) ?_
    obtain ⟨w9, ew9, hl⟩ := xb hl
    refine cx_iinc dX3_allBlisters_27 rfl (by decide) (Option.some.inj ew9) ?_
    refine cx_goto (tgt := 4) dX3_allBlisters_30 (by decide) ?_
    cases hl
    exact cx_lsK hK ⟨rfl, rfl, rfl, trivial⟩
set_option maxHeartbeats 4000000 in
theorem k_X3_allBlisters_L4_ok {l : Launch} {E : XEnv} {hf : XH} {res : XO} {n : Nat} {x0 : Nat} {h : XH} {s : Int32 × Int32} {o : (Int32)} (hl : xloop (fun s => k_X3_allBlisters_L4 n x0 s.1 s.2 h) n s = some o) (hK : K_X3_allBlisters_L4 l E hf res h x0 o) : CX l E mX3_allBlisters 3 4 [(0, .ref x0), (1, .int s.1), (2, .int s.2)] [] h hf res :=
  xloop_of (fun s : Int32 × Int32 => CX l E mX3_allBlisters 3 4 [(0, .ref x0), (1, .int s.1), (2, .int s.2)] [] h hf res) (fun r => K_X3_allBlisters_L4 l E hf res h x0 r) (fun s o hl hk => k_X3_allBlisters_L4_s (h := h) (o := o) hl hk) n s o hl hK
set_option maxHeartbeats 4000000 in
theorem T_X3_allBlisters {l : Launch} {E : XEnv}  {n : Nat} {x0 : Nat} {h : XH} {r : Int32} (hl : k_X3_allBlisters n x0 h = some r) : CM l E mX3_allBlisters 3 [.ref x0] h (.inl (some (.int r))) h := by
  unfold k_X3_allBlisters at hl
  refine cm_of (by decide +kernel) rfl (Nat.le_of_ble_eq_true rfl) ?_
  refine cx_iconst (v := 0) dX3_allBlisters_0 rfl ?_
  refine cx_istore_n dX3_allBlisters_1 (by decide) ?_
  refine cx_iconst (v := 0) dX3_allBlisters_2 rfl ?_
  refine cx_istore_n dX3_allBlisters_3 (by decide) ?_
  obtain ⟨o10, eo10, hl⟩ := xb hl
  refine cx_lsK (k_X3_allBlisters_L4_ok (h := h) (s := (0, 0)) eo10 ?_) ⟨rfl, rfl, rfl, trivial⟩
  refine cx_iload_n dX3_allBlisters_33 rfl ?_
  cases hl
  exact cx_iret dX3_allBlisters_34 rfl rfl rfl rfl
def k_X1_tightOf (x0 : Nat) (x1 : Int32) (h : XH) : Option (Int32) := (cgR h x0 0 2).bind fun v1 => (cgR h v1 2 3).bind fun v2 => (caI h v2 100 x1).bind fun v3 => if v3 = (-1) then some 0 else (cgR h x0 0 2).bind fun v5 => (cgR h x0 0 2).bind fun v6 => (cgR h v6 2 3).bind fun v7 => (caI h v7 100 x1).bind fun v8 => (ckd h v5 2).bind fun u10 => (k_X3_tight v5 x1 v8 h).bind fun r9 => some r9
set_option maxHeartbeats 4000000 in
theorem T_X1_tightOf {l : Launch} {E : XEnv}  {x0 : Nat} {x1 : Int32} {h : XH} {r : Int32} (hl : k_X1_tightOf x0 x1 h = some r) : CM l E mX1_tightOf 3 [.ref x0, .int x1] h (.inl (some (.int r))) h := by
  unfold k_X1_tightOf at hl
  refine cm_of (by decide +kernel) rfl (Nat.le_of_ble_eq_true rfl) ?_
  refine cx_aload_n dX1_tightOf_0 rfl rfl ?_
  obtain ⟨v1, ev1, hl⟩ := xb hl
  refine cx_getR gF_X1_31 dX1_tightOf_1 ev1 ?_
  obtain ⟨v2, ev2, hl⟩ := xb hl
  refine cx_getR gF_X1_97 dX1_tightOf_4 ev2 ?_
  refine cx_iload_n dX1_tightOf_7 rfl ?_
  obtain ⟨v3, ev3, hl⟩ := xb hl
  refine cx_iald dX1_tightOf_8 ev3 ?_
  refine cx_iconst (v := (-1)) dX1_tightOf_9 rfl ?_
  by_cases c4 : v3 = (-1)
  · rw [if_pos c4] at hl
    refine cx_icmp_ne (X := True) (tgt := 17) dX1_tightOf_10 (by decide) (fun z => absurd c4 z) (fun _ => ?_)
    refine cx_iconst (v := 0) dX1_tightOf_13 rfl ?_
    refine cx_goto (tgt := 34) dX1_tightOf_14 (by decide) ?_
    cases hl
    exact cx_iret dX1_tightOf_34 rfl rfl rfl rfl
  · rw [if_neg c4] at hl
    refine cx_icmp_ne (X := True) (tgt := 17) dX1_tightOf_10 (by decide) (fun _ => ?_) (fun z => absurd z c4)
    refine cx_aload_n dX1_tightOf_17 rfl rfl ?_
    obtain ⟨v5, ev5, hl⟩ := xb hl
    refine cx_getR gF_X1_31 dX1_tightOf_18 ev5 ?_
    refine cx_iload_n dX1_tightOf_21 rfl ?_
    refine cx_aload_n dX1_tightOf_22 rfl rfl ?_
    obtain ⟨v6, ev6, hl⟩ := xb hl
    refine cx_getR gF_X1_31 dX1_tightOf_23 ev6 ?_
    obtain ⟨v7, ev7, hl⟩ := xb hl
    refine cx_getR gF_X1_97 dX1_tightOf_26 ev7 ?_
    refine cx_iload_n dX1_tightOf_29 rfl ?_
    obtain ⟨v8, ev8, hl⟩ := xb hl
    refine cx_iald dX1_tightOf_30 ev8 ?_
    obtain ⟨u10, eu10, hl⟩ := xb hl
    obtain ⟨r9, er9, hl⟩ := xb hl
    refine cx_callV (Or.inl ⟨by decide, _, _, rfl⟩) (T_X3_tight er9) lV_X1_100 C_X3_tight dX1_tightOf_31 eu10 (by decide) rfl (by omega) (Nat.le_of_ble_eq_true rfl) ?_
    cases hl
    exact cx_iret dX1_tightOf_34 rfl rfl rfl rfl
def k_X1_tightest_L4 (n : Nat) (x0 : Nat) (x1 : Int32) (x2 : Int32) (h : XH) : Option ((Int32 × Int32) ⊕ ((Int32))) := (cgR h x0 0 1).bind fun v1 => (ckd h v1 1).bind fun u3 => (k_X2_people v1 h).bind fun r2 => if x2 ≥ r2 then some (.inr x1) else (ckd h x0 0).bind fun u6 => (k_X1_tightOf x0 x2 h).bind fun r5 => if r5 ≤ 0 then (some (x2 + 1)).bind fun w8 => some (.inl (x1, w8)) else if x1 = (-1) then (some (x2 + 1)).bind fun w10 => some (.inl (x2, w10)) else (ckd h x0 0).bind fun u12 => (k_X1_tightOf x0 x2 h).bind fun r11 => (ckd h x0 0).bind fun u14 => (k_X1_tightOf x0 x1 h).bind fun r13 => if r11 ≤ r13 then (some (x2 + 1)).bind fun w16 => some (.inl (x1, w16)) else (some (x2 + 1)).bind fun w17 => some (.inl (x2, w17))
abbrev K_X1_tightest_L4 (l : Launch) (E : XEnv) (hf : XH) (res : XO) (h : XH) (x0 : Nat) (o : (Int32)) : Prop := match o with
  | e => CX l E mX1_tightest 4 49 [(1, .int e)] [] h hf res
def k_X1_tightest (n : Nat) (x0 : Nat) (h : XH) : Option (Int32) := (xloop (fun s => k_X1_tightest_L4 n x0 s.1 s.2 h) n ((-1), 0)).bind fun o18 => some o18
set_option maxHeartbeats 4000000 in
theorem k_X1_tightest_L4_s {l : Launch} {E : XEnv} {hf : XH} {res : XO} {n : Nat} {x0 : Nat} {x1 : Int32} {x2 : Int32} {h : XH} {o : (Int32 × Int32) ⊕ ((Int32))} (hl : k_X1_tightest_L4 n x0 x1 x2 h = some o) (hK : (xk (fun s : Int32 × Int32 => CX l E mX1_tightest 4 4 [(0, .ref x0), (1, .int s.1), (2, .int s.2)] [] h hf res) (fun r => K_X1_tightest_L4 l E hf res h x0 r) o)) : CX l E mX1_tightest 4 4 [(0, .ref x0), (1, .int x1), (2, .int x2)] [] h hf res := by
  unfold k_X1_tightest_L4 at hl
  refine cx_iload_n dX1_tightest_4 rfl ?_
  refine cx_aload_n dX1_tightest_5 rfl rfl ?_
  obtain ⟨v1, ev1, hl⟩ := xb hl
  refine cx_getR gF_X1_22 dX1_tightest_6 ev1 ?_
  obtain ⟨u3, eu3, hl⟩ := xb hl
  obtain ⟨r2, er2, hl⟩ := xb hl
  refine cx_callV (Or.inl ⟨by decide, _, _, rfl⟩) (T_X2_people er2) lV_X1_104 C_X2_people dX1_tightest_9 eu3 (by decide) rfl (by omega) (Nat.le_of_ble_eq_true rfl) ?_
  by_cases c4 : x2 ≥ r2
  · rw [if_pos c4] at hl
    refine cx_icmp_ge (X := True) (tgt := 49) dX1_tightest_12 (by decide) (fun _ => ?_) (fun z => absurd c4 z)
    cases hl
    exact cx_lsK hK ⟨rfl, trivial⟩
  · rw [if_neg c4] at hl
    refine cx_icmp_ge (X := True) (tgt := 49) dX1_tightest_12 (by decide) (fun z => absurd z c4) (fun _ => ?_)
    refine cx_aload_n dX1_tightest_15 rfl rfl ?_
    refine cx_iload_n dX1_tightest_16 rfl ?_
    obtain ⟨u6, eu6, hl⟩ := xb hl
    obtain ⟨r5, er5, hl⟩ := xb hl
    refine cx_callV (Or.inl ⟨by decide, _, _, rfl⟩) (T_X1_tightOf er5) lV_X1_107 C_X1_tightOf dX1_tightest_17 eu6 (by decide) rfl (by omega) (Nat.le_of_ble_eq_true rfl) ?_
    by_cases c7 : r5 ≤ 0
    · rw [if_pos c7] at hl
      refine cx_if_le (X := True) (tgt := 43) dX1_tightest_20 (by decide) (fun _ => ?_) (fun z => absurd c7 z)
      obtain ⟨w8, ew8, hl⟩ := xb hl
      refine cx_iinc dX1_tightest_43 rfl (by decide) (Option.some.inj ew8) ?_
      refine cx_goto (tgt := 4) dX1_tightest_46 (by decide) ?_
      cases hl
      exact cx_lsK hK ⟨rfl, rfl, rfl, trivial⟩
    · rw [if_neg c7] at hl
      refine cx_if_le (X := True) (tgt := 43) dX1_tightest_20 (by decide) (fun z => absurd z c7) (fun _ => ?_)
      refine cx_iload_n dX1_tightest_23 rfl ?_
      refine cx_iconst (v := (-1)) dX1_tightest_24 rfl ?_
      by_cases c9 : x1 = (-1)
      · rw [if_pos c9] at hl
        refine cx_icmp_eq (X := True) (tgt := 41) dX1_tightest_25 (by decide) (fun _ => ?_) (fun z => absurd c9 z)
        refine cx_iload_n dX1_tightest_41 rfl ?_
        refine cx_istore_n dX1_tightest_42 (by decide) ?_
        obtain ⟨w10, ew10, hl⟩ := xb hl
        refine cx_iinc dX1_tightest_43 rfl (by decide) (Option.some.inj ew10) ?_
        refine cx_goto (tgt := 4) dX1_tightest_46 (by decide) ?_
        cases hl
        exact cx_lsK hK ⟨rfl, rfl, rfl, trivial⟩
      · rw [if_neg c9] at hl
        refine cx_icmp_eq (X := True) (tgt := 41) dX1_tightest_25 (by decide) (fun z => absurd z c9) (fun _ => ?_)
        refine cx_aload_n dX1_tightest_28 rfl rfl ?_
        refine cx_iload_n dX1_tightest_29 rfl ?_
        obtain ⟨u12, eu12, hl⟩ := xb hl
        obtain ⟨r11, er11, hl⟩ := xb hl
        refine cx_callV (Or.inl ⟨by decide, _, _, rfl⟩) (T_X1_tightOf er11) lV_X1_107 C_X1_tightOf dX1_tightest_30 eu12 (by decide) rfl (by omega) (Nat.le_of_ble_eq_true rfl) ?_
        refine cx_aload_n dX1_tightest_33 rfl rfl ?_
        refine cx_iload_n dX1_tightest_34 rfl ?_
        obtain ⟨u14, eu14, hl⟩ := xb hl
        obtain ⟨r13, er13, hl⟩ := xb hl
        refine cx_callV (Or.inl ⟨by decide, _, _, rfl⟩) (T_X1_tightOf er13) lV_X1_107 C_X1_tightOf dX1_tightest_35 eu14 (by decide) rfl (by omega) (Nat.le_of_ble_eq_true rfl) ?_
        by_cases c15 : r11 ≤ r13
        · rw [if_pos c15] at hl
          refine cx_icmp_le (X := True) (tgt := 43) dX1_tightest_38 (by decide) (fun _ => ?_) (fun z => absurd c15 z)
          obtain ⟨w16, ew16, hl⟩ := xb hl
          refine cx_iinc dX1_tightest_43 rfl (by decide) (Option.some.inj ew16) ?_
          refine cx_goto (tgt := 4) dX1_tightest_46 (by decide) ?_
          cases hl
          exact cx_lsK hK ⟨rfl, rfl, rfl, trivial⟩
        · rw [if_neg c15] at hl
          refine cx_icmp_le (X := True) (tgt := 43) dX1_tightest_38 (by decide) (fun z => absurd z c15) (fun _ => ?_)
          refine cx_iload_n dX1_tightest_41 rfl ?_
          refine cx_istore_n dX1_tightest_42 (by decide) ?_
          obtain ⟨w17, ew17, hl⟩ := xb hl
          refine cx_iinc dX1_tightest_43 rfl (by decide) (Option.some.inj ew17) ?_
          refine cx_goto (tgt := 4) dX1_tightest_46 (by decide) ?_
          cases hl
          exact cx_lsK hK ⟨rfl, rfl, rfl, trivial⟩
set_option maxHeartbeats 4000000 in
theorem k_X1_tightest_L4_ok {l : Launch} {E : XEnv} {hf : XH} {res : XO} {n : Nat} {x0 : Nat} {h : XH} {s : Int32 × Int32} {o : (Int32)} (hl : xloop (fun s => k_X1_tightest_L4 n x0 s.1 s.2 h) n s = some o) (hK : K_X1_tightest_L4 l E hf res h x0 o) : CX l E mX1_tightest 4 4 [(0, .ref x0), (1, .int s.1), (2, .int s.2)] [] h hf res :=
  xloop_of (fun s : Int32 × Int32 => CX l E mX1_tightest 4 4 [(0, .ref x0), (1, .int s.1), (2, .int s.2)] [] h hf res) (fun r => K_X1_tightest_L4 l E hf res h x0 r) (fun s o hl hk => k_X1_tightest_L4_s (h := h) (o := o) hl hk) n s o hl hK
set_option maxHeartbeats 4000000 in
theorem T_X1_tightest {l : Launch} {E : XEnv}  {n : Nat} {x0 : Nat} {h : XH} {r : Int32} (hl : k_X1_tightest n x0 h = some r) : CM l E mX1_tightest 4 [.ref x0] h (.inl (some (.int r))) h := by
  unfold k_X1_tightest at hl
  refine cm_of (by decide +kernel) rfl (Nat.le_of_ble_eq_true rfl) ?_
  refine cx_iconst (v := (-1)) dX1_tightest_0 rfl ?_
  refine cx_istore_n dX1_tightest_1 (by decide) ?_
  refine cx_iconst (v := 0) dX1_tightest_2 rfl ?_
  refine cx_istore_n dX1_tightest_3 (by decide) ?_
  obtain ⟨o18, eo18, hl⟩ := xb hl
  refine cx_lsK (k_X1_tightest_L4_ok (h := h) (s := ((-1), 0)) eo18 ?_) ⟨rfl, rfl, rfl, trivial⟩
  refine cx_iload_n dX1_tightest_49 rfl ?_
  cases hl
  exact cx_iret dX1_tightest_50 rfl rfl rfl rfl
def k_X3_eases_J69 (n : Nat) (g : Nat) (c : Nat → Value) (y0 : Int32) (h : XH) : Option (Int32 × XH) := some ((imax 0 (imin 30 y0)), h)
def k_X3_eases (n : Nat) (g : Nat) (c : Nat → Value) (x0 : Nat) (x1 : Int32) (x2 : Int32) (h : XH) : Option (Int32 × XH) := (cgR h x0 2 9).bind fun v1 => (cgR h v1 0 1).bind fun v2 => (cgV h v2 1 4).bind fun v3 => if v3 = .null then (cgR h x0 2 9).bind fun v5 => (cgR h v5 0 1).bind fun v6 => (cgR h v6 1 0).bind fun v7 => (ckd h v7 10).bind fun u9 => (k_J2_get v7 x2 h).bind fun r8 => (ckd h r8 11).bind fun u10 => (ckd h r8 11).bind fun u12 => (k_J14_intValue r8 h).bind fun r11 => (ckd h x0 2).bind fun u14 => (k_X3_damp x0 h).bind fun r13 => (cgR h x0 2 1).bind fun v15 => (caI h v15 100 x2).bind fun v16 => k_X3_eases_J69 n g c ((r11 + r13) + (v16 / 10)) h else (cgR h x0 2 9).bind fun v17 => (cgR h v17 0 1).bind fun v18 => (cgR h v18 1 4).bind fun v19 => (ckd h x0 2).bind fun u21 => (k_X3_asked n g c x0 v19 x1 x2 h).bind fun r20 => k_X3_eases_J69 n g c r20.1 r20.2
set_option maxHeartbeats 4000000 in
theorem k_X3_eases_J69_s {l : Launch} {E : XEnv}  {n : Nat} {g : Nat} {y0 : Int32} {h : XH} {r : Int32 × XH} (hl : k_X3_eases_J69 n g E.2.2.2 y0 h = some r) : CX l E mX3_eases (5 * g + 7) 69 [] [.int y0] h r.2 (.inl (some (.int r.1))) := by
  unfold k_X3_eases_J69 at hl
  refine cx_istore_n dX3_eases_69 (by decide) ?_
  refine cx_iconst (v := 0) dX3_eases_70 rfl ?_
  refine cx_bipush (v := 30) dX3_eases_71 (by decide) ?_
  refine cx_iload_n dX3_eases_73 rfl ?_
  refine cx_mmin q485 dX3_eases_74 (by omega) (Nat.le_of_ble_eq_true rfl) ?_
  refine cx_mmax q484 dX3_eases_77 (by omega) (Nat.le_of_ble_eq_true rfl) ?_
  cases hl
  exact cx_iret dX3_eases_80 rfl rfl rfl rfl
set_option maxHeartbeats 4000000 in
theorem T_X3_eases {l : Launch} {E : XEnv}  {n : Nat} {g : Nat} {x0 : Nat} {x1 : Int32} {x2 : Int32} {h : XH} {r : Int32 × XH} (hl : k_X3_eases n g E.2.2.2 x0 x1 x2 h = some r) : CM l E mX3_eases (5 * g + 7) [.ref x0, .int x1, .int x2] h (.inl (some (.int r.1))) r.2 := by
  unfold k_X3_eases at hl
  refine cm_of (by decide +kernel) rfl (Nat.le_of_ble_eq_true rfl) ?_
  refine cx_aload_n dX3_eases_0 rfl rfl ?_
  obtain ⟨v1, ev1, hl⟩ := xb hl
  refine cx_getR gF_X3_3 dX3_eases_1 ev1 ?_
  obtain ⟨v2, ev2, hl⟩ := xb hl
  refine cx_getR gF_X3_52 dX3_eases_4 ev2 ?_
  obtain ⟨v3, ev3, hl⟩ := xb hl
  refine cx_getV gF_X3_100 dX3_eases_7 ev3 ?_
  by_cases c4 : v3 = .null
  · rw [if_pos c4] at hl
    refine cx_ifnonnull (tgt := 53) (cgV_spec ev3 gF_X3_100.ne).2.2 dX3_eases_10 (by decide) (fun z => absurd c4 z) (fun _ => ?_)
    refine cx_aload_n dX3_eases_13 rfl rfl ?_
    obtain ⟨v5, ev5, hl⟩ := xb hl
    refine cx_getR gF_X3_3 dX3_eases_14 ev5 ?_
    obtain ⟨v6, ev6, hl⟩ := xb hl
    refine cx_getR gF_X3_52 dX3_eases_17 ev6 ?_
    obtain ⟨v7, ev7, hl⟩ := xb hl
    refine cx_getR gF_X3_74 dX3_eases_20 ev7 ?_
    refine cx_iload_n dX3_eases_23 rfl ?_
    obtain ⟨u9, eu9, hl⟩ := xb hl
    obtain ⟨r8, er8, hl⟩ := xb hl
    refine cx_callF (ci := 10) (by decide) rfl (T_J2_get er8) lF_X3_78 C_J2_get dX3_eases_24 eu9 rfl (by omega) (Nat.le_of_ble_eq_true rfl) ?_
    obtain ⟨u10, eu10, hl⟩ := xb hl
    refine cx_castO xC_X3_84_11 dX3_eases_29 (by decide) eu10 ?_
    obtain ⟨u12, eu12, hl⟩ := xb hl
    obtain ⟨r11, er11, hl⟩ := xb hl
    refine cx_callV (Or.inl ⟨by decide, _, _, rfl⟩) (T_J14_intValue er11) lV_X3_86 C_J14_intValue dX3_eases_32 eu12 (by decide) rfl (by omega) (Nat.le_of_ble_eq_true rfl) ?_
    refine cx_aload_n dX3_eases_35 rfl rfl ?_
    obtain ⟨u14, eu14, hl⟩ := xb hl
    obtain ⟨r13, er13, hl⟩ := xb hl
    refine cx_callV (Or.inl ⟨by decide, _, _, rfl⟩) (T_X3_damp er13) lV_X3_89 C_X3_damp dX3_eases_36 eu14 (by decide) rfl (by omega) (Nat.le_of_ble_eq_true rfl) ?_
    refine cx_iadd dX3_eases_39 ?_
    refine cx_aload_n dX3_eases_40 rfl rfl ?_
    obtain ⟨v15, ev15, hl⟩ := xb hl
    refine cx_getR gF_X3_19 dX3_eases_41 ev15 ?_
    refine cx_iload_n dX3_eases_44 rfl ?_
    obtain ⟨v16, ev16, hl⟩ := xb hl
    refine cx_iald dX3_eases_45 ev16 ?_
    refine cx_bipush (v := 10) dX3_eases_46 (by decide) ?_
    refine cx_idiv dX3_eases_48 (by decide) ?_
    refine cx_iadd dX3_eases_49 ?_
    refine cx_goto (tgt := 69) dX3_eases_50 (by decide) ?_
    exact cx_lsK (k_X3_eases_J69_s hl) trivial
  · rw [if_neg c4] at hl
    refine cx_ifnonnull (tgt := 53) (cgV_spec ev3 gF_X3_100.ne).2.2 dX3_eases_10 (by decide) (fun _ => ?_) (fun z => absurd z c4)
    refine cx_aload_n dX3_eases_53 rfl rfl ?_
    refine cx_aload_n dX3_eases_54 rfl rfl ?_
    obtain ⟨v17, ev17, hl⟩ := xb hl
    refine cx_getR gF_X3_3 dX3_eases_55 ev17 ?_
    obtain ⟨v18, ev18, hl⟩ := xb hl
    refine cx_getR gF_X3_52 dX3_eases_58 ev18 ?_
    obtain ⟨v19, ev19, hl⟩ := xb hl
    refine cx_getR gF_X3_100 dX3_eases_61 ev19 ?_
    refine cx_iload_n dX3_eases_64 rfl ?_
    refine cx_iload_n dX3_eases_65 rfl ?_
    obtain ⟨u21, eu21, hl⟩ := xb hl
    obtain ⟨r20, er20, hl⟩ := xb hl
    refine cx_callV (Or.inl ⟨by decide, _, _, rfl⟩) (T_X3_asked er20) lV_X3_104 C_X3_asked dX3_eases_66 eu21 (by decide) rfl (by omega) (Nat.le_of_ble_eq_true rfl) ?_
    exact cx_lsK (k_X3_eases_J69_s hl) trivial
def k_X3_goesIn (n : Nat) (g : Nat) (c : Nat → Value) (x0 : Nat) (x1 : Int32) (x2 : Int32) (h : XH) : Option (Int32 × XH) := (cgI h x0 2 6).bind fun v1 => (k_X1_isOf v1 x2 h).bind fun r2 => if r2 = 0 then (ckd h x0 2).bind fun u6 => (k_X3_tight x0 x1 x2 h).bind fun r5 => (ckd h x0 2).bind fun u8 => (k_X3_eases n g c x0 x1 x2 h).bind fun r7 => if r5 > r7.1 then some (0, r7.2) else some (1, r7.2) else some (0, h)
set_option maxHeartbeats 4000000 in
theorem T_X3_goesIn {l : Launch} {E : XEnv}  {n : Nat} {g : Nat} {x0 : Nat} {x1 : Int32} {x2 : Int32} {h : XH} {r : Int32 × XH} (hl : k_X3_goesIn n g E.2.2.2 x0 x1 x2 h = some r) : CM l E mX3_goesIn (5 * g + 8) [.ref x0, .int x1, .int x2] h (.inl (some (.int r.1))) r.2 := by
  unfold k_X3_goesIn at hl
  refine cm_of (by decide +kernel) rfl (Nat.le_of_ble_eq_true rfl) ?_
  refine cx_aload_n dX3_goesIn_0 rfl rfl ?_
  obtain ⟨v1, ev1, hl⟩ := xb hl
  refine cx_getI gF_X3_45 dX3_goesIn_1 ev1 ?_
  refine cx_iload_n dX3_goesIn_4 rfl ?_
  obtain ⟨r2, er2, hl⟩ := xb hl
  refine cx_callS (T_X1_isOf er2) lS_X3_111 C_X1_isOf dX3_goesIn_5 rfl (by omega) (Nat.le_of_ble_eq_true rfl) ?_
  by_cases c4 : r2 = 0
  · rw [if_pos c4] at hl
    refine cx_if_ne (X := True) (tgt := 30) dX3_goesIn_8 (by decide) (fun z => absurd c4 z) (fun _ => ?_)
    refine cx_aload_n dX3_goesIn_11 rfl rfl ?_
    refine cx_iload_n dX3_goesIn_12 rfl ?_
    refine cx_iload_n dX3_goesIn_13 rfl ?_
    obtain ⟨u6, eu6, hl⟩ := xb hl
    obtain ⟨r5, er5, hl⟩ := xb hl
    refine cx_callV (Or.inl ⟨by decide, _, _, rfl⟩) (T_X3_tight er5) lV_X3_91 C_X3_tight dX3_goesIn_14 eu6 (by decide) rfl (by omega) (Nat.le_of_ble_eq_true rfl) ?_
    refine cx_aload_n dX3_goesIn_17 rfl rfl ?_
    refine cx_iload_n dX3_goesIn_18 rfl ?_
    refine cx_iload_n dX3_goesIn_19 rfl ?_
    obtain ⟨u8, eu8, hl⟩ := xb hl
    obtain ⟨r7, er7, hl⟩ := xb hl
    refine cx_callV (Or.inl ⟨by decide, _, _, rfl⟩) (T_X3_eases er7) lV_X3_115 C_X3_eases dX3_goesIn_20 eu8 (by decide) rfl (by omega) (Nat.le_of_ble_eq_true rfl) ?_
    by_cases c9 : r5 > r7.1
    · rw [if_pos c9] at hl
      refine cx_icmp_gt (X := True) (tgt := 30) dX3_goesIn_23 (by decide) (fun _ => ?_) (fun z => absurd c9 z)
      refine cx_iconst (v := 0) dX3_goesIn_30 rfl ?_
      cases hl
      exact cx_iret dX3_goesIn_31 rfl rfl rfl rfl
    · rw [if_neg c9] at hl
      refine cx_icmp_gt (X := True) (tgt := 30) dX3_goesIn_23 (by decide) (fun z => absurd z c9) (fun _ => ?_)
      refine cx_iconst (v := 1) dX3_goesIn_26 rfl ?_
      refine cx_goto (tgt := 31) dX3_goesIn_27 (by decide) ?_
      cases hl
      exact cx_iret dX3_goesIn_31 rfl rfl rfl rfl
  · rw [if_neg c4] at hl
    refine cx_if_ne (X := True) (tgt := 30) dX3_goesIn_8 (by decide) (fun _ => ?_) (fun z => absurd z c4)
    refine cx_iconst (v := 0) dX3_goesIn_30 rfl ?_
    cases hl
    exact cx_iret dX3_goesIn_31 rfl rfl rfl rfl
def k_X1_may (n : Nat) (g : Nat) (c : Nat → Value) (x0 : Nat) (x1 : Int32) (x2 : Int32) (x3 : Int32) (h : XH) : Option (Int32 × XH) := (k_X1_isOf x2 x3 h).bind fun r1 => if r1 = 0 then (cgR h x0 0 2).bind fun v4 => (ckd h v4 2).bind fun u6 => (k_X3_goesIn n g c v4 x1 x3 h).bind fun r5 => if r5.1 = 0 then some (0, r5.2) else some (1, r5.2) else some (0, h)
set_option maxHeartbeats 4000000 in
theorem T_X1_may {l : Launch} {E : XEnv}  {n : Nat} {g : Nat} {x0 : Nat} {x1 : Int32} {x2 : Int32} {x3 : Int32} {h : XH} {r : Int32 × XH} (hl : k_X1_may n g E.2.2.2 x0 x1 x2 x3 h = some r) : CM l E mX1_may (5 * g + 9) [.ref x0, .int x1, .int x2, .int x3] h (.inl (some (.int r.1))) r.2 := by
  unfold k_X1_may at hl
  refine cm_of (by decide +kernel) rfl (Nat.le_of_ble_eq_true rfl) ?_
  refine cx_iload_n dX1_may_0 rfl ?_
  refine cx_iload_n dX1_may_1 rfl ?_
  obtain ⟨r1, er1, hl⟩ := xb hl
  refine cx_callS (T_X1_isOf er1) lS_X1_183 C_X1_isOf dX1_may_2 rfl (by omega) (Nat.le_of_ble_eq_true rfl) ?_
  by_cases c3 : r1 = 0
  · rw [if_pos c3] at hl
    refine cx_if_ne (X := True) (tgt := 24) dX1_may_5 (by decide) (fun z => absurd c3 z) (fun _ => ?_)
    refine cx_aload_n dX1_may_8 rfl rfl ?_
    obtain ⟨v4, ev4, hl⟩ := xb hl
    refine cx_getR gF_X1_31 dX1_may_9 ev4 ?_
    refine cx_iload_n dX1_may_12 rfl ?_
    refine cx_iload_n dX1_may_13 rfl ?_
    obtain ⟨u6, eu6, hl⟩ := xb hl
    obtain ⟨r5, er5, hl⟩ := xb hl
    refine cx_callV (Or.inl ⟨by decide, _, _, rfl⟩) (T_X3_goesIn er5) lV_X1_233 C_X3_goesIn dX1_may_14 eu6 (by decide) rfl (by omega) (Nat.le_of_ble_eq_true rfl) ?_
    by_cases c7 : r5.1 = 0
    · rw [if_pos c7] at hl
      refine cx_if_eq (X := True) (tgt := 24) dX1_may_17 (by decide) (fun _ => ?_) (fun z => absurd c7 z)
      refine cx_iconst (v := 0) dX1_may_24 rfl ?_
      cases hl
      exact cx_iret dX1_may_25 rfl rfl rfl rfl
    · rw [if_neg c7] at hl
      refine cx_if_eq (X := True) (tgt := 24) dX1_may_17 (by decide) (fun z => absurd z c7) (fun _ => ?_)
      refine cx_iconst (v := 1) dX1_may_20 rfl ?_
      refine cx_goto (tgt := 25) dX1_may_21 (by decide) ?_
      cases hl
      exact cx_iret dX1_may_25 rfl rfl rfl rfl
  · rw [if_neg c3] at hl
    refine cx_if_ne (X := True) (tgt := 24) dX1_may_5 (by decide) (fun _ => ?_) (fun z => absurd z c3)
    refine cx_iconst (v := 0) dX1_may_24 rfl ?_
    cases hl
    exact cx_iret dX1_may_25 rfl rfl rfl rfl
def k_X1_with (x0 : Nat) (x1 : Nat) (x2 : Int32) (x3 : Int32) (x4 : Int32) (h : XH) : Option (Int32) := (cgR h x0 0 2).bind fun v1 => (ckd h v1 2).bind fun u3 => (k_X3_tight v1 x2 x4 h).bind fun r2 => (caR h x1 106 (x2 + 1)).bind fun v4 => (caI h v4 100 (x3 ||| ((1 : Int32) <<< ((x4 : Int32) &&& 31)))).bind fun v5 => some (r2 + v5)
set_option maxHeartbeats 4000000 in
theorem T_X1_with {l : Launch} {E : XEnv}  {x0 : Nat} {x1 : Nat} {x2 : Int32} {x3 : Int32} {x4 : Int32} {h : XH} {r : Int32} (hl : k_X1_with x0 x1 x2 x3 x4 h = some r) : CM l E mX1_with 3 [.ref x0, .ref x1, .int x2, .int x3, .int x4] h (.inl (some (.int r))) h := by
  unfold k_X1_with at hl
  refine cm_of (by decide +kernel) rfl (Nat.le_of_ble_eq_true rfl) ?_
  refine cx_aload_n dX1_with_0 rfl rfl ?_
  obtain ⟨v1, ev1, hl⟩ := xb hl
  refine cx_getR gF_X1_31 dX1_with_1 ev1 ?_
  refine cx_iload_n dX1_with_4 rfl ?_
  refine cx_iload dX1_with_5 rfl ?_
  obtain ⟨u3, eu3, hl⟩ := xb hl
  obtain ⟨r2, er2, hl⟩ := xb hl
  refine cx_callV (Or.inl ⟨by decide, _, _, rfl⟩) (T_X3_tight er2) lV_X1_100 C_X3_tight dX1_with_7 eu3 (by decide) rfl (by omega) (Nat.le_of_ble_eq_true rfl) ?_
  refine cx_aload_n dX1_with_10 rfl rfl ?_
  refine cx_iload_n dX1_with_11 rfl ?_
  refine cx_iconst (v := 1) dX1_with_12 rfl ?_
  refine cx_iadd dX1_with_13 ?_
  obtain ⟨v4, ev4, hl⟩ := xb hl
  refine cx_aald 6 (by decide) dX1_with_14 ev4 ?_
  refine cx_iload_n dX1_with_15 rfl ?_
  refine cx_iconst (v := 1) dX1_with_16 rfl ?_
  refine cx_iload dX1_with_17 rfl ?_
  refine cx_ishl dX1_with_19 ?_
  refine cx_ior dX1_with_20 ?_
  obtain ⟨v5, ev5, hl⟩ := xb hl
  refine cx_iald dX1_with_21 ev5 ?_
  refine cx_iadd dX1_with_22 ?_
  cases hl
  exact cx_iret dX1_with_23 rfl rfl rfl rfl
def k_X1_least_L66 (n : Nat) (g : Nat) (c : Nat → Value) (x0 : Nat) (x2 : Nat) (x3 : Int32) (x4 : Int32) (x5 : Int32) (h : XH) : Option ((Int32 × XH) ⊕ ((XH))) := (cgR h x0 0 1).bind fun v17 => (ckd h v17 1).bind fun u19 => (k_X2_houses v17 h).bind fun r18 => if x5 ≥ r18 then some (.inr h) else (ckd h x0 0).bind fun u22 => (k_X1_may n g c x0 x3 x4 x5 h).bind fun r21 => if r21.1 = 0 then (some (x5 + 1)).bind fun w24 => some (.inl (w24, r21.2)) else (caR r21.2 x2 106 x3).bind fun v25 => (caR r21.2 x2 106 x3).bind fun v26 => (caI r21.2 v26 100 x4).bind fun v27 => (ckd r21.2 x0 0).bind fun u29 => (k_X1_with x0 x2 x3 x4 x5 r21.2).bind fun r28 => (csu r21.2 v25 100 x4 (.int (imin v27 r28))).bind fun h30 => (some (x5 + 1)).bind fun w31 => some (.inl (w31, h30))
abbrev K_X1_least_L66 (l : Launch) (E : XEnv) (hf : XH) (res : XO) (g : Nat) (h : XH) (x0 : Nat) (x2 : Nat) (x3 : Int32) (x4 : Int32) (o : (XH)) : Prop := match o with
  | e => CX l E mX1_least (5 * g + 10) 121 [(0, .ref x0), (2, .ref x2), (3, .int x3), (4, .int x4)] [] e hf res
def k_X1_least_L36 (n : Nat) (g : Nat) (c : Nat → Value) (x0 : Nat) (x2 : Nat) (x3 : Int32) (x4 : Int32) (h : XH) : Option ((Int32 × XH) ⊕ ((XH))) := (caR h x2 106 x3).bind fun v10 => (cal h v10).bind fun v11 => if x4 ≥ v11 then some (.inr h) else (caR h x2 106 x3).bind fun v13 => (caR h x2 106 (x3 + 1)).bind fun v14 => (caI h v14 100 x4).bind fun v15 => (csu h v13 100 x4 (.int ((1000 : Int32) + v15))).bind fun h16 => (xloop (fun s => k_X1_least_L66 n g c x0 x2 x3 x4 s.1 s.2) n (0, h16)).bind fun o32 => (some (x4 + 1)).bind fun w33 => some (.inl (w33, o32))
abbrev K_X1_least_L36 (l : Launch) (E : XEnv) (hf : XH) (res : XO) (g : Nat) (h : XH) (x0 : Nat) (x2 : Nat) (x3 : Int32) (o : (XH)) : Prop := match o with
  | e => CX l E mX1_least (5 * g + 10) 127 [(0, .ref x0), (2, .ref x2), (3, .int x3)] [] e hf res
def k_X1_least_L29 (n : Nat) (g : Nat) (c : Nat → Value) (x0 : Nat) (x2 : Nat) (x3 : Int32) (h : XH) : Option ((Int32 × XH) ⊕ ((XH))) := if x3 < 0 then some (.inr h) else (xloop (fun s => k_X1_least_L36 n g c x0 x2 x3 s.1 s.2) n (0, h)).bind fun o34 => (some (x3 + (-1))).bind fun w35 => some (.inl (w35, o34))
abbrev K_X1_least_L29 (l : Launch) (E : XEnv) (hf : XH) (res : XO) (g : Nat) (h : XH) (x0 : Nat) (x2 : Nat) (o : (XH)) : Prop := match o with
  | e => CX l E mX1_least (5 * g + 10) 133 [(2, .ref x2)] [] e hf res
def k_X1_least (n : Nat) (g : Nat) (c : Nat → Value) (x0 : Nat) (h : XH) : Option (Nat × XH) := (cgR h x0 0 1).bind fun v1 => (ckd h v1 1).bind fun u3 => (k_X2_people v1 h).bind fun r2 => (cgR h x0 0 1).bind fun v4 => (ckd h v4 1).bind fun u6 => (k_X2_houses v4 h).bind fun r5 => (cng h 3 3 (r2 + 1) ((1 : Int32) <<< ((r5 : Int32) &&& 31))).bind fun h7 => (some (r2 - 1)).bind fun w8 => (xloop (fun s => k_X1_least_L29 n g c x0 h.2.2.1 s.1 s.2) n (w8, h7)).bind fun o36 => some (h.2.2.1, o36)
set_option maxHeartbeats 4000000 in
theorem k_X1_least_L66_s {l : Launch} {E : XEnv} {hf : XH} {res : XO} {n : Nat} {g : Nat} {x0 : Nat} {x2 : Nat} {x3 : Int32} {x4 : Int32} {x5 : Int32} {h : XH} {o : (Int32 × XH) ⊕ ((XH))} (hl : k_X1_least_L66 n g E.2.2.2 x0 x2 x3 x4 x5 h = some o) (hK : (xk (fun s : Int32 × XH => CX l E mX1_least (5 * g + 10) 66 [(0, .ref x0), (2, .ref x2), (3, .int x3), (4, .int x4), (5, .int s.1)] [] s.2 hf res) (fun r => K_X1_least_L66 l E hf res g h x0 x2 x3 x4 r) o)) : CX l E mX1_least (5 * g + 10) 66 [(0, .ref x0), (2, .ref x2), (3, .int x3), (4, .int x4), (5, .int x5)] [] h hf res := by
  unfold k_X1_least_L66 at hl
  refine cx_iload dX1_least_66 rfl ?_
  refine cx_aload_n dX1_least_68 rfl rfl ?_
  obtain ⟨v17, ev17, hl⟩ := xb hl
  refine cx_getR gF_X1_22 dX1_least_69 ev17 ?_
  obtain ⟨u19, eu19, hl⟩ := xb hl
  obtain ⟨r18, er18, hl⟩ := xb hl
  refine cx_callV (Or.inl ⟨by decide, _, _, rfl⟩) (T_X2_houses er18) lV_X1_89 C_X2_houses dX1_least_72 eu19 (by decide) rfl (by omega) (Nat.le_of_ble_eq_true rfl) ?_
  by_cases c20 : x5 ≥ r18
  · rw [if_pos c20] at hl
    refine cx_icmp_ge (X := True) (tgt := 121) dX1_least_75 (by decide) (fun _ => ?_) (fun z => absurd c20 z)
    cases hl
    exact cx_lsK hK ⟨rfl, rfl, rfl, rfl, trivial⟩
  · rw [if_neg c20] at hl
    refine cx_icmp_ge (X := True) (tgt := 121) dX1_least_75 (by decide) (fun z => absurd z c20) (fun _ => ?_)
    refine cx_aload_n dX1_least_78 rfl rfl ?_
    refine cx_iload_n dX1_least_79 rfl ?_
    refine cx_iload dX1_least_80 rfl ?_
    refine cx_iload dX1_least_82 rfl ?_
    obtain ⟨u22, eu22, hl⟩ := xb hl
    obtain ⟨r21, er21, hl⟩ := xb hl
    refine cx_callV (Or.inl ⟨by decide, _, _, rfl⟩) (T_X1_may er21) lV_X1_260 C_X1_may dX1_least_84 eu22 (by decide) rfl (by omega) (Nat.le_of_ble_eq_true rfl) ?_
    by_cases c23 : r21.1 = 0
    · rw [if_pos c23] at hl
      refine cx_if_eq (X := True) (tgt := 115) dX1_least_87 (by decide) (fun _ => ?_) (fun z => absurd c23 z)
      obtain ⟨w24, ew24, hl⟩ := xb hl
      refine cx_iinc dX1_least_115 rfl (by decide) (Option.some.inj ew24) ?_
      refine cx_goto (tgt := 66) dX1_least_118 (by decide) ?_
      cases hl
      exact cx_lsK hK ⟨rfl, rfl, rfl, rfl, rfl, trivial⟩
    · rw [if_neg c23] at hl
      refine cx_if_eq (X := True) (tgt := 115) dX1_least_87 (by decide) (fun z => absurd z c23) (fun _ => ?_)
      refine cx_aload_n dX1_least_90 rfl rfl ?_
      refine cx_iload_n dX1_least_91 rfl ?_
      obtain ⟨v25, ev25, hl⟩ := xb hl
      refine cx_aald 6 (by decide) dX1_least_92 ev25 ?_
      refine cx_iload dX1_least_93 rfl ?_
      refine cx_aload_n dX1_least_95 rfl rfl ?_
      refine cx_iload_n dX1_least_96 rfl ?_
      obtain ⟨v26, ev26, hl⟩ := xb hl
      refine cx_aald 6 (by decide) dX1_least_97 ev26 ?_
      refine cx_iload dX1_least_98 rfl ?_
      obtain ⟨v27, ev27, hl⟩ := xb hl
      refine cx_iald dX1_least_100 ev27 ?_
      refine cx_aload_n dX1_least_101 rfl rfl ?_
      refine cx_aload_n dX1_least_102 rfl rfl ?_
      refine cx_iload_n dX1_least_103 rfl ?_
      refine cx_iload dX1_least_104 rfl ?_
      refine cx_iload dX1_least_106 rfl ?_
      obtain ⟨u29, eu29, hl⟩ := xb hl
      obtain ⟨r28, er28, hl⟩ := xb hl
      refine cx_callV (Or.inl ⟨by decide, _, _, rfl⟩) (T_X1_with er28) lV_X1_263 C_X1_with dX1_least_108 eu29 (by decide) rfl (by omega) (Nat.le_of_ble_eq_true rfl) ?_
      refine cx_mmin q1239 dX1_least_111 (by omega) (Nat.le_of_ble_eq_true rfl) ?_
      obtain ⟨h30, eh30, hl⟩ := xb hl
      refine cx_iast dX1_least_114 eh30 ?_
      obtain ⟨w31, ew31, hl⟩ := xb hl
      refine cx_iinc dX1_least_115 rfl (by decide) (Option.some.inj ew31) ?_
      refine cx_goto (tgt := 66) dX1_least_118 (by decide) ?_
      cases hl
      exact cx_lsK hK ⟨rfl, rfl, rfl, rfl, rfl, trivial⟩
set_option maxHeartbeats 4000000 in
theorem k_X1_least_L66_ok {l : Launch} {E : XEnv} {hf : XH} {res : XO} {n : Nat} {g : Nat} {x0 : Nat} {x2 : Nat} {x3 : Int32} {x4 : Int32} {h : XH} {s : Int32 × XH} {o : (XH)} (hl : xloop (fun s => k_X1_least_L66 n g E.2.2.2 x0 x2 x3 x4 s.1 s.2) n s = some o) (hK : K_X1_least_L66 l E hf res g h x0 x2 x3 x4 o) : CX l E mX1_least (5 * g + 10) 66 [(0, .ref x0), (2, .ref x2), (3, .int x3), (4, .int x4), (5, .int s.1)] [] s.2 hf res :=
  xloop_of (fun s : Int32 × XH => CX l E mX1_least (5 * g + 10) 66 [(0, .ref x0), (2, .ref x2), (3, .int x3), (4, .int x4), (5, .int s.1)] [] s.2 hf res) (fun r => K_X1_least_L66 l E hf res g h x0 x2 x3 x4 r) (fun s o hl hk => k_X1_least_L66_s (h := s.2) (o := o) hl hk) n s o hl hK
set_option maxHeartbeats 4000000 in
theorem k_X1_least_L36_s {l : Launch} {E : XEnv} {hf : XH} {res : XO} {n : Nat} {g : Nat} {x0 : Nat} {x2 : Nat} {x3 : Int32} {x4 : Int32} {h : XH} {o : (Int32 × XH) ⊕ ((XH))} (hl : k_X1_least_L36 n g E.2.2.2 x0 x2 x3 x4 h = some o) (hK : (xk (fun s : Int32 × XH => CX l E mX1_least (5 * g + 10) 36 [(0, .ref x0), (2, .ref x2), (3, .int x3), (4, .int s.1)] [] s.2 hf res) (fun r => K_X1_least_L36 l E hf res g h x0 x2 x3 r) o)) : CX l E mX1_least (5 * g + 10) 36 [(0, .ref x0), (2, .ref x2), (3, .int x3), (4, .int x4)] [] h hf res := by
  unfold k_X1_least_L36 at hl
  refine cx_iload dX1_least_36 rfl ?_
  refine cx_aload_n dX1_least_38 rfl rfl ?_
  refine cx_iload_n dX1_least_39 rfl ?_
  obtain ⟨v10, ev10, hl⟩ := xb hl
  refine cx_aald 6 (by decide) dX1_least_40 ev10 ?_
  obtain ⟨v11, ev11, hl⟩ := xb hl
  refine cx_alen dX1_least_41 ev11 ?_
  by_cases c12 : x4 ≥ v11
  · rw [if_pos c12] at hl
    refine cx_icmp_ge (X := True) (tgt := 127) dX1_least_42 (by decide) (fun _ => ?_) (fun z => absurd c12 z)
    cases hl
    exact cx_lsK hK ⟨rfl, rfl, rfl, trivial⟩
  · rw [if_neg c12] at hl
    refine cx_icmp_ge (X := True) (tgt := 127) dX1_least_42 (by decide) (fun z => absurd z c12) (fun _ => ?_)
    refine cx_aload_n dX1_least_45 rfl rfl ?_
    refine cx_iload_n dX1_least_46 rfl ?_
    obtain ⟨v13, ev13, hl⟩ := xb hl
    refine cx_aald 6 (by decide) dX1_least_47 ev13 ?_
    refine cx_iload dX1_least_48 rfl ?_
    refine cx_sipush (v := 1000) dX1_least_50 (by decide) ?_
    refine cx_aload_n dX1_least_53 rfl rfl ?_
    refine cx_iload_n dX1_least_54 rfl ?_
    refine cx_iconst (v := 1) dX1_least_55 rfl ?_
    refine cx_iadd dX1_least_56 ?_
    obtain ⟨v14, ev14, hl⟩ := xb hl
    refine cx_aald 6 (by decide) dX1_least_57 ev14 ?_
    refine cx_iload dX1_least_58 rfl ?_
    obtain ⟨v15, ev15, hl⟩ := xb hl
    refine cx_iald dX1_least_60 ev15 ?_
    refine cx_iadd dX1_least_61 ?_
    obtain ⟨h16, eh16, hl⟩ := xb hl
    refine cx_iast dX1_least_62 eh16 ?_
    refine cx_iconst (v := 0) dX1_least_63 rfl ?_
    refine cx_istore dX1_least_64 (by decide) ?_
    obtain ⟨o32, eo32, hl⟩ := xb hl
    refine cx_lsK (k_X1_least_L66_ok (h := h16) (s := (0, h16)) eo32 ?_) ⟨rfl, rfl, rfl, rfl, rfl, trivial⟩
    obtain ⟨w33, ew33, hl⟩ := xb hl
    refine cx_iinc dX1_least_121 rfl (by decide) (Option.some.inj ew33) ?_
    refine cx_goto (tgt := 36) dX1_least_124 (by decide) ?_
    cases hl
    exact cx_lsK hK ⟨rfl, rfl, rfl, rfl, trivial⟩
set_option maxHeartbeats 4000000 in
theorem k_X1_least_L36_ok {l : Launch} {E : XEnv} {hf : XH} {res : XO} {n : Nat} {g : Nat} {x0 : Nat} {x2 : Nat} {x3 : Int32} {h : XH} {s : Int32 × XH} {o : (XH)} (hl : xloop (fun s => k_X1_least_L36 n g E.2.2.2 x0 x2 x3 s.1 s.2) n s = some o) (hK : K_X1_least_L36 l E hf res g h x0 x2 x3 o) : CX l E mX1_least (5 * g + 10) 36 [(0, .ref x0), (2, .ref x2), (3, .int x3), (4, .int s.1)] [] s.2 hf res :=
  xloop_of (fun s : Int32 × XH => CX l E mX1_least (5 * g + 10) 36 [(0, .ref x0), (2, .ref x2), (3, .int x3), (4, .int s.1)] [] s.2 hf res) (fun r => K_X1_least_L36 l E hf res g h x0 x2 x3 r) (fun s o hl hk => k_X1_least_L36_s (h := s.2) (o := o) hl hk) n s o hl hK
set_option maxHeartbeats 4000000 in
theorem k_X1_least_L29_s {l : Launch} {E : XEnv} {hf : XH} {res : XO} {n : Nat} {g : Nat} {x0 : Nat} {x2 : Nat} {x3 : Int32} {h : XH} {o : (Int32 × XH) ⊕ ((XH))} (hl : k_X1_least_L29 n g E.2.2.2 x0 x2 x3 h = some o) (hK : (xk (fun s : Int32 × XH => CX l E mX1_least (5 * g + 10) 29 [(0, .ref x0), (2, .ref x2), (3, .int s.1)] [] s.2 hf res) (fun r => K_X1_least_L29 l E hf res g h x0 x2 r) o)) : CX l E mX1_least (5 * g + 10) 29 [(0, .ref x0), (2, .ref x2), (3, .int x3)] [] h hf res := by
  unfold k_X1_least_L29 at hl
  refine cx_iload_n dX1_least_29 rfl ?_
  by_cases c9 : x3 < 0
  · rw [if_pos c9] at hl
    refine cx_if_lt (X := True) (tgt := 133) dX1_least_30 (by decide) (fun _ => ?_) (fun z => absurd c9 z)
    cases hl
    exact cx_lsK hK ⟨rfl, trivial⟩
  · rw [if_neg c9] at hl
    refine cx_if_lt (X := True) (tgt := 133) dX1_least_30 (by decide) (fun z => absurd z c9) (fun _ => ?_)
    refine cx_iconst (v := 0) dX1_least_33 rfl ?_
    refine cx_istore dX1_least_34 (by decide) ?_
    obtain ⟨o34, eo34, hl⟩ := xb hl
    refine cx_lsK (k_X1_least_L36_ok (h := h) (s := (0, h)) eo34 ?_) ⟨rfl, rfl, rfl, rfl, trivial⟩
    obtain ⟨w35, ew35, hl⟩ := xb hl
    refine cx_iinc dX1_least_127 rfl (by decide) (Option.some.inj ew35) ?_
    refine cx_goto (tgt := 29) dX1_least_130 (by decide) ?_
    cases hl
    exact cx_lsK hK ⟨rfl, rfl, rfl, trivial⟩
set_option maxHeartbeats 4000000 in
theorem k_X1_least_L29_ok {l : Launch} {E : XEnv} {hf : XH} {res : XO} {n : Nat} {g : Nat} {x0 : Nat} {x2 : Nat} {h : XH} {s : Int32 × XH} {o : (XH)} (hl : xloop (fun s => k_X1_least_L29 n g E.2.2.2 x0 x2 s.1 s.2) n s = some o) (hK : K_X1_least_L29 l E hf res g h x0 x2 o) : CX l E mX1_least (5 * g + 10) 29 [(0, .ref x0), (2, .ref x2), (3, .int s.1)] [] s.2 hf res :=
  xloop_of (fun s : Int32 × XH => CX l E mX1_least (5 * g + 10) 29 [(0, .ref x0), (2, .ref x2), (3, .int s.1)] [] s.2 hf res) (fun r => K_X1_least_L29 l E hf res g h x0 x2 r) (fun s o hl hk => k_X1_least_L29_s (h := s.2) (o := o) hl hk) n s o hl hK
set_option maxHeartbeats 4000000 in
theorem T_X1_least {l : Launch} {E : XEnv}  {n : Nat} {g : Nat} {x0 : Nat} {h : XH} {r : Nat × XH} (hl : k_X1_least n g E.2.2.2 x0 h = some r) : CM l E mX1_least (5 * g + 10) [.ref x0] h (.inl (some (.ref r.1))) r.2 := by
  unfold k_X1_least at hl
  refine cm_of (by decide +kernel) rfl (Nat.le_of_ble_eq_true rfl) ?_
  refine cx_aload_n dX1_least_0 rfl rfl ?_
  obtain ⟨v1, ev1, hl⟩ := xb hl
  refine cx_getR gF_X1_22 dX1_least_1 ev1 ?_
  obtain ⟨u3, eu3, hl⟩ := xb hl
  obtain ⟨r2, er2, hl⟩ := xb hl
  refine cx_callV (Or.inl ⟨by decide, _, _, rfl⟩) (T_X2_people er2) lV_X1_104 C_X2_people dX1_least_4 eu3 (by decide) rfl (by omega) (Nat.le_of_ble_eq_true rfl) ?_
  refine cx_istore_n dX1_least_7 (by decide) ?_
  refine cx_iload_n dX1_least_8 rfl ?_
  refine cx_iconst (v := 1) dX1_least_9 rfl ?_
  refine cx_iadd dX1_least_10 ?_
  refine cx_iconst (v := 1) dX1_least_11 rfl ?_
  refine cx_aload_n dX1_least_12 rfl rfl ?_
  obtain ⟨v4, ev4, hl⟩ := xb hl
  refine cx_getR gF_X1_22 dX1_least_13 ev4 ?_
  obtain ⟨u6, eu6, hl⟩ := xb hl
  obtain ⟨r5, er5, hl⟩ := xb hl
  refine cx_callV (Or.inl ⟨by decide, _, _, rfl⟩) (T_X2_houses er5) lV_X1_89 C_X2_houses dX1_least_16 eu6 (by decide) rfl (by omega) (Nat.le_of_ble_eq_true rfl) ?_
  refine cx_ishl dX1_least_19 ?_
  obtain ⟨h7, eh7, hl⟩ := xb hl
  refine cx_multi 3 3 q1219 q1220 q195 dX1_least_20 eh7 ?_
  refine cx_astore_n dX1_least_24 (by decide) rfl ?_
  refine cx_iload_n dX1_least_25 rfl ?_
  refine cx_iconst (v := 1) dX1_least_26 rfl ?_
  refine cx_isub dX1_least_27 ?_
  obtain ⟨w8, ew8, hl⟩ := xb hl
  refine cx_top (Option.some.inj ew8) ?_
  refine cx_istore_n dX1_least_28 (by decide) ?_
  obtain ⟨o36, eo36, hl⟩ := xb hl
  refine cx_lsK (k_X1_least_L29_ok (h := h7) (s := (w8, h7)) eo36 ?_) ⟨rfl, rfl, rfl, trivial⟩
  refine cx_aload_n dX1_least_133 rfl rfl ?_
  cases hl
  exact cx_aret dX1_least_134 rfl rfl (Or.inr ⟨_, rfl⟩) rfl rfl
def k_X1_needed_L9 (n : Nat) (g : Nat) (c : Nat → Value) (x0 : Nat) (x1 : Nat) (x2 : Int32) (x3 : Int32) (h : XH) : Option ((Int32 × Int32 × XH) ⊕ ((Int32 × XH))) := (cgR h x0 0 1).bind fun v3 => (ckd h v3 1).bind fun u5 => (k_X2_houses v3 h).bind fun r4 => if x3 ≥ r4 then some (.inr (x2, h)) else (caR h x1 106 0).bind fun v7 => (caI h v7 100 ((1 : Int32) <<< ((x3 : Int32) &&& 31))).bind fun v8 => (caR h x1 106 0).bind fun v9 => (caI h v9 100 0).bind fun v10 => if (v8 / 1000) ≤ (v10 / 1000) then (some (x3 + 1)).bind fun w12 => some (.inl (x2, w12, h)) else (some (x2 ||| ((1 : Int32) <<< ((x3 : Int32) &&& 31)))).bind fun w13 => (some (x3 + 1)).bind fun w14 => some (.inl (w13, w14, h))
abbrev K_X1_needed_L9 (l : Launch) (E : XEnv) (hf : XH) (res : XO) (g : Nat) (h : XH) (x0 : Nat) (x1 : Nat) (o : (Int32 × XH)) : Prop := match o with
  | e => CX l E mX1_needed (5 * g + 11) 55 [(2, .int e.1)] [] e.2 hf res
def k_X1_needed (n : Nat) (g : Nat) (c : Nat → Value) (x0 : Nat) (h : XH) : Option (Int32 × XH) := (ckd h x0 0).bind fun u2 => (k_X1_least n g c x0 h).bind fun r1 => (xloop (fun s => k_X1_needed_L9 n g c x0 r1.1 s.1 s.2.1 s.2.2) n (0, 0, r1.2)).bind fun o15 => some (o15.1, o15.2)
set_option maxHeartbeats 4000000 in
theorem k_X1_needed_L9_s {l : Launch} {E : XEnv} {hf : XH} {res : XO} {n : Nat} {g : Nat} {x0 : Nat} {x1 : Nat} {x2 : Int32} {x3 : Int32} {h : XH} {o : (Int32 × Int32 × XH) ⊕ ((Int32 × XH))} (hl : k_X1_needed_L9 n g E.2.2.2 x0 x1 x2 x3 h = some o) (hK : (xk (fun s : Int32 × Int32 × XH => CX l E mX1_needed (5 * g + 11) 9 [(0, .ref x0), (1, .ref x1), (2, .int s.1), (3, .int s.2.1)] [] s.2.2 hf res) (fun r => K_X1_needed_L9 l E hf res g h x0 x1 r) o)) : CX l E mX1_needed (5 * g + 11) 9 [(0, .ref x0), (1, .ref x1), (2, .int x2), (3, .int x3)] [] h hf res := by
  unfold k_X1_needed_L9 at hl
  refine cx_iload_n dX1_needed_9 rfl ?_
  refine cx_aload_n dX1_needed_10 rfl rfl ?_
  obtain ⟨v3, ev3, hl⟩ := xb hl
  refine cx_getR gF_X1_22 dX1_needed_11 ev3 ?_
  obtain ⟨u5, eu5, hl⟩ := xb hl
  obtain ⟨r4, er4, hl⟩ := xb hl
  refine cx_callV (Or.inl ⟨by decide, _, _, rfl⟩) (T_X2_houses er4) lV_X1_89 C_X2_houses dX1_needed_14 eu5 (by decide) rfl (by omega) (Nat.le_of_ble_eq_true rfl) ?_
  by_cases c6 : x3 ≥ r4
  · rw [if_pos c6] at hl
    refine cx_icmp_ge (X := True) (tgt := 55) dX1_needed_17 (by decide) (fun _ => ?_) (fun z => absurd c6 z)
    cases hl
    exact cx_lsK hK ⟨rfl, trivial⟩
  · rw [if_neg c6] at hl
    refine cx_icmp_ge (X := True) (tgt := 55) dX1_needed_17 (by decide) (fun z => absurd z c6) (fun _ => ?_)
    refine cx_aload_n dX1_needed_20 rfl rfl ?_
    refine cx_iconst (v := 0) dX1_needed_21 rfl ?_
    obtain ⟨v7, ev7, hl⟩ := xb hl
    refine cx_aald 6 (by decide) dX1_needed_22 ev7 ?_
    refine cx_iconst (v := 1) dX1_needed_23 rfl ?_
    refine cx_iload_n dX1_needed_24 rfl ?_
    refine cx_ishl dX1_needed_25 ?_
    obtain ⟨v8, ev8, hl⟩ := xb hl
    refine cx_iald dX1_needed_26 ev8 ?_
    refine cx_sipush (v := 1000) dX1_needed_27 (by decide) ?_
    refine cx_idiv dX1_needed_30 (by decide) ?_
    refine cx_aload_n dX1_needed_31 rfl rfl ?_
    refine cx_iconst (v := 0) dX1_needed_32 rfl ?_
    obtain ⟨v9, ev9, hl⟩ := xb hl
    refine cx_aald 6 (by decide) dX1_needed_33 ev9 ?_
    refine cx_iconst (v := 0) dX1_needed_34 rfl ?_
    obtain ⟨v10, ev10, hl⟩ := xb hl
    refine cx_iald dX1_needed_35 ev10 ?_
    refine cx_sipush (v := 1000) dX1_needed_36 (by decide) ?_
    refine cx_idiv dX1_needed_39 (by decide) ?_
    by_cases c11 : (v8 / 1000) ≤ (v10 / 1000)
    · rw [if_pos c11] at hl
      refine cx_icmp_le (X := True) (tgt := 49) dX1_needed_40 (by decide) (fun _ => ?_) (fun z => absurd c11 z)
      obtain ⟨w12, ew12, hl⟩ := xb hl
      refine cx_iinc dX1_needed_49 rfl (by decide) (Option.some.inj ew12) ?_
      refine cx_goto (tgt := 9) dX1_needed_52 (by decide) ?_
      cases hl
      exact cx_lsK hK ⟨rfl, rfl, rfl, rfl, trivial⟩
    · rw [if_neg c11] at hl
      refine cx_icmp_le (X := True) (tgt := 49) dX1_needed_40 (by decide) (fun z => absurd z c11) (fun _ => ?_)
      refine cx_iload_n dX1_needed_43 rfl ?_
      refine cx_iconst (v := 1) dX1_needed_44 rfl ?_
      refine cx_iload_n dX1_needed_45 rfl ?_
      refine cx_ishl dX1_needed_46 ?_
      refine cx_ior dX1_needed_47 ?_
      obtain ⟨w13, ew13, hl⟩ := xb hl
      refine cx_top (Option.some.inj ew13) ?_
      refine cx_istore_n dX1_needed_48 (by decide) ?_
      obtain ⟨w14, ew14, hl⟩ := xb hl
      refine cx_iinc dX1_needed_49 rfl (by decide) (Option.some.inj ew14) ?_
      refine cx_goto (tgt := 9) dX1_needed_52 (by decide) ?_
      cases hl
      exact cx_lsK hK ⟨rfl, rfl, rfl, rfl, trivial⟩
set_option maxHeartbeats 4000000 in
theorem k_X1_needed_L9_ok {l : Launch} {E : XEnv} {hf : XH} {res : XO} {n : Nat} {g : Nat} {x0 : Nat} {x1 : Nat} {h : XH} {s : Int32 × Int32 × XH} {o : (Int32 × XH)} (hl : xloop (fun s => k_X1_needed_L9 n g E.2.2.2 x0 x1 s.1 s.2.1 s.2.2) n s = some o) (hK : K_X1_needed_L9 l E hf res g h x0 x1 o) : CX l E mX1_needed (5 * g + 11) 9 [(0, .ref x0), (1, .ref x1), (2, .int s.1), (3, .int s.2.1)] [] s.2.2 hf res :=
  xloop_of (fun s : Int32 × Int32 × XH => CX l E mX1_needed (5 * g + 11) 9 [(0, .ref x0), (1, .ref x1), (2, .int s.1), (3, .int s.2.1)] [] s.2.2 hf res) (fun r => K_X1_needed_L9 l E hf res g h x0 x1 r) (fun s o hl hk => k_X1_needed_L9_s (h := s.2.2) (o := o) hl hk) n s o hl hK
set_option maxHeartbeats 4000000 in
theorem T_X1_needed {l : Launch} {E : XEnv}  {n : Nat} {g : Nat} {x0 : Nat} {h : XH} {r : Int32 × XH} (hl : k_X1_needed n g E.2.2.2 x0 h = some r) : CM l E mX1_needed (5 * g + 11) [.ref x0] h (.inl (some (.int r.1))) r.2 := by
  unfold k_X1_needed at hl
  refine cm_of (by decide +kernel) rfl (Nat.le_of_ble_eq_true rfl) ?_
  refine cx_aload_n dX1_needed_0 rfl rfl ?_
  obtain ⟨u2, eu2, hl⟩ := xb hl
  obtain ⟨r1, er1, hl⟩ := xb hl
  refine cx_callV (Or.inl ⟨by decide, _, _, rfl⟩) (T_X1_least er1) lV_X1_270 C_X1_least dX1_needed_1 eu2 (by decide) rfl (by omega) (Nat.le_of_ble_eq_true rfl) ?_
  refine cx_astore_n dX1_needed_4 (by decide) rfl ?_
  refine cx_iconst (v := 0) dX1_needed_5 rfl ?_
  refine cx_istore_n dX1_needed_6 (by decide) ?_
  refine cx_iconst (v := 0) dX1_needed_7 rfl ?_
  refine cx_istore_n dX1_needed_8 (by decide) ?_
  obtain ⟨o15, eo15, hl⟩ := xb hl
  refine cx_lsK (k_X1_needed_L9_ok (h := r1.2) (s := (0, 0, r1.2)) eo15 ?_) ⟨rfl, rfl, rfl, rfl, trivial⟩
  refine cx_iload_n dX1_needed_55 rfl ?_
  cases hl
  exact cx_iret dX1_needed_56 rfl rfl rfl rfl
def k_X1_found (x0 : Int32) (h : XH) : Option ((Unit ⊕ XX) × XH) := if x0 = 0 then (some (cmk h 13 5)).bind fun h2 => (ckd h2 h.2.2.1 13).bind fun u3 => some (.inr ("java/util/NoSuchElementException", h.2.2.1), h2) else some (.inl (), h)
set_option maxHeartbeats 4000000 in
theorem T_X1_found {l : Launch} {E : XEnv}  {x0 : Int32} {h : XH} {r : (Unit ⊕ XX) × XH} (hl : k_X1_found x0 h = some r) : CM l E mX1_found 8 [.int x0] h (xrU r.1) r.2 := by
  unfold k_X1_found at hl
  refine cm_of (by decide +kernel) rfl (Nat.le_of_ble_eq_true rfl) ?_
  refine cx_iload_n dX1_found_0 rfl ?_
  by_cases c1 : x0 = 0
  · rw [if_pos c1] at hl
    refine cx_if_ne (X := True) (tgt := 12) dX1_found_1 (by decide) (fun z => absurd c1 z) (fun _ => ?_)
    obtain ⟨h2, eh2, hl⟩ := xb hl
    refine mk_X1_4_X1_found (Option.some.inj eh2) (by omega) ?_
    obtain ⟨u3, eu3, hl⟩ := xb hl
    cases hl
    exact cx_athrow dX1_found_11 (by decide) (T := TJ20) (N := 0) rfl eu3 (ct_out rfl rfl (by decide))
  · rw [if_neg c1] at hl
    refine cx_if_ne (X := True) (tgt := 12) dX1_found_1 (by decide) (fun _ => ?_) (fun z => absurd z c1)
    cases hl
    exact cx_vret dX1_found_12 rfl rfl rfl
def k_X1_count (n : Nat) (g : Nat) (c : Nat → Value) (x0 : Nat) (x1 : Int32) (h : XH) : Option ((Int32 ⊕ XX) × XH) := if x1.toInt < 0 ∨ 12 < x1.toInt then (k_X1_in x1 13 15 h).bind fun r1 => (k_X1_found r1 h).bind fun r3 => match r3 with | (.inl v5, h6) => ((cgR h6 x0 0 7).bind fun v10 => (caI h6 v10 100 (x1 - 13)).bind fun v11 => some (.inl v11, h6)) | (.inr e7, h6) => (some (.inr e7, h6)) else if x1 = 0 then (cgR h x0 0 1).bind fun v14 => (ckd h v14 1).bind fun u16 => (k_X2_houses v14 h).bind fun r15 => some (.inl r15, h) else if x1 = 1 then (cgR h x0 0 1).bind fun v18 => (ckd h v18 1).bind fun u20 => (k_X2_people v18 h).bind fun r19 => some (.inl r19, h) else if x1 = 2 then (cgR h x0 0 2).bind fun v22 => (cgI h v22 2 5).bind fun v23 => some (.inl v23, h) else if x1 = 3 then (cgR h x0 0 2).bind fun v25 => (ckd h v25 2).bind fun u27 => (k_X3_damp v25 h).bind fun r26 => some (.inl r26, h) else if x1 = 4 then (cgR h x0 0 2).bind fun v29 => (cgI h v29 2 6).bind fun v30 => some (.inl v30, h) else if x1 = 5 then (ckd h x0 0).bind fun u33 => (k_X1_taken n x0 h).bind fun r32 => some (.inl r32, h) else if x1 = 6 then (cgR h x0 0 2).bind fun v35 => (ckd h v35 2).bind fun u37 => (k_X3_lodging n v35 h).bind fun r36 => some (.inl r36, h) else if x1 = 7 then (cgR h x0 0 2).bind fun v39 => (ckd h v39 2).bind fun u41 => (k_X3_allBlisters n v39 h).bind fun r40 => some (.inl r40, h) else if x1 = 8 then (ckd h x0 0).bind fun u44 => (k_X1_tightest n x0 h).bind fun r43 => some (.inl r43, h) else if x1 = 9 then (ckd h x0 0).bind fun u47 => (k_X1_needed n g c x0 h).bind fun r46 => some (.inl r46.1, r46.2) else if x1 = 10 then (cgR h x0 0 8).bind fun v49 => (ckd h v49 10).bind fun u51 => (k_J2_size v49 h).bind fun r50 => some (.inl r50, h) else if x1 = 11 then (cgR h x0 0 9).bind fun v53 => (ckd h v53 10).bind fun u55 => (k_J2_size v53 h).bind fun r54 => some (.inl r54, h) else if x1 = 12 then (cgI h x0 0 5).bind fun v57 => some (.inl v57, h) else none
set_option maxHeartbeats 4000000 in
theorem T_X1_count {l : Launch} {E : XEnv}  {n : Nat} {g : Nat} {x0 : Nat} {x1 : Int32} {h : XH} {r : (Int32 ⊕ XX) × XH} (hl : k_X1_count n g E.2.2.2 x0 x1 h = some r) : CM l E mX1_count (5 * g + 12) [.ref x0, .int x1] h (xrI r.1) r.2 := by
  unfold k_X1_count at hl
  refine cm_of (by decide +kernel) rfl (Nat.le_of_ble_eq_true rfl) ?_
  refine cx_iload_n dX1_count_0 rfl ?_
  by_cases c12 : x1.toInt < 0 ∨ 12 < x1.toInt
  · rw [if_pos c12] at hl
    refine cx_tableOut (tgt := 164) dX1_count_1 c12 (by decide) ?_
    refine cx_iload_n dX1_count_164 rfl ?_
    refine cx_bipush (v := 13) dX1_count_165 (by decide) ?_
    refine cx_bipush (v := 15) dX1_count_167 (by decide) ?_
    obtain ⟨r1, er1, hl⟩ := xb hl
    refine cx_callS (T_X1_in er1) lS_X1_139 C_X1_in dX1_count_169 rfl (by omega) (Nat.le_of_ble_eq_true rfl) ?_
    obtain ⟨r3, er3, hl⟩ := xb hl
    rcases r3 with ⟨v5 | ⟨C8, q9⟩, h6⟩
    · dsimp only at hl
      refine cx_callS (T_X1_found er3) lS_X1_142 C_X1_found dX1_count_172 rfl (by omega) (Nat.le_of_ble_eq_true rfl) ?_
      refine cx_aload_n dX1_count_175 rfl rfl ?_
      obtain ⟨v10, ev10, hl⟩ := xb hl
      refine cx_getR gF_X1_46 dX1_count_176 ev10 ?_
      refine cx_iload_n dX1_count_179 rfl ?_
      refine cx_bipush (v := 13) dX1_count_180 (by decide) ?_
      refine cx_isub dX1_count_182 ?_
      obtain ⟨v11, ev11, hl⟩ := xb hl
      refine cx_iald dX1_count_183 ev11 ?_
      cases hl
      exact cx_iret dX1_count_184 rfl rfl rfl rfl
    · dsimp only at hl
      cases hl
      exact cx_callSx (T_X1_found er3) lS_X1_142 C_X1_found dX1_count_172 rfl (by omega) (Nat.le_of_ble_eq_true rfl) (ct_out rfl rfl (by decide))
  rw [if_neg c12] at hl
  by_cases k13 : x1 = 0
  · rw [if_pos k13] at hl
    refine cx_tableIn (off := 67) (tgt := 68) dX1_count_1 (by rw [k13]; decide) (by rw [k13]; decide) (by rw [k13]; rfl) (by decide) ?_
    refine cx_aload_n dX1_count_68 rfl rfl ?_
    obtain ⟨v14, ev14, hl⟩ := xb hl
    refine cx_getR gF_X1_22 dX1_count_69 ev14 ?_
    obtain ⟨u16, eu16, hl⟩ := xb hl
    obtain ⟨r15, er15, hl⟩ := xb hl
    refine cx_callV (Or.inl ⟨by decide, _, _, rfl⟩) (T_X2_houses er15) lV_X1_89 C_X2_houses dX1_count_72 eu16 (by decide) rfl (by omega) (Nat.le_of_ble_eq_true rfl) ?_
    cases hl
    exact cx_iret dX1_count_75 rfl rfl rfl rfl
  rw [if_neg k13] at hl
  by_cases k17 : x1 = 1
  · rw [if_pos k17] at hl
    refine cx_tableIn (off := 75) (tgt := 76) dX1_count_1 (by rw [k17]; decide) (by rw [k17]; decide) (by rw [k17]; rfl) (by decide) ?_
    refine cx_aload_n dX1_count_76 rfl rfl ?_
    obtain ⟨v18, ev18, hl⟩ := xb hl
    refine cx_getR gF_X1_22 dX1_count_77 ev18 ?_
    obtain ⟨u20, eu20, hl⟩ := xb hl
    obtain ⟨r19, er19, hl⟩ := xb hl
    refine cx_callV (Or.inl ⟨by decide, _, _, rfl⟩) (T_X2_people er19) lV_X1_104 C_X2_people dX1_count_80 eu20 (by decide) rfl (by omega) (Nat.le_of_ble_eq_true rfl) ?_
    cases hl
    exact cx_iret dX1_count_83 rfl rfl rfl rfl
  rw [if_neg k17] at hl
  by_cases k21 : x1 = 2
  · rw [if_pos k21] at hl
    refine cx_tableIn (off := 83) (tgt := 84) dX1_count_1 (by rw [k21]; decide) (by rw [k21]; decide) (by rw [k21]; rfl) (by decide) ?_
    refine cx_aload_n dX1_count_84 rfl rfl ?_
    obtain ⟨v22, ev22, hl⟩ := xb hl
    refine cx_getR gF_X1_31 dX1_count_85 ev22 ?_
    obtain ⟨v23, ev23, hl⟩ := xb hl
    refine cx_getI gF_X1_110 dX1_count_88 ev23 ?_
    cases hl
    exact cx_iret dX1_count_91 rfl rfl rfl rfl
  rw [if_neg k21] at hl
  by_cases k24 : x1 = 3
  · rw [if_pos k24] at hl
    refine cx_tableIn (off := 91) (tgt := 92) dX1_count_1 (by rw [k24]; decide) (by rw [k24]; decide) (by rw [k24]; rfl) (by decide) ?_
    refine cx_aload_n dX1_count_92 rfl rfl ?_
    obtain ⟨v25, ev25, hl⟩ := xb hl
    refine cx_getR gF_X1_31 dX1_count_93 ev25 ?_
    obtain ⟨u27, eu27, hl⟩ := xb hl
    obtain ⟨r26, er26, hl⟩ := xb hl
    refine cx_callV (Or.inl ⟨by decide, _, _, rfl⟩) (T_X3_damp er26) lV_X1_113 C_X3_damp dX1_count_96 eu27 (by decide) rfl (by omega) (Nat.le_of_ble_eq_true rfl) ?_
    cases hl
    exact cx_iret dX1_count_99 rfl rfl rfl rfl
  rw [if_neg k24] at hl
  by_cases k28 : x1 = 4
  · rw [if_pos k28] at hl
    refine cx_tableIn (off := 99) (tgt := 100) dX1_count_1 (by rw [k28]; decide) (by rw [k28]; decide) (by rw [k28]; rfl) (by decide) ?_
    refine cx_aload_n dX1_count_100 rfl rfl ?_
    obtain ⟨v29, ev29, hl⟩ := xb hl
    refine cx_getR gF_X1_31 dX1_count_101 ev29 ?_
    obtain ⟨v30, ev30, hl⟩ := xb hl
    refine cx_getI gF_X1_116 dX1_count_104 ev30 ?_
    cases hl
    exact cx_iret dX1_count_107 rfl rfl rfl rfl
  rw [if_neg k28] at hl
  by_cases k31 : x1 = 5
  · rw [if_pos k31] at hl
    refine cx_tableIn (off := 107) (tgt := 108) dX1_count_1 (by rw [k31]; decide) (by rw [k31]; decide) (by rw [k31]; rfl) (by decide) ?_
    refine cx_aload_n dX1_count_108 rfl rfl ?_
    obtain ⟨u33, eu33, hl⟩ := xb hl
    obtain ⟨r32, er32, hl⟩ := xb hl
    refine cx_callV (Or.inl ⟨by decide, _, _, rfl⟩) (T_X1_taken er32) lV_X1_119 C_X1_taken dX1_count_109 eu33 (by decide) rfl (by omega) (Nat.le_of_ble_eq_true rfl) ?_
    cases hl
    exact cx_iret dX1_count_112 rfl rfl rfl rfl
  rw [if_neg k31] at hl
  by_cases k34 : x1 = 6
  · rw [if_pos k34] at hl
    refine cx_tableIn (off := 112) (tgt := 113) dX1_count_1 (by rw [k34]; decide) (by rw [k34]; decide) (by rw [k34]; rfl) (by decide) ?_
    refine cx_aload_n dX1_count_113 rfl rfl ?_
    obtain ⟨v35, ev35, hl⟩ := xb hl
    refine cx_getR gF_X1_31 dX1_count_114 ev35 ?_
    obtain ⟨u37, eu37, hl⟩ := xb hl
    obtain ⟨r36, er36, hl⟩ := xb hl
    refine cx_callV (Or.inl ⟨by decide, _, _, rfl⟩) (T_X3_lodging er36) lV_X1_122 C_X3_lodging dX1_count_117 eu37 (by decide) rfl (by omega) (Nat.le_of_ble_eq_true rfl) ?_
    cases hl
    exact cx_iret dX1_count_120 rfl rfl rfl rfl
  rw [if_neg k34] at hl
  by_cases k38 : x1 = 7
  · rw [if_pos k38] at hl
    refine cx_tableIn (off := 120) (tgt := 121) dX1_count_1 (by rw [k38]; decide) (by rw [k38]; decide) (by rw [k38]; rfl) (by decide) ?_
    refine cx_aload_n dX1_count_121 rfl rfl ?_
    obtain ⟨v39, ev39, hl⟩ := xb hl
    refine cx_getR gF_X1_31 dX1_count_122 ev39 ?_
    obtain ⟨u41, eu41, hl⟩ := xb hl
    obtain ⟨r40, er40, hl⟩ := xb hl
    refine cx_callV (Or.inl ⟨by decide, _, _, rfl⟩) (T_X3_allBlisters er40) lV_X1_125 C_X3_allBlisters dX1_count_125 eu41 (by decide) rfl (by omega) (Nat.le_of_ble_eq_true rfl) ?_
    cases hl
    exact cx_iret dX1_count_128 rfl rfl rfl rfl
  rw [if_neg k38] at hl
  by_cases k42 : x1 = 8
  · rw [if_pos k42] at hl
    refine cx_tableIn (off := 128) (tgt := 129) dX1_count_1 (by rw [k42]; decide) (by rw [k42]; decide) (by rw [k42]; rfl) (by decide) ?_
    refine cx_aload_n dX1_count_129 rfl rfl ?_
    obtain ⟨u44, eu44, hl⟩ := xb hl
    obtain ⟨r43, er43, hl⟩ := xb hl
    refine cx_callV (Or.inl ⟨by decide, _, _, rfl⟩) (T_X1_tightest er43) lV_X1_128 C_X1_tightest dX1_count_130 eu44 (by decide) rfl (by omega) (Nat.le_of_ble_eq_true rfl) ?_
    cases hl
    exact cx_iret dX1_count_133 rfl rfl rfl rfl
  rw [if_neg k42] at hl
  by_cases k45 : x1 = 9
  · rw [if_pos k45] at hl
    refine cx_tableIn (off := 133) (tgt := 134) dX1_count_1 (by rw [k45]; decide) (by rw [k45]; decide) (by rw [k45]; rfl) (by decide) ?_
    refine cx_aload_n dX1_count_134 rfl rfl ?_
    obtain ⟨u47, eu47, hl⟩ := xb hl
    obtain ⟨r46, er46, hl⟩ := xb hl
    refine cx_callV (Or.inl ⟨by decide, _, _, rfl⟩) (T_X1_needed er46) lV_X1_131 C_X1_needed dX1_count_135 eu47 (by decide) rfl (by omega) (Nat.le_of_ble_eq_true rfl) ?_
    cases hl
    exact cx_iret dX1_count_138 rfl rfl rfl rfl
  rw [if_neg k45] at hl
  by_cases k48 : x1 = 10
  · rw [if_pos k48] at hl
    refine cx_tableIn (off := 138) (tgt := 139) dX1_count_1 (by rw [k48]; decide) (by rw [k48]; decide) (by rw [k48]; rfl) (by decide) ?_
    refine cx_aload_n dX1_count_139 rfl rfl ?_
    obtain ⟨v49, ev49, hl⟩ := xb hl
    refine cx_getR gF_X1_52 dX1_count_140 ev49 ?_
    obtain ⟨u51, eu51, hl⟩ := xb hl
    obtain ⟨r50, er50, hl⟩ := xb hl
    refine cx_callF (ci := 10) (by decide) rfl (T_J2_size er50) lF_X1_134 C_J2_size dX1_count_143 eu51 rfl (by omega) (Nat.le_of_ble_eq_true rfl) ?_
    cases hl
    exact cx_iret dX1_count_148 rfl rfl rfl rfl
  rw [if_neg k48] at hl
  by_cases k52 : x1 = 11
  · rw [if_pos k52] at hl
    refine cx_tableIn (off := 148) (tgt := 149) dX1_count_1 (by rw [k52]; decide) (by rw [k52]; decide) (by rw [k52]; rfl) (by decide) ?_
    refine cx_aload_n dX1_count_149 rfl rfl ?_
    obtain ⟨v53, ev53, hl⟩ := xb hl
    refine cx_getR gF_X1_56 dX1_count_150 ev53 ?_
    obtain ⟨u55, eu55, hl⟩ := xb hl
    obtain ⟨r54, er54, hl⟩ := xb hl
    refine cx_callF (ci := 10) (by decide) rfl (T_J2_size er54) lF_X1_134 C_J2_size dX1_count_153 eu55 rfl (by omega) (Nat.le_of_ble_eq_true rfl) ?_
    cases hl
    exact cx_iret dX1_count_158 rfl rfl rfl rfl
  rw [if_neg k52] at hl
  by_cases k56 : x1 = 12
  · rw [if_pos k56] at hl
    refine cx_tableIn (off := 158) (tgt := 159) dX1_count_1 (by rw [k56]; decide) (by rw [k56]; decide) (by rw [k56]; rfl) (by decide) ?_
    refine cx_aload_n dX1_count_159 rfl rfl ?_
    obtain ⟨v57, ev57, hl⟩ := xb hl
    refine cx_getI gF_X1_59 dX1_count_160 ev57 ?_
    cases hl
    exact cx_iret dX1_count_163 rfl rfl rfl rfl
  rw [if_neg k56] at hl
  cases hl
def k_X1_aHouse (x0 : Nat) (x1 : Int32) (h : XH) : Option ((Unit ⊕ XX) × XH) := (cgR h x0 0 1).bind fun v1 => (ckd h v1 1).bind fun u3 => (k_X2_houses v1 h).bind fun r2 => (k_X1_in x1 0 (r2 - 1) h).bind fun r4 => (k_X1_found r4 h).bind fun r6 => match r6 with | (.inl v8, h9) => (some (.inl (), h9)) | (.inr e10, h9) => (some (.inr e10, h9))
set_option maxHeartbeats 4000000 in
theorem T_X1_aHouse {l : Launch} {E : XEnv}  {x0 : Nat} {x1 : Int32} {h : XH} {r : (Unit ⊕ XX) × XH} (hl : k_X1_aHouse x0 x1 h = some r) : CM l E mX1_aHouse 9 [.ref x0, .int x1] h (xrU r.1) r.2 := by
  unfold k_X1_aHouse at hl
  refine cm_of (by decide +kernel) rfl (Nat.le_of_ble_eq_true rfl) ?_
  refine cx_iload_n dX1_aHouse_0 rfl ?_
  refine cx_iconst (v := 0) dX1_aHouse_1 rfl ?_
  refine cx_aload_n dX1_aHouse_2 rfl rfl ?_
  obtain ⟨v1, ev1, hl⟩ := xb hl
  refine cx_getR gF_X1_22 dX1_aHouse_3 ev1 ?_
  obtain ⟨u3, eu3, hl⟩ := xb hl
  obtain ⟨r2, er2, hl⟩ := xb hl
  refine cx_callV (Or.inl ⟨by decide, _, _, rfl⟩) (T_X2_houses er2) lV_X1_89 C_X2_houses dX1_aHouse_6 eu3 (by decide) rfl (by omega) (Nat.le_of_ble_eq_true rfl) ?_
  refine cx_iconst (v := 1) dX1_aHouse_9 rfl ?_
  refine cx_isub dX1_aHouse_10 ?_
  obtain ⟨r4, er4, hl⟩ := xb hl
  refine cx_callS (T_X1_in er4) lS_X1_139 C_X1_in dX1_aHouse_11 rfl (by omega) (Nat.le_of_ble_eq_true rfl) ?_
  obtain ⟨r6, er6, hl⟩ := xb hl
  rcases r6 with ⟨v8 | ⟨C11, q12⟩, h9⟩
  · dsimp only at hl
    refine cx_callS (T_X1_found er6) lS_X1_142 C_X1_found dX1_aHouse_14 rfl (by omega) (Nat.le_of_ble_eq_true rfl) ?_
    cases hl
    exact cx_vret dX1_aHouse_17 rfl rfl rfl
  · dsimp only at hl
    cases hl
    exact cx_callSx (T_X1_found er6) lS_X1_142 C_X1_found dX1_aHouse_14 rfl (by omega) (Nat.le_of_ble_eq_true rfl) (ct_out rfl rfl (by decide))
def k_X1_room (n : Nat) (x0 : Nat) (x1 : Int32) (h : XH) : Option (Int32) := (cgR h x0 0 2).bind fun v1 => (ckd h v1 2).bind fun u3 => (k_X3_in n v1 x1 h).bind fun r2 => if r2 = (-1) then some 0 else (cgR h x0 0 2).bind fun v5 => (cgR h v5 2 0).bind fun v6 => (caI h v6 100 x1).bind fun v7 => (cgR h x0 0 2).bind fun v8 => (cgR h v8 2 2).bind fun v9 => (caI h v9 100 r2).bind fun v10 => some (imax 0 (v7 - v10))
set_option maxHeartbeats 4000000 in
theorem T_X1_room {l : Launch} {E : XEnv}  {n : Nat} {x0 : Nat} {x1 : Int32} {h : XH} {r : Int32} (hl : k_X1_room n x0 x1 h = some r) : CM l E mX1_room 4 [.ref x0, .int x1] h (.inl (some (.int r))) h := by
  unfold k_X1_room at hl
  refine cm_of (by decide +kernel) rfl (Nat.le_of_ble_eq_true rfl) ?_
  refine cx_aload_n dX1_room_0 rfl rfl ?_
  obtain ⟨v1, ev1, hl⟩ := xb hl
  refine cx_getR gF_X1_31 dX1_room_1 ev1 ?_
  refine cx_iload_n dX1_room_4 rfl ?_
  obtain ⟨u3, eu3, hl⟩ := xb hl
  obtain ⟨r2, er2, hl⟩ := xb hl
  refine cx_callV (Or.inl ⟨by decide, _, _, rfl⟩) (T_X3_in er2) lV_X1_93 C_X3_in dX1_room_5 eu3 (by decide) rfl (by omega) (Nat.le_of_ble_eq_true rfl) ?_
  refine cx_istore_n dX1_room_8 (by decide) ?_
  refine cx_iload_n dX1_room_9 rfl ?_
  refine cx_iconst (v := (-1)) dX1_room_10 rfl ?_
  by_cases c4 : r2 = (-1)
  · rw [if_pos c4] at hl
    refine cx_icmp_ne (X := True) (tgt := 18) dX1_room_11 (by decide) (fun z => absurd c4 z) (fun _ => ?_)
    refine cx_iconst (v := 0) dX1_room_14 rfl ?_
    refine cx_goto (tgt := 41) dX1_room_15 (by decide) ?_
    cases hl
    exact cx_iret dX1_room_41 rfl rfl rfl rfl
  · rw [if_neg c4] at hl
    refine cx_icmp_ne (X := True) (tgt := 18) dX1_room_11 (by decide) (fun _ => ?_) (fun z => absurd z c4)
    refine cx_iconst (v := 0) dX1_room_18 rfl ?_
    refine cx_aload_n dX1_room_19 rfl rfl ?_
    obtain ⟨v5, ev5, hl⟩ := xb hl
    refine cx_getR gF_X1_31 dX1_room_20 ev5 ?_
    obtain ⟨v6, ev6, hl⟩ := xb hl
    refine cx_getR gF_X1_165 dX1_room_23 ev6 ?_
    refine cx_iload_n dX1_room_26 rfl ?_
    obtain ⟨v7, ev7, hl⟩ := xb hl
    refine cx_iald dX1_room_27 ev7 ?_
    refine cx_aload_n dX1_room_28 rfl rfl ?_
    obtain ⟨v8, ev8, hl⟩ := xb hl
    refine cx_getR gF_X1_31 dX1_room_29 ev8 ?_
    obtain ⟨v9, ev9, hl⟩ := xb hl
    refine cx_getR gF_X1_167 dX1_room_32 ev9 ?_
    refine cx_iload_n dX1_room_35 rfl ?_
    obtain ⟨v10, ev10, hl⟩ := xb hl
    refine cx_iald dX1_room_36 ev10 ?_
    refine cx_isub dX1_room_37 ?_
    refine cx_mmax q1277 dX1_room_38 (by omega) (Nat.le_of_ble_eq_true rfl) ?_
    cases hl
    exact cx_iret dX1_room_41 rfl rfl rfl rfl
def k_X1_far (x0 : Nat) (x1 : Int32) (x2 : Int32) (h : XH) : Option (Int32) := (cgR h x0 0 1).bind fun v1 => (cgR h v1 1 1).bind fun v2 => (ckd h v2 10).bind fun u4 => (k_J2_get v2 x1 h).bind fun r3 => (ckd h r3 11).bind fun u5 => (ckd h r3 11).bind fun u7 => (k_J14_intValue r3 h).bind fun r6 => (cgR h x0 0 1).bind fun v8 => (cgR h v8 1 1).bind fun v9 => (ckd h v9 10).bind fun u11 => (k_J2_get v9 x2 h).bind fun r10 => (ckd h r10 11).bind fun u12 => (ckd h r10 11).bind fun u14 => (k_J14_intValue r10 h).bind fun r13 => some (iabs (r6 - r13))
set_option maxHeartbeats 4000000 in
theorem T_X1_far {l : Launch} {E : XEnv}  {x0 : Nat} {x1 : Int32} {x2 : Int32} {h : XH} {r : Int32} (hl : k_X1_far x0 x1 x2 h = some r) : CM l E mX1_far 4 [.ref x0, .int x1, .int x2] h (.inl (some (.int r))) h := by
  unfold k_X1_far at hl
  refine cm_of (by decide +kernel) rfl (Nat.le_of_ble_eq_true rfl) ?_
  refine cx_aload_n dX1_far_0 rfl rfl ?_
  obtain ⟨v1, ev1, hl⟩ := xb hl
  refine cx_getR gF_X1_22 dX1_far_1 ev1 ?_
  obtain ⟨v2, ev2, hl⟩ := xb hl
  refine cx_getR gF_X1_145 dX1_far_4 ev2 ?_
  refine cx_iload_n dX1_far_7 rfl ?_
  obtain ⟨u4, eu4, hl⟩ := xb hl
  obtain ⟨r3, er3, hl⟩ := xb hl
  refine cx_callF (ci := 10) (by decide) rfl (T_J2_get er3) lF_X1_148 C_J2_get dX1_far_8 eu4 rfl (by omega) (Nat.le_of_ble_eq_true rfl) ?_
  obtain ⟨u5, eu5, hl⟩ := xb hl
  refine cx_castO xC_X1_152_11 dX1_far_13 (by decide) eu5 ?_
  obtain ⟨u7, eu7, hl⟩ := xb hl
  obtain ⟨r6, er6, hl⟩ := xb hl
  refine cx_callV (Or.inl ⟨by decide, _, _, rfl⟩) (T_J14_intValue er6) lV_X1_154 C_J14_intValue dX1_far_16 eu7 (by decide) rfl (by omega) (Nat.le_of_ble_eq_true rfl) ?_
  refine cx_aload_n dX1_far_19 rfl rfl ?_
  obtain ⟨v8, ev8, hl⟩ := xb hl
  refine cx_getR gF_X1_22 dX1_far_20 ev8 ?_
  obtain ⟨v9, ev9, hl⟩ := xb hl
  refine cx_getR gF_X1_145 dX1_far_23 ev9 ?_
  refine cx_iload_n dX1_far_26 rfl ?_
  obtain ⟨u11, eu11, hl⟩ := xb hl
  obtain ⟨r10, er10, hl⟩ := xb hl
  refine cx_callF (ci := 10) (by decide) rfl (T_J2_get er10) lF_X1_148 C_J2_get dX1_far_27 eu11 rfl (by omega) (Nat.le_of_ble_eq_true rfl) ?_
  obtain ⟨u12, eu12, hl⟩ := xb hl
  refine cx_castO xC_X1_152_11 dX1_far_32 (by decide) eu12 ?_
  obtain ⟨u14, eu14, hl⟩ := xb hl
  obtain ⟨r13, er13, hl⟩ := xb hl
  refine cx_callV (Or.inl ⟨by decide, _, _, rfl⟩) (T_J14_intValue er13) lV_X1_154 C_J14_intValue dX1_far_35 eu14 (by decide) rfl (by omega) (Nat.le_of_ble_eq_true rfl) ?_
  refine cx_isub dX1_far_38 ?_
  refine cx_mabs q1286 dX1_far_39 (by omega) (Nat.le_of_ble_eq_true rfl) ?_
  cases hl
  exact cx_iret dX1_far_42 rfl rfl rfl rfl
def k_X1_nextDoor_L4 (n : Nat) (x0 : Nat) (x1 : Int32) (x2 : Int32) (x3 : Int32) (h : XH) : Option ((Int32 × Int32) ⊕ ((Int32))) := (cgR h x0 0 1).bind fun v1 => (ckd h v1 1).bind fun u3 => (k_X2_houses v1 h).bind fun r2 => if x3 ≥ r2 then some (.inr x2) else if x3 = x1 then (some (x3 + 1)).bind fun w6 => some (.inl (x2, w6)) else if x2 = (-1) then (some (x3 + 1)).bind fun w8 => some (.inl (x3, w8)) else (ckd h x0 0).bind fun u10 => (k_X1_far x0 x3 x1 h).bind fun r9 => (ckd h x0 0).bind fun u12 => (k_X1_far x0 x2 x1 h).bind fun r11 => if r9 ≥ r11 then (some (x3 + 1)).bind fun w14 => some (.inl (x2, w14)) else (some (x3 + 1)).bind fun w15 => some (.inl (x3, w15))
abbrev K_X1_nextDoor_L4 (l : Launch) (E : XEnv) (hf : XH) (res : XO) (h : XH) (x0 : Nat) (x1 : Int32) (o : (Int32)) : Prop := match o with
  | e => CX l E mX1_nextDoor 5 48 [(2, .int e)] [] h hf res
def k_X1_nextDoor (n : Nat) (x0 : Nat) (x1 : Int32) (h : XH) : Option (Int32) := (xloop (fun s => k_X1_nextDoor_L4 n x0 x1 s.1 s.2 h) n ((-1), 0)).bind fun o16 => some o16
set_option maxHeartbeats 4000000 in
theorem k_X1_nextDoor_L4_s {l : Launch} {E : XEnv} {hf : XH} {res : XO} {n : Nat} {x0 : Nat} {x1 : Int32} {x2 : Int32} {x3 : Int32} {h : XH} {o : (Int32 × Int32) ⊕ ((Int32))} (hl : k_X1_nextDoor_L4 n x0 x1 x2 x3 h = some o) (hK : (xk (fun s : Int32 × Int32 => CX l E mX1_nextDoor 5 4 [(0, .ref x0), (1, .int x1), (2, .int s.1), (3, .int s.2)] [] h hf res) (fun r => K_X1_nextDoor_L4 l E hf res h x0 x1 r) o)) : CX l E mX1_nextDoor 5 4 [(0, .ref x0), (1, .int x1), (2, .int x2), (3, .int x3)] [] h hf res := by
  unfold k_X1_nextDoor_L4 at hl
  refine cx_iload_n dX1_nextDoor_4 rfl ?_
  refine cx_aload_n dX1_nextDoor_5 rfl rfl ?_
  obtain ⟨v1, ev1, hl⟩ := xb hl
  refine cx_getR gF_X1_22 dX1_nextDoor_6 ev1 ?_
  obtain ⟨u3, eu3, hl⟩ := xb hl
  obtain ⟨r2, er2, hl⟩ := xb hl
  refine cx_callV (Or.inl ⟨by decide, _, _, rfl⟩) (T_X2_houses er2) lV_X1_89 C_X2_houses dX1_nextDoor_9 eu3 (by decide) rfl (by omega) (Nat.le_of_ble_eq_true rfl) ?_
  by_cases c4 : x3 ≥ r2
  · rw [if_pos c4] at hl
    refine cx_icmp_ge (X := True) (tgt := 48) dX1_nextDoor_12 (by decide) (fun _ => ?_) (fun z => absurd c4 z)
    cases hl
    exact cx_lsK hK ⟨rfl, trivial⟩
  · rw [if_neg c4] at hl
    refine cx_icmp_ge (X := True) (tgt := 48) dX1_nextDoor_12 (by decide) (fun z => absurd z c4) (fun _ => ?_)
    refine cx_iload_n dX1_nextDoor_15 rfl ?_
    refine cx_iload_n dX1_nextDoor_16 rfl ?_
    by_cases c5 : x3 = x1
    · rw [if_pos c5] at hl
      refine cx_icmp_eq (X := True) (tgt := 42) dX1_nextDoor_17 (by decide) (fun _ => ?_) (fun z => absurd c5 z)
      obtain ⟨w6, ew6, hl⟩ := xb hl
      refine cx_iinc dX1_nextDoor_42 rfl (by decide) (Option.some.inj ew6) ?_
      refine cx_goto (tgt := 4) dX1_nextDoor_45 (by decide) ?_
      cases hl
      exact cx_lsK hK ⟨rfl, rfl, rfl, rfl, trivial⟩
    · rw [if_neg c5] at hl
      refine cx_icmp_eq (X := True) (tgt := 42) dX1_nextDoor_17 (by decide) (fun z => absurd z c5) (fun _ => ?_)
      refine cx_iload_n dX1_nextDoor_20 rfl ?_
      refine cx_iconst (v := (-1)) dX1_nextDoor_21 rfl ?_
      by_cases c7 : x2 = (-1)
      · rw [if_pos c7] at hl
        refine cx_icmp_eq (X := True) (tgt := 40) dX1_nextDoor_22 (by decide) (fun _ => ?_) (fun z => absurd c7 z)
        refine cx_iload_n dX1_nextDoor_40 rfl ?_
        refine cx_istore_n dX1_nextDoor_41 (by decide) ?_
        obtain ⟨w8, ew8, hl⟩ := xb hl
        refine cx_iinc dX1_nextDoor_42 rfl (by decide) (Option.some.inj ew8) ?_
        refine cx_goto (tgt := 4) dX1_nextDoor_45 (by decide) ?_
        cases hl
        exact cx_lsK hK ⟨rfl, rfl, rfl, rfl, trivial⟩
      · rw [if_neg c7] at hl
        refine cx_icmp_eq (X := True) (tgt := 40) dX1_nextDoor_22 (by decide) (fun z => absurd z c7) (fun _ => ?_)
        refine cx_aload_n dX1_nextDoor_25 rfl rfl ?_
        refine cx_iload_n dX1_nextDoor_26 rfl ?_
        refine cx_iload_n dX1_nextDoor_27 rfl ?_
        obtain ⟨u10, eu10, hl⟩ := xb hl
        obtain ⟨r9, er9, hl⟩ := xb hl
        refine cx_callV (Or.inl ⟨by decide, _, _, rfl⟩) (T_X1_far er9) lV_X1_162 C_X1_far dX1_nextDoor_28 eu10 (by decide) rfl (by omega) (Nat.le_of_ble_eq_true rfl) ?_
        refine cx_aload_n dX1_nextDoor_31 rfl rfl ?_
        refine cx_iload_n dX1_nextDoor_32 rfl ?_
        refine cx_iload_n dX1_nextDoor_33 rfl ?_
        obtain ⟨u12, eu12, hl⟩ := xb hl
        obtain ⟨r11, er11, hl⟩ := xb hl
        refine cx_callV (Or.inl ⟨by decide, _, _, rfl⟩) (T_X1_far er11) lV_X1_162 C_X1_far dX1_nextDoor_34 eu12 (by decide) rfl (by omega) (Nat.le_of_ble_eq_true rfl) ?_
        by_cases c13 : r9 ≥ r11
        · rw [if_pos c13] at hl
          refine cx_icmp_ge (X := True) (tgt := 42) dX1_nextDoor_37 (by decide) (fun _ => ?_) (fun z => absurd c13 z)
          obtain ⟨w14, ew14, hl⟩ := xb hl
          refine cx_iinc dX1_nextDoor_42 rfl (by decide) (Option.some.inj ew14) ?_
          refine cx_goto (tgt := 4) dX1_nextDoor_45 (by decide) ?_
          cases hl
          exact cx_lsK hK ⟨rfl, rfl, rfl, rfl, trivial⟩
        · rw [if_neg c13] at hl
          refine cx_icmp_ge (X := True) (tgt := 42) dX1_nextDoor_37 (by decide) (fun z => absurd z c13) (fun _ => ?_)
          refine cx_iload_n dX1_nextDoor_40 rfl ?_
          refine cx_istore_n dX1_nextDoor_41 (by decide) ?_
          obtain ⟨w15, ew15, hl⟩ := xb hl
          refine cx_iinc dX1_nextDoor_42 rfl (by decide) (Option.some.inj ew15) ?_
          refine cx_goto (tgt := 4) dX1_nextDoor_45 (by decide) ?_
          cases hl
          exact cx_lsK hK ⟨rfl, rfl, rfl, rfl, trivial⟩
set_option maxHeartbeats 4000000 in
theorem k_X1_nextDoor_L4_ok {l : Launch} {E : XEnv} {hf : XH} {res : XO} {n : Nat} {x0 : Nat} {x1 : Int32} {h : XH} {s : Int32 × Int32} {o : (Int32)} (hl : xloop (fun s => k_X1_nextDoor_L4 n x0 x1 s.1 s.2 h) n s = some o) (hK : K_X1_nextDoor_L4 l E hf res h x0 x1 o) : CX l E mX1_nextDoor 5 4 [(0, .ref x0), (1, .int x1), (2, .int s.1), (3, .int s.2)] [] h hf res :=
  xloop_of (fun s : Int32 × Int32 => CX l E mX1_nextDoor 5 4 [(0, .ref x0), (1, .int x1), (2, .int s.1), (3, .int s.2)] [] h hf res) (fun r => K_X1_nextDoor_L4 l E hf res h x0 x1 r) (fun s o hl hk => k_X1_nextDoor_L4_s (h := h) (o := o) hl hk) n s o hl hK
set_option maxHeartbeats 4000000 in
theorem T_X1_nextDoor {l : Launch} {E : XEnv}  {n : Nat} {x0 : Nat} {x1 : Int32} {h : XH} {r : Int32} (hl : k_X1_nextDoor n x0 x1 h = some r) : CM l E mX1_nextDoor 5 [.ref x0, .int x1] h (.inl (some (.int r))) h := by
  unfold k_X1_nextDoor at hl
  refine cm_of (by decide +kernel) rfl (Nat.le_of_ble_eq_true rfl) ?_
  refine cx_iconst (v := (-1)) dX1_nextDoor_0 rfl ?_
  refine cx_istore_n dX1_nextDoor_1 (by decide) ?_
  refine cx_iconst (v := 0) dX1_nextDoor_2 rfl ?_
  refine cx_istore_n dX1_nextDoor_3 (by decide) ?_
  obtain ⟨o16, eo16, hl⟩ := xb hl
  refine cx_lsK (k_X1_nextDoor_L4_ok (h := h) (s := ((-1), 0)) eo16 ?_) ⟨rfl, rfl, rfl, rfl, trivial⟩
  refine cx_iload_n dX1_nextDoor_48 rfl ?_
  cases hl
  exact cx_iret dX1_nextDoor_49 rfl rfl rfl rfl
def k_X1_house (n : Nat) (x0 : Nat) (x1 : Int32) (x2 : Int32) (h : XH) : Option ((Int32 ⊕ XX) × XH) := (ckd h x0 0).bind fun u2 => (k_X1_aHouse x0 x1 h).bind fun r1 => match r1 with | (.inl v3, h4) => (if x2.toInt < 0 ∨ 6 < x2.toInt then if x2 = 7 then (k_X1_found 1 h4).bind fun r18 => match r18 with | (.inl v20, h21) => ((ckd h21 x0 0).bind fun u26 => (k_X1_nextDoor n x0 x1 h21).bind fun r25 => some (.inl r25, h21)) | (.inr e22, h21) => (some (.inr e22, h21)) else (k_X1_found 0 h4).bind fun r9 => match r9 with | (.inl v11, h12) => ((ckd h12 x0 0).bind fun u17 => (k_X1_nextDoor n x0 x1 h12).bind fun r16 => some (.inl r16, h12)) | (.inr e13, h12) => (some (.inr e13, h12)) else if x2 = 0 then (cgR h4 x0 0 2).bind fun v29 => (cgR h4 v29 2 0).bind fun v30 => (caI h4 v30 100 x1).bind fun v31 => some (.inl v31, h4) else if x2 = 1 then (cgR h4 x0 0 1).bind fun v33 => (cgR h4 v33 1 0).bind fun v34 => (ckd h4 v34 10).bind fun u36 => (k_J2_get v34 x1 h4).bind fun r35 => (ckd h4 r35 11).bind fun u37 => (ckd h4 r35 11).bind fun u39 => (k_J14_intValue r35 h4).bind fun r38 => some (.inl r38, h4) else if x2 = 2 then (cgR h4 x0 0 1).bind fun v41 => (cgR h4 v41 1 1).bind fun v42 => (ckd h4 v42 10).bind fun u44 => (k_J2_get v42 x1 h4).bind fun r43 => (ckd h4 r43 11).bind fun u45 => (ckd h4 r43 11).bind fun u47 => (k_J14_intValue r43 h4).bind fun r46 => some (.inl r46, h4) else if x2 = 3 then (cgR h4 x0 0 2).bind fun v49 => (cgR h4 v49 2 1).bind fun v50 => (caI h4 v50 100 x1).bind fun v51 => some (.inl v51, h4) else if x2 = 4 then (cgR h4 x0 0 2).bind fun v53 => (ckd h4 v53 2).bind fun u55 => (k_X3_in n v53 x1 h4).bind fun r54 => some (.inl r54, h4) else if x2 = 5 then (cgR h4 x0 0 2).bind fun v57 => (cgI h4 v57 2 6).bind fun v58 => (k_X1_isOf v58 x1 h4).bind fun r59 => if r59 = 0 then some (.inl 0, h4) else some (.inl 1, h4) else if x2 = 6 then (ckd h4 x0 0).bind fun u64 => (k_X1_room n x0 x1 h4).bind fun r63 => some (.inl r63, h4) else none) | (.inr e5, h4) => (some (.inr e5, h4))
set_option maxHeartbeats 4000000 in
theorem T_X1_house {l : Launch} {E : XEnv}  {n : Nat} {x0 : Nat} {x1 : Int32} {x2 : Int32} {h : XH} {r : (Int32 ⊕ XX) × XH} (hl : k_X1_house n x0 x1 x2 h = some r) : CM l E mX1_house 10 [.ref x0, .int x1, .int x2] h (xrI r.1) r.2 := by
  unfold k_X1_house at hl
  refine cm_of (by decide +kernel) rfl (Nat.le_of_ble_eq_true rfl) ?_
  refine cx_aload_n dX1_house_0 rfl rfl ?_
  refine cx_iload_n dX1_house_1 rfl ?_
  obtain ⟨u2, eu2, hl⟩ := xb hl
  obtain ⟨r1, er1, hl⟩ := xb hl
  rcases r1 with ⟨v3 | ⟨C6, q7⟩, h4⟩
  · dsimp only at hl
    refine cx_callV (Or.inl ⟨by decide, _, _, rfl⟩) (T_X1_aHouse er1) lV_X1_173 C_X1_aHouse dX1_house_2 eu2 (by decide) rfl (by omega) (Nat.le_of_ble_eq_true rfl) ?_
    refine cx_iload_n dX1_house_5 rfl ?_
    by_cases c27 : x2.toInt < 0 ∨ 6 < x2.toInt
    · rw [if_pos c27] at hl
      refine cx_tableOut (tgt := 143) dX1_house_6 c27 (by decide) ?_
      refine cx_iload_n dX1_house_143 rfl ?_
      refine cx_bipush (v := 7) dX1_house_144 (by decide) ?_
      by_cases c8 : x2 = 7
      · rw [if_pos c8] at hl
        refine cx_icmp_ne (X := True) (tgt := 153) dX1_house_146 (by decide) (fun z => absurd c8 z) (fun _ => ?_)
        refine cx_iconst (v := 1) dX1_house_149 rfl ?_
        refine cx_goto (tgt := 154) dX1_house_150 (by decide) ?_
        obtain ⟨r18, er18, hl⟩ := xb hl
        rcases r18 with ⟨v20 | ⟨C23, q24⟩, h21⟩
        · dsimp only at hl
          refine cx_callS (T_X1_found er18) lS_X1_142 C_X1_found dX1_house_154 rfl (by omega) (Nat.le_of_ble_eq_true rfl) ?_
          refine cx_aload_n dX1_house_157 rfl rfl ?_
          refine cx_iload_n dX1_house_158 rfl ?_
          obtain ⟨u26, eu26, hl⟩ := xb hl
          obtain ⟨r25, er25, hl⟩ := xb hl
          refine cx_callV (Or.inl ⟨by decide, _, _, rfl⟩) (T_X1_nextDoor er25) lV_X1_190 C_X1_nextDoor dX1_house_159 eu26 (by decide) rfl (by omega) (Nat.le_of_ble_eq_true rfl) ?_
          cases hl
          exact cx_iret dX1_house_162 rfl rfl rfl rfl
        · dsimp only at hl
          cases hl
          exact cx_callSx (T_X1_found er18) lS_X1_142 C_X1_found dX1_house_154 rfl (by omega) (Nat.le_of_ble_eq_true rfl) (ct_out rfl rfl (by decide))
      · rw [if_neg c8] at hl
        refine cx_icmp_ne (X := True) (tgt := 153) dX1_house_146 (by decide) (fun _ => ?_) (fun z => absurd z c8)
        refine cx_iconst (v := 0) dX1_house_153 rfl ?_
        obtain ⟨r9, er9, hl⟩ := xb hl
        rcases r9 with ⟨v11 | ⟨C14, q15⟩, h12⟩
        · dsimp only at hl
          refine cx_callS (T_X1_found er9) lS_X1_142 C_X1_found dX1_house_154 rfl (by omega) (Nat.le_of_ble_eq_true rfl) ?_
          refine cx_aload_n dX1_house_157 rfl rfl ?_
          refine cx_iload_n dX1_house_158 rfl ?_
          obtain ⟨u17, eu17, hl⟩ := xb hl
          obtain ⟨r16, er16, hl⟩ := xb hl
          refine cx_callV (Or.inl ⟨by decide, _, _, rfl⟩) (T_X1_nextDoor er16) lV_X1_190 C_X1_nextDoor dX1_house_159 eu17 (by decide) rfl (by omega) (Nat.le_of_ble_eq_true rfl) ?_
          cases hl
          exact cx_iret dX1_house_162 rfl rfl rfl rfl
        · dsimp only at hl
          cases hl
          exact cx_callSx (T_X1_found er9) lS_X1_142 C_X1_found dX1_house_154 rfl (by omega) (Nat.le_of_ble_eq_true rfl) (ct_out rfl rfl (by decide))
    rw [if_neg c27] at hl
    by_cases k28 : x2 = 0
    · rw [if_pos k28] at hl
      refine cx_tableIn (off := 42) (tgt := 48) dX1_house_6 (by rw [k28]; decide) (by rw [k28]; decide) (by rw [k28]; rfl) (by decide) ?_
      refine cx_aload_n dX1_house_48 rfl rfl ?_
      obtain ⟨v29, ev29, hl⟩ := xb hl
      refine cx_getR gF_X1_31 dX1_house_49 ev29 ?_
      obtain ⟨v30, ev30, hl⟩ := xb hl
      refine cx_getR gF_X1_165 dX1_house_52 ev30 ?_
      refine cx_iload_n dX1_house_55 rfl ?_
      obtain ⟨v31, ev31, hl⟩ := xb hl
      refine cx_iald dX1_house_56 ev31 ?_
      cases hl
      exact cx_iret dX1_house_57 rfl rfl rfl rfl
    rw [if_neg k28] at hl
    by_cases k32 : x2 = 1
    · rw [if_pos k32] at hl
      refine cx_tableIn (off := 52) (tgt := 58) dX1_house_6 (by rw [k32]; decide) (by rw [k32]; decide) (by rw [k32]; rfl) (by decide) ?_
      refine cx_aload_n dX1_house_58 rfl rfl ?_
      obtain ⟨v33, ev33, hl⟩ := xb hl
      refine cx_getR gF_X1_22 dX1_house_59 ev33 ?_
      obtain ⟨v34, ev34, hl⟩ := xb hl
      refine cx_getR gF_X1_177 dX1_house_62 ev34 ?_
      refine cx_iload_n dX1_house_65 rfl ?_
      obtain ⟨u36, eu36, hl⟩ := xb hl
      obtain ⟨r35, er35, hl⟩ := xb hl
      refine cx_callF (ci := 10) (by decide) rfl (T_J2_get er35) lF_X1_148 C_J2_get dX1_house_66 eu36 rfl (by omega) (Nat.le_of_ble_eq_true rfl) ?_
      obtain ⟨u37, eu37, hl⟩ := xb hl
      refine cx_castO xC_X1_152_11 dX1_house_71 (by decide) eu37 ?_
      obtain ⟨u39, eu39, hl⟩ := xb hl
      obtain ⟨r38, er38, hl⟩ := xb hl
      refine cx_callV (Or.inl ⟨by decide, _, _, rfl⟩) (T_J14_intValue er38) lV_X1_154 C_J14_intValue dX1_house_74 eu39 (by decide) rfl (by omega) (Nat.le_of_ble_eq_true rfl) ?_
      cases hl
      exact cx_iret dX1_house_77 rfl rfl rfl rfl
    rw [if_neg k32] at hl
    by_cases k40 : x2 = 2
    · rw [if_pos k40] at hl
      refine cx_tableIn (off := 72) (tgt := 78) dX1_house_6 (by rw [k40]; decide) (by rw [k40]; decide) (by rw [k40]; rfl) (by decide) ?_
      refine cx_aload_n dX1_house_78 rfl rfl ?_
      obtain ⟨v41, ev41, hl⟩ := xb hl
      refine cx_getR gF_X1_22 dX1_house_79 ev41 ?_
      obtain ⟨v42, ev42, hl⟩ := xb hl
      refine cx_getR gF_X1_145 dX1_house_82 ev42 ?_
      refine cx_iload_n dX1_house_85 rfl ?_
      obtain ⟨u44, eu44, hl⟩ := xb hl
      obtain ⟨r43, er43, hl⟩ := xb hl
      refine cx_callF (ci := 10) (by decide) rfl (T_J2_get er43) lF_X1_148 C_J2_get dX1_house_86 eu44 rfl (by omega) (Nat.le_of_ble_eq_true rfl) ?_
      obtain ⟨u45, eu45, hl⟩ := xb hl
      refine cx_castO xC_X1_152_11 dX1_house_91 (by decide) eu45 ?_
      obtain ⟨u47, eu47, hl⟩ := xb hl
      obtain ⟨r46, er46, hl⟩ := xb hl
      refine cx_callV (Or.inl ⟨by decide, _, _, rfl⟩) (T_J14_intValue er46) lV_X1_154 C_J14_intValue dX1_house_94 eu47 (by decide) rfl (by omega) (Nat.le_of_ble_eq_true rfl) ?_
      cases hl
      exact cx_iret dX1_house_97 rfl rfl rfl rfl
    rw [if_neg k40] at hl
    by_cases k48 : x2 = 3
    · rw [if_pos k48] at hl
      refine cx_tableIn (off := 92) (tgt := 98) dX1_house_6 (by rw [k48]; decide) (by rw [k48]; decide) (by rw [k48]; rfl) (by decide) ?_
      refine cx_aload_n dX1_house_98 rfl rfl ?_
      obtain ⟨v49, ev49, hl⟩ := xb hl
      refine cx_getR gF_X1_31 dX1_house_99 ev49 ?_
      obtain ⟨v50, ev50, hl⟩ := xb hl
      refine cx_getR gF_X1_180 dX1_house_102 ev50 ?_
      refine cx_iload_n dX1_house_105 rfl ?_
      obtain ⟨v51, ev51, hl⟩ := xb hl
      refine cx_iald dX1_house_106 ev51 ?_
      cases hl
      exact cx_iret dX1_house_107 rfl rfl rfl rfl
    rw [if_neg k48] at hl
    by_cases k52 : x2 = 4
    · rw [if_pos k52] at hl
      refine cx_tableIn (off := 102) (tgt := 108) dX1_house_6 (by rw [k52]; decide) (by rw [k52]; decide) (by rw [k52]; rfl) (by decide) ?_
      refine cx_aload_n dX1_house_108 rfl rfl ?_
      obtain ⟨v53, ev53, hl⟩ := xb hl
      refine cx_getR gF_X1_31 dX1_house_109 ev53 ?_
      refine cx_iload_n dX1_house_112 rfl ?_
      obtain ⟨u55, eu55, hl⟩ := xb hl
      obtain ⟨r54, er54, hl⟩ := xb hl
      refine cx_callV (Or.inl ⟨by decide, _, _, rfl⟩) (T_X3_in er54) lV_X1_93 C_X3_in dX1_house_113 eu55 (by decide) rfl (by omega) (Nat.le_of_ble_eq_true rfl) ?_
      cases hl
      exact cx_iret dX1_house_116 rfl rfl rfl rfl
    rw [if_neg k52] at hl
    by_cases k56 : x2 = 5
    · rw [if_pos k56] at hl
      refine cx_tableIn (off := 111) (tgt := 117) dX1_house_6 (by rw [k56]; decide) (by rw [k56]; decide) (by rw [k56]; rfl) (by decide) ?_
      refine cx_aload_n dX1_house_117 rfl rfl ?_
      obtain ⟨v57, ev57, hl⟩ := xb hl
      refine cx_getR gF_X1_31 dX1_house_118 ev57 ?_
      obtain ⟨v58, ev58, hl⟩ := xb hl
      refine cx_getI gF_X1_116 dX1_house_121 ev58 ?_
      refine cx_iload_n dX1_house_124 rfl ?_
      obtain ⟨r59, er59, hl⟩ := xb hl
      refine cx_callS (T_X1_isOf er59) lS_X1_183 C_X1_isOf dX1_house_125 rfl (by omega) (Nat.le_of_ble_eq_true rfl) ?_
      by_cases c61 : r59 = 0
      · rw [if_pos c61] at hl
        refine cx_if_eq (X := True) (tgt := 135) dX1_house_128 (by decide) (fun _ => ?_) (fun z => absurd c61 z)
        refine cx_iconst (v := 0) dX1_house_135 rfl ?_
        cases hl
        exact cx_iret dX1_house_136 rfl rfl rfl rfl
      · rw [if_neg c61] at hl
        refine cx_if_eq (X := True) (tgt := 135) dX1_house_128 (by decide) (fun z => absurd z c61) (fun _ => ?_)
        refine cx_iconst (v := 1) dX1_house_131 rfl ?_
        refine cx_goto (tgt := 136) dX1_house_132 (by decide) ?_
        cases hl
        exact cx_iret dX1_house_136 rfl rfl rfl rfl
    rw [if_neg k56] at hl
    by_cases k62 : x2 = 6
    · rw [if_pos k62] at hl
      refine cx_tableIn (off := 131) (tgt := 137) dX1_house_6 (by rw [k62]; decide) (by rw [k62]; decide) (by rw [k62]; rfl) (by decide) ?_
      refine cx_aload_n dX1_house_137 rfl rfl ?_
      refine cx_iload_n dX1_house_138 rfl ?_
      obtain ⟨u64, eu64, hl⟩ := xb hl
      obtain ⟨r63, er63, hl⟩ := xb hl
      refine cx_callV (Or.inl ⟨by decide, _, _, rfl⟩) (T_X1_room er63) lV_X1_187 C_X1_room dX1_house_139 eu64 (by decide) rfl (by omega) (Nat.le_of_ble_eq_true rfl) ?_
      cases hl
      exact cx_iret dX1_house_142 rfl rfl rfl rfl
    rw [if_neg k62] at hl
    cases hl
  · dsimp only at hl
    cases hl
    exact cx_callVx (Or.inl ⟨by decide, _, _, rfl⟩) (T_X1_aHouse er1) lV_X1_173 C_X1_aHouse dX1_house_2 eu2 (by decide) rfl (by omega) (Nat.le_of_ble_eq_true rfl) (ct_out rfl rfl (by decide))
def k_X1_aPerson (x0 : Nat) (x1 : Int32) (h : XH) : Option ((Unit ⊕ XX) × XH) := (cgR h x0 0 1).bind fun v1 => (ckd h v1 1).bind fun u3 => (k_X2_people v1 h).bind fun r2 => (k_X1_in x1 0 (r2 - 1) h).bind fun r4 => (k_X1_found r4 h).bind fun r6 => match r6 with | (.inl v8, h9) => (some (.inl (), h9)) | (.inr e10, h9) => (some (.inr e10, h9))
set_option maxHeartbeats 4000000 in
theorem T_X1_aPerson {l : Launch} {E : XEnv}  {x0 : Nat} {x1 : Int32} {h : XH} {r : (Unit ⊕ XX) × XH} (hl : k_X1_aPerson x0 x1 h = some r) : CM l E mX1_aPerson 9 [.ref x0, .int x1] h (xrU r.1) r.2 := by
  unfold k_X1_aPerson at hl
  refine cm_of (by decide +kernel) rfl (Nat.le_of_ble_eq_true rfl) ?_
  refine cx_iload_n dX1_aPerson_0 rfl ?_
  refine cx_iconst (v := 0) dX1_aPerson_1 rfl ?_
  refine cx_aload_n dX1_aPerson_2 rfl rfl ?_
  obtain ⟨v1, ev1, hl⟩ := xb hl
  refine cx_getR gF_X1_22 dX1_aPerson_3 ev1 ?_
  obtain ⟨u3, eu3, hl⟩ := xb hl
  obtain ⟨r2, er2, hl⟩ := xb hl
  refine cx_callV (Or.inl ⟨by decide, _, _, rfl⟩) (T_X2_people er2) lV_X1_104 C_X2_people dX1_aPerson_6 eu3 (by decide) rfl (by omega) (Nat.le_of_ble_eq_true rfl) ?_
  refine cx_iconst (v := 1) dX1_aPerson_9 rfl ?_
  refine cx_isub dX1_aPerson_10 ?_
  obtain ⟨r4, er4, hl⟩ := xb hl
  refine cx_callS (T_X1_in er4) lS_X1_139 C_X1_in dX1_aPerson_11 rfl (by omega) (Nat.le_of_ble_eq_true rfl) ?_
  obtain ⟨r6, er6, hl⟩ := xb hl
  rcases r6 with ⟨v8 | ⟨C11, q12⟩, h9⟩
  · dsimp only at hl
    refine cx_callS (T_X1_found er6) lS_X1_142 C_X1_found dX1_aPerson_14 rfl (by omega) (Nat.le_of_ble_eq_true rfl) ?_
    cases hl
    exact cx_vret dX1_aPerson_17 rfl rfl rfl
  · dsimp only at hl
    cases hl
    exact cx_callSx (T_X1_found er6) lS_X1_142 C_X1_found dX1_aPerson_14 rfl (by omega) (Nat.le_of_ble_eq_true rfl) (ct_out rfl rfl (by decide))
def k_X1_oneOf (x0 : Int32) (x1 : Int32) (h : XH) : Option ((Unit ⊕ XX) × XH) := (k_X1_in x0 0 x1 h).bind fun r1 => (k_X1_found r1 h).bind fun r3 => match r3 with | (.inl v5, h6) => (some (.inl (), h6)) | (.inr e7, h6) => (some (.inr e7, h6))
set_option maxHeartbeats 4000000 in
theorem T_X1_oneOf {l : Launch} {E : XEnv}  {x0 : Int32} {x1 : Int32} {h : XH} {r : (Unit ⊕ XX) × XH} (hl : k_X1_oneOf x0 x1 h = some r) : CM l E mX1_oneOf 9 [.int x0, .int x1] h (xrU r.1) r.2 := by
  unfold k_X1_oneOf at hl
  refine cm_of (by decide +kernel) rfl (Nat.le_of_ble_eq_true rfl) ?_
  refine cx_iload_n dX1_oneOf_0 rfl ?_
  refine cx_iconst (v := 0) dX1_oneOf_1 rfl ?_
  refine cx_iload_n dX1_oneOf_2 rfl ?_
  obtain ⟨r1, er1, hl⟩ := xb hl
  refine cx_callS (T_X1_in er1) lS_X1_139 C_X1_in dX1_oneOf_3 rfl (by omega) (Nat.le_of_ble_eq_true rfl) ?_
  obtain ⟨r3, er3, hl⟩ := xb hl
  rcases r3 with ⟨v5 | ⟨C8, q9⟩, h6⟩
  · dsimp only at hl
    refine cx_callS (T_X1_found er3) lS_X1_142 C_X1_found dX1_oneOf_6 rfl (by omega) (Nat.le_of_ble_eq_true rfl) ?_
    cases hl
    exact cx_vret dX1_oneOf_9 rfl rfl rfl
  · dsimp only at hl
    cases hl
    exact cx_callSx (T_X1_found er3) lS_X1_142 C_X1_found dX1_oneOf_6 rfl (by omega) (Nat.le_of_ble_eq_true rfl) (ct_out rfl rfl (by decide))
def k_X1_person (x0 : Nat) (x1 : Int32) (x2 : Int32) (h : XH) : Option ((Int32 ⊕ XX) × XH) := (ckd h x0 0).bind fun u2 => (k_X1_aPerson x0 x1 h).bind fun r1 => match r1 with | (.inl v3, h4) => ((k_X1_oneOf x2 4 h4).bind fun r8 => match r8 with | (.inl v10, h11) => (if x2 = 0 then (cgR h11 x0 0 2).bind fun v34 => (cgR h11 v34 2 2).bind fun v35 => (caI h11 v35 100 x1).bind fun v36 => some (.inl v36, h11) else if x2 = 1 then (cgR h11 x0 0 1).bind fun v27 => (cgR h11 v27 1 2).bind fun v28 => (ckd h11 v28 10).bind fun u30 => (k_J2_get v28 x1 h11).bind fun r29 => (ckd h11 r29 11).bind fun u31 => (ckd h11 r29 11).bind fun u33 => (k_J14_intValue r29 h11).bind fun r32 => some (.inl r32, h11) else if x2 = 2 then (cgR h11 x0 0 2).bind fun v24 => (cgR h11 v24 2 3).bind fun v25 => (caI h11 v25 100 x1).bind fun v26 => some (.inl v26, h11) else if x2 = 3 then (cgR h11 x0 0 2).bind fun v21 => (cgR h11 v21 2 4).bind fun v22 => (caI h11 v22 100 x1).bind fun v23 => some (.inl v23, h11) else (ckd h11 x0 0).bind fun u20 => (k_X1_tightOf x0 x1 h11).bind fun r19 => some (.inl r19, h11)) | (.inr e12, h11) => (some (.inr e12, h11))) | (.inr e5, h4) => (some (.inr e5, h4))
set_option maxHeartbeats 4000000 in
theorem T_X1_person {l : Launch} {E : XEnv}  {x0 : Nat} {x1 : Int32} {x2 : Int32} {h : XH} {r : (Int32 ⊕ XX) × XH} (hl : k_X1_person x0 x1 x2 h = some r) : CM l E mX1_person 10 [.ref x0, .int x1, .int x2] h (xrI r.1) r.2 := by
  unfold k_X1_person at hl
  refine cm_of (by decide +kernel) rfl (Nat.le_of_ble_eq_true rfl) ?_
  refine cx_aload_n dX1_person_0 rfl rfl ?_
  refine cx_iload_n dX1_person_1 rfl ?_
  obtain ⟨u2, eu2, hl⟩ := xb hl
  obtain ⟨r1, er1, hl⟩ := xb hl
  rcases r1 with ⟨v3 | ⟨C6, q7⟩, h4⟩
  · dsimp only at hl
    refine cx_callV (Or.inl ⟨by decide, _, _, rfl⟩) (T_X1_aPerson er1) lV_X1_193 C_X1_aPerson dX1_person_2 eu2 (by decide) rfl (by omega) (Nat.le_of_ble_eq_true rfl) ?_
    refine cx_iload_n dX1_person_5 rfl ?_
    refine cx_iconst (v := 4) dX1_person_6 rfl ?_
    obtain ⟨r8, er8, hl⟩ := xb hl
    rcases r8 with ⟨v10 | ⟨C13, q14⟩, h11⟩
    · dsimp only at hl
      refine cx_callS (T_X1_oneOf er8) lS_X1_196 C_X1_oneOf dX1_person_7 rfl (by omega) (Nat.le_of_ble_eq_true rfl) ?_
      refine cx_iload_n dX1_person_10 rfl ?_
      by_cases c15 : x2 = 0
      · rw [if_pos c15] at hl
        refine cx_if_ne (X := True) (tgt := 26) dX1_person_11 (by decide) (fun z => absurd c15 z) (fun _ => ?_)
        refine cx_aload_n dX1_person_14 rfl rfl ?_
        obtain ⟨v34, ev34, hl⟩ := xb hl
        refine cx_getR gF_X1_31 dX1_person_15 ev34 ?_
        obtain ⟨v35, ev35, hl⟩ := xb hl
        refine cx_getR gF_X1_167 dX1_person_18 ev35 ?_
        refine cx_iload_n dX1_person_21 rfl ?_
        obtain ⟨v36, ev36, hl⟩ := xb hl
        refine cx_iald dX1_person_22 ev36 ?_
        refine cx_goto (tgt := 92) dX1_person_23 (by decide) ?_
        cases hl
        exact cx_iret dX1_person_92 rfl rfl rfl rfl
      · rw [if_neg c15] at hl
        refine cx_if_ne (X := True) (tgt := 26) dX1_person_11 (by decide) (fun _ => ?_) (fun z => absurd z c15)
        refine cx_iload_n dX1_person_26 rfl ?_
        refine cx_iconst (v := 1) dX1_person_27 rfl ?_
        by_cases c16 : x2 = 1
        · rw [if_pos c16] at hl
          refine cx_icmp_ne (X := True) (tgt := 53) dX1_person_28 (by decide) (fun z => absurd c16 z) (fun _ => ?_)
          refine cx_aload_n dX1_person_31 rfl rfl ?_
          obtain ⟨v27, ev27, hl⟩ := xb hl
          refine cx_getR gF_X1_22 dX1_person_32 ev27 ?_
          obtain ⟨v28, ev28, hl⟩ := xb hl
          refine cx_getR gF_X1_200 dX1_person_35 ev28 ?_
          refine cx_iload_n dX1_person_38 rfl ?_
          obtain ⟨u30, eu30, hl⟩ := xb hl
          obtain ⟨r29, er29, hl⟩ := xb hl
          refine cx_callF (ci := 10) (by decide) rfl (T_J2_get er29) lF_X1_148 C_J2_get dX1_person_39 eu30 rfl (by omega) (Nat.le_of_ble_eq_true rfl) ?_
          obtain ⟨u31, eu31, hl⟩ := xb hl
          refine cx_castO xC_X1_152_11 dX1_person_44 (by decide) eu31 ?_
          obtain ⟨u33, eu33, hl⟩ := xb hl
          obtain ⟨r32, er32, hl⟩ := xb hl
          refine cx_callV (Or.inl ⟨by decide, _, _, rfl⟩) (T_J14_intValue er32) lV_X1_154 C_J14_intValue dX1_person_47 eu33 (by decide) rfl (by omega) (Nat.le_of_ble_eq_true rfl) ?_
          refine cx_goto (tgt := 92) dX1_person_50 (by decide) ?_
          cases hl
          exact cx_iret dX1_person_92 rfl rfl rfl rfl
        · rw [if_neg c16] at hl
          refine cx_icmp_ne (X := True) (tgt := 53) dX1_person_28 (by decide) (fun _ => ?_) (fun z => absurd z c16)
          refine cx_iload_n dX1_person_53 rfl ?_
          refine cx_iconst (v := 2) dX1_person_54 rfl ?_
          by_cases c17 : x2 = 2
          · rw [if_pos c17] at hl
            refine cx_icmp_ne (X := True) (tgt := 70) dX1_person_55 (by decide) (fun z => absurd c17 z) (fun _ => ?_)
            refine cx_aload_n dX1_person_58 rfl rfl ?_
            obtain ⟨v24, ev24, hl⟩ := xb hl
            refine cx_getR gF_X1_31 dX1_person_59 ev24 ?_
            obtain ⟨v25, ev25, hl⟩ := xb hl
            refine cx_getR gF_X1_97 dX1_person_62 ev25 ?_
            refine cx_iload_n dX1_person_65 rfl ?_
            obtain ⟨v26, ev26, hl⟩ := xb hl
            refine cx_iald dX1_person_66 ev26 ?_
            refine cx_goto (tgt := 92) dX1_person_67 (by decide) ?_
            cases hl
            exact cx_iret dX1_person_92 rfl rfl rfl rfl
          · rw [if_neg c17] at hl
            refine cx_icmp_ne (X := True) (tgt := 70) dX1_person_55 (by decide) (fun _ => ?_) (fun z => absurd z c17)
            refine cx_iload_n dX1_person_70 rfl ?_
            refine cx_iconst (v := 3) dX1_person_71 rfl ?_
            by_cases c18 : x2 = 3
            · rw [if_pos c18] at hl
              refine cx_icmp_ne (X := True) (tgt := 87) dX1_person_72 (by decide) (fun z => absurd c18 z) (fun _ => ?_)
              refine cx_aload_n dX1_person_75 rfl rfl ?_
              obtain ⟨v21, ev21, hl⟩ := xb hl
              refine cx_getR gF_X1_31 dX1_person_76 ev21 ?_
              obtain ⟨v22, ev22, hl⟩ := xb hl
              refine cx_getR gF_X1_203 dX1_person_79 ev22 ?_
              refine cx_iload_n dX1_person_82 rfl ?_
              obtain ⟨v23, ev23, hl⟩ := xb hl
              refine cx_iald dX1_person_83 ev23 ?_
              refine cx_goto (tgt := 92) dX1_person_84 (by decide) ?_
              cases hl
              exact cx_iret dX1_person_92 rfl rfl rfl rfl
            · rw [if_neg c18] at hl
              refine cx_icmp_ne (X := True) (tgt := 87) dX1_person_72 (by decide) (fun _ => ?_) (fun z => absurd z c18)
              refine cx_aload_n dX1_person_87 rfl rfl ?_
              refine cx_iload_n dX1_person_88 rfl ?_
              obtain ⟨u20, eu20, hl⟩ := xb hl
              obtain ⟨r19, er19, hl⟩ := xb hl
              refine cx_callV (Or.inl ⟨by decide, _, _, rfl⟩) (T_X1_tightOf er19) lV_X1_107 C_X1_tightOf dX1_person_89 eu20 (by decide) rfl (by omega) (Nat.le_of_ble_eq_true rfl) ?_
              cases hl
              exact cx_iret dX1_person_92 rfl rfl rfl rfl
    · dsimp only at hl
      cases hl
      exact cx_callSx (T_X1_oneOf er8) lS_X1_196 C_X1_oneOf dX1_person_7 rfl (by omega) (Nat.le_of_ble_eq_true rfl) (ct_out rfl rfl (by decide))
  · dsimp only at hl
    cases hl
    exact cx_callVx (Or.inl ⟨by decide, _, _, rfl⟩) (T_X1_aPerson er1) lV_X1_193 C_X1_aPerson dX1_person_2 eu2 (by decide) rfl (by omega) (Nat.le_of_ble_eq_true rfl) (ct_out rfl rfl (by decide))
def k_X1_eases (n : Nat) (g : Nat) (c : Nat → Value) (x0 : Nat) (x1 : Int32) (x2 : Int32) (h : XH) : Option ((Int32 ⊕ XX) × XH) := (ckd h x0 0).bind fun u2 => (k_X1_aPerson x0 x1 h).bind fun r1 => match r1 with | (.inl v3, h4) => ((ckd h4 x0 0).bind fun u9 => (k_X1_aHouse x0 x2 h4).bind fun r8 => match r8 with | (.inl v10, h11) => ((cgR h11 x0 0 2).bind fun v15 => (ckd h11 v15 2).bind fun u17 => (k_X3_eases n g c v15 x1 x2 h11).bind fun r16 => some (.inl r16.1, r16.2)) | (.inr e12, h11) => (some (.inr e12, h11))) | (.inr e5, h4) => (some (.inr e5, h4))
set_option maxHeartbeats 4000000 in
theorem T_X1_eases {l : Launch} {E : XEnv}  {n : Nat} {g : Nat} {x0 : Nat} {x1 : Int32} {x2 : Int32} {h : XH} {r : (Int32 ⊕ XX) × XH} (hl : k_X1_eases n g E.2.2.2 x0 x1 x2 h = some r) : CM l E mX1_eases (5 * g + 10) [.ref x0, .int x1, .int x2] h (xrI r.1) r.2 := by
  unfold k_X1_eases at hl
  refine cm_of (by decide +kernel) rfl (Nat.le_of_ble_eq_true rfl) ?_
  refine cx_aload_n dX1_eases_0 rfl rfl ?_
  refine cx_iload_n dX1_eases_1 rfl ?_
  obtain ⟨u2, eu2, hl⟩ := xb hl
  obtain ⟨r1, er1, hl⟩ := xb hl
  rcases r1 with ⟨v3 | ⟨C6, q7⟩, h4⟩
  · dsimp only at hl
    refine cx_callV (Or.inl ⟨by decide, _, _, rfl⟩) (T_X1_aPerson er1) lV_X1_193 C_X1_aPerson dX1_eases_2 eu2 (by decide) rfl (by omega) (Nat.le_of_ble_eq_true rfl) ?_
    refine cx_aload_n dX1_eases_5 rfl rfl ?_
    refine cx_iload_n dX1_eases_6 rfl ?_
    obtain ⟨u9, eu9, hl⟩ := xb hl
    obtain ⟨r8, er8, hl⟩ := xb hl
    rcases r8 with ⟨v10 | ⟨C13, q14⟩, h11⟩
    · dsimp only at hl
      refine cx_callV (Or.inl ⟨by decide, _, _, rfl⟩) (T_X1_aHouse er8) lV_X1_173 C_X1_aHouse dX1_eases_7 eu9 (by decide) rfl (by omega) (Nat.le_of_ble_eq_true rfl) ?_
      refine cx_aload_n dX1_eases_10 rfl rfl ?_
      obtain ⟨v15, ev15, hl⟩ := xb hl
      refine cx_getR gF_X1_31 dX1_eases_11 ev15 ?_
      refine cx_iload_n dX1_eases_14 rfl ?_
      refine cx_iload_n dX1_eases_15 rfl ?_
      obtain ⟨u17, eu17, hl⟩ := xb hl
      obtain ⟨r16, er16, hl⟩ := xb hl
      refine cx_callV (Or.inl ⟨by decide, _, _, rfl⟩) (T_X3_eases er16) lV_X1_206 C_X3_eases dX1_eases_16 eu17 (by decide) rfl (by omega) (Nat.le_of_ble_eq_true rfl) ?_
      cases hl
      exact cx_iret dX1_eases_19 rfl rfl rfl rfl
    · dsimp only at hl
      cases hl
      exact cx_callVx (Or.inl ⟨by decide, _, _, rfl⟩) (T_X1_aHouse er8) lV_X1_173 C_X1_aHouse dX1_eases_7 eu9 (by decide) rfl (by omega) (Nat.le_of_ble_eq_true rfl) (ct_out rfl rfl (by decide))
  · dsimp only at hl
    cases hl
    exact cx_callVx (Or.inl ⟨by decide, _, _, rfl⟩) (T_X1_aPerson er1) lV_X1_193 C_X1_aPerson dX1_eases_2 eu2 (by decide) rfl (by omega) (Nat.le_of_ble_eq_true rfl) (ct_out rfl rfl (by decide))
def k_X3_canPut (n : Nat) (g : Nat) (c : Nat → Value) (x0 : Nat) (x1 : Int32) (x2 : Int32) (h : XH) : Option (Int32 × XH) := (cgR h x0 2 3).bind fun v1 => (caI h v1 100 x1).bind fun v2 => if v2 = (-1) then (ckd h x0 2).bind fun u5 => (k_X3_in n x0 x2 h).bind fun r4 => if r4 = (-1) then (ckd h x0 2).bind fun u8 => (k_X3_goesIn n g c x0 x1 x2 h).bind fun r7 => if r7.1 = 0 then some (0, r7.2) else some (1, r7.2) else some (0, h) else some (0, h)
set_option maxHeartbeats 4000000 in
theorem T_X3_canPut {l : Launch} {E : XEnv}  {n : Nat} {g : Nat} {x0 : Nat} {x1 : Int32} {x2 : Int32} {h : XH} {r : Int32 × XH} (hl : k_X3_canPut n g E.2.2.2 x0 x1 x2 h = some r) : CM l E mX3_canPut (5 * g + 9) [.ref x0, .int x1, .int x2] h (.inl (some (.int r.1))) r.2 := by
  unfold k_X3_canPut at hl
  refine cm_of (by decide +kernel) rfl (Nat.le_of_ble_eq_true rfl) ?_
  refine cx_aload_n dX3_canPut_0 rfl rfl ?_
  obtain ⟨v1, ev1, hl⟩ := xb hl
  refine cx_getR gF_X3_25 dX3_canPut_1 ev1 ?_
  refine cx_iload_n dX3_canPut_4 rfl ?_
  obtain ⟨v2, ev2, hl⟩ := xb hl
  refine cx_iald dX3_canPut_5 ev2 ?_
  refine cx_iconst (v := (-1)) dX3_canPut_6 rfl ?_
  by_cases c3 : v2 = (-1)
  · rw [if_pos c3] at hl
    refine cx_icmp_ne (X := True) (tgt := 32) dX3_canPut_7 (by decide) (fun z => absurd c3 z) (fun _ => ?_)
    refine cx_aload_n dX3_canPut_10 rfl rfl ?_
    refine cx_iload_n dX3_canPut_11 rfl ?_
    obtain ⟨u5, eu5, hl⟩ := xb hl
    obtain ⟨r4, er4, hl⟩ := xb hl
    refine cx_callV (Or.inl ⟨by decide, _, _, rfl⟩) (T_X3_in er4) lV_X3_117 C_X3_in dX3_canPut_12 eu5 (by decide) rfl (by omega) (Nat.le_of_ble_eq_true rfl) ?_
    refine cx_iconst (v := (-1)) dX3_canPut_15 rfl ?_
    by_cases c6 : r4 = (-1)
    · rw [if_pos c6] at hl
      refine cx_icmp_ne (X := True) (tgt := 32) dX3_canPut_16 (by decide) (fun z => absurd c6 z) (fun _ => ?_)
      refine cx_aload_n dX3_canPut_19 rfl rfl ?_
      refine cx_iload_n dX3_canPut_20 rfl ?_
      refine cx_iload_n dX3_canPut_21 rfl ?_
      obtain ⟨u8, eu8, hl⟩ := xb hl
      obtain ⟨r7, er7, hl⟩ := xb hl
      refine cx_callV (Or.inl ⟨by decide, _, _, rfl⟩) (T_X3_goesIn er7) lV_X3_120 C_X3_goesIn dX3_canPut_22 eu8 (by decide) rfl (by omega) (Nat.le_of_ble_eq_true rfl) ?_
      by_cases c9 : r7.1 = 0
      · rw [if_pos c9] at hl
        refine cx_if_eq (X := True) (tgt := 32) dX3_canPut_25 (by decide) (fun _ => ?_) (fun z => absurd c9 z)
        refine cx_iconst (v := 0) dX3_canPut_32 rfl ?_
        cases hl
        exact cx_iret dX3_canPut_33 rfl rfl rfl rfl
      · rw [if_neg c9] at hl
        refine cx_if_eq (X := True) (tgt := 32) dX3_canPut_25 (by decide) (fun z => absurd z c9) (fun _ => ?_)
        refine cx_iconst (v := 1) dX3_canPut_28 rfl ?_
        refine cx_goto (tgt := 33) dX3_canPut_29 (by decide) ?_
        cases hl
        exact cx_iret dX3_canPut_33 rfl rfl rfl rfl
    · rw [if_neg c6] at hl
      refine cx_icmp_ne (X := True) (tgt := 32) dX3_canPut_16 (by decide) (fun _ => ?_) (fun z => absurd z c6)
      refine cx_iconst (v := 0) dX3_canPut_32 rfl ?_
      cases hl
      exact cx_iret dX3_canPut_33 rfl rfl rfl rfl
  · rw [if_neg c3] at hl
    refine cx_icmp_ne (X := True) (tgt := 32) dX3_canPut_7 (by decide) (fun _ => ?_) (fun z => absurd z c3)
    refine cx_iconst (v := 0) dX3_canPut_32 rfl ?_
    cases hl
    exact cx_iret dX3_canPut_33 rfl rfl rfl rfl
def k_X1_putIn (n : Nat) (g : Nat) (c : Nat → Value) (x0 : Nat) (x1 : Int32) (x2 : Int32) (h : XH) : Option ((Int32 ⊕ XX) × XH) := (ckd h x0 0).bind fun u2 => (k_X1_aPerson x0 x1 h).bind fun r1 => match r1 with | (.inl v3, h4) => ((ckd h4 x0 0).bind fun u9 => (k_X1_aHouse x0 x2 h4).bind fun r8 => match r8 with | (.inl v10, h11) => ((cgR h11 x0 0 2).bind fun v15 => (ckd h11 v15 2).bind fun u17 => (k_X3_canPut n g c v15 x1 x2 h11).bind fun r16 => if r16.1 = 0 then (ckd r16.2 x0 0).bind fun u28 => (k_X1_refuse x0 1 r16.2).bind fun r27 => some (.inl r27.1, r27.2) else (ckd r16.2 x0 0).bind fun u20 => (k_X1_keep n c x0 r16.2).bind fun r19 => (cgR r19 x0 0 2).bind fun v21 => (cgR r19 v21 2 3).bind fun v22 => (csu r19 v22 100 x1 (.int x2)).bind fun h23 => (cgR h23 x0 0 2).bind fun v24 => (ckd h23 v24 2).bind fun u26 => (k_X3_tight v24 x1 x2 h23).bind fun r25 => some (.inl r25, h23)) | (.inr e12, h11) => (some (.inr e12, h11))) | (.inr e5, h4) => (some (.inr e5, h4))
set_option maxHeartbeats 4000000 in
theorem T_X1_putIn {l : Launch} {E : XEnv}  {n : Nat} {g : Nat} {x0 : Nat} {x1 : Int32} {x2 : Int32} {h : XH} {r : (Int32 ⊕ XX) × XH} (hl : k_X1_putIn n g E.2.2.2 x0 x1 x2 h = some r) : CM l E mX1_putIn (5 * g + 10) [.ref x0, .int x1, .int x2] h (xrI r.1) r.2 := by
  unfold k_X1_putIn at hl
  refine cm_of (by decide +kernel) rfl (Nat.le_of_ble_eq_true rfl) ?_
  refine cx_aload_n dX1_putIn_0 rfl rfl ?_
  refine cx_iload_n dX1_putIn_1 rfl ?_
  obtain ⟨u2, eu2, hl⟩ := xb hl
  obtain ⟨r1, er1, hl⟩ := xb hl
  rcases r1 with ⟨v3 | ⟨C6, q7⟩, h4⟩
  · dsimp only at hl
    refine cx_callV (Or.inl ⟨by decide, _, _, rfl⟩) (T_X1_aPerson er1) lV_X1_193 C_X1_aPerson dX1_putIn_2 eu2 (by decide) rfl (by omega) (Nat.le_of_ble_eq_true rfl) ?_
    refine cx_aload_n dX1_putIn_5 rfl rfl ?_
    refine cx_iload_n dX1_putIn_6 rfl ?_
    obtain ⟨u9, eu9, hl⟩ := xb hl
    obtain ⟨r8, er8, hl⟩ := xb hl
    rcases r8 with ⟨v10 | ⟨C13, q14⟩, h11⟩
    · dsimp only at hl
      refine cx_callV (Or.inl ⟨by decide, _, _, rfl⟩) (T_X1_aHouse er8) lV_X1_173 C_X1_aHouse dX1_putIn_7 eu9 (by decide) rfl (by omega) (Nat.le_of_ble_eq_true rfl) ?_
      refine cx_aload_n dX1_putIn_10 rfl rfl ?_
      obtain ⟨v15, ev15, hl⟩ := xb hl
      refine cx_getR gF_X1_31 dX1_putIn_11 ev15 ?_
      refine cx_iload_n dX1_putIn_14 rfl ?_
      refine cx_iload_n dX1_putIn_15 rfl ?_
      obtain ⟨u17, eu17, hl⟩ := xb hl
      obtain ⟨r16, er16, hl⟩ := xb hl
      refine cx_callV (Or.inl ⟨by decide, _, _, rfl⟩) (T_X3_canPut er16) lV_X1_230 C_X3_canPut dX1_putIn_16 eu17 (by decide) rfl (by omega) (Nat.le_of_ble_eq_true rfl) ?_
      by_cases c18 : r16.1 = 0
      · rw [if_pos c18] at hl
        refine cx_if_ne (X := True) (tgt := 28) dX1_putIn_19 (by decide) (fun z => absurd c18 z) (fun _ => ?_)
        refine cx_aload_n dX1_putIn_22 rfl rfl ?_
        refine cx_iconst (v := 1) dX1_putIn_23 rfl ?_
        obtain ⟨u28, eu28, hl⟩ := xb hl
        obtain ⟨r27, er27, hl⟩ := xb hl
        refine cx_callV (Or.inl ⟨by decide, _, _, rfl⟩) (T_X1_refuse er27) lV_X1_220 C_X1_refuse dX1_putIn_24 eu28 (by decide) rfl (by omega) (Nat.le_of_ble_eq_true rfl) ?_
        cases hl
        exact cx_iret dX1_putIn_27 rfl rfl rfl rfl
      · rw [if_neg c18] at hl
        refine cx_if_ne (X := True) (tgt := 28) dX1_putIn_19 (by decide) (fun _ => ?_) (fun z => absurd z c18)
        refine cx_aload_n dX1_putIn_28 rfl rfl ?_
        obtain ⟨u20, eu20, hl⟩ := xb hl
        obtain ⟨r19, er19, hl⟩ := xb hl
        refine cx_callV (Or.inl ⟨by decide, _, _, rfl⟩) (T_X1_keep er19) lV_X1_223 C_X1_keep dX1_putIn_29 eu20 (by decide) rfl (by omega) (Nat.le_of_ble_eq_true rfl) ?_
        refine cx_aload_n dX1_putIn_32 rfl rfl ?_
        obtain ⟨v21, ev21, hl⟩ := xb hl
        refine cx_getR gF_X1_31 dX1_putIn_33 ev21 ?_
        obtain ⟨v22, ev22, hl⟩ := xb hl
        refine cx_getR gF_X1_97 dX1_putIn_36 ev22 ?_
        refine cx_iload_n dX1_putIn_39 rfl ?_
        refine cx_iload_n dX1_putIn_40 rfl ?_
        obtain ⟨h23, eh23, hl⟩ := xb hl
        refine cx_iast dX1_putIn_41 eh23 ?_
        refine cx_aload_n dX1_putIn_42 rfl rfl ?_
        obtain ⟨v24, ev24, hl⟩ := xb hl
        refine cx_getR gF_X1_31 dX1_putIn_43 ev24 ?_
        refine cx_iload_n dX1_putIn_46 rfl ?_
        refine cx_iload_n dX1_putIn_47 rfl ?_
        obtain ⟨u26, eu26, hl⟩ := xb hl
        obtain ⟨r25, er25, hl⟩ := xb hl
        refine cx_callV (Or.inl ⟨by decide, _, _, rfl⟩) (T_X3_tight er25) lV_X1_100 C_X3_tight dX1_putIn_48 eu26 (by decide) rfl (by omega) (Nat.le_of_ble_eq_true rfl) ?_
        cases hl
        exact cx_iret dX1_putIn_51 rfl rfl rfl rfl
    · dsimp only at hl
      cases hl
      exact cx_callVx (Or.inl ⟨by decide, _, _, rfl⟩) (T_X1_aHouse er8) lV_X1_173 C_X1_aHouse dX1_putIn_7 eu9 (by decide) rfl (by omega) (Nat.le_of_ble_eq_true rfl) (ct_out rfl rfl (by decide))
  · dsimp only at hl
    cases hl
    exact cx_callVx (Or.inl ⟨by decide, _, _, rfl⟩) (T_X1_aPerson er1) lV_X1_193 C_X1_aPerson dX1_putIn_2 eu2 (by decide) rfl (by omega) (Nat.le_of_ble_eq_true rfl) (ct_out rfl rfl (by decide))
def k_X1_out (n : Nat) (c : Nat → Value) (x0 : Nat) (x1 : Int32) (h : XH) : Option ((Int32 ⊕ XX) × XH) := (ckd h x0 0).bind fun u2 => (k_X1_aPerson x0 x1 h).bind fun r1 => match r1 with | (.inl v3, h4) => ((cgR h4 x0 0 2).bind fun v8 => (cgR h4 v8 2 3).bind fun v9 => (caI h4 v9 100 x1).bind fun v10 => if v10 = (-1) then (ckd h4 x0 0).bind fun u18 => (k_X1_refuse x0 1 h4).bind fun r17 => some (.inl r17.1, r17.2) else (ckd h4 x0 0).bind fun u13 => (k_X1_keep n c x0 h4).bind fun r12 => (cgR r12 x0 0 2).bind fun v14 => (cgR r12 v14 2 3).bind fun v15 => (csu r12 v15 100 x1 (.int (-1))).bind fun h16 => some (.inl v10, h16)) | (.inr e5, h4) => (some (.inr e5, h4))
set_option maxHeartbeats 4000000 in
theorem T_X1_out {l : Launch} {E : XEnv}  {n : Nat} {x0 : Nat} {x1 : Int32} {h : XH} {r : (Int32 ⊕ XX) × XH} (hl : k_X1_out n E.2.2.2 x0 x1 h = some r) : CM l E mX1_out 10 [.ref x0, .int x1] h (xrI r.1) r.2 := by
  unfold k_X1_out at hl
  refine cm_of (by decide +kernel) rfl (Nat.le_of_ble_eq_true rfl) ?_
  refine cx_aload_n dX1_out_0 rfl rfl ?_
  refine cx_iload_n dX1_out_1 rfl ?_
  obtain ⟨u2, eu2, hl⟩ := xb hl
  obtain ⟨r1, er1, hl⟩ := xb hl
  rcases r1 with ⟨v3 | ⟨C6, q7⟩, h4⟩
  · dsimp only at hl
    refine cx_callV (Or.inl ⟨by decide, _, _, rfl⟩) (T_X1_aPerson er1) lV_X1_193 C_X1_aPerson dX1_out_2 eu2 (by decide) rfl (by omega) (Nat.le_of_ble_eq_true rfl) ?_
    refine cx_aload_n dX1_out_5 rfl rfl ?_
    obtain ⟨v8, ev8, hl⟩ := xb hl
    refine cx_getR gF_X1_31 dX1_out_6 ev8 ?_
    obtain ⟨v9, ev9, hl⟩ := xb hl
    refine cx_getR gF_X1_97 dX1_out_9 ev9 ?_
    refine cx_iload_n dX1_out_12 rfl ?_
    obtain ⟨v10, ev10, hl⟩ := xb hl
    refine cx_iald dX1_out_13 ev10 ?_
    refine cx_istore_n dX1_out_14 (by decide) ?_
    refine cx_iload_n dX1_out_15 rfl ?_
    refine cx_iconst (v := (-1)) dX1_out_16 rfl ?_
    by_cases c11 : v10 = (-1)
    · rw [if_pos c11] at hl
      refine cx_icmp_ne (X := True) (tgt := 26) dX1_out_17 (by decide) (fun z => absurd c11 z) (fun _ => ?_)
      refine cx_aload_n dX1_out_20 rfl rfl ?_
      refine cx_iconst (v := 1) dX1_out_21 rfl ?_
      obtain ⟨u18, eu18, hl⟩ := xb hl
      obtain ⟨r17, er17, hl⟩ := xb hl
      refine cx_callV (Or.inl ⟨by decide, _, _, rfl⟩) (T_X1_refuse er17) lV_X1_220 C_X1_refuse dX1_out_22 eu18 (by decide) rfl (by omega) (Nat.le_of_ble_eq_true rfl) ?_
      cases hl
      exact cx_iret dX1_out_25 rfl rfl rfl rfl
    · rw [if_neg c11] at hl
      refine cx_icmp_ne (X := True) (tgt := 26) dX1_out_17 (by decide) (fun _ => ?_) (fun z => absurd z c11)
      refine cx_aload_n dX1_out_26 rfl rfl ?_
      obtain ⟨u13, eu13, hl⟩ := xb hl
      obtain ⟨r12, er12, hl⟩ := xb hl
      refine cx_callV (Or.inl ⟨by decide, _, _, rfl⟩) (T_X1_keep er12) lV_X1_223 C_X1_keep dX1_out_27 eu13 (by decide) rfl (by omega) (Nat.le_of_ble_eq_true rfl) ?_
      refine cx_aload_n dX1_out_30 rfl rfl ?_
      obtain ⟨v14, ev14, hl⟩ := xb hl
      refine cx_getR gF_X1_31 dX1_out_31 ev14 ?_
      obtain ⟨v15, ev15, hl⟩ := xb hl
      refine cx_getR gF_X1_97 dX1_out_34 ev15 ?_
      refine cx_iload_n dX1_out_37 rfl ?_
      refine cx_iconst (v := (-1)) dX1_out_38 rfl ?_
      obtain ⟨h16, eh16, hl⟩ := xb hl
      refine cx_iast dX1_out_39 eh16 ?_
      refine cx_iload_n dX1_out_40 rfl ?_
      cases hl
      exact cx_iret dX1_out_41 rfl rfl rfl rfl
  · dsimp only at hl
    cases hl
    exact cx_callVx (Or.inl ⟨by decide, _, _, rfl⟩) (T_X1_aPerson er1) lV_X1_193 C_X1_aPerson dX1_out_2 eu2 (by decide) rfl (by omega) (Nat.le_of_ble_eq_true rfl) (ct_out rfl rfl (by decide))
def k_X1_stuff (n : Nat) (c : Nat → Value) (x0 : Nat) (x1 : Int32) (x2 : Int32) (h : XH) : Option ((Int32 ⊕ XX) × XH) := (ckd h x0 0).bind fun u2 => (k_X1_aHouse x0 x1 h).bind fun r1 => match r1 with | (.inl v3, h4) => ((cgR h4 x0 0 2).bind fun v8 => (ckd h4 v8 2).bind fun u10 => (k_X3_in n v8 x1 h4).bind fun r9 => if r9 = (-1) then (k_X1_in x2 1 20 h4).bind fun r14 => if r14 = 0 then (ckd h4 x0 0).bind fun u29 => (k_X1_refuse x0 1 h4).bind fun r28 => some (.inl r28.1, r28.2) else (ckd h4 x0 0).bind fun u18 => (k_X1_keep n c x0 h4).bind fun r17 => (cgR r17 x0 0 2).bind fun v19 => (cgR r17 v19 2 0).bind fun v20 => (cgR r17 x0 0 2).bind fun v21 => (cgR r17 v21 2 0).bind fun v22 => (caI r17 v22 100 x1).bind fun v23 => (csu r17 v20 100 x1 (.int (imax 1 (v23 - x2)))).bind fun h24 => (cgR h24 x0 0 2).bind fun v25 => (cgR h24 v25 2 0).bind fun v26 => (caI h24 v26 100 x1).bind fun v27 => some (.inl v27, h24) else (ckd h4 x0 0).bind fun u13 => (k_X1_refuse x0 1 h4).bind fun r12 => some (.inl r12.1, r12.2)) | (.inr e5, h4) => (some (.inr e5, h4))
set_option maxHeartbeats 4000000 in
theorem T_X1_stuff {l : Launch} {E : XEnv}  {n : Nat} {x0 : Nat} {x1 : Int32} {x2 : Int32} {h : XH} {r : (Int32 ⊕ XX) × XH} (hl : k_X1_stuff n E.2.2.2 x0 x1 x2 h = some r) : CM l E mX1_stuff 10 [.ref x0, .int x1, .int x2] h (xrI r.1) r.2 := by
  unfold k_X1_stuff at hl
  refine cm_of (by decide +kernel) rfl (Nat.le_of_ble_eq_true rfl) ?_
  refine cx_aload_n dX1_stuff_0 rfl rfl ?_
  refine cx_iload_n dX1_stuff_1 rfl ?_
  obtain ⟨u2, eu2, hl⟩ := xb hl
  obtain ⟨r1, er1, hl⟩ := xb hl
  rcases r1 with ⟨v3 | ⟨C6, q7⟩, h4⟩
  · dsimp only at hl
    refine cx_callV (Or.inl ⟨by decide, _, _, rfl⟩) (T_X1_aHouse er1) lV_X1_173 C_X1_aHouse dX1_stuff_2 eu2 (by decide) rfl (by omega) (Nat.le_of_ble_eq_true rfl) ?_
    refine cx_aload_n dX1_stuff_5 rfl rfl ?_
    obtain ⟨v8, ev8, hl⟩ := xb hl
    refine cx_getR gF_X1_31 dX1_stuff_6 ev8 ?_
    refine cx_iload_n dX1_stuff_9 rfl ?_
    obtain ⟨u10, eu10, hl⟩ := xb hl
    obtain ⟨r9, er9, hl⟩ := xb hl
    refine cx_callV (Or.inl ⟨by decide, _, _, rfl⟩) (T_X3_in er9) lV_X1_93 C_X3_in dX1_stuff_10 eu10 (by decide) rfl (by omega) (Nat.le_of_ble_eq_true rfl) ?_
    refine cx_iconst (v := (-1)) dX1_stuff_13 rfl ?_
    by_cases c11 : r9 = (-1)
    · rw [if_pos c11] at hl
      refine cx_icmp_ne (X := True) (tgt := 27) dX1_stuff_14 (by decide) (fun z => absurd c11 z) (fun _ => ?_)
      refine cx_iload_n dX1_stuff_17 rfl ?_
      refine cx_iconst (v := 1) dX1_stuff_18 rfl ?_
      refine cx_bipush (v := 20) dX1_stuff_19 (by decide) ?_
      obtain ⟨r14, er14, hl⟩ := xb hl
      refine cx_callS (T_X1_in er14) lS_X1_139 C_X1_in dX1_stuff_21 rfl (by omega) (Nat.le_of_ble_eq_true rfl) ?_
      by_cases c16 : r14 = 0
      · rw [if_pos c16] at hl
        refine cx_if_ne (X := True) (tgt := 33) dX1_stuff_24 (by decide) (fun z => absurd c16 z) (fun _ => ?_)
        refine cx_aload_n dX1_stuff_27 rfl rfl ?_
        refine cx_iconst (v := 1) dX1_stuff_28 rfl ?_
        obtain ⟨u29, eu29, hl⟩ := xb hl
        obtain ⟨r28, er28, hl⟩ := xb hl
        refine cx_callV (Or.inl ⟨by decide, _, _, rfl⟩) (T_X1_refuse er28) lV_X1_220 C_X1_refuse dX1_stuff_29 eu29 (by decide) rfl (by omega) (Nat.le_of_ble_eq_true rfl) ?_
        cases hl
        exact cx_iret dX1_stuff_32 rfl rfl rfl rfl
      · rw [if_neg c16] at hl
        refine cx_if_ne (X := True) (tgt := 33) dX1_stuff_24 (by decide) (fun _ => ?_) (fun z => absurd z c16)
        refine cx_aload_n dX1_stuff_33 rfl rfl ?_
        obtain ⟨u18, eu18, hl⟩ := xb hl
        obtain ⟨r17, er17, hl⟩ := xb hl
        refine cx_callV (Or.inl ⟨by decide, _, _, rfl⟩) (T_X1_keep er17) lV_X1_223 C_X1_keep dX1_stuff_34 eu18 (by decide) rfl (by omega) (Nat.le_of_ble_eq_true rfl) ?_
        refine cx_aload_n dX1_stuff_37 rfl rfl ?_
        obtain ⟨v19, ev19, hl⟩ := xb hl
        refine cx_getR gF_X1_31 dX1_stuff_38 ev19 ?_
        obtain ⟨v20, ev20, hl⟩ := xb hl
        refine cx_getR gF_X1_165 dX1_stuff_41 ev20 ?_
        refine cx_iload_n dX1_stuff_44 rfl ?_
        refine cx_iconst (v := 1) dX1_stuff_45 rfl ?_
        refine cx_aload_n dX1_stuff_46 rfl rfl ?_
        obtain ⟨v21, ev21, hl⟩ := xb hl
        refine cx_getR gF_X1_31 dX1_stuff_47 ev21 ?_
        obtain ⟨v22, ev22, hl⟩ := xb hl
        refine cx_getR gF_X1_165 dX1_stuff_50 ev22 ?_
        refine cx_iload_n dX1_stuff_53 rfl ?_
        obtain ⟨v23, ev23, hl⟩ := xb hl
        refine cx_iald dX1_stuff_54 ev23 ?_
        refine cx_iload_n dX1_stuff_55 rfl ?_
        refine cx_isub dX1_stuff_56 ?_
        refine cx_mmax q1277 dX1_stuff_57 (by omega) (Nat.le_of_ble_eq_true rfl) ?_
        obtain ⟨h24, eh24, hl⟩ := xb hl
        refine cx_iast dX1_stuff_60 eh24 ?_
        refine cx_aload_n dX1_stuff_61 rfl rfl ?_
        obtain ⟨v25, ev25, hl⟩ := xb hl
        refine cx_getR gF_X1_31 dX1_stuff_62 ev25 ?_
        obtain ⟨v26, ev26, hl⟩ := xb hl
        refine cx_getR gF_X1_165 dX1_stuff_65 ev26 ?_
        refine cx_iload_n dX1_stuff_68 rfl ?_
        obtain ⟨v27, ev27, hl⟩ := xb hl
        refine cx_iald dX1_stuff_69 ev27 ?_
        cases hl
        exact cx_iret dX1_stuff_70 rfl rfl rfl rfl
    · rw [if_neg c11] at hl
      refine cx_icmp_ne (X := True) (tgt := 27) dX1_stuff_14 (by decide) (fun _ => ?_) (fun z => absurd z c11)
      refine cx_aload_n dX1_stuff_27 rfl rfl ?_
      refine cx_iconst (v := 1) dX1_stuff_28 rfl ?_
      obtain ⟨u13, eu13, hl⟩ := xb hl
      obtain ⟨r12, er12, hl⟩ := xb hl
      refine cx_callV (Or.inl ⟨by decide, _, _, rfl⟩) (T_X1_refuse er12) lV_X1_220 C_X1_refuse dX1_stuff_29 eu13 (by decide) rfl (by omega) (Nat.le_of_ble_eq_true rfl) ?_
      cases hl
      exact cx_iret dX1_stuff_32 rfl rfl rfl rfl
  · dsimp only at hl
    cases hl
    exact cx_callVx (Or.inl ⟨by decide, _, _, rfl⟩) (T_X1_aHouse er1) lV_X1_173 C_X1_aHouse dX1_stuff_2 eu2 (by decide) rfl (by omega) (Nat.le_of_ble_eq_true rfl) (ct_out rfl rfl (by decide))
def k_X1_change_J88 (n : Nat) (g : Nat) (c : Nat → Value) (x0 : Nat) (x1 : Int32) (x2 : Int32) (x3 : Int32) (x4 : Int32) (y0 : Int32) (h : XH) : Option ((Int32 ⊕ XX) × XH) := if y0 = 0 then (cgR h x0 0 7).bind fun v31 => (caI h v31 100 1).bind fun v32 => (csu h v31 100 1 (.int (v32 + 1))).bind fun h33 => some (.inl 0, h33) else (ckd h x0 0).bind fun u24 => (k_X1_keep n c x0 h).bind fun r23 => (cgR r23 x0 0 2).bind fun v25 => (cgR r23 v25 2 3).bind fun v26 => (csu r23 v26 100 x1 (.int x4)).bind fun h27 => (cgR h27 x0 0 2).bind fun v28 => (cgR h27 v28 2 3).bind fun v29 => (csu h27 v29 100 x2 (.int x3)).bind fun h30 => some (.inl 1, h30)
def k_X1_change_J87 (n : Nat) (g : Nat) (c : Nat → Value) (x0 : Nat) (x1 : Int32) (x2 : Int32) (x3 : Int32) (x4 : Int32) (h : XH) : Option ((Int32 ⊕ XX) × XH) := k_X1_change_J88 n g c x0 x1 x2 x3 x4 0 h
def k_X1_change_J66 (n : Nat) (g : Nat) (c : Nat → Value) (x0 : Nat) (x1 : Int32) (x2 : Int32) (x3 : Int32) (x4 : Int32) (h : XH) : Option ((Int32 ⊕ XX) × XH) := if x3 = (-1) then k_X1_change_J88 n g c x0 x1 x2 x3 x4 1 h else (cgR h x0 0 2).bind fun v37 => (ckd h v37 2).bind fun u39 => (k_X3_goesIn n g c v37 x2 x3 h).bind fun r38 => if r38.1 = 0 then k_X1_change_J87 n g c x0 x1 x2 x3 x4 r38.2 else k_X1_change_J88 n g c x0 x1 x2 x3 x4 1 r38.2
def k_X1_change_J47 (n : Nat) (g : Nat) (c : Nat → Value) (x0 : Nat) (x1 : Int32) (x2 : Int32) (x3 : Int32) (x4 : Int32) (h : XH) : Option ((Int32 ⊕ XX) × XH) := if x4 = (-1) then k_X1_change_J66 n g c x0 x1 x2 x3 x4 h else (cgR h x0 0 2).bind fun v41 => (ckd h v41 2).bind fun u43 => (k_X3_goesIn n g c v41 x1 x4 h).bind fun r42 => if r42.1 = 0 then k_X1_change_J87 n g c x0 x1 x2 x3 x4 r42.2 else k_X1_change_J66 n g c x0 x1 x2 x3 x4 r42.2
def k_X1_change (n : Nat) (g : Nat) (c : Nat → Value) (x0 : Nat) (x1 : Int32) (x2 : Int32) (h : XH) : Option ((Int32 ⊕ XX) × XH) := (ckd h x0 0).bind fun u2 => (k_X1_aPerson x0 x1 h).bind fun r1 => match r1 with | (.inl v3, h4) => ((ckd h4 x0 0).bind fun u9 => (k_X1_aPerson x0 x2 h4).bind fun r8 => match r8 with | (.inl v10, h11) => ((cgR h11 x0 0 2).bind fun v15 => (cgR h11 v15 2 3).bind fun v16 => (caI h11 v16 100 x1).bind fun v17 => (cgR h11 x0 0 2).bind fun v18 => (cgR h11 v18 2 3).bind fun v19 => (caI h11 v19 100 x2).bind fun v20 => if x1 = x2 then k_X1_change_J87 n g c x0 x1 x2 v17 v20 h11 else if v17 = (-1) then if v20 = (-1) then k_X1_change_J87 n g c x0 x1 x2 v17 v20 h11 else k_X1_change_J47 n g c x0 x1 x2 v17 v20 h11 else k_X1_change_J47 n g c x0 x1 x2 v17 v20 h11) | (.inr e12, h11) => (some (.inr e12, h11))) | (.inr e5, h4) => (some (.inr e5, h4))
set_option maxHeartbeats 4000000 in
theorem k_X1_change_J88_s {l : Launch} {E : XEnv}  {n : Nat} {g : Nat} {x0 : Nat} {x1 : Int32} {x2 : Int32} {x3 : Int32} {x4 : Int32} {y0 : Int32} {h : XH} {r : (Int32 ⊕ XX) × XH} (hl : k_X1_change_J88 n g E.2.2.2 x0 x1 x2 x3 x4 y0 h = some r) : CX l E mX1_change (5 * g + 10) 88 [(0, .ref x0), (1, .int x1), (2, .int x2), (3, .int x3), (4, .int x4)] [.int y0] h r.2 (xrI r.1) := by
  unfold k_X1_change_J88 at hl
  refine cx_istore dX1_change_88 (by decide) ?_
  refine cx_iload dX1_change_90 rfl ?_
  by_cases c22 : y0 = 0
  · rw [if_pos c22] at hl
    refine cx_if_ne (X := True) (tgt := 107) dX1_change_92 (by decide) (fun z => absurd c22 z) (fun _ => ?_)
    refine cx_aload_n dX1_change_95 rfl rfl ?_
    obtain ⟨v31, ev31, hl⟩ := xb hl
    refine cx_getR gF_X1_46 dX1_change_96 ev31 ?_
    refine cx_iconst (v := 1) dX1_change_99 rfl ?_
    refine cx_dup2 dX1_change_100 rfl rfl ?_
    obtain ⟨v32, ev32, hl⟩ := xb hl
    refine cx_iald dX1_change_101 ev32 ?_
    refine cx_iconst (v := 1) dX1_change_102 rfl ?_
    refine cx_iadd dX1_change_103 ?_
    obtain ⟨h33, eh33, hl⟩ := xb hl
    refine cx_iast dX1_change_104 eh33 ?_
    refine cx_iconst (v := 0) dX1_change_105 rfl ?_
    cases hl
    exact cx_iret dX1_change_106 rfl rfl rfl rfl
  · rw [if_neg c22] at hl
    refine cx_if_ne (X := True) (tgt := 107) dX1_change_92 (by decide) (fun _ => ?_) (fun z => absurd z c22)
    refine cx_aload_n dX1_change_107 rfl rfl ?_
    obtain ⟨u24, eu24, hl⟩ := xb hl
    obtain ⟨r23, er23, hl⟩ := xb hl
    refine cx_callV (Or.inl ⟨by decide, _, _, rfl⟩) (T_X1_keep er23) lV_X1_223 C_X1_keep dX1_change_108 eu24 (by decide) rfl (by omega) (Nat.le_of_ble_eq_true rfl) ?_
    refine cx_aload_n dX1_change_111 rfl rfl ?_
    obtain ⟨v25, ev25, hl⟩ := xb hl
    refine cx_getR gF_X1_31 dX1_change_112 ev25 ?_
    obtain ⟨v26, ev26, hl⟩ := xb hl
    refine cx_getR gF_X1_97 dX1_change_115 ev26 ?_
    refine cx_iload_n dX1_change_118 rfl ?_
    refine cx_iload dX1_change_119 rfl ?_
    obtain ⟨h27, eh27, hl⟩ := xb hl
    refine cx_iast dX1_change_121 eh27 ?_
    refine cx_aload_n dX1_change_122 rfl rfl ?_
    obtain ⟨v28, ev28, hl⟩ := xb hl
    refine cx_getR gF_X1_31 dX1_change_123 ev28 ?_
    obtain ⟨v29, ev29, hl⟩ := xb hl
    refine cx_getR gF_X1_97 dX1_change_126 ev29 ?_
    refine cx_iload_n dX1_change_129 rfl ?_
    refine cx_iload_n dX1_change_130 rfl ?_
    obtain ⟨h30, eh30, hl⟩ := xb hl
    refine cx_iast dX1_change_131 eh30 ?_
    refine cx_iconst (v := 1) dX1_change_132 rfl ?_
    cases hl
    exact cx_iret dX1_change_133 rfl rfl rfl rfl
set_option maxHeartbeats 4000000 in
theorem k_X1_change_J87_s {l : Launch} {E : XEnv}  {n : Nat} {g : Nat} {x0 : Nat} {x1 : Int32} {x2 : Int32} {x3 : Int32} {x4 : Int32} {h : XH} {r : (Int32 ⊕ XX) × XH} (hl : k_X1_change_J87 n g E.2.2.2 x0 x1 x2 x3 x4 h = some r) : CX l E mX1_change (5 * g + 10) 87 [(0, .ref x0), (1, .int x1), (2, .int x2), (3, .int x3), (4, .int x4)] [] h r.2 (xrI r.1) := by
  unfold k_X1_change_J87 at hl
  refine cx_iconst (v := 0) dX1_change_87 rfl ?_
  exact cx_lsK (k_X1_change_J88_s hl) ⟨rfl, rfl, rfl, rfl, rfl, trivial⟩
set_option maxHeartbeats 4000000 in
theorem k_X1_change_J66_s {l : Launch} {E : XEnv}  {n : Nat} {g : Nat} {x0 : Nat} {x1 : Int32} {x2 : Int32} {x3 : Int32} {x4 : Int32} {h : XH} {r : (Int32 ⊕ XX) × XH} (hl : k_X1_change_J66 n g E.2.2.2 x0 x1 x2 x3 x4 h = some r) : CX l E mX1_change (5 * g + 10) 66 [(0, .ref x0), (1, .int x1), (2, .int x2), (3, .int x3), (4, .int x4)] [] h r.2 (xrI r.1) := by
  unfold k_X1_change_J66 at hl
  refine cx_iload_n dX1_change_66 rfl ?_
  refine cx_iconst (v := (-1)) dX1_change_67 rfl ?_
  by_cases c36 : x3 = (-1)
  · rw [if_pos c36] at hl
    refine cx_icmp_eq (X := True) (tgt := 83) dX1_change_68 (by decide) (fun _ => ?_) (fun z => absurd c36 z)
    refine cx_iconst (v := 1) dX1_change_83 rfl ?_
    refine cx_goto (tgt := 88) dX1_change_84 (by decide) ?_
    exact cx_lsK (k_X1_change_J88_s hl) ⟨rfl, rfl, rfl, rfl, rfl, trivial⟩
  · rw [if_neg c36] at hl
    refine cx_icmp_eq (X := True) (tgt := 83) dX1_change_68 (by decide) (fun z => absurd z c36) (fun _ => ?_)
    refine cx_aload_n dX1_change_71 rfl rfl ?_
    obtain ⟨v37, ev37, hl⟩ := xb hl
    refine cx_getR gF_X1_31 dX1_change_72 ev37 ?_
    refine cx_iload_n dX1_change_75 rfl ?_
    refine cx_iload_n dX1_change_76 rfl ?_
    obtain ⟨u39, eu39, hl⟩ := xb hl
    obtain ⟨r38, er38, hl⟩ := xb hl
    refine cx_callV (Or.inl ⟨by decide, _, _, rfl⟩) (T_X3_goesIn er38) lV_X1_233 C_X3_goesIn dX1_change_77 eu39 (by decide) rfl (by omega) (Nat.le_of_ble_eq_true rfl) ?_
    by_cases c40 : r38.1 = 0
    · rw [if_pos c40] at hl
      refine cx_if_eq (X := True) (tgt := 87) dX1_change_80 (by decide) (fun _ => ?_) (fun z => absurd c40 z)
      exact cx_lsK (k_X1_change_J87_s hl) ⟨rfl, rfl, rfl, rfl, rfl, trivial⟩
    · rw [if_neg c40] at hl
      refine cx_if_eq (X := True) (tgt := 87) dX1_change_80 (by decide) (fun z => absurd z c40) (fun _ => ?_)
      refine cx_iconst (v := 1) dX1_change_83 rfl ?_
      refine cx_goto (tgt := 88) dX1_change_84 (by decide) ?_
      exact cx_lsK (k_X1_change_J88_s hl) ⟨rfl, rfl, rfl, rfl, rfl, trivial⟩
set_option maxHeartbeats 4000000 in
theorem k_X1_change_J47_s {l : Launch} {E : XEnv}  {n : Nat} {g : Nat} {x0 : Nat} {x1 : Int32} {x2 : Int32} {x3 : Int32} {x4 : Int32} {h : XH} {r : (Int32 ⊕ XX) × XH} (hl : k_X1_change_J47 n g E.2.2.2 x0 x1 x2 x3 x4 h = some r) : CX l E mX1_change (5 * g + 10) 47 [(0, .ref x0), (1, .int x1), (2, .int x2), (3, .int x3), (4, .int x4)] [] h r.2 (xrI r.1) := by
  unfold k_X1_change_J47 at hl
  refine cx_iload dX1_change_47 rfl ?_
  refine cx_iconst (v := (-1)) dX1_change_49 rfl ?_
  by_cases c35 : x4 = (-1)
  · rw [if_pos c35] at hl
    refine cx_icmp_eq (X := True) (tgt := 66) dX1_change_50 (by decide) (fun _ => ?_) (fun z => absurd c35 z)
    exact cx_lsK (k_X1_change_J66_s hl) ⟨rfl, rfl, rfl, rfl, rfl, trivial⟩
  · rw [if_neg c35] at hl
    refine cx_icmp_eq (X := True) (tgt := 66) dX1_change_50 (by decide) (fun z => absurd z c35) (fun _ => ?_)
    refine cx_aload_n dX1_change_53 rfl rfl ?_
    obtain ⟨v41, ev41, hl⟩ := xb hl
    refine cx_getR gF_X1_31 dX1_change_54 ev41 ?_
    refine cx_iload_n dX1_change_57 rfl ?_
    refine cx_iload dX1_change_58 rfl ?_
    obtain ⟨u43, eu43, hl⟩ := xb hl
    obtain ⟨r42, er42, hl⟩ := xb hl
    refine cx_callV (Or.inl ⟨by decide, _, _, rfl⟩) (T_X3_goesIn er42) lV_X1_233 C_X3_goesIn dX1_change_60 eu43 (by decide) rfl (by omega) (Nat.le_of_ble_eq_true rfl) ?_
    by_cases c44 : r42.1 = 0
    · rw [if_pos c44] at hl
      refine cx_if_eq (X := True) (tgt := 87) dX1_change_63 (by decide) (fun _ => ?_) (fun z => absurd c44 z)
      exact cx_lsK (k_X1_change_J87_s hl) ⟨rfl, rfl, rfl, rfl, rfl, trivial⟩
    · rw [if_neg c44] at hl
      refine cx_if_eq (X := True) (tgt := 87) dX1_change_63 (by decide) (fun z => absurd z c44) (fun _ => ?_)
      exact cx_lsK (k_X1_change_J66_s hl) ⟨rfl, rfl, rfl, rfl, rfl, trivial⟩
set_option maxHeartbeats 4000000 in
theorem T_X1_change {l : Launch} {E : XEnv}  {n : Nat} {g : Nat} {x0 : Nat} {x1 : Int32} {x2 : Int32} {h : XH} {r : (Int32 ⊕ XX) × XH} (hl : k_X1_change n g E.2.2.2 x0 x1 x2 h = some r) : CM l E mX1_change (5 * g + 10) [.ref x0, .int x1, .int x2] h (xrI r.1) r.2 := by
  unfold k_X1_change at hl
  refine cm_of (by decide +kernel) rfl (Nat.le_of_ble_eq_true rfl) ?_
  refine cx_aload_n dX1_change_0 rfl rfl ?_
  refine cx_iload_n dX1_change_1 rfl ?_
  obtain ⟨u2, eu2, hl⟩ := xb hl
  obtain ⟨r1, er1, hl⟩ := xb hl
  rcases r1 with ⟨v3 | ⟨C6, q7⟩, h4⟩
  · dsimp only at hl
    refine cx_callV (Or.inl ⟨by decide, _, _, rfl⟩) (T_X1_aPerson er1) lV_X1_193 C_X1_aPerson dX1_change_2 eu2 (by decide) rfl (by omega) (Nat.le_of_ble_eq_true rfl) ?_
    refine cx_aload_n dX1_change_5 rfl rfl ?_
    refine cx_iload_n dX1_change_6 rfl ?_
    obtain ⟨u9, eu9, hl⟩ := xb hl
    obtain ⟨r8, er8, hl⟩ := xb hl
    rcases r8 with ⟨v10 | ⟨C13, q14⟩, h11⟩
    · dsimp only at hl
      refine cx_callV (Or.inl ⟨by decide, _, _, rfl⟩) (T_X1_aPerson er8) lV_X1_193 C_X1_aPerson dX1_change_7 eu9 (by decide) rfl (by omega) (Nat.le_of_ble_eq_true rfl) ?_
      refine cx_aload_n dX1_change_10 rfl rfl ?_
      obtain ⟨v15, ev15, hl⟩ := xb hl
      refine cx_getR gF_X1_31 dX1_change_11 ev15 ?_
      obtain ⟨v16, ev16, hl⟩ := xb hl
      refine cx_getR gF_X1_97 dX1_change_14 ev16 ?_
      refine cx_iload_n dX1_change_17 rfl ?_
      obtain ⟨v17, ev17, hl⟩ := xb hl
      refine cx_iald dX1_change_18 ev17 ?_
      refine cx_istore_n dX1_change_19 (by decide) ?_
      refine cx_aload_n dX1_change_20 rfl rfl ?_
      obtain ⟨v18, ev18, hl⟩ := xb hl
      refine cx_getR gF_X1_31 dX1_change_21 ev18 ?_
      obtain ⟨v19, ev19, hl⟩ := xb hl
      refine cx_getR gF_X1_97 dX1_change_24 ev19 ?_
      refine cx_iload_n dX1_change_27 rfl ?_
      obtain ⟨v20, ev20, hl⟩ := xb hl
      refine cx_iald dX1_change_28 ev20 ?_
      refine cx_istore dX1_change_29 (by decide) ?_
      refine cx_iload_n dX1_change_31 rfl ?_
      refine cx_iload_n dX1_change_32 rfl ?_
      by_cases c21 : x1 = x2
      · rw [if_pos c21] at hl
        refine cx_icmp_eq (X := True) (tgt := 87) dX1_change_33 (by decide) (fun _ => ?_) (fun z => absurd c21 z)
        exact cx_lsK (k_X1_change_J87_s hl) ⟨rfl, rfl, rfl, rfl, rfl, trivial⟩
      · rw [if_neg c21] at hl
        refine cx_icmp_eq (X := True) (tgt := 87) dX1_change_33 (by decide) (fun z => absurd z c21) (fun _ => ?_)
        refine cx_iload_n dX1_change_36 rfl ?_
        refine cx_iconst (v := (-1)) dX1_change_37 rfl ?_
        by_cases c34 : v17 = (-1)
        · rw [if_pos c34] at hl
          refine cx_icmp_ne (X := True) (tgt := 47) dX1_change_38 (by decide) (fun z => absurd c34 z) (fun _ => ?_)
          refine cx_iload dX1_change_41 rfl ?_
          refine cx_iconst (v := (-1)) dX1_change_43 rfl ?_
          by_cases c45 : v20 = (-1)
          · rw [if_pos c45] at hl
            refine cx_icmp_eq (X := True) (tgt := 87) dX1_change_44 (by decide) (fun _ => ?_) (fun z => absurd c45 z)
            exact cx_lsK (k_X1_change_J87_s hl) ⟨rfl, rfl, rfl, rfl, rfl, trivial⟩
          · rw [if_neg c45] at hl
            refine cx_icmp_eq (X := True) (tgt := 87) dX1_change_44 (by decide) (fun z => absurd z c45) (fun _ => ?_)
            exact cx_lsK (k_X1_change_J47_s hl) ⟨rfl, rfl, rfl, rfl, rfl, trivial⟩
        · rw [if_neg c34] at hl
          refine cx_icmp_ne (X := True) (tgt := 47) dX1_change_38 (by decide) (fun _ => ?_) (fun z => absurd z c34)
          exact cx_lsK (k_X1_change_J47_s hl) ⟨rfl, rfl, rfl, rfl, rfl, trivial⟩
    · dsimp only at hl
      cases hl
      exact cx_callVx (Or.inl ⟨by decide, _, _, rfl⟩) (T_X1_aPerson er8) lV_X1_193 C_X1_aPerson dX1_change_7 eu9 (by decide) rfl (by omega) (Nat.le_of_ble_eq_true rfl) (ct_out rfl rfl (by decide))
  · dsimp only at hl
    cases hl
    exact cx_callVx (Or.inl ⟨by decide, _, _, rfl⟩) (T_X1_aPerson er1) lV_X1_193 C_X1_aPerson dX1_change_2 eu2 (by decide) rfl (by omega) (Nat.le_of_ble_eq_true rfl) (ct_out rfl rfl (by decide))
def k_X1_later (n : Nat) (g : Nat) (c : Nat → Value) (x0 : Nat) (x1 : Int32) (h : XH) : Option (Nat × XH) := (cgR h x0 0 3).bind fun v1 => (cgR h x0 0 2).bind fun v2 => (ckd h v1 2).bind fun u4 => (k_X3_be n v1 v2 h).bind fun r3 => (ckd r3.2 r3.1 2).bind fun u6 => (k_X3_after n g c r3.1 x1 r3.2).bind fun r5 => some (r5.1, r5.2)
set_option maxHeartbeats 4000000 in
theorem T_X1_later {l : Launch} {E : XEnv}  {n : Nat} {g : Nat} {x0 : Nat} {x1 : Int32} {h : XH} {r : Nat × XH} (hl : k_X1_later n g E.2.2.2 x0 x1 h = some r) : CM l E mX1_later (5 * g + 11) [.ref x0, .int x1] h (.inl (some (.ref r.1))) r.2 := by
  unfold k_X1_later at hl
  refine cm_of (by decide +kernel) rfl (Nat.le_of_ble_eq_true rfl) ?_
  refine cx_aload_n dX1_later_0 rfl rfl ?_
  obtain ⟨v1, ev1, hl⟩ := xb hl
  refine cx_getR gF_X1_35 dX1_later_1 ev1 ?_
  refine cx_aload_n dX1_later_4 rfl rfl ?_
  obtain ⟨v2, ev2, hl⟩ := xb hl
  refine cx_getR gF_X1_31 dX1_later_5 ev2 ?_
  obtain ⟨u4, eu4, hl⟩ := xb hl
  obtain ⟨r3, er3, hl⟩ := xb hl
  refine cx_callV (Or.inl ⟨by decide, _, _, rfl⟩) (T_X3_be er3) lV_X1_244 C_X3_be dX1_later_8 eu4 (by decide) rfl (by omega) (Nat.le_of_ble_eq_true rfl) ?_
  refine cx_iload_n dX1_later_11 rfl ?_
  obtain ⟨u6, eu6, hl⟩ := xb hl
  obtain ⟨r5, er5, hl⟩ := xb hl
  refine cx_callV (Or.inl ⟨by decide, _, _, rfl⟩) (T_X3_after er5) lV_X1_226 C_X3_after dX1_later_12 eu6 (by decide) rfl (by omega) (Nat.le_of_ble_eq_true rfl) ?_
  cases hl
  exact cx_aret dX1_later_15 rfl rfl (Or.inl ⟨_, rfl⟩) rfl rfl
def k_X1_then (n : Nat) (g : Nat) (c : Nat → Value) (x0 : Nat) (x1 : Int32) (x2 : Int32) (x3 : Int32) (h : XH) : Option ((Int32 ⊕ XX) × XH) := (ckd h x0 0).bind fun u2 => (k_X1_aPerson x0 x1 h).bind fun r1 => match r1 with | (.inl v3, h4) => ((k_X1_oneOf x3 2 h4).bind fun r8 => match r8 with | (.inl v10, h11) => ((k_X1_in x2 0 40 h11).bind fun r15 => (k_X1_right r15 h11).bind fun r17 => match r17 with | (.inl v19, h20) => ((ckd h20 x0 0).bind fun u25 => (k_X1_later n g c x0 x2 h20).bind fun r24 => if x3 = 0 then (cgR r24.2 x0 0 3).bind fun v34 => (cgR r24.2 v34 2 2).bind fun v35 => (caI r24.2 v35 100 x1).bind fun v36 => some (.inl v36, r24.2) else if x3 = 1 then (cgR r24.2 x0 0 3).bind fun v31 => (cgR r24.2 v31 2 3).bind fun v32 => (caI r24.2 v32 100 x1).bind fun v33 => some (.inl v33, r24.2) else (cgR r24.2 x0 0 3).bind fun v28 => (cgR r24.2 v28 2 4).bind fun v29 => (caI r24.2 v29 100 x1).bind fun v30 => some (.inl v30, r24.2)) | (.inr e21, h20) => (some (.inr e21, h20))) | (.inr e12, h11) => (some (.inr e12, h11))) | (.inr e5, h4) => (some (.inr e5, h4))
set_option maxHeartbeats 4000000 in
theorem T_X1_then {l : Launch} {E : XEnv}  {n : Nat} {g : Nat} {x0 : Nat} {x1 : Int32} {x2 : Int32} {x3 : Int32} {h : XH} {r : (Int32 ⊕ XX) × XH} (hl : k_X1_then n g E.2.2.2 x0 x1 x2 x3 h = some r) : CM l E mX1_then (5 * g + 12) [.ref x0, .int x1, .int x2, .int x3] h (xrI r.1) r.2 := by
  unfold k_X1_then at hl
  refine cm_of (by decide +kernel) rfl (Nat.le_of_ble_eq_true rfl) ?_
  refine cx_aload_n dX1_then_0 rfl rfl ?_
  refine cx_iload_n dX1_then_1 rfl ?_
  obtain ⟨u2, eu2, hl⟩ := xb hl
  obtain ⟨r1, er1, hl⟩ := xb hl
  rcases r1 with ⟨v3 | ⟨C6, q7⟩, h4⟩
  · dsimp only at hl
    refine cx_callV (Or.inl ⟨by decide, _, _, rfl⟩) (T_X1_aPerson er1) lV_X1_193 C_X1_aPerson dX1_then_2 eu2 (by decide) rfl (by omega) (Nat.le_of_ble_eq_true rfl) ?_
    refine cx_iload_n dX1_then_5 rfl ?_
    refine cx_iconst (v := 2) dX1_then_6 rfl ?_
    obtain ⟨r8, er8, hl⟩ := xb hl
    rcases r8 with ⟨v10 | ⟨C13, q14⟩, h11⟩
    · dsimp only at hl
      refine cx_callS (T_X1_oneOf er8) lS_X1_196 C_X1_oneOf dX1_then_7 rfl (by omega) (Nat.le_of_ble_eq_true rfl) ?_
      refine cx_iload_n dX1_then_10 rfl ?_
      refine cx_iconst (v := 0) dX1_then_11 rfl ?_
      refine cx_bipush (v := 40) dX1_then_12 (by decide) ?_
      obtain ⟨r15, er15, hl⟩ := xb hl
      refine cx_callS (T_X1_in er15) lS_X1_139 C_X1_in dX1_then_14 rfl (by omega) (Nat.le_of_ble_eq_true rfl) ?_
      obtain ⟨r17, er17, hl⟩ := xb hl
      rcases r17 with ⟨v19 | ⟨C22, q23⟩, h20⟩
      · dsimp only at hl
        refine cx_callS (T_X1_right er17) lS_X1_62 C_X1_right dX1_then_17 rfl (by omega) (Nat.le_of_ble_eq_true rfl) ?_
        refine cx_aload_n dX1_then_20 rfl rfl ?_
        refine cx_iload_n dX1_then_21 rfl ?_
        obtain ⟨u25, eu25, hl⟩ := xb hl
        obtain ⟨r24, er24, hl⟩ := xb hl
        refine cx_callV (Or.inl ⟨by decide, _, _, rfl⟩) (T_X1_later er24) lV_X1_248 C_X1_later dX1_then_22 eu25 (by decide) rfl (by omega) (Nat.le_of_ble_eq_true rfl) ?_
        refine cx_pop dX1_then_25 rfl ?_
        refine cx_iload_n dX1_then_26 rfl ?_
        by_cases c26 : x3 = 0
        · rw [if_pos c26] at hl
          refine cx_if_ne (X := True) (tgt := 42) dX1_then_27 (by decide) (fun z => absurd c26 z) (fun _ => ?_)
          refine cx_aload_n dX1_then_30 rfl rfl ?_
          obtain ⟨v34, ev34, hl⟩ := xb hl
          refine cx_getR gF_X1_35 dX1_then_31 ev34 ?_
          obtain ⟨v35, ev35, hl⟩ := xb hl
          refine cx_getR gF_X1_167 dX1_then_34 ev35 ?_
          refine cx_iload_n dX1_then_37 rfl ?_
          obtain ⟨v36, ev36, hl⟩ := xb hl
          refine cx_iald dX1_then_38 ev36 ?_
          refine cx_goto (tgt := 68) dX1_then_39 (by decide) ?_
          cases hl
          exact cx_iret dX1_then_68 rfl rfl rfl rfl
        · rw [if_neg c26] at hl
          refine cx_if_ne (X := True) (tgt := 42) dX1_then_27 (by decide) (fun _ => ?_) (fun z => absurd z c26)
          refine cx_iload_n dX1_then_42 rfl ?_
          refine cx_iconst (v := 1) dX1_then_43 rfl ?_
          by_cases c27 : x3 = 1
          · rw [if_pos c27] at hl
            refine cx_icmp_ne (X := True) (tgt := 59) dX1_then_44 (by decide) (fun z => absurd c27 z) (fun _ => ?_)
            refine cx_aload_n dX1_then_47 rfl rfl ?_
            obtain ⟨v31, ev31, hl⟩ := xb hl
            refine cx_getR gF_X1_35 dX1_then_48 ev31 ?_
            obtain ⟨v32, ev32, hl⟩ := xb hl
            refine cx_getR gF_X1_97 dX1_then_51 ev32 ?_
            refine cx_iload_n dX1_then_54 rfl ?_
            obtain ⟨v33, ev33, hl⟩ := xb hl
            refine cx_iald dX1_then_55 ev33 ?_
            refine cx_goto (tgt := 68) dX1_then_56 (by decide) ?_
            cases hl
            exact cx_iret dX1_then_68 rfl rfl rfl rfl
          · rw [if_neg c27] at hl
            refine cx_icmp_ne (X := True) (tgt := 59) dX1_then_44 (by decide) (fun _ => ?_) (fun z => absurd z c27)
            refine cx_aload_n dX1_then_59 rfl rfl ?_
            obtain ⟨v28, ev28, hl⟩ := xb hl
            refine cx_getR gF_X1_35 dX1_then_60 ev28 ?_
            obtain ⟨v29, ev29, hl⟩ := xb hl
            refine cx_getR gF_X1_203 dX1_then_63 ev29 ?_
            refine cx_iload_n dX1_then_66 rfl ?_
            obtain ⟨v30, ev30, hl⟩ := xb hl
            refine cx_iald dX1_then_67 ev30 ?_
            cases hl
            exact cx_iret dX1_then_68 rfl rfl rfl rfl
      · dsimp only at hl
        cases hl
        exact cx_callSx (T_X1_right er17) lS_X1_62 C_X1_right dX1_then_17 rfl (by omega) (Nat.le_of_ble_eq_true rfl) (ct_out rfl rfl (by decide))
    · dsimp only at hl
      cases hl
      exact cx_callSx (T_X1_oneOf er8) lS_X1_196 C_X1_oneOf dX1_then_7 rfl (by omega) (Nat.le_of_ble_eq_true rfl) (ct_out rfl rfl (by decide))
  · dsimp only at hl
    cases hl
    exact cx_callVx (Or.inl ⟨by decide, _, _, rfl⟩) (T_X1_aPerson er1) lV_X1_193 C_X1_aPerson dX1_then_2 eu2 (by decide) rfl (by omega) (Nat.le_of_ble_eq_true rfl) (ct_out rfl rfl (by decide))
def k_X1_worn (n : Nat) (g : Nat) (c : Nat → Value) (x0 : Nat) (x1 : Int32) (x2 : Int32) (h : XH) : Option ((Int32 ⊕ XX) × XH) := (ckd h x0 0).bind fun u2 => (k_X1_aHouse x0 x1 h).bind fun r1 => match r1 with | (.inl v3, h4) => ((k_X1_in x2 0 40 h4).bind fun r8 => (k_X1_right r8 h4).bind fun r10 => match r10 with | (.inl v12, h13) => ((ckd h13 x0 0).bind fun u18 => (k_X1_later n g c x0 x2 h13).bind fun r17 => (cgR r17.2 r17.1 2 1).bind fun v19 => (caI r17.2 v19 100 x1).bind fun v20 => some (.inl v20, r17.2)) | (.inr e14, h13) => (some (.inr e14, h13))) | (.inr e5, h4) => (some (.inr e5, h4))
set_option maxHeartbeats 4000000 in
theorem T_X1_worn {l : Launch} {E : XEnv}  {n : Nat} {g : Nat} {x0 : Nat} {x1 : Int32} {x2 : Int32} {h : XH} {r : (Int32 ⊕ XX) × XH} (hl : k_X1_worn n g E.2.2.2 x0 x1 x2 h = some r) : CM l E mX1_worn (5 * g + 12) [.ref x0, .int x1, .int x2] h (xrI r.1) r.2 := by
  unfold k_X1_worn at hl
  refine cm_of (by decide +kernel) rfl (Nat.le_of_ble_eq_true rfl) ?_
  refine cx_aload_n dX1_worn_0 rfl rfl ?_
  refine cx_iload_n dX1_worn_1 rfl ?_
  obtain ⟨u2, eu2, hl⟩ := xb hl
  obtain ⟨r1, er1, hl⟩ := xb hl
  rcases r1 with ⟨v3 | ⟨C6, q7⟩, h4⟩
  · dsimp only at hl
    refine cx_callV (Or.inl ⟨by decide, _, _, rfl⟩) (T_X1_aHouse er1) lV_X1_173 C_X1_aHouse dX1_worn_2 eu2 (by decide) rfl (by omega) (Nat.le_of_ble_eq_true rfl) ?_
    refine cx_iload_n dX1_worn_5 rfl ?_
    refine cx_iconst (v := 0) dX1_worn_6 rfl ?_
    refine cx_bipush (v := 40) dX1_worn_7 (by decide) ?_
    obtain ⟨r8, er8, hl⟩ := xb hl
    refine cx_callS (T_X1_in er8) lS_X1_139 C_X1_in dX1_worn_9 rfl (by omega) (Nat.le_of_ble_eq_true rfl) ?_
    obtain ⟨r10, er10, hl⟩ := xb hl
    rcases r10 with ⟨v12 | ⟨C15, q16⟩, h13⟩
    · dsimp only at hl
      refine cx_callS (T_X1_right er10) lS_X1_62 C_X1_right dX1_worn_12 rfl (by omega) (Nat.le_of_ble_eq_true rfl) ?_
      refine cx_aload_n dX1_worn_15 rfl rfl ?_
      refine cx_iload_n dX1_worn_16 rfl ?_
      obtain ⟨u18, eu18, hl⟩ := xb hl
      obtain ⟨r17, er17, hl⟩ := xb hl
      refine cx_callV (Or.inl ⟨by decide, _, _, rfl⟩) (T_X1_later er17) lV_X1_248 C_X1_later dX1_worn_17 eu18 (by decide) rfl (by omega) (Nat.le_of_ble_eq_true rfl) ?_
      obtain ⟨v19, ev19, hl⟩ := xb hl
      refine cx_getR gF_X1_180 dX1_worn_20 ev19 ?_
      refine cx_iload_n dX1_worn_23 rfl ?_
      obtain ⟨v20, ev20, hl⟩ := xb hl
      refine cx_iald dX1_worn_24 ev20 ?_
      cases hl
      exact cx_iret dX1_worn_25 rfl rfl rfl rfl
    · dsimp only at hl
      cases hl
      exact cx_callSx (T_X1_right er10) lS_X1_62 C_X1_right dX1_worn_12 rfl (by omega) (Nat.le_of_ble_eq_true rfl) (ct_out rfl rfl (by decide))
  · dsimp only at hl
    cases hl
    exact cx_callVx (Or.inl ⟨by decide, _, _, rfl⟩) (T_X1_aHouse er1) lV_X1_173 C_X1_aHouse dX1_worn_2 eu2 (by decide) rfl (by omega) (Nat.le_of_ble_eq_true rfl) (ct_out rfl rfl (by decide))
def k_X1_burstIn_L14 (n : Nat) (g : Nat) (c : Nat → Value) (x0 : Nat) (x1 : Int32) (x2 : Int32) (h : XH) : Option ((Int32 × XH) ⊕ ((XH) ⊕ (Int32 × XH))) := if x2 > 40 then some (.inr (.inl h)) else (cgR h x0 0 3).bind fun v6 => (cgI h v6 2 6).bind fun v7 => (k_X1_isOf v7 x1 h).bind fun r8 => if r8 = 0 then (cgR h x0 0 3).bind fun v11 => (ckd h v11 2).bind fun u13 => (k_X3_pass n g c v11 h).bind fun r12 => (some (x2 + 1)).bind fun w14 => some (.inl (w14, r12.2)) else some (.inr (.inr (x2, h)))
abbrev K_X1_burstIn_L14 (l : Launch) (E : XEnv) (hf : XH) (res : XO) (g : Nat) (h : XH) (x0 : Nat) (x1 : Int32) (o : (XH) ⊕ (Int32 × XH)) : Prop := match o with
  | .inl e => CX l E mX1_burstIn (5 * g + 10) 50 [] [] e hf res
  | .inr e => CX l E mX1_burstIn (5 * g + 10) 34 [(2, .int e.1)] [] e.2 hf res
def k_X1_burstIn (n : Nat) (g : Nat) (c : Nat → Value) (x0 : Nat) (x1 : Int32) (h : XH) : Option (Int32 × XH) := (cgR h x0 0 3).bind fun v1 => (cgR h x0 0 2).bind fun v2 => (ckd h v1 2).bind fun u4 => (k_X3_be n v1 v2 h).bind fun r3 => (xloop (fun s => k_X1_burstIn_L14 n g c x0 x1 s.1 s.2) n (0, r3.2)).bind fun o15 => match o15 with | .inl e16 => (some ((-1), e16)) | .inr e17 => (some (e17.1, e17.2))
set_option maxHeartbeats 4000000 in
theorem k_X1_burstIn_L14_s {l : Launch} {E : XEnv} {hf : XH} {res : XO} {n : Nat} {g : Nat} {x0 : Nat} {x1 : Int32} {x2 : Int32} {h : XH} {o : (Int32 × XH) ⊕ ((XH) ⊕ (Int32 × XH))} (hl : k_X1_burstIn_L14 n g E.2.2.2 x0 x1 x2 h = some o) (hK : (xk (fun s : Int32 × XH => CX l E mX1_burstIn (5 * g + 10) 14 [(0, .ref x0), (1, .int x1), (2, .int s.1)] [] s.2 hf res) (fun r => K_X1_burstIn_L14 l E hf res g h x0 x1 r) o)) : CX l E mX1_burstIn (5 * g + 10) 14 [(0, .ref x0), (1, .int x1), (2, .int x2)] [] h hf res := by
  unfold k_X1_burstIn_L14 at hl
  refine cx_iload_n dX1_burstIn_14 rfl ?_
  refine cx_bipush (v := 40) dX1_burstIn_15 (by decide) ?_
  by_cases c5 : x2 > 40
  · rw [if_pos c5] at hl
    refine cx_icmp_gt (X := True) (tgt := 50) dX1_burstIn_17 (by decide) (fun _ => ?_) (fun z => absurd c5 z)
    cases hl
    exact cx_lsK hK trivial
  · rw [if_neg c5] at hl
    refine cx_icmp_gt (X := True) (tgt := 50) dX1_burstIn_17 (by decide) (fun z => absurd z c5) (fun _ => ?_)
    refine cx_aload_n dX1_burstIn_20 rfl rfl ?_
    obtain ⟨v6, ev6, hl⟩ := xb hl
    refine cx_getR gF_X1_35 dX1_burstIn_21 ev6 ?_
    obtain ⟨v7, ev7, hl⟩ := xb hl
    refine cx_getI gF_X1_116 dX1_burstIn_24 ev7 ?_
    refine cx_iload_n dX1_burstIn_27 rfl ?_
    obtain ⟨r8, er8, hl⟩ := xb hl
    refine cx_callS (T_X1_isOf er8) lS_X1_183 C_X1_isOf dX1_burstIn_28 rfl (by omega) (Nat.le_of_ble_eq_true rfl) ?_
    by_cases c10 : r8 = 0
    · rw [if_pos c10] at hl
      refine cx_if_eq (X := True) (tgt := 36) dX1_burstIn_31 (by decide) (fun _ => ?_) (fun z => absurd c10 z)
      refine cx_aload_n dX1_burstIn_36 rfl rfl ?_
      obtain ⟨v11, ev11, hl⟩ := xb hl
      refine cx_getR gF_X1_35 dX1_burstIn_37 ev11 ?_
      obtain ⟨u13, eu13, hl⟩ := xb hl
      obtain ⟨r12, er12, hl⟩ := xb hl
      refine cx_callV (Or.inl ⟨by decide, _, _, rfl⟩) (T_X3_pass er12) lV_X1_251 C_X3_pass dX1_burstIn_40 eu13 (by decide) rfl (by omega) (Nat.le_of_ble_eq_true rfl) ?_
      refine cx_pop dX1_burstIn_43 rfl ?_
      obtain ⟨w14, ew14, hl⟩ := xb hl
      refine cx_iinc dX1_burstIn_44 rfl (by decide) (Option.some.inj ew14) ?_
      refine cx_goto (tgt := 14) dX1_burstIn_47 (by decide) ?_
      cases hl
      exact cx_lsK hK ⟨rfl, rfl, rfl, trivial⟩
    · rw [if_neg c10] at hl
      refine cx_if_eq (X := True) (tgt := 36) dX1_burstIn_31 (by decide) (fun z => absurd z c10) (fun _ => ?_)
      cases hl
      exact cx_lsK hK ⟨rfl, trivial⟩
set_option maxHeartbeats 4000000 in
theorem k_X1_burstIn_L14_ok {l : Launch} {E : XEnv} {hf : XH} {res : XO} {n : Nat} {g : Nat} {x0 : Nat} {x1 : Int32} {h : XH} {s : Int32 × XH} {o : (XH) ⊕ (Int32 × XH)} (hl : xloop (fun s => k_X1_burstIn_L14 n g E.2.2.2 x0 x1 s.1 s.2) n s = some o) (hK : K_X1_burstIn_L14 l E hf res g h x0 x1 o) : CX l E mX1_burstIn (5 * g + 10) 14 [(0, .ref x0), (1, .int x1), (2, .int s.1)] [] s.2 hf res :=
  xloop_of (fun s : Int32 × XH => CX l E mX1_burstIn (5 * g + 10) 14 [(0, .ref x0), (1, .int x1), (2, .int s.1)] [] s.2 hf res) (fun r => K_X1_burstIn_L14 l E hf res g h x0 x1 r) (fun s o hl hk => k_X1_burstIn_L14_s (h := s.2) (o := o) hl hk) n s o hl hK
set_option maxHeartbeats 4000000 in
theorem T_X1_burstIn {l : Launch} {E : XEnv}  {n : Nat} {g : Nat} {x0 : Nat} {x1 : Int32} {h : XH} {r : Int32 × XH} (hl : k_X1_burstIn n g E.2.2.2 x0 x1 h = some r) : CM l E mX1_burstIn (5 * g + 10) [.ref x0, .int x1] h (.inl (some (.int r.1))) r.2 := by
  unfold k_X1_burstIn at hl
  refine cm_of (by decide +kernel) rfl (Nat.le_of_ble_eq_true rfl) ?_
  refine cx_aload_n dX1_burstIn_0 rfl rfl ?_
  obtain ⟨v1, ev1, hl⟩ := xb hl
  refine cx_getR gF_X1_35 dX1_burstIn_1 ev1 ?_
  refine cx_aload_n dX1_burstIn_4 rfl rfl ?_
  obtain ⟨v2, ev2, hl⟩ := xb hl
  refine cx_getR gF_X1_31 dX1_burstIn_5 ev2 ?_
  obtain ⟨u4, eu4, hl⟩ := xb hl
  obtain ⟨r3, er3, hl⟩ := xb hl
  refine cx_callV (Or.inl ⟨by decide, _, _, rfl⟩) (T_X3_be er3) lV_X1_244 C_X3_be dX1_burstIn_8 eu4 (by decide) rfl (by omega) (Nat.le_of_ble_eq_true rfl) ?_
  refine cx_pop dX1_burstIn_11 rfl ?_
  refine cx_iconst (v := 0) dX1_burstIn_12 rfl ?_
  refine cx_istore_n dX1_burstIn_13 (by decide) ?_
  obtain ⟨o15, eo15, hl⟩ := xb hl
  rcases o15 with e16 | e17
  · dsimp only at hl
    refine cx_lsK (k_X1_burstIn_L14_ok (h := r3.2) (s := (0, r3.2)) eo15 ?_) ⟨rfl, rfl, rfl, trivial⟩
    refine cx_iconst (v := (-1)) dX1_burstIn_50 rfl ?_
    cases hl
    exact cx_iret dX1_burstIn_51 rfl rfl rfl rfl
  · dsimp only at hl
    refine cx_lsK (k_X1_burstIn_L14_ok (h := r3.2) (s := (0, r3.2)) eo15 ?_) ⟨rfl, rfl, rfl, trivial⟩
    refine cx_iload_n dX1_burstIn_34 rfl ?_
    cases hl
    exact cx_iret dX1_burstIn_35 rfl rfl rfl rfl
def k_X1_burst (n : Nat) (g : Nat) (c : Nat → Value) (x0 : Nat) (x1 : Int32) (h : XH) : Option ((Int32 ⊕ XX) × XH) := (ckd h x0 0).bind fun u2 => (k_X1_aHouse x0 x1 h).bind fun r1 => match r1 with | (.inl v3, h4) => ((ckd h4 x0 0).bind fun u9 => (k_X1_burstIn n g c x0 x1 h4).bind fun r8 => some (.inl r8.1, r8.2)) | (.inr e5, h4) => (some (.inr e5, h4))
set_option maxHeartbeats 4000000 in
theorem T_X1_burst {l : Launch} {E : XEnv}  {n : Nat} {g : Nat} {x0 : Nat} {x1 : Int32} {h : XH} {r : (Int32 ⊕ XX) × XH} (hl : k_X1_burst n g E.2.2.2 x0 x1 h = some r) : CM l E mX1_burst (5 * g + 11) [.ref x0, .int x1] h (xrI r.1) r.2 := by
  unfold k_X1_burst at hl
  refine cm_of (by decide +kernel) rfl (Nat.le_of_ble_eq_true rfl) ?_
  refine cx_aload_n dX1_burst_0 rfl rfl ?_
  refine cx_iload_n dX1_burst_1 rfl ?_
  obtain ⟨u2, eu2, hl⟩ := xb hl
  obtain ⟨r1, er1, hl⟩ := xb hl
  rcases r1 with ⟨v3 | ⟨C6, q7⟩, h4⟩
  · dsimp only at hl
    refine cx_callV (Or.inl ⟨by decide, _, _, rfl⟩) (T_X1_aHouse er1) lV_X1_173 C_X1_aHouse dX1_burst_2 eu2 (by decide) rfl (by omega) (Nat.le_of_ble_eq_true rfl) ?_
    refine cx_aload_n dX1_burst_5 rfl rfl ?_
    refine cx_iload_n dX1_burst_6 rfl ?_
    obtain ⟨u9, eu9, hl⟩ := xb hl
    obtain ⟨r8, er8, hl⟩ := xb hl
    refine cx_callV (Or.inl ⟨by decide, _, _, rfl⟩) (T_X1_burstIn er8) lV_X1_254 C_X1_burstIn dX1_burst_7 eu9 (by decide) rfl (by omega) (Nat.le_of_ble_eq_true rfl) ?_
    cases hl
    exact cx_iret dX1_burst_10 rfl rfl rfl rfl
  · dsimp only at hl
    cases hl
    exact cx_callVx (Or.inl ⟨by decide, _, _, rfl⟩) (T_X1_aHouse er1) lV_X1_173 C_X1_aHouse dX1_burst_2 eu2 (by decide) rfl (by omega) (Nat.le_of_ble_eq_true rfl) (ct_out rfl rfl (by decide))
def k_X1_wriggles_L19 (n : Nat) (g : Nat) (c : Nat → Value) (x0 : Nat) (x1 : Int32) (x2 : Int32) (h : XH) : Option ((Int32 × XH) ⊕ ((XH) ⊕ (Int32 × XH))) := if x2 > 40 then some (.inr (.inl h)) else (cgR h x0 0 3).bind fun v13 => (ckd h v13 2).bind fun u15 => (k_X3_pass n g c v13 h).bind fun r14 => (cgR r14.2 r14.1 2 4).bind fun v16 => (caI r14.2 v16 100 x1).bind fun v17 => (cgR r14.2 x0 0 2).bind fun v18 => (cgR r14.2 v18 2 4).bind fun v19 => (caI r14.2 v19 100 x1).bind fun v20 => if v17 ≤ v20 then (some (x2 + 1)).bind fun w22 => some (.inl (w22, r14.2)) else some (.inr (.inr (x2, r14.2)))
abbrev K_X1_wriggles_L19 (l : Launch) (E : XEnv) (hf : XH) (res : XO) (g : Nat) (h : XH) (x0 : Nat) (x1 : Int32) (o : (XH) ⊕ (Int32 × XH)) : Prop := match o with
  | .inl e => CX l E mX1_wriggles (5 * g + 10) 57 [] [] e hf res
  | .inr e => CX l E mX1_wriggles (5 * g + 10) 49 [(2, .int e.1)] [] e.2 hf res
def k_X1_wriggles (n : Nat) (g : Nat) (c : Nat → Value) (x0 : Nat) (x1 : Int32) (h : XH) : Option ((Int32 ⊕ XX) × XH) := (ckd h x0 0).bind fun u2 => (k_X1_aPerson x0 x1 h).bind fun r1 => match r1 with | (.inl v3, h4) => ((cgR h4 x0 0 3).bind fun v8 => (cgR h4 x0 0 2).bind fun v9 => (ckd h4 v8 2).bind fun u11 => (k_X3_be n v8 v9 h4).bind fun r10 => (xloop (fun s => k_X1_wriggles_L19 n g c x0 x1 s.1 s.2) n (1, r10.2)).bind fun o23 => match o23 with | .inl e24 => (some (.inl (-1), e24)) | .inr e25 => (some (.inl e25.1, e25.2))) | (.inr e5, h4) => (some (.inr e5, h4))
set_option maxHeartbeats 4000000 in
theorem k_X1_wriggles_L19_s {l : Launch} {E : XEnv} {hf : XH} {res : XO} {n : Nat} {g : Nat} {x0 : Nat} {x1 : Int32} {x2 : Int32} {h : XH} {o : (Int32 × XH) ⊕ ((XH) ⊕ (Int32 × XH))} (hl : k_X1_wriggles_L19 n g E.2.2.2 x0 x1 x2 h = some o) (hK : (xk (fun s : Int32 × XH => CX l E mX1_wriggles (5 * g + 10) 19 [(0, .ref x0), (1, .int x1), (2, .int s.1)] [] s.2 hf res) (fun r => K_X1_wriggles_L19 l E hf res g h x0 x1 r) o)) : CX l E mX1_wriggles (5 * g + 10) 19 [(0, .ref x0), (1, .int x1), (2, .int x2)] [] h hf res := by
  unfold k_X1_wriggles_L19 at hl
  refine cx_iload_n dX1_wriggles_19 rfl ?_
  refine cx_bipush (v := 40) dX1_wriggles_20 (by decide) ?_
  by_cases c12 : x2 > 40
  · rw [if_pos c12] at hl
    refine cx_icmp_gt (X := True) (tgt := 57) dX1_wriggles_22 (by decide) (fun _ => ?_) (fun z => absurd c12 z)
    cases hl
    exact cx_lsK hK trivial
  · rw [if_neg c12] at hl
    refine cx_icmp_gt (X := True) (tgt := 57) dX1_wriggles_22 (by decide) (fun z => absurd z c12) (fun _ => ?_)
    refine cx_aload_n dX1_wriggles_25 rfl rfl ?_
    obtain ⟨v13, ev13, hl⟩ := xb hl
    refine cx_getR gF_X1_35 dX1_wriggles_26 ev13 ?_
    obtain ⟨u15, eu15, hl⟩ := xb hl
    obtain ⟨r14, er14, hl⟩ := xb hl
    refine cx_callV (Or.inl ⟨by decide, _, _, rfl⟩) (T_X3_pass er14) lV_X1_251 C_X3_pass dX1_wriggles_29 eu15 (by decide) rfl (by omega) (Nat.le_of_ble_eq_true rfl) ?_
    obtain ⟨v16, ev16, hl⟩ := xb hl
    refine cx_getR gF_X1_203 dX1_wriggles_32 ev16 ?_
    refine cx_iload_n dX1_wriggles_35 rfl ?_
    obtain ⟨v17, ev17, hl⟩ := xb hl
    refine cx_iald dX1_wriggles_36 ev17 ?_
    refine cx_aload_n dX1_wriggles_37 rfl rfl ?_
    obtain ⟨v18, ev18, hl⟩ := xb hl
    refine cx_getR gF_X1_31 dX1_wriggles_38 ev18 ?_
    obtain ⟨v19, ev19, hl⟩ := xb hl
    refine cx_getR gF_X1_203 dX1_wriggles_41 ev19 ?_
    refine cx_iload_n dX1_wriggles_44 rfl ?_
    obtain ⟨v20, ev20, hl⟩ := xb hl
    refine cx_iald dX1_wriggles_45 ev20 ?_
    by_cases c21 : v17 ≤ v20
    · rw [if_pos c21] at hl
      refine cx_icmp_le (X := True) (tgt := 51) dX1_wriggles_46 (by decide) (fun _ => ?_) (fun z => absurd c21 z)
      obtain ⟨w22, ew22, hl⟩ := xb hl
      refine cx_iinc dX1_wriggles_51 rfl (by decide) (Option.some.inj ew22) ?_
      refine cx_goto (tgt := 19) dX1_wriggles_54 (by decide) ?_
      cases hl
      exact cx_lsK hK ⟨rfl, rfl, rfl, trivial⟩
    · rw [if_neg c21] at hl
      refine cx_icmp_le (X := True) (tgt := 51) dX1_wriggles_46 (by decide) (fun z => absurd z c21) (fun _ => ?_)
      cases hl
      exact cx_lsK hK ⟨rfl, trivial⟩
set_option maxHeartbeats 4000000 in
theorem k_X1_wriggles_L19_ok {l : Launch} {E : XEnv} {hf : XH} {res : XO} {n : Nat} {g : Nat} {x0 : Nat} {x1 : Int32} {h : XH} {s : Int32 × XH} {o : (XH) ⊕ (Int32 × XH)} (hl : xloop (fun s => k_X1_wriggles_L19 n g E.2.2.2 x0 x1 s.1 s.2) n s = some o) (hK : K_X1_wriggles_L19 l E hf res g h x0 x1 o) : CX l E mX1_wriggles (5 * g + 10) 19 [(0, .ref x0), (1, .int x1), (2, .int s.1)] [] s.2 hf res :=
  xloop_of (fun s : Int32 × XH => CX l E mX1_wriggles (5 * g + 10) 19 [(0, .ref x0), (1, .int x1), (2, .int s.1)] [] s.2 hf res) (fun r => K_X1_wriggles_L19 l E hf res g h x0 x1 r) (fun s o hl hk => k_X1_wriggles_L19_s (h := s.2) (o := o) hl hk) n s o hl hK
set_option maxHeartbeats 4000000 in
theorem T_X1_wriggles {l : Launch} {E : XEnv}  {n : Nat} {g : Nat} {x0 : Nat} {x1 : Int32} {h : XH} {r : (Int32 ⊕ XX) × XH} (hl : k_X1_wriggles n g E.2.2.2 x0 x1 h = some r) : CM l E mX1_wriggles (5 * g + 10) [.ref x0, .int x1] h (xrI r.1) r.2 := by
  unfold k_X1_wriggles at hl
  refine cm_of (by decide +kernel) rfl (Nat.le_of_ble_eq_true rfl) ?_
  refine cx_aload_n dX1_wriggles_0 rfl rfl ?_
  refine cx_iload_n dX1_wriggles_1 rfl ?_
  obtain ⟨u2, eu2, hl⟩ := xb hl
  obtain ⟨r1, er1, hl⟩ := xb hl
  rcases r1 with ⟨v3 | ⟨C6, q7⟩, h4⟩
  · dsimp only at hl
    refine cx_callV (Or.inl ⟨by decide, _, _, rfl⟩) (T_X1_aPerson er1) lV_X1_193 C_X1_aPerson dX1_wriggles_2 eu2 (by decide) rfl (by omega) (Nat.le_of_ble_eq_true rfl) ?_
    refine cx_aload_n dX1_wriggles_5 rfl rfl ?_
    obtain ⟨v8, ev8, hl⟩ := xb hl
    refine cx_getR gF_X1_35 dX1_wriggles_6 ev8 ?_
    refine cx_aload_n dX1_wriggles_9 rfl rfl ?_
    obtain ⟨v9, ev9, hl⟩ := xb hl
    refine cx_getR gF_X1_31 dX1_wriggles_10 ev9 ?_
    obtain ⟨u11, eu11, hl⟩ := xb hl
    obtain ⟨r10, er10, hl⟩ := xb hl
    refine cx_callV (Or.inl ⟨by decide, _, _, rfl⟩) (T_X3_be er10) lV_X1_244 C_X3_be dX1_wriggles_13 eu11 (by decide) rfl (by omega) (Nat.le_of_ble_eq_true rfl) ?_
    refine cx_pop dX1_wriggles_16 rfl ?_
    refine cx_iconst (v := 1) dX1_wriggles_17 rfl ?_
    refine cx_istore_n dX1_wriggles_18 (by decide) ?_
    obtain ⟨o23, eo23, hl⟩ := xb hl
    rcases o23 with e24 | e25
    · dsimp only at hl
      refine cx_lsK (k_X1_wriggles_L19_ok (h := r10.2) (s := (1, r10.2)) eo23 ?_) ⟨rfl, rfl, rfl, trivial⟩
      refine cx_iconst (v := (-1)) dX1_wriggles_57 rfl ?_
      cases hl
      exact cx_iret dX1_wriggles_58 rfl rfl rfl rfl
    · dsimp only at hl
      refine cx_lsK (k_X1_wriggles_L19_ok (h := r10.2) (s := (1, r10.2)) eo23 ?_) ⟨rfl, rfl, rfl, trivial⟩
      refine cx_iload_n dX1_wriggles_49 rfl ?_
      cases hl
      exact cx_iret dX1_wriggles_50 rfl rfl rfl rfl
  · dsimp only at hl
    cases hl
    exact cx_callVx (Or.inl ⟨by decide, _, _, rfl⟩) (T_X1_aPerson er1) lV_X1_193 C_X1_aPerson dX1_wriggles_2 eu2 (by decide) rfl (by omega) (Nat.le_of_ble_eq_true rfl) (ct_out rfl rfl (by decide))
def k_X1_barefoot (n : Nat) (g : Nat) (c : Nat → Value) (x0 : Nat) (x1 : Int32) (h : XH) : Option ((Int32 ⊕ XX) × XH) := (k_X1_in x1 0 40 h).bind fun r1 => (k_X1_right r1 h).bind fun r3 => match r3 with | (.inl v5, h6) => ((ckd h6 x0 0).bind fun u11 => (k_X1_later n g c x0 x1 h6).bind fun r10 => (ckd r10.2 r10.1 2).bind fun u13 => (k_X3_lodging n r10.1 r10.2).bind fun r12 => some (.inl r12, r10.2)) | (.inr e7, h6) => (some (.inr e7, h6))
set_option maxHeartbeats 4000000 in
theorem T_X1_barefoot {l : Launch} {E : XEnv}  {n : Nat} {g : Nat} {x0 : Nat} {x1 : Int32} {h : XH} {r : (Int32 ⊕ XX) × XH} (hl : k_X1_barefoot n g E.2.2.2 x0 x1 h = some r) : CM l E mX1_barefoot (5 * g + 12) [.ref x0, .int x1] h (xrI r.1) r.2 := by
  unfold k_X1_barefoot at hl
  refine cm_of (by decide +kernel) rfl (Nat.le_of_ble_eq_true rfl) ?_
  refine cx_iload_n dX1_barefoot_0 rfl ?_
  refine cx_iconst (v := 0) dX1_barefoot_1 rfl ?_
  refine cx_bipush (v := 40) dX1_barefoot_2 (by decide) ?_
  obtain ⟨r1, er1, hl⟩ := xb hl
  refine cx_callS (T_X1_in er1) lS_X1_139 C_X1_in dX1_barefoot_4 rfl (by omega) (Nat.le_of_ble_eq_true rfl) ?_
  obtain ⟨r3, er3, hl⟩ := xb hl
  rcases r3 with ⟨v5 | ⟨C8, q9⟩, h6⟩
  · dsimp only at hl
    refine cx_callS (T_X1_right er3) lS_X1_62 C_X1_right dX1_barefoot_7 rfl (by omega) (Nat.le_of_ble_eq_true rfl) ?_
    refine cx_aload_n dX1_barefoot_10 rfl rfl ?_
    refine cx_iload_n dX1_barefoot_11 rfl ?_
    obtain ⟨u11, eu11, hl⟩ := xb hl
    obtain ⟨r10, er10, hl⟩ := xb hl
    refine cx_callV (Or.inl ⟨by decide, _, _, rfl⟩) (T_X1_later er10) lV_X1_248 C_X1_later dX1_barefoot_12 eu11 (by decide) rfl (by omega) (Nat.le_of_ble_eq_true rfl) ?_
    obtain ⟨u13, eu13, hl⟩ := xb hl
    obtain ⟨r12, er12, hl⟩ := xb hl
    refine cx_callV (Or.inl ⟨by decide, _, _, rfl⟩) (T_X3_lodging er12) lV_X1_122 C_X3_lodging dX1_barefoot_15 eu13 (by decide) rfl (by omega) (Nat.le_of_ble_eq_true rfl) ?_
    cases hl
    exact cx_iret dX1_barefoot_18 rfl rfl rfl rfl
  · dsimp only at hl
    cases hl
    exact cx_callSx (T_X1_right er3) lS_X1_62 C_X1_right dX1_barefoot_7 rfl (by omega) (Nat.le_of_ble_eq_true rfl) (ct_out rfl rfl (by decide))
def k_X1_last_J62 (n : Nat) (g : Nat) (c : Nat → Value) (x0 : Nat) (x1 : Int32) (x2 : Int32) (x3 : Int32) (x4 : Int32) (y0 : Int32) (h : XH) : Option ((Int32 × Int32 × Int32 × XH) ⊕ ((Int32 × Int32 × XH))) := if y0 > x3 then (some (x4 + 1)).bind fun w20 => some (.inl (x4, y0, w20, h)) else (some (x4 + 1)).bind fun w21 => some (.inl (x2, x3, w21, h))
def k_X1_last_L12 (n : Nat) (g : Nat) (c : Nat → Value) (x0 : Nat) (x1 : Int32) (x2 : Int32) (x3 : Int32) (x4 : Int32) (h : XH) : Option ((Int32 × Int32 × Int32 × XH) ⊕ ((Int32 × Int32 × XH))) := (cgR h x0 0 1).bind fun v8 => (ckd h v8 1).bind fun u10 => (k_X2_houses v8 h).bind fun r9 => if x4 ≥ r9 then some (.inr (x2, x3, h)) else (cgR h x0 0 2).bind fun v12 => (ckd h v12 2).bind fun u14 => (k_X3_in n v12 x4 h).bind fun r13 => if r13 = (-1) then (some (x4 + 1)).bind fun w22 => some (.inl (x2, x3, w22, h)) else (ckd h x0 0).bind fun u17 => (k_X1_burstIn n g c x0 x4 h).bind fun r16 => if r16.1 = (-1) then k_X1_last_J62 n g c x0 x1 x2 x3 x4 100000 r16.2 else k_X1_last_J62 n g c x0 x1 x2 x3 x4 r16.1 r16.2
abbrev K_X1_last_L12 (l : Launch) (E : XEnv) (hf : XH) (res : XO) (g : Nat) (h : XH) (x0 : Nat) (x1 : Int32) (o : (Int32 × Int32 × XH)) : Prop := match o with
  | e => CX l E mX1_last (5 * g + 11) 85 [(1, .int x1), (2, .int e.1), (3, .int e.2.1)] [] e.2.2 hf res
def k_X1_last (n : Nat) (g : Nat) (c : Nat → Value) (x0 : Nat) (x1 : Int32) (h : XH) : Option ((Int32 ⊕ XX) × XH) := (k_X1_oneOf x1 1 h).bind fun r1 => match r1 with | (.inl v3, h4) => ((xloop (fun s => k_X1_last_L12 n g c x0 x1 s.1 s.2.1 s.2.2.1 s.2.2.2) n ((-1), (-1), 0, h4)).bind fun o23 => if x1 = 0 then some (.inl o23.1, o23.2.2) else if o23.2.1 = 100000 then some (.inl (-1), o23.2.2) else some (.inl o23.2.1, o23.2.2)) | (.inr e5, h4) => (some (.inr e5, h4))
set_option maxHeartbeats 4000000 in
theorem k_X1_last_J62_s {l : Launch} {E : XEnv} {hf : XH} {res : XO} {n : Nat} {g : Nat} {x0 : Nat} {x1 : Int32} {x2 : Int32} {x3 : Int32} {x4 : Int32} {y0 : Int32} {h : XH} {h0 : XH} {o : (Int32 × Int32 × Int32 × XH) ⊕ ((Int32 × Int32 × XH))} (hl : k_X1_last_J62 n g E.2.2.2 x0 x1 x2 x3 x4 y0 h = some o) (hK : (xk (fun s : Int32 × Int32 × Int32 × XH => CX l E mX1_last (5 * g + 11) 12 [(0, .ref x0), (1, .int x1), (2, .int s.1), (3, .int s.2.1), (4, .int s.2.2.1)] [] s.2.2.2 hf res) (fun r => K_X1_last_L12 l E hf res g h0 x0 x1 r) o)) : CX l E mX1_last (5 * g + 11) 62 [(0, .ref x0), (1, .int x1), (2, .int x2), (3, .int x3), (4, .int x4)] [.int y0] h hf res := by
  unfold k_X1_last_J62 at hl
  refine cx_istore dX1_last_62 (by decide) ?_
  refine cx_iload dX1_last_64 rfl ?_
  refine cx_iload_n dX1_last_66 rfl ?_
  by_cases c19 : y0 > x3
  · rw [if_pos c19] at hl
    refine cx_icmp_gt (X := True) (tgt := 73) dX1_last_67 (by decide) (fun _ => ?_) (fun z => absurd c19 z)
    refine cx_iload dX1_last_73 rfl ?_
    refine cx_istore_n dX1_last_75 (by decide) ?_
    refine cx_iload dX1_last_76 rfl ?_
    refine cx_istore_n dX1_last_78 (by decide) ?_
    obtain ⟨w20, ew20, hl⟩ := xb hl
    refine cx_iinc dX1_last_79 rfl (by decide) (Option.some.inj ew20) ?_
    refine cx_goto (tgt := 12) dX1_last_82 (by decide) ?_
    cases hl
    exact cx_lsK hK ⟨rfl, rfl, rfl, rfl, rfl, trivial⟩
  · rw [if_neg c19] at hl
    refine cx_icmp_gt (X := True) (tgt := 73) dX1_last_67 (by decide) (fun z => absurd z c19) (fun _ => ?_)
    refine cx_goto (tgt := 79) dX1_last_70 (by decide) ?_
    obtain ⟨w21, ew21, hl⟩ := xb hl
    refine cx_iinc dX1_last_79 rfl (by decide) (Option.some.inj ew21) ?_
    refine cx_goto (tgt := 12) dX1_last_82 (by decide) ?_
    cases hl
    exact cx_lsK hK ⟨rfl, rfl, rfl, rfl, rfl, trivial⟩
set_option maxHeartbeats 4000000 in
theorem k_X1_last_L12_s {l : Launch} {E : XEnv} {hf : XH} {res : XO} {n : Nat} {g : Nat} {x0 : Nat} {x1 : Int32} {x2 : Int32} {x3 : Int32} {x4 : Int32} {h : XH} {o : (Int32 × Int32 × Int32 × XH) ⊕ ((Int32 × Int32 × XH))} (hl : k_X1_last_L12 n g E.2.2.2 x0 x1 x2 x3 x4 h = some o) (hK : (xk (fun s : Int32 × Int32 × Int32 × XH => CX l E mX1_last (5 * g + 11) 12 [(0, .ref x0), (1, .int x1), (2, .int s.1), (3, .int s.2.1), (4, .int s.2.2.1)] [] s.2.2.2 hf res) (fun r => K_X1_last_L12 l E hf res g h x0 x1 r) o)) : CX l E mX1_last (5 * g + 11) 12 [(0, .ref x0), (1, .int x1), (2, .int x2), (3, .int x3), (4, .int x4)] [] h hf res := by
  unfold k_X1_last_L12 at hl
  refine cx_iload dX1_last_12 rfl ?_
  refine cx_aload_n dX1_last_14 rfl rfl ?_
  obtain ⟨v8, ev8, hl⟩ := xb hl
  refine cx_getR gF_X1_22 dX1_last_15 ev8 ?_
  obtain ⟨u10, eu10, hl⟩ := xb hl
  obtain ⟨r9, er9, hl⟩ := xb hl
  refine cx_callV (Or.inl ⟨by decide, _, _, rfl⟩) (T_X2_houses er9) lV_X1_89 C_X2_houses dX1_last_18 eu10 (by decide) rfl (by omega) (Nat.le_of_ble_eq_true rfl) ?_
  by_cases c11 : x4 ≥ r9
  · rw [if_pos c11] at hl
    refine cx_icmp_ge (X := True) (tgt := 85) dX1_last_21 (by decide) (fun _ => ?_) (fun z => absurd c11 z)
    cases hl
    exact cx_lsK hK ⟨rfl, rfl, rfl, trivial⟩
  · rw [if_neg c11] at hl
    refine cx_icmp_ge (X := True) (tgt := 85) dX1_last_21 (by decide) (fun z => absurd z c11) (fun _ => ?_)
    refine cx_aload_n dX1_last_24 rfl rfl ?_
    obtain ⟨v12, ev12, hl⟩ := xb hl
    refine cx_getR gF_X1_31 dX1_last_25 ev12 ?_
    refine cx_iload dX1_last_28 rfl ?_
    obtain ⟨u14, eu14, hl⟩ := xb hl
    obtain ⟨r13, er13, hl⟩ := xb hl
    refine cx_callV (Or.inl ⟨by decide, _, _, rfl⟩) (T_X3_in er13) lV_X1_93 C_X3_in dX1_last_30 eu14 (by decide) rfl (by omega) (Nat.le_of_ble_eq_true rfl) ?_
    refine cx_iconst (v := (-1)) dX1_last_33 rfl ?_
    by_cases c15 : r13 = (-1)
    · rw [if_pos c15] at hl
      refine cx_icmp_ne (X := True) (tgt := 40) dX1_last_34 (by decide) (fun z => absurd c15 z) (fun _ => ?_)
      refine cx_goto (tgt := 79) dX1_last_37 (by decide) ?_
      obtain ⟨w22, ew22, hl⟩ := xb hl
      refine cx_iinc dX1_last_79 rfl (by decide) (Option.some.inj ew22) ?_
      refine cx_goto (tgt := 12) dX1_last_82 (by decide) ?_
      cases hl
      exact cx_lsK hK ⟨rfl, rfl, rfl, rfl, rfl, trivial⟩
    · rw [if_neg c15] at hl
      refine cx_icmp_ne (X := True) (tgt := 40) dX1_last_34 (by decide) (fun _ => ?_) (fun z => absurd z c15)
      refine cx_aload_n dX1_last_40 rfl rfl ?_
      refine cx_iload dX1_last_41 rfl ?_
      obtain ⟨u17, eu17, hl⟩ := xb hl
      obtain ⟨r16, er16, hl⟩ := xb hl
      refine cx_callV (Or.inl ⟨by decide, _, _, rfl⟩) (T_X1_burstIn er16) lV_X1_254 C_X1_burstIn dX1_last_43 eu17 (by decide) rfl (by omega) (Nat.le_of_ble_eq_true rfl) ?_
      refine cx_istore dX1_last_46 (by decide) ?_
      refine cx_iload dX1_last_48 rfl ?_
      refine cx_iconst (v := (-1)) dX1_last_50 rfl ?_
      by_cases c18 : r16.1 = (-1)
      · rw [if_pos c18] at hl
        refine cx_icmp_ne (X := True) (tgt := 60) dX1_last_51 (by decide) (fun z => absurd c18 z) (fun _ => ?_)
        refine cx_ldcw (v := 100000) q1396 dX1_last_54 ?_
        refine cx_goto (tgt := 62) dX1_last_57 (by decide) ?_
        exact cx_lsK (k_X1_last_J62_s hl hK) ⟨rfl, rfl, rfl, rfl, rfl, trivial⟩
      · rw [if_neg c18] at hl
        refine cx_icmp_ne (X := True) (tgt := 60) dX1_last_51 (by decide) (fun _ => ?_) (fun z => absurd z c18)
        refine cx_iload dX1_last_60 rfl ?_
        exact cx_lsK (k_X1_last_J62_s hl hK) ⟨rfl, rfl, rfl, rfl, rfl, trivial⟩
set_option maxHeartbeats 4000000 in
theorem k_X1_last_L12_ok {l : Launch} {E : XEnv} {hf : XH} {res : XO} {n : Nat} {g : Nat} {x0 : Nat} {x1 : Int32} {h : XH} {s : Int32 × Int32 × Int32 × XH} {o : (Int32 × Int32 × XH)} (hl : xloop (fun s => k_X1_last_L12 n g E.2.2.2 x0 x1 s.1 s.2.1 s.2.2.1 s.2.2.2) n s = some o) (hK : K_X1_last_L12 l E hf res g h x0 x1 o) : CX l E mX1_last (5 * g + 11) 12 [(0, .ref x0), (1, .int x1), (2, .int s.1), (3, .int s.2.1), (4, .int s.2.2.1)] [] s.2.2.2 hf res :=
  xloop_of (fun s : Int32 × Int32 × Int32 × XH => CX l E mX1_last (5 * g + 11) 12 [(0, .ref x0), (1, .int x1), (2, .int s.1), (3, .int s.2.1), (4, .int s.2.2.1)] [] s.2.2.2 hf res) (fun r => K_X1_last_L12 l E hf res g h x0 x1 r) (fun s o hl hk => k_X1_last_L12_s (h := s.2.2.2) (o := o) hl hk) n s o hl hK
set_option maxHeartbeats 4000000 in
theorem T_X1_last {l : Launch} {E : XEnv}  {n : Nat} {g : Nat} {x0 : Nat} {x1 : Int32} {h : XH} {r : (Int32 ⊕ XX) × XH} (hl : k_X1_last n g E.2.2.2 x0 x1 h = some r) : CM l E mX1_last (5 * g + 11) [.ref x0, .int x1] h (xrI r.1) r.2 := by
  unfold k_X1_last at hl
  refine cm_of (by decide +kernel) rfl (Nat.le_of_ble_eq_true rfl) ?_
  refine cx_iload_n dX1_last_0 rfl ?_
  refine cx_iconst (v := 1) dX1_last_1 rfl ?_
  obtain ⟨r1, er1, hl⟩ := xb hl
  rcases r1 with ⟨v3 | ⟨C6, q7⟩, h4⟩
  · dsimp only at hl
    refine cx_callS (T_X1_oneOf er1) lS_X1_196 C_X1_oneOf dX1_last_2 rfl (by omega) (Nat.le_of_ble_eq_true rfl) ?_
    refine cx_iconst (v := (-1)) dX1_last_5 rfl ?_
    refine cx_istore_n dX1_last_6 (by decide) ?_
    refine cx_iconst (v := (-1)) dX1_last_7 rfl ?_
    refine cx_istore_n dX1_last_8 (by decide) ?_
    refine cx_iconst (v := 0) dX1_last_9 rfl ?_
    refine cx_istore dX1_last_10 (by decide) ?_
    obtain ⟨o23, eo23, hl⟩ := xb hl
    refine cx_lsK (k_X1_last_L12_ok (h := h4) (s := ((-1), (-1), 0, h4)) eo23 ?_) ⟨rfl, rfl, rfl, rfl, rfl, trivial⟩
    refine cx_iload_n dX1_last_85 rfl ?_
    by_cases c24 : x1 = 0
    · rw [if_pos c24] at hl
      refine cx_if_ne (X := True) (tgt := 93) dX1_last_86 (by decide) (fun z => absurd c24 z) (fun _ => ?_)
      refine cx_iload_n dX1_last_89 rfl ?_
      refine cx_goto (tgt := 105) dX1_last_90 (by decide) ?_
      cases hl
      exact cx_iret dX1_last_105 rfl rfl rfl rfl
    · rw [if_neg c24] at hl
      refine cx_if_ne (X := True) (tgt := 93) dX1_last_86 (by decide) (fun _ => ?_) (fun z => absurd z c24)
      refine cx_iload_n dX1_last_93 rfl ?_
      refine cx_ldcw (v := 100000) q1396 dX1_last_94 ?_
      by_cases c25 : o23.2.1 = 100000
      · rw [if_pos c25] at hl
        refine cx_icmp_ne (X := True) (tgt := 104) dX1_last_97 (by decide) (fun z => absurd c25 z) (fun _ => ?_)
        refine cx_iconst (v := (-1)) dX1_last_100 rfl ?_
        refine cx_goto (tgt := 105) dX1_last_101 (by decide) ?_
        cases hl
        exact cx_iret dX1_last_105 rfl rfl rfl rfl
      · rw [if_neg c25] at hl
        refine cx_icmp_ne (X := True) (tgt := 104) dX1_last_97 (by decide) (fun _ => ?_) (fun z => absurd z c25)
        refine cx_iload_n dX1_last_104 rfl ?_
        cases hl
        exact cx_iret dX1_last_105 rfl rfl rfl rfl
  · dsimp only at hl
    cases hl
    exact cx_callSx (T_X1_oneOf er1) lS_X1_196 C_X1_oneOf dX1_last_2 rfl (by omega) (Nat.le_of_ble_eq_true rfl) (ct_out rfl rfl (by decide))
def k_X1_goes_L9 (n : Nat) (g : Nat) (c : Nat → Value) (x0 : Nat) (x1 : Int32) (x2 : Int32) (x3 : Int32) (h : XH) : Option ((Int32 × Int32 × XH) ⊕ ((Int32 × XH))) := (cgR h x0 0 1).bind fun v8 => (ckd h v8 1).bind fun u10 => (k_X2_houses v8 h).bind fun r9 => if x3 ≥ r9 then some (.inr (x2, h)) else (cgR h x0 0 2).bind fun v12 => (ckd h v12 2).bind fun u14 => (k_X3_goesIn n g c v12 x1 x3 h).bind fun r13 => if r13.1 = 0 then (some (x3 + 1)).bind fun w16 => some (.inl (x2, w16, r13.2)) else (some (x2 ||| ((1 : Int32) <<< ((x3 : Int32) &&& 31)))).bind fun w17 => (some (x3 + 1)).bind fun w18 => some (.inl (w17, w18, r13.2))
abbrev K_X1_goes_L9 (l : Launch) (E : XEnv) (hf : XH) (res : XO) (g : Nat) (h : XH) (x0 : Nat) (x1 : Int32) (o : (Int32 × XH)) : Prop := match o with
  | e => CX l E mX1_goes (5 * g + 10) 44 [(2, .int e.1)] [] e.2 hf res
def k_X1_goes (n : Nat) (g : Nat) (c : Nat → Value) (x0 : Nat) (x1 : Int32) (h : XH) : Option ((Int32 ⊕ XX) × XH) := (ckd h x0 0).bind fun u2 => (k_X1_aPerson x0 x1 h).bind fun r1 => match r1 with | (.inl v3, h4) => ((xloop (fun s => k_X1_goes_L9 n g c x0 x1 s.1 s.2.1 s.2.2) n (0, 0, h4)).bind fun o19 => some (.inl o19.1, o19.2)) | (.inr e5, h4) => (some (.inr e5, h4))
set_option maxHeartbeats 4000000 in
theorem k_X1_goes_L9_s {l : Launch} {E : XEnv} {hf : XH} {res : XO} {n : Nat} {g : Nat} {x0 : Nat} {x1 : Int32} {x2 : Int32} {x3 : Int32} {h : XH} {o : (Int32 × Int32 × XH) ⊕ ((Int32 × XH))} (hl : k_X1_goes_L9 n g E.2.2.2 x0 x1 x2 x3 h = some o) (hK : (xk (fun s : Int32 × Int32 × XH => CX l E mX1_goes (5 * g + 10) 9 [(0, .ref x0), (1, .int x1), (2, .int s.1), (3, .int s.2.1)] [] s.2.2 hf res) (fun r => K_X1_goes_L9 l E hf res g h x0 x1 r) o)) : CX l E mX1_goes (5 * g + 10) 9 [(0, .ref x0), (1, .int x1), (2, .int x2), (3, .int x3)] [] h hf res := by
  unfold k_X1_goes_L9 at hl
  refine cx_iload_n dX1_goes_9 rfl ?_
  refine cx_aload_n dX1_goes_10 rfl rfl ?_
  obtain ⟨v8, ev8, hl⟩ := xb hl
  refine cx_getR gF_X1_22 dX1_goes_11 ev8 ?_
  obtain ⟨u10, eu10, hl⟩ := xb hl
  obtain ⟨r9, er9, hl⟩ := xb hl
  refine cx_callV (Or.inl ⟨by decide, _, _, rfl⟩) (T_X2_houses er9) lV_X1_89 C_X2_houses dX1_goes_14 eu10 (by decide) rfl (by omega) (Nat.le_of_ble_eq_true rfl) ?_
  by_cases c11 : x3 ≥ r9
  · rw [if_pos c11] at hl
    refine cx_icmp_ge (X := True) (tgt := 44) dX1_goes_17 (by decide) (fun _ => ?_) (fun z => absurd c11 z)
    cases hl
    exact cx_lsK hK ⟨rfl, trivial⟩
  · rw [if_neg c11] at hl
    refine cx_icmp_ge (X := True) (tgt := 44) dX1_goes_17 (by decide) (fun z => absurd z c11) (fun _ => ?_)
    refine cx_aload_n dX1_goes_20 rfl rfl ?_
    obtain ⟨v12, ev12, hl⟩ := xb hl
    refine cx_getR gF_X1_31 dX1_goes_21 ev12 ?_
    refine cx_iload_n dX1_goes_24 rfl ?_
    refine cx_iload_n dX1_goes_25 rfl ?_
    obtain ⟨u14, eu14, hl⟩ := xb hl
    obtain ⟨r13, er13, hl⟩ := xb hl
    refine cx_callV (Or.inl ⟨by decide, _, _, rfl⟩) (T_X3_goesIn er13) lV_X1_233 C_X3_goesIn dX1_goes_26 eu14 (by decide) rfl (by omega) (Nat.le_of_ble_eq_true rfl) ?_
    by_cases c15 : r13.1 = 0
    · rw [if_pos c15] at hl
      refine cx_if_eq (X := True) (tgt := 38) dX1_goes_29 (by decide) (fun _ => ?_) (fun z => absurd c15 z)
      obtain ⟨w16, ew16, hl⟩ := xb hl
      refine cx_iinc dX1_goes_38 rfl (by decide) (Option.some.inj ew16) ?_
      refine cx_goto (tgt := 9) dX1_goes_41 (by decide) ?_
      cases hl
      exact cx_lsK hK ⟨rfl, rfl, rfl, rfl, trivial⟩
    · rw [if_neg c15] at hl
      refine cx_if_eq (X := True) (tgt := 38) dX1_goes_29 (by decide) (fun z => absurd z c15) (fun _ => ?_)
      refine cx_iload_n dX1_goes_32 rfl ?_
      refine cx_iconst (v := 1) dX1_goes_33 rfl ?_
      refine cx_iload_n dX1_goes_34 rfl ?_
      refine cx_ishl dX1_goes_35 ?_
      refine cx_ior dX1_goes_36 ?_
      obtain ⟨w17, ew17, hl⟩ := xb hl
      refine cx_top (Option.some.inj ew17) ?_
      refine cx_istore_n dX1_goes_37 (by decide) ?_
      obtain ⟨w18, ew18, hl⟩ := xb hl
      refine cx_iinc dX1_goes_38 rfl (by decide) (Option.some.inj ew18) ?_
      refine cx_goto (tgt := 9) dX1_goes_41 (by decide) ?_
      cases hl
      exact cx_lsK hK ⟨rfl, rfl, rfl, rfl, trivial⟩
set_option maxHeartbeats 4000000 in
theorem k_X1_goes_L9_ok {l : Launch} {E : XEnv} {hf : XH} {res : XO} {n : Nat} {g : Nat} {x0 : Nat} {x1 : Int32} {h : XH} {s : Int32 × Int32 × XH} {o : (Int32 × XH)} (hl : xloop (fun s => k_X1_goes_L9 n g E.2.2.2 x0 x1 s.1 s.2.1 s.2.2) n s = some o) (hK : K_X1_goes_L9 l E hf res g h x0 x1 o) : CX l E mX1_goes (5 * g + 10) 9 [(0, .ref x0), (1, .int x1), (2, .int s.1), (3, .int s.2.1)] [] s.2.2 hf res :=
  xloop_of (fun s : Int32 × Int32 × XH => CX l E mX1_goes (5 * g + 10) 9 [(0, .ref x0), (1, .int x1), (2, .int s.1), (3, .int s.2.1)] [] s.2.2 hf res) (fun r => K_X1_goes_L9 l E hf res g h x0 x1 r) (fun s o hl hk => k_X1_goes_L9_s (h := s.2.2) (o := o) hl hk) n s o hl hK
set_option maxHeartbeats 4000000 in
theorem T_X1_goes {l : Launch} {E : XEnv}  {n : Nat} {g : Nat} {x0 : Nat} {x1 : Int32} {h : XH} {r : (Int32 ⊕ XX) × XH} (hl : k_X1_goes n g E.2.2.2 x0 x1 h = some r) : CM l E mX1_goes (5 * g + 10) [.ref x0, .int x1] h (xrI r.1) r.2 := by
  unfold k_X1_goes at hl
  refine cm_of (by decide +kernel) rfl (Nat.le_of_ble_eq_true rfl) ?_
  refine cx_aload_n dX1_goes_0 rfl rfl ?_
  refine cx_iload_n dX1_goes_1 rfl ?_
  obtain ⟨u2, eu2, hl⟩ := xb hl
  obtain ⟨r1, er1, hl⟩ := xb hl
  rcases r1 with ⟨v3 | ⟨C6, q7⟩, h4⟩
  · dsimp only at hl
    refine cx_callV (Or.inl ⟨by decide, _, _, rfl⟩) (T_X1_aPerson er1) lV_X1_193 C_X1_aPerson dX1_goes_2 eu2 (by decide) rfl (by omega) (Nat.le_of_ble_eq_true rfl) ?_
    refine cx_iconst (v := 0) dX1_goes_5 rfl ?_
    refine cx_istore_n dX1_goes_6 (by decide) ?_
    refine cx_iconst (v := 0) dX1_goes_7 rfl ?_
    refine cx_istore_n dX1_goes_8 (by decide) ?_
    obtain ⟨o19, eo19, hl⟩ := xb hl
    refine cx_lsK (k_X1_goes_L9_ok (h := h4) (s := (0, 0, h4)) eo19 ?_) ⟨rfl, rfl, rfl, rfl, trivial⟩
    refine cx_iload_n dX1_goes_44 rfl ?_
    cases hl
    exact cx_iret dX1_goes_45 rfl rfl rfl rfl
  · dsimp only at hl
    cases hl
    exact cx_callVx (Or.inl ⟨by decide, _, _, rfl⟩) (T_X1_aPerson er1) lV_X1_193 C_X1_aPerson dX1_goes_2 eu2 (by decide) rfl (by omega) (Nat.le_of_ble_eq_true rfl) (ct_out rfl rfl (by decide))
def k_X1_match (n : Nat) (g : Nat) (c : Nat → Value) (x0 : Nat) (x1 : Int32) (h : XH) : Option ((Int32 ⊕ XX) × XH) := (k_X1_oneOf x1 1 h).bind fun r1 => match r1 with | (.inl v3, h4) => ((ckd h4 x0 0).bind fun u9 => (k_X1_least n g c x0 h4).bind fun r8 => (caR r8.2 r8.1 106 0).bind fun v10 => (caI r8.2 v10 100 0).bind fun v11 => if x1 = 0 then some (.inl (v11 / 1000), r8.2) else some (.inl (v11 - v11 / 1000 * 1000), r8.2)) | (.inr e5, h4) => (some (.inr e5, h4))
set_option maxHeartbeats 4000000 in
theorem T_X1_match {l : Launch} {E : XEnv}  {n : Nat} {g : Nat} {x0 : Nat} {x1 : Int32} {h : XH} {r : (Int32 ⊕ XX) × XH} (hl : k_X1_match n g E.2.2.2 x0 x1 h = some r) : CM l E mX1_match (5 * g + 11) [.ref x0, .int x1] h (xrI r.1) r.2 := by
  unfold k_X1_match at hl
  refine cm_of (by decide +kernel) rfl (Nat.le_of_ble_eq_true rfl) ?_
  refine cx_iload_n dX1_match_0 rfl ?_
  refine cx_iconst (v := 1) dX1_match_1 rfl ?_
  obtain ⟨r1, er1, hl⟩ := xb hl
  rcases r1 with ⟨v3 | ⟨C6, q7⟩, h4⟩
  · dsimp only at hl
    refine cx_callS (T_X1_oneOf er1) lS_X1_196 C_X1_oneOf dX1_match_2 rfl (by omega) (Nat.le_of_ble_eq_true rfl) ?_
    refine cx_aload_n dX1_match_5 rfl rfl ?_
    obtain ⟨u9, eu9, hl⟩ := xb hl
    obtain ⟨r8, er8, hl⟩ := xb hl
    refine cx_callV (Or.inl ⟨by decide, _, _, rfl⟩) (T_X1_least er8) lV_X1_270 C_X1_least dX1_match_6 eu9 (by decide) rfl (by omega) (Nat.le_of_ble_eq_true rfl) ?_
    refine cx_iconst (v := 0) dX1_match_9 rfl ?_
    obtain ⟨v10, ev10, hl⟩ := xb hl
    refine cx_aald 6 (by decide) dX1_match_10 ev10 ?_
    refine cx_iconst (v := 0) dX1_match_11 rfl ?_
    obtain ⟨v11, ev11, hl⟩ := xb hl
    refine cx_iald dX1_match_12 ev11 ?_
    refine cx_istore_n dX1_match_13 (by decide) ?_
    refine cx_iload_n dX1_match_14 rfl ?_
    by_cases c12 : x1 = 0
    · rw [if_pos c12] at hl
      refine cx_if_ne (X := True) (tgt := 26) dX1_match_15 (by decide) (fun z => absurd c12 z) (fun _ => ?_)
      refine cx_iload_n dX1_match_18 rfl ?_
      refine cx_sipush (v := 1000) dX1_match_19 (by decide) ?_
      refine cx_idiv dX1_match_22 (by decide) ?_
      refine cx_goto (tgt := 31) dX1_match_23 (by decide) ?_
      cases hl
      exact cx_iret dX1_match_31 rfl rfl rfl rfl
    · rw [if_neg c12] at hl
      refine cx_if_ne (X := True) (tgt := 26) dX1_match_15 (by decide) (fun _ => ?_) (fun z => absurd z c12)
      refine cx_iload_n dX1_match_26 rfl ?_
      refine cx_sipush (v := 1000) dX1_match_27 (by decide) ?_
      refine cx_irem dX1_match_30 (by decide) ?_
      cases hl
      exact cx_iret dX1_match_31 rfl rfl rfl rfl
  · dsimp only at hl
    cases hl
    exact cx_callSx (T_X1_oneOf er1) lS_X1_196 C_X1_oneOf dX1_match_2 rfl (by omega) (Nat.le_of_ble_eq_true rfl) (ct_out rfl rfl (by decide))
def k_X1_matched_L38 (n : Nat) (g : Nat) (c : Nat → Value) (x0 : Nat) (x1 : Int32) (x2 : Nat) (x3 : Int32) (x5 : Int32) (x4 : Int32) (x6 : Int32) (h : XH) : Option ((Int32 × Int32 × XH) ⊕ ((Int32 × XH))) := if x6 < 0 then some (.inr (x4, h)) else (ckd h x0 0).bind fun u17 => (k_X1_may n g c x0 x5 x3 x6 h).bind fun r16 => if r16.1 = 0 then (some (x6 + (-1))).bind fun w19 => some (.inl (x4, w19, r16.2)) else (ckd r16.2 x0 0).bind fun u21 => (k_X1_with x0 x2 x5 x3 x6 r16.2).bind fun r20 => (caR r16.2 x2 106 x5).bind fun v22 => (caI r16.2 v22 100 x3).bind fun v23 => if r20 = v23 then (some (x6 + (-1))).bind fun w26 => some (.inl (x6, w26, r16.2)) else (some (x6 + (-1))).bind fun w25 => some (.inl (x4, w25, r16.2))
abbrev K_X1_matched_L38 (l : Launch) (E : XEnv) (hf : XH) (res : XO) (g : Nat) (h : XH) (x0 : Nat) (x1 : Int32) (x2 : Nat) (x3 : Int32) (x5 : Int32) (o : (Int32 × XH)) : Prop := match o with
  | e => CX l E mX1_matched (5 * g + 11) 84 [(0, .ref x0), (1, .int x1), (2, .ref x2), (3, .int x3), (4, .int e.1), (5, .int x5)] [] e.2 hf res
def k_X1_matched_L18 (n : Nat) (g : Nat) (c : Nat → Value) (x0 : Nat) (x1 : Int32) (x2 : Nat) (x3 : Int32) (x4 : Int32) (x5 : Int32) (h : XH) : Option ((Int32 × Int32 × Int32 × XH) ⊕ ((Int32 × XH))) := if x5 > x1 then some (.inr (x4, h)) else (cgR h x0 0 1).bind fun v11 => (ckd h v11 1).bind fun u13 => (k_X2_houses v11 h).bind fun r12 => (some (r12 - 1)).bind fun w14 => (xloop (fun s => k_X1_matched_L38 n g c x0 x1 x2 x3 x5 s.1 s.2.1 s.2.2) n ((-1), w14, h)).bind fun o27 => if o27.1 = (-1) then (some (x5 + 1)).bind fun w29 => some (.inl (x3, o27.1, w29, o27.2)) else (some (x3 ||| ((1 : Int32) <<< ((o27.1 : Int32) &&& 31)))).bind fun w30 => (some (x5 + 1)).bind fun w31 => some (.inl (w30, o27.1, w31, o27.2))
abbrev K_X1_matched_L18 (l : Launch) (E : XEnv) (hf : XH) (res : XO) (g : Nat) (h : XH) (x0 : Nat) (x1 : Int32) (x2 : Nat) (o : (Int32 × XH)) : Prop := match o with
  | e => CX l E mX1_matched (5 * g + 11) 103 [(4, .int e.1)] [] e.2 hf res
def k_X1_matched (n : Nat) (g : Nat) (c : Nat → Value) (x0 : Nat) (x1 : Int32) (h : XH) : Option ((Int32 ⊕ XX) × XH) := (ckd h x0 0).bind fun u2 => (k_X1_aPerson x0 x1 h).bind fun r1 => match r1 with | (.inl v3, h4) => ((ckd h4 x0 0).bind fun u9 => (k_X1_least n g c x0 h4).bind fun r8 => (xloop (fun s => k_X1_matched_L18 n g c x0 x1 r8.1 s.1 s.2.1 s.2.2.1 s.2.2.2) n (0, (-1), 0, r8.2)).bind fun o32 => some (.inl o32.1, o32.2)) | (.inr e5, h4) => (some (.inr e5, h4))
set_option maxHeartbeats 4000000 in
theorem k_X1_matched_L38_s {l : Launch} {E : XEnv} {hf : XH} {res : XO} {n : Nat} {g : Nat} {x0 : Nat} {x1 : Int32} {x2 : Nat} {x3 : Int32} {x5 : Int32} {x4 : Int32} {x6 : Int32} {h : XH} {o : (Int32 × Int32 × XH) ⊕ ((Int32 × XH))} (hl : k_X1_matched_L38 n g E.2.2.2 x0 x1 x2 x3 x5 x4 x6 h = some o) (hK : (xk (fun s : Int32 × Int32 × XH => CX l E mX1_matched (5 * g + 11) 38 [(0, .ref x0), (1, .int x1), (2, .ref x2), (3, .int x3), (4, .int s.1), (5, .int x5), (6, .int s.2.1)] [] s.2.2 hf res) (fun r => K_X1_matched_L38 l E hf res g h x0 x1 x2 x3 x5 r) o)) : CX l E mX1_matched (5 * g + 11) 38 [(0, .ref x0), (1, .int x1), (2, .ref x2), (3, .int x3), (4, .int x4), (5, .int x5), (6, .int x6)] [] h hf res := by
  unfold k_X1_matched_L38 at hl
  refine cx_iload dX1_matched_38 rfl ?_
  by_cases c15 : x6 < 0
  · rw [if_pos c15] at hl
    refine cx_if_lt (X := True) (tgt := 84) dX1_matched_40 (by decide) (fun _ => ?_) (fun z => absurd c15 z)
    cases hl
    exact cx_lsK hK ⟨rfl, rfl, rfl, rfl, rfl, rfl, trivial⟩
  · rw [if_neg c15] at hl
    refine cx_if_lt (X := True) (tgt := 84) dX1_matched_40 (by decide) (fun z => absurd z c15) (fun _ => ?_)
    refine cx_aload_n dX1_matched_43 rfl rfl ?_
    refine cx_iload dX1_matched_44 rfl ?_
    refine cx_iload_n dX1_matched_46 rfl ?_
    refine cx_iload dX1_matched_47 rfl ?_
    obtain ⟨u17, eu17, hl⟩ := xb hl
    obtain ⟨r16, er16, hl⟩ := xb hl
    refine cx_callV (Or.inl ⟨by decide, _, _, rfl⟩) (T_X1_may er16) lV_X1_260 C_X1_may dX1_matched_49 eu17 (by decide) rfl (by omega) (Nat.le_of_ble_eq_true rfl) ?_
    by_cases c18 : r16.1 = 0
    · rw [if_pos c18] at hl
      refine cx_if_eq (X := True) (tgt := 78) dX1_matched_52 (by decide) (fun _ => ?_) (fun z => absurd c18 z)
      obtain ⟨w19, ew19, hl⟩ := xb hl
      refine cx_iinc dX1_matched_78 rfl (by decide) (Option.some.inj ew19) ?_
      refine cx_goto (tgt := 38) dX1_matched_81 (by decide) ?_
      cases hl
      exact cx_lsK hK ⟨rfl, rfl, rfl, rfl, rfl, rfl, rfl, trivial⟩
    · rw [if_neg c18] at hl
      refine cx_if_eq (X := True) (tgt := 78) dX1_matched_52 (by decide) (fun z => absurd z c18) (fun _ => ?_)
      refine cx_aload_n dX1_matched_55 rfl rfl ?_
      refine cx_aload_n dX1_matched_56 rfl rfl ?_
      refine cx_iload dX1_matched_57 rfl ?_
      refine cx_iload_n dX1_matched_59 rfl ?_
      refine cx_iload dX1_matched_60 rfl ?_
      obtain ⟨u21, eu21, hl⟩ := xb hl
      obtain ⟨r20, er20, hl⟩ := xb hl
      refine cx_callV (Or.inl ⟨by decide, _, _, rfl⟩) (T_X1_with er20) lV_X1_263 C_X1_with dX1_matched_62 eu21 (by decide) rfl (by omega) (Nat.le_of_ble_eq_true rfl) ?_
      refine cx_aload_n dX1_matched_65 rfl rfl ?_
      refine cx_iload dX1_matched_66 rfl ?_
      obtain ⟨v22, ev22, hl⟩ := xb hl
      refine cx_aald 6 (by decide) dX1_matched_68 ev22 ?_
      refine cx_iload_n dX1_matched_69 rfl ?_
      obtain ⟨v23, ev23, hl⟩ := xb hl
      refine cx_iald dX1_matched_70 ev23 ?_
      by_cases c24 : r20 = v23
      · rw [if_pos c24] at hl
        refine cx_icmp_ne (X := True) (tgt := 78) dX1_matched_71 (by decide) (fun z => absurd c24 z) (fun _ => ?_)
        refine cx_iload dX1_matched_74 rfl ?_
        refine cx_istore dX1_matched_76 (by decide) ?_
        obtain ⟨w26, ew26, hl⟩ := xb hl
        refine cx_iinc dX1_matched_78 rfl (by decide) (Option.some.inj ew26) ?_
        refine cx_goto (tgt := 38) dX1_matched_81 (by decide) ?_
        cases hl
        exact cx_lsK hK ⟨rfl, rfl, rfl, rfl, rfl, rfl, rfl, trivial⟩
      · rw [if_neg c24] at hl
        refine cx_icmp_ne (X := True) (tgt := 78) dX1_matched_71 (by decide) (fun _ => ?_) (fun z => absurd z c24)
        obtain ⟨w25, ew25, hl⟩ := xb hl
        refine cx_iinc dX1_matched_78 rfl (by decide) (Option.some.inj ew25) ?_
        refine cx_goto (tgt := 38) dX1_matched_81 (by decide) ?_
        cases hl
        exact cx_lsK hK ⟨rfl, rfl, rfl, rfl, rfl, rfl, rfl, trivial⟩
set_option maxHeartbeats 4000000 in
theorem k_X1_matched_L38_ok {l : Launch} {E : XEnv} {hf : XH} {res : XO} {n : Nat} {g : Nat} {x0 : Nat} {x1 : Int32} {x2 : Nat} {x3 : Int32} {x5 : Int32} {h : XH} {s : Int32 × Int32 × XH} {o : (Int32 × XH)} (hl : xloop (fun s => k_X1_matched_L38 n g E.2.2.2 x0 x1 x2 x3 x5 s.1 s.2.1 s.2.2) n s = some o) (hK : K_X1_matched_L38 l E hf res g h x0 x1 x2 x3 x5 o) : CX l E mX1_matched (5 * g + 11) 38 [(0, .ref x0), (1, .int x1), (2, .ref x2), (3, .int x3), (4, .int s.1), (5, .int x5), (6, .int s.2.1)] [] s.2.2 hf res :=
  xloop_of (fun s : Int32 × Int32 × XH => CX l E mX1_matched (5 * g + 11) 38 [(0, .ref x0), (1, .int x1), (2, .ref x2), (3, .int x3), (4, .int s.1), (5, .int x5), (6, .int s.2.1)] [] s.2.2 hf res) (fun r => K_X1_matched_L38 l E hf res g h x0 x1 x2 x3 x5 r) (fun s o hl hk => k_X1_matched_L38_s (h := s.2.2) (o := o) hl hk) n s o hl hK
set_option maxHeartbeats 4000000 in
theorem k_X1_matched_L18_s {l : Launch} {E : XEnv} {hf : XH} {res : XO} {n : Nat} {g : Nat} {x0 : Nat} {x1 : Int32} {x2 : Nat} {x3 : Int32} {x4 : Int32} {x5 : Int32} {h : XH} {o : (Int32 × Int32 × Int32 × XH) ⊕ ((Int32 × XH))} (hl : k_X1_matched_L18 n g E.2.2.2 x0 x1 x2 x3 x4 x5 h = some o) (hK : (xk (fun s : Int32 × Int32 × Int32 × XH => CX l E mX1_matched (5 * g + 11) 18 [(0, .ref x0), (1, .int x1), (2, .ref x2), (3, .int s.1), (4, .int s.2.1), (5, .int s.2.2.1)] [] s.2.2.2 hf res) (fun r => K_X1_matched_L18 l E hf res g h x0 x1 x2 r) o)) : CX l E mX1_matched (5 * g + 11) 18 [(0, .ref x0), (1, .int x1), (2, .ref x2), (3, .int x3), (4, .int x4), (5, .int x5)] [] h hf res := by
  unfold k_X1_matched_L18 at hl
  refine cx_iload dX1_matched_18 rfl ?_
  refine cx_iload_n dX1_matched_20 rfl ?_
  by_cases c10 : x5 > x1
  · rw [if_pos c10] at hl
    refine cx_icmp_gt (X := True) (tgt := 103) dX1_matched_21 (by decide) (fun _ => ?_) (fun z => absurd c10 z)
    cases hl
    exact cx_lsK hK ⟨rfl, trivial⟩
  · rw [if_neg c10] at hl
    refine cx_icmp_gt (X := True) (tgt := 103) dX1_matched_21 (by decide) (fun z => absurd z c10) (fun _ => ?_)
    refine cx_iconst (v := (-1)) dX1_matched_24 rfl ?_
    refine cx_istore dX1_matched_25 (by decide) ?_
    refine cx_aload_n dX1_matched_27 rfl rfl ?_
    obtain ⟨v11, ev11, hl⟩ := xb hl
    refine cx_getR gF_X1_22 dX1_matched_28 ev11 ?_
    obtain ⟨u13, eu13, hl⟩ := xb hl
    obtain ⟨r12, er12, hl⟩ := xb hl
    refine cx_callV (Or.inl ⟨by decide, _, _, rfl⟩) (T_X2_houses er12) lV_X1_89 C_X2_houses dX1_matched_31 eu13 (by decide) rfl (by omega) (Nat.le_of_ble_eq_true rfl) ?_
    refine cx_iconst (v := 1) dX1_matched_34 rfl ?_
    refine cx_isub dX1_matched_35 ?_
    obtain ⟨w14, ew14, hl⟩ := xb hl
    refine cx_top (Option.some.inj ew14) ?_
    refine cx_istore dX1_matched_36 (by decide) ?_
    obtain ⟨o27, eo27, hl⟩ := xb hl
    refine cx_lsK (k_X1_matched_L38_ok (h := h) (s := ((-1), w14, h)) eo27 ?_) ⟨rfl, rfl, rfl, rfl, rfl, rfl, rfl, trivial⟩
    refine cx_iload dX1_matched_84 rfl ?_
    refine cx_iconst (v := (-1)) dX1_matched_86 rfl ?_
    by_cases c28 : o27.1 = (-1)
    · rw [if_pos c28] at hl
      refine cx_icmp_eq (X := True) (tgt := 97) dX1_matched_87 (by decide) (fun _ => ?_) (fun z => absurd c28 z)
      obtain ⟨w29, ew29, hl⟩ := xb hl
      refine cx_iinc dX1_matched_97 rfl (by decide) (Option.some.inj ew29) ?_
      refine cx_goto (tgt := 18) dX1_matched_100 (by decide) ?_
      cases hl
      exact cx_lsK hK ⟨rfl, rfl, rfl, rfl, rfl, rfl, trivial⟩
    · rw [if_neg c28] at hl
      refine cx_icmp_eq (X := True) (tgt := 97) dX1_matched_87 (by decide) (fun z => absurd z c28) (fun _ => ?_)
      refine cx_iload_n dX1_matched_90 rfl ?_
      refine cx_iconst (v := 1) dX1_matched_91 rfl ?_
      refine cx_iload dX1_matched_92 rfl ?_
      refine cx_ishl dX1_matched_94 ?_
      refine cx_ior dX1_matched_95 ?_
      obtain ⟨w30, ew30, hl⟩ := xb hl
      refine cx_top (Option.some.inj ew30) ?_
      refine cx_istore_n dX1_matched_96 (by decide) ?_
      obtain ⟨w31, ew31, hl⟩ := xb hl
      refine cx_iinc dX1_matched_97 rfl (by decide) (Option.some.inj ew31) ?_
      refine cx_goto (tgt := 18) dX1_matched_100 (by decide) ?_
      cases hl
      exact cx_lsK hK ⟨rfl, rfl, rfl, rfl, rfl, rfl, trivial⟩
set_option maxHeartbeats 4000000 in
theorem k_X1_matched_L18_ok {l : Launch} {E : XEnv} {hf : XH} {res : XO} {n : Nat} {g : Nat} {x0 : Nat} {x1 : Int32} {x2 : Nat} {h : XH} {s : Int32 × Int32 × Int32 × XH} {o : (Int32 × XH)} (hl : xloop (fun s => k_X1_matched_L18 n g E.2.2.2 x0 x1 x2 s.1 s.2.1 s.2.2.1 s.2.2.2) n s = some o) (hK : K_X1_matched_L18 l E hf res g h x0 x1 x2 o) : CX l E mX1_matched (5 * g + 11) 18 [(0, .ref x0), (1, .int x1), (2, .ref x2), (3, .int s.1), (4, .int s.2.1), (5, .int s.2.2.1)] [] s.2.2.2 hf res :=
  xloop_of (fun s : Int32 × Int32 × Int32 × XH => CX l E mX1_matched (5 * g + 11) 18 [(0, .ref x0), (1, .int x1), (2, .ref x2), (3, .int s.1), (4, .int s.2.1), (5, .int s.2.2.1)] [] s.2.2.2 hf res) (fun r => K_X1_matched_L18 l E hf res g h x0 x1 x2 r) (fun s o hl hk => k_X1_matched_L18_s (h := s.2.2.2) (o := o) hl hk) n s o hl hK
set_option maxHeartbeats 4000000 in
theorem T_X1_matched {l : Launch} {E : XEnv}  {n : Nat} {g : Nat} {x0 : Nat} {x1 : Int32} {h : XH} {r : (Int32 ⊕ XX) × XH} (hl : k_X1_matched n g E.2.2.2 x0 x1 h = some r) : CM l E mX1_matched (5 * g + 11) [.ref x0, .int x1] h (xrI r.1) r.2 := by
  unfold k_X1_matched at hl
  refine cm_of (by decide +kernel) rfl (Nat.le_of_ble_eq_true rfl) ?_
  refine cx_aload_n dX1_matched_0 rfl rfl ?_
  refine cx_iload_n dX1_matched_1 rfl ?_
  obtain ⟨u2, eu2, hl⟩ := xb hl
  obtain ⟨r1, er1, hl⟩ := xb hl
  rcases r1 with ⟨v3 | ⟨C6, q7⟩, h4⟩
  · dsimp only at hl
    refine cx_callV (Or.inl ⟨by decide, _, _, rfl⟩) (T_X1_aPerson er1) lV_X1_193 C_X1_aPerson dX1_matched_2 eu2 (by decide) rfl (by omega) (Nat.le_of_ble_eq_true rfl) ?_
    refine cx_aload_n dX1_matched_5 rfl rfl ?_
    obtain ⟨u9, eu9, hl⟩ := xb hl
    obtain ⟨r8, er8, hl⟩ := xb hl
    refine cx_callV (Or.inl ⟨by decide, _, _, rfl⟩) (T_X1_least er8) lV_X1_270 C_X1_least dX1_matched_6 eu9 (by decide) rfl (by omega) (Nat.le_of_ble_eq_true rfl) ?_
    refine cx_astore_n dX1_matched_9 (by decide) rfl ?_
    refine cx_iconst (v := 0) dX1_matched_10 rfl ?_
    refine cx_istore_n dX1_matched_11 (by decide) ?_
    refine cx_iconst (v := (-1)) dX1_matched_12 rfl ?_
    refine cx_istore dX1_matched_13 (by decide) ?_
    refine cx_iconst (v := 0) dX1_matched_15 rfl ?_
    refine cx_istore dX1_matched_16 (by decide) ?_
    obtain ⟨o32, eo32, hl⟩ := xb hl
    refine cx_lsK (k_X1_matched_L18_ok (h := r8.2) (s := (0, (-1), 0, r8.2)) eo32 ?_) ⟨rfl, rfl, rfl, rfl, rfl, rfl, trivial⟩
    refine cx_iload dX1_matched_103 rfl ?_
    cases hl
    exact cx_iret dX1_matched_105 rfl rfl rfl rfl
  · dsimp only at hl
    cases hl
    exact cx_callVx (Or.inl ⟨by decide, _, _, rfl⟩) (T_X1_aPerson er1) lV_X1_193 C_X1_aPerson dX1_matched_2 eu2 (by decide) rfl (by omega) (Nat.le_of_ble_eq_true rfl) (ct_out rfl rfl (by decide))
def k_X1_wanted_L10 (n : Nat) (x0 : Nat) (x1 : Int32) (x2 : Int32) (x3 : Int32) (x4 : Int32) (x5 : Int32) (h : XH) : Option ((Int32 × Int32 × Int32) ⊕ ((Int32))) := (cgR h x0 0 1).bind fun v1 => (ckd h v1 1).bind fun u3 => (k_X2_houses v1 h).bind fun r2 => if x5 ≥ r2 then some (.inr x3) else (cgR h x0 0 2).bind fun v5 => (cgR h v5 2 0).bind fun v6 => (caI h v6 100 x5).bind fun v7 => (cgR h x0 0 2).bind fun v8 => (cgR h v8 2 2).bind fun v9 => (caI h v9 100 x1).bind fun v10 => (some (iabs (v7 - v10))).bind fun w11 => (k_X1_isOf x2 x5 h).bind fun r12 => if r12 = 0 then (some (x5 + 1)).bind fun w15 => some (.inl (x3, x4, w15)) else if w11 < x4 then (some (x5 + 1)).bind fun w17 => some (.inl (x5, w11, w17)) else (some (x5 + 1)).bind fun w18 => some (.inl (x3, x4, w18))
abbrev K_X1_wanted_L10 (l : Launch) (E : XEnv) (hf : XH) (res : XO) (h : XH) (x0 : Nat) (x1 : Int32) (x2 : Int32) (o : (Int32)) : Prop := match o with
  | e => CX l E mX1_wanted 3 79 [(3, .int e)] [] h hf res
def k_X1_wanted (n : Nat) (x0 : Nat) (x1 : Int32) (x2 : Int32) (h : XH) : Option (Int32) := (xloop (fun s => k_X1_wanted_L10 n x0 x1 x2 s.1 s.2.1 s.2.2 h) n ((-1), 100000, 0)).bind fun o19 => some o19
set_option maxHeartbeats 4000000 in
theorem k_X1_wanted_L10_s {l : Launch} {E : XEnv} {hf : XH} {res : XO} {n : Nat} {x0 : Nat} {x1 : Int32} {x2 : Int32} {x3 : Int32} {x4 : Int32} {x5 : Int32} {h : XH} {o : (Int32 × Int32 × Int32) ⊕ ((Int32))} (hl : k_X1_wanted_L10 n x0 x1 x2 x3 x4 x5 h = some o) (hK : (xk (fun s : Int32 × Int32 × Int32 => CX l E mX1_wanted 3 10 [(0, .ref x0), (1, .int x1), (2, .int x2), (3, .int s.1), (4, .int s.2.1), (5, .int s.2.2)] [] h hf res) (fun r => K_X1_wanted_L10 l E hf res h x0 x1 x2 r) o)) : CX l E mX1_wanted 3 10 [(0, .ref x0), (1, .int x1), (2, .int x2), (3, .int x3), (4, .int x4), (5, .int x5)] [] h hf res := by
  unfold k_X1_wanted_L10 at hl
  refine cx_iload dX1_wanted_10 rfl ?_
  refine cx_aload_n dX1_wanted_12 rfl rfl ?_
  obtain ⟨v1, ev1, hl⟩ := xb hl
  refine cx_getR gF_X1_22 dX1_wanted_13 ev1 ?_
  obtain ⟨u3, eu3, hl⟩ := xb hl
  obtain ⟨r2, er2, hl⟩ := xb hl
  refine cx_callV (Or.inl ⟨by decide, _, _, rfl⟩) (T_X2_houses er2) lV_X1_89 C_X2_houses dX1_wanted_16 eu3 (by decide) rfl (by omega) (Nat.le_of_ble_eq_true rfl) ?_
  by_cases c4 : x5 ≥ r2
  · rw [if_pos c4] at hl
    refine cx_icmp_ge (X := True) (tgt := 79) dX1_wanted_19 (by decide) (fun _ => ?_) (fun z => absurd c4 z)
    cases hl
    exact cx_lsK hK ⟨rfl, trivial⟩
  · rw [if_neg c4] at hl
    refine cx_icmp_ge (X := True) (tgt := 79) dX1_wanted_19 (by decide) (fun z => absurd z c4) (fun _ => ?_)
    refine cx_aload_n dX1_wanted_22 rfl rfl ?_
    obtain ⟨v5, ev5, hl⟩ := xb hl
    refine cx_getR gF_X1_31 dX1_wanted_23 ev5 ?_
    obtain ⟨v6, ev6, hl⟩ := xb hl
    refine cx_getR gF_X1_165 dX1_wanted_26 ev6 ?_
    refine cx_iload dX1_wanted_29 rfl ?_
    obtain ⟨v7, ev7, hl⟩ := xb hl
    refine cx_iald dX1_wanted_31 ev7 ?_
    refine cx_aload_n dX1_wanted_32 rfl rfl ?_
    obtain ⟨v8, ev8, hl⟩ := xb hl
    refine cx_getR gF_X1_31 dX1_wanted_33 ev8 ?_
    obtain ⟨v9, ev9, hl⟩ := xb hl
    refine cx_getR gF_X1_167 dX1_wanted_36 ev9 ?_
    refine cx_iload_n dX1_wanted_39 rfl ?_
    obtain ⟨v10, ev10, hl⟩ := xb hl
    refine cx_iald dX1_wanted_40 ev10 ?_
    refine cx_isub dX1_wanted_41 ?_
    refine cx_mabs q1286 dX1_wanted_42 (by omega) (Nat.le_of_ble_eq_true rfl) ?_
    obtain ⟨w11, ew11, hl⟩ := xb hl
    refine cx_top (Option.some.inj ew11) ?_
    refine cx_istore dX1_wanted_45 (by decide) ?_
    refine cx_iload_n dX1_wanted_47 rfl ?_
    refine cx_iload dX1_wanted_48 rfl ?_
    obtain ⟨r12, er12, hl⟩ := xb hl
    refine cx_callS (T_X1_isOf er12) lS_X1_183 C_X1_isOf dX1_wanted_50 rfl (by omega) (Nat.le_of_ble_eq_true rfl) ?_
    by_cases c14 : r12 = 0
    · rw [if_pos c14] at hl
      refine cx_if_eq (X := True) (tgt := 73) dX1_wanted_53 (by decide) (fun _ => ?_) (fun z => absurd c14 z)
      obtain ⟨w15, ew15, hl⟩ := xb hl
      refine cx_iinc dX1_wanted_73 rfl (by decide) (Option.some.inj ew15) ?_
      refine cx_goto (tgt := 10) dX1_wanted_76 (by decide) ?_
      cases hl
      exact cx_lsK hK ⟨rfl, rfl, rfl, rfl, rfl, rfl, trivial⟩
    · rw [if_neg c14] at hl
      refine cx_if_eq (X := True) (tgt := 73) dX1_wanted_53 (by decide) (fun z => absurd z c14) (fun _ => ?_)
      refine cx_iload dX1_wanted_56 rfl ?_
      refine cx_iload dX1_wanted_58 rfl ?_
      by_cases c16 : w11 < x4
      · rw [if_pos c16] at hl
        refine cx_icmp_lt (X := True) (tgt := 66) dX1_wanted_60 (by decide) (fun _ => ?_) (fun z => absurd c16 z)
        refine cx_iload dX1_wanted_66 rfl ?_
        refine cx_istore_n dX1_wanted_68 (by decide) ?_
        refine cx_iload dX1_wanted_69 rfl ?_
        refine cx_istore dX1_wanted_71 (by decide) ?_
        obtain ⟨w17, ew17, hl⟩ := xb hl
        refine cx_iinc dX1_wanted_73 rfl (by decide) (Option.some.inj ew17) ?_
        refine cx_goto (tgt := 10) dX1_wanted_76 (by decide) ?_
        cases hl
        exact cx_lsK hK ⟨rfl, rfl, rfl, rfl, rfl, rfl, trivial⟩
      · rw [if_neg c16] at hl
        refine cx_icmp_lt (X := True) (tgt := 66) dX1_wanted_60 (by decide) (fun z => absurd z c16) (fun _ => ?_)
        refine cx_goto (tgt := 73) dX1_wanted_63 (by decide) ?_
        obtain ⟨w18, ew18, hl⟩ := xb hl
        refine cx_iinc dX1_wanted_73 rfl (by decide) (Option.some.inj ew18) ?_
        refine cx_goto (tgt := 10) dX1_wanted_76 (by decide) ?_
        cases hl
        exact cx_lsK hK ⟨rfl, rfl, rfl, rfl, rfl, rfl, trivial⟩
set_option maxHeartbeats 4000000 in
theorem k_X1_wanted_L10_ok {l : Launch} {E : XEnv} {hf : XH} {res : XO} {n : Nat} {x0 : Nat} {x1 : Int32} {x2 : Int32} {h : XH} {s : Int32 × Int32 × Int32} {o : (Int32)} (hl : xloop (fun s => k_X1_wanted_L10 n x0 x1 x2 s.1 s.2.1 s.2.2 h) n s = some o) (hK : K_X1_wanted_L10 l E hf res h x0 x1 x2 o) : CX l E mX1_wanted 3 10 [(0, .ref x0), (1, .int x1), (2, .int x2), (3, .int s.1), (4, .int s.2.1), (5, .int s.2.2)] [] h hf res :=
  xloop_of (fun s : Int32 × Int32 × Int32 => CX l E mX1_wanted 3 10 [(0, .ref x0), (1, .int x1), (2, .int x2), (3, .int s.1), (4, .int s.2.1), (5, .int s.2.2)] [] h hf res) (fun r => K_X1_wanted_L10 l E hf res h x0 x1 x2 r) (fun s o hl hk => k_X1_wanted_L10_s (h := h) (o := o) hl hk) n s o hl hK
set_option maxHeartbeats 4000000 in
theorem T_X1_wanted {l : Launch} {E : XEnv}  {n : Nat} {x0 : Nat} {x1 : Int32} {x2 : Int32} {h : XH} {r : Int32} (hl : k_X1_wanted n x0 x1 x2 h = some r) : CM l E mX1_wanted 3 [.ref x0, .int x1, .int x2] h (.inl (some (.int r))) h := by
  unfold k_X1_wanted at hl
  refine cm_of (by decide +kernel) rfl (Nat.le_of_ble_eq_true rfl) ?_
  refine cx_iconst (v := (-1)) dX1_wanted_0 rfl ?_
  refine cx_istore_n dX1_wanted_1 (by decide) ?_
  refine cx_ldcw (v := 100000) q1396 dX1_wanted_2 ?_
  refine cx_istore dX1_wanted_5 (by decide) ?_
  refine cx_iconst (v := 0) dX1_wanted_7 rfl ?_
  refine cx_istore dX1_wanted_8 (by decide) ?_
  obtain ⟨o19, eo19, hl⟩ := xb hl
  refine cx_lsK (k_X1_wanted_L10_ok (h := h) (s := ((-1), 100000, 0)) eo19 ?_) ⟨rfl, rfl, rfl, rfl, rfl, rfl, trivial⟩
  refine cx_iload_n dX1_wanted_79 rfl ?_
  cases hl
  exact cx_iret dX1_wanted_80 rfl rfl rfl rfl
def k_X1_isInRing_L5 (n : Nat) (x0 : Nat) (x1 : Int32) (x2 : Int32) (x3 : Int32) (x4 : Int32) (h : XH) : Option ((Int32 × Int32) ⊕ ((Unit) ⊕ (Unit))) := if x4 ≥ 8 then some (.inr (.inl ())) else (cgR h x0 0 2).bind fun v2 => (ckd h x0 0).bind fun u4 => (k_X1_wanted n x0 x3 x2 h).bind fun r3 => (ckd h v2 2).bind fun u6 => (k_X3_in n v2 r3 h).bind fun r5 => if r5 = x1 then some (.inr (.inr ())) else (some (x4 + 1)).bind fun w8 => some (.inl (r5, w8))
abbrev K_X1_isInRing_L5 (l : Launch) (E : XEnv) (hf : XH) (res : XO) (h : XH) (x0 : Nat) (x1 : Int32) (x2 : Int32) (o : (Unit) ⊕ (Unit)) : Prop := match o with
  | .inl e => CX l E mX1_isInRing 4 39 [] [] h hf res
  | .inr e => CX l E mX1_isInRing 4 31 [] [] h hf res
def k_X1_isInRing (n : Nat) (x0 : Nat) (x1 : Int32) (x2 : Int32) (h : XH) : Option (Int32) := (xloop (fun s => k_X1_isInRing_L5 n x0 x1 x2 s.1 s.2 h) n (x1, 0)).bind fun o9 => match o9 with | .inl e10 => (some 0) | .inr e11 => (some 1)
set_option maxHeartbeats 4000000 in
theorem k_X1_isInRing_L5_s {l : Launch} {E : XEnv} {hf : XH} {res : XO} {n : Nat} {x0 : Nat} {x1 : Int32} {x2 : Int32} {x3 : Int32} {x4 : Int32} {h : XH} {o : (Int32 × Int32) ⊕ ((Unit) ⊕ (Unit))} (hl : k_X1_isInRing_L5 n x0 x1 x2 x3 x4 h = some o) (hK : (xk (fun s : Int32 × Int32 => CX l E mX1_isInRing 4 5 [(0, .ref x0), (1, .int x1), (2, .int x2), (3, .int s.1), (4, .int s.2)] [] h hf res) (fun r => K_X1_isInRing_L5 l E hf res h x0 x1 x2 r) o)) : CX l E mX1_isInRing 4 5 [(0, .ref x0), (1, .int x1), (2, .int x2), (3, .int x3), (4, .int x4)] [] h hf res := by
  unfold k_X1_isInRing_L5 at hl
  refine cx_iload dX1_isInRing_5 rfl ?_
  refine cx_bipush (v := 8) dX1_isInRing_7 (by decide) ?_
  by_cases c1 : x4 ≥ 8
  · rw [if_pos c1] at hl
    refine cx_icmp_ge (X := True) (tgt := 39) dX1_isInRing_9 (by decide) (fun _ => ?_) (fun z => absurd c1 z)
    cases hl
    exact cx_lsK hK trivial
  · rw [if_neg c1] at hl
    refine cx_icmp_ge (X := True) (tgt := 39) dX1_isInRing_9 (by decide) (fun z => absurd z c1) (fun _ => ?_)
    refine cx_aload_n dX1_isInRing_12 rfl rfl ?_
    obtain ⟨v2, ev2, hl⟩ := xb hl
    refine cx_getR gF_X1_31 dX1_isInRing_13 ev2 ?_
    refine cx_aload_n dX1_isInRing_16 rfl rfl ?_
    refine cx_iload_n dX1_isInRing_17 rfl ?_
    refine cx_iload_n dX1_isInRing_18 rfl ?_
    obtain ⟨u4, eu4, hl⟩ := xb hl
    obtain ⟨r3, er3, hl⟩ := xb hl
    refine cx_callV (Or.inl ⟨by decide, _, _, rfl⟩) (T_X1_wanted er3) lV_X1_274 C_X1_wanted dX1_isInRing_19 eu4 (by decide) rfl (by omega) (Nat.le_of_ble_eq_true rfl) ?_
    obtain ⟨u6, eu6, hl⟩ := xb hl
    obtain ⟨r5, er5, hl⟩ := xb hl
    refine cx_callV (Or.inl ⟨by decide, _, _, rfl⟩) (T_X3_in er5) lV_X1_93 C_X3_in dX1_isInRing_22 eu6 (by decide) rfl (by omega) (Nat.le_of_ble_eq_true rfl) ?_
    refine cx_istore_n dX1_isInRing_25 (by decide) ?_
    refine cx_iload_n dX1_isInRing_26 rfl ?_
    refine cx_iload_n dX1_isInRing_27 rfl ?_
    by_cases c7 : r5 = x1
    · rw [if_pos c7] at hl
      refine cx_icmp_ne (X := True) (tgt := 33) dX1_isInRing_28 (by decide) (fun z => absurd c7 z) (fun _ => ?_)
      cases hl
      exact cx_lsK hK trivial
    · rw [if_neg c7] at hl
      refine cx_icmp_ne (X := True) (tgt := 33) dX1_isInRing_28 (by decide) (fun _ => ?_) (fun z => absurd z c7)
      obtain ⟨w8, ew8, hl⟩ := xb hl
      refine cx_iinc dX1_isInRing_33 rfl (by decide) (Option.some.inj ew8) ?_
      refine cx_goto (tgt := 5) dX1_isInRing_36 (by decide) ?_
      cases hl
      exact cx_lsK hK ⟨rfl, rfl, rfl, rfl, rfl, trivial⟩
set_option maxHeartbeats 4000000 in
theorem k_X1_isInRing_L5_ok {l : Launch} {E : XEnv} {hf : XH} {res : XO} {n : Nat} {x0 : Nat} {x1 : Int32} {x2 : Int32} {h : XH} {s : Int32 × Int32} {o : (Unit) ⊕ (Unit)} (hl : xloop (fun s => k_X1_isInRing_L5 n x0 x1 x2 s.1 s.2 h) n s = some o) (hK : K_X1_isInRing_L5 l E hf res h x0 x1 x2 o) : CX l E mX1_isInRing 4 5 [(0, .ref x0), (1, .int x1), (2, .int x2), (3, .int s.1), (4, .int s.2)] [] h hf res :=
  xloop_of (fun s : Int32 × Int32 => CX l E mX1_isInRing 4 5 [(0, .ref x0), (1, .int x1), (2, .int x2), (3, .int s.1), (4, .int s.2)] [] h hf res) (fun r => K_X1_isInRing_L5 l E hf res h x0 x1 x2 r) (fun s o hl hk => k_X1_isInRing_L5_s (h := h) (o := o) hl hk) n s o hl hK
set_option maxHeartbeats 4000000 in
theorem T_X1_isInRing {l : Launch} {E : XEnv}  {n : Nat} {x0 : Nat} {x1 : Int32} {x2 : Int32} {h : XH} {r : Int32} (hl : k_X1_isInRing n x0 x1 x2 h = some r) : CM l E mX1_isInRing 4 [.ref x0, .int x1, .int x2] h (.inl (some (.int r))) h := by
  unfold k_X1_isInRing at hl
  refine cm_of (by decide +kernel) rfl (Nat.le_of_ble_eq_true rfl) ?_
  refine cx_iload_n dX1_isInRing_0 rfl ?_
  refine cx_istore_n dX1_isInRing_1 (by decide) ?_
  refine cx_iconst (v := 0) dX1_isInRing_2 rfl ?_
  refine cx_istore dX1_isInRing_3 (by decide) ?_
  obtain ⟨o9, eo9, hl⟩ := xb hl
  rcases o9 with e10 | e11
  · dsimp only at hl
    refine cx_lsK (k_X1_isInRing_L5_ok (h := h) (s := (x1, 0)) eo9 ?_) ⟨rfl, rfl, rfl, rfl, rfl, trivial⟩
    refine cx_iconst (v := 0) dX1_isInRing_39 rfl ?_
    cases hl
    exact cx_iret dX1_isInRing_40 rfl rfl rfl rfl
  · dsimp only at hl
    refine cx_lsK (k_X1_isInRing_L5_ok (h := h) (s := (x1, 0)) eo9 ?_) ⟨rfl, rfl, rfl, rfl, rfl, trivial⟩
    refine cx_iconst (v := 1) dX1_isInRing_31 rfl ?_
    cases hl
    exact cx_iret dX1_isInRing_32 rfl rfl rfl rfl
def k_X1_leftFor_L19 (n : Nat) (x0 : Nat) (x1 : Int32) (x2 : Int32) (x3 : Int32) (x4 : Int32) (h : XH) : Option ((Int32 × Int32) ⊕ ((Int32))) := (cgR h x0 0 1).bind fun v6 => (ckd h v6 1).bind fun u8 => (k_X2_people v6 h).bind fun r7 => if x4 ≥ r7 then some (.inr x3) else (cgR h x0 0 2).bind fun v10 => (cgR h v10 2 3).bind fun v11 => (caI h v11 100 x4).bind fun v12 => if v12 = (-1) then (some (x4 + 1)).bind fun w14 => some (.inl (x3, w14)) else (cgR h x0 0 2).bind fun v15 => (cgR h v15 2 3).bind fun v16 => (caI h v16 100 x4).bind fun v17 => (k_X1_isOf x2 v17 h).bind fun r18 => if r18 = 0 then (some (x4 + 1)).bind fun w21 => some (.inl (x3, w21)) else (ckd h x0 0).bind fun u23 => (k_X1_isInRing n x0 x4 x2 h).bind fun r22 => if r22 = 0 then (some (x4 + 1)).bind fun w25 => some (.inl (x3, w25)) else (cgR h x0 0 2).bind fun v26 => (cgR h v26 2 3).bind fun v27 => (caI h v27 100 x4).bind fun v28 => (some (x3 ||| ((1 : Int32) <<< ((v28 : Int32) &&& 31)))).bind fun w29 => (some (x4 + 1)).bind fun w30 => some (.inl (w29, w30))
abbrev K_X1_leftFor_L19 (l : Launch) (E : XEnv) (hf : XH) (res : XO) (h : XH) (x0 : Nat) (x1 : Int32) (x2 : Int32) (o : (Int32)) : Prop := match o with
  | e => CX l E mX1_leftFor 5 93 [(0, .ref x0), (1, .int x1), (2, .int x2), (3, .int e)] [] h hf res
def k_X1_leftFor_L5 (n : Nat) (x0 : Nat) (x1 : Int32) (x2 : Int32) (h : XH) : Option ((Int32) ⊕ ((Int32))) := (ckd h x0 0).bind fun u4 => (k_X1_isInRing n x0 x1 x2 h).bind fun r3 => if r3 = 0 then (xloop (fun s => k_X1_leftFor_L19 n x0 x1 x2 s.1 s.2 h) n (0, 0)).bind fun o31 => (some (x2 &&& (o31 ^^^ (-1)))).bind fun w32 => some (.inl w32) else some (.inr x2)
abbrev K_X1_leftFor_L5 (l : Launch) (E : XEnv) (hf : XH) (res : XO) (h : XH) (x0 : Nat) (x1 : Int32) (o : (Int32)) : Prop := match o with
  | e => CX l E mX1_leftFor 5 102 [(2, .int e)] [] h hf res
def k_X1_leftFor (n : Nat) (x0 : Nat) (x1 : Int32) (h : XH) : Option (Int32) := (ckd h x0 0).bind fun u2 => (k_X1_taken n x0 h).bind fun r1 => (xloop (fun s => k_X1_leftFor_L5 n x0 x1 s h) n r1).bind fun o33 => some o33
set_option maxHeartbeats 4000000 in
theorem k_X1_leftFor_L19_s {l : Launch} {E : XEnv} {hf : XH} {res : XO} {n : Nat} {x0 : Nat} {x1 : Int32} {x2 : Int32} {x3 : Int32} {x4 : Int32} {h : XH} {o : (Int32 × Int32) ⊕ ((Int32))} (hl : k_X1_leftFor_L19 n x0 x1 x2 x3 x4 h = some o) (hK : (xk (fun s : Int32 × Int32 => CX l E mX1_leftFor 5 19 [(0, .ref x0), (1, .int x1), (2, .int x2), (3, .int s.1), (4, .int s.2)] [] h hf res) (fun r => K_X1_leftFor_L19 l E hf res h x0 x1 x2 r) o)) : CX l E mX1_leftFor 5 19 [(0, .ref x0), (1, .int x1), (2, .int x2), (3, .int x3), (4, .int x4)] [] h hf res := by
  unfold k_X1_leftFor_L19 at hl
  refine cx_iload dX1_leftFor_19 rfl ?_
  refine cx_aload_n dX1_leftFor_21 rfl rfl ?_
  obtain ⟨v6, ev6, hl⟩ := xb hl
  refine cx_getR gF_X1_22 dX1_leftFor_22 ev6 ?_
  obtain ⟨u8, eu8, hl⟩ := xb hl
  obtain ⟨r7, er7, hl⟩ := xb hl
  refine cx_callV (Or.inl ⟨by decide, _, _, rfl⟩) (T_X2_people er7) lV_X1_104 C_X2_people dX1_leftFor_25 eu8 (by decide) rfl (by omega) (Nat.le_of_ble_eq_true rfl) ?_
  by_cases c9 : x4 ≥ r7
  · rw [if_pos c9] at hl
    refine cx_icmp_ge (X := True) (tgt := 93) dX1_leftFor_28 (by decide) (fun _ => ?_) (fun z => absurd c9 z)
    cases hl
    exact cx_lsK hK ⟨rfl, rfl, rfl, rfl, trivial⟩
  · rw [if_neg c9] at hl
    refine cx_icmp_ge (X := True) (tgt := 93) dX1_leftFor_28 (by decide) (fun z => absurd z c9) (fun _ => ?_)
    refine cx_aload_n dX1_leftFor_31 rfl rfl ?_
    obtain ⟨v10, ev10, hl⟩ := xb hl
    refine cx_getR gF_X1_31 dX1_leftFor_32 ev10 ?_
    obtain ⟨v11, ev11, hl⟩ := xb hl
    refine cx_getR gF_X1_97 dX1_leftFor_35 ev11 ?_
    refine cx_iload dX1_leftFor_38 rfl ?_
    obtain ⟨v12, ev12, hl⟩ := xb hl
    refine cx_iald dX1_leftFor_40 ev12 ?_
    refine cx_iconst (v := (-1)) dX1_leftFor_41 rfl ?_
    by_cases c13 : v12 = (-1)
    · rw [if_pos c13] at hl
      refine cx_icmp_eq (X := True) (tgt := 87) dX1_leftFor_42 (by decide) (fun _ => ?_) (fun z => absurd c13 z)
      obtain ⟨w14, ew14, hl⟩ := xb hl
      refine cx_iinc dX1_leftFor_87 rfl (by decide) (Option.some.inj ew14) ?_
      refine cx_goto (tgt := 19) dX1_leftFor_90 (by decide) ?_
      cases hl
      exact cx_lsK hK ⟨rfl, rfl, rfl, rfl, rfl, trivial⟩
    · rw [if_neg c13] at hl
      refine cx_icmp_eq (X := True) (tgt := 87) dX1_leftFor_42 (by decide) (fun z => absurd z c13) (fun _ => ?_)
      refine cx_iload_n dX1_leftFor_45 rfl ?_
      refine cx_aload_n dX1_leftFor_46 rfl rfl ?_
      obtain ⟨v15, ev15, hl⟩ := xb hl
      refine cx_getR gF_X1_31 dX1_leftFor_47 ev15 ?_
      obtain ⟨v16, ev16, hl⟩ := xb hl
      refine cx_getR gF_X1_97 dX1_leftFor_50 ev16 ?_
      refine cx_iload dX1_leftFor_53 rfl ?_
      obtain ⟨v17, ev17, hl⟩ := xb hl
      refine cx_iald dX1_leftFor_55 ev17 ?_
      obtain ⟨r18, er18, hl⟩ := xb hl
      refine cx_callS (T_X1_isOf er18) lS_X1_183 C_X1_isOf dX1_leftFor_56 rfl (by omega) (Nat.le_of_ble_eq_true rfl) ?_
      by_cases c20 : r18 = 0
      · rw [if_pos c20] at hl
        refine cx_if_eq (X := True) (tgt := 87) dX1_leftFor_59 (by decide) (fun _ => ?_) (fun z => absurd c20 z)
        obtain ⟨w21, ew21, hl⟩ := xb hl
        refine cx_iinc dX1_leftFor_87 rfl (by decide) (Option.some.inj ew21) ?_
        refine cx_goto (tgt := 19) dX1_leftFor_90 (by decide) ?_
        cases hl
        exact cx_lsK hK ⟨rfl, rfl, rfl, rfl, rfl, trivial⟩
      · rw [if_neg c20] at hl
        refine cx_if_eq (X := True) (tgt := 87) dX1_leftFor_59 (by decide) (fun z => absurd z c20) (fun _ => ?_)
        refine cx_aload_n dX1_leftFor_62 rfl rfl ?_
        refine cx_iload dX1_leftFor_63 rfl ?_
        refine cx_iload_n dX1_leftFor_65 rfl ?_
        obtain ⟨u23, eu23, hl⟩ := xb hl
        obtain ⟨r22, er22, hl⟩ := xb hl
        refine cx_callV (Or.inl ⟨by decide, _, _, rfl⟩) (T_X1_isInRing er22) lV_X1_277 C_X1_isInRing dX1_leftFor_66 eu23 (by decide) rfl (by omega) (Nat.le_of_ble_eq_true rfl) ?_
        by_cases c24 : r22 = 0
        · rw [if_pos c24] at hl
          refine cx_if_eq (X := True) (tgt := 87) dX1_leftFor_69 (by decide) (fun _ => ?_) (fun z => absurd c24 z)
          obtain ⟨w25, ew25, hl⟩ := xb hl
          refine cx_iinc dX1_leftFor_87 rfl (by decide) (Option.some.inj ew25) ?_
          refine cx_goto (tgt := 19) dX1_leftFor_90 (by decide) ?_
          cases hl
          exact cx_lsK hK ⟨rfl, rfl, rfl, rfl, rfl, trivial⟩
        · rw [if_neg c24] at hl
          refine cx_if_eq (X := True) (tgt := 87) dX1_leftFor_69 (by decide) (fun z => absurd z c24) (fun _ => ?_)
          refine cx_iload_n dX1_leftFor_72 rfl ?_
          refine cx_iconst (v := 1) dX1_leftFor_73 rfl ?_
          refine cx_aload_n dX1_leftFor_74 rfl rfl ?_
          obtain ⟨v26, ev26, hl⟩ := xb hl
          refine cx_getR gF_X1_31 dX1_leftFor_75 ev26 ?_
          obtain ⟨v27, ev27, hl⟩ := xb hl
          refine cx_getR gF_X1_97 dX1_leftFor_78 ev27 ?_
          refine cx_iload dX1_leftFor_81 rfl ?_
          obtain ⟨v28, ev28, hl⟩ := xb hl
          refine cx_iald dX1_leftFor_83 ev28 ?_
          refine cx_ishl dX1_leftFor_84 ?_
          refine cx_ior dX1_leftFor_85 ?_
          obtain ⟨w29, ew29, hl⟩ := xb hl
          refine cx_top (Option.some.inj ew29) ?_
          refine cx_istore_n dX1_leftFor_86 (by decide) ?_
          obtain ⟨w30, ew30, hl⟩ := xb hl
          refine cx_iinc dX1_leftFor_87 rfl (by decide) (Option.some.inj ew30) ?_
          refine cx_goto (tgt := 19) dX1_leftFor_90 (by decide) ?_
          cases hl
          exact cx_lsK hK ⟨rfl, rfl, rfl, rfl, rfl, trivial⟩
set_option maxHeartbeats 4000000 in
theorem k_X1_leftFor_L19_ok {l : Launch} {E : XEnv} {hf : XH} {res : XO} {n : Nat} {x0 : Nat} {x1 : Int32} {x2 : Int32} {h : XH} {s : Int32 × Int32} {o : (Int32)} (hl : xloop (fun s => k_X1_leftFor_L19 n x0 x1 x2 s.1 s.2 h) n s = some o) (hK : K_X1_leftFor_L19 l E hf res h x0 x1 x2 o) : CX l E mX1_leftFor 5 19 [(0, .ref x0), (1, .int x1), (2, .int x2), (3, .int s.1), (4, .int s.2)] [] h hf res :=
  xloop_of (fun s : Int32 × Int32 => CX l E mX1_leftFor 5 19 [(0, .ref x0), (1, .int x1), (2, .int x2), (3, .int s.1), (4, .int s.2)] [] h hf res) (fun r => K_X1_leftFor_L19 l E hf res h x0 x1 x2 r) (fun s o hl hk => k_X1_leftFor_L19_s (h := h) (o := o) hl hk) n s o hl hK
set_option maxHeartbeats 4000000 in
theorem k_X1_leftFor_L5_s {l : Launch} {E : XEnv} {hf : XH} {res : XO} {n : Nat} {x0 : Nat} {x1 : Int32} {x2 : Int32} {h : XH} {o : (Int32) ⊕ ((Int32))} (hl : k_X1_leftFor_L5 n x0 x1 x2 h = some o) (hK : (xk (fun s : Int32 => CX l E mX1_leftFor 5 5 [(0, .ref x0), (1, .int x1), (2, .int s)] [] h hf res) (fun r => K_X1_leftFor_L5 l E hf res h x0 x1 r) o)) : CX l E mX1_leftFor 5 5 [(0, .ref x0), (1, .int x1), (2, .int x2)] [] h hf res := by
  unfold k_X1_leftFor_L5 at hl
  refine cx_aload_n dX1_leftFor_5 rfl rfl ?_
  refine cx_iload_n dX1_leftFor_6 rfl ?_
  refine cx_iload_n dX1_leftFor_7 rfl ?_
  obtain ⟨u4, eu4, hl⟩ := xb hl
  obtain ⟨r3, er3, hl⟩ := xb hl
  refine cx_callV (Or.inl ⟨by decide, _, _, rfl⟩) (T_X1_isInRing er3) lV_X1_277 C_X1_isInRing dX1_leftFor_8 eu4 (by decide) rfl (by omega) (Nat.le_of_ble_eq_true rfl) ?_
  by_cases c5 : r3 = 0
  · rw [if_pos c5] at hl
    refine cx_if_ne (X := True) (tgt := 102) dX1_leftFor_11 (by decide) (fun z => absurd c5 z) (fun _ => ?_)
    refine cx_iconst (v := 0) dX1_leftFor_14 rfl ?_
    refine cx_istore_n dX1_leftFor_15 (by decide) ?_
    refine cx_iconst (v := 0) dX1_leftFor_16 rfl ?_
    refine cx_istore dX1_leftFor_17 (by decide) ?_
    obtain ⟨o31, eo31, hl⟩ := xb hl
    refine cx_lsK (k_X1_leftFor_L19_ok (h := h) (s := (0, 0)) eo31 ?_) ⟨rfl, rfl, rfl, rfl, rfl, trivial⟩
    refine cx_iload_n dX1_leftFor_93 rfl ?_
    refine cx_iload_n dX1_leftFor_94 rfl ?_
    refine cx_iconst (v := (-1)) dX1_leftFor_95 rfl ?_
    refine cx_ixor dX1_leftFor_96 ?_
    refine cx_iand dX1_leftFor_97 ?_
    obtain ⟨w32, ew32, hl⟩ := xb hl
    refine cx_top (Option.some.inj ew32) ?_
    refine cx_istore_n dX1_leftFor_98 (by decide) ?_
    refine cx_goto (tgt := 5) dX1_leftFor_99 (by decide) ?_
    cases hl
    exact cx_lsK hK ⟨rfl, rfl, rfl, trivial⟩
  · rw [if_neg c5] at hl
    refine cx_if_ne (X := True) (tgt := 102) dX1_leftFor_11 (by decide) (fun _ => ?_) (fun z => absurd z c5)
    cases hl
    exact cx_lsK hK ⟨rfl, trivial⟩
set_option maxHeartbeats 4000000 in
theorem k_X1_leftFor_L5_ok {l : Launch} {E : XEnv} {hf : XH} {res : XO} {n : Nat} {x0 : Nat} {x1 : Int32} {h : XH} {s : Int32} {o : (Int32)} (hl : xloop (fun s => k_X1_leftFor_L5 n x0 x1 s h) n s = some o) (hK : K_X1_leftFor_L5 l E hf res h x0 x1 o) : CX l E mX1_leftFor 5 5 [(0, .ref x0), (1, .int x1), (2, .int s)] [] h hf res :=
  xloop_of (fun s : Int32 => CX l E mX1_leftFor 5 5 [(0, .ref x0), (1, .int x1), (2, .int s)] [] h hf res) (fun r => K_X1_leftFor_L5 l E hf res h x0 x1 r) (fun s o hl hk => k_X1_leftFor_L5_s (h := h) (o := o) hl hk) n s o hl hK
set_option maxHeartbeats 4000000 in
theorem T_X1_leftFor {l : Launch} {E : XEnv}  {n : Nat} {x0 : Nat} {x1 : Int32} {h : XH} {r : Int32} (hl : k_X1_leftFor n x0 x1 h = some r) : CM l E mX1_leftFor 5 [.ref x0, .int x1] h (.inl (some (.int r))) h := by
  unfold k_X1_leftFor at hl
  refine cm_of (by decide +kernel) rfl (Nat.le_of_ble_eq_true rfl) ?_
  refine cx_aload_n dX1_leftFor_0 rfl rfl ?_
  obtain ⟨u2, eu2, hl⟩ := xb hl
  obtain ⟨r1, er1, hl⟩ := xb hl
  refine cx_callV (Or.inl ⟨by decide, _, _, rfl⟩) (T_X1_taken er1) lV_X1_119 C_X1_taken dX1_leftFor_1 eu2 (by decide) rfl (by omega) (Nat.le_of_ble_eq_true rfl) ?_
  refine cx_istore_n dX1_leftFor_4 (by decide) ?_
  obtain ⟨o33, eo33, hl⟩ := xb hl
  refine cx_lsK (k_X1_leftFor_L5_ok (h := h) (s := r1) eo33 ?_) ⟨rfl, rfl, rfl, trivial⟩
  refine cx_iload_n dX1_leftFor_102 rfl ?_
  cases hl
  exact cx_iret dX1_leftFor_103 rfl rfl rfl rfl
def k_X1_trade (n : Nat) (x0 : Nat) (x1 : Int32) (h : XH) : Option ((Int32 ⊕ XX) × XH) := (ckd h x0 0).bind fun u2 => (k_X1_aPerson x0 x1 h).bind fun r1 => match r1 with | (.inl v3, h4) => ((cgR h4 x0 0 2).bind fun v8 => (cgR h4 v8 2 3).bind fun v9 => (caI h4 v9 100 x1).bind fun v10 => if v10 = (-1) then some (.inl (-1), h4) else (ckd h4 x0 0).bind fun u13 => (k_X1_leftFor n x0 x1 h4).bind fun r12 => (ckd h4 x0 0).bind fun u15 => (k_X1_wanted n x0 x1 r12 h4).bind fun r14 => some (.inl r14, h4)) | (.inr e5, h4) => (some (.inr e5, h4))
set_option maxHeartbeats 4000000 in
theorem T_X1_trade {l : Launch} {E : XEnv}  {n : Nat} {x0 : Nat} {x1 : Int32} {h : XH} {r : (Int32 ⊕ XX) × XH} (hl : k_X1_trade n x0 x1 h = some r) : CM l E mX1_trade 10 [.ref x0, .int x1] h (xrI r.1) r.2 := by
  unfold k_X1_trade at hl
  refine cm_of (by decide +kernel) rfl (Nat.le_of_ble_eq_true rfl) ?_
  refine cx_aload_n dX1_trade_0 rfl rfl ?_
  refine cx_iload_n dX1_trade_1 rfl ?_
  obtain ⟨u2, eu2, hl⟩ := xb hl
  obtain ⟨r1, er1, hl⟩ := xb hl
  rcases r1 with ⟨v3 | ⟨C6, q7⟩, h4⟩
  · dsimp only at hl
    refine cx_callV (Or.inl ⟨by decide, _, _, rfl⟩) (T_X1_aPerson er1) lV_X1_193 C_X1_aPerson dX1_trade_2 eu2 (by decide) rfl (by omega) (Nat.le_of_ble_eq_true rfl) ?_
    refine cx_aload_n dX1_trade_5 rfl rfl ?_
    obtain ⟨v8, ev8, hl⟩ := xb hl
    refine cx_getR gF_X1_31 dX1_trade_6 ev8 ?_
    obtain ⟨v9, ev9, hl⟩ := xb hl
    refine cx_getR gF_X1_97 dX1_trade_9 ev9 ?_
    refine cx_iload_n dX1_trade_12 rfl ?_
    obtain ⟨v10, ev10, hl⟩ := xb hl
    refine cx_iald dX1_trade_13 ev10 ?_
    refine cx_iconst (v := (-1)) dX1_trade_14 rfl ?_
    by_cases c11 : v10 = (-1)
    · rw [if_pos c11] at hl
      refine cx_icmp_ne (X := True) (tgt := 22) dX1_trade_15 (by decide) (fun z => absurd c11 z) (fun _ => ?_)
      refine cx_iconst (v := (-1)) dX1_trade_18 rfl ?_
      refine cx_goto (tgt := 32) dX1_trade_19 (by decide) ?_
      cases hl
      exact cx_iret dX1_trade_32 rfl rfl rfl rfl
    · rw [if_neg c11] at hl
      refine cx_icmp_ne (X := True) (tgt := 22) dX1_trade_15 (by decide) (fun _ => ?_) (fun z => absurd z c11)
      refine cx_aload_n dX1_trade_22 rfl rfl ?_
      refine cx_iload_n dX1_trade_23 rfl ?_
      refine cx_aload_n dX1_trade_24 rfl rfl ?_
      refine cx_iload_n dX1_trade_25 rfl ?_
      obtain ⟨u13, eu13, hl⟩ := xb hl
      obtain ⟨r12, er12, hl⟩ := xb hl
      refine cx_callV (Or.inl ⟨by decide, _, _, rfl⟩) (T_X1_leftFor er12) lV_X1_280 C_X1_leftFor dX1_trade_26 eu13 (by decide) rfl (by omega) (Nat.le_of_ble_eq_true rfl) ?_
      obtain ⟨u15, eu15, hl⟩ := xb hl
      obtain ⟨r14, er14, hl⟩ := xb hl
      refine cx_callV (Or.inl ⟨by decide, _, _, rfl⟩) (T_X1_wanted er14) lV_X1_274 C_X1_wanted dX1_trade_29 eu15 (by decide) rfl (by omega) (Nat.le_of_ble_eq_true rfl) ?_
      cases hl
      exact cx_iret dX1_trade_32 rfl rfl rfl rfl
  · dsimp only at hl
    cases hl
    exact cx_callVx (Or.inl ⟨by decide, _, _, rfl⟩) (T_X1_aPerson er1) lV_X1_193 C_X1_aPerson dX1_trade_2 eu2 (by decide) rfl (by omega) (Nat.le_of_ble_eq_true rfl) (ct_out rfl rfl (by decide))
def k_X1_toStuff (x0 : Nat) (x1 : Int32) (x2 : Int32) (h : XH) : Option ((Int32 ⊕ XX) × XH) := (ckd h x0 0).bind fun u2 => (k_X1_aPerson x0 x1 h).bind fun r1 => match r1 with | (.inl v3, h4) => ((ckd h4 x0 0).bind fun u9 => (k_X1_aHouse x0 x2 h4).bind fun r8 => match r8 with | (.inl v10, h11) => ((cgR h11 x0 0 2).bind fun v15 => (cgR h11 v15 2 0).bind fun v16 => (caI h11 v16 100 x2).bind fun v17 => (cgR h11 x0 0 2).bind fun v18 => (cgR h11 v18 2 2).bind fun v19 => (caI h11 v19 100 x1).bind fun v20 => (some (imax 0 (v17 - v20))).bind fun w21 => if w21 > 20 then some (.inl (-1), h11) else some (.inl w21, h11)) | (.inr e12, h11) => (some (.inr e12, h11))) | (.inr e5, h4) => (some (.inr e5, h4))
set_option maxHeartbeats 4000000 in
theorem T_X1_toStuff {l : Launch} {E : XEnv}  {x0 : Nat} {x1 : Int32} {x2 : Int32} {h : XH} {r : (Int32 ⊕ XX) × XH} (hl : k_X1_toStuff x0 x1 x2 h = some r) : CM l E mX1_toStuff 10 [.ref x0, .int x1, .int x2] h (xrI r.1) r.2 := by
  unfold k_X1_toStuff at hl
  refine cm_of (by decide +kernel) rfl (Nat.le_of_ble_eq_true rfl) ?_
  refine cx_aload_n dX1_toStuff_0 rfl rfl ?_
  refine cx_iload_n dX1_toStuff_1 rfl ?_
  obtain ⟨u2, eu2, hl⟩ := xb hl
  obtain ⟨r1, er1, hl⟩ := xb hl
  rcases r1 with ⟨v3 | ⟨C6, q7⟩, h4⟩
  · dsimp only at hl
    refine cx_callV (Or.inl ⟨by decide, _, _, rfl⟩) (T_X1_aPerson er1) lV_X1_193 C_X1_aPerson dX1_toStuff_2 eu2 (by decide) rfl (by omega) (Nat.le_of_ble_eq_true rfl) ?_
    refine cx_aload_n dX1_toStuff_5 rfl rfl ?_
    refine cx_iload_n dX1_toStuff_6 rfl ?_
    obtain ⟨u9, eu9, hl⟩ := xb hl
    obtain ⟨r8, er8, hl⟩ := xb hl
    rcases r8 with ⟨v10 | ⟨C13, q14⟩, h11⟩
    · dsimp only at hl
      refine cx_callV (Or.inl ⟨by decide, _, _, rfl⟩) (T_X1_aHouse er8) lV_X1_173 C_X1_aHouse dX1_toStuff_7 eu9 (by decide) rfl (by omega) (Nat.le_of_ble_eq_true rfl) ?_
      refine cx_iconst (v := 0) dX1_toStuff_10 rfl ?_
      refine cx_aload_n dX1_toStuff_11 rfl rfl ?_
      obtain ⟨v15, ev15, hl⟩ := xb hl
      refine cx_getR gF_X1_31 dX1_toStuff_12 ev15 ?_
      obtain ⟨v16, ev16, hl⟩ := xb hl
      refine cx_getR gF_X1_165 dX1_toStuff_15 ev16 ?_
      refine cx_iload_n dX1_toStuff_18 rfl ?_
      obtain ⟨v17, ev17, hl⟩ := xb hl
      refine cx_iald dX1_toStuff_19 ev17 ?_
      refine cx_aload_n dX1_toStuff_20 rfl rfl ?_
      obtain ⟨v18, ev18, hl⟩ := xb hl
      refine cx_getR gF_X1_31 dX1_toStuff_21 ev18 ?_
      obtain ⟨v19, ev19, hl⟩ := xb hl
      refine cx_getR gF_X1_167 dX1_toStuff_24 ev19 ?_
      refine cx_iload_n dX1_toStuff_27 rfl ?_
      obtain ⟨v20, ev20, hl⟩ := xb hl
      refine cx_iald dX1_toStuff_28 ev20 ?_
      refine cx_isub dX1_toStuff_29 ?_
      refine cx_mmax q1277 dX1_toStuff_30 (by omega) (Nat.le_of_ble_eq_true rfl) ?_
      obtain ⟨w21, ew21, hl⟩ := xb hl
      refine cx_top (Option.some.inj ew21) ?_
      refine cx_istore_n dX1_toStuff_33 (by decide) ?_
      refine cx_iload_n dX1_toStuff_34 rfl ?_
      refine cx_bipush (v := 20) dX1_toStuff_35 (by decide) ?_
      by_cases c22 : w21 > 20
      · rw [if_pos c22] at hl
        refine cx_icmp_gt (X := True) (tgt := 44) dX1_toStuff_37 (by decide) (fun _ => ?_) (fun z => absurd c22 z)
        refine cx_iconst (v := (-1)) dX1_toStuff_44 rfl ?_
        cases hl
        exact cx_iret dX1_toStuff_45 rfl rfl rfl rfl
      · rw [if_neg c22] at hl
        refine cx_icmp_gt (X := True) (tgt := 44) dX1_toStuff_37 (by decide) (fun z => absurd z c22) (fun _ => ?_)
        refine cx_iload_n dX1_toStuff_40 rfl ?_
        refine cx_goto (tgt := 45) dX1_toStuff_41 (by decide) ?_
        cases hl
        exact cx_iret dX1_toStuff_45 rfl rfl rfl rfl
    · dsimp only at hl
      cases hl
      exact cx_callVx (Or.inl ⟨by decide, _, _, rfl⟩) (T_X1_aHouse er8) lV_X1_173 C_X1_aHouse dX1_toStuff_7 eu9 (by decide) rfl (by omega) (Nat.le_of_ble_eq_true rfl) (ct_out rfl rfl (by decide))
  · dsimp only at hl
    cases hl
    exact cx_callVx (Or.inl ⟨by decide, _, _, rfl⟩) (T_X1_aPerson er1) lV_X1_193 C_X1_aPerson dX1_toStuff_2 eu2 (by decide) rfl (by omega) (Nat.le_of_ble_eq_true rfl) (ct_out rfl rfl (by decide))
def k_X1_toWait_L24 (n : Nat) (g : Nat) (c : Nat → Value) (x0 : Nat) (x1 : Int32) (x2 : Int32) (x3 : Int32) (h : XH) : Option ((Int32 × XH) ⊕ ((XH) ⊕ (Int32 × XH))) := if x3 > 40 then some (.inr (.inl h)) else (cgR h x0 0 3).bind fun v20 => (ckd h v20 2).bind fun u22 => (k_X3_goesIn n g c v20 x1 x2 h).bind fun r21 => if r21.1 = 0 then (cgR r21.2 x0 0 3).bind fun v24 => (ckd r21.2 v24 2).bind fun u26 => (k_X3_pass n g c v24 r21.2).bind fun r25 => (some (x3 + 1)).bind fun w27 => some (.inl (w27, r25.2)) else some (.inr (.inr (x3, r21.2)))
abbrev K_X1_toWait_L24 (l : Launch) (E : XEnv) (hf : XH) (res : XO) (g : Nat) (h : XH) (x0 : Nat) (x1 : Int32) (x2 : Int32) (o : (XH) ⊕ (Int32 × XH)) : Prop := match o with
  | .inl e => CX l E mX1_toWait (5 * g + 10) 58 [] [] e hf res
  | .inr e => CX l E mX1_toWait (5 * g + 10) 42 [(3, .int e.1)] [] e.2 hf res
def k_X1_toWait (n : Nat) (g : Nat) (c : Nat → Value) (x0 : Nat) (x1 : Int32) (x2 : Int32) (h : XH) : Option ((Int32 ⊕ XX) × XH) := (ckd h x0 0).bind fun u2 => (k_X1_aPerson x0 x1 h).bind fun r1 => match r1 with | (.inl v3, h4) => ((ckd h4 x0 0).bind fun u9 => (k_X1_aHouse x0 x2 h4).bind fun r8 => match r8 with | (.inl v10, h11) => ((cgR h11 x0 0 3).bind fun v15 => (cgR h11 x0 0 2).bind fun v16 => (ckd h11 v15 2).bind fun u18 => (k_X3_be n v15 v16 h11).bind fun r17 => (xloop (fun s => k_X1_toWait_L24 n g c x0 x1 x2 s.1 s.2) n (0, r17.2)).bind fun o28 => match o28 with | .inl e29 => (some (.inl (-1), e29)) | .inr e30 => (some (.inl e30.1, e30.2))) | (.inr e12, h11) => (some (.inr e12, h11))) | (.inr e5, h4) => (some (.inr e5, h4))
set_option maxHeartbeats 4000000 in
theorem k_X1_toWait_L24_s {l : Launch} {E : XEnv} {hf : XH} {res : XO} {n : Nat} {g : Nat} {x0 : Nat} {x1 : Int32} {x2 : Int32} {x3 : Int32} {h : XH} {o : (Int32 × XH) ⊕ ((XH) ⊕ (Int32 × XH))} (hl : k_X1_toWait_L24 n g E.2.2.2 x0 x1 x2 x3 h = some o) (hK : (xk (fun s : Int32 × XH => CX l E mX1_toWait (5 * g + 10) 24 [(0, .ref x0), (1, .int x1), (2, .int x2), (3, .int s.1)] [] s.2 hf res) (fun r => K_X1_toWait_L24 l E hf res g h x0 x1 x2 r) o)) : CX l E mX1_toWait (5 * g + 10) 24 [(0, .ref x0), (1, .int x1), (2, .int x2), (3, .int x3)] [] h hf res := by
  unfold k_X1_toWait_L24 at hl
  refine cx_iload_n dX1_toWait_24 rfl ?_
  refine cx_bipush (v := 40) dX1_toWait_25 (by decide) ?_
  by_cases c19 : x3 > 40
  · rw [if_pos c19] at hl
    refine cx_icmp_gt (X := True) (tgt := 58) dX1_toWait_27 (by decide) (fun _ => ?_) (fun z => absurd c19 z)
    cases hl
    exact cx_lsK hK trivial
  · rw [if_neg c19] at hl
    refine cx_icmp_gt (X := True) (tgt := 58) dX1_toWait_27 (by decide) (fun z => absurd z c19) (fun _ => ?_)
    refine cx_aload_n dX1_toWait_30 rfl rfl ?_
    obtain ⟨v20, ev20, hl⟩ := xb hl
    refine cx_getR gF_X1_35 dX1_toWait_31 ev20 ?_
    refine cx_iload_n dX1_toWait_34 rfl ?_
    refine cx_iload_n dX1_toWait_35 rfl ?_
    obtain ⟨u22, eu22, hl⟩ := xb hl
    obtain ⟨r21, er21, hl⟩ := xb hl
    refine cx_callV (Or.inl ⟨by decide, _, _, rfl⟩) (T_X3_goesIn er21) lV_X1_233 C_X3_goesIn dX1_toWait_36 eu22 (by decide) rfl (by omega) (Nat.le_of_ble_eq_true rfl) ?_
    by_cases c23 : r21.1 = 0
    · rw [if_pos c23] at hl
      refine cx_if_eq (X := True) (tgt := 44) dX1_toWait_39 (by decide) (fun _ => ?_) (fun z => absurd c23 z)
      refine cx_aload_n dX1_toWait_44 rfl rfl ?_
      obtain ⟨v24, ev24, hl⟩ := xb hl
      refine cx_getR gF_X1_35 dX1_toWait_45 ev24 ?_
      obtain ⟨u26, eu26, hl⟩ := xb hl
      obtain ⟨r25, er25, hl⟩ := xb hl
      refine cx_callV (Or.inl ⟨by decide, _, _, rfl⟩) (T_X3_pass er25) lV_X1_251 C_X3_pass dX1_toWait_48 eu26 (by decide) rfl (by omega) (Nat.le_of_ble_eq_true rfl) ?_
      refine cx_pop dX1_toWait_51 rfl ?_
      obtain ⟨w27, ew27, hl⟩ := xb hl
      refine cx_iinc dX1_toWait_52 rfl (by decide) (Option.some.inj ew27) ?_
      refine cx_goto (tgt := 24) dX1_toWait_55 (by decide) ?_
      cases hl
      exact cx_lsK hK ⟨rfl, rfl, rfl, rfl, trivial⟩
    · rw [if_neg c23] at hl
      refine cx_if_eq (X := True) (tgt := 44) dX1_toWait_39 (by decide) (fun z => absurd z c23) (fun _ => ?_)
      cases hl
      exact cx_lsK hK ⟨rfl, trivial⟩
set_option maxHeartbeats 4000000 in
theorem k_X1_toWait_L24_ok {l : Launch} {E : XEnv} {hf : XH} {res : XO} {n : Nat} {g : Nat} {x0 : Nat} {x1 : Int32} {x2 : Int32} {h : XH} {s : Int32 × XH} {o : (XH) ⊕ (Int32 × XH)} (hl : xloop (fun s => k_X1_toWait_L24 n g E.2.2.2 x0 x1 x2 s.1 s.2) n s = some o) (hK : K_X1_toWait_L24 l E hf res g h x0 x1 x2 o) : CX l E mX1_toWait (5 * g + 10) 24 [(0, .ref x0), (1, .int x1), (2, .int x2), (3, .int s.1)] [] s.2 hf res :=
  xloop_of (fun s : Int32 × XH => CX l E mX1_toWait (5 * g + 10) 24 [(0, .ref x0), (1, .int x1), (2, .int x2), (3, .int s.1)] [] s.2 hf res) (fun r => K_X1_toWait_L24 l E hf res g h x0 x1 x2 r) (fun s o hl hk => k_X1_toWait_L24_s (h := s.2) (o := o) hl hk) n s o hl hK
set_option maxHeartbeats 4000000 in
theorem T_X1_toWait {l : Launch} {E : XEnv}  {n : Nat} {g : Nat} {x0 : Nat} {x1 : Int32} {x2 : Int32} {h : XH} {r : (Int32 ⊕ XX) × XH} (hl : k_X1_toWait n g E.2.2.2 x0 x1 x2 h = some r) : CM l E mX1_toWait (5 * g + 10) [.ref x0, .int x1, .int x2] h (xrI r.1) r.2 := by
  unfold k_X1_toWait at hl
  refine cm_of (by decide +kernel) rfl (Nat.le_of_ble_eq_true rfl) ?_
  refine cx_aload_n dX1_toWait_0 rfl rfl ?_
  refine cx_iload_n dX1_toWait_1 rfl ?_
  obtain ⟨u2, eu2, hl⟩ := xb hl
  obtain ⟨r1, er1, hl⟩ := xb hl
  rcases r1 with ⟨v3 | ⟨C6, q7⟩, h4⟩
  · dsimp only at hl
    refine cx_callV (Or.inl ⟨by decide, _, _, rfl⟩) (T_X1_aPerson er1) lV_X1_193 C_X1_aPerson dX1_toWait_2 eu2 (by decide) rfl (by omega) (Nat.le_of_ble_eq_true rfl) ?_
    refine cx_aload_n dX1_toWait_5 rfl rfl ?_
    refine cx_iload_n dX1_toWait_6 rfl ?_
    obtain ⟨u9, eu9, hl⟩ := xb hl
    obtain ⟨r8, er8, hl⟩ := xb hl
    rcases r8 with ⟨v10 | ⟨C13, q14⟩, h11⟩
    · dsimp only at hl
      refine cx_callV (Or.inl ⟨by decide, _, _, rfl⟩) (T_X1_aHouse er8) lV_X1_173 C_X1_aHouse dX1_toWait_7 eu9 (by decide) rfl (by omega) (Nat.le_of_ble_eq_true rfl) ?_
      refine cx_aload_n dX1_toWait_10 rfl rfl ?_
      obtain ⟨v15, ev15, hl⟩ := xb hl
      refine cx_getR gF_X1_35 dX1_toWait_11 ev15 ?_
      refine cx_aload_n dX1_toWait_14 rfl rfl ?_
      obtain ⟨v16, ev16, hl⟩ := xb hl
      refine cx_getR gF_X1_31 dX1_toWait_15 ev16 ?_
      obtain ⟨u18, eu18, hl⟩ := xb hl
      obtain ⟨r17, er17, hl⟩ := xb hl
      refine cx_callV (Or.inl ⟨by decide, _, _, rfl⟩) (T_X3_be er17) lV_X1_244 C_X3_be dX1_toWait_18 eu18 (by decide) rfl (by omega) (Nat.le_of_ble_eq_true rfl) ?_
      refine cx_pop dX1_toWait_21 rfl ?_
      refine cx_iconst (v := 0) dX1_toWait_22 rfl ?_
      refine cx_istore_n dX1_toWait_23 (by decide) ?_
      obtain ⟨o28, eo28, hl⟩ := xb hl
      rcases o28 with e29 | e30
      · dsimp only at hl
        refine cx_lsK (k_X1_toWait_L24_ok (h := r17.2) (s := (0, r17.2)) eo28 ?_) ⟨rfl, rfl, rfl, rfl, trivial⟩
        refine cx_iconst (v := (-1)) dX1_toWait_58 rfl ?_
        cases hl
        exact cx_iret dX1_toWait_59 rfl rfl rfl rfl
      · dsimp only at hl
        refine cx_lsK (k_X1_toWait_L24_ok (h := r17.2) (s := (0, r17.2)) eo28 ?_) ⟨rfl, rfl, rfl, rfl, trivial⟩
        refine cx_iload_n dX1_toWait_42 rfl ?_
        cases hl
        exact cx_iret dX1_toWait_43 rfl rfl rfl rfl
    · dsimp only at hl
      cases hl
      exact cx_callVx (Or.inl ⟨by decide, _, _, rfl⟩) (T_X1_aHouse er8) lV_X1_173 C_X1_aHouse dX1_toWait_7 eu9 (by decide) rfl (by omega) (Nat.le_of_ble_eq_true rfl) (ct_out rfl rfl (by decide))
  · dsimp only at hl
    cases hl
    exact cx_callVx (Or.inl ⟨by decide, _, _, rfl⟩) (T_X1_aPerson er1) lV_X1_193 C_X1_aPerson dX1_toWait_2 eu2 (by decide) rfl (by omega) (Nat.le_of_ble_eq_true rfl) (ct_out rfl rfl (by decide))
def k_X1_round_L17 (n : Nat) (x0 : Nat) (x1 : Int32) (x2 : Int32) (x3 : Int32) (x4 : Int32) (h : XH) : Option ((Int32 × Int32 × Int32 × XH) ⊕ ((Int32 × Int32 × XH))) := (cgR h x0 0 1).bind fun v10 => (ckd h v10 1).bind fun u12 => (k_X2_people v10 h).bind fun r11 => if x4 ≥ r11 then some (.inr (x2, x3, h)) else (ckd h x0 0).bind fun u15 => (k_X1_tightOf x0 x4 h).bind fun r14 => if r14 = 0 then (some (x4 + 1)).bind fun w40 => some (.inl (x2, x3, w40, h)) else (cgR h x0 0 1).bind fun v17 => (cgR h v17 1 1).bind fun v18 => (cgR h x0 0 2).bind fun v19 => (cgR h v19 2 3).bind fun v20 => (caI h v20 100 x4).bind fun v21 => (ckd h v18 10).bind fun u23 => (k_J2_get v18 v21 h).bind fun r22 => (ckd h r22 11).bind fun u24 => (ckd h r22 11).bind fun u26 => (k_J14_intValue r22 h).bind fun r25 => (some (imin x2 r25)).bind fun w27 => (cgR h x0 0 1).bind fun v28 => (cgR h v28 1 1).bind fun v29 => (cgR h x0 0 2).bind fun v30 => (cgR h v30 2 3).bind fun v31 => (caI h v31 100 x4).bind fun v32 => (ckd h v29 10).bind fun u34 => (k_J2_get v29 v32 h).bind fun r33 => (ckd h r33 11).bind fun u35 => (ckd h r33 11).bind fun u37 => (k_J14_intValue r33 h).bind fun r36 => (some (imax x3 r36)).bind fun w38 => (some (x4 + 1)).bind fun w39 => some (.inl (w27, w38, w39, h))
abbrev K_X1_round_L17 (l : Launch) (E : XEnv) (hf : XH) (res : XO) (h : XH) (x0 : Nat) (x1 : Int32) (o : (Int32 × Int32 × XH)) : Prop := match o with
  | e => CX l E mX1_round 9 113 [(1, .int x1), (2, .int e.1), (3, .int e.2.1)] [] e.2.2 hf res
def k_X1_round (n : Nat) (x0 : Nat) (x1 : Int32) (h : XH) : Option ((Int32 ⊕ XX) × XH) := (k_X1_in x1 0 30 h).bind fun r1 => (k_X1_right r1 h).bind fun r3 => match r3 with | (.inl v5, h6) => ((xloop (fun s => k_X1_round_L17 n x0 x1 s.1 s.2.1 s.2.2.1 s.2.2.2) n (x1, x1, 0, h6)).bind fun o41 => some (.inl ((o41.2.1 - o41.1) + (imin (o41.2.1 - x1) (x1 - o41.1))), o41.2.2)) | (.inr e7, h6) => (some (.inr e7, h6))
set_option maxHeartbeats 4000000 in
theorem k_X1_round_L17_s {l : Launch} {E : XEnv} {hf : XH} {res : XO} {n : Nat} {x0 : Nat} {x1 : Int32} {x2 : Int32} {x3 : Int32} {x4 : Int32} {h : XH} {o : (Int32 × Int32 × Int32 × XH) ⊕ ((Int32 × Int32 × XH))} (hl : k_X1_round_L17 n x0 x1 x2 x3 x4 h = some o) (hK : (xk (fun s : Int32 × Int32 × Int32 × XH => CX l E mX1_round 9 17 [(0, .ref x0), (1, .int x1), (2, .int s.1), (3, .int s.2.1), (4, .int s.2.2.1)] [] s.2.2.2 hf res) (fun r => K_X1_round_L17 l E hf res h x0 x1 r) o)) : CX l E mX1_round 9 17 [(0, .ref x0), (1, .int x1), (2, .int x2), (3, .int x3), (4, .int x4)] [] h hf res := by
  unfold k_X1_round_L17 at hl
  refine cx_iload dX1_round_17 rfl ?_
  refine cx_aload_n dX1_round_19 rfl rfl ?_
  obtain ⟨v10, ev10, hl⟩ := xb hl
  refine cx_getR gF_X1_22 dX1_round_20 ev10 ?_
  obtain ⟨u12, eu12, hl⟩ := xb hl
  obtain ⟨r11, er11, hl⟩ := xb hl
  refine cx_callV (Or.inl ⟨by decide, _, _, rfl⟩) (T_X2_people er11) lV_X1_104 C_X2_people dX1_round_23 eu12 (by decide) rfl (by omega) (Nat.le_of_ble_eq_true rfl) ?_
  by_cases c13 : x4 ≥ r11
  · rw [if_pos c13] at hl
    refine cx_icmp_ge (X := True) (tgt := 113) dX1_round_26 (by decide) (fun _ => ?_) (fun z => absurd c13 z)
    cases hl
    exact cx_lsK hK ⟨rfl, rfl, rfl, trivial⟩
  · rw [if_neg c13] at hl
    refine cx_icmp_ge (X := True) (tgt := 113) dX1_round_26 (by decide) (fun z => absurd z c13) (fun _ => ?_)
    refine cx_aload_n dX1_round_29 rfl rfl ?_
    refine cx_iload dX1_round_30 rfl ?_
    obtain ⟨u15, eu15, hl⟩ := xb hl
    obtain ⟨r14, er14, hl⟩ := xb hl
    refine cx_callV (Or.inl ⟨by decide, _, _, rfl⟩) (T_X1_tightOf er14) lV_X1_107 C_X1_tightOf dX1_round_32 eu15 (by decide) rfl (by omega) (Nat.le_of_ble_eq_true rfl) ?_
    by_cases c16 : r14 = 0
    · rw [if_pos c16] at hl
      refine cx_if_ne (X := True) (tgt := 41) dX1_round_35 (by decide) (fun z => absurd c16 z) (fun _ => ?_)
      refine cx_goto (tgt := 107) dX1_round_38 (by decide) ?_
      obtain ⟨w40, ew40, hl⟩ := xb hl
      refine cx_iinc dX1_round_107 rfl (by decide) (Option.some.inj ew40) ?_
      refine cx_goto (tgt := 17) dX1_round_110 (by decide) ?_
      cases hl
      exact cx_lsK hK ⟨rfl, rfl, rfl, rfl, rfl, trivial⟩
    · rw [if_neg c16] at hl
      refine cx_if_ne (X := True) (tgt := 41) dX1_round_35 (by decide) (fun _ => ?_) (fun z => absurd z c16)
      refine cx_iload_n dX1_round_41 rfl ?_
      refine cx_aload_n dX1_round_42 rfl rfl ?_
      obtain ⟨v17, ev17, hl⟩ := xb hl
      refine cx_getR gF_X1_22 dX1_round_43 ev17 ?_
      obtain ⟨v18, ev18, hl⟩ := xb hl
      refine cx_getR gF_X1_145 dX1_round_46 ev18 ?_
      refine cx_aload_n dX1_round_49 rfl rfl ?_
      obtain ⟨v19, ev19, hl⟩ := xb hl
      refine cx_getR gF_X1_31 dX1_round_50 ev19 ?_
      obtain ⟨v20, ev20, hl⟩ := xb hl
      refine cx_getR gF_X1_97 dX1_round_53 ev20 ?_
      refine cx_iload dX1_round_56 rfl ?_
      obtain ⟨v21, ev21, hl⟩ := xb hl
      refine cx_iald dX1_round_58 ev21 ?_
      obtain ⟨u23, eu23, hl⟩ := xb hl
      obtain ⟨r22, er22, hl⟩ := xb hl
      refine cx_callF (ci := 10) (by decide) rfl (T_J2_get er22) lF_X1_148 C_J2_get dX1_round_59 eu23 rfl (by omega) (Nat.le_of_ble_eq_true rfl) ?_
      obtain ⟨u24, eu24, hl⟩ := xb hl
      refine cx_castO xC_X1_152_11 dX1_round_64 (by decide) eu24 ?_
      obtain ⟨u26, eu26, hl⟩ := xb hl
      obtain ⟨r25, er25, hl⟩ := xb hl
      refine cx_callV (Or.inl ⟨by decide, _, _, rfl⟩) (T_J14_intValue er25) lV_X1_154 C_J14_intValue dX1_round_67 eu26 (by decide) rfl (by omega) (Nat.le_of_ble_eq_true rfl) ?_
      refine cx_mmin q1239 dX1_round_70 (by omega) (Nat.le_of_ble_eq_true rfl) ?_
      obtain ⟨w27, ew27, hl⟩ := xb hl
      refine cx_top (Option.some.inj ew27) ?_
      refine cx_istore_n dX1_round_73 (by decide) ?_
      refine cx_iload_n dX1_round_74 rfl ?_
      refine cx_aload_n dX1_round_75 rfl rfl ?_
      obtain ⟨v28, ev28, hl⟩ := xb hl
      refine cx_getR gF_X1_22 dX1_round_76 ev28 ?_
      obtain ⟨v29, ev29, hl⟩ := xb hl
      refine cx_getR gF_X1_145 dX1_round_79 ev29 ?_
      refine cx_aload_n dX1_round_82 rfl rfl ?_
      obtain ⟨v30, ev30, hl⟩ := xb hl
      refine cx_getR gF_X1_31 dX1_round_83 ev30 ?_
      obtain ⟨v31, ev31, hl⟩ := xb hl
      refine cx_getR gF_X1_97 dX1_round_86 ev31 ?_
      refine cx_iload dX1_round_89 rfl ?_
      obtain ⟨v32, ev32, hl⟩ := xb hl
      refine cx_iald dX1_round_91 ev32 ?_
      obtain ⟨u34, eu34, hl⟩ := xb hl
      obtain ⟨r33, er33, hl⟩ := xb hl
      refine cx_callF (ci := 10) (by decide) rfl (T_J2_get er33) lF_X1_148 C_J2_get dX1_round_92 eu34 rfl (by omega) (Nat.le_of_ble_eq_true rfl) ?_
      obtain ⟨u35, eu35, hl⟩ := xb hl
      refine cx_castO xC_X1_152_11 dX1_round_97 (by decide) eu35 ?_
      obtain ⟨u37, eu37, hl⟩ := xb hl
      obtain ⟨r36, er36, hl⟩ := xb hl
      refine cx_callV (Or.inl ⟨by decide, _, _, rfl⟩) (T_J14_intValue er36) lV_X1_154 C_J14_intValue dX1_round_100 eu37 (by decide) rfl (by omega) (Nat.le_of_ble_eq_true rfl) ?_
      refine cx_mmax q1277 dX1_round_103 (by omega) (Nat.le_of_ble_eq_true rfl) ?_
      obtain ⟨w38, ew38, hl⟩ := xb hl
      refine cx_top (Option.some.inj ew38) ?_
      refine cx_istore_n dX1_round_106 (by decide) ?_
      obtain ⟨w39, ew39, hl⟩ := xb hl
      refine cx_iinc dX1_round_107 rfl (by decide) (Option.some.inj ew39) ?_
      refine cx_goto (tgt := 17) dX1_round_110 (by decide) ?_
      cases hl
      exact cx_lsK hK ⟨rfl, rfl, rfl, rfl, rfl, trivial⟩
set_option maxHeartbeats 4000000 in
theorem k_X1_round_L17_ok {l : Launch} {E : XEnv} {hf : XH} {res : XO} {n : Nat} {x0 : Nat} {x1 : Int32} {h : XH} {s : Int32 × Int32 × Int32 × XH} {o : (Int32 × Int32 × XH)} (hl : xloop (fun s => k_X1_round_L17 n x0 x1 s.1 s.2.1 s.2.2.1 s.2.2.2) n s = some o) (hK : K_X1_round_L17 l E hf res h x0 x1 o) : CX l E mX1_round 9 17 [(0, .ref x0), (1, .int x1), (2, .int s.1), (3, .int s.2.1), (4, .int s.2.2.1)] [] s.2.2.2 hf res :=
  xloop_of (fun s : Int32 × Int32 × Int32 × XH => CX l E mX1_round 9 17 [(0, .ref x0), (1, .int x1), (2, .int s.1), (3, .int s.2.1), (4, .int s.2.2.1)] [] s.2.2.2 hf res) (fun r => K_X1_round_L17 l E hf res h x0 x1 r) (fun s o hl hk => k_X1_round_L17_s (h := s.2.2.2) (o := o) hl hk) n s o hl hK
set_option maxHeartbeats 4000000 in
theorem T_X1_round {l : Launch} {E : XEnv}  {n : Nat} {x0 : Nat} {x1 : Int32} {h : XH} {r : (Int32 ⊕ XX) × XH} (hl : k_X1_round n x0 x1 h = some r) : CM l E mX1_round 9 [.ref x0, .int x1] h (xrI r.1) r.2 := by
  unfold k_X1_round at hl
  refine cm_of (by decide +kernel) rfl (Nat.le_of_ble_eq_true rfl) ?_
  refine cx_iload_n dX1_round_0 rfl ?_
  refine cx_iconst (v := 0) dX1_round_1 rfl ?_
  refine cx_bipush (v := 30) dX1_round_2 (by decide) ?_
  obtain ⟨r1, er1, hl⟩ := xb hl
  refine cx_callS (T_X1_in er1) lS_X1_139 C_X1_in dX1_round_4 rfl (by omega) (Nat.le_of_ble_eq_true rfl) ?_
  obtain ⟨r3, er3, hl⟩ := xb hl
  rcases r3 with ⟨v5 | ⟨C8, q9⟩, h6⟩
  · dsimp only at hl
    refine cx_callS (T_X1_right er3) lS_X1_62 C_X1_right dX1_round_7 rfl (by omega) (Nat.le_of_ble_eq_true rfl) ?_
    refine cx_iload_n dX1_round_10 rfl ?_
    refine cx_istore_n dX1_round_11 (by decide) ?_
    refine cx_iload_n dX1_round_12 rfl ?_
    refine cx_istore_n dX1_round_13 (by decide) ?_
    refine cx_iconst (v := 0) dX1_round_14 rfl ?_
    refine cx_istore dX1_round_15 (by decide) ?_
    obtain ⟨o41, eo41, hl⟩ := xb hl
    refine cx_lsK (k_X1_round_L17_ok (h := h6) (s := (x1, x1, 0, h6)) eo41 ?_) ⟨rfl, rfl, rfl, rfl, rfl, trivial⟩
    refine cx_iload_n dX1_round_113 rfl ?_
    refine cx_iload_n dX1_round_114 rfl ?_
    refine cx_isub dX1_round_115 ?_
    refine cx_iload_n dX1_round_116 rfl ?_
    refine cx_iload_n dX1_round_117 rfl ?_
    refine cx_isub dX1_round_118 ?_
    refine cx_iload_n dX1_round_119 rfl ?_
    refine cx_iload_n dX1_round_120 rfl ?_
    refine cx_isub dX1_round_121 ?_
    refine cx_mmin q1239 dX1_round_122 (by omega) (Nat.le_of_ble_eq_true rfl) ?_
    refine cx_iadd dX1_round_125 ?_
    cases hl
    exact cx_iret dX1_round_126 rfl rfl rfl rfl
  · dsimp only at hl
    cases hl
    exact cx_callSx (T_X1_right er3) lS_X1_62 C_X1_right dX1_round_7 rfl (by omega) (Nat.le_of_ble_eq_true rfl) (ct_out rfl rfl (by decide))
def k_X1_see (c : Nat → Value) (x0 : Nat) (x1 : Int32) (x2 : Int32) (x3 : Int32) (h : XH) : Option ((Int32 ⊕ XX) × XH) := (ckd h x0 0).bind fun u2 => (k_X1_aHouse x0 x1 h).bind fun r1 => match r1 with | (.inl v3, h4) => ((cgR h4 x0 0 9).bind fun v8 => (ckd h4 v8 10).bind fun u10 => (k_J2_size v8 h4).bind fun r9 => if r9 = 8 then (ckd h4 x0 0).bind fun u13 => (k_X1_refuse x0 2 h4).bind fun r12 => some (.inl r12.1, r12.2) else (k_X1_in x2 0 20 h4).bind fun r14 => if r14 = 0 then (ckd h4 x0 0).bind fun u18 => (k_X1_refuse x0 2 h4).bind fun r17 => some (.inl r17.1, r17.2) else (k_X1_in x3 0 99 h4).bind fun r19 => if r19 = 0 then (ckd h4 x0 0).bind fun u33 => (k_X1_refuse x0 2 h4).bind fun r32 => some (.inl r32.1, r32.2) else (cgR h4 x0 0 9).bind fun v22 => (cna h4 0 6 3).bind fun h23 => (csu h23 h4.2.2.1 100 0 (.int x1)).bind fun h24 => (csu h24 h4.2.2.1 100 1 (.int x2)).bind fun h25 => (csu h25 h4.2.2.1 100 2 (.int x3)).bind fun h26 => (ckd h26 v22 10).bind fun u28 => (k_J2_add c v22 h4.2.2.1 h26).bind fun r27 => (cgR r27.2 x0 0 9).bind fun v29 => (ckd r27.2 v29 10).bind fun u31 => (k_J2_size v29 r27.2).bind fun r30 => some (.inl r30, r27.2)) | (.inr e5, h4) => (some (.inr e5, h4))
set_option maxHeartbeats 4000000 in
theorem T_X1_see {l : Launch} {E : XEnv}  {x0 : Nat} {x1 : Int32} {x2 : Int32} {x3 : Int32} {h : XH} {r : (Int32 ⊕ XX) × XH} (hl : k_X1_see E.2.2.2 x0 x1 x2 x3 h = some r) : CM l E mX1_see 10 [.ref x0, .int x1, .int x2, .int x3] h (xrI r.1) r.2 := by
  unfold k_X1_see at hl
  refine cm_of (by decide +kernel) rfl (Nat.le_of_ble_eq_true rfl) ?_
  refine cx_aload_n dX1_see_0 rfl rfl ?_
  refine cx_iload_n dX1_see_1 rfl ?_
  obtain ⟨u2, eu2, hl⟩ := xb hl
  obtain ⟨r1, er1, hl⟩ := xb hl
  rcases r1 with ⟨v3 | ⟨C6, q7⟩, h4⟩
  · dsimp only at hl
    refine cx_callV (Or.inl ⟨by decide, _, _, rfl⟩) (T_X1_aHouse er1) lV_X1_173 C_X1_aHouse dX1_see_2 eu2 (by decide) rfl (by omega) (Nat.le_of_ble_eq_true rfl) ?_
    refine cx_aload_n dX1_see_5 rfl rfl ?_
    obtain ⟨v8, ev8, hl⟩ := xb hl
    refine cx_getR gF_X1_56 dX1_see_6 ev8 ?_
    obtain ⟨u10, eu10, hl⟩ := xb hl
    obtain ⟨r9, er9, hl⟩ := xb hl
    refine cx_callF (ci := 10) (by decide) rfl (T_J2_size er9) lF_X1_134 C_J2_size dX1_see_9 eu10 rfl (by omega) (Nat.le_of_ble_eq_true rfl) ?_
    refine cx_bipush (v := 8) dX1_see_14 (by decide) ?_
    by_cases c11 : r9 = 8
    · rw [if_pos c11] at hl
      refine cx_icmp_eq (X := True) (tgt := 39) dX1_see_16 (by decide) (fun _ => ?_) (fun z => absurd c11 z)
      refine cx_aload_n dX1_see_39 rfl rfl ?_
      refine cx_iconst (v := 2) dX1_see_40 rfl ?_
      obtain ⟨u13, eu13, hl⟩ := xb hl
      obtain ⟨r12, er12, hl⟩ := xb hl
      refine cx_callV (Or.inl ⟨by decide, _, _, rfl⟩) (T_X1_refuse er12) lV_X1_220 C_X1_refuse dX1_see_41 eu13 (by decide) rfl (by omega) (Nat.le_of_ble_eq_true rfl) ?_
      cases hl
      exact cx_iret dX1_see_44 rfl rfl rfl rfl
    · rw [if_neg c11] at hl
      refine cx_icmp_eq (X := True) (tgt := 39) dX1_see_16 (by decide) (fun z => absurd z c11) (fun _ => ?_)
      refine cx_iload_n dX1_see_19 rfl ?_
      refine cx_iconst (v := 0) dX1_see_20 rfl ?_
      refine cx_bipush (v := 20) dX1_see_21 (by decide) ?_
      obtain ⟨r14, er14, hl⟩ := xb hl
      refine cx_callS (T_X1_in er14) lS_X1_139 C_X1_in dX1_see_23 rfl (by omega) (Nat.le_of_ble_eq_true rfl) ?_
      by_cases c16 : r14 = 0
      · rw [if_pos c16] at hl
        refine cx_if_eq (X := True) (tgt := 39) dX1_see_26 (by decide) (fun _ => ?_) (fun z => absurd c16 z)
        refine cx_aload_n dX1_see_39 rfl rfl ?_
        refine cx_iconst (v := 2) dX1_see_40 rfl ?_
        obtain ⟨u18, eu18, hl⟩ := xb hl
        obtain ⟨r17, er17, hl⟩ := xb hl
        refine cx_callV (Or.inl ⟨by decide, _, _, rfl⟩) (T_X1_refuse er17) lV_X1_220 C_X1_refuse dX1_see_41 eu18 (by decide) rfl (by omega) (Nat.le_of_ble_eq_true rfl) ?_
        cases hl
        exact cx_iret dX1_see_44 rfl rfl rfl rfl
      · rw [if_neg c16] at hl
        refine cx_if_eq (X := True) (tgt := 39) dX1_see_26 (by decide) (fun z => absurd z c16) (fun _ => ?_)
        refine cx_iload_n dX1_see_29 rfl ?_
        refine cx_iconst (v := 0) dX1_see_30 rfl ?_
        refine cx_bipush (v := 99) dX1_see_31 (by decide) ?_
        obtain ⟨r19, er19, hl⟩ := xb hl
        refine cx_callS (T_X1_in er19) lS_X1_139 C_X1_in dX1_see_33 rfl (by omega) (Nat.le_of_ble_eq_true rfl) ?_
        by_cases c21 : r19 = 0
        · rw [if_pos c21] at hl
          refine cx_if_ne (X := True) (tgt := 45) dX1_see_36 (by decide) (fun z => absurd c21 z) (fun _ => ?_)
          refine cx_aload_n dX1_see_39 rfl rfl ?_
          refine cx_iconst (v := 2) dX1_see_40 rfl ?_
          obtain ⟨u33, eu33, hl⟩ := xb hl
          obtain ⟨r32, er32, hl⟩ := xb hl
          refine cx_callV (Or.inl ⟨by decide, _, _, rfl⟩) (T_X1_refuse er32) lV_X1_220 C_X1_refuse dX1_see_41 eu33 (by decide) rfl (by omega) (Nat.le_of_ble_eq_true rfl) ?_
          cases hl
          exact cx_iret dX1_see_44 rfl rfl rfl rfl
        · rw [if_neg c21] at hl
          refine cx_if_ne (X := True) (tgt := 45) dX1_see_36 (by decide) (fun _ => ?_) (fun z => absurd z c21)
          refine cx_aload_n dX1_see_45 rfl rfl ?_
          obtain ⟨v22, ev22, hl⟩ := xb hl
          refine cx_getR gF_X1_56 dX1_see_46 ev22 ?_
          refine cx_iconst (v := 3) dX1_see_49 rfl ?_
          obtain ⟨h23, eh23, hl⟩ := xb hl
          refine cx_newa 0 6 (by decide) q195 rfl dX1_see_50 eh23 ?_
          refine cx_dup dX1_see_52 rfl ?_
          refine cx_iconst (v := 0) dX1_see_53 rfl ?_
          refine cx_iload_n dX1_see_54 rfl ?_
          obtain ⟨h24, eh24, hl⟩ := xb hl
          refine cx_iast dX1_see_55 eh24 ?_
          refine cx_dup dX1_see_56 rfl ?_
          refine cx_iconst (v := 1) dX1_see_57 rfl ?_
          refine cx_iload_n dX1_see_58 rfl ?_
          obtain ⟨h25, eh25, hl⟩ := xb hl
          refine cx_iast dX1_see_59 eh25 ?_
          refine cx_dup dX1_see_60 rfl ?_
          refine cx_iconst (v := 2) dX1_see_61 rfl ?_
          refine cx_iload_n dX1_see_62 rfl ?_
          obtain ⟨h26, eh26, hl⟩ := xb hl
          refine cx_iast dX1_see_63 eh26 ?_
          obtain ⟨u28, eu28, hl⟩ := xb hl
          obtain ⟨r27, er27, hl⟩ := xb hl
          refine cx_callF (ci := 10) (by decide) rfl (T_J2_add er27) lF_X1_213 C_J2_add dX1_see_64 eu28 rfl (by omega) (Nat.le_of_ble_eq_true rfl) ?_
          refine cx_pop dX1_see_69 rfl ?_
          refine cx_aload_n dX1_see_70 rfl rfl ?_
          obtain ⟨v29, ev29, hl⟩ := xb hl
          refine cx_getR gF_X1_56 dX1_see_71 ev29 ?_
          obtain ⟨u31, eu31, hl⟩ := xb hl
          obtain ⟨r30, er30, hl⟩ := xb hl
          refine cx_callF (ci := 10) (by decide) rfl (T_J2_size er30) lF_X1_134 C_J2_size dX1_see_74 eu31 rfl (by omega) (Nat.le_of_ble_eq_true rfl) ?_
          cases hl
          exact cx_iret dX1_see_79 rfl rfl rfl rfl
  · dsimp only at hl
    cases hl
    exact cx_callVx (Or.inl ⟨by decide, _, _, rfl⟩) (T_X1_aHouse er1) lV_X1_173 C_X1_aHouse dX1_see_2 eu2 (by decide) rfl (by omega) (Nat.le_of_ble_eq_true rfl) (ct_out rfl rfl (by decide))
def k_X1_isSo_L4 (n : Nat) (g : Nat) (c : Nat → Value) (x0 : Nat) (x1 : Int32) (x2 : Int32) (h : XH) : Option ((Int32 × Int32 × XH) ⊕ ((Int32 × XH))) := (cgR h x0 0 9).bind fun v1 => (ckd h v1 10).bind fun u3 => (k_J2_size v1 h).bind fun r2 => if x2 ≥ r2 then some (.inr (x1, h)) else (cgR h x0 0 9).bind fun v5 => (ckd h v5 10).bind fun u7 => (k_J2_get v5 x2 h).bind fun r6 => (ckt h r6 100).bind fun u8 => (caI h r6 100 1).bind fun v9 => (some (imax x1 v9)).bind fun w10 => (some (x2 + 1)).bind fun w11 => some (.inl (w10, w11, h))
abbrev K_X1_isSo_L4 (l : Launch) (E : XEnv) (hf : XH) (res : XO) (g : Nat) (h : XH) (x0 : Nat) (o : (Int32 × XH)) : Prop := match o with
  | e => CX l E mX1_isSo (5 * g + 10) 43 [(0, .ref x0), (1, .int e.1)] [] e.2 hf res
def k_X1_isSo_L52 (n : Nat) (g : Nat) (c : Nat → Value) (x0 : Nat) (x1 : Int32) (x2 : Int32) (x3 : Int32) (h : XH) : Option ((Int32 × XH) ⊕ ((XH) ⊕ (XH))) := (cgR h x0 0 9).bind fun v14 => (ckd h v14 10).bind fun u16 => (k_J2_size v14 h).bind fun r15 => if x3 ≥ r15 then some (.inr (.inl h)) else (cgR h x0 0 9).bind fun v18 => (ckd h v18 10).bind fun u20 => (k_J2_get v18 x3 h).bind fun r19 => (ckt h r19 100).bind fun u21 => (caI h r19 100 1).bind fun v22 => if v22 = x2 then (cgR h x0 0 3).bind fun v25 => (cgR h v25 2 1).bind fun v26 => (caI h r19 100 0).bind fun v27 => (caI h v26 100 v27).bind fun v28 => (caI h r19 100 2).bind fun v29 => if v28 = v29 then (some (x3 + 1)).bind fun w31 => some (.inl (w31, h)) else some (.inr (.inr h)) else (some (x3 + 1)).bind fun w24 => some (.inl (w24, h))
abbrev K_X1_isSo_L52 (l : Launch) (E : XEnv) (hf : XH) (res : XO) (g : Nat) (h : XH) (x0 : Nat) (x1 : Int32) (x2 : Int32) (o : (XH) ⊕ (XH)) : Prop := match o with
  | .inl e => CX l E mX1_isSo (5 * g + 10) 115 [(0, .ref x0), (1, .int x1), (2, .int x2)] [] e hf res
  | .inr e => CX l E mX1_isSo (5 * g + 10) 107 [] [] e hf res
def k_X1_isSo_L45 (n : Nat) (g : Nat) (c : Nat → Value) (x0 : Nat) (x1 : Int32) (x2 : Int32) (h : XH) : Option ((Int32 × XH) ⊕ ((XH) ⊕ (XH))) := if x2 > x1 then some (.inr (.inl h)) else (xloop (fun s => k_X1_isSo_L52 n g c x0 x1 x2 s.1 s.2) n (0, h)).bind fun o32 => match o32 with | .inl e33 => ((cgR e33 x0 0 3).bind fun v35 => (ckd e33 v35 2).bind fun u37 => (k_X3_pass n g c v35 e33).bind fun r36 => (some (x2 + 1)).bind fun w38 => some (.inl (w38, r36.2))) | .inr e34 => (some (.inr (.inr e34)))
abbrev K_X1_isSo_L45 (l : Launch) (E : XEnv) (hf : XH) (res : XO) (g : Nat) (h : XH) (x0 : Nat) (x1 : Int32) (o : (XH) ⊕ (XH)) : Prop := match o with
  | .inl e => CX l E mX1_isSo (5 * g + 10) 129 [] [] e hf res
  | .inr e => CX l E mX1_isSo (5 * g + 10) 107 [] [] e hf res
def k_X1_isSo (n : Nat) (g : Nat) (c : Nat → Value) (x0 : Nat) (h : XH) : Option (Int32 × XH) := (xloop (fun s => k_X1_isSo_L4 n g c x0 s.1 s.2.1 s.2.2) n (0, 0, h)).bind fun o12 => (xloop (fun s => k_X1_isSo_L45 n g c x0 o12.1 s.1 s.2) n (0, o12.2)).bind fun o39 => match o39 with | .inl e40 => (some (1, e40)) | .inr e41 => (some (0, e41))
set_option maxHeartbeats 4000000 in
theorem k_X1_isSo_L4_s {l : Launch} {E : XEnv} {hf : XH} {res : XO} {n : Nat} {g : Nat} {x0 : Nat} {x1 : Int32} {x2 : Int32} {h : XH} {o : (Int32 × Int32 × XH) ⊕ ((Int32 × XH))} (hl : k_X1_isSo_L4 n g E.2.2.2 x0 x1 x2 h = some o) (hK : (xk (fun s : Int32 × Int32 × XH => CX l E mX1_isSo (5 * g + 10) 4 [(0, .ref x0), (1, .int s.1), (2, .int s.2.1)] [] s.2.2 hf res) (fun r => K_X1_isSo_L4 l E hf res g h x0 r) o)) : CX l E mX1_isSo (5 * g + 10) 4 [(0, .ref x0), (1, .int x1), (2, .int x2)] [] h hf res := by
  unfold k_X1_isSo_L4 at hl
  refine cx_iload_n dX1_isSo_4 rfl ?_
  refine cx_aload_n dX1_isSo_5 rfl rfl ?_
  obtain ⟨v1, ev1, hl⟩ := xb hl
  refine cx_getR gF_X1_56 dX1_isSo_6 ev1 ?_
  obtain ⟨u3, eu3, hl⟩ := xb hl
  obtain ⟨r2, er2, hl⟩ := xb hl
  refine cx_callF (ci := 10) (by decide) rfl (T_J2_size er2) lF_X1_134 C_J2_size dX1_isSo_9 eu3 rfl (by omega) (Nat.le_of_ble_eq_true rfl) ?_
  by_cases c4 : x2 ≥ r2
  · rw [if_pos c4] at hl
    refine cx_icmp_ge (X := True) (tgt := 43) dX1_isSo_14 (by decide) (fun _ => ?_) (fun z => absurd c4 z)
    cases hl
    exact cx_lsK hK ⟨rfl, rfl, trivial⟩
  · rw [if_neg c4] at hl
    refine cx_icmp_ge (X := True) (tgt := 43) dX1_isSo_14 (by decide) (fun z => absurd z c4) (fun _ => ?_)
    refine cx_iload_n dX1_isSo_17 rfl ?_
    refine cx_aload_n dX1_isSo_18 rfl rfl ?_
    obtain ⟨v5, ev5, hl⟩ := xb hl
    refine cx_getR gF_X1_56 dX1_isSo_19 ev5 ?_
    refine cx_iload_n dX1_isSo_22 rfl ?_
    obtain ⟨u7, eu7, hl⟩ := xb hl
    obtain ⟨r6, er6, hl⟩ := xb hl
    refine cx_callF (ci := 10) (by decide) rfl (T_J2_get er6) lF_X1_148 C_J2_get dX1_isSo_23 eu7 rfl (by omega) (Nat.le_of_ble_eq_true rfl) ?_
    obtain ⟨u8, eu8, hl⟩ := xb hl
    refine cx_castI q1476 dX1_isSo_28 eu8 ?_
    refine cx_iconst (v := 1) dX1_isSo_31 rfl ?_
    obtain ⟨v9, ev9, hl⟩ := xb hl
    refine cx_iald dX1_isSo_32 ev9 ?_
    refine cx_mmax q1277 dX1_isSo_33 (by omega) (Nat.le_of_ble_eq_true rfl) ?_
    obtain ⟨w10, ew10, hl⟩ := xb hl
    refine cx_top (Option.some.inj ew10) ?_
    refine cx_istore_n dX1_isSo_36 (by decide) ?_
    obtain ⟨w11, ew11, hl⟩ := xb hl
    refine cx_iinc dX1_isSo_37 rfl (by decide) (Option.some.inj ew11) ?_
    refine cx_goto (tgt := 4) dX1_isSo_40 (by decide) ?_
    cases hl
    exact cx_lsK hK ⟨rfl, rfl, rfl, trivial⟩
set_option maxHeartbeats 4000000 in
theorem k_X1_isSo_L4_ok {l : Launch} {E : XEnv} {hf : XH} {res : XO} {n : Nat} {g : Nat} {x0 : Nat} {h : XH} {s : Int32 × Int32 × XH} {o : (Int32 × XH)} (hl : xloop (fun s => k_X1_isSo_L4 n g E.2.2.2 x0 s.1 s.2.1 s.2.2) n s = some o) (hK : K_X1_isSo_L4 l E hf res g h x0 o) : CX l E mX1_isSo (5 * g + 10) 4 [(0, .ref x0), (1, .int s.1), (2, .int s.2.1)] [] s.2.2 hf res :=
  xloop_of (fun s : Int32 × Int32 × XH => CX l E mX1_isSo (5 * g + 10) 4 [(0, .ref x0), (1, .int s.1), (2, .int s.2.1)] [] s.2.2 hf res) (fun r => K_X1_isSo_L4 l E hf res g h x0 r) (fun s o hl hk => k_X1_isSo_L4_s (h := s.2.2) (o := o) hl hk) n s o hl hK
set_option maxHeartbeats 4000000 in
theorem k_X1_isSo_L52_s {l : Launch} {E : XEnv} {hf : XH} {res : XO} {n : Nat} {g : Nat} {x0 : Nat} {x1 : Int32} {x2 : Int32} {x3 : Int32} {h : XH} {o : (Int32 × XH) ⊕ ((XH) ⊕ (XH))} (hl : k_X1_isSo_L52 n g E.2.2.2 x0 x1 x2 x3 h = some o) (hK : (xk (fun s : Int32 × XH => CX l E mX1_isSo (5 * g + 10) 52 [(0, .ref x0), (1, .int x1), (2, .int x2), (3, .int s.1)] [] s.2 hf res) (fun r => K_X1_isSo_L52 l E hf res g h x0 x1 x2 r) o)) : CX l E mX1_isSo (5 * g + 10) 52 [(0, .ref x0), (1, .int x1), (2, .int x2), (3, .int x3)] [] h hf res := by
  unfold k_X1_isSo_L52 at hl
  refine cx_iload_n dX1_isSo_52 rfl ?_
  refine cx_aload_n dX1_isSo_53 rfl rfl ?_
  obtain ⟨v14, ev14, hl⟩ := xb hl
  refine cx_getR gF_X1_56 dX1_isSo_54 ev14 ?_
  obtain ⟨u16, eu16, hl⟩ := xb hl
  obtain ⟨r15, er15, hl⟩ := xb hl
  refine cx_callF (ci := 10) (by decide) rfl (T_J2_size er15) lF_X1_134 C_J2_size dX1_isSo_57 eu16 rfl (by omega) (Nat.le_of_ble_eq_true rfl) ?_
  by_cases c17 : x3 ≥ r15
  · rw [if_pos c17] at hl
    refine cx_icmp_ge (X := True) (tgt := 115) dX1_isSo_62 (by decide) (fun _ => ?_) (fun z => absurd c17 z)
    cases hl
    exact cx_lsK hK ⟨rfl, rfl, rfl, trivial⟩
  · rw [if_neg c17] at hl
    refine cx_icmp_ge (X := True) (tgt := 115) dX1_isSo_62 (by decide) (fun z => absurd z c17) (fun _ => ?_)
    refine cx_aload_n dX1_isSo_65 rfl rfl ?_
    obtain ⟨v18, ev18, hl⟩ := xb hl
    refine cx_getR gF_X1_56 dX1_isSo_66 ev18 ?_
    refine cx_iload_n dX1_isSo_69 rfl ?_
    obtain ⟨u20, eu20, hl⟩ := xb hl
    obtain ⟨r19, er19, hl⟩ := xb hl
    refine cx_callF (ci := 10) (by decide) rfl (T_J2_get er19) lF_X1_148 C_J2_get dX1_isSo_70 eu20 rfl (by omega) (Nat.le_of_ble_eq_true rfl) ?_
    obtain ⟨u21, eu21, hl⟩ := xb hl
    refine cx_castI q1476 dX1_isSo_75 eu21 ?_
    refine cx_astore dX1_isSo_78 (by decide) rfl ?_
    refine cx_aload dX1_isSo_80 rfl rfl ?_
    refine cx_iconst (v := 1) dX1_isSo_82 rfl ?_
    obtain ⟨v22, ev22, hl⟩ := xb hl
    refine cx_iald dX1_isSo_83 ev22 ?_
    refine cx_iload_n dX1_isSo_84 rfl ?_
    by_cases c23 : v22 = x2
    · rw [if_pos c23] at hl
      refine cx_icmp_ne (X := True) (tgt := 109) dX1_isSo_85 (by decide) (fun z => absurd c23 z) (fun _ => ?_)
      refine cx_aload_n dX1_isSo_88 rfl rfl ?_
      obtain ⟨v25, ev25, hl⟩ := xb hl
      refine cx_getR gF_X1_35 dX1_isSo_89 ev25 ?_
      obtain ⟨v26, ev26, hl⟩ := xb hl
      refine cx_getR gF_X1_180 dX1_isSo_92 ev26 ?_
      refine cx_aload dX1_isSo_95 rfl rfl ?_
      refine cx_iconst (v := 0) dX1_isSo_97 rfl ?_
      obtain ⟨v27, ev27, hl⟩ := xb hl
      refine cx_iald dX1_isSo_98 ev27 ?_
      obtain ⟨v28, ev28, hl⟩ := xb hl
      refine cx_iald dX1_isSo_99 ev28 ?_
      refine cx_aload dX1_isSo_100 rfl rfl ?_
      refine cx_iconst (v := 2) dX1_isSo_102 rfl ?_
      obtain ⟨v29, ev29, hl⟩ := xb hl
      refine cx_iald dX1_isSo_103 ev29 ?_
      by_cases c30 : v28 = v29
      · rw [if_pos c30] at hl
        refine cx_icmp_eq (X := True) (tgt := 109) dX1_isSo_104 (by decide) (fun _ => ?_) (fun z => absurd c30 z)
        obtain ⟨w31, ew31, hl⟩ := xb hl
        refine cx_iinc dX1_isSo_109 rfl (by decide) (Option.some.inj ew31) ?_
        refine cx_goto (tgt := 52) dX1_isSo_112 (by decide) ?_
        cases hl
        exact cx_lsK hK ⟨rfl, rfl, rfl, rfl, trivial⟩
      · rw [if_neg c30] at hl
        refine cx_icmp_eq (X := True) (tgt := 109) dX1_isSo_104 (by decide) (fun z => absurd z c30) (fun _ => ?_)
        cases hl
        exact cx_lsK hK trivial
    · rw [if_neg c23] at hl
      refine cx_icmp_ne (X := True) (tgt := 109) dX1_isSo_85 (by decide) (fun _ => ?_) (fun z => absurd z c23)
      obtain ⟨w24, ew24, hl⟩ := xb hl
      refine cx_iinc dX1_isSo_109 rfl (by decide) (Option.some.inj ew24) ?_
      refine cx_goto (tgt := 52) dX1_isSo_112 (by decide) ?_
      cases hl
      exact cx_lsK hK ⟨rfl, rfl, rfl, rfl, trivial⟩
set_option maxHeartbeats 4000000 in
theorem k_X1_isSo_L52_ok {l : Launch} {E : XEnv} {hf : XH} {res : XO} {n : Nat} {g : Nat} {x0 : Nat} {x1 : Int32} {x2 : Int32} {h : XH} {s : Int32 × XH} {o : (XH) ⊕ (XH)} (hl : xloop (fun s => k_X1_isSo_L52 n g E.2.2.2 x0 x1 x2 s.1 s.2) n s = some o) (hK : K_X1_isSo_L52 l E hf res g h x0 x1 x2 o) : CX l E mX1_isSo (5 * g + 10) 52 [(0, .ref x0), (1, .int x1), (2, .int x2), (3, .int s.1)] [] s.2 hf res :=
  xloop_of (fun s : Int32 × XH => CX l E mX1_isSo (5 * g + 10) 52 [(0, .ref x0), (1, .int x1), (2, .int x2), (3, .int s.1)] [] s.2 hf res) (fun r => K_X1_isSo_L52 l E hf res g h x0 x1 x2 r) (fun s o hl hk => k_X1_isSo_L52_s (h := s.2) (o := o) hl hk) n s o hl hK
set_option maxHeartbeats 4000000 in
theorem k_X1_isSo_L45_s {l : Launch} {E : XEnv} {hf : XH} {res : XO} {n : Nat} {g : Nat} {x0 : Nat} {x1 : Int32} {x2 : Int32} {h : XH} {o : (Int32 × XH) ⊕ ((XH) ⊕ (XH))} (hl : k_X1_isSo_L45 n g E.2.2.2 x0 x1 x2 h = some o) (hK : (xk (fun s : Int32 × XH => CX l E mX1_isSo (5 * g + 10) 45 [(0, .ref x0), (1, .int x1), (2, .int s.1)] [] s.2 hf res) (fun r => K_X1_isSo_L45 l E hf res g h x0 x1 r) o)) : CX l E mX1_isSo (5 * g + 10) 45 [(0, .ref x0), (1, .int x1), (2, .int x2)] [] h hf res := by
  unfold k_X1_isSo_L45 at hl
  refine cx_iload_n dX1_isSo_45 rfl ?_
  refine cx_iload_n dX1_isSo_46 rfl ?_
  by_cases c13 : x2 > x1
  · rw [if_pos c13] at hl
    refine cx_icmp_gt (X := True) (tgt := 129) dX1_isSo_47 (by decide) (fun _ => ?_) (fun z => absurd c13 z)
    cases hl
    exact cx_lsK hK trivial
  · rw [if_neg c13] at hl
    refine cx_icmp_gt (X := True) (tgt := 129) dX1_isSo_47 (by decide) (fun z => absurd z c13) (fun _ => ?_)
    refine cx_iconst (v := 0) dX1_isSo_50 rfl ?_
    refine cx_istore_n dX1_isSo_51 (by decide) ?_
    obtain ⟨o32, eo32, hl⟩ := xb hl
    rcases o32 with e33 | e34
    · dsimp only at hl
      refine cx_lsK (k_X1_isSo_L52_ok (h := h) (s := (0, h)) eo32 ?_) ⟨rfl, rfl, rfl, rfl, trivial⟩
      refine cx_aload_n dX1_isSo_115 rfl rfl ?_
      obtain ⟨v35, ev35, hl⟩ := xb hl
      refine cx_getR gF_X1_35 dX1_isSo_116 ev35 ?_
      obtain ⟨u37, eu37, hl⟩ := xb hl
      obtain ⟨r36, er36, hl⟩ := xb hl
      refine cx_callV (Or.inl ⟨by decide, _, _, rfl⟩) (T_X3_pass er36) lV_X1_251 C_X3_pass dX1_isSo_119 eu37 (by decide) rfl (by omega) (Nat.le_of_ble_eq_true rfl) ?_
      refine cx_pop dX1_isSo_122 rfl ?_
      obtain ⟨w38, ew38, hl⟩ := xb hl
      refine cx_iinc dX1_isSo_123 rfl (by decide) (Option.some.inj ew38) ?_
      refine cx_goto (tgt := 45) dX1_isSo_126 (by decide) ?_
      cases hl
      exact cx_lsK hK ⟨rfl, rfl, rfl, trivial⟩
    · dsimp only at hl
      refine cx_lsK (k_X1_isSo_L52_ok (h := h) (s := (0, h)) eo32 ?_) ⟨rfl, rfl, rfl, rfl, trivial⟩
      cases hl
      exact cx_lsK hK trivial
set_option maxHeartbeats 4000000 in
theorem k_X1_isSo_L45_ok {l : Launch} {E : XEnv} {hf : XH} {res : XO} {n : Nat} {g : Nat} {x0 : Nat} {x1 : Int32} {h : XH} {s : Int32 × XH} {o : (XH) ⊕ (XH)} (hl : xloop (fun s => k_X1_isSo_L45 n g E.2.2.2 x0 x1 s.1 s.2) n s = some o) (hK : K_X1_isSo_L45 l E hf res g h x0 x1 o) : CX l E mX1_isSo (5 * g + 10) 45 [(0, .ref x0), (1, .int x1), (2, .int s.1)] [] s.2 hf res :=
  xloop_of (fun s : Int32 × XH => CX l E mX1_isSo (5 * g + 10) 45 [(0, .ref x0), (1, .int x1), (2, .int s.1)] [] s.2 hf res) (fun r => K_X1_isSo_L45 l E hf res g h x0 x1 r) (fun s o hl hk => k_X1_isSo_L45_s (h := s.2) (o := o) hl hk) n s o hl hK
set_option maxHeartbeats 4000000 in
theorem T_X1_isSo {l : Launch} {E : XEnv}  {n : Nat} {g : Nat} {x0 : Nat} {h : XH} {r : Int32 × XH} (hl : k_X1_isSo n g E.2.2.2 x0 h = some r) : CM l E mX1_isSo (5 * g + 10) [.ref x0] h (.inl (some (.int r.1))) r.2 := by
  unfold k_X1_isSo at hl
  refine cm_of (by decide +kernel) rfl (Nat.le_of_ble_eq_true rfl) ?_
  refine cx_iconst (v := 0) dX1_isSo_0 rfl ?_
  refine cx_istore_n dX1_isSo_1 (by decide) ?_
  refine cx_iconst (v := 0) dX1_isSo_2 rfl ?_
  refine cx_istore_n dX1_isSo_3 (by decide) ?_
  obtain ⟨o12, eo12, hl⟩ := xb hl
  refine cx_lsK (k_X1_isSo_L4_ok (h := h) (s := (0, 0, h)) eo12 ?_) ⟨rfl, rfl, rfl, trivial⟩
  refine cx_iconst (v := 0) dX1_isSo_43 rfl ?_
  refine cx_istore_n dX1_isSo_44 (by decide) ?_
  obtain ⟨o39, eo39, hl⟩ := xb hl
  rcases o39 with e40 | e41
  · dsimp only at hl
    refine cx_lsK (k_X1_isSo_L45_ok (h := o12.2) (s := (0, o12.2)) eo39 ?_) ⟨rfl, rfl, rfl, trivial⟩
    refine cx_iconst (v := 1) dX1_isSo_129 rfl ?_
    cases hl
    exact cx_iret dX1_isSo_130 rfl rfl rfl rfl
  · dsimp only at hl
    refine cx_lsK (k_X1_isSo_L45_ok (h := o12.2) (s := (0, o12.2)) eo39 ?_) ⟨rfl, rfl, rfl, trivial⟩
    refine cx_iconst (v := 0) dX1_isSo_107 rfl ?_
    cases hl
    exact cx_iret dX1_isSo_108 rfl rfl rfl rfl
def k_X1_others_L23 (n : Nat) (g : Nat) (c : Nat → Value) (x0 : Nat) (x1 : Nat) (x2 : Int32) (x3 : Int32) (h : XH) : Option ((Int32 × XH) ⊕ ((XH))) := if x3 > 60 then some (.inr h) else (cgR h x0 0 2).bind fun v9 => (cgR h v9 2 2).bind fun v10 => (caI h v10 100 x2).bind fun v11 => if x3 = v11 then (some (x3 + 1)).bind fun w28 => some (.inl (w28, h)) else (cgR h x0 0 3).bind fun v13 => (cgR h x0 0 2).bind fun v14 => (ckd h v13 2).bind fun u16 => (k_X3_be n v13 v14 h).bind fun r15 => (cgR r15.2 r15.1 2 2).bind fun v17 => (csu r15.2 v17 100 x2 (.int x3)).bind fun h18 => (ckd h18 x0 0).bind fun u20 => (k_X1_isSo n g c x0 h18).bind fun r19 => if r19.1 = 0 then (some (x3 + 1)).bind fun w22 => some (.inl (w22, r19.2)) else (k_J14_valueOf c (((100 : Int32) * x2) + x3) r19.2).bind fun r23 => (ckd r23.2 x1 10).bind fun u26 => (k_J2_add c x1 r23.1 r23.2).bind fun r25 => (some (x3 + 1)).bind fun w27 => some (.inl (w27, r25.2))
abbrev K_X1_others_L23 (l : Launch) (E : XEnv) (hf : XH) (res : XO) (g : Nat) (h : XH) (x0 : Nat) (x1 : Nat) (x2 : Int32) (o : (XH)) : Prop := match o with
  | e => CX l E mX1_others (5 * g + 11) 91 [(0, .ref x0), (1, .ref x1), (2, .int x2)] [] e hf res
def k_X1_others_L10 (n : Nat) (g : Nat) (c : Nat → Value) (x0 : Nat) (x1 : Nat) (x2 : Int32) (h : XH) : Option ((Int32 × XH) ⊕ ((XH))) := (cgR h x0 0 1).bind fun v4 => (ckd h v4 1).bind fun u6 => (k_X2_people v4 h).bind fun r5 => if x2 ≥ r5 then some (.inr h) else (xloop (fun s => k_X1_others_L23 n g c x0 x1 x2 s.1 s.2) n (1, h)).bind fun o29 => (some (x2 + 1)).bind fun w30 => some (.inl (w30, o29))
abbrev K_X1_others_L10 (l : Launch) (E : XEnv) (hf : XH) (res : XO) (g : Nat) (h : XH) (x0 : Nat) (x1 : Nat) (o : (XH)) : Prop := match o with
  | e => CX l E mX1_others (5 * g + 11) 97 [(1, .ref x1)] [] e hf res
def k_X1_others (n : Nat) (g : Nat) (c : Nat → Value) (x0 : Nat) (h : XH) : Option (Nat × XH) := (some (xnew h 10 3 1 3 (fun j => defaultValue (tyJ2 j)))).bind fun h1 => (k_J2_init c h.2.2.1 h1).bind fun r2 => (xloop (fun s => k_X1_others_L10 n g c x0 h.2.2.1 s.1 s.2) n (0, r2)).bind fun o31 => some (h.2.2.1, o31)
set_option maxHeartbeats 4000000 in
theorem k_X1_others_L23_s {l : Launch} {E : XEnv} {hf : XH} {res : XO} {n : Nat} {g : Nat} {x0 : Nat} {x1 : Nat} {x2 : Int32} {x3 : Int32} {h : XH} {o : (Int32 × XH) ⊕ ((XH))} (hl : k_X1_others_L23 n g E.2.2.2 x0 x1 x2 x3 h = some o) (hK : (xk (fun s : Int32 × XH => CX l E mX1_others (5 * g + 11) 23 [(0, .ref x0), (1, .ref x1), (2, .int x2), (3, .int s.1)] [] s.2 hf res) (fun r => K_X1_others_L23 l E hf res g h x0 x1 x2 r) o)) : CX l E mX1_others (5 * g + 11) 23 [(0, .ref x0), (1, .ref x1), (2, .int x2), (3, .int x3)] [] h hf res := by
  unfold k_X1_others_L23 at hl
  refine cx_iload_n dX1_others_23 rfl ?_
  refine cx_bipush (v := 60) dX1_others_24 (by decide) ?_
  by_cases c8 : x3 > 60
  · rw [if_pos c8] at hl
    refine cx_icmp_gt (X := True) (tgt := 91) dX1_others_26 (by decide) (fun _ => ?_) (fun z => absurd c8 z)
    cases hl
    exact cx_lsK hK ⟨rfl, rfl, rfl, trivial⟩
  · rw [if_neg c8] at hl
    refine cx_icmp_gt (X := True) (tgt := 91) dX1_others_26 (by decide) (fun z => absurd z c8) (fun _ => ?_)
    refine cx_iload_n dX1_others_29 rfl ?_
    refine cx_aload_n dX1_others_30 rfl rfl ?_
    obtain ⟨v9, ev9, hl⟩ := xb hl
    refine cx_getR gF_X1_31 dX1_others_31 ev9 ?_
    obtain ⟨v10, ev10, hl⟩ := xb hl
    refine cx_getR gF_X1_167 dX1_others_34 ev10 ?_
    refine cx_iload_n dX1_others_37 rfl ?_
    obtain ⟨v11, ev11, hl⟩ := xb hl
    refine cx_iald dX1_others_38 ev11 ?_
    by_cases c12 : x3 = v11
    · rw [if_pos c12] at hl
      refine cx_icmp_ne (X := True) (tgt := 45) dX1_others_39 (by decide) (fun z => absurd c12 z) (fun _ => ?_)
      refine cx_goto (tgt := 85) dX1_others_42 (by decide) ?_
      obtain ⟨w28, ew28, hl⟩ := xb hl
      refine cx_iinc dX1_others_85 rfl (by decide) (Option.some.inj ew28) ?_
      refine cx_goto (tgt := 23) dX1_others_88 (by decide) ?_
      cases hl
      exact cx_lsK hK ⟨rfl, rfl, rfl, rfl, trivial⟩
    · rw [if_neg c12] at hl
      refine cx_icmp_ne (X := True) (tgt := 45) dX1_others_39 (by decide) (fun _ => ?_) (fun z => absurd z c12)
      refine cx_aload_n dX1_others_45 rfl rfl ?_
      obtain ⟨v13, ev13, hl⟩ := xb hl
      refine cx_getR gF_X1_35 dX1_others_46 ev13 ?_
      refine cx_aload_n dX1_others_49 rfl rfl ?_
      obtain ⟨v14, ev14, hl⟩ := xb hl
      refine cx_getR gF_X1_31 dX1_others_50 ev14 ?_
      obtain ⟨u16, eu16, hl⟩ := xb hl
      obtain ⟨r15, er15, hl⟩ := xb hl
      refine cx_callV (Or.inl ⟨by decide, _, _, rfl⟩) (T_X3_be er15) lV_X1_244 C_X3_be dX1_others_53 eu16 (by decide) rfl (by omega) (Nat.le_of_ble_eq_true rfl) ?_
      obtain ⟨v17, ev17, hl⟩ := xb hl
      refine cx_getR gF_X1_167 dX1_others_56 ev17 ?_
      refine cx_iload_n dX1_others_59 rfl ?_
      refine cx_iload_n dX1_others_60 rfl ?_
      obtain ⟨h18, eh18, hl⟩ := xb hl
      refine cx_iast dX1_others_61 eh18 ?_
      refine cx_aload_n dX1_others_62 rfl rfl ?_
      obtain ⟨u20, eu20, hl⟩ := xb hl
      obtain ⟨r19, er19, hl⟩ := xb hl
      refine cx_callV (Or.inl ⟨by decide, _, _, rfl⟩) (T_X1_isSo er19) lV_X1_284 C_X1_isSo dX1_others_63 eu20 (by decide) rfl (by omega) (Nat.le_of_ble_eq_true rfl) ?_
      by_cases c21 : r19.1 = 0
      · rw [if_pos c21] at hl
        refine cx_if_eq (X := True) (tgt := 85) dX1_others_66 (by decide) (fun _ => ?_) (fun z => absurd c21 z)
        obtain ⟨w22, ew22, hl⟩ := xb hl
        refine cx_iinc dX1_others_85 rfl (by decide) (Option.some.inj ew22) ?_
        refine cx_goto (tgt := 23) dX1_others_88 (by decide) ?_
        cases hl
        exact cx_lsK hK ⟨rfl, rfl, rfl, rfl, trivial⟩
      · rw [if_neg c21] at hl
        refine cx_if_eq (X := True) (tgt := 85) dX1_others_66 (by decide) (fun z => absurd z c21) (fun _ => ?_)
        refine cx_aload_n dX1_others_69 rfl rfl ?_
        refine cx_bipush (v := 100) dX1_others_70 (by decide) ?_
        refine cx_iload_n dX1_others_72 rfl ?_
        refine cx_imul dX1_others_73 ?_
        refine cx_iload_n dX1_others_74 rfl ?_
        refine cx_iadd dX1_others_75 ?_
        obtain ⟨r23, er23, hl⟩ := xb hl
        refine cx_callS (T_J14_valueOf er23) lS_X1_287 C_J14_valueOf dX1_others_76 rfl (by omega) (Nat.le_of_ble_eq_true rfl) ?_
        obtain ⟨u26, eu26, hl⟩ := xb hl
        obtain ⟨r25, er25, hl⟩ := xb hl
        refine cx_callF (ci := 10) (by decide) rfl (T_J2_add er25) lF_X1_213 C_J2_add dX1_others_79 eu26 rfl (by omega) (Nat.le_of_ble_eq_true rfl) ?_
        refine cx_pop dX1_others_84 rfl ?_
        obtain ⟨w27, ew27, hl⟩ := xb hl
        refine cx_iinc dX1_others_85 rfl (by decide) (Option.some.inj ew27) ?_
        refine cx_goto (tgt := 23) dX1_others_88 (by decide) ?_
        cases hl
        exact cx_lsK hK ⟨rfl, rfl, rfl, rfl, trivial⟩
set_option maxHeartbeats 4000000 in
theorem k_X1_others_L23_ok {l : Launch} {E : XEnv} {hf : XH} {res : XO} {n : Nat} {g : Nat} {x0 : Nat} {x1 : Nat} {x2 : Int32} {h : XH} {s : Int32 × XH} {o : (XH)} (hl : xloop (fun s => k_X1_others_L23 n g E.2.2.2 x0 x1 x2 s.1 s.2) n s = some o) (hK : K_X1_others_L23 l E hf res g h x0 x1 x2 o) : CX l E mX1_others (5 * g + 11) 23 [(0, .ref x0), (1, .ref x1), (2, .int x2), (3, .int s.1)] [] s.2 hf res :=
  xloop_of (fun s : Int32 × XH => CX l E mX1_others (5 * g + 11) 23 [(0, .ref x0), (1, .ref x1), (2, .int x2), (3, .int s.1)] [] s.2 hf res) (fun r => K_X1_others_L23 l E hf res g h x0 x1 x2 r) (fun s o hl hk => k_X1_others_L23_s (h := s.2) (o := o) hl hk) n s o hl hK
set_option maxHeartbeats 4000000 in
theorem k_X1_others_L10_s {l : Launch} {E : XEnv} {hf : XH} {res : XO} {n : Nat} {g : Nat} {x0 : Nat} {x1 : Nat} {x2 : Int32} {h : XH} {o : (Int32 × XH) ⊕ ((XH))} (hl : k_X1_others_L10 n g E.2.2.2 x0 x1 x2 h = some o) (hK : (xk (fun s : Int32 × XH => CX l E mX1_others (5 * g + 11) 10 [(0, .ref x0), (1, .ref x1), (2, .int s.1)] [] s.2 hf res) (fun r => K_X1_others_L10 l E hf res g h x0 x1 r) o)) : CX l E mX1_others (5 * g + 11) 10 [(0, .ref x0), (1, .ref x1), (2, .int x2)] [] h hf res := by
  unfold k_X1_others_L10 at hl
  refine cx_iload_n dX1_others_10 rfl ?_
  refine cx_aload_n dX1_others_11 rfl rfl ?_
  obtain ⟨v4, ev4, hl⟩ := xb hl
  refine cx_getR gF_X1_22 dX1_others_12 ev4 ?_
  obtain ⟨u6, eu6, hl⟩ := xb hl
  obtain ⟨r5, er5, hl⟩ := xb hl
  refine cx_callV (Or.inl ⟨by decide, _, _, rfl⟩) (T_X2_people er5) lV_X1_104 C_X2_people dX1_others_15 eu6 (by decide) rfl (by omega) (Nat.le_of_ble_eq_true rfl) ?_
  by_cases c7 : x2 ≥ r5
  · rw [if_pos c7] at hl
    refine cx_icmp_ge (X := True) (tgt := 97) dX1_others_18 (by decide) (fun _ => ?_) (fun z => absurd c7 z)
    cases hl
    exact cx_lsK hK ⟨rfl, trivial⟩
  · rw [if_neg c7] at hl
    refine cx_icmp_ge (X := True) (tgt := 97) dX1_others_18 (by decide) (fun z => absurd z c7) (fun _ => ?_)
    refine cx_iconst (v := 1) dX1_others_21 rfl ?_
    refine cx_istore_n dX1_others_22 (by decide) ?_
    obtain ⟨o29, eo29, hl⟩ := xb hl
    refine cx_lsK (k_X1_others_L23_ok (h := h) (s := (1, h)) eo29 ?_) ⟨rfl, rfl, rfl, rfl, trivial⟩
    obtain ⟨w30, ew30, hl⟩ := xb hl
    refine cx_iinc dX1_others_91 rfl (by decide) (Option.some.inj ew30) ?_
    refine cx_goto (tgt := 10) dX1_others_94 (by decide) ?_
    cases hl
    exact cx_lsK hK ⟨rfl, rfl, rfl, trivial⟩
set_option maxHeartbeats 4000000 in
theorem k_X1_others_L10_ok {l : Launch} {E : XEnv} {hf : XH} {res : XO} {n : Nat} {g : Nat} {x0 : Nat} {x1 : Nat} {h : XH} {s : Int32 × XH} {o : (XH)} (hl : xloop (fun s => k_X1_others_L10 n g E.2.2.2 x0 x1 s.1 s.2) n s = some o) (hK : K_X1_others_L10 l E hf res g h x0 x1 o) : CX l E mX1_others (5 * g + 11) 10 [(0, .ref x0), (1, .ref x1), (2, .int s.1)] [] s.2 hf res :=
  xloop_of (fun s : Int32 × XH => CX l E mX1_others (5 * g + 11) 10 [(0, .ref x0), (1, .ref x1), (2, .int s.1)] [] s.2 hf res) (fun r => K_X1_others_L10 l E hf res g h x0 x1 r) (fun s o hl hk => k_X1_others_L10_s (h := s.2) (o := o) hl hk) n s o hl hK
set_option maxHeartbeats 4000000 in
theorem T_X1_others {l : Launch} {E : XEnv}  {n : Nat} {g : Nat} {x0 : Nat} {h : XH} {r : Nat × XH} (hl : k_X1_others n g E.2.2.2 x0 h = some r) : CM l E mX1_others (5 * g + 11) [.ref x0] h (.inl (some (.ref r.1))) r.2 := by
  unfold k_X1_others at hl
  refine cm_of (by decide +kernel) rfl (Nat.le_of_ble_eq_true rfl) ?_
  obtain ⟨h1, eh1, hl⟩ := xb hl
  refine cx_new 1 nW_X1_49 dX1_others_0 (Option.some.inj eh1) ?_
  refine cx_dup dX1_others_3 rfl ?_
  obtain ⟨r2, er2, hl⟩ := xb hl
  refine cx_callI (T_J2_init er2) lI_X1_51 rfl C_J2_init dX1_others_4 rfl (by omega) (Nat.le_of_ble_eq_true rfl) ?_
  refine cx_astore_n dX1_others_7 (by decide) rfl ?_
  refine cx_iconst (v := 0) dX1_others_8 rfl ?_
  refine cx_istore_n dX1_others_9 (by decide) ?_
  obtain ⟨o31, eo31, hl⟩ := xb hl
  refine cx_lsK (k_X1_others_L10_ok (h := r2) (s := (0, r2)) eo31 ?_) ⟨rfl, rfl, rfl, trivial⟩
  refine cx_aload_n dX1_others_97 rfl rfl ?_
  cases hl
  exact cx_aret dX1_others_98 rfl rfl (Or.inl ⟨_, rfl⟩) rfl rfl
def k_X1_large (n : Nat) (g : Nat) (c : Nat → Value) (x0 : Nat) (x1 : Int32) (h : XH) : Option ((Int32 ⊕ XX) × XH) := (k_X1_oneOf x1 2 h).bind fun r1 => match r1 with | (.inl v3, h4) => (if x1 = 2 then (cgR h4 x0 0 3).bind fun v22 => (cgR h4 x0 0 2).bind fun v23 => (ckd h4 v22 2).bind fun u25 => (k_X3_be n v22 v23 h4).bind fun r24 => (ckd r24.2 x0 0).bind fun u27 => (k_X1_isSo n g c x0 r24.2).bind fun r26 => if r26.1 = 0 then some (.inl 0, r26.2) else some (.inl 1, r26.2) else (ckd h4 x0 0).bind fun u10 => (k_X1_others n g c x0 h4).bind fun r9 => if x1 = 0 then (ckd r9.2 r9.1 10).bind fun u21 => (k_J2_size r9.1 r9.2).bind fun r20 => some (.inl r20, r9.2) else (ckd r9.2 r9.1 10).bind fun u13 => (k_J2_isEmpty r9.1 r9.2).bind fun r12 => if r12 = 0 then (ckd r9.2 r9.1 10).bind fun u16 => (k_J2_get r9.1 0 r9.2).bind fun r15 => (ckd r9.2 r15 11).bind fun u17 => (ckd r9.2 r15 11).bind fun u19 => (k_J14_intValue r15 r9.2).bind fun r18 => some (.inl r18, r9.2) else some (.inl (-1), r9.2)) | (.inr e5, h4) => (some (.inr e5, h4))
set_option maxHeartbeats 4000000 in
theorem T_X1_large {l : Launch} {E : XEnv}  {n : Nat} {g : Nat} {x0 : Nat} {x1 : Int32} {h : XH} {r : (Int32 ⊕ XX) × XH} (hl : k_X1_large n g E.2.2.2 x0 x1 h = some r) : CM l E mX1_large (5 * g + 12) [.ref x0, .int x1] h (xrI r.1) r.2 := by
  unfold k_X1_large at hl
  refine cm_of (by decide +kernel) rfl (Nat.le_of_ble_eq_true rfl) ?_
  refine cx_iload_n dX1_large_0 rfl ?_
  refine cx_iconst (v := 2) dX1_large_1 rfl ?_
  obtain ⟨r1, er1, hl⟩ := xb hl
  rcases r1 with ⟨v3 | ⟨C6, q7⟩, h4⟩
  · dsimp only at hl
    refine cx_callS (T_X1_oneOf er1) lS_X1_196 C_X1_oneOf dX1_large_2 rfl (by omega) (Nat.le_of_ble_eq_true rfl) ?_
    refine cx_iload_n dX1_large_5 rfl ?_
    refine cx_iconst (v := 2) dX1_large_6 rfl ?_
    by_cases c8 : x1 = 2
    · rw [if_pos c8] at hl
      refine cx_icmp_ne (X := True) (tgt := 35) dX1_large_7 (by decide) (fun z => absurd c8 z) (fun _ => ?_)
      refine cx_aload_n dX1_large_10 rfl rfl ?_
      obtain ⟨v22, ev22, hl⟩ := xb hl
      refine cx_getR gF_X1_35 dX1_large_11 ev22 ?_
      refine cx_aload_n dX1_large_14 rfl rfl ?_
      obtain ⟨v23, ev23, hl⟩ := xb hl
      refine cx_getR gF_X1_31 dX1_large_15 ev23 ?_
      obtain ⟨u25, eu25, hl⟩ := xb hl
      obtain ⟨r24, er24, hl⟩ := xb hl
      refine cx_callV (Or.inl ⟨by decide, _, _, rfl⟩) (T_X3_be er24) lV_X1_244 C_X3_be dX1_large_18 eu25 (by decide) rfl (by omega) (Nat.le_of_ble_eq_true rfl) ?_
      refine cx_pop dX1_large_21 rfl ?_
      refine cx_aload_n dX1_large_22 rfl rfl ?_
      obtain ⟨u27, eu27, hl⟩ := xb hl
      obtain ⟨r26, er26, hl⟩ := xb hl
      refine cx_callV (Or.inl ⟨by decide, _, _, rfl⟩) (T_X1_isSo er26) lV_X1_284 C_X1_isSo dX1_large_23 eu27 (by decide) rfl (by omega) (Nat.le_of_ble_eq_true rfl) ?_
      by_cases c28 : r26.1 = 0
      · rw [if_pos c28] at hl
        refine cx_if_eq (X := True) (tgt := 33) dX1_large_26 (by decide) (fun _ => ?_) (fun z => absurd c28 z)
        refine cx_iconst (v := 0) dX1_large_33 rfl ?_
        cases hl
        exact cx_iret dX1_large_34 rfl rfl rfl rfl
      · rw [if_neg c28] at hl
        refine cx_if_eq (X := True) (tgt := 33) dX1_large_26 (by decide) (fun z => absurd z c28) (fun _ => ?_)
        refine cx_iconst (v := 1) dX1_large_29 rfl ?_
        refine cx_goto (tgt := 34) dX1_large_30 (by decide) ?_
        cases hl
        exact cx_iret dX1_large_34 rfl rfl rfl rfl
    · rw [if_neg c8] at hl
      refine cx_icmp_ne (X := True) (tgt := 35) dX1_large_7 (by decide) (fun _ => ?_) (fun z => absurd z c8)
      refine cx_aload_n dX1_large_35 rfl rfl ?_
      obtain ⟨u10, eu10, hl⟩ := xb hl
      obtain ⟨r9, er9, hl⟩ := xb hl
      refine cx_callV (Or.inl ⟨by decide, _, _, rfl⟩) (T_X1_others er9) lV_X1_291 C_X1_others dX1_large_36 eu10 (by decide) rfl (by omega) (Nat.le_of_ble_eq_true rfl) ?_
      refine cx_astore_n dX1_large_39 (by decide) rfl ?_
      refine cx_iload_n dX1_large_40 rfl ?_
      by_cases c11 : x1 = 0
      · rw [if_pos c11] at hl
        refine cx_if_ne (X := True) (tgt := 53) dX1_large_41 (by decide) (fun z => absurd c11 z) (fun _ => ?_)
        refine cx_aload_n dX1_large_44 rfl rfl ?_
        obtain ⟨u21, eu21, hl⟩ := xb hl
        obtain ⟨r20, er20, hl⟩ := xb hl
        refine cx_callF (ci := 10) (by decide) rfl (T_J2_size er20) lF_X1_134 C_J2_size dX1_large_45 eu21 rfl (by omega) (Nat.le_of_ble_eq_true rfl) ?_
        refine cx_goto (tgt := 79) dX1_large_50 (by decide) ?_
        cases hl
        exact cx_iret dX1_large_79 rfl rfl rfl rfl
      · rw [if_neg c11] at hl
        refine cx_if_ne (X := True) (tgt := 53) dX1_large_41 (by decide) (fun _ => ?_) (fun z => absurd z c11)
        refine cx_aload_n dX1_large_53 rfl rfl ?_
        obtain ⟨u13, eu13, hl⟩ := xb hl
        obtain ⟨r12, er12, hl⟩ := xb hl
        refine cx_callF (ci := 10) (by decide) rfl (T_J2_isEmpty er12) lF_X1_240 C_J2_isEmpty dX1_large_54 eu13 rfl (by omega) (Nat.le_of_ble_eq_true rfl) ?_
        by_cases c14 : r12 = 0
        · rw [if_pos c14] at hl
          refine cx_if_eq (X := True) (tgt := 66) dX1_large_59 (by decide) (fun _ => ?_) (fun z => absurd c14 z)
          refine cx_aload_n dX1_large_66 rfl rfl ?_
          refine cx_iconst (v := 0) dX1_large_67 rfl ?_
          obtain ⟨u16, eu16, hl⟩ := xb hl
          obtain ⟨r15, er15, hl⟩ := xb hl
          refine cx_callF (ci := 10) (by decide) rfl (T_J2_get er15) lF_X1_148 C_J2_get dX1_large_68 eu16 rfl (by omega) (Nat.le_of_ble_eq_true rfl) ?_
          obtain ⟨u17, eu17, hl⟩ := xb hl
          refine cx_castO xC_X1_152_11 dX1_large_73 (by decide) eu17 ?_
          obtain ⟨u19, eu19, hl⟩ := xb hl
          obtain ⟨r18, er18, hl⟩ := xb hl
          refine cx_callV (Or.inl ⟨by decide, _, _, rfl⟩) (T_J14_intValue er18) lV_X1_154 C_J14_intValue dX1_large_76 eu19 (by decide) rfl (by omega) (Nat.le_of_ble_eq_true rfl) ?_
          cases hl
          exact cx_iret dX1_large_79 rfl rfl rfl rfl
        · rw [if_neg c14] at hl
          refine cx_if_eq (X := True) (tgt := 66) dX1_large_59 (by decide) (fun z => absurd z c14) (fun _ => ?_)
          refine cx_iconst (v := (-1)) dX1_large_62 rfl ?_
          refine cx_goto (tgt := 79) dX1_large_63 (by decide) ?_
          cases hl
          exact cx_iret dX1_large_79 rfl rfl rfl rfl
  · dsimp only at hl
    cases hl
    exact cx_callSx (T_X1_oneOf er1) lS_X1_196 C_X1_oneOf dX1_large_2 rfl (by omega) (Nat.le_of_ble_eq_true rfl) (ct_out rfl rfl (by decide))
def k_X1_next_L94 (n : Nat) (g : Nat) (c : Nat → Value) (x0 : Nat) (x1 : Int32) (x2 : Nat) (x3 : Nat) (x4 : Int32) (x5 : Int32) (h : XH) : Option ((Int32 × XH) ⊕ ((XH))) := if x5 ≥ 8 then some (.inr h) else (caR h x3 106 x4).bind fun v35 => (cgR h x0 0 3).bind fun v36 => (cgR h v36 2 1).bind fun v37 => (caI h v37 100 x5).bind fun v38 => (csu h v35 100 x5 (.int v38)).bind fun h39 => (some (x5 + 1)).bind fun w40 => some (.inl (w40, h39))
abbrev K_X1_next_L94 (l : Launch) (E : XEnv) (hf : XH) (res : XO) (g : Nat) (h : XH) (x0 : Nat) (x1 : Int32) (x2 : Nat) (x3 : Nat) (x4 : Int32) (o : (XH)) : Prop := match o with
  | e => CX l E mX1_next (5 * g + 12) 124 [(0, .ref x0), (1, .int x1), (2, .ref x2), (3, .ref x3), (4, .int x4)] [] e hf res
def k_X1_next_L26 (n : Nat) (g : Nat) (c : Nat → Value) (x0 : Nat) (x1 : Int32) (x2 : Nat) (x3 : Nat) (x4 : Int32) (h : XH) : Option ((Int32 × XH) ⊕ ((XH))) := (cal h x3).bind fun v13 => if x4 ≥ v13 then some (.inr h) else (cgR h x0 0 3).bind fun v15 => (cgR h x0 0 2).bind fun v16 => (ckd h v15 2).bind fun u18 => (k_X3_be n v15 v16 h).bind fun r17 => (cgR r17.2 r17.1 2 2).bind fun v19 => (ckd r17.2 x2 10).bind fun u21 => (k_J2_get x2 x4 r17.2).bind fun r20 => (ckd r17.2 r20 11).bind fun u22 => (ckd r17.2 r20 11).bind fun u24 => (k_J14_intValue r20 r17.2).bind fun r23 => (ckd r17.2 x2 10).bind fun u26 => (k_J2_get x2 x4 r17.2).bind fun r25 => (ckd r17.2 r25 11).bind fun u27 => (ckd r17.2 r25 11).bind fun u29 => (k_J14_intValue r25 r17.2).bind fun r28 => (csu r17.2 v19 100 (r23 / 100) (.int (r28 - r28 / 100 * 100))).bind fun h30 => (cgR h30 x0 0 3).bind fun v31 => (ckd h30 v31 2).bind fun u33 => (k_X3_after n g c v31 5 h30).bind fun r32 => (xloop (fun s => k_X1_next_L94 n g c x0 x1 x2 x3 x4 s.1 s.2) n (0, r32.2)).bind fun o41 => (some (x4 + 1)).bind fun w42 => some (.inl (w42, o41))
abbrev K_X1_next_L26 (l : Launch) (E : XEnv) (hf : XH) (res : XO) (g : Nat) (h : XH) (x0 : Nat) (x1 : Int32) (x2 : Nat) (x3 : Nat) (o : (XH)) : Prop := match o with
  | e => CX l E mX1_next (5 * g + 12) 130 [(0, .ref x0), (1, .int x1), (3, .ref x3)] [] e hf res
def k_X1_next_L170 (n : Nat) (g : Nat) (c : Nat → Value) (x0 : Nat) (x1 : Int32) (x3 : Nat) (x4 : Int32) (x5 : Int32) (x6 : Int32) (x7 : Int32) (x8 : Int32) (x9 : Int32) (x10 : Int32) (h : XH) : Option ((Int32 × Int32 × XH) ⊕ ((Int32 × XH))) := if x10 ≥ x8 then some (.inr (x9, h)) else if x9 = 0 then some (.inr (x9, h)) else (caR h x3 106 x10).bind fun v52 => (caI h v52 100 x6).bind fun v53 => (caR h x3 106 x8).bind fun v54 => (caI h v54 100 x6).bind fun v55 => if v53 = v55 then (some (x10 + 1)).bind fun w57 => some (.inl (0, w57, h)) else (some (x10 + 1)).bind fun w58 => some (.inl (1, w58, h))
abbrev K_X1_next_L170 (l : Launch) (E : XEnv) (hf : XH) (res : XO) (g : Nat) (h : XH) (x0 : Nat) (x1 : Int32) (x3 : Nat) (x4 : Int32) (x5 : Int32) (x6 : Int32) (x7 : Int32) (x8 : Int32) (o : (Int32 × XH)) : Prop := match o with
  | e => CX l E mX1_next (5 * g + 12) 212 [(0, .ref x0), (1, .int x1), (3, .ref x3), (4, .int x4), (5, .int x5), (6, .int x6), (7, .int x7), (8, .int x8), (9, .int e.1)] [] e.2 hf res
def k_X1_next_J212 (n : Nat) (g : Nat) (c : Nat → Value) (x0 : Nat) (x1 : Int32) (x3 : Nat) (x4 : Int32) (x5 : Int32) (x6 : Int32) (x7 : Int32) (x8 : Int32) (x9 : Int32) (h : XH) : Option ((Int32 × Int32 × XH) ⊕ ((Int32 × XH))) := if x9 = 0 then (some (x8 + 1)).bind fun w61 => some (.inl (x7, w61, h)) else (some (x7 + 1)).bind fun w62 => (some (x8 + 1)).bind fun w63 => some (.inl (w62, w63, h))
def k_X1_next_L157 (n : Nat) (g : Nat) (c : Nat → Value) (x0 : Nat) (x1 : Int32) (x3 : Nat) (x4 : Int32) (x5 : Int32) (x6 : Int32) (x7 : Int32) (x8 : Int32) (h : XH) : Option ((Int32 × Int32 × XH) ⊕ ((Int32 × XH))) := (cal h x3).bind fun v48 => if x8 ≥ v48 then some (.inr (x7, h)) else (xloop (fun s => k_X1_next_L170 n g c x0 x1 x3 x4 x5 x6 x7 x8 s.1 s.2.1 s.2.2) n (1, 0, h)).bind fun o59 => k_X1_next_J212 n g c x0 x1 x3 x4 x5 x6 x7 x8 o59.1 o59.2
abbrev K_X1_next_L157 (l : Launch) (E : XEnv) (hf : XH) (res : XO) (g : Nat) (h : XH) (x0 : Nat) (x1 : Int32) (x3 : Nat) (x4 : Int32) (x5 : Int32) (x6 : Int32) (o : (Int32 × XH)) : Prop := match o with
  | e => CX l E mX1_next (5 * g + 12) 226 [(0, .ref x0), (1, .int x1), (3, .ref x3), (4, .int x4), (5, .int x5), (6, .int x6), (7, .int e.1)] [] e.2 hf res
def k_X1_next_L139 (n : Nat) (g : Nat) (c : Nat → Value) (x0 : Nat) (x1 : Int32) (x3 : Nat) (x4 : Int32) (x5 : Int32) (x6 : Int32) (h : XH) : Option ((Int32 × Int32 × Int32 × XH) ⊕ ((Int32 × Int32 × XH))) := (cgR h x0 0 1).bind fun v44 => (ckd h v44 1).bind fun u46 => (k_X2_houses v44 h).bind fun r45 => if x6 ≥ r45 then some (.inr (x4, x5, h)) else (xloop (fun s => k_X1_next_L157 n g c x0 x1 x3 x4 x5 x6 s.1 s.2.1 s.2.2) n (0, 0, h)).bind fun o64 => if o64.1 > x5 then (some (x6 + 1)).bind fun w66 => some (.inl (x6, o64.1, w66, o64.2)) else (some (x6 + 1)).bind fun w67 => some (.inl (x4, x5, w67, o64.2))
abbrev K_X1_next_L139 (l : Launch) (E : XEnv) (hf : XH) (res : XO) (g : Nat) (h : XH) (x0 : Nat) (x1 : Int32) (x3 : Nat) (o : (Int32 × Int32 × XH)) : Prop := match o with
  | e => CX l E mX1_next (5 * g + 12) 250 [(1, .int x1), (4, .int e.1), (5, .int e.2.1)] [] e.2.2 hf res
def k_X1_next (n : Nat) (g : Nat) (c : Nat → Value) (x0 : Nat) (x1 : Int32) (h : XH) : Option ((Int32 ⊕ XX) × XH) := (k_X1_oneOf x1 1 h).bind fun r1 => match r1 with | (.inl v3, h4) => ((ckd h4 x0 0).bind fun u9 => (k_X1_others n g c x0 h4).bind fun r8 => (ckd r8.2 r8.1 10).bind fun u11 => (k_J2_size r8.1 r8.2).bind fun r10 => (cng r8.2 3 3 r10 8).bind fun h12 => (xloop (fun s => k_X1_next_L26 n g c x0 x1 r8.1 r8.2.2.2.1 s.1 s.2) n (0, h12)).bind fun o43 => (xloop (fun s => k_X1_next_L139 n g c x0 x1 r8.2.2.2.1 s.1 s.2.1 s.2.2.1 s.2.2.2) n ((-1), 0, 0, o43)).bind fun o68 => if x1 = 0 then some (.inl o68.1, o68.2.2) else some (.inl o68.2.1, o68.2.2)) | (.inr e5, h4) => (some (.inr e5, h4))
set_option maxHeartbeats 4000000 in
theorem k_X1_next_L94_s {l : Launch} {E : XEnv} {hf : XH} {res : XO} {n : Nat} {g : Nat} {x0 : Nat} {x1 : Int32} {x2 : Nat} {x3 : Nat} {x4 : Int32} {x5 : Int32} {h : XH} {o : (Int32 × XH) ⊕ ((XH))} (hl : k_X1_next_L94 n g E.2.2.2 x0 x1 x2 x3 x4 x5 h = some o) (hK : (xk (fun s : Int32 × XH => CX l E mX1_next (5 * g + 12) 94 [(0, .ref x0), (1, .int x1), (2, .ref x2), (3, .ref x3), (4, .int x4), (5, .int s.1)] [] s.2 hf res) (fun r => K_X1_next_L94 l E hf res g h x0 x1 x2 x3 x4 r) o)) : CX l E mX1_next (5 * g + 12) 94 [(0, .ref x0), (1, .int x1), (2, .ref x2), (3, .ref x3), (4, .int x4), (5, .int x5)] [] h hf res := by
  unfold k_X1_next_L94 at hl
  refine cx_iload dX1_next_94 rfl ?_
  refine cx_bipush (v := 8) dX1_next_96 (by decide) ?_
  by_cases c34 : x5 ≥ 8
  · rw [if_pos c34] at hl
    refine cx_icmp_ge (X := True) (tgt := 124) dX1_next_98 (by decide) (fun _ => ?_) (fun z => absurd c34 z)
    cases hl
    exact cx_lsK hK ⟨rfl, rfl, rfl, rfl, rfl, trivial⟩
  · rw [if_neg c34] at hl
    refine cx_icmp_ge (X := True) (tgt := 124) dX1_next_98 (by decide) (fun z => absurd z c34) (fun _ => ?_)
    refine cx_aload_n dX1_next_101 rfl rfl ?_
    refine cx_iload dX1_next_102 rfl ?_
    obtain ⟨v35, ev35, hl⟩ := xb hl
    refine cx_aald 6 (by decide) dX1_next_104 ev35 ?_
    refine cx_iload dX1_next_105 rfl ?_
    refine cx_aload_n dX1_next_107 rfl rfl ?_
    obtain ⟨v36, ev36, hl⟩ := xb hl
    refine cx_getR gF_X1_35 dX1_next_108 ev36 ?_
    obtain ⟨v37, ev37, hl⟩ := xb hl
    refine cx_getR gF_X1_180 dX1_next_111 ev37 ?_
    refine cx_iload dX1_next_114 rfl ?_
    obtain ⟨v38, ev38, hl⟩ := xb hl
    refine cx_iald dX1_next_116 ev38 ?_
    obtain ⟨h39, eh39, hl⟩ := xb hl
    refine cx_iast dX1_next_117 eh39 ?_
    obtain ⟨w40, ew40, hl⟩ := xb hl
    refine cx_iinc dX1_next_118 rfl (by decide) (Option.some.inj ew40) ?_
    refine cx_goto (tgt := 94) dX1_next_121 (by decide) ?_
    cases hl
    exact cx_lsK hK ⟨rfl, rfl, rfl, rfl, rfl, rfl, trivial⟩
set_option maxHeartbeats 4000000 in
theorem k_X1_next_L94_ok {l : Launch} {E : XEnv} {hf : XH} {res : XO} {n : Nat} {g : Nat} {x0 : Nat} {x1 : Int32} {x2 : Nat} {x3 : Nat} {x4 : Int32} {h : XH} {s : Int32 × XH} {o : (XH)} (hl : xloop (fun s => k_X1_next_L94 n g E.2.2.2 x0 x1 x2 x3 x4 s.1 s.2) n s = some o) (hK : K_X1_next_L94 l E hf res g h x0 x1 x2 x3 x4 o) : CX l E mX1_next (5 * g + 12) 94 [(0, .ref x0), (1, .int x1), (2, .ref x2), (3, .ref x3), (4, .int x4), (5, .int s.1)] [] s.2 hf res :=
  xloop_of (fun s : Int32 × XH => CX l E mX1_next (5 * g + 12) 94 [(0, .ref x0), (1, .int x1), (2, .ref x2), (3, .ref x3), (4, .int x4), (5, .int s.1)] [] s.2 hf res) (fun r => K_X1_next_L94 l E hf res g h x0 x1 x2 x3 x4 r) (fun s o hl hk => k_X1_next_L94_s (h := s.2) (o := o) hl hk) n s o hl hK
set_option maxHeartbeats 4000000 in
theorem k_X1_next_L26_s {l : Launch} {E : XEnv} {hf : XH} {res : XO} {n : Nat} {g : Nat} {x0 : Nat} {x1 : Int32} {x2 : Nat} {x3 : Nat} {x4 : Int32} {h : XH} {o : (Int32 × XH) ⊕ ((XH))} (hl : k_X1_next_L26 n g E.2.2.2 x0 x1 x2 x3 x4 h = some o) (hK : (xk (fun s : Int32 × XH => CX l E mX1_next (5 * g + 12) 26 [(0, .ref x0), (1, .int x1), (2, .ref x2), (3, .ref x3), (4, .int s.1)] [] s.2 hf res) (fun r => K_X1_next_L26 l E hf res g h x0 x1 x2 x3 r) o)) : CX l E mX1_next (5 * g + 12) 26 [(0, .ref x0), (1, .int x1), (2, .ref x2), (3, .ref x3), (4, .int x4)] [] h hf res := by
  unfold k_X1_next_L26 at hl
  refine cx_iload dX1_next_26 rfl ?_
  refine cx_aload_n dX1_next_28 rfl rfl ?_
  obtain ⟨v13, ev13, hl⟩ := xb hl
  refine cx_alen dX1_next_29 ev13 ?_
  by_cases c14 : x4 ≥ v13
  · rw [if_pos c14] at hl
    refine cx_icmp_ge (X := True) (tgt := 130) dX1_next_30 (by decide) (fun _ => ?_) (fun z => absurd c14 z)
    cases hl
    exact cx_lsK hK ⟨rfl, rfl, rfl, trivial⟩
  · rw [if_neg c14] at hl
    refine cx_icmp_ge (X := True) (tgt := 130) dX1_next_30 (by decide) (fun z => absurd z c14) (fun _ => ?_)
    refine cx_aload_n dX1_next_33 rfl rfl ?_
    obtain ⟨v15, ev15, hl⟩ := xb hl
    refine cx_getR gF_X1_35 dX1_next_34 ev15 ?_
    refine cx_aload_n dX1_next_37 rfl rfl ?_
    obtain ⟨v16, ev16, hl⟩ := xb hl
    refine cx_getR gF_X1_31 dX1_next_38 ev16 ?_
    obtain ⟨u18, eu18, hl⟩ := xb hl
    obtain ⟨r17, er17, hl⟩ := xb hl
    refine cx_callV (Or.inl ⟨by decide, _, _, rfl⟩) (T_X3_be er17) lV_X1_244 C_X3_be dX1_next_41 eu18 (by decide) rfl (by omega) (Nat.le_of_ble_eq_true rfl) ?_
    obtain ⟨v19, ev19, hl⟩ := xb hl
    refine cx_getR gF_X1_167 dX1_next_44 ev19 ?_
    refine cx_aload_n dX1_next_47 rfl rfl ?_
    refine cx_iload dX1_next_48 rfl ?_
    obtain ⟨u21, eu21, hl⟩ := xb hl
    obtain ⟨r20, er20, hl⟩ := xb hl
    refine cx_callF (ci := 10) (by decide) rfl (T_J2_get er20) lF_X1_148 C_J2_get dX1_next_50 eu21 rfl (by omega) (Nat.le_of_ble_eq_true rfl) ?_
    obtain ⟨u22, eu22, hl⟩ := xb hl
    refine cx_castO xC_X1_152_11 dX1_next_55 (by decide) eu22 ?_
    obtain ⟨u24, eu24, hl⟩ := xb hl
    obtain ⟨r23, er23, hl⟩ := xb hl
    refine cx_callV (Or.inl ⟨by decide, _, _, rfl⟩) (T_J14_intValue er23) lV_X1_154 C_J14_intValue dX1_next_58 eu24 (by decide) rfl (by omega) (Nat.le_of_ble_eq_true rfl) ?_
    refine cx_bipush (v := 100) dX1_next_61 (by decide) ?_
    refine cx_idiv dX1_next_63 (by decide) ?_
    refine cx_aload_n dX1_next_64 rfl rfl ?_
    refine cx_iload dX1_next_65 rfl ?_
    obtain ⟨u26, eu26, hl⟩ := xb hl
    obtain ⟨r25, er25, hl⟩ := xb hl
    refine cx_callF (ci := 10) (by decide) rfl (T_J2_get er25) lF_X1_148 C_J2_get dX1_next_67 eu26 rfl (by omega) (Nat.le_of_ble_eq_true rfl) ?_
    obtain ⟨u27, eu27, hl⟩ := xb hl
    refine cx_castO xC_X1_152_11 dX1_next_72 (by decide) eu27 ?_
    obtain ⟨u29, eu29, hl⟩ := xb hl
    obtain ⟨r28, er28, hl⟩ := xb hl
    refine cx_callV (Or.inl ⟨by decide, _, _, rfl⟩) (T_J14_intValue er28) lV_X1_154 C_J14_intValue dX1_next_75 eu29 (by decide) rfl (by omega) (Nat.le_of_ble_eq_true rfl) ?_
    refine cx_bipush (v := 100) dX1_next_78 (by decide) ?_
    refine cx_irem dX1_next_80 (by decide) ?_
    obtain ⟨h30, eh30, hl⟩ := xb hl
    refine cx_iast dX1_next_81 eh30 ?_
    refine cx_aload_n dX1_next_82 rfl rfl ?_
    obtain ⟨v31, ev31, hl⟩ := xb hl
    refine cx_getR gF_X1_35 dX1_next_83 ev31 ?_
    refine cx_iconst (v := 5) dX1_next_86 rfl ?_
    obtain ⟨u33, eu33, hl⟩ := xb hl
    obtain ⟨r32, er32, hl⟩ := xb hl
    refine cx_callV (Or.inl ⟨by decide, _, _, rfl⟩) (T_X3_after er32) lV_X1_226 C_X3_after dX1_next_87 eu33 (by decide) rfl (by omega) (Nat.le_of_ble_eq_true rfl) ?_
    refine cx_pop dX1_next_90 rfl ?_
    refine cx_iconst (v := 0) dX1_next_91 rfl ?_
    refine cx_istore dX1_next_92 (by decide) ?_
    obtain ⟨o41, eo41, hl⟩ := xb hl
    refine cx_lsK (k_X1_next_L94_ok (h := r32.2) (s := (0, r32.2)) eo41 ?_) ⟨rfl, rfl, rfl, rfl, rfl, rfl, trivial⟩
    obtain ⟨w42, ew42, hl⟩ := xb hl
    refine cx_iinc dX1_next_124 rfl (by decide) (Option.some.inj ew42) ?_
    refine cx_goto (tgt := 26) dX1_next_127 (by decide) ?_
    cases hl
    exact cx_lsK hK ⟨rfl, rfl, rfl, rfl, rfl, trivial⟩
set_option maxHeartbeats 4000000 in
theorem k_X1_next_L26_ok {l : Launch} {E : XEnv} {hf : XH} {res : XO} {n : Nat} {g : Nat} {x0 : Nat} {x1 : Int32} {x2 : Nat} {x3 : Nat} {h : XH} {s : Int32 × XH} {o : (XH)} (hl : xloop (fun s => k_X1_next_L26 n g E.2.2.2 x0 x1 x2 x3 s.1 s.2) n s = some o) (hK : K_X1_next_L26 l E hf res g h x0 x1 x2 x3 o) : CX l E mX1_next (5 * g + 12) 26 [(0, .ref x0), (1, .int x1), (2, .ref x2), (3, .ref x3), (4, .int s.1)] [] s.2 hf res :=
  xloop_of (fun s : Int32 × XH => CX l E mX1_next (5 * g + 12) 26 [(0, .ref x0), (1, .int x1), (2, .ref x2), (3, .ref x3), (4, .int s.1)] [] s.2 hf res) (fun r => K_X1_next_L26 l E hf res g h x0 x1 x2 x3 r) (fun s o hl hk => k_X1_next_L26_s (h := s.2) (o := o) hl hk) n s o hl hK
set_option maxHeartbeats 4000000 in
theorem k_X1_next_L170_s {l : Launch} {E : XEnv} {hf : XH} {res : XO} {n : Nat} {g : Nat} {x0 : Nat} {x1 : Int32} {x3 : Nat} {x4 : Int32} {x5 : Int32} {x6 : Int32} {x7 : Int32} {x8 : Int32} {x9 : Int32} {x10 : Int32} {h : XH} {o : (Int32 × Int32 × XH) ⊕ ((Int32 × XH))} (hl : k_X1_next_L170 n g E.2.2.2 x0 x1 x3 x4 x5 x6 x7 x8 x9 x10 h = some o) (hK : (xk (fun s : Int32 × Int32 × XH => CX l E mX1_next (5 * g + 12) 170 [(0, .ref x0), (1, .int x1), (3, .ref x3), (4, .int x4), (5, .int x5), (6, .int x6), (7, .int x7), (8, .int x8), (9, .int s.1), (10, .int s.2.1)] [] s.2.2 hf res) (fun r => K_X1_next_L170 l E hf res g h x0 x1 x3 x4 x5 x6 x7 x8 r) o)) : CX l E mX1_next (5 * g + 12) 170 [(0, .ref x0), (1, .int x1), (3, .ref x3), (4, .int x4), (5, .int x5), (6, .int x6), (7, .int x7), (8, .int x8), (9, .int x9), (10, .int x10)] [] h hf res := by
  unfold k_X1_next_L170 at hl
  refine cx_iload dX1_next_170 rfl ?_
  refine cx_iload dX1_next_172 rfl ?_
  by_cases c50 : x10 ≥ x8
  · rw [if_pos c50] at hl
    refine cx_icmp_ge (X := True) (tgt := 212) dX1_next_174 (by decide) (fun _ => ?_) (fun z => absurd c50 z)
    cases hl
    exact cx_lsK hK ⟨rfl, rfl, rfl, rfl, rfl, rfl, rfl, rfl, rfl, trivial⟩
  · rw [if_neg c50] at hl
    refine cx_icmp_ge (X := True) (tgt := 212) dX1_next_174 (by decide) (fun z => absurd z c50) (fun _ => ?_)
    refine cx_iload dX1_next_177 rfl ?_
    by_cases c51 : x9 = 0
    · rw [if_pos c51] at hl
      refine cx_if_eq (X := True) (tgt := 212) dX1_next_179 (by decide) (fun _ => ?_) (fun z => absurd c51 z)
      cases hl
      exact cx_lsK hK ⟨rfl, rfl, rfl, rfl, rfl, rfl, rfl, rfl, rfl, trivial⟩
    · rw [if_neg c51] at hl
      refine cx_if_eq (X := True) (tgt := 212) dX1_next_179 (by decide) (fun z => absurd z c51) (fun _ => ?_)
      refine cx_aload_n dX1_next_182 rfl rfl ?_
      refine cx_iload dX1_next_183 rfl ?_
      obtain ⟨v52, ev52, hl⟩ := xb hl
      refine cx_aald 6 (by decide) dX1_next_185 ev52 ?_
      refine cx_iload dX1_next_186 rfl ?_
      obtain ⟨v53, ev53, hl⟩ := xb hl
      refine cx_iald dX1_next_188 ev53 ?_
      refine cx_aload_n dX1_next_189 rfl rfl ?_
      refine cx_iload dX1_next_190 rfl ?_
      obtain ⟨v54, ev54, hl⟩ := xb hl
      refine cx_aald 6 (by decide) dX1_next_192 ev54 ?_
      refine cx_iload dX1_next_193 rfl ?_
      obtain ⟨v55, ev55, hl⟩ := xb hl
      refine cx_iald dX1_next_195 ev55 ?_
      by_cases c56 : v53 = v55
      · rw [if_pos c56] at hl
        refine cx_icmp_eq (X := True) (tgt := 203) dX1_next_196 (by decide) (fun _ => ?_) (fun z => absurd c56 z)
        refine cx_iconst (v := 0) dX1_next_203 rfl ?_
        refine cx_istore dX1_next_204 (by decide) ?_
        obtain ⟨w57, ew57, hl⟩ := xb hl
        refine cx_iinc dX1_next_206 rfl (by decide) (Option.some.inj ew57) ?_
        refine cx_goto (tgt := 170) dX1_next_209 (by decide) ?_
        cases hl
        exact cx_lsK hK ⟨rfl, rfl, rfl, rfl, rfl, rfl, rfl, rfl, rfl, rfl, trivial⟩
      · rw [if_neg c56] at hl
        refine cx_icmp_eq (X := True) (tgt := 203) dX1_next_196 (by decide) (fun z => absurd z c56) (fun _ => ?_)
        refine cx_iconst (v := 1) dX1_next_199 rfl ?_
        refine cx_goto (tgt := 204) dX1_next_200 (by decide) ?_
        refine cx_istore dX1_next_204 (by decide) ?_
        obtain ⟨w58, ew58, hl⟩ := xb hl
        refine cx_iinc dX1_next_206 rfl (by decide) (Option.some.inj ew58) ?_
        refine cx_goto (tgt := 170) dX1_next_209 (by decide) ?_
        cases hl
        exact cx_lsK hK ⟨rfl, rfl, rfl, rfl, rfl, rfl, rfl, rfl, rfl, rfl, trivial⟩
set_option maxHeartbeats 4000000 in
theorem k_X1_next_L170_ok {l : Launch} {E : XEnv} {hf : XH} {res : XO} {n : Nat} {g : Nat} {x0 : Nat} {x1 : Int32} {x3 : Nat} {x4 : Int32} {x5 : Int32} {x6 : Int32} {x7 : Int32} {x8 : Int32} {h : XH} {s : Int32 × Int32 × XH} {o : (Int32 × XH)} (hl : xloop (fun s => k_X1_next_L170 n g E.2.2.2 x0 x1 x3 x4 x5 x6 x7 x8 s.1 s.2.1 s.2.2) n s = some o) (hK : K_X1_next_L170 l E hf res g h x0 x1 x3 x4 x5 x6 x7 x8 o) : CX l E mX1_next (5 * g + 12) 170 [(0, .ref x0), (1, .int x1), (3, .ref x3), (4, .int x4), (5, .int x5), (6, .int x6), (7, .int x7), (8, .int x8), (9, .int s.1), (10, .int s.2.1)] [] s.2.2 hf res :=
  xloop_of (fun s : Int32 × Int32 × XH => CX l E mX1_next (5 * g + 12) 170 [(0, .ref x0), (1, .int x1), (3, .ref x3), (4, .int x4), (5, .int x5), (6, .int x6), (7, .int x7), (8, .int x8), (9, .int s.1), (10, .int s.2.1)] [] s.2.2 hf res) (fun r => K_X1_next_L170 l E hf res g h x0 x1 x3 x4 x5 x6 x7 x8 r) (fun s o hl hk => k_X1_next_L170_s (h := s.2.2) (o := o) hl hk) n s o hl hK
set_option maxHeartbeats 4000000 in
theorem k_X1_next_J212_s {l : Launch} {E : XEnv} {hf : XH} {res : XO} {n : Nat} {g : Nat} {x0 : Nat} {x1 : Int32} {x3 : Nat} {x4 : Int32} {x5 : Int32} {x6 : Int32} {x7 : Int32} {x8 : Int32} {x9 : Int32} {h : XH} {h0 : XH} {o : (Int32 × Int32 × XH) ⊕ ((Int32 × XH))} (hl : k_X1_next_J212 n g E.2.2.2 x0 x1 x3 x4 x5 x6 x7 x8 x9 h = some o) (hK : (xk (fun s : Int32 × Int32 × XH => CX l E mX1_next (5 * g + 12) 157 [(0, .ref x0), (1, .int x1), (3, .ref x3), (4, .int x4), (5, .int x5), (6, .int x6), (7, .int s.1), (8, .int s.2.1)] [] s.2.2 hf res) (fun r => K_X1_next_L157 l E hf res g h0 x0 x1 x3 x4 x5 x6 r) o)) : CX l E mX1_next (5 * g + 12) 212 [(0, .ref x0), (1, .int x1), (3, .ref x3), (4, .int x4), (5, .int x5), (6, .int x6), (7, .int x7), (8, .int x8), (9, .int x9)] [] h hf res := by
  unfold k_X1_next_J212 at hl
  refine cx_iload dX1_next_212 rfl ?_
  by_cases c60 : x9 = 0
  · rw [if_pos c60] at hl
    refine cx_if_eq (X := True) (tgt := 220) dX1_next_214 (by decide) (fun _ => ?_) (fun z => absurd c60 z)
    obtain ⟨w61, ew61, hl⟩ := xb hl
    refine cx_iinc dX1_next_220 rfl (by decide) (Option.some.inj ew61) ?_
    refine cx_goto (tgt := 157) dX1_next_223 (by decide) ?_
    cases hl
    exact cx_lsK hK ⟨rfl, rfl, rfl, rfl, rfl, rfl, rfl, rfl, trivial⟩
  · rw [if_neg c60] at hl
    refine cx_if_eq (X := True) (tgt := 220) dX1_next_214 (by decide) (fun z => absurd z c60) (fun _ => ?_)
    obtain ⟨w62, ew62, hl⟩ := xb hl
    refine cx_iinc dX1_next_217 rfl (by decide) (Option.some.inj ew62) ?_
    obtain ⟨w63, ew63, hl⟩ := xb hl
    refine cx_iinc dX1_next_220 rfl (by decide) (Option.some.inj ew63) ?_
    refine cx_goto (tgt := 157) dX1_next_223 (by decide) ?_
    cases hl
    exact cx_lsK hK ⟨rfl, rfl, rfl, rfl, rfl, rfl, rfl, rfl, trivial⟩
set_option maxHeartbeats 4000000 in
theorem k_X1_next_L157_s {l : Launch} {E : XEnv} {hf : XH} {res : XO} {n : Nat} {g : Nat} {x0 : Nat} {x1 : Int32} {x3 : Nat} {x4 : Int32} {x5 : Int32} {x6 : Int32} {x7 : Int32} {x8 : Int32} {h : XH} {o : (Int32 × Int32 × XH) ⊕ ((Int32 × XH))} (hl : k_X1_next_L157 n g E.2.2.2 x0 x1 x3 x4 x5 x6 x7 x8 h = some o) (hK : (xk (fun s : Int32 × Int32 × XH => CX l E mX1_next (5 * g + 12) 157 [(0, .ref x0), (1, .int x1), (3, .ref x3), (4, .int x4), (5, .int x5), (6, .int x6), (7, .int s.1), (8, .int s.2.1)] [] s.2.2 hf res) (fun r => K_X1_next_L157 l E hf res g h x0 x1 x3 x4 x5 x6 r) o)) : CX l E mX1_next (5 * g + 12) 157 [(0, .ref x0), (1, .int x1), (3, .ref x3), (4, .int x4), (5, .int x5), (6, .int x6), (7, .int x7), (8, .int x8)] [] h hf res := by
  unfold k_X1_next_L157 at hl
  refine cx_iload dX1_next_157 rfl ?_
  refine cx_aload_n dX1_next_159 rfl rfl ?_
  obtain ⟨v48, ev48, hl⟩ := xb hl
  refine cx_alen dX1_next_160 ev48 ?_
  by_cases c49 : x8 ≥ v48
  · rw [if_pos c49] at hl
    refine cx_icmp_ge (X := True) (tgt := 226) dX1_next_161 (by decide) (fun _ => ?_) (fun z => absurd c49 z)
    cases hl
    exact cx_lsK hK ⟨rfl, rfl, rfl, rfl, rfl, rfl, rfl, trivial⟩
  · rw [if_neg c49] at hl
    refine cx_icmp_ge (X := True) (tgt := 226) dX1_next_161 (by decide) (fun z => absurd z c49) (fun _ => ?_)
    refine cx_iconst (v := 1) dX1_next_164 rfl ?_
    refine cx_istore dX1_next_165 (by decide) ?_
    refine cx_iconst (v := 0) dX1_next_167 rfl ?_
    refine cx_istore dX1_next_168 (by decide) ?_
    obtain ⟨o59, eo59, hl⟩ := xb hl
    refine cx_lsK (k_X1_next_L170_ok (h := h) (s := (1, 0, h)) eo59 ?_) ⟨rfl, rfl, rfl, rfl, rfl, rfl, rfl, rfl, rfl, rfl, trivial⟩
    exact cx_lsK (k_X1_next_J212_s hl hK) ⟨rfl, rfl, rfl, rfl, rfl, rfl, rfl, rfl, rfl, trivial⟩
set_option maxHeartbeats 4000000 in
theorem k_X1_next_L157_ok {l : Launch} {E : XEnv} {hf : XH} {res : XO} {n : Nat} {g : Nat} {x0 : Nat} {x1 : Int32} {x3 : Nat} {x4 : Int32} {x5 : Int32} {x6 : Int32} {h : XH} {s : Int32 × Int32 × XH} {o : (Int32 × XH)} (hl : xloop (fun s => k_X1_next_L157 n g E.2.2.2 x0 x1 x3 x4 x5 x6 s.1 s.2.1 s.2.2) n s = some o) (hK : K_X1_next_L157 l E hf res g h x0 x1 x3 x4 x5 x6 o) : CX l E mX1_next (5 * g + 12) 157 [(0, .ref x0), (1, .int x1), (3, .ref x3), (4, .int x4), (5, .int x5), (6, .int x6), (7, .int s.1), (8, .int s.2.1)] [] s.2.2 hf res :=
  xloop_of (fun s : Int32 × Int32 × XH => CX l E mX1_next (5 * g + 12) 157 [(0, .ref x0), (1, .int x1), (3, .ref x3), (4, .int x4), (5, .int x5), (6, .int x6), (7, .int s.1), (8, .int s.2.1)] [] s.2.2 hf res) (fun r => K_X1_next_L157 l E hf res g h x0 x1 x3 x4 x5 x6 r) (fun s o hl hk => k_X1_next_L157_s (h := s.2.2) (o := o) hl hk) n s o hl hK
set_option maxHeartbeats 4000000 in
theorem k_X1_next_L139_s {l : Launch} {E : XEnv} {hf : XH} {res : XO} {n : Nat} {g : Nat} {x0 : Nat} {x1 : Int32} {x3 : Nat} {x4 : Int32} {x5 : Int32} {x6 : Int32} {h : XH} {o : (Int32 × Int32 × Int32 × XH) ⊕ ((Int32 × Int32 × XH))} (hl : k_X1_next_L139 n g E.2.2.2 x0 x1 x3 x4 x5 x6 h = some o) (hK : (xk (fun s : Int32 × Int32 × Int32 × XH => CX l E mX1_next (5 * g + 12) 139 [(0, .ref x0), (1, .int x1), (3, .ref x3), (4, .int s.1), (5, .int s.2.1), (6, .int s.2.2.1)] [] s.2.2.2 hf res) (fun r => K_X1_next_L139 l E hf res g h x0 x1 x3 r) o)) : CX l E mX1_next (5 * g + 12) 139 [(0, .ref x0), (1, .int x1), (3, .ref x3), (4, .int x4), (5, .int x5), (6, .int x6)] [] h hf res := by
  unfold k_X1_next_L139 at hl
  refine cx_iload dX1_next_139 rfl ?_
  refine cx_aload_n dX1_next_141 rfl rfl ?_
  obtain ⟨v44, ev44, hl⟩ := xb hl
  refine cx_getR gF_X1_22 dX1_next_142 ev44 ?_
  obtain ⟨u46, eu46, hl⟩ := xb hl
  obtain ⟨r45, er45, hl⟩ := xb hl
  refine cx_callV (Or.inl ⟨by decide, _, _, rfl⟩) (T_X2_houses er45) lV_X1_89 C_X2_houses dX1_next_145 eu46 (by decide) rfl (by omega) (Nat.le_of_ble_eq_true rfl) ?_
  by_cases c47 : x6 ≥ r45
  · rw [if_pos c47] at hl
    refine cx_icmp_ge (X := True) (tgt := 250) dX1_next_148 (by decide) (fun _ => ?_) (fun z => absurd c47 z)
    cases hl
    exact cx_lsK hK ⟨rfl, rfl, rfl, trivial⟩
  · rw [if_neg c47] at hl
    refine cx_icmp_ge (X := True) (tgt := 250) dX1_next_148 (by decide) (fun z => absurd z c47) (fun _ => ?_)
    refine cx_iconst (v := 0) dX1_next_151 rfl ?_
    refine cx_istore dX1_next_152 (by decide) ?_
    refine cx_iconst (v := 0) dX1_next_154 rfl ?_
    refine cx_istore dX1_next_155 (by decide) ?_
    obtain ⟨o64, eo64, hl⟩ := xb hl
    refine cx_lsK (k_X1_next_L157_ok (h := h) (s := (0, 0, h)) eo64 ?_) ⟨rfl, rfl, rfl, rfl, rfl, rfl, rfl, rfl, trivial⟩
    refine cx_iload dX1_next_226 rfl ?_
    refine cx_iload dX1_next_228 rfl ?_
    by_cases c65 : o64.1 > x5
    · rw [if_pos c65] at hl
      refine cx_icmp_gt (X := True) (tgt := 236) dX1_next_230 (by decide) (fun _ => ?_) (fun z => absurd c65 z)
      refine cx_iload dX1_next_236 rfl ?_
      refine cx_istore dX1_next_238 (by decide) ?_
      refine cx_iload dX1_next_240 rfl ?_
      refine cx_istore dX1_next_242 (by decide) ?_
      obtain ⟨w66, ew66, hl⟩ := xb hl
      refine cx_iinc dX1_next_244 rfl (by decide) (Option.some.inj ew66) ?_
      refine cx_goto (tgt := 139) dX1_next_247 (by decide) ?_
      cases hl
      exact cx_lsK hK ⟨rfl, rfl, rfl, rfl, rfl, rfl, trivial⟩
    · rw [if_neg c65] at hl
      refine cx_icmp_gt (X := True) (tgt := 236) dX1_next_230 (by decide) (fun z => absurd z c65) (fun _ => ?_)
      refine cx_goto (tgt := 244) dX1_next_233 (by decide) ?_
      obtain ⟨w67, ew67, hl⟩ := xb hl
      refine cx_iinc dX1_next_244 rfl (by decide) (Option.some.inj ew67) ?_
      refine cx_goto (tgt := 139) dX1_next_247 (by decide) ?_
      cases hl
      exact cx_lsK hK ⟨rfl, rfl, rfl, rfl, rfl, rfl, trivial⟩
set_option maxHeartbeats 4000000 in
theorem k_X1_next_L139_ok {l : Launch} {E : XEnv} {hf : XH} {res : XO} {n : Nat} {g : Nat} {x0 : Nat} {x1 : Int32} {x3 : Nat} {h : XH} {s : Int32 × Int32 × Int32 × XH} {o : (Int32 × Int32 × XH)} (hl : xloop (fun s => k_X1_next_L139 n g E.2.2.2 x0 x1 x3 s.1 s.2.1 s.2.2.1 s.2.2.2) n s = some o) (hK : K_X1_next_L139 l E hf res g h x0 x1 x3 o) : CX l E mX1_next (5 * g + 12) 139 [(0, .ref x0), (1, .int x1), (3, .ref x3), (4, .int s.1), (5, .int s.2.1), (6, .int s.2.2.1)] [] s.2.2.2 hf res :=
  xloop_of (fun s : Int32 × Int32 × Int32 × XH => CX l E mX1_next (5 * g + 12) 139 [(0, .ref x0), (1, .int x1), (3, .ref x3), (4, .int s.1), (5, .int s.2.1), (6, .int s.2.2.1)] [] s.2.2.2 hf res) (fun r => K_X1_next_L139 l E hf res g h x0 x1 x3 r) (fun s o hl hk => k_X1_next_L139_s (h := s.2.2.2) (o := o) hl hk) n s o hl hK
set_option maxHeartbeats 4000000 in
theorem T_X1_next {l : Launch} {E : XEnv}  {n : Nat} {g : Nat} {x0 : Nat} {x1 : Int32} {h : XH} {r : (Int32 ⊕ XX) × XH} (hl : k_X1_next n g E.2.2.2 x0 x1 h = some r) : CM l E mX1_next (5 * g + 12) [.ref x0, .int x1] h (xrI r.1) r.2 := by
  unfold k_X1_next at hl
  refine cm_of (by decide +kernel) rfl (Nat.le_of_ble_eq_true rfl) ?_
  refine cx_iload_n dX1_next_0 rfl ?_
  refine cx_iconst (v := 1) dX1_next_1 rfl ?_
  obtain ⟨r1, er1, hl⟩ := xb hl
  rcases r1 with ⟨v3 | ⟨C6, q7⟩, h4⟩
  · dsimp only at hl
    refine cx_callS (T_X1_oneOf er1) lS_X1_196 C_X1_oneOf dX1_next_2 rfl (by omega) (Nat.le_of_ble_eq_true rfl) ?_
    refine cx_aload_n dX1_next_5 rfl rfl ?_
    obtain ⟨u9, eu9, hl⟩ := xb hl
    obtain ⟨r8, er8, hl⟩ := xb hl
    refine cx_callV (Or.inl ⟨by decide, _, _, rfl⟩) (T_X1_others er8) lV_X1_291 C_X1_others dX1_next_6 eu9 (by decide) rfl (by omega) (Nat.le_of_ble_eq_true rfl) ?_
    refine cx_astore_n dX1_next_9 (by decide) rfl ?_
    refine cx_aload_n dX1_next_10 rfl rfl ?_
    obtain ⟨u11, eu11, hl⟩ := xb hl
    obtain ⟨r10, er10, hl⟩ := xb hl
    refine cx_callF (ci := 10) (by decide) rfl (T_J2_size er10) lF_X1_134 C_J2_size dX1_next_11 eu11 rfl (by omega) (Nat.le_of_ble_eq_true rfl) ?_
    refine cx_bipush (v := 8) dX1_next_16 (by decide) ?_
    obtain ⟨h12, eh12, hl⟩ := xb hl
    refine cx_multi 3 3 q1219 q1220 q195 dX1_next_18 eh12 ?_
    refine cx_astore_n dX1_next_22 (by decide) rfl ?_
    refine cx_iconst (v := 0) dX1_next_23 rfl ?_
    refine cx_istore dX1_next_24 (by decide) ?_
    obtain ⟨o43, eo43, hl⟩ := xb hl
    refine cx_lsK (k_X1_next_L26_ok (h := h12) (s := (0, h12)) eo43 ?_) ⟨rfl, rfl, rfl, rfl, rfl, trivial⟩
    refine cx_iconst (v := (-1)) dX1_next_130 rfl ?_
    refine cx_istore dX1_next_131 (by decide) ?_
    refine cx_iconst (v := 0) dX1_next_133 rfl ?_
    refine cx_istore dX1_next_134 (by decide) ?_
    refine cx_iconst (v := 0) dX1_next_136 rfl ?_
    refine cx_istore dX1_next_137 (by decide) ?_
    obtain ⟨o68, eo68, hl⟩ := xb hl
    refine cx_lsK (k_X1_next_L139_ok (h := o43) (s := ((-1), 0, 0, o43)) eo68 ?_) ⟨rfl, rfl, rfl, rfl, rfl, rfl, trivial⟩
    refine cx_iload_n dX1_next_250 rfl ?_
    by_cases c69 : x1 = 0
    · rw [if_pos c69] at hl
      refine cx_if_ne (X := True) (tgt := 259) dX1_next_251 (by decide) (fun z => absurd c69 z) (fun _ => ?_)
      refine cx_iload dX1_next_254 rfl ?_
      refine cx_goto (tgt := 261) dX1_next_256 (by decide) ?_
      cases hl
      exact cx_iret dX1_next_261 rfl rfl rfl rfl
    · rw [if_neg c69] at hl
      refine cx_if_ne (X := True) (tgt := 259) dX1_next_251 (by decide) (fun _ => ?_) (fun z => absurd z c69)
      refine cx_iload dX1_next_259 rfl ?_
      cases hl
      exact cx_iret dX1_next_261 rfl rfl rfl rfl
  · dsimp only at hl
    cases hl
    exact cx_callSx (T_X1_oneOf er1) lS_X1_196 C_X1_oneOf dX1_next_2 rfl (by omega) (Nat.le_of_ble_eq_true rfl) (ct_out rfl rfl (by decide))
def k_X1_byDamp_J113 (n : Nat) (g : Nat) (c : Nat → Value) (x0 : Nat) (x1 : Int32) (x2 : Int32) (x3 : Int32) (x4 : Int32) (x5 : Int32) (x7 : Int32) (y0 : Int32) (y1 : Int32) (h : XH) : Option ((Int32 × Int32 × XH) ⊕ ((Int32 × XH))) := (some (y1 * y0)).bind fun w32 => (cgR h x0 0 3).bind fun v33 => (ckd h v33 2).bind fun u35 => (k_X3_pass n g c v33 h).bind fun r34 => (some (x7 + 1)).bind fun w36 => some (.inl (w32, w36, r34.2))
def k_X1_byDamp_J90 (n : Nat) (g : Nat) (c : Nat → Value) (x0 : Nat) (x1 : Int32) (x2 : Int32) (x3 : Int32) (x4 : Int32) (x5 : Int32) (x6 : Int32) (x7 : Int32) (y0 : Int32) (y1 : Nat) (h : XH) : Option ((Int32 × Int32 × XH) ⊕ ((Int32 × XH))) := (cpu h y1 2 8 (.int y0)).bind fun h28 => (k_X1_isOf x5 x7 h28).bind fun r29 => if r29 = 0 then k_X1_byDamp_J113 n g c x0 x1 x2 x3 x4 x5 x7 ((10 : Int32) - x3) x6 h28 else k_X1_byDamp_J113 n g c x0 x1 x2 x3 x4 x5 x7 x3 x6 h28
def k_X1_byDamp_L64 (n : Nat) (g : Nat) (c : Nat → Value) (x0 : Nat) (x1 : Int32) (x2 : Int32) (x3 : Int32) (x4 : Int32) (x5 : Int32) (x6 : Int32) (x7 : Int32) (h : XH) : Option ((Int32 × Int32 × XH) ⊕ ((Int32 × XH))) := if x7 ≥ x2 then some (.inr (x6, h)) else (cgR h x0 0 3).bind fun v24 => (k_X1_isOf x5 x7 h).bind fun r25 => if r25 = 0 then k_X1_byDamp_J90 n g c x0 x1 x2 x3 x4 x5 x6 x7 0 v24 h else k_X1_byDamp_J90 n g c x0 x1 x2 x3 x4 x5 x6 x7 9 v24 h
abbrev K_X1_byDamp_L64 (l : Launch) (E : XEnv) (hf : XH) (res : XO) (g : Nat) (h : XH) (x0 : Nat) (x1 : Int32) (x2 : Int32) (x3 : Int32) (x4 : Int32) (x5 : Int32) (o : (Int32 × XH)) : Prop := match o with
  | e => CX l E mX1_byDamp (5 * g + 10) 130 [(0, .ref x0), (1, .int x1), (2, .int x2), (3, .int x3), (4, .int x4), (5, .int x5), (6, .int e.1)] [] e.2 hf res
def k_X1_byDamp_L38 (n : Nat) (g : Nat) (c : Nat → Value) (x0 : Nat) (x1 : Int32) (x2 : Int32) (x3 : Int32) (x4 : Int32) (x5 : Int32) (h : XH) : Option ((Int32 × Int32 × XH) ⊕ ((Int32 × XH))) := if x5 ≥ ((1 : Int32) <<< ((x2 : Int32) &&& 31)) then some (.inr (x4, h)) else (cgR h x0 0 3).bind fun v19 => (cgR h x0 0 2).bind fun v20 => (ckd h v19 2).bind fun u22 => (k_X3_be n v19 v20 h).bind fun r21 => (xloop (fun s => k_X1_byDamp_L64 n g c x0 x1 x2 x3 x4 x5 s.1 s.2.1 s.2.2) n (1, 0, r21.2)).bind fun o37 => (cgR o37.2 x0 0 3).bind fun v38 => (cgI o37.2 v38 2 6).bind fun v39 => (k_X1_isOf v39 x1 o37.2).bind fun r40 => if r40 = 0 then (some (x5 + 1)).bind fun w43 => some (.inl (x4, w43, o37.2)) else (some (x4 + o37.1)).bind fun w44 => (some (x5 + 1)).bind fun w45 => some (.inl (w44, w45, o37.2))
abbrev K_X1_byDamp_L38 (l : Launch) (E : XEnv) (hf : XH) (res : XO) (g : Nat) (h : XH) (x0 : Nat) (x1 : Int32) (x2 : Int32) (x3 : Int32) (o : (Int32 × XH)) : Prop := match o with
  | e => CX l E mX1_byDamp (5 * g + 10) 157 [(4, .int e.1)] [] e.2 hf res
def k_X1_byDamp_J28 (n : Nat) (g : Nat) (c : Nat → Value) (x0 : Nat) (x1 : Int32) (x2 : Int32) (x3 : Int32) (h : XH) : Option ((Int32 ⊕ XX) × XH) := (k_X1_right 0 h).bind fun r11 => match r11 with | (.inl v13, h14) => ((xloop (fun s => k_X1_byDamp_L38 n g c x0 x1 x2 x3 s.1 s.2.1 s.2.2) n (0, 0, h14)).bind fun o46 => some (.inl o46.1, o46.2)) | (.inr e15, h14) => (some (.inr e15, h14))
def k_X1_byDamp (n : Nat) (g : Nat) (c : Nat → Value) (x0 : Nat) (x1 : Int32) (x2 : Int32) (x3 : Int32) (h : XH) : Option ((Int32 ⊕ XX) × XH) := (ckd h x0 0).bind fun u2 => (k_X1_aHouse x0 x1 h).bind fun r1 => match r1 with | (.inl v3, h4) => ((k_X1_in x2 1 5 h4).bind fun r8 => if r8 = 0 then k_X1_byDamp_J28 n g c x0 x1 x2 x3 h4 else (k_X1_in x3 0 10 h4).bind fun r47 => if r47 = 0 then k_X1_byDamp_J28 n g c x0 x1 x2 x3 h4 else (k_X1_right 1 h4).bind fun r50 => match r50 with | (.inl v52, h53) => ((xloop (fun s => k_X1_byDamp_L38 n g c x0 x1 x2 x3 s.1 s.2.1 s.2.2) n (0, 0, h53)).bind fun o57 => some (.inl o57.1, o57.2)) | (.inr e54, h53) => (some (.inr e54, h53))) | (.inr e5, h4) => (some (.inr e5, h4))
set_option maxHeartbeats 4000000 in
theorem k_X1_byDamp_J113_s {l : Launch} {E : XEnv} {hf : XH} {res : XO} {n : Nat} {g : Nat} {x0 : Nat} {x1 : Int32} {x2 : Int32} {x3 : Int32} {x4 : Int32} {x5 : Int32} {x7 : Int32} {y0 : Int32} {y1 : Int32} {h : XH} {h0 : XH} {o : (Int32 × Int32 × XH) ⊕ ((Int32 × XH))} (hl : k_X1_byDamp_J113 n g E.2.2.2 x0 x1 x2 x3 x4 x5 x7 y0 y1 h = some o) (hK : (xk (fun s : Int32 × Int32 × XH => CX l E mX1_byDamp (5 * g + 10) 64 [(0, .ref x0), (1, .int x1), (2, .int x2), (3, .int x3), (4, .int x4), (5, .int x5), (6, .int s.1), (7, .int s.2.1)] [] s.2.2 hf res) (fun r => K_X1_byDamp_L64 l E hf res g h0 x0 x1 x2 x3 x4 x5 r) o)) : CX l E mX1_byDamp (5 * g + 10) 113 [(0, .ref x0), (1, .int x1), (2, .int x2), (3, .int x3), (4, .int x4), (5, .int x5), (7, .int x7)] [.int y0, .int y1] h hf res := by
  unfold k_X1_byDamp_J113 at hl
  refine cx_imul dX1_byDamp_113 ?_
  obtain ⟨w32, ew32, hl⟩ := xb hl
  refine cx_top (Option.some.inj ew32) ?_
  refine cx_istore dX1_byDamp_114 (by decide) ?_
  refine cx_aload_n dX1_byDamp_116 rfl rfl ?_
  obtain ⟨v33, ev33, hl⟩ := xb hl
  refine cx_getR gF_X1_35 dX1_byDamp_117 ev33 ?_
  obtain ⟨u35, eu35, hl⟩ := xb hl
  obtain ⟨r34, er34, hl⟩ := xb hl
  refine cx_callV (Or.inl ⟨by decide, _, _, rfl⟩) (T_X3_pass er34) lV_X1_251 C_X3_pass dX1_byDamp_120 eu35 (by decide) rfl (by omega) (Nat.le_of_ble_eq_true rfl) ?_
  refine cx_pop dX1_byDamp_123 rfl ?_
  obtain ⟨w36, ew36, hl⟩ := xb hl
  refine cx_iinc dX1_byDamp_124 rfl (by decide) (Option.some.inj ew36) ?_
  refine cx_goto (tgt := 64) dX1_byDamp_127 (by decide) ?_
  cases hl
  exact cx_lsK hK ⟨rfl, rfl, rfl, rfl, rfl, rfl, rfl, rfl, trivial⟩
set_option maxHeartbeats 4000000 in
theorem k_X1_byDamp_J90_s {l : Launch} {E : XEnv} {hf : XH} {res : XO} {n : Nat} {g : Nat} {x0 : Nat} {x1 : Int32} {x2 : Int32} {x3 : Int32} {x4 : Int32} {x5 : Int32} {x6 : Int32} {x7 : Int32} {y0 : Int32} {y1 : Nat} {h : XH} {h0 : XH} {o : (Int32 × Int32 × XH) ⊕ ((Int32 × XH))} (hl : k_X1_byDamp_J90 n g E.2.2.2 x0 x1 x2 x3 x4 x5 x6 x7 y0 y1 h = some o) (hK : (xk (fun s : Int32 × Int32 × XH => CX l E mX1_byDamp (5 * g + 10) 64 [(0, .ref x0), (1, .int x1), (2, .int x2), (3, .int x3), (4, .int x4), (5, .int x5), (6, .int s.1), (7, .int s.2.1)] [] s.2.2 hf res) (fun r => K_X1_byDamp_L64 l E hf res g h0 x0 x1 x2 x3 x4 x5 r) o)) : CX l E mX1_byDamp (5 * g + 10) 90 [(0, .ref x0), (1, .int x1), (2, .int x2), (3, .int x3), (4, .int x4), (5, .int x5), (6, .int x6), (7, .int x7)] [.int y0, .ref y1] h hf res := by
  unfold k_X1_byDamp_J90 at hl
  obtain ⟨h28, eh28, hl⟩ := xb hl
  refine cx_putI pF_X1_295 dX1_byDamp_90 eh28 ?_
  refine cx_iload dX1_byDamp_93 rfl ?_
  refine cx_iload dX1_byDamp_95 rfl ?_
  refine cx_iload dX1_byDamp_97 rfl ?_
  obtain ⟨r29, er29, hl⟩ := xb hl
  refine cx_callS (T_X1_isOf er29) lS_X1_183 C_X1_isOf dX1_byDamp_99 rfl (by omega) (Nat.le_of_ble_eq_true rfl) ?_
  by_cases c31 : r29 = 0
  · rw [if_pos c31] at hl
    refine cx_if_eq (X := True) (tgt := 109) dX1_byDamp_102 (by decide) (fun _ => ?_) (fun z => absurd c31 z)
    refine cx_bipush (v := 10) dX1_byDamp_109 (by decide) ?_
    refine cx_iload_n dX1_byDamp_111 rfl ?_
    refine cx_isub dX1_byDamp_112 ?_
    exact cx_lsK (k_X1_byDamp_J113_s hl hK) ⟨rfl, rfl, rfl, rfl, rfl, rfl, rfl, trivial⟩
  · rw [if_neg c31] at hl
    refine cx_if_eq (X := True) (tgt := 109) dX1_byDamp_102 (by decide) (fun z => absurd z c31) (fun _ => ?_)
    refine cx_iload_n dX1_byDamp_105 rfl ?_
    refine cx_goto (tgt := 113) dX1_byDamp_106 (by decide) ?_
    exact cx_lsK (k_X1_byDamp_J113_s hl hK) ⟨rfl, rfl, rfl, rfl, rfl, rfl, rfl, trivial⟩
set_option maxHeartbeats 4000000 in
theorem k_X1_byDamp_L64_s {l : Launch} {E : XEnv} {hf : XH} {res : XO} {n : Nat} {g : Nat} {x0 : Nat} {x1 : Int32} {x2 : Int32} {x3 : Int32} {x4 : Int32} {x5 : Int32} {x6 : Int32} {x7 : Int32} {h : XH} {o : (Int32 × Int32 × XH) ⊕ ((Int32 × XH))} (hl : k_X1_byDamp_L64 n g E.2.2.2 x0 x1 x2 x3 x4 x5 x6 x7 h = some o) (hK : (xk (fun s : Int32 × Int32 × XH => CX l E mX1_byDamp (5 * g + 10) 64 [(0, .ref x0), (1, .int x1), (2, .int x2), (3, .int x3), (4, .int x4), (5, .int x5), (6, .int s.1), (7, .int s.2.1)] [] s.2.2 hf res) (fun r => K_X1_byDamp_L64 l E hf res g h x0 x1 x2 x3 x4 x5 r) o)) : CX l E mX1_byDamp (5 * g + 10) 64 [(0, .ref x0), (1, .int x1), (2, .int x2), (3, .int x3), (4, .int x4), (5, .int x5), (6, .int x6), (7, .int x7)] [] h hf res := by
  unfold k_X1_byDamp_L64 at hl
  refine cx_iload dX1_byDamp_64 rfl ?_
  refine cx_iload_n dX1_byDamp_66 rfl ?_
  by_cases c23 : x7 ≥ x2
  · rw [if_pos c23] at hl
    refine cx_icmp_ge (X := True) (tgt := 130) dX1_byDamp_67 (by decide) (fun _ => ?_) (fun z => absurd c23 z)
    cases hl
    exact cx_lsK hK ⟨rfl, rfl, rfl, rfl, rfl, rfl, rfl, trivial⟩
  · rw [if_neg c23] at hl
    refine cx_icmp_ge (X := True) (tgt := 130) dX1_byDamp_67 (by decide) (fun z => absurd z c23) (fun _ => ?_)
    refine cx_aload_n dX1_byDamp_70 rfl rfl ?_
    obtain ⟨v24, ev24, hl⟩ := xb hl
    refine cx_getR gF_X1_35 dX1_byDamp_71 ev24 ?_
    refine cx_iload dX1_byDamp_74 rfl ?_
    refine cx_iload dX1_byDamp_76 rfl ?_
    obtain ⟨r25, er25, hl⟩ := xb hl
    refine cx_callS (T_X1_isOf er25) lS_X1_183 C_X1_isOf dX1_byDamp_78 rfl (by omega) (Nat.le_of_ble_eq_true rfl) ?_
    by_cases c27 : r25 = 0
    · rw [if_pos c27] at hl
      refine cx_if_eq (X := True) (tgt := 89) dX1_byDamp_81 (by decide) (fun _ => ?_) (fun z => absurd c27 z)
      refine cx_iconst (v := 0) dX1_byDamp_89 rfl ?_
      exact cx_lsK (k_X1_byDamp_J90_s hl hK) ⟨rfl, rfl, rfl, rfl, rfl, rfl, rfl, rfl, trivial⟩
    · rw [if_neg c27] at hl
      refine cx_if_eq (X := True) (tgt := 89) dX1_byDamp_81 (by decide) (fun z => absurd z c27) (fun _ => ?_)
      refine cx_bipush (v := 9) dX1_byDamp_84 (by decide) ?_
      refine cx_goto (tgt := 90) dX1_byDamp_86 (by decide) ?_
      exact cx_lsK (k_X1_byDamp_J90_s hl hK) ⟨rfl, rfl, rfl, rfl, rfl, rfl, rfl, rfl, trivial⟩
set_option maxHeartbeats 4000000 in
theorem k_X1_byDamp_L64_ok {l : Launch} {E : XEnv} {hf : XH} {res : XO} {n : Nat} {g : Nat} {x0 : Nat} {x1 : Int32} {x2 : Int32} {x3 : Int32} {x4 : Int32} {x5 : Int32} {h : XH} {s : Int32 × Int32 × XH} {o : (Int32 × XH)} (hl : xloop (fun s => k_X1_byDamp_L64 n g E.2.2.2 x0 x1 x2 x3 x4 x5 s.1 s.2.1 s.2.2) n s = some o) (hK : K_X1_byDamp_L64 l E hf res g h x0 x1 x2 x3 x4 x5 o) : CX l E mX1_byDamp (5 * g + 10) 64 [(0, .ref x0), (1, .int x1), (2, .int x2), (3, .int x3), (4, .int x4), (5, .int x5), (6, .int s.1), (7, .int s.2.1)] [] s.2.2 hf res :=
  xloop_of (fun s : Int32 × Int32 × XH => CX l E mX1_byDamp (5 * g + 10) 64 [(0, .ref x0), (1, .int x1), (2, .int x2), (3, .int x3), (4, .int x4), (5, .int x5), (6, .int s.1), (7, .int s.2.1)] [] s.2.2 hf res) (fun r => K_X1_byDamp_L64 l E hf res g h x0 x1 x2 x3 x4 x5 r) (fun s o hl hk => k_X1_byDamp_L64_s (h := s.2.2) (o := o) hl hk) n s o hl hK
set_option maxHeartbeats 4000000 in
theorem k_X1_byDamp_L38_s {l : Launch} {E : XEnv} {hf : XH} {res : XO} {n : Nat} {g : Nat} {x0 : Nat} {x1 : Int32} {x2 : Int32} {x3 : Int32} {x4 : Int32} {x5 : Int32} {h : XH} {o : (Int32 × Int32 × XH) ⊕ ((Int32 × XH))} (hl : k_X1_byDamp_L38 n g E.2.2.2 x0 x1 x2 x3 x4 x5 h = some o) (hK : (xk (fun s : Int32 × Int32 × XH => CX l E mX1_byDamp (5 * g + 10) 38 [(0, .ref x0), (1, .int x1), (2, .int x2), (3, .int x3), (4, .int s.1), (5, .int s.2.1)] [] s.2.2 hf res) (fun r => K_X1_byDamp_L38 l E hf res g h x0 x1 x2 x3 r) o)) : CX l E mX1_byDamp (5 * g + 10) 38 [(0, .ref x0), (1, .int x1), (2, .int x2), (3, .int x3), (4, .int x4), (5, .int x5)] [] h hf res := by
  unfold k_X1_byDamp_L38 at hl
  refine cx_iload dX1_byDamp_38 rfl ?_
  refine cx_iconst (v := 1) dX1_byDamp_40 rfl ?_
  refine cx_iload_n dX1_byDamp_41 rfl ?_
  refine cx_ishl dX1_byDamp_42 ?_
  by_cases c18 : x5 ≥ ((1 : Int32) <<< ((x2 : Int32) &&& 31))
  · rw [if_pos c18] at hl
    refine cx_icmp_ge (X := True) (tgt := 157) dX1_byDamp_43 (by decide) (fun _ => ?_) (fun z => absurd c18 z)
    cases hl
    exact cx_lsK hK ⟨rfl, trivial⟩
  · rw [if_neg c18] at hl
    refine cx_icmp_ge (X := True) (tgt := 157) dX1_byDamp_43 (by decide) (fun z => absurd z c18) (fun _ => ?_)
    refine cx_iconst (v := 1) dX1_byDamp_46 rfl ?_
    refine cx_istore dX1_byDamp_47 (by decide) ?_
    refine cx_aload_n dX1_byDamp_49 rfl rfl ?_
    obtain ⟨v19, ev19, hl⟩ := xb hl
    refine cx_getR gF_X1_35 dX1_byDamp_50 ev19 ?_
    refine cx_aload_n dX1_byDamp_53 rfl rfl ?_
    obtain ⟨v20, ev20, hl⟩ := xb hl
    refine cx_getR gF_X1_31 dX1_byDamp_54 ev20 ?_
    obtain ⟨u22, eu22, hl⟩ := xb hl
    obtain ⟨r21, er21, hl⟩ := xb hl
    refine cx_callV (Or.inl ⟨by decide, _, _, rfl⟩) (T_X3_be er21) lV_X1_244 C_X3_be dX1_byDamp_57 eu22 (by decide) rfl (by omega) (Nat.le_of_ble_eq_true rfl) ?_
    refine cx_pop dX1_byDamp_60 rfl ?_
    refine cx_iconst (v := 0) dX1_byDamp_61 rfl ?_
    refine cx_istore dX1_byDamp_62 (by decide) ?_
    obtain ⟨o37, eo37, hl⟩ := xb hl
    refine cx_lsK (k_X1_byDamp_L64_ok (h := r21.2) (s := (1, 0, r21.2)) eo37 ?_) ⟨rfl, rfl, rfl, rfl, rfl, rfl, rfl, rfl, trivial⟩
    refine cx_aload_n dX1_byDamp_130 rfl rfl ?_
    obtain ⟨v38, ev38, hl⟩ := xb hl
    refine cx_getR gF_X1_35 dX1_byDamp_131 ev38 ?_
    obtain ⟨v39, ev39, hl⟩ := xb hl
    refine cx_getI gF_X1_116 dX1_byDamp_134 ev39 ?_
    refine cx_iload_n dX1_byDamp_137 rfl ?_
    obtain ⟨r40, er40, hl⟩ := xb hl
    refine cx_callS (T_X1_isOf er40) lS_X1_183 C_X1_isOf dX1_byDamp_138 rfl (by omega) (Nat.le_of_ble_eq_true rfl) ?_
    by_cases c42 : r40 = 0
    · rw [if_pos c42] at hl
      refine cx_if_eq (X := True) (tgt := 151) dX1_byDamp_141 (by decide) (fun _ => ?_) (fun z => absurd c42 z)
      obtain ⟨w43, ew43, hl⟩ := xb hl
      refine cx_iinc dX1_byDamp_151 rfl (by decide) (Option.some.inj ew43) ?_
      refine cx_goto (tgt := 38) dX1_byDamp_154 (by decide) ?_
      cases hl
      exact cx_lsK hK ⟨rfl, rfl, rfl, rfl, rfl, rfl, trivial⟩
    · rw [if_neg c42] at hl
      refine cx_if_eq (X := True) (tgt := 151) dX1_byDamp_141 (by decide) (fun z => absurd z c42) (fun _ => ?_)
      refine cx_iload dX1_byDamp_144 rfl ?_
      refine cx_iload dX1_byDamp_146 rfl ?_
      refine cx_iadd dX1_byDamp_148 ?_
      obtain ⟨w44, ew44, hl⟩ := xb hl
      refine cx_top (Option.some.inj ew44) ?_
      refine cx_istore dX1_byDamp_149 (by decide) ?_
      obtain ⟨w45, ew45, hl⟩ := xb hl
      refine cx_iinc dX1_byDamp_151 rfl (by decide) (Option.some.inj ew45) ?_
      refine cx_goto (tgt := 38) dX1_byDamp_154 (by decide) ?_
      cases hl
      exact cx_lsK hK ⟨rfl, rfl, rfl, rfl, rfl, rfl, trivial⟩
set_option maxHeartbeats 4000000 in
theorem k_X1_byDamp_L38_ok {l : Launch} {E : XEnv} {hf : XH} {res : XO} {n : Nat} {g : Nat} {x0 : Nat} {x1 : Int32} {x2 : Int32} {x3 : Int32} {h : XH} {s : Int32 × Int32 × XH} {o : (Int32 × XH)} (hl : xloop (fun s => k_X1_byDamp_L38 n g E.2.2.2 x0 x1 x2 x3 s.1 s.2.1 s.2.2) n s = some o) (hK : K_X1_byDamp_L38 l E hf res g h x0 x1 x2 x3 o) : CX l E mX1_byDamp (5 * g + 10) 38 [(0, .ref x0), (1, .int x1), (2, .int x2), (3, .int x3), (4, .int s.1), (5, .int s.2.1)] [] s.2.2 hf res :=
  xloop_of (fun s : Int32 × Int32 × XH => CX l E mX1_byDamp (5 * g + 10) 38 [(0, .ref x0), (1, .int x1), (2, .int x2), (3, .int x3), (4, .int s.1), (5, .int s.2.1)] [] s.2.2 hf res) (fun r => K_X1_byDamp_L38 l E hf res g h x0 x1 x2 x3 r) (fun s o hl hk => k_X1_byDamp_L38_s (h := s.2.2) (o := o) hl hk) n s o hl hK
set_option maxHeartbeats 4000000 in
theorem k_X1_byDamp_J28_s {l : Launch} {E : XEnv}  {n : Nat} {g : Nat} {x0 : Nat} {x1 : Int32} {x2 : Int32} {x3 : Int32} {h : XH} {r : (Int32 ⊕ XX) × XH} (hl : k_X1_byDamp_J28 n g E.2.2.2 x0 x1 x2 x3 h = some r) : CX l E mX1_byDamp (5 * g + 10) 28 [(0, .ref x0), (1, .int x1), (2, .int x2), (3, .int x3)] [] h r.2 (xrI r.1) := by
  unfold k_X1_byDamp_J28 at hl
  refine cx_iconst (v := 0) dX1_byDamp_28 rfl ?_
  obtain ⟨r11, er11, hl⟩ := xb hl
  rcases r11 with ⟨v13 | ⟨C16, q17⟩, h14⟩
  · dsimp only at hl
    refine cx_callS (T_X1_right er11) lS_X1_62 C_X1_right dX1_byDamp_29 rfl (by omega) (Nat.le_of_ble_eq_true rfl) ?_
    refine cx_iconst (v := 0) dX1_byDamp_32 rfl ?_
    refine cx_istore dX1_byDamp_33 (by decide) ?_
    refine cx_iconst (v := 0) dX1_byDamp_35 rfl ?_
    refine cx_istore dX1_byDamp_36 (by decide) ?_
    obtain ⟨o46, eo46, hl⟩ := xb hl
    refine cx_lsK (k_X1_byDamp_L38_ok (h := h14) (s := (0, 0, h14)) eo46 ?_) ⟨rfl, rfl, rfl, rfl, rfl, rfl, trivial⟩
    refine cx_iload dX1_byDamp_157 rfl ?_
    cases hl
    exact cx_iret dX1_byDamp_159 rfl rfl rfl rfl
  · dsimp only at hl
    cases hl
    exact cx_callSx (T_X1_right er11) lS_X1_62 C_X1_right dX1_byDamp_29 rfl (by omega) (Nat.le_of_ble_eq_true rfl) (ct_out rfl rfl (by decide))
set_option maxHeartbeats 4000000 in
theorem T_X1_byDamp {l : Launch} {E : XEnv}  {n : Nat} {g : Nat} {x0 : Nat} {x1 : Int32} {x2 : Int32} {x3 : Int32} {h : XH} {r : (Int32 ⊕ XX) × XH} (hl : k_X1_byDamp n g E.2.2.2 x0 x1 x2 x3 h = some r) : CM l E mX1_byDamp (5 * g + 10) [.ref x0, .int x1, .int x2, .int x3] h (xrI r.1) r.2 := by
  unfold k_X1_byDamp at hl
  refine cm_of (by decide +kernel) rfl (Nat.le_of_ble_eq_true rfl) ?_
  refine cx_aload_n dX1_byDamp_0 rfl rfl ?_
  refine cx_iload_n dX1_byDamp_1 rfl ?_
  obtain ⟨u2, eu2, hl⟩ := xb hl
  obtain ⟨r1, er1, hl⟩ := xb hl
  rcases r1 with ⟨v3 | ⟨C6, q7⟩, h4⟩
  · dsimp only at hl
    refine cx_callV (Or.inl ⟨by decide, _, _, rfl⟩) (T_X1_aHouse er1) lV_X1_173 C_X1_aHouse dX1_byDamp_2 eu2 (by decide) rfl (by omega) (Nat.le_of_ble_eq_true rfl) ?_
    refine cx_iload_n dX1_byDamp_5 rfl ?_
    refine cx_iconst (v := 1) dX1_byDamp_6 rfl ?_
    refine cx_iconst (v := 5) dX1_byDamp_7 rfl ?_
    obtain ⟨r8, er8, hl⟩ := xb hl
    refine cx_callS (T_X1_in er8) lS_X1_139 C_X1_in dX1_byDamp_8 rfl (by omega) (Nat.le_of_ble_eq_true rfl) ?_
    by_cases c10 : r8 = 0
    · rw [if_pos c10] at hl
      refine cx_if_eq (X := True) (tgt := 28) dX1_byDamp_11 (by decide) (fun _ => ?_) (fun z => absurd c10 z)
      exact cx_lsK (k_X1_byDamp_J28_s hl) ⟨rfl, rfl, rfl, rfl, trivial⟩
    · rw [if_neg c10] at hl
      refine cx_if_eq (X := True) (tgt := 28) dX1_byDamp_11 (by decide) (fun z => absurd z c10) (fun _ => ?_)
      refine cx_iload_n dX1_byDamp_14 rfl ?_
      refine cx_iconst (v := 0) dX1_byDamp_15 rfl ?_
      refine cx_bipush (v := 10) dX1_byDamp_16 (by decide) ?_
      obtain ⟨r47, er47, hl⟩ := xb hl
      refine cx_callS (T_X1_in er47) lS_X1_139 C_X1_in dX1_byDamp_18 rfl (by omega) (Nat.le_of_ble_eq_true rfl) ?_
      by_cases c49 : r47 = 0
      · rw [if_pos c49] at hl
        refine cx_if_eq (X := True) (tgt := 28) dX1_byDamp_21 (by decide) (fun _ => ?_) (fun z => absurd c49 z)
        exact cx_lsK (k_X1_byDamp_J28_s hl) ⟨rfl, rfl, rfl, rfl, trivial⟩
      · rw [if_neg c49] at hl
        refine cx_if_eq (X := True) (tgt := 28) dX1_byDamp_21 (by decide) (fun z => absurd z c49) (fun _ => ?_)
        refine cx_iconst (v := 1) dX1_byDamp_24 rfl ?_
        refine cx_goto (tgt := 29) dX1_byDamp_25 (by decide) ?_
        obtain ⟨r50, er50, hl⟩ := xb hl
        rcases r50 with ⟨v52 | ⟨C55, q56⟩, h53⟩
        · dsimp only at hl
          refine cx_callS (T_X1_right er50) lS_X1_62 C_X1_right dX1_byDamp_29 rfl (by omega) (Nat.le_of_ble_eq_true rfl) ?_
          refine cx_iconst (v := 0) dX1_byDamp_32 rfl ?_
          refine cx_istore dX1_byDamp_33 (by decide) ?_
          refine cx_iconst (v := 0) dX1_byDamp_35 rfl ?_
          refine cx_istore dX1_byDamp_36 (by decide) ?_
          obtain ⟨o57, eo57, hl⟩ := xb hl
          refine cx_lsK (k_X1_byDamp_L38_ok (h := h53) (s := (0, 0, h53)) eo57 ?_) ⟨rfl, rfl, rfl, rfl, rfl, rfl, trivial⟩
          refine cx_iload dX1_byDamp_157 rfl ?_
          cases hl
          exact cx_iret dX1_byDamp_159 rfl rfl rfl rfl
        · dsimp only at hl
          cases hl
          exact cx_callSx (T_X1_right er50) lS_X1_62 C_X1_right dX1_byDamp_29 rfl (by omega) (Nat.le_of_ble_eq_true rfl) (ct_out rfl rfl (by decide))
  · dsimp only at hl
    cases hl
    exact cx_callVx (Or.inl ⟨by decide, _, _, rfl⟩) (T_X1_aHouse er1) lV_X1_173 C_X1_aHouse dX1_byDamp_2 eu2 (by decide) rfl (by omega) (Nat.le_of_ble_eq_true rfl) (ct_out rfl rfl (by decide))
def k_X1_alone (n : Nat) (g : Nat) (c : Nat → Value) (x0 : Nat) (x1 : Int32) (x2 : Int32) (h : XH) : Option (Int32 × XH) := (cgR h x0 0 2).bind fun v1 => (ckd h v1 2).bind fun u3 => (k_X3_goesIn n g c v1 x1 x2 h).bind fun r2 => if r2.1 = 0 then some ((-3), r2.2) else (cgR r2.2 x0 0 2).bind fun v5 => (ckd r2.2 v5 2).bind fun u7 => (k_X3_tight v5 x1 x2 r2.2).bind fun r6 => some (((20 : Int32) - ((2 : Int32) * r6)), r2.2)
set_option maxHeartbeats 4000000 in
theorem T_X1_alone {l : Launch} {E : XEnv}  {n : Nat} {g : Nat} {x0 : Nat} {x1 : Int32} {x2 : Int32} {h : XH} {r : Int32 × XH} (hl : k_X1_alone n g E.2.2.2 x0 x1 x2 h = some r) : CM l E mX1_alone (5 * g + 9) [.ref x0, .int x1, .int x2] h (.inl (some (.int r.1))) r.2 := by
  unfold k_X1_alone at hl
  refine cm_of (by decide +kernel) rfl (Nat.le_of_ble_eq_true rfl) ?_
  refine cx_aload_n dX1_alone_0 rfl rfl ?_
  obtain ⟨v1, ev1, hl⟩ := xb hl
  refine cx_getR gF_X1_31 dX1_alone_1 ev1 ?_
  refine cx_iload_n dX1_alone_4 rfl ?_
  refine cx_iload_n dX1_alone_5 rfl ?_
  obtain ⟨u3, eu3, hl⟩ := xb hl
  obtain ⟨r2, er2, hl⟩ := xb hl
  refine cx_callV (Or.inl ⟨by decide, _, _, rfl⟩) (T_X3_goesIn er2) lV_X1_233 C_X3_goesIn dX1_alone_6 eu3 (by decide) rfl (by omega) (Nat.le_of_ble_eq_true rfl) ?_
  by_cases c4 : r2.1 = 0
  · rw [if_pos c4] at hl
    refine cx_if_eq (X := True) (tgt := 29) dX1_alone_9 (by decide) (fun _ => ?_) (fun z => absurd c4 z)
    refine cx_bipush (v := (-3)) dX1_alone_29 (by decide) ?_
    cases hl
    exact cx_iret dX1_alone_31 rfl rfl rfl rfl
  · rw [if_neg c4] at hl
    refine cx_if_eq (X := True) (tgt := 29) dX1_alone_9 (by decide) (fun z => absurd z c4) (fun _ => ?_)
    refine cx_bipush (v := 20) dX1_alone_12 (by decide) ?_
    refine cx_iconst (v := 2) dX1_alone_14 rfl ?_
    refine cx_aload_n dX1_alone_15 rfl rfl ?_
    obtain ⟨v5, ev5, hl⟩ := xb hl
    refine cx_getR gF_X1_31 dX1_alone_16 ev5 ?_
    refine cx_iload_n dX1_alone_19 rfl ?_
    refine cx_iload_n dX1_alone_20 rfl ?_
    obtain ⟨u7, eu7, hl⟩ := xb hl
    obtain ⟨r6, er6, hl⟩ := xb hl
    refine cx_callV (Or.inl ⟨by decide, _, _, rfl⟩) (T_X3_tight er6) lV_X1_100 C_X3_tight dX1_alone_21 eu7 (by decide) rfl (by omega) (Nat.le_of_ble_eq_true rfl) ?_
    refine cx_imul dX1_alone_24 ?_
    refine cx_isub dX1_alone_25 ?_
    refine cx_goto (tgt := 31) dX1_alone_26 (by decide) ?_
    cases hl
    exact cx_iret dX1_alone_31 rfl rfl rfl rfl
def k_X1_gain_J58 (n : Nat) (g : Nat) (c : Nat → Value) (x0 : Nat) (x1 : Int32) (x3 : Int32) (y0 : Int32) (h : XH) : Option (Int32 × XH) := if y0 = 0 then some ((-5), h) else (ckd h x0 0).bind fun u11 => (k_X1_alone n g c x0 x1 x3 h).bind fun r10 => some (r10.1, r10.2)
def k_X1_gain_J53 (n : Nat) (g : Nat) (c : Nat → Value) (x0 : Nat) (x1 : Int32) (x3 : Int32) (h : XH) : Option (Int32 × XH) := k_X1_gain_J58 n g c x0 x1 x3 1 h
def k_X1_gain (n : Nat) (g : Nat) (c : Nat → Value) (x0 : Nat) (x1 : Int32) (x2 : Int32) (x3 : Int32) (x4 : Int32) (x5 : Int32) (h : XH) : Option (Int32 × XH) := if x4 = 0 then some (2, h) else (cgR h x0 0 2).bind fun v2 => (ckd h v2 2).bind fun u4 => (k_X3_tight v2 x1 x3 h).bind fun r3 => (cgR h x0 0 2).bind fun v5 => (ckd h v5 2).bind fun u7 => (k_X3_tight v5 x2 x3 h).bind fun r6 => if x5 = 0 then k_X1_gain_J53 n g c x0 x1 x3 h else if r3 < r6 then k_X1_gain_J53 n g c x0 x1 x3 h else if r3 = r6 then if x1 ≥ x2 then k_X1_gain_J58 n g c x0 x1 x3 0 h else k_X1_gain_J53 n g c x0 x1 x3 h else k_X1_gain_J58 n g c x0 x1 x3 0 h
set_option maxHeartbeats 4000000 in
theorem k_X1_gain_J58_s {l : Launch} {E : XEnv}  {n : Nat} {g : Nat} {x0 : Nat} {x1 : Int32} {x3 : Int32} {y0 : Int32} {h : XH} {r : Int32 × XH} (hl : k_X1_gain_J58 n g E.2.2.2 x0 x1 x3 y0 h = some r) : CX l E mX1_gain (5 * g + 10) 58 [(0, .ref x0), (1, .int x1), (3, .int x3)] [.int y0] h r.2 (.inl (some (.int r.1))) := by
  unfold k_X1_gain_J58 at hl
  refine cx_istore dX1_gain_58 (by decide) ?_
  refine cx_iload dX1_gain_60 rfl ?_
  by_cases c9 : y0 = 0
  · rw [if_pos c9] at hl
    refine cx_if_eq (X := True) (tgt := 74) dX1_gain_62 (by decide) (fun _ => ?_) (fun z => absurd c9 z)
    refine cx_bipush (v := (-5)) dX1_gain_74 (by decide) ?_
    cases hl
    exact cx_iret dX1_gain_76 rfl rfl rfl rfl
  · rw [if_neg c9] at hl
    refine cx_if_eq (X := True) (tgt := 74) dX1_gain_62 (by decide) (fun z => absurd z c9) (fun _ => ?_)
    refine cx_aload_n dX1_gain_65 rfl rfl ?_
    refine cx_iload_n dX1_gain_66 rfl ?_
    refine cx_iload_n dX1_gain_67 rfl ?_
    obtain ⟨u11, eu11, hl⟩ := xb hl
    obtain ⟨r10, er10, hl⟩ := xb hl
    refine cx_callV (Or.inl ⟨by decide, _, _, rfl⟩) (T_X1_alone er10) lV_X1_297 C_X1_alone dX1_gain_68 eu11 (by decide) rfl (by omega) (Nat.le_of_ble_eq_true rfl) ?_
    refine cx_goto (tgt := 76) dX1_gain_71 (by decide) ?_
    cases hl
    exact cx_iret dX1_gain_76 rfl rfl rfl rfl
set_option maxHeartbeats 4000000 in
theorem k_X1_gain_J53_s {l : Launch} {E : XEnv}  {n : Nat} {g : Nat} {x0 : Nat} {x1 : Int32} {x3 : Int32} {h : XH} {r : Int32 × XH} (hl : k_X1_gain_J53 n g E.2.2.2 x0 x1 x3 h = some r) : CX l E mX1_gain (5 * g + 10) 53 [(0, .ref x0), (1, .int x1), (3, .int x3)] [] h r.2 (.inl (some (.int r.1))) := by
  unfold k_X1_gain_J53 at hl
  refine cx_iconst (v := 1) dX1_gain_53 rfl ?_
  refine cx_goto (tgt := 58) dX1_gain_54 (by decide) ?_
  exact cx_lsK (k_X1_gain_J58_s hl) ⟨rfl, rfl, rfl, trivial⟩
set_option maxHeartbeats 4000000 in
theorem T_X1_gain {l : Launch} {E : XEnv}  {n : Nat} {g : Nat} {x0 : Nat} {x1 : Int32} {x2 : Int32} {x3 : Int32} {x4 : Int32} {x5 : Int32} {h : XH} {r : Int32 × XH} (hl : k_X1_gain n g E.2.2.2 x0 x1 x2 x3 x4 x5 h = some r) : CM l E mX1_gain (5 * g + 10) [.ref x0, .int x1, .int x2, .int x3, .int x4, .int x5] h (.inl (some (.int r.1))) r.2 := by
  unfold k_X1_gain at hl
  refine cm_of (by decide +kernel) rfl (Nat.le_of_ble_eq_true rfl) ?_
  refine cx_iload dX1_gain_0 rfl ?_
  by_cases c1 : x4 = 0
  · rw [if_pos c1] at hl
    refine cx_if_ne (X := True) (tgt := 7) dX1_gain_2 (by decide) (fun z => absurd c1 z) (fun _ => ?_)
    refine cx_iconst (v := 2) dX1_gain_5 rfl ?_
    cases hl
    exact cx_iret dX1_gain_6 rfl rfl rfl rfl
  · rw [if_neg c1] at hl
    refine cx_if_ne (X := True) (tgt := 7) dX1_gain_2 (by decide) (fun _ => ?_) (fun z => absurd z c1)
    refine cx_aload_n dX1_gain_7 rfl rfl ?_
    obtain ⟨v2, ev2, hl⟩ := xb hl
    refine cx_getR gF_X1_31 dX1_gain_8 ev2 ?_
    refine cx_iload_n dX1_gain_11 rfl ?_
    refine cx_iload_n dX1_gain_12 rfl ?_
    obtain ⟨u4, eu4, hl⟩ := xb hl
    obtain ⟨r3, er3, hl⟩ := xb hl
    refine cx_callV (Or.inl ⟨by decide, _, _, rfl⟩) (T_X3_tight er3) lV_X1_100 C_X3_tight dX1_gain_13 eu4 (by decide) rfl (by omega) (Nat.le_of_ble_eq_true rfl) ?_
    refine cx_istore dX1_gain_16 (by decide) ?_
    refine cx_aload_n dX1_gain_18 rfl rfl ?_
    obtain ⟨v5, ev5, hl⟩ := xb hl
    refine cx_getR gF_X1_31 dX1_gain_19 ev5 ?_
    refine cx_iload_n dX1_gain_22 rfl ?_
    refine cx_iload_n dX1_gain_23 rfl ?_
    obtain ⟨u7, eu7, hl⟩ := xb hl
    obtain ⟨r6, er6, hl⟩ := xb hl
    refine cx_callV (Or.inl ⟨by decide, _, _, rfl⟩) (T_X3_tight er6) lV_X1_100 C_X3_tight dX1_gain_24 eu7 (by decide) rfl (by omega) (Nat.le_of_ble_eq_true rfl) ?_
    refine cx_istore dX1_gain_27 (by decide) ?_
    refine cx_iload dX1_gain_29 rfl ?_
    by_cases c8 : x5 = 0
    · rw [if_pos c8] at hl
      refine cx_if_eq (X := True) (tgt := 53) dX1_gain_31 (by decide) (fun _ => ?_) (fun z => absurd c8 z)
      exact cx_lsK (k_X1_gain_J53_s hl) ⟨rfl, rfl, rfl, trivial⟩
    · rw [if_neg c8] at hl
      refine cx_if_eq (X := True) (tgt := 53) dX1_gain_31 (by decide) (fun z => absurd z c8) (fun _ => ?_)
      refine cx_iload dX1_gain_34 rfl ?_
      refine cx_iload dX1_gain_36 rfl ?_
      by_cases c12 : r3 < r6
      · rw [if_pos c12] at hl
        refine cx_icmp_lt (X := True) (tgt := 53) dX1_gain_38 (by decide) (fun _ => ?_) (fun z => absurd c12 z)
        exact cx_lsK (k_X1_gain_J53_s hl) ⟨rfl, rfl, rfl, trivial⟩
      · rw [if_neg c12] at hl
        refine cx_icmp_lt (X := True) (tgt := 53) dX1_gain_38 (by decide) (fun z => absurd z c12) (fun _ => ?_)
        refine cx_iload dX1_gain_41 rfl ?_
        refine cx_iload dX1_gain_43 rfl ?_
        by_cases c13 : r3 = r6
        · rw [if_pos c13] at hl
          refine cx_icmp_ne (X := True) (tgt := 57) dX1_gain_45 (by decide) (fun z => absurd c13 z) (fun _ => ?_)
          refine cx_iload_n dX1_gain_48 rfl ?_
          refine cx_iload_n dX1_gain_49 rfl ?_
          by_cases c14 : x1 ≥ x2
          · rw [if_pos c14] at hl
            refine cx_icmp_ge (X := True) (tgt := 57) dX1_gain_50 (by decide) (fun _ => ?_) (fun z => absurd c14 z)
            refine cx_iconst (v := 0) dX1_gain_57 rfl ?_
            exact cx_lsK (k_X1_gain_J58_s hl) ⟨rfl, rfl, rfl, trivial⟩
          · rw [if_neg c14] at hl
            refine cx_icmp_ge (X := True) (tgt := 57) dX1_gain_50 (by decide) (fun z => absurd z c14) (fun _ => ?_)
            exact cx_lsK (k_X1_gain_J53_s hl) ⟨rfl, rfl, rfl, trivial⟩
        · rw [if_neg c13] at hl
          refine cx_icmp_ne (X := True) (tgt := 57) dX1_gain_45 (by decide) (fun _ => ?_) (fun z => absurd z c13)
          refine cx_iconst (v := 0) dX1_gain_57 rfl ?_
          exact cx_lsK (k_X1_gain_J58_s hl) ⟨rfl, rfl, rfl, trivial⟩
def k_X1_game_L52 (n : Nat) (g : Nat) (c : Nat → Value) (x0 : Nat) (x1 : Int32) (x2 : Int32) (x3 : Int32) (x4 : Int32) (x7 : Int32) (x5 : Int32) (x6 : Int32) (x8 : Int32) (h : XH) : Option ((Int32 × Int32 × Int32 × XH) ⊕ ((Int32 × Int32 × XH))) := if x8 ≥ 2 then some (.inr (x5, x6, h)) else (ckd h x0 0).bind fun u40 => (k_X1_gain n g c x0 x1 x2 x3 ((1 : Int32) - x7) x8 h).bind fun r39 => (ckd r39.2 x0 0).bind fun u42 => (k_X1_gain n g c x0 x1 x2 x3 x7 x8 r39.2).bind fun r41 => if r39.1 > r41.1 then (some (x8 + 1)).bind fun w44 => some (.inl (x5, x6, w44, r41.2)) else (ckd r41.2 x0 0).bind fun u46 => (k_X1_gain n g c x0 x2 x1 x3 ((1 : Int32) - x8) x7 r41.2).bind fun r45 => (ckd r45.2 x0 0).bind fun u48 => (k_X1_gain n g c x0 x2 x1 x3 x8 x7 r45.2).bind fun r47 => if r45.1 ≤ r47.1 then if x5 = 0 then (some (((10 : Int32) * x7) + x8)).bind fun w53 => (some (x5 + 1)).bind fun w54 => (some (x8 + 1)).bind fun w55 => some (.inl (w54, w53, w55, r47.2)) else (some (x5 + 1)).bind fun w51 => (some (x8 + 1)).bind fun w52 => some (.inl (w51, x6, w52, r47.2)) else (some (x8 + 1)).bind fun w56 => some (.inl (x5, x6, w56, r47.2))
abbrev K_X1_game_L52 (l : Launch) (E : XEnv) (hf : XH) (res : XO) (g : Nat) (h : XH) (x0 : Nat) (x1 : Int32) (x2 : Int32) (x3 : Int32) (x4 : Int32) (x7 : Int32) (o : (Int32 × Int32 × XH)) : Prop := match o with
  | e => CX l E mX1_game (5 * g + 11) 139 [(0, .ref x0), (1, .int x1), (2, .int x2), (3, .int x3), (4, .int x4), (5, .int e.1), (6, .int e.2.1), (7, .int x7)] [] e.2.2 hf res
def k_X1_game_L43 (n : Nat) (g : Nat) (c : Nat → Value) (x0 : Nat) (x1 : Int32) (x2 : Int32) (x3 : Int32) (x4 : Int32) (x5 : Int32) (x6 : Int32) (x7 : Int32) (h : XH) : Option ((Int32 × Int32 × Int32 × XH) ⊕ ((Int32 × Int32 × XH))) := if x7 ≥ 2 then some (.inr (x5, x6, h)) else (xloop (fun s => k_X1_game_L52 n g c x0 x1 x2 x3 x4 x7 s.1 s.2.1 s.2.2.1 s.2.2.2) n (x5, x6, 0, h)).bind fun o57 => (some (x7 + 1)).bind fun w58 => some (.inl (o57.1, o57.2.1, w58, o57.2.2))
abbrev K_X1_game_L43 (l : Launch) (E : XEnv) (hf : XH) (res : XO) (g : Nat) (h : XH) (x0 : Nat) (x1 : Int32) (x2 : Int32) (x3 : Int32) (x4 : Int32) (o : (Int32 × Int32 × XH)) : Prop := match o with
  | e => CX l E mX1_game (5 * g + 11) 145 [(4, .int x4), (5, .int e.1), (6, .int e.2.1)] [] e.2.2 hf res
def k_X1_game_J31 (n : Nat) (g : Nat) (c : Nat → Value) (x0 : Nat) (x1 : Int32) (x2 : Int32) (x3 : Int32) (x4 : Int32) (y0 : Int32) (h : XH) : Option ((Int32 ⊕ XX) × XH) := (k_X1_right y0 h).bind fun r30 => match r30 with | (.inl v32, h33) => ((xloop (fun s => k_X1_game_L43 n g c x0 x1 x2 x3 x4 s.1 s.2.1 s.2.2.1 s.2.2.2) n (0, (-1), 0, h33)).bind fun o59 => if x4 = 0 then some (.inl o59.1, o59.2.2) else some (.inl o59.2.1, o59.2.2)) | (.inr e34, h33) => (some (.inr e34, h33))
def k_X1_game (n : Nat) (g : Nat) (c : Nat → Value) (x0 : Nat) (x1 : Int32) (x2 : Int32) (x3 : Int32) (x4 : Int32) (h : XH) : Option ((Int32 ⊕ XX) × XH) := (ckd h x0 0).bind fun u2 => (k_X1_aPerson x0 x1 h).bind fun r1 => match r1 with | (.inl v3, h4) => ((ckd h4 x0 0).bind fun u9 => (k_X1_aPerson x0 x2 h4).bind fun r8 => match r8 with | (.inl v10, h11) => ((ckd h11 x0 0).bind fun u16 => (k_X1_aHouse x0 x3 h11).bind fun r15 => match r15 with | (.inl v17, h18) => ((k_X1_oneOf x4 1 h18).bind fun r22 => match r22 with | (.inl v24, h25) => (if x1 = x2 then k_X1_game_J31 n g c x0 x1 x2 x3 x4 0 h25 else k_X1_game_J31 n g c x0 x1 x2 x3 x4 1 h25) | (.inr e26, h25) => (some (.inr e26, h25))) | (.inr e19, h18) => (some (.inr e19, h18))) | (.inr e12, h11) => (some (.inr e12, h11))) | (.inr e5, h4) => (some (.inr e5, h4))
set_option maxHeartbeats 4000000 in
theorem k_X1_game_L52_s {l : Launch} {E : XEnv} {hf : XH} {res : XO} {n : Nat} {g : Nat} {x0 : Nat} {x1 : Int32} {x2 : Int32} {x3 : Int32} {x4 : Int32} {x7 : Int32} {x5 : Int32} {x6 : Int32} {x8 : Int32} {h : XH} {o : (Int32 × Int32 × Int32 × XH) ⊕ ((Int32 × Int32 × XH))} (hl : k_X1_game_L52 n g E.2.2.2 x0 x1 x2 x3 x4 x7 x5 x6 x8 h = some o) (hK : (xk (fun s : Int32 × Int32 × Int32 × XH => CX l E mX1_game (5 * g + 11) 52 [(0, .ref x0), (1, .int x1), (2, .int x2), (3, .int x3), (4, .int x4), (5, .int s.1), (6, .int s.2.1), (7, .int x7), (8, .int s.2.2.1)] [] s.2.2.2 hf res) (fun r => K_X1_game_L52 l E hf res g h x0 x1 x2 x3 x4 x7 r) o)) : CX l E mX1_game (5 * g + 11) 52 [(0, .ref x0), (1, .int x1), (2, .int x2), (3, .int x3), (4, .int x4), (5, .int x5), (6, .int x6), (7, .int x7), (8, .int x8)] [] h hf res := by
  unfold k_X1_game_L52 at hl
  refine cx_iload dX1_game_52 rfl ?_
  refine cx_iconst (v := 2) dX1_game_54 rfl ?_
  by_cases c38 : x8 ≥ 2
  · rw [if_pos c38] at hl
    refine cx_icmp_ge (X := True) (tgt := 139) dX1_game_55 (by decide) (fun _ => ?_) (fun z => absurd c38 z)
    cases hl
    exact cx_lsK hK ⟨rfl, rfl, rfl, rfl, rfl, rfl, rfl, rfl, trivial⟩
  · rw [if_neg c38] at hl
    refine cx_icmp_ge (X := True) (tgt := 139) dX1_game_55 (by decide) (fun z => absurd z c38) (fun _ => ?_)
    refine cx_aload_n dX1_game_58 rfl rfl ?_
    refine cx_iload_n dX1_game_59 rfl ?_
    refine cx_iload_n dX1_game_60 rfl ?_
    refine cx_iload_n dX1_game_61 rfl ?_
    refine cx_iconst (v := 1) dX1_game_62 rfl ?_
    refine cx_iload dX1_game_63 rfl ?_
    refine cx_isub dX1_game_65 ?_
    refine cx_iload dX1_game_66 rfl ?_
    obtain ⟨u40, eu40, hl⟩ := xb hl
    obtain ⟨r39, er39, hl⟩ := xb hl
    refine cx_callV (Or.inl ⟨by decide, _, _, rfl⟩) (T_X1_gain er39) lV_X1_300 C_X1_gain dX1_game_68 eu40 (by decide) rfl (by omega) (Nat.le_of_ble_eq_true rfl) ?_
    refine cx_aload_n dX1_game_71 rfl rfl ?_
    refine cx_iload_n dX1_game_72 rfl ?_
    refine cx_iload_n dX1_game_73 rfl ?_
    refine cx_iload_n dX1_game_74 rfl ?_
    refine cx_iload dX1_game_75 rfl ?_
    refine cx_iload dX1_game_77 rfl ?_
    obtain ⟨u42, eu42, hl⟩ := xb hl
    obtain ⟨r41, er41, hl⟩ := xb hl
    refine cx_callV (Or.inl ⟨by decide, _, _, rfl⟩) (T_X1_gain er41) lV_X1_300 C_X1_gain dX1_game_79 eu42 (by decide) rfl (by omega) (Nat.le_of_ble_eq_true rfl) ?_
    by_cases c43 : r39.1 > r41.1
    · rw [if_pos c43] at hl
      refine cx_icmp_gt (X := True) (tgt := 133) dX1_game_82 (by decide) (fun _ => ?_) (fun z => absurd c43 z)
      obtain ⟨w44, ew44, hl⟩ := xb hl
      refine cx_iinc dX1_game_133 rfl (by decide) (Option.some.inj ew44) ?_
      refine cx_goto (tgt := 52) dX1_game_136 (by decide) ?_
      cases hl
      exact cx_lsK hK ⟨rfl, rfl, rfl, rfl, rfl, rfl, rfl, rfl, rfl, trivial⟩
    · rw [if_neg c43] at hl
      refine cx_icmp_gt (X := True) (tgt := 133) dX1_game_82 (by decide) (fun z => absurd z c43) (fun _ => ?_)
      refine cx_aload_n dX1_game_85 rfl rfl ?_
      refine cx_iload_n dX1_game_86 rfl ?_
      refine cx_iload_n dX1_game_87 rfl ?_
      refine cx_iload_n dX1_game_88 rfl ?_
      refine cx_iconst (v := 1) dX1_game_89 rfl ?_
      refine cx_iload dX1_game_90 rfl ?_
      refine cx_isub dX1_game_92 ?_
      refine cx_iload dX1_game_93 rfl ?_
      obtain ⟨u46, eu46, hl⟩ := xb hl
      obtain ⟨r45, er45, hl⟩ := xb hl
      refine cx_callV (Or.inl ⟨by decide, _, _, rfl⟩) (T_X1_gain er45) lV_X1_300 C_X1_gain dX1_game_95 eu46 (by decide) rfl (by omega) (Nat.le_of_ble_eq_true rfl) ?_
      refine cx_aload_n dX1_game_98 rfl rfl ?_
      refine cx_iload_n dX1_game_99 rfl ?_
      refine cx_iload_n dX1_game_100 rfl ?_
      refine cx_iload_n dX1_game_101 rfl ?_
      refine cx_iload dX1_game_102 rfl ?_
      refine cx_iload dX1_game_104 rfl ?_
      obtain ⟨u48, eu48, hl⟩ := xb hl
      obtain ⟨r47, er47, hl⟩ := xb hl
      refine cx_callV (Or.inl ⟨by decide, _, _, rfl⟩) (T_X1_gain er47) lV_X1_300 C_X1_gain dX1_game_106 eu48 (by decide) rfl (by omega) (Nat.le_of_ble_eq_true rfl) ?_
      by_cases c49 : r45.1 ≤ r47.1
      · rw [if_pos c49] at hl
        refine cx_icmp_le (X := True) (tgt := 115) dX1_game_109 (by decide) (fun _ => ?_) (fun z => absurd c49 z)
        refine cx_iload dX1_game_115 rfl ?_
        by_cases c50 : x5 = 0
        · rw [if_pos c50] at hl
          refine cx_if_ne (X := True) (tgt := 130) dX1_game_117 (by decide) (fun z => absurd c50 z) (fun _ => ?_)
          refine cx_bipush (v := 10) dX1_game_120 (by decide) ?_
          refine cx_iload dX1_game_122 rfl ?_
          refine cx_imul dX1_game_124 ?_
          refine cx_iload dX1_game_125 rfl ?_
          refine cx_iadd dX1_game_127 ?_
          obtain ⟨w53, ew53, hl⟩ := xb hl
          refine cx_top (Option.some.inj ew53) ?_
          refine cx_istore dX1_game_128 (by decide) ?_
          obtain ⟨w54, ew54, hl⟩ := xb hl
          refine cx_iinc dX1_game_130 rfl (by decide) (Option.some.inj ew54) ?_
          obtain ⟨w55, ew55, hl⟩ := xb hl
          refine cx_iinc dX1_game_133 rfl (by decide) (Option.some.inj ew55) ?_
          refine cx_goto (tgt := 52) dX1_game_136 (by decide) ?_
          cases hl
          exact cx_lsK hK ⟨rfl, rfl, rfl, rfl, rfl, rfl, rfl, rfl, rfl, trivial⟩
        · rw [if_neg c50] at hl
          refine cx_if_ne (X := True) (tgt := 130) dX1_game_117 (by decide) (fun _ => ?_) (fun z => absurd z c50)
          obtain ⟨w51, ew51, hl⟩ := xb hl
          refine cx_iinc dX1_game_130 rfl (by decide) (Option.some.inj ew51) ?_
          obtain ⟨w52, ew52, hl⟩ := xb hl
          refine cx_iinc dX1_game_133 rfl (by decide) (Option.some.inj ew52) ?_
          refine cx_goto (tgt := 52) dX1_game_136 (by decide) ?_
          cases hl
          exact cx_lsK hK ⟨rfl, rfl, rfl, rfl, rfl, rfl, rfl, rfl, rfl, trivial⟩
      · rw [if_neg c49] at hl
        refine cx_icmp_le (X := True) (tgt := 115) dX1_game_109 (by decide) (fun z => absurd z c49) (fun _ => ?_)
        refine cx_goto (tgt := 133) dX1_game_112 (by decide) ?_
        obtain ⟨w56, ew56, hl⟩ := xb hl
        refine cx_iinc dX1_game_133 rfl (by decide) (Option.some.inj ew56) ?_
        refine cx_goto (tgt := 52) dX1_game_136 (by decide) ?_
        cases hl
        exact cx_lsK hK ⟨rfl, rfl, rfl, rfl, rfl, rfl, rfl, rfl, rfl, trivial⟩
set_option maxHeartbeats 4000000 in
theorem k_X1_game_L52_ok {l : Launch} {E : XEnv} {hf : XH} {res : XO} {n : Nat} {g : Nat} {x0 : Nat} {x1 : Int32} {x2 : Int32} {x3 : Int32} {x4 : Int32} {x7 : Int32} {h : XH} {s : Int32 × Int32 × Int32 × XH} {o : (Int32 × Int32 × XH)} (hl : xloop (fun s => k_X1_game_L52 n g E.2.2.2 x0 x1 x2 x3 x4 x7 s.1 s.2.1 s.2.2.1 s.2.2.2) n s = some o) (hK : K_X1_game_L52 l E hf res g h x0 x1 x2 x3 x4 x7 o) : CX l E mX1_game (5 * g + 11) 52 [(0, .ref x0), (1, .int x1), (2, .int x2), (3, .int x3), (4, .int x4), (5, .int s.1), (6, .int s.2.1), (7, .int x7), (8, .int s.2.2.1)] [] s.2.2.2 hf res :=
  xloop_of (fun s : Int32 × Int32 × Int32 × XH => CX l E mX1_game (5 * g + 11) 52 [(0, .ref x0), (1, .int x1), (2, .int x2), (3, .int x3), (4, .int x4), (5, .int s.1), (6, .int s.2.1), (7, .int x7), (8, .int s.2.2.1)] [] s.2.2.2 hf res) (fun r => K_X1_game_L52 l E hf res g h x0 x1 x2 x3 x4 x7 r) (fun s o hl hk => k_X1_game_L52_s (h := s.2.2.2) (o := o) hl hk) n s o hl hK
set_option maxHeartbeats 4000000 in
theorem k_X1_game_L43_s {l : Launch} {E : XEnv} {hf : XH} {res : XO} {n : Nat} {g : Nat} {x0 : Nat} {x1 : Int32} {x2 : Int32} {x3 : Int32} {x4 : Int32} {x5 : Int32} {x6 : Int32} {x7 : Int32} {h : XH} {o : (Int32 × Int32 × Int32 × XH) ⊕ ((Int32 × Int32 × XH))} (hl : k_X1_game_L43 n g E.2.2.2 x0 x1 x2 x3 x4 x5 x6 x7 h = some o) (hK : (xk (fun s : Int32 × Int32 × Int32 × XH => CX l E mX1_game (5 * g + 11) 43 [(0, .ref x0), (1, .int x1), (2, .int x2), (3, .int x3), (4, .int x4), (5, .int s.1), (6, .int s.2.1), (7, .int s.2.2.1)] [] s.2.2.2 hf res) (fun r => K_X1_game_L43 l E hf res g h x0 x1 x2 x3 x4 r) o)) : CX l E mX1_game (5 * g + 11) 43 [(0, .ref x0), (1, .int x1), (2, .int x2), (3, .int x3), (4, .int x4), (5, .int x5), (6, .int x6), (7, .int x7)] [] h hf res := by
  unfold k_X1_game_L43 at hl
  refine cx_iload dX1_game_43 rfl ?_
  refine cx_iconst (v := 2) dX1_game_45 rfl ?_
  by_cases c37 : x7 ≥ 2
  · rw [if_pos c37] at hl
    refine cx_icmp_ge (X := True) (tgt := 145) dX1_game_46 (by decide) (fun _ => ?_) (fun z => absurd c37 z)
    cases hl
    exact cx_lsK hK ⟨rfl, rfl, rfl, trivial⟩
  · rw [if_neg c37] at hl
    refine cx_icmp_ge (X := True) (tgt := 145) dX1_game_46 (by decide) (fun z => absurd z c37) (fun _ => ?_)
    refine cx_iconst (v := 0) dX1_game_49 rfl ?_
    refine cx_istore dX1_game_50 (by decide) ?_
    obtain ⟨o57, eo57, hl⟩ := xb hl
    refine cx_lsK (k_X1_game_L52_ok (h := h) (s := (x5, x6, 0, h)) eo57 ?_) ⟨rfl, rfl, rfl, rfl, rfl, rfl, rfl, rfl, rfl, trivial⟩
    obtain ⟨w58, ew58, hl⟩ := xb hl
    refine cx_iinc dX1_game_139 rfl (by decide) (Option.some.inj ew58) ?_
    refine cx_goto (tgt := 43) dX1_game_142 (by decide) ?_
    cases hl
    exact cx_lsK hK ⟨rfl, rfl, rfl, rfl, rfl, rfl, rfl, rfl, trivial⟩
set_option maxHeartbeats 4000000 in
theorem k_X1_game_L43_ok {l : Launch} {E : XEnv} {hf : XH} {res : XO} {n : Nat} {g : Nat} {x0 : Nat} {x1 : Int32} {x2 : Int32} {x3 : Int32} {x4 : Int32} {h : XH} {s : Int32 × Int32 × Int32 × XH} {o : (Int32 × Int32 × XH)} (hl : xloop (fun s => k_X1_game_L43 n g E.2.2.2 x0 x1 x2 x3 x4 s.1 s.2.1 s.2.2.1 s.2.2.2) n s = some o) (hK : K_X1_game_L43 l E hf res g h x0 x1 x2 x3 x4 o) : CX l E mX1_game (5 * g + 11) 43 [(0, .ref x0), (1, .int x1), (2, .int x2), (3, .int x3), (4, .int x4), (5, .int s.1), (6, .int s.2.1), (7, .int s.2.2.1)] [] s.2.2.2 hf res :=
  xloop_of (fun s : Int32 × Int32 × Int32 × XH => CX l E mX1_game (5 * g + 11) 43 [(0, .ref x0), (1, .int x1), (2, .int x2), (3, .int x3), (4, .int x4), (5, .int s.1), (6, .int s.2.1), (7, .int s.2.2.1)] [] s.2.2.2 hf res) (fun r => K_X1_game_L43 l E hf res g h x0 x1 x2 x3 x4 r) (fun s o hl hk => k_X1_game_L43_s (h := s.2.2.2) (o := o) hl hk) n s o hl hK
set_option maxHeartbeats 4000000 in
theorem k_X1_game_J31_s {l : Launch} {E : XEnv}  {n : Nat} {g : Nat} {x0 : Nat} {x1 : Int32} {x2 : Int32} {x3 : Int32} {x4 : Int32} {y0 : Int32} {h : XH} {r : (Int32 ⊕ XX) × XH} (hl : k_X1_game_J31 n g E.2.2.2 x0 x1 x2 x3 x4 y0 h = some r) : CX l E mX1_game (5 * g + 11) 31 [(0, .ref x0), (1, .int x1), (2, .int x2), (3, .int x3), (4, .int x4)] [.int y0] h r.2 (xrI r.1) := by
  unfold k_X1_game_J31 at hl
  obtain ⟨r30, er30, hl⟩ := xb hl
  rcases r30 with ⟨v32 | ⟨C35, q36⟩, h33⟩
  · dsimp only at hl
    refine cx_callS (T_X1_right er30) lS_X1_62 C_X1_right dX1_game_31 rfl (by omega) (Nat.le_of_ble_eq_true rfl) ?_
    refine cx_iconst (v := 0) dX1_game_34 rfl ?_
    refine cx_istore dX1_game_35 (by decide) ?_
    refine cx_iconst (v := (-1)) dX1_game_37 rfl ?_
    refine cx_istore dX1_game_38 (by decide) ?_
    refine cx_iconst (v := 0) dX1_game_40 rfl ?_
    refine cx_istore dX1_game_41 (by decide) ?_
    obtain ⟨o59, eo59, hl⟩ := xb hl
    refine cx_lsK (k_X1_game_L43_ok (h := h33) (s := (0, (-1), 0, h33)) eo59 ?_) ⟨rfl, rfl, rfl, rfl, rfl, rfl, rfl, rfl, trivial⟩
    refine cx_iload dX1_game_145 rfl ?_
    by_cases c60 : x4 = 0
    · rw [if_pos c60] at hl
      refine cx_if_ne (X := True) (tgt := 155) dX1_game_147 (by decide) (fun z => absurd c60 z) (fun _ => ?_)
      refine cx_iload dX1_game_150 rfl ?_
      refine cx_goto (tgt := 157) dX1_game_152 (by decide) ?_
      cases hl
      exact cx_iret dX1_game_157 rfl rfl rfl rfl
    · rw [if_neg c60] at hl
      refine cx_if_ne (X := True) (tgt := 155) dX1_game_147 (by decide) (fun _ => ?_) (fun z => absurd z c60)
      refine cx_iload dX1_game_155 rfl ?_
      cases hl
      exact cx_iret dX1_game_157 rfl rfl rfl rfl
  · dsimp only at hl
    cases hl
    exact cx_callSx (T_X1_right er30) lS_X1_62 C_X1_right dX1_game_31 rfl (by omega) (Nat.le_of_ble_eq_true rfl) (ct_out rfl rfl (by decide))
set_option maxHeartbeats 4000000 in
theorem T_X1_game {l : Launch} {E : XEnv}  {n : Nat} {g : Nat} {x0 : Nat} {x1 : Int32} {x2 : Int32} {x3 : Int32} {x4 : Int32} {h : XH} {r : (Int32 ⊕ XX) × XH} (hl : k_X1_game n g E.2.2.2 x0 x1 x2 x3 x4 h = some r) : CM l E mX1_game (5 * g + 11) [.ref x0, .int x1, .int x2, .int x3, .int x4] h (xrI r.1) r.2 := by
  unfold k_X1_game at hl
  refine cm_of (by decide +kernel) rfl (Nat.le_of_ble_eq_true rfl) ?_
  refine cx_aload_n dX1_game_0 rfl rfl ?_
  refine cx_iload_n dX1_game_1 rfl ?_
  obtain ⟨u2, eu2, hl⟩ := xb hl
  obtain ⟨r1, er1, hl⟩ := xb hl
  rcases r1 with ⟨v3 | ⟨C6, q7⟩, h4⟩
  · dsimp only at hl
    refine cx_callV (Or.inl ⟨by decide, _, _, rfl⟩) (T_X1_aPerson er1) lV_X1_193 C_X1_aPerson dX1_game_2 eu2 (by decide) rfl (by omega) (Nat.le_of_ble_eq_true rfl) ?_
    refine cx_aload_n dX1_game_5 rfl rfl ?_
    refine cx_iload_n dX1_game_6 rfl ?_
    obtain ⟨u9, eu9, hl⟩ := xb hl
    obtain ⟨r8, er8, hl⟩ := xb hl
    rcases r8 with ⟨v10 | ⟨C13, q14⟩, h11⟩
    · dsimp only at hl
      refine cx_callV (Or.inl ⟨by decide, _, _, rfl⟩) (T_X1_aPerson er8) lV_X1_193 C_X1_aPerson dX1_game_7 eu9 (by decide) rfl (by omega) (Nat.le_of_ble_eq_true rfl) ?_
      refine cx_aload_n dX1_game_10 rfl rfl ?_
      refine cx_iload_n dX1_game_11 rfl ?_
      obtain ⟨u16, eu16, hl⟩ := xb hl
      obtain ⟨r15, er15, hl⟩ := xb hl
      rcases r15 with ⟨v17 | ⟨C20, q21⟩, h18⟩
      · dsimp only at hl
        refine cx_callV (Or.inl ⟨by decide, _, _, rfl⟩) (T_X1_aHouse er15) lV_X1_173 C_X1_aHouse dX1_game_12 eu16 (by decide) rfl (by omega) (Nat.le_of_ble_eq_true rfl) ?_
        refine cx_iload dX1_game_15 rfl ?_
        refine cx_iconst (v := 1) dX1_game_17 rfl ?_
        obtain ⟨r22, er22, hl⟩ := xb hl
        rcases r22 with ⟨v24 | ⟨C27, q28⟩, h25⟩
        · dsimp only at hl
          refine cx_callS (T_X1_oneOf er22) lS_X1_196 C_X1_oneOf dX1_game_18 rfl (by omega) (Nat.le_of_ble_eq_true rfl) ?_
          refine cx_iload_n dX1_game_21 rfl ?_
          refine cx_iload_n dX1_game_22 rfl ?_
          by_cases c29 : x1 = x2
          · rw [if_pos c29] at hl
            refine cx_icmp_eq (X := True) (tgt := 30) dX1_game_23 (by decide) (fun _ => ?_) (fun z => absurd c29 z)
            refine cx_iconst (v := 0) dX1_game_30 rfl ?_
            exact cx_lsK (k_X1_game_J31_s hl) ⟨rfl, rfl, rfl, rfl, rfl, trivial⟩
          · rw [if_neg c29] at hl
            refine cx_icmp_eq (X := True) (tgt := 30) dX1_game_23 (by decide) (fun z => absurd z c29) (fun _ => ?_)
            refine cx_iconst (v := 1) dX1_game_26 rfl ?_
            refine cx_goto (tgt := 31) dX1_game_27 (by decide) ?_
            exact cx_lsK (k_X1_game_J31_s hl) ⟨rfl, rfl, rfl, rfl, rfl, trivial⟩
        · dsimp only at hl
          cases hl
          exact cx_callSx (T_X1_oneOf er22) lS_X1_196 C_X1_oneOf dX1_game_18 rfl (by omega) (Nat.le_of_ble_eq_true rfl) (ct_out rfl rfl (by decide))
      · dsimp only at hl
        cases hl
        exact cx_callVx (Or.inl ⟨by decide, _, _, rfl⟩) (T_X1_aHouse er15) lV_X1_173 C_X1_aHouse dX1_game_12 eu16 (by decide) rfl (by omega) (Nat.le_of_ble_eq_true rfl) (ct_out rfl rfl (by decide))
    · dsimp only at hl
      cases hl
      exact cx_callVx (Or.inl ⟨by decide, _, _, rfl⟩) (T_X1_aPerson er8) lV_X1_193 C_X1_aPerson dX1_game_7 eu9 (by decide) rfl (by omega) (Nat.le_of_ble_eq_true rfl) (ct_out rfl rfl (by decide))
  · dsimp only at hl
    cases hl
    exact cx_callVx (Or.inl ⟨by decide, _, _, rfl⟩) (T_X1_aPerson er1) lV_X1_193 C_X1_aPerson dX1_game_2 eu2 (by decide) rfl (by omega) (Nat.le_of_ble_eq_true rfl) (ct_out rfl rfl (by decide))
def k_X1_draw (x0 : Nat) (x1 : Int32) (h : XH) : Option (Int32 × XH) := (cgI h x0 0 13).bind fun v1 => (cpu h x0 0 13 (.int ((v1 * 1103515245) + 12345))).bind fun h2 => (cgI h2 x0 0 13).bind fun v3 => if x1 = 0 then none else some ((((v3 >>> ((16 : Int32) &&& 31)) &&& 32767) - ((v3 >>> ((16 : Int32) &&& 31)) &&& 32767) / x1 * x1), h2)
set_option maxHeartbeats 4000000 in
theorem T_X1_draw {l : Launch} {E : XEnv}  {x0 : Nat} {x1 : Int32} {h : XH} {r : Int32 × XH} (hl : k_X1_draw x0 x1 h = some r) : CM l E mX1_draw 1 [.ref x0, .int x1] h (.inl (some (.int r.1))) r.2 := by
  unfold k_X1_draw at hl
  refine cm_of (by decide +kernel) rfl (Nat.le_of_ble_eq_true rfl) ?_
  refine cx_aload_n dX1_draw_0 rfl rfl ?_
  refine cx_aload_n dX1_draw_1 rfl rfl ?_
  obtain ⟨v1, ev1, hl⟩ := xb hl
  refine cx_getI gF_X1_304 dX1_draw_2 ev1 ?_
  refine cx_ldcw (v := 1103515245) q1526 dX1_draw_5 ?_
  refine cx_imul dX1_draw_8 ?_
  refine cx_sipush (v := 12345) dX1_draw_9 (by decide) ?_
  refine cx_iadd dX1_draw_12 ?_
  obtain ⟨h2, eh2, hl⟩ := xb hl
  refine cx_putI pF_X1_304 dX1_draw_13 eh2 ?_
  refine cx_aload_n dX1_draw_16 rfl rfl ?_
  obtain ⟨v3, ev3, hl⟩ := xb hl
  refine cx_getI gF_X1_304 dX1_draw_17 ev3 ?_
  refine cx_bipush (v := 16) dX1_draw_20 (by decide) ?_
  refine cx_ishr dX1_draw_22 ?_
  refine cx_sipush (v := 32767) dX1_draw_23 (by decide) ?_
  refine cx_iand dX1_draw_26 ?_
  refine cx_iload_n dX1_draw_27 rfl ?_
  by_cases z4 : x1 = 0
  · rw [if_pos z4] at hl; cases hl
  rw [if_neg z4] at hl
  refine cx_irem dX1_draw_28 z4 ?_
  cases hl
  exact cx_iret dX1_draw_29 rfl rfl rfl rfl
def k_X1_befalls (n : Nat) (g : Nat) (c : Nat → Value) (x0 : Nat) (h : XH) : Option (XH) := (cgR h x0 0 3).bind fun v1 => (ckd h x0 0).bind fun u3 => (k_X1_draw x0 10 h).bind fun r2 => (cpu r2.2 v1 2 8 (.int r2.1)).bind fun h4 => (cgR h4 x0 0 1).bind fun v5 => (ckd h4 v5 1).bind fun u7 => (k_X2_people v5 h4).bind fun r6 => if r6 = 0 then some h4 else (cgR h4 x0 0 1).bind fun v9 => (ckd h4 v9 1).bind fun u11 => (k_X2_houses v9 h4).bind fun r10 => if r10 = 0 then some h4 else (cgR h4 x0 0 1).bind fun v13 => (ckd h4 v13 1).bind fun u15 => (k_X2_people v13 h4).bind fun r14 => (ckd h4 x0 0).bind fun u17 => (k_X1_draw x0 r14 h4).bind fun r16 => (cgR r16.2 x0 0 1).bind fun v18 => (ckd r16.2 v18 1).bind fun u20 => (k_X2_houses v18 r16.2).bind fun r19 => (ckd r16.2 x0 0).bind fun u22 => (k_X1_draw x0 r19 r16.2).bind fun r21 => (cgR r21.2 x0 0 3).bind fun v23 => (ckd r21.2 v23 2).bind fun u25 => (k_X3_canPut n g c v23 r16.1 r21.1 r21.2).bind fun r24 => if r24.1 = 0 then some r24.2 else (cgR r24.2 x0 0 3).bind fun v27 => (cgR r24.2 v27 2 3).bind fun v28 => (csu r24.2 v28 100 r16.1 (.int r21.1)).bind fun h29 => some h29
set_option maxHeartbeats 4000000 in
theorem T_X1_befalls {l : Launch} {E : XEnv}  {n : Nat} {g : Nat} {x0 : Nat} {h : XH} {r : XH} (hl : k_X1_befalls n g E.2.2.2 x0 h = some r) : CM l E mX1_befalls (5 * g + 10) [.ref x0] h (.inl none) r := by
  unfold k_X1_befalls at hl
  refine cm_of (by decide +kernel) rfl (Nat.le_of_ble_eq_true rfl) ?_
  refine cx_aload_n dX1_befalls_0 rfl rfl ?_
  obtain ⟨v1, ev1, hl⟩ := xb hl
  refine cx_getR gF_X1_35 dX1_befalls_1 ev1 ?_
  refine cx_aload_n dX1_befalls_4 rfl rfl ?_
  refine cx_bipush (v := 10) dX1_befalls_5 (by decide) ?_
  obtain ⟨u3, eu3, hl⟩ := xb hl
  obtain ⟨r2, er2, hl⟩ := xb hl
  refine cx_callV (Or.inl ⟨by decide, _, _, rfl⟩) (T_X1_draw er2) lV_X1_308 C_X1_draw dX1_befalls_7 eu3 (by decide) rfl (by omega) (Nat.le_of_ble_eq_true rfl) ?_
  obtain ⟨h4, eh4, hl⟩ := xb hl
  refine cx_putI pF_X1_295 dX1_befalls_10 eh4 ?_
  refine cx_aload_n dX1_befalls_13 rfl rfl ?_
  obtain ⟨v5, ev5, hl⟩ := xb hl
  refine cx_getR gF_X1_22 dX1_befalls_14 ev5 ?_
  obtain ⟨u7, eu7, hl⟩ := xb hl
  obtain ⟨r6, er6, hl⟩ := xb hl
  refine cx_callV (Or.inl ⟨by decide, _, _, rfl⟩) (T_X2_people er6) lV_X1_104 C_X2_people dX1_befalls_17 eu7 (by decide) rfl (by omega) (Nat.le_of_ble_eq_true rfl) ?_
  by_cases c8 : r6 = 0
  · rw [if_pos c8] at hl
    refine cx_if_eq (X := True) (tgt := 33) dX1_befalls_20 (by decide) (fun _ => ?_) (fun z => absurd c8 z)
    cases hl
    exact cx_vret dX1_befalls_33 rfl rfl rfl
  · rw [if_neg c8] at hl
    refine cx_if_eq (X := True) (tgt := 33) dX1_befalls_20 (by decide) (fun z => absurd z c8) (fun _ => ?_)
    refine cx_aload_n dX1_befalls_23 rfl rfl ?_
    obtain ⟨v9, ev9, hl⟩ := xb hl
    refine cx_getR gF_X1_22 dX1_befalls_24 ev9 ?_
    obtain ⟨u11, eu11, hl⟩ := xb hl
    obtain ⟨r10, er10, hl⟩ := xb hl
    refine cx_callV (Or.inl ⟨by decide, _, _, rfl⟩) (T_X2_houses er10) lV_X1_89 C_X2_houses dX1_befalls_27 eu11 (by decide) rfl (by omega) (Nat.le_of_ble_eq_true rfl) ?_
    by_cases c12 : r10 = 0
    · rw [if_pos c12] at hl
      refine cx_if_ne (X := True) (tgt := 34) dX1_befalls_30 (by decide) (fun z => absurd c12 z) (fun _ => ?_)
      cases hl
      exact cx_vret dX1_befalls_33 rfl rfl rfl
    · rw [if_neg c12] at hl
      refine cx_if_ne (X := True) (tgt := 34) dX1_befalls_30 (by decide) (fun _ => ?_) (fun z => absurd z c12)
      refine cx_aload_n dX1_befalls_34 rfl rfl ?_
      refine cx_aload_n dX1_befalls_35 rfl rfl ?_
      obtain ⟨v13, ev13, hl⟩ := xb hl
      refine cx_getR gF_X1_22 dX1_befalls_36 ev13 ?_
      obtain ⟨u15, eu15, hl⟩ := xb hl
      obtain ⟨r14, er14, hl⟩ := xb hl
      refine cx_callV (Or.inl ⟨by decide, _, _, rfl⟩) (T_X2_people er14) lV_X1_104 C_X2_people dX1_befalls_39 eu15 (by decide) rfl (by omega) (Nat.le_of_ble_eq_true rfl) ?_
      obtain ⟨u17, eu17, hl⟩ := xb hl
      obtain ⟨r16, er16, hl⟩ := xb hl
      refine cx_callV (Or.inl ⟨by decide, _, _, rfl⟩) (T_X1_draw er16) lV_X1_308 C_X1_draw dX1_befalls_42 eu17 (by decide) rfl (by omega) (Nat.le_of_ble_eq_true rfl) ?_
      refine cx_istore_n dX1_befalls_45 (by decide) ?_
      refine cx_aload_n dX1_befalls_46 rfl rfl ?_
      refine cx_aload_n dX1_befalls_47 rfl rfl ?_
      obtain ⟨v18, ev18, hl⟩ := xb hl
      refine cx_getR gF_X1_22 dX1_befalls_48 ev18 ?_
      obtain ⟨u20, eu20, hl⟩ := xb hl
      obtain ⟨r19, er19, hl⟩ := xb hl
      refine cx_callV (Or.inl ⟨by decide, _, _, rfl⟩) (T_X2_houses er19) lV_X1_89 C_X2_houses dX1_befalls_51 eu20 (by decide) rfl (by omega) (Nat.le_of_ble_eq_true rfl) ?_
      obtain ⟨u22, eu22, hl⟩ := xb hl
      obtain ⟨r21, er21, hl⟩ := xb hl
      refine cx_callV (Or.inl ⟨by decide, _, _, rfl⟩) (T_X1_draw er21) lV_X1_308 C_X1_draw dX1_befalls_54 eu22 (by decide) rfl (by omega) (Nat.le_of_ble_eq_true rfl) ?_
      refine cx_istore_n dX1_befalls_57 (by decide) ?_
      refine cx_aload_n dX1_befalls_58 rfl rfl ?_
      obtain ⟨v23, ev23, hl⟩ := xb hl
      refine cx_getR gF_X1_35 dX1_befalls_59 ev23 ?_
      refine cx_iload_n dX1_befalls_62 rfl ?_
      refine cx_iload_n dX1_befalls_63 rfl ?_
      obtain ⟨u25, eu25, hl⟩ := xb hl
      obtain ⟨r24, er24, hl⟩ := xb hl
      refine cx_callV (Or.inl ⟨by decide, _, _, rfl⟩) (T_X3_canPut er24) lV_X1_230 C_X3_canPut dX1_befalls_64 eu25 (by decide) rfl (by omega) (Nat.le_of_ble_eq_true rfl) ?_
      by_cases c26 : r24.1 = 0
      · rw [if_pos c26] at hl
        refine cx_if_eq (X := True) (tgt := 80) dX1_befalls_67 (by decide) (fun _ => ?_) (fun z => absurd c26 z)
        cases hl
        exact cx_vret dX1_befalls_80 rfl rfl rfl
      · rw [if_neg c26] at hl
        refine cx_if_eq (X := True) (tgt := 80) dX1_befalls_67 (by decide) (fun z => absurd z c26) (fun _ => ?_)
        refine cx_aload_n dX1_befalls_70 rfl rfl ?_
        obtain ⟨v27, ev27, hl⟩ := xb hl
        refine cx_getR gF_X1_35 dX1_befalls_71 ev27 ?_
        obtain ⟨v28, ev28, hl⟩ := xb hl
        refine cx_getR gF_X1_97 dX1_befalls_74 ev28 ?_
        refine cx_iload_n dX1_befalls_77 rfl ?_
        refine cx_iload_n dX1_befalls_78 rfl ?_
        obtain ⟨h29, eh29, hl⟩ := xb hl
        refine cx_iast dX1_befalls_79 eh29 ?_
        cases hl
        exact cx_vret dX1_befalls_80 rfl rfl rfl
def k_J14_bitCount (x0 : Int32) (h : XH) : Option (Int32) := (some (x0 - ((((x0 : Int32).toUInt32 >>> ((1 : Int32).toUInt32 &&& Int32.toUInt32 31)).toInt32) &&& 1431655765))).bind fun w1 => (some ((w1 &&& 858993459) + ((((w1 : Int32).toUInt32 >>> ((2 : Int32).toUInt32 &&& Int32.toUInt32 31)).toInt32) &&& 858993459))).bind fun w2 => (some ((w2 + (((w2 : Int32).toUInt32 >>> ((4 : Int32).toUInt32 &&& Int32.toUInt32 31)).toInt32)) &&& 252645135)).bind fun w3 => (some (w3 + (((w3 : Int32).toUInt32 >>> ((8 : Int32).toUInt32 &&& Int32.toUInt32 31)).toInt32))).bind fun w4 => (some (w4 + (((w4 : Int32).toUInt32 >>> ((16 : Int32).toUInt32 &&& Int32.toUInt32 31)).toInt32))).bind fun w5 => some (w5 &&& 63)
set_option maxHeartbeats 4000000 in
theorem T_J14_bitCount {l : Launch} {E : XEnv}  {x0 : Int32} {h : XH} {r : Int32} (hl : k_J14_bitCount x0 h = some r) : CM l E mJ14_bitCount 1 [.int x0] h (.inl (some (.int r))) h := by
  unfold k_J14_bitCount at hl
  refine cm_of (by decide +kernel) rfl (Nat.le_of_ble_eq_true rfl) ?_
  refine cx_iload_n dJ14_bitCount_0 rfl ?_
  refine cx_iload_n dJ14_bitCount_1 rfl ?_
  refine cx_iconst (v := 1) dJ14_bitCount_2 rfl ?_
  refine cx_iushr dJ14_bitCount_3 rfl ?_
  refine cx_ldcw (v := 1431655765) q1530 dJ14_bitCount_4 ?_
  refine cx_iand dJ14_bitCount_7 ?_
  refine cx_isub dJ14_bitCount_8 ?_
  obtain ⟨w1, ew1, hl⟩ := xb hl
  refine cx_top (Option.some.inj ew1) ?_
  refine cx_istore_n dJ14_bitCount_9 (by decide) ?_
  refine cx_iload_n dJ14_bitCount_10 rfl ?_
  refine cx_ldcw (v := 858993459) q1531 dJ14_bitCount_11 ?_
  refine cx_iand dJ14_bitCount_14 ?_
  refine cx_iload_n dJ14_bitCount_15 rfl ?_
  refine cx_iconst (v := 2) dJ14_bitCount_16 rfl ?_
  refine cx_iushr dJ14_bitCount_17 rfl ?_
  refine cx_ldcw (v := 858993459) q1531 dJ14_bitCount_18 ?_
  refine cx_iand dJ14_bitCount_21 ?_
  refine cx_iadd dJ14_bitCount_22 ?_
  obtain ⟨w2, ew2, hl⟩ := xb hl
  refine cx_top (Option.some.inj ew2) ?_
  refine cx_istore_n dJ14_bitCount_23 (by decide) ?_
  refine cx_iload_n dJ14_bitCount_24 rfl ?_
  refine cx_iload_n dJ14_bitCount_25 rfl ?_
  refine cx_iconst (v := 4) dJ14_bitCount_26 rfl ?_
  refine cx_iushr dJ14_bitCount_27 rfl ?_
  refine cx_iadd dJ14_bitCount_28 ?_
  refine cx_ldcw (v := 252645135) q1532 dJ14_bitCount_29 ?_
  refine cx_iand dJ14_bitCount_32 ?_
  obtain ⟨w3, ew3, hl⟩ := xb hl
  refine cx_top (Option.some.inj ew3) ?_
  refine cx_istore_n dJ14_bitCount_33 (by decide) ?_
  refine cx_iload_n dJ14_bitCount_34 rfl ?_
  refine cx_iload_n dJ14_bitCount_35 rfl ?_
  refine cx_bipush (v := 8) dJ14_bitCount_36 (by decide) ?_
  refine cx_iushr dJ14_bitCount_38 rfl ?_
  refine cx_iadd dJ14_bitCount_39 ?_
  obtain ⟨w4, ew4, hl⟩ := xb hl
  refine cx_top (Option.some.inj ew4) ?_
  refine cx_istore_n dJ14_bitCount_40 (by decide) ?_
  refine cx_iload_n dJ14_bitCount_41 rfl ?_
  refine cx_iload_n dJ14_bitCount_42 rfl ?_
  refine cx_bipush (v := 16) dJ14_bitCount_43 (by decide) ?_
  refine cx_iushr dJ14_bitCount_45 rfl ?_
  refine cx_iadd dJ14_bitCount_46 ?_
  obtain ⟨w5, ew5, hl⟩ := xb hl
  refine cx_top (Option.some.inj ew5) ?_
  refine cx_istore_n dJ14_bitCount_47 (by decide) ?_
  refine cx_iload_n dJ14_bitCount_48 rfl ?_
  refine cx_bipush (v := 63) dJ14_bitCount_49 (by decide) ?_
  refine cx_iand dJ14_bitCount_51 ?_
  cases hl
  exact cx_iret dJ14_bitCount_52 rfl rfl rfl rfl
def k_X1_years_L35 (n : Nat) (g : Nat) (c : Nat → Value) (x0 : Nat) (x2 : Int32) (x3 : Int32) (x4 : Int32) (h : XH) : Option ((Int32 × XH) ⊕ ((XH))) := if x4 ≥ x2 then some (.inr h) else (ckd h x0 0).bind fun u24 => (k_X1_befalls n g c x0 h).bind fun r23 => (cgR r23 x0 0 3).bind fun v25 => (ckd r23 v25 2).bind fun u27 => (k_X3_pass n g c v25 r23).bind fun r26 => (some (x4 + 1)).bind fun w28 => some (.inl (w28, r26.2))
abbrev K_X1_years_L35 (l : Launch) (E : XEnv) (hf : XH) (res : XO) (g : Nat) (h : XH) (x0 : Nat) (x2 : Int32) (x3 : Int32) (o : (XH)) : Prop := match o with
  | e => CX l E mX1_years (5 * g + 11) 59 [(0, .ref x0), (3, .int x3)] [] e hf res
def k_X1_years (n : Nat) (g : Nat) (c : Nat → Value) (x0 : Nat) (x1 : Int32) (x2 : Int32) (x3 : Int32) (h : XH) : Option ((Int32 ⊕ XX) × XH) := (k_X1_oneOf x3 2 h).bind fun r1 => match r1 with | (.inl v3, h4) => ((k_X1_in x2 0 40 h4).bind fun r8 => (k_X1_right r8 h4).bind fun r10 => match r10 with | (.inl v12, h13) => ((cpu h13 x0 0 13 (.int x1)).bind fun h17 => (cgR h17 x0 0 3).bind fun v18 => (cgR h17 x0 0 2).bind fun v19 => (ckd h17 v18 2).bind fun u21 => (k_X3_be n v18 v19 h17).bind fun r20 => (xloop (fun s => k_X1_years_L35 n g c x0 x2 x3 s.1 s.2) n (0, r20.2)).bind fun o29 => if x3 = 0 then (cgR o29 x0 0 3).bind fun v40 => (cgI o29 v40 2 6).bind fun v41 => (k_J14_bitCount v41 o29).bind fun r42 => some (.inl r42, o29) else if x3 = 1 then (cgR o29 x0 0 3).bind fun v37 => (ckd o29 v37 2).bind fun u39 => (k_X3_allBlisters n v37 o29).bind fun r38 => some (.inl r38, o29) else (cgR o29 x0 0 3).bind fun v32 => (ckd o29 v32 2).bind fun u34 => (k_X3_lodging n v32 o29).bind fun r33 => (k_J14_bitCount r33 o29).bind fun r35 => some (.inl r35, o29)) | (.inr e14, h13) => (some (.inr e14, h13))) | (.inr e5, h4) => (some (.inr e5, h4))
set_option maxHeartbeats 4000000 in
theorem k_X1_years_L35_s {l : Launch} {E : XEnv} {hf : XH} {res : XO} {n : Nat} {g : Nat} {x0 : Nat} {x2 : Int32} {x3 : Int32} {x4 : Int32} {h : XH} {o : (Int32 × XH) ⊕ ((XH))} (hl : k_X1_years_L35 n g E.2.2.2 x0 x2 x3 x4 h = some o) (hK : (xk (fun s : Int32 × XH => CX l E mX1_years (5 * g + 11) 35 [(0, .ref x0), (2, .int x2), (3, .int x3), (4, .int s.1)] [] s.2 hf res) (fun r => K_X1_years_L35 l E hf res g h x0 x2 x3 r) o)) : CX l E mX1_years (5 * g + 11) 35 [(0, .ref x0), (2, .int x2), (3, .int x3), (4, .int x4)] [] h hf res := by
  unfold k_X1_years_L35 at hl
  refine cx_iload dX1_years_35 rfl ?_
  refine cx_iload_n dX1_years_37 rfl ?_
  by_cases c22 : x4 ≥ x2
  · rw [if_pos c22] at hl
    refine cx_icmp_ge (X := True) (tgt := 59) dX1_years_38 (by decide) (fun _ => ?_) (fun z => absurd c22 z)
    cases hl
    exact cx_lsK hK ⟨rfl, rfl, trivial⟩
  · rw [if_neg c22] at hl
    refine cx_icmp_ge (X := True) (tgt := 59) dX1_years_38 (by decide) (fun z => absurd z c22) (fun _ => ?_)
    refine cx_aload_n dX1_years_41 rfl rfl ?_
    obtain ⟨u24, eu24, hl⟩ := xb hl
    obtain ⟨r23, er23, hl⟩ := xb hl
    refine cx_callV (Or.inl ⟨by decide, _, _, rfl⟩) (T_X1_befalls er23) lV_X1_311 C_X1_befalls dX1_years_42 eu24 (by decide) rfl (by omega) (Nat.le_of_ble_eq_true rfl) ?_
    refine cx_aload_n dX1_years_45 rfl rfl ?_
    obtain ⟨v25, ev25, hl⟩ := xb hl
    refine cx_getR gF_X1_35 dX1_years_46 ev25 ?_
    obtain ⟨u27, eu27, hl⟩ := xb hl
    obtain ⟨r26, er26, hl⟩ := xb hl
    refine cx_callV (Or.inl ⟨by decide, _, _, rfl⟩) (T_X3_pass er26) lV_X1_251 C_X3_pass dX1_years_49 eu27 (by decide) rfl (by omega) (Nat.le_of_ble_eq_true rfl) ?_
    refine cx_pop dX1_years_52 rfl ?_
    obtain ⟨w28, ew28, hl⟩ := xb hl
    refine cx_iinc dX1_years_53 rfl (by decide) (Option.some.inj ew28) ?_
    refine cx_goto (tgt := 35) dX1_years_56 (by decide) ?_
    cases hl
    exact cx_lsK hK ⟨rfl, rfl, rfl, rfl, trivial⟩
set_option maxHeartbeats 4000000 in
theorem k_X1_years_L35_ok {l : Launch} {E : XEnv} {hf : XH} {res : XO} {n : Nat} {g : Nat} {x0 : Nat} {x2 : Int32} {x3 : Int32} {h : XH} {s : Int32 × XH} {o : (XH)} (hl : xloop (fun s => k_X1_years_L35 n g E.2.2.2 x0 x2 x3 s.1 s.2) n s = some o) (hK : K_X1_years_L35 l E hf res g h x0 x2 x3 o) : CX l E mX1_years (5 * g + 11) 35 [(0, .ref x0), (2, .int x2), (3, .int x3), (4, .int s.1)] [] s.2 hf res :=
  xloop_of (fun s : Int32 × XH => CX l E mX1_years (5 * g + 11) 35 [(0, .ref x0), (2, .int x2), (3, .int x3), (4, .int s.1)] [] s.2 hf res) (fun r => K_X1_years_L35 l E hf res g h x0 x2 x3 r) (fun s o hl hk => k_X1_years_L35_s (h := s.2) (o := o) hl hk) n s o hl hK
set_option maxHeartbeats 4000000 in
theorem T_X1_years {l : Launch} {E : XEnv}  {n : Nat} {g : Nat} {x0 : Nat} {x1 : Int32} {x2 : Int32} {x3 : Int32} {h : XH} {r : (Int32 ⊕ XX) × XH} (hl : k_X1_years n g E.2.2.2 x0 x1 x2 x3 h = some r) : CM l E mX1_years (5 * g + 11) [.ref x0, .int x1, .int x2, .int x3] h (xrI r.1) r.2 := by
  unfold k_X1_years at hl
  refine cm_of (by decide +kernel) rfl (Nat.le_of_ble_eq_true rfl) ?_
  refine cx_iload_n dX1_years_0 rfl ?_
  refine cx_iconst (v := 2) dX1_years_1 rfl ?_
  obtain ⟨r1, er1, hl⟩ := xb hl
  rcases r1 with ⟨v3 | ⟨C6, q7⟩, h4⟩
  · dsimp only at hl
    refine cx_callS (T_X1_oneOf er1) lS_X1_196 C_X1_oneOf dX1_years_2 rfl (by omega) (Nat.le_of_ble_eq_true rfl) ?_
    refine cx_iload_n dX1_years_5 rfl ?_
    refine cx_iconst (v := 0) dX1_years_6 rfl ?_
    refine cx_bipush (v := 40) dX1_years_7 (by decide) ?_
    obtain ⟨r8, er8, hl⟩ := xb hl
    refine cx_callS (T_X1_in er8) lS_X1_139 C_X1_in dX1_years_9 rfl (by omega) (Nat.le_of_ble_eq_true rfl) ?_
    obtain ⟨r10, er10, hl⟩ := xb hl
    rcases r10 with ⟨v12 | ⟨C15, q16⟩, h13⟩
    · dsimp only at hl
      refine cx_callS (T_X1_right er10) lS_X1_62 C_X1_right dX1_years_12 rfl (by omega) (Nat.le_of_ble_eq_true rfl) ?_
      refine cx_aload_n dX1_years_15 rfl rfl ?_
      refine cx_iload_n dX1_years_16 rfl ?_
      obtain ⟨h17, eh17, hl⟩ := xb hl
      refine cx_putI pF_X1_304 dX1_years_17 eh17 ?_
      refine cx_aload_n dX1_years_20 rfl rfl ?_
      obtain ⟨v18, ev18, hl⟩ := xb hl
      refine cx_getR gF_X1_35 dX1_years_21 ev18 ?_
      refine cx_aload_n dX1_years_24 rfl rfl ?_
      obtain ⟨v19, ev19, hl⟩ := xb hl
      refine cx_getR gF_X1_31 dX1_years_25 ev19 ?_
      obtain ⟨u21, eu21, hl⟩ := xb hl
      obtain ⟨r20, er20, hl⟩ := xb hl
      refine cx_callV (Or.inl ⟨by decide, _, _, rfl⟩) (T_X3_be er20) lV_X1_244 C_X3_be dX1_years_28 eu21 (by decide) rfl (by omega) (Nat.le_of_ble_eq_true rfl) ?_
      refine cx_pop dX1_years_31 rfl ?_
      refine cx_iconst (v := 0) dX1_years_32 rfl ?_
      refine cx_istore dX1_years_33 (by decide) ?_
      obtain ⟨o29, eo29, hl⟩ := xb hl
      refine cx_lsK (k_X1_years_L35_ok (h := r20.2) (s := (0, r20.2)) eo29 ?_) ⟨rfl, rfl, rfl, rfl, trivial⟩
      refine cx_iload_n dX1_years_59 rfl ?_
      by_cases c30 : x3 = 0
      · rw [if_pos c30] at hl
        refine cx_if_ne (X := True) (tgt := 76) dX1_years_60 (by decide) (fun z => absurd c30 z) (fun _ => ?_)
        refine cx_aload_n dX1_years_63 rfl rfl ?_
        obtain ⟨v40, ev40, hl⟩ := xb hl
        refine cx_getR gF_X1_35 dX1_years_64 ev40 ?_
        obtain ⟨v41, ev41, hl⟩ := xb hl
        refine cx_getI gF_X1_116 dX1_years_67 ev41 ?_
        obtain ⟨r42, er42, hl⟩ := xb hl
        refine cx_callS (T_J14_bitCount er42) lS_X1_314 C_J14_bitCount dX1_years_70 rfl (by omega) (Nat.le_of_ble_eq_true rfl) ?_
        refine cx_goto (tgt := 101) dX1_years_73 (by decide) ?_
        cases hl
        exact cx_iret dX1_years_101 rfl rfl rfl rfl
      · rw [if_neg c30] at hl
        refine cx_if_ne (X := True) (tgt := 76) dX1_years_60 (by decide) (fun _ => ?_) (fun z => absurd z c30)
        refine cx_iload_n dX1_years_76 rfl ?_
        refine cx_iconst (v := 1) dX1_years_77 rfl ?_
        by_cases c31 : x3 = 1
        · rw [if_pos c31] at hl
          refine cx_icmp_ne (X := True) (tgt := 91) dX1_years_78 (by decide) (fun z => absurd c31 z) (fun _ => ?_)
          refine cx_aload_n dX1_years_81 rfl rfl ?_
          obtain ⟨v37, ev37, hl⟩ := xb hl
          refine cx_getR gF_X1_35 dX1_years_82 ev37 ?_
          obtain ⟨u39, eu39, hl⟩ := xb hl
          obtain ⟨r38, er38, hl⟩ := xb hl
          refine cx_callV (Or.inl ⟨by decide, _, _, rfl⟩) (T_X3_allBlisters er38) lV_X1_125 C_X3_allBlisters dX1_years_85 eu39 (by decide) rfl (by omega) (Nat.le_of_ble_eq_true rfl) ?_
          refine cx_goto (tgt := 101) dX1_years_88 (by decide) ?_
          cases hl
          exact cx_iret dX1_years_101 rfl rfl rfl rfl
        · rw [if_neg c31] at hl
          refine cx_icmp_ne (X := True) (tgt := 91) dX1_years_78 (by decide) (fun _ => ?_) (fun z => absurd z c31)
          refine cx_aload_n dX1_years_91 rfl rfl ?_
          obtain ⟨v32, ev32, hl⟩ := xb hl
          refine cx_getR gF_X1_35 dX1_years_92 ev32 ?_
          obtain ⟨u34, eu34, hl⟩ := xb hl
          obtain ⟨r33, er33, hl⟩ := xb hl
          refine cx_callV (Or.inl ⟨by decide, _, _, rfl⟩) (T_X3_lodging er33) lV_X1_122 C_X3_lodging dX1_years_95 eu34 (by decide) rfl (by omega) (Nat.le_of_ble_eq_true rfl) ?_
          obtain ⟨r35, er35, hl⟩ := xb hl
          refine cx_callS (T_J14_bitCount er35) lS_X1_314 C_J14_bitCount dX1_years_98 rfl (by omega) (Nat.le_of_ble_eq_true rfl) ?_
          cases hl
          exact cx_iret dX1_years_101 rfl rfl rfl rfl
    · dsimp only at hl
      cases hl
      exact cx_callSx (T_X1_right er10) lS_X1_62 C_X1_right dX1_years_12 rfl (by omega) (Nat.le_of_ble_eq_true rfl) (ct_out rfl rfl (by decide))
  · dsimp only at hl
    cases hl
    exact cx_callSx (T_X1_oneOf er1) lS_X1_196 C_X1_oneOf dX1_years_2 rfl (by omega) (Nat.le_of_ble_eq_true rfl) (ct_out rfl rfl (by decide))
def k_X1_heirs_L9 (n : Nat) (g : Nat) (c : Nat → Value) (x0 : Nat) (x1 : Int32) (x2 : Int32) (x3 : Int32) (h : XH) : Option ((Int32 × Int32 × XH) ⊕ ((Int32 × XH))) := (cgR h x0 0 1).bind fun v8 => (ckd h v8 1).bind fun u10 => (k_X2_people v8 h).bind fun r9 => if x3 ≥ r9 then some (.inr (x2, h)) else (cgR h x0 0 2).bind fun v12 => (ckd h v12 2).bind fun u14 => (k_X3_goesIn n g c v12 x3 x1 h).bind fun r13 => if r13.1 = 0 then (some (x3 + 1)).bind fun w16 => some (.inl (x2, w16, r13.2)) else (some (x2 ||| ((1 : Int32) <<< ((x3 : Int32) &&& 31)))).bind fun w17 => (some (x3 + 1)).bind fun w18 => some (.inl (w17, w18, r13.2))
abbrev K_X1_heirs_L9 (l : Launch) (E : XEnv) (hf : XH) (res : XO) (g : Nat) (h : XH) (x0 : Nat) (x1 : Int32) (o : (Int32 × XH)) : Prop := match o with
  | e => CX l E mX1_heirs (5 * g + 10) 44 [(2, .int e.1)] [] e.2 hf res
def k_X1_heirs (n : Nat) (g : Nat) (c : Nat → Value) (x0 : Nat) (x1 : Int32) (h : XH) : Option ((Int32 ⊕ XX) × XH) := (ckd h x0 0).bind fun u2 => (k_X1_aHouse x0 x1 h).bind fun r1 => match r1 with | (.inl v3, h4) => ((xloop (fun s => k_X1_heirs_L9 n g c x0 x1 s.1 s.2.1 s.2.2) n (0, 0, h4)).bind fun o19 => some (.inl o19.1, o19.2)) | (.inr e5, h4) => (some (.inr e5, h4))
set_option maxHeartbeats 4000000 in
theorem k_X1_heirs_L9_s {l : Launch} {E : XEnv} {hf : XH} {res : XO} {n : Nat} {g : Nat} {x0 : Nat} {x1 : Int32} {x2 : Int32} {x3 : Int32} {h : XH} {o : (Int32 × Int32 × XH) ⊕ ((Int32 × XH))} (hl : k_X1_heirs_L9 n g E.2.2.2 x0 x1 x2 x3 h = some o) (hK : (xk (fun s : Int32 × Int32 × XH => CX l E mX1_heirs (5 * g + 10) 9 [(0, .ref x0), (1, .int x1), (2, .int s.1), (3, .int s.2.1)] [] s.2.2 hf res) (fun r => K_X1_heirs_L9 l E hf res g h x0 x1 r) o)) : CX l E mX1_heirs (5 * g + 10) 9 [(0, .ref x0), (1, .int x1), (2, .int x2), (3, .int x3)] [] h hf res := by
  unfold k_X1_heirs_L9 at hl
  refine cx_iload_n dX1_heirs_9 rfl ?_
  refine cx_aload_n dX1_heirs_10 rfl rfl ?_
  obtain ⟨v8, ev8, hl⟩ := xb hl
  refine cx_getR gF_X1_22 dX1_heirs_11 ev8 ?_
  obtain ⟨u10, eu10, hl⟩ := xb hl
  obtain ⟨r9, er9, hl⟩ := xb hl
  refine cx_callV (Or.inl ⟨by decide, _, _, rfl⟩) (T_X2_people er9) lV_X1_104 C_X2_people dX1_heirs_14 eu10 (by decide) rfl (by omega) (Nat.le_of_ble_eq_true rfl) ?_
  by_cases c11 : x3 ≥ r9
  · rw [if_pos c11] at hl
    refine cx_icmp_ge (X := True) (tgt := 44) dX1_heirs_17 (by decide) (fun _ => ?_) (fun z => absurd c11 z)
    cases hl
    exact cx_lsK hK ⟨rfl, trivial⟩
  · rw [if_neg c11] at hl
    refine cx_icmp_ge (X := True) (tgt := 44) dX1_heirs_17 (by decide) (fun z => absurd z c11) (fun _ => ?_)
    refine cx_aload_n dX1_heirs_20 rfl rfl ?_
    obtain ⟨v12, ev12, hl⟩ := xb hl
    refine cx_getR gF_X1_31 dX1_heirs_21 ev12 ?_
    refine cx_iload_n dX1_heirs_24 rfl ?_
    refine cx_iload_n dX1_heirs_25 rfl ?_
    obtain ⟨u14, eu14, hl⟩ := xb hl
    obtain ⟨r13, er13, hl⟩ := xb hl
    refine cx_callV (Or.inl ⟨by decide, _, _, rfl⟩) (T_X3_goesIn er13) lV_X1_233 C_X3_goesIn dX1_heirs_26 eu14 (by decide) rfl (by omega) (Nat.le_of_ble_eq_true rfl) ?_
    by_cases c15 : r13.1 = 0
    · rw [if_pos c15] at hl
      refine cx_if_eq (X := True) (tgt := 38) dX1_heirs_29 (by decide) (fun _ => ?_) (fun z => absurd c15 z)
      obtain ⟨w16, ew16, hl⟩ := xb hl
      refine cx_iinc dX1_heirs_38 rfl (by decide) (Option.some.inj ew16) ?_
      refine cx_goto (tgt := 9) dX1_heirs_41 (by decide) ?_
      cases hl
      exact cx_lsK hK ⟨rfl, rfl, rfl, rfl, trivial⟩
    · rw [if_neg c15] at hl
      refine cx_if_eq (X := True) (tgt := 38) dX1_heirs_29 (by decide) (fun z => absurd z c15) (fun _ => ?_)
      refine cx_iload_n dX1_heirs_32 rfl ?_
      refine cx_iconst (v := 1) dX1_heirs_33 rfl ?_
      refine cx_iload_n dX1_heirs_34 rfl ?_
      refine cx_ishl dX1_heirs_35 ?_
      refine cx_ior dX1_heirs_36 ?_
      obtain ⟨w17, ew17, hl⟩ := xb hl
      refine cx_top (Option.some.inj ew17) ?_
      refine cx_istore_n dX1_heirs_37 (by decide) ?_
      obtain ⟨w18, ew18, hl⟩ := xb hl
      refine cx_iinc dX1_heirs_38 rfl (by decide) (Option.some.inj ew18) ?_
      refine cx_goto (tgt := 9) dX1_heirs_41 (by decide) ?_
      cases hl
      exact cx_lsK hK ⟨rfl, rfl, rfl, rfl, trivial⟩
set_option maxHeartbeats 4000000 in
theorem k_X1_heirs_L9_ok {l : Launch} {E : XEnv} {hf : XH} {res : XO} {n : Nat} {g : Nat} {x0 : Nat} {x1 : Int32} {h : XH} {s : Int32 × Int32 × XH} {o : (Int32 × XH)} (hl : xloop (fun s => k_X1_heirs_L9 n g E.2.2.2 x0 x1 s.1 s.2.1 s.2.2) n s = some o) (hK : K_X1_heirs_L9 l E hf res g h x0 x1 o) : CX l E mX1_heirs (5 * g + 10) 9 [(0, .ref x0), (1, .int x1), (2, .int s.1), (3, .int s.2.1)] [] s.2.2 hf res :=
  xloop_of (fun s : Int32 × Int32 × XH => CX l E mX1_heirs (5 * g + 10) 9 [(0, .ref x0), (1, .int x1), (2, .int s.1), (3, .int s.2.1)] [] s.2.2 hf res) (fun r => K_X1_heirs_L9 l E hf res g h x0 x1 r) (fun s o hl hk => k_X1_heirs_L9_s (h := s.2.2) (o := o) hl hk) n s o hl hK
set_option maxHeartbeats 4000000 in
theorem T_X1_heirs {l : Launch} {E : XEnv}  {n : Nat} {g : Nat} {x0 : Nat} {x1 : Int32} {h : XH} {r : (Int32 ⊕ XX) × XH} (hl : k_X1_heirs n g E.2.2.2 x0 x1 h = some r) : CM l E mX1_heirs (5 * g + 10) [.ref x0, .int x1] h (xrI r.1) r.2 := by
  unfold k_X1_heirs at hl
  refine cm_of (by decide +kernel) rfl (Nat.le_of_ble_eq_true rfl) ?_
  refine cx_aload_n dX1_heirs_0 rfl rfl ?_
  refine cx_iload_n dX1_heirs_1 rfl ?_
  obtain ⟨u2, eu2, hl⟩ := xb hl
  obtain ⟨r1, er1, hl⟩ := xb hl
  rcases r1 with ⟨v3 | ⟨C6, q7⟩, h4⟩
  · dsimp only at hl
    refine cx_callV (Or.inl ⟨by decide, _, _, rfl⟩) (T_X1_aHouse er1) lV_X1_173 C_X1_aHouse dX1_heirs_2 eu2 (by decide) rfl (by omega) (Nat.le_of_ble_eq_true rfl) ?_
    refine cx_iconst (v := 0) dX1_heirs_5 rfl ?_
    refine cx_istore_n dX1_heirs_6 (by decide) ?_
    refine cx_iconst (v := 0) dX1_heirs_7 rfl ?_
    refine cx_istore_n dX1_heirs_8 (by decide) ?_
    obtain ⟨o19, eo19, hl⟩ := xb hl
    refine cx_lsK (k_X1_heirs_L9_ok (h := h4) (s := (0, 0, h4)) eo19 ?_) ⟨rfl, rfl, rfl, rfl, trivial⟩
    refine cx_iload_n dX1_heirs_44 rfl ?_
    cases hl
    exact cx_iret dX1_heirs_45 rfl rfl rfl rfl
  · dsimp only at hl
    cases hl
    exact cx_callVx (Or.inl ⟨by decide, _, _, rfl⟩) (T_X1_aHouse er1) lV_X1_173 C_X1_aHouse dX1_heirs_2 eu2 (by decide) rfl (by omega) (Nat.le_of_ble_eq_true rfl) (ct_out rfl rfl (by decide))
def k_X1_toGrow_L24 (n : Nat) (g : Nat) (c : Nat → Value) (x0 : Nat) (x1 : Int32) (x2 : Int32) (x3 : Int32) (h : XH) : Option ((Int32 × XH) ⊕ ((XH) ⊕ (Int32 × XH))) := if x3 > 40 then some (.inr (.inl h)) else (cgR h x0 0 3).bind fun v20 => (cgR h v20 2 2).bind fun v21 => (caI h v21 100 x1).bind fun v22 => (cgR h x0 0 3).bind fun v23 => (cgR h v23 2 0).bind fun v24 => (caI h v24 100 x2).bind fun v25 => if v22 < v25 then (cgR h x0 0 3).bind fun v27 => (ckd h v27 2).bind fun u29 => (k_X3_pass n g c v27 h).bind fun r28 => (some (x3 + 1)).bind fun w30 => some (.inl (w30, r28.2)) else some (.inr (.inr (x3, h)))
abbrev K_X1_toGrow_L24 (l : Launch) (E : XEnv) (hf : XH) (res : XO) (g : Nat) (h : XH) (x0 : Nat) (x1 : Int32) (x2 : Int32) (o : (XH) ⊕ (Int32 × XH)) : Prop := match o with
  | .inl e => CX l E mX1_toGrow (5 * g + 10) 67 [] [] e hf res
  | .inr e => CX l E mX1_toGrow (5 * g + 10) 51 [(3, .int e.1)] [] e.2 hf res
def k_X1_toGrow (n : Nat) (g : Nat) (c : Nat → Value) (x0 : Nat) (x1 : Int32) (x2 : Int32) (h : XH) : Option ((Int32 ⊕ XX) × XH) := (ckd h x0 0).bind fun u2 => (k_X1_aPerson x0 x1 h).bind fun r1 => match r1 with | (.inl v3, h4) => ((ckd h4 x0 0).bind fun u9 => (k_X1_aHouse x0 x2 h4).bind fun r8 => match r8 with | (.inl v10, h11) => ((cgR h11 x0 0 3).bind fun v15 => (cgR h11 x0 0 2).bind fun v16 => (ckd h11 v15 2).bind fun u18 => (k_X3_be n v15 v16 h11).bind fun r17 => (xloop (fun s => k_X1_toGrow_L24 n g c x0 x1 x2 s.1 s.2) n (0, r17.2)).bind fun o31 => match o31 with | .inl e32 => (some (.inl (-1), e32)) | .inr e33 => (some (.inl e33.1, e33.2))) | (.inr e12, h11) => (some (.inr e12, h11))) | (.inr e5, h4) => (some (.inr e5, h4))
set_option maxHeartbeats 4000000 in
theorem k_X1_toGrow_L24_s {l : Launch} {E : XEnv} {hf : XH} {res : XO} {n : Nat} {g : Nat} {x0 : Nat} {x1 : Int32} {x2 : Int32} {x3 : Int32} {h : XH} {o : (Int32 × XH) ⊕ ((XH) ⊕ (Int32 × XH))} (hl : k_X1_toGrow_L24 n g E.2.2.2 x0 x1 x2 x3 h = some o) (hK : (xk (fun s : Int32 × XH => CX l E mX1_toGrow (5 * g + 10) 24 [(0, .ref x0), (1, .int x1), (2, .int x2), (3, .int s.1)] [] s.2 hf res) (fun r => K_X1_toGrow_L24 l E hf res g h x0 x1 x2 r) o)) : CX l E mX1_toGrow (5 * g + 10) 24 [(0, .ref x0), (1, .int x1), (2, .int x2), (3, .int x3)] [] h hf res := by
  unfold k_X1_toGrow_L24 at hl
  refine cx_iload_n dX1_toGrow_24 rfl ?_
  refine cx_bipush (v := 40) dX1_toGrow_25 (by decide) ?_
  by_cases c19 : x3 > 40
  · rw [if_pos c19] at hl
    refine cx_icmp_gt (X := True) (tgt := 67) dX1_toGrow_27 (by decide) (fun _ => ?_) (fun z => absurd c19 z)
    cases hl
    exact cx_lsK hK trivial
  · rw [if_neg c19] at hl
    refine cx_icmp_gt (X := True) (tgt := 67) dX1_toGrow_27 (by decide) (fun z => absurd z c19) (fun _ => ?_)
    refine cx_aload_n dX1_toGrow_30 rfl rfl ?_
    obtain ⟨v20, ev20, hl⟩ := xb hl
    refine cx_getR gF_X1_35 dX1_toGrow_31 ev20 ?_
    obtain ⟨v21, ev21, hl⟩ := xb hl
    refine cx_getR gF_X1_167 dX1_toGrow_34 ev21 ?_
    refine cx_iload_n dX1_toGrow_37 rfl ?_
    obtain ⟨v22, ev22, hl⟩ := xb hl
    refine cx_iald dX1_toGrow_38 ev22 ?_
    refine cx_aload_n dX1_toGrow_39 rfl rfl ?_
    obtain ⟨v23, ev23, hl⟩ := xb hl
    refine cx_getR gF_X1_35 dX1_toGrow_40 ev23 ?_
    obtain ⟨v24, ev24, hl⟩ := xb hl
    refine cx_getR gF_X1_165 dX1_toGrow_43 ev24 ?_
    refine cx_iload_n dX1_toGrow_46 rfl ?_
    obtain ⟨v25, ev25, hl⟩ := xb hl
    refine cx_iald dX1_toGrow_47 ev25 ?_
    by_cases c26 : v22 < v25
    · rw [if_pos c26] at hl
      refine cx_icmp_lt (X := True) (tgt := 53) dX1_toGrow_48 (by decide) (fun _ => ?_) (fun z => absurd c26 z)
      refine cx_aload_n dX1_toGrow_53 rfl rfl ?_
      obtain ⟨v27, ev27, hl⟩ := xb hl
      refine cx_getR gF_X1_35 dX1_toGrow_54 ev27 ?_
      obtain ⟨u29, eu29, hl⟩ := xb hl
      obtain ⟨r28, er28, hl⟩ := xb hl
      refine cx_callV (Or.inl ⟨by decide, _, _, rfl⟩) (T_X3_pass er28) lV_X1_251 C_X3_pass dX1_toGrow_57 eu29 (by decide) rfl (by omega) (Nat.le_of_ble_eq_true rfl) ?_
      refine cx_pop dX1_toGrow_60 rfl ?_
      obtain ⟨w30, ew30, hl⟩ := xb hl
      refine cx_iinc dX1_toGrow_61 rfl (by decide) (Option.some.inj ew30) ?_
      refine cx_goto (tgt := 24) dX1_toGrow_64 (by decide) ?_
      cases hl
      exact cx_lsK hK ⟨rfl, rfl, rfl, rfl, trivial⟩
    · rw [if_neg c26] at hl
      refine cx_icmp_lt (X := True) (tgt := 53) dX1_toGrow_48 (by decide) (fun z => absurd z c26) (fun _ => ?_)
      cases hl
      exact cx_lsK hK ⟨rfl, trivial⟩
set_option maxHeartbeats 4000000 in
theorem k_X1_toGrow_L24_ok {l : Launch} {E : XEnv} {hf : XH} {res : XO} {n : Nat} {g : Nat} {x0 : Nat} {x1 : Int32} {x2 : Int32} {h : XH} {s : Int32 × XH} {o : (XH) ⊕ (Int32 × XH)} (hl : xloop (fun s => k_X1_toGrow_L24 n g E.2.2.2 x0 x1 x2 s.1 s.2) n s = some o) (hK : K_X1_toGrow_L24 l E hf res g h x0 x1 x2 o) : CX l E mX1_toGrow (5 * g + 10) 24 [(0, .ref x0), (1, .int x1), (2, .int x2), (3, .int s.1)] [] s.2 hf res :=
  xloop_of (fun s : Int32 × XH => CX l E mX1_toGrow (5 * g + 10) 24 [(0, .ref x0), (1, .int x1), (2, .int x2), (3, .int s.1)] [] s.2 hf res) (fun r => K_X1_toGrow_L24 l E hf res g h x0 x1 x2 r) (fun s o hl hk => k_X1_toGrow_L24_s (h := s.2) (o := o) hl hk) n s o hl hK
set_option maxHeartbeats 4000000 in
theorem T_X1_toGrow {l : Launch} {E : XEnv}  {n : Nat} {g : Nat} {x0 : Nat} {x1 : Int32} {x2 : Int32} {h : XH} {r : (Int32 ⊕ XX) × XH} (hl : k_X1_toGrow n g E.2.2.2 x0 x1 x2 h = some r) : CM l E mX1_toGrow (5 * g + 10) [.ref x0, .int x1, .int x2] h (xrI r.1) r.2 := by
  unfold k_X1_toGrow at hl
  refine cm_of (by decide +kernel) rfl (Nat.le_of_ble_eq_true rfl) ?_
  refine cx_aload_n dX1_toGrow_0 rfl rfl ?_
  refine cx_iload_n dX1_toGrow_1 rfl ?_
  obtain ⟨u2, eu2, hl⟩ := xb hl
  obtain ⟨r1, er1, hl⟩ := xb hl
  rcases r1 with ⟨v3 | ⟨C6, q7⟩, h4⟩
  · dsimp only at hl
    refine cx_callV (Or.inl ⟨by decide, _, _, rfl⟩) (T_X1_aPerson er1) lV_X1_193 C_X1_aPerson dX1_toGrow_2 eu2 (by decide) rfl (by omega) (Nat.le_of_ble_eq_true rfl) ?_
    refine cx_aload_n dX1_toGrow_5 rfl rfl ?_
    refine cx_iload_n dX1_toGrow_6 rfl ?_
    obtain ⟨u9, eu9, hl⟩ := xb hl
    obtain ⟨r8, er8, hl⟩ := xb hl
    rcases r8 with ⟨v10 | ⟨C13, q14⟩, h11⟩
    · dsimp only at hl
      refine cx_callV (Or.inl ⟨by decide, _, _, rfl⟩) (T_X1_aHouse er8) lV_X1_173 C_X1_aHouse dX1_toGrow_7 eu9 (by decide) rfl (by omega) (Nat.le_of_ble_eq_true rfl) ?_
      refine cx_aload_n dX1_toGrow_10 rfl rfl ?_
      obtain ⟨v15, ev15, hl⟩ := xb hl
      refine cx_getR gF_X1_35 dX1_toGrow_11 ev15 ?_
      refine cx_aload_n dX1_toGrow_14 rfl rfl ?_
      obtain ⟨v16, ev16, hl⟩ := xb hl
      refine cx_getR gF_X1_31 dX1_toGrow_15 ev16 ?_
      obtain ⟨u18, eu18, hl⟩ := xb hl
      obtain ⟨r17, er17, hl⟩ := xb hl
      refine cx_callV (Or.inl ⟨by decide, _, _, rfl⟩) (T_X3_be er17) lV_X1_244 C_X3_be dX1_toGrow_18 eu18 (by decide) rfl (by omega) (Nat.le_of_ble_eq_true rfl) ?_
      refine cx_pop dX1_toGrow_21 rfl ?_
      refine cx_iconst (v := 0) dX1_toGrow_22 rfl ?_
      refine cx_istore_n dX1_toGrow_23 (by decide) ?_
      obtain ⟨o31, eo31, hl⟩ := xb hl
      rcases o31 with e32 | e33
      · dsimp only at hl
        refine cx_lsK (k_X1_toGrow_L24_ok (h := r17.2) (s := (0, r17.2)) eo31 ?_) ⟨rfl, rfl, rfl, rfl, trivial⟩
        refine cx_iconst (v := (-1)) dX1_toGrow_67 rfl ?_
        cases hl
        exact cx_iret dX1_toGrow_68 rfl rfl rfl rfl
      · dsimp only at hl
        refine cx_lsK (k_X1_toGrow_L24_ok (h := r17.2) (s := (0, r17.2)) eo31 ?_) ⟨rfl, rfl, rfl, rfl, trivial⟩
        refine cx_iload_n dX1_toGrow_51 rfl ?_
        cases hl
        exact cx_iret dX1_toGrow_52 rfl rfl rfl rfl
    · dsimp only at hl
      cases hl
      exact cx_callVx (Or.inl ⟨by decide, _, _, rfl⟩) (T_X1_aHouse er8) lV_X1_173 C_X1_aHouse dX1_toGrow_7 eu9 (by decide) rfl (by omega) (Nat.le_of_ble_eq_true rfl) (ct_out rfl rfl (by decide))
  · dsimp only at hl
    cases hl
    exact cx_callVx (Or.inl ⟨by decide, _, _, rfl⟩) (T_X1_aPerson er1) lV_X1_193 C_X1_aPerson dX1_toGrow_2 eu2 (by decide) rfl (by omega) (Nat.le_of_ble_eq_true rfl) (ct_out rfl rfl (by decide))
def k_X1_paid (n : Nat) (g : Nat) (c : Nat → Value) (x0 : Nat) (x1 : Int32) (h : XH) : Option ((Int32 ⊕ XX) × XH) := (k_X1_in x1 0 40 h).bind fun r1 => (k_X1_right r1 h).bind fun r3 => match r3 with | (.inl v5, h6) => ((ckd h6 x0 0).bind fun u11 => (k_X1_later n g c x0 x1 h6).bind fun r10 => (ckd r10.2 r10.1 2).bind fun u13 => (k_X3_allBlisters n r10.1 r10.2).bind fun r12 => (cgR r10.2 x0 0 2).bind fun v14 => (ckd r10.2 v14 2).bind fun u16 => (k_X3_allBlisters n v14 r10.2).bind fun r15 => some (.inl (r12 - r15), r10.2)) | (.inr e7, h6) => (some (.inr e7, h6))
set_option maxHeartbeats 4000000 in
theorem T_X1_paid {l : Launch} {E : XEnv}  {n : Nat} {g : Nat} {x0 : Nat} {x1 : Int32} {h : XH} {r : (Int32 ⊕ XX) × XH} (hl : k_X1_paid n g E.2.2.2 x0 x1 h = some r) : CM l E mX1_paid (5 * g + 12) [.ref x0, .int x1] h (xrI r.1) r.2 := by
  unfold k_X1_paid at hl
  refine cm_of (by decide +kernel) rfl (Nat.le_of_ble_eq_true rfl) ?_
  refine cx_iload_n dX1_paid_0 rfl ?_
  refine cx_iconst (v := 0) dX1_paid_1 rfl ?_
  refine cx_bipush (v := 40) dX1_paid_2 (by decide) ?_
  obtain ⟨r1, er1, hl⟩ := xb hl
  refine cx_callS (T_X1_in er1) lS_X1_139 C_X1_in dX1_paid_4 rfl (by omega) (Nat.le_of_ble_eq_true rfl) ?_
  obtain ⟨r3, er3, hl⟩ := xb hl
  rcases r3 with ⟨v5 | ⟨C8, q9⟩, h6⟩
  · dsimp only at hl
    refine cx_callS (T_X1_right er3) lS_X1_62 C_X1_right dX1_paid_7 rfl (by omega) (Nat.le_of_ble_eq_true rfl) ?_
    refine cx_aload_n dX1_paid_10 rfl rfl ?_
    refine cx_iload_n dX1_paid_11 rfl ?_
    obtain ⟨u11, eu11, hl⟩ := xb hl
    obtain ⟨r10, er10, hl⟩ := xb hl
    refine cx_callV (Or.inl ⟨by decide, _, _, rfl⟩) (T_X1_later er10) lV_X1_248 C_X1_later dX1_paid_12 eu11 (by decide) rfl (by omega) (Nat.le_of_ble_eq_true rfl) ?_
    obtain ⟨u13, eu13, hl⟩ := xb hl
    obtain ⟨r12, er12, hl⟩ := xb hl
    refine cx_callV (Or.inl ⟨by decide, _, _, rfl⟩) (T_X3_allBlisters er12) lV_X1_125 C_X3_allBlisters dX1_paid_15 eu13 (by decide) rfl (by omega) (Nat.le_of_ble_eq_true rfl) ?_
    refine cx_aload_n dX1_paid_18 rfl rfl ?_
    obtain ⟨v14, ev14, hl⟩ := xb hl
    refine cx_getR gF_X1_31 dX1_paid_19 ev14 ?_
    obtain ⟨u16, eu16, hl⟩ := xb hl
    obtain ⟨r15, er15, hl⟩ := xb hl
    refine cx_callV (Or.inl ⟨by decide, _, _, rfl⟩) (T_X3_allBlisters er15) lV_X1_125 C_X3_allBlisters dX1_paid_22 eu16 (by decide) rfl (by omega) (Nat.le_of_ble_eq_true rfl) ?_
    refine cx_isub dX1_paid_25 ?_
    cases hl
    exact cx_iret dX1_paid_26 rfl rfl rfl rfl
  · dsimp only at hl
    cases hl
    exact cx_callSx (T_X1_right er3) lS_X1_62 C_X1_right dX1_paid_7 rfl (by omega) (Nat.le_of_ble_eq_true rfl) (ct_out rfl rfl (by decide))
def k_X1_wornest_L20 (n : Nat) (g : Nat) (c : Nat → Value) (x0 : Nat) (x2 : Int32) (x3 : Int32) (h : XH) : Option ((Int32 × Int32 × XH) ⊕ ((Int32 × XH))) := (cgR h x0 0 1).bind fun v12 => (ckd h v12 1).bind fun u14 => (k_X2_houses v12 h).bind fun r13 => if x3 ≥ r13 then some (.inr (x2, h)) else if x2 = (-1) then (some (x3 + 1)).bind fun w17 => some (.inl (x3, w17, h)) else (cgR h x0 0 3).bind fun v18 => (cgR h v18 2 1).bind fun v19 => (caI h v19 100 x3).bind fun v20 => (cgR h x0 0 3).bind fun v21 => (cgR h v21 2 1).bind fun v22 => (caI h v22 100 x2).bind fun v23 => if v20 ≤ v23 then (some (x3 + 1)).bind fun w25 => some (.inl (x2, w25, h)) else (some (x3 + 1)).bind fun w26 => some (.inl (x3, w26, h))
abbrev K_X1_wornest_L20 (l : Launch) (E : XEnv) (hf : XH) (res : XO) (g : Nat) (h : XH) (x0 : Nat) (o : (Int32 × XH)) : Prop := match o with
  | e => CX l E mX1_wornest (5 * g + 12) 65 [(2, .int e.1)] [] e.2 hf res
def k_X1_wornest (n : Nat) (g : Nat) (c : Nat → Value) (x0 : Nat) (x1 : Int32) (h : XH) : Option ((Int32 ⊕ XX) × XH) := (k_X1_in x1 0 40 h).bind fun r1 => (k_X1_right r1 h).bind fun r3 => match r3 with | (.inl v5, h6) => ((ckd h6 x0 0).bind fun u11 => (k_X1_later n g c x0 x1 h6).bind fun r10 => (xloop (fun s => k_X1_wornest_L20 n g c x0 s.1 s.2.1 s.2.2) n ((-1), 0, r10.2)).bind fun o27 => some (.inl o27.1, o27.2)) | (.inr e7, h6) => (some (.inr e7, h6))
set_option maxHeartbeats 4000000 in
theorem k_X1_wornest_L20_s {l : Launch} {E : XEnv} {hf : XH} {res : XO} {n : Nat} {g : Nat} {x0 : Nat} {x2 : Int32} {x3 : Int32} {h : XH} {o : (Int32 × Int32 × XH) ⊕ ((Int32 × XH))} (hl : k_X1_wornest_L20 n g E.2.2.2 x0 x2 x3 h = some o) (hK : (xk (fun s : Int32 × Int32 × XH => CX l E mX1_wornest (5 * g + 12) 20 [(0, .ref x0), (2, .int s.1), (3, .int s.2.1)] [] s.2.2 hf res) (fun r => K_X1_wornest_L20 l E hf res g h x0 r) o)) : CX l E mX1_wornest (5 * g + 12) 20 [(0, .ref x0), (2, .int x2), (3, .int x3)] [] h hf res := by
  unfold k_X1_wornest_L20 at hl
  refine cx_iload_n dX1_wornest_20 rfl ?_
  refine cx_aload_n dX1_wornest_21 rfl rfl ?_
  obtain ⟨v12, ev12, hl⟩ := xb hl
  refine cx_getR gF_X1_22 dX1_wornest_22 ev12 ?_
  obtain ⟨u14, eu14, hl⟩ := xb hl
  obtain ⟨r13, er13, hl⟩ := xb hl
  refine cx_callV (Or.inl ⟨by decide, _, _, rfl⟩) (T_X2_houses er13) lV_X1_89 C_X2_houses dX1_wornest_25 eu14 (by decide) rfl (by omega) (Nat.le_of_ble_eq_true rfl) ?_
  by_cases c15 : x3 ≥ r13
  · rw [if_pos c15] at hl
    refine cx_icmp_ge (X := True) (tgt := 65) dX1_wornest_28 (by decide) (fun _ => ?_) (fun z => absurd c15 z)
    cases hl
    exact cx_lsK hK ⟨rfl, trivial⟩
  · rw [if_neg c15] at hl
    refine cx_icmp_ge (X := True) (tgt := 65) dX1_wornest_28 (by decide) (fun z => absurd z c15) (fun _ => ?_)
    refine cx_iload_n dX1_wornest_31 rfl ?_
    refine cx_iconst (v := (-1)) dX1_wornest_32 rfl ?_
    by_cases c16 : x2 = (-1)
    · rw [if_pos c16] at hl
      refine cx_icmp_eq (X := True) (tgt := 57) dX1_wornest_33 (by decide) (fun _ => ?_) (fun z => absurd c16 z)
      refine cx_iload_n dX1_wornest_57 rfl ?_
      refine cx_istore_n dX1_wornest_58 (by decide) ?_
      obtain ⟨w17, ew17, hl⟩ := xb hl
      refine cx_iinc dX1_wornest_59 rfl (by decide) (Option.some.inj ew17) ?_
      refine cx_goto (tgt := 20) dX1_wornest_62 (by decide) ?_
      cases hl
      exact cx_lsK hK ⟨rfl, rfl, rfl, trivial⟩
    · rw [if_neg c16] at hl
      refine cx_icmp_eq (X := True) (tgt := 57) dX1_wornest_33 (by decide) (fun z => absurd z c16) (fun _ => ?_)
      refine cx_aload_n dX1_wornest_36 rfl rfl ?_
      obtain ⟨v18, ev18, hl⟩ := xb hl
      refine cx_getR gF_X1_35 dX1_wornest_37 ev18 ?_
      obtain ⟨v19, ev19, hl⟩ := xb hl
      refine cx_getR gF_X1_180 dX1_wornest_40 ev19 ?_
      refine cx_iload_n dX1_wornest_43 rfl ?_
      obtain ⟨v20, ev20, hl⟩ := xb hl
      refine cx_iald dX1_wornest_44 ev20 ?_
      refine cx_aload_n dX1_wornest_45 rfl rfl ?_
      obtain ⟨v21, ev21, hl⟩ := xb hl
      refine cx_getR gF_X1_35 dX1_wornest_46 ev21 ?_
      obtain ⟨v22, ev22, hl⟩ := xb hl
      refine cx_getR gF_X1_180 dX1_wornest_49 ev22 ?_
      refine cx_iload_n dX1_wornest_52 rfl ?_
      obtain ⟨v23, ev23, hl⟩ := xb hl
      refine cx_iald dX1_wornest_53 ev23 ?_
      by_cases c24 : v20 ≤ v23
      · rw [if_pos c24] at hl
        refine cx_icmp_le (X := True) (tgt := 59) dX1_wornest_54 (by decide) (fun _ => ?_) (fun z => absurd c24 z)
        obtain ⟨w25, ew25, hl⟩ := xb hl
        refine cx_iinc dX1_wornest_59 rfl (by decide) (Option.some.inj ew25) ?_
        refine cx_goto (tgt := 20) dX1_wornest_62 (by decide) ?_
        cases hl
        exact cx_lsK hK ⟨rfl, rfl, rfl, trivial⟩
      · rw [if_neg c24] at hl
        refine cx_icmp_le (X := True) (tgt := 59) dX1_wornest_54 (by decide) (fun z => absurd z c24) (fun _ => ?_)
        refine cx_iload_n dX1_wornest_57 rfl ?_
        refine cx_istore_n dX1_wornest_58 (by decide) ?_
        obtain ⟨w26, ew26, hl⟩ := xb hl
        refine cx_iinc dX1_wornest_59 rfl (by decide) (Option.some.inj ew26) ?_
        refine cx_goto (tgt := 20) dX1_wornest_62 (by decide) ?_
        cases hl
        exact cx_lsK hK ⟨rfl, rfl, rfl, trivial⟩
set_option maxHeartbeats 4000000 in
theorem k_X1_wornest_L20_ok {l : Launch} {E : XEnv} {hf : XH} {res : XO} {n : Nat} {g : Nat} {x0 : Nat} {h : XH} {s : Int32 × Int32 × XH} {o : (Int32 × XH)} (hl : xloop (fun s => k_X1_wornest_L20 n g E.2.2.2 x0 s.1 s.2.1 s.2.2) n s = some o) (hK : K_X1_wornest_L20 l E hf res g h x0 o) : CX l E mX1_wornest (5 * g + 12) 20 [(0, .ref x0), (2, .int s.1), (3, .int s.2.1)] [] s.2.2 hf res :=
  xloop_of (fun s : Int32 × Int32 × XH => CX l E mX1_wornest (5 * g + 12) 20 [(0, .ref x0), (2, .int s.1), (3, .int s.2.1)] [] s.2.2 hf res) (fun r => K_X1_wornest_L20 l E hf res g h x0 r) (fun s o hl hk => k_X1_wornest_L20_s (h := s.2.2) (o := o) hl hk) n s o hl hK
set_option maxHeartbeats 4000000 in
theorem T_X1_wornest {l : Launch} {E : XEnv}  {n : Nat} {g : Nat} {x0 : Nat} {x1 : Int32} {h : XH} {r : (Int32 ⊕ XX) × XH} (hl : k_X1_wornest n g E.2.2.2 x0 x1 h = some r) : CM l E mX1_wornest (5 * g + 12) [.ref x0, .int x1] h (xrI r.1) r.2 := by
  unfold k_X1_wornest at hl
  refine cm_of (by decide +kernel) rfl (Nat.le_of_ble_eq_true rfl) ?_
  refine cx_iload_n dX1_wornest_0 rfl ?_
  refine cx_iconst (v := 0) dX1_wornest_1 rfl ?_
  refine cx_bipush (v := 40) dX1_wornest_2 (by decide) ?_
  obtain ⟨r1, er1, hl⟩ := xb hl
  refine cx_callS (T_X1_in er1) lS_X1_139 C_X1_in dX1_wornest_4 rfl (by omega) (Nat.le_of_ble_eq_true rfl) ?_
  obtain ⟨r3, er3, hl⟩ := xb hl
  rcases r3 with ⟨v5 | ⟨C8, q9⟩, h6⟩
  · dsimp only at hl
    refine cx_callS (T_X1_right er3) lS_X1_62 C_X1_right dX1_wornest_7 rfl (by omega) (Nat.le_of_ble_eq_true rfl) ?_
    refine cx_aload_n dX1_wornest_10 rfl rfl ?_
    refine cx_iload_n dX1_wornest_11 rfl ?_
    obtain ⟨u11, eu11, hl⟩ := xb hl
    obtain ⟨r10, er10, hl⟩ := xb hl
    refine cx_callV (Or.inl ⟨by decide, _, _, rfl⟩) (T_X1_later er10) lV_X1_248 C_X1_later dX1_wornest_12 eu11 (by decide) rfl (by omega) (Nat.le_of_ble_eq_true rfl) ?_
    refine cx_pop dX1_wornest_15 rfl ?_
    refine cx_iconst (v := (-1)) dX1_wornest_16 rfl ?_
    refine cx_istore_n dX1_wornest_17 (by decide) ?_
    refine cx_iconst (v := 0) dX1_wornest_18 rfl ?_
    refine cx_istore_n dX1_wornest_19 (by decide) ?_
    obtain ⟨o27, eo27, hl⟩ := xb hl
    refine cx_lsK (k_X1_wornest_L20_ok (h := r10.2) (s := ((-1), 0, r10.2)) eo27 ?_) ⟨rfl, rfl, rfl, trivial⟩
    refine cx_iload_n dX1_wornest_65 rfl ?_
    cases hl
    exact cx_iret dX1_wornest_66 rfl rfl rfl rfl
  · dsimp only at hl
    cases hl
    exact cx_callSx (T_X1_right er3) lS_X1_62 C_X1_right dX1_wornest_7 rfl (by omega) (Nat.le_of_ble_eq_true rfl) (ct_out rfl rfl (by decide))
def k_X1_dampest_L29 (n : Nat) (g : Nat) (c : Nat → Value) (x0 : Nat) (x1 : Int32) (x2 : Int32) (x3 : Int32) (x4 : Int32) (h : XH) : Option ((Int32 × Int32 × Int32 × XH) ⊕ ((Int32 × XH))) := if x4 ≥ x1 then some (.inr (x2, h)) else (cgR h x0 0 3).bind fun v15 => (ckd h v15 2).bind fun u17 => (k_X3_damp v15 h).bind fun r16 => if r16 ≤ x3 then (cgR h x0 0 3).bind fun v19 => (ckd h v19 2).bind fun u21 => (k_X3_pass n g c v19 h).bind fun r20 => (some (x4 + 1)).bind fun w22 => some (.inl (x2, x3, w22, r20.2)) else (cgR h x0 0 3).bind fun v23 => (ckd h v23 2).bind fun u25 => (k_X3_damp v23 h).bind fun r24 => (cgR h x0 0 3).bind fun v26 => (ckd h v26 2).bind fun u28 => (k_X3_pass n g c v26 h).bind fun r27 => (some (x4 + 1)).bind fun w29 => some (.inl (x4, r24, w29, r27.2))
abbrev K_X1_dampest_L29 (l : Launch) (E : XEnv) (hf : XH) (res : XO) (g : Nat) (h : XH) (x0 : Nat) (x1 : Int32) (o : (Int32 × XH)) : Prop := match o with
  | e => CX l E mX1_dampest (5 * g + 10) 71 [(2, .int e.1)] [] e.2 hf res
def k_X1_dampest (n : Nat) (g : Nat) (c : Nat → Value) (x0 : Nat) (x1 : Int32) (h : XH) : Option ((Int32 ⊕ XX) × XH) := (k_X1_in x1 1 40 h).bind fun r1 => (k_X1_right r1 h).bind fun r3 => match r3 with | (.inl v5, h6) => ((cgR h6 x0 0 3).bind fun v10 => (cgR h6 x0 0 2).bind fun v11 => (ckd h6 v10 2).bind fun u13 => (k_X3_be n v10 v11 h6).bind fun r12 => (xloop (fun s => k_X1_dampest_L29 n g c x0 x1 s.1 s.2.1 s.2.2.1 s.2.2.2) n (0, (-1), 0, r12.2)).bind fun o30 => some (.inl o30.1, o30.2)) | (.inr e7, h6) => (some (.inr e7, h6))
set_option maxHeartbeats 4000000 in
theorem k_X1_dampest_L29_s {l : Launch} {E : XEnv} {hf : XH} {res : XO} {n : Nat} {g : Nat} {x0 : Nat} {x1 : Int32} {x2 : Int32} {x3 : Int32} {x4 : Int32} {h : XH} {o : (Int32 × Int32 × Int32 × XH) ⊕ ((Int32 × XH))} (hl : k_X1_dampest_L29 n g E.2.2.2 x0 x1 x2 x3 x4 h = some o) (hK : (xk (fun s : Int32 × Int32 × Int32 × XH => CX l E mX1_dampest (5 * g + 10) 29 [(0, .ref x0), (1, .int x1), (2, .int s.1), (3, .int s.2.1), (4, .int s.2.2.1)] [] s.2.2.2 hf res) (fun r => K_X1_dampest_L29 l E hf res g h x0 x1 r) o)) : CX l E mX1_dampest (5 * g + 10) 29 [(0, .ref x0), (1, .int x1), (2, .int x2), (3, .int x3), (4, .int x4)] [] h hf res := by
  unfold k_X1_dampest_L29 at hl
  refine cx_iload dX1_dampest_29 rfl ?_
  refine cx_iload_n dX1_dampest_31 rfl ?_
  by_cases c14 : x4 ≥ x1
  · rw [if_pos c14] at hl
    refine cx_icmp_ge (X := True) (tgt := 71) dX1_dampest_32 (by decide) (fun _ => ?_) (fun z => absurd c14 z)
    cases hl
    exact cx_lsK hK ⟨rfl, trivial⟩
  · rw [if_neg c14] at hl
    refine cx_icmp_ge (X := True) (tgt := 71) dX1_dampest_32 (by decide) (fun z => absurd z c14) (fun _ => ?_)
    refine cx_aload_n dX1_dampest_35 rfl rfl ?_
    obtain ⟨v15, ev15, hl⟩ := xb hl
    refine cx_getR gF_X1_35 dX1_dampest_36 ev15 ?_
    obtain ⟨u17, eu17, hl⟩ := xb hl
    obtain ⟨r16, er16, hl⟩ := xb hl
    refine cx_callV (Or.inl ⟨by decide, _, _, rfl⟩) (T_X3_damp er16) lV_X1_113 C_X3_damp dX1_dampest_39 eu17 (by decide) rfl (by omega) (Nat.le_of_ble_eq_true rfl) ?_
    refine cx_iload_n dX1_dampest_42 rfl ?_
    by_cases c18 : r16 ≤ x3
    · rw [if_pos c18] at hl
      refine cx_icmp_le (X := True) (tgt := 57) dX1_dampest_43 (by decide) (fun _ => ?_) (fun z => absurd c18 z)
      refine cx_aload_n dX1_dampest_57 rfl rfl ?_
      obtain ⟨v19, ev19, hl⟩ := xb hl
      refine cx_getR gF_X1_35 dX1_dampest_58 ev19 ?_
      obtain ⟨u21, eu21, hl⟩ := xb hl
      obtain ⟨r20, er20, hl⟩ := xb hl
      refine cx_callV (Or.inl ⟨by decide, _, _, rfl⟩) (T_X3_pass er20) lV_X1_251 C_X3_pass dX1_dampest_61 eu21 (by decide) rfl (by omega) (Nat.le_of_ble_eq_true rfl) ?_
      refine cx_pop dX1_dampest_64 rfl ?_
      obtain ⟨w22, ew22, hl⟩ := xb hl
      refine cx_iinc dX1_dampest_65 rfl (by decide) (Option.some.inj ew22) ?_
      refine cx_goto (tgt := 29) dX1_dampest_68 (by decide) ?_
      cases hl
      exact cx_lsK hK ⟨rfl, rfl, rfl, rfl, rfl, trivial⟩
    · rw [if_neg c18] at hl
      refine cx_icmp_le (X := True) (tgt := 57) dX1_dampest_43 (by decide) (fun z => absurd z c18) (fun _ => ?_)
      refine cx_aload_n dX1_dampest_46 rfl rfl ?_
      obtain ⟨v23, ev23, hl⟩ := xb hl
      refine cx_getR gF_X1_35 dX1_dampest_47 ev23 ?_
      obtain ⟨u25, eu25, hl⟩ := xb hl
      obtain ⟨r24, er24, hl⟩ := xb hl
      refine cx_callV (Or.inl ⟨by decide, _, _, rfl⟩) (T_X3_damp er24) lV_X1_113 C_X3_damp dX1_dampest_50 eu25 (by decide) rfl (by omega) (Nat.le_of_ble_eq_true rfl) ?_
      refine cx_istore_n dX1_dampest_53 (by decide) ?_
      refine cx_iload dX1_dampest_54 rfl ?_
      refine cx_istore_n dX1_dampest_56 (by decide) ?_
      refine cx_aload_n dX1_dampest_57 rfl rfl ?_
      obtain ⟨v26, ev26, hl⟩ := xb hl
      refine cx_getR gF_X1_35 dX1_dampest_58 ev26 ?_
      obtain ⟨u28, eu28, hl⟩ := xb hl
      obtain ⟨r27, er27, hl⟩ := xb hl
      refine cx_callV (Or.inl ⟨by decide, _, _, rfl⟩) (T_X3_pass er27) lV_X1_251 C_X3_pass dX1_dampest_61 eu28 (by decide) rfl (by omega) (Nat.le_of_ble_eq_true rfl) ?_
      refine cx_pop dX1_dampest_64 rfl ?_
      obtain ⟨w29, ew29, hl⟩ := xb hl
      refine cx_iinc dX1_dampest_65 rfl (by decide) (Option.some.inj ew29) ?_
      refine cx_goto (tgt := 29) dX1_dampest_68 (by decide) ?_
      cases hl
      exact cx_lsK hK ⟨rfl, rfl, rfl, rfl, rfl, trivial⟩
set_option maxHeartbeats 4000000 in
theorem k_X1_dampest_L29_ok {l : Launch} {E : XEnv} {hf : XH} {res : XO} {n : Nat} {g : Nat} {x0 : Nat} {x1 : Int32} {h : XH} {s : Int32 × Int32 × Int32 × XH} {o : (Int32 × XH)} (hl : xloop (fun s => k_X1_dampest_L29 n g E.2.2.2 x0 x1 s.1 s.2.1 s.2.2.1 s.2.2.2) n s = some o) (hK : K_X1_dampest_L29 l E hf res g h x0 x1 o) : CX l E mX1_dampest (5 * g + 10) 29 [(0, .ref x0), (1, .int x1), (2, .int s.1), (3, .int s.2.1), (4, .int s.2.2.1)] [] s.2.2.2 hf res :=
  xloop_of (fun s : Int32 × Int32 × Int32 × XH => CX l E mX1_dampest (5 * g + 10) 29 [(0, .ref x0), (1, .int x1), (2, .int s.1), (3, .int s.2.1), (4, .int s.2.2.1)] [] s.2.2.2 hf res) (fun r => K_X1_dampest_L29 l E hf res g h x0 x1 r) (fun s o hl hk => k_X1_dampest_L29_s (h := s.2.2.2) (o := o) hl hk) n s o hl hK
set_option maxHeartbeats 4000000 in
theorem T_X1_dampest {l : Launch} {E : XEnv}  {n : Nat} {g : Nat} {x0 : Nat} {x1 : Int32} {h : XH} {r : (Int32 ⊕ XX) × XH} (hl : k_X1_dampest n g E.2.2.2 x0 x1 h = some r) : CM l E mX1_dampest (5 * g + 10) [.ref x0, .int x1] h (xrI r.1) r.2 := by
  unfold k_X1_dampest at hl
  refine cm_of (by decide +kernel) rfl (Nat.le_of_ble_eq_true rfl) ?_
  refine cx_iload_n dX1_dampest_0 rfl ?_
  refine cx_iconst (v := 1) dX1_dampest_1 rfl ?_
  refine cx_bipush (v := 40) dX1_dampest_2 (by decide) ?_
  obtain ⟨r1, er1, hl⟩ := xb hl
  refine cx_callS (T_X1_in er1) lS_X1_139 C_X1_in dX1_dampest_4 rfl (by omega) (Nat.le_of_ble_eq_true rfl) ?_
  obtain ⟨r3, er3, hl⟩ := xb hl
  rcases r3 with ⟨v5 | ⟨C8, q9⟩, h6⟩
  · dsimp only at hl
    refine cx_callS (T_X1_right er3) lS_X1_62 C_X1_right dX1_dampest_7 rfl (by omega) (Nat.le_of_ble_eq_true rfl) ?_
    refine cx_aload_n dX1_dampest_10 rfl rfl ?_
    obtain ⟨v10, ev10, hl⟩ := xb hl
    refine cx_getR gF_X1_35 dX1_dampest_11 ev10 ?_
    refine cx_aload_n dX1_dampest_14 rfl rfl ?_
    obtain ⟨v11, ev11, hl⟩ := xb hl
    refine cx_getR gF_X1_31 dX1_dampest_15 ev11 ?_
    obtain ⟨u13, eu13, hl⟩ := xb hl
    obtain ⟨r12, er12, hl⟩ := xb hl
    refine cx_callV (Or.inl ⟨by decide, _, _, rfl⟩) (T_X3_be er12) lV_X1_244 C_X3_be dX1_dampest_18 eu13 (by decide) rfl (by omega) (Nat.le_of_ble_eq_true rfl) ?_
    refine cx_pop dX1_dampest_21 rfl ?_
    refine cx_iconst (v := 0) dX1_dampest_22 rfl ?_
    refine cx_istore_n dX1_dampest_23 (by decide) ?_
    refine cx_iconst (v := (-1)) dX1_dampest_24 rfl ?_
    refine cx_istore_n dX1_dampest_25 (by decide) ?_
    refine cx_iconst (v := 0) dX1_dampest_26 rfl ?_
    refine cx_istore dX1_dampest_27 (by decide) ?_
    obtain ⟨o30, eo30, hl⟩ := xb hl
    refine cx_lsK (k_X1_dampest_L29_ok (h := r12.2) (s := (0, (-1), 0, r12.2)) eo30 ?_) ⟨rfl, rfl, rfl, rfl, rfl, trivial⟩
    refine cx_iload_n dX1_dampest_71 rfl ?_
    cases hl
    exact cx_iret dX1_dampest_72 rfl rfl rfl rfl
  · dsimp only at hl
    cases hl
    exact cx_callSx (T_X1_right er3) lS_X1_62 C_X1_right dX1_dampest_7 rfl (by omega) (Nat.le_of_ble_eq_true rfl) (ct_out rfl rfl (by decide))
def k_X1_kept_L20 (n : Nat) (g : Nat) (c : Nat → Value) (x0 : Nat) (x2 : Int32) (x3 : Int32) (h : XH) : Option ((Int32 × Int32 × XH) ⊕ ((Int32 × XH))) := (cgR h x0 0 1).bind fun v12 => (ckd h v12 1).bind fun u14 => (k_X2_people v12 h).bind fun r13 => if x3 ≥ r13 then some (.inr (x2, h)) else (cgR h x0 0 2).bind fun v16 => (cgR h v16 2 3).bind fun v17 => (caI h v17 100 x3).bind fun v18 => if v18 = (-1) then (some (x3 + 1)).bind fun w20 => some (.inl (x2, w20, h)) else (cgR h x0 0 3).bind fun v21 => (cgR h v21 2 3).bind fun v22 => (caI h v22 100 x3).bind fun v23 => (cgR h x0 0 2).bind fun v24 => (cgR h v24 2 3).bind fun v25 => (caI h v25 100 x3).bind fun v26 => if v23 = v26 then (some (x2 ||| ((1 : Int32) <<< ((x3 : Int32) &&& 31)))).bind fun w29 => (some (x3 + 1)).bind fun w30 => some (.inl (w29, w30, h)) else (some (x3 + 1)).bind fun w28 => some (.inl (x2, w28, h))
abbrev K_X1_kept_L20 (l : Launch) (E : XEnv) (hf : XH) (res : XO) (g : Nat) (h : XH) (x0 : Nat) (o : (Int32 × XH)) : Prop := match o with
  | e => CX l E mX1_kept (5 * g + 12) 77 [(2, .int e.1)] [] e.2 hf res
def k_X1_kept (n : Nat) (g : Nat) (c : Nat → Value) (x0 : Nat) (x1 : Int32) (h : XH) : Option ((Int32 ⊕ XX) × XH) := (k_X1_in x1 0 40 h).bind fun r1 => (k_X1_right r1 h).bind fun r3 => match r3 with | (.inl v5, h6) => ((ckd h6 x0 0).bind fun u11 => (k_X1_later n g c x0 x1 h6).bind fun r10 => (xloop (fun s => k_X1_kept_L20 n g c x0 s.1 s.2.1 s.2.2) n (0, 0, r10.2)).bind fun o31 => some (.inl o31.1, o31.2)) | (.inr e7, h6) => (some (.inr e7, h6))
set_option maxHeartbeats 4000000 in
theorem k_X1_kept_L20_s {l : Launch} {E : XEnv} {hf : XH} {res : XO} {n : Nat} {g : Nat} {x0 : Nat} {x2 : Int32} {x3 : Int32} {h : XH} {o : (Int32 × Int32 × XH) ⊕ ((Int32 × XH))} (hl : k_X1_kept_L20 n g E.2.2.2 x0 x2 x3 h = some o) (hK : (xk (fun s : Int32 × Int32 × XH => CX l E mX1_kept (5 * g + 12) 20 [(0, .ref x0), (2, .int s.1), (3, .int s.2.1)] [] s.2.2 hf res) (fun r => K_X1_kept_L20 l E hf res g h x0 r) o)) : CX l E mX1_kept (5 * g + 12) 20 [(0, .ref x0), (2, .int x2), (3, .int x3)] [] h hf res := by
  unfold k_X1_kept_L20 at hl
  refine cx_iload_n dX1_kept_20 rfl ?_
  refine cx_aload_n dX1_kept_21 rfl rfl ?_
  obtain ⟨v12, ev12, hl⟩ := xb hl
  refine cx_getR gF_X1_22 dX1_kept_22 ev12 ?_
  obtain ⟨u14, eu14, hl⟩ := xb hl
  obtain ⟨r13, er13, hl⟩ := xb hl
  refine cx_callV (Or.inl ⟨by decide, _, _, rfl⟩) (T_X2_people er13) lV_X1_104 C_X2_people dX1_kept_25 eu14 (by decide) rfl (by omega) (Nat.le_of_ble_eq_true rfl) ?_
  by_cases c15 : x3 ≥ r13
  · rw [if_pos c15] at hl
    refine cx_icmp_ge (X := True) (tgt := 77) dX1_kept_28 (by decide) (fun _ => ?_) (fun z => absurd c15 z)
    cases hl
    exact cx_lsK hK ⟨rfl, trivial⟩
  · rw [if_neg c15] at hl
    refine cx_icmp_ge (X := True) (tgt := 77) dX1_kept_28 (by decide) (fun z => absurd z c15) (fun _ => ?_)
    refine cx_aload_n dX1_kept_31 rfl rfl ?_
    obtain ⟨v16, ev16, hl⟩ := xb hl
    refine cx_getR gF_X1_31 dX1_kept_32 ev16 ?_
    obtain ⟨v17, ev17, hl⟩ := xb hl
    refine cx_getR gF_X1_97 dX1_kept_35 ev17 ?_
    refine cx_iload_n dX1_kept_38 rfl ?_
    obtain ⟨v18, ev18, hl⟩ := xb hl
    refine cx_iald dX1_kept_39 ev18 ?_
    refine cx_iconst (v := (-1)) dX1_kept_40 rfl ?_
    by_cases c19 : v18 = (-1)
    · rw [if_pos c19] at hl
      refine cx_icmp_eq (X := True) (tgt := 71) dX1_kept_41 (by decide) (fun _ => ?_) (fun z => absurd c19 z)
      obtain ⟨w20, ew20, hl⟩ := xb hl
      refine cx_iinc dX1_kept_71 rfl (by decide) (Option.some.inj ew20) ?_
      refine cx_goto (tgt := 20) dX1_kept_74 (by decide) ?_
      cases hl
      exact cx_lsK hK ⟨rfl, rfl, rfl, trivial⟩
    · rw [if_neg c19] at hl
      refine cx_icmp_eq (X := True) (tgt := 71) dX1_kept_41 (by decide) (fun z => absurd z c19) (fun _ => ?_)
      refine cx_aload_n dX1_kept_44 rfl rfl ?_
      obtain ⟨v21, ev21, hl⟩ := xb hl
      refine cx_getR gF_X1_35 dX1_kept_45 ev21 ?_
      obtain ⟨v22, ev22, hl⟩ := xb hl
      refine cx_getR gF_X1_97 dX1_kept_48 ev22 ?_
      refine cx_iload_n dX1_kept_51 rfl ?_
      obtain ⟨v23, ev23, hl⟩ := xb hl
      refine cx_iald dX1_kept_52 ev23 ?_
      refine cx_aload_n dX1_kept_53 rfl rfl ?_
      obtain ⟨v24, ev24, hl⟩ := xb hl
      refine cx_getR gF_X1_31 dX1_kept_54 ev24 ?_
      obtain ⟨v25, ev25, hl⟩ := xb hl
      refine cx_getR gF_X1_97 dX1_kept_57 ev25 ?_
      refine cx_iload_n dX1_kept_60 rfl ?_
      obtain ⟨v26, ev26, hl⟩ := xb hl
      refine cx_iald dX1_kept_61 ev26 ?_
      by_cases c27 : v23 = v26
      · rw [if_pos c27] at hl
        refine cx_icmp_ne (X := True) (tgt := 71) dX1_kept_62 (by decide) (fun z => absurd c27 z) (fun _ => ?_)
        refine cx_iload_n dX1_kept_65 rfl ?_
        refine cx_iconst (v := 1) dX1_kept_66 rfl ?_
        refine cx_iload_n dX1_kept_67 rfl ?_
        refine cx_ishl dX1_kept_68 ?_
        refine cx_ior dX1_kept_69 ?_
        obtain ⟨w29, ew29, hl⟩ := xb hl
        refine cx_top (Option.some.inj ew29) ?_
        refine cx_istore_n dX1_kept_70 (by decide) ?_
        obtain ⟨w30, ew30, hl⟩ := xb hl
        refine cx_iinc dX1_kept_71 rfl (by decide) (Option.some.inj ew30) ?_
        refine cx_goto (tgt := 20) dX1_kept_74 (by decide) ?_
        cases hl
        exact cx_lsK hK ⟨rfl, rfl, rfl, trivial⟩
      · rw [if_neg c27] at hl
        refine cx_icmp_ne (X := True) (tgt := 71) dX1_kept_62 (by decide) (fun _ => ?_) (fun z => absurd z c27)
        obtain ⟨w28, ew28, hl⟩ := xb hl
        refine cx_iinc dX1_kept_71 rfl (by decide) (Option.some.inj ew28) ?_
        refine cx_goto (tgt := 20) dX1_kept_74 (by decide) ?_
        cases hl
        exact cx_lsK hK ⟨rfl, rfl, rfl, trivial⟩
set_option maxHeartbeats 4000000 in
theorem k_X1_kept_L20_ok {l : Launch} {E : XEnv} {hf : XH} {res : XO} {n : Nat} {g : Nat} {x0 : Nat} {h : XH} {s : Int32 × Int32 × XH} {o : (Int32 × XH)} (hl : xloop (fun s => k_X1_kept_L20 n g E.2.2.2 x0 s.1 s.2.1 s.2.2) n s = some o) (hK : K_X1_kept_L20 l E hf res g h x0 o) : CX l E mX1_kept (5 * g + 12) 20 [(0, .ref x0), (2, .int s.1), (3, .int s.2.1)] [] s.2.2 hf res :=
  xloop_of (fun s : Int32 × Int32 × XH => CX l E mX1_kept (5 * g + 12) 20 [(0, .ref x0), (2, .int s.1), (3, .int s.2.1)] [] s.2.2 hf res) (fun r => K_X1_kept_L20 l E hf res g h x0 r) (fun s o hl hk => k_X1_kept_L20_s (h := s.2.2) (o := o) hl hk) n s o hl hK
set_option maxHeartbeats 4000000 in
theorem T_X1_kept {l : Launch} {E : XEnv}  {n : Nat} {g : Nat} {x0 : Nat} {x1 : Int32} {h : XH} {r : (Int32 ⊕ XX) × XH} (hl : k_X1_kept n g E.2.2.2 x0 x1 h = some r) : CM l E mX1_kept (5 * g + 12) [.ref x0, .int x1] h (xrI r.1) r.2 := by
  unfold k_X1_kept at hl
  refine cm_of (by decide +kernel) rfl (Nat.le_of_ble_eq_true rfl) ?_
  refine cx_iload_n dX1_kept_0 rfl ?_
  refine cx_iconst (v := 0) dX1_kept_1 rfl ?_
  refine cx_bipush (v := 40) dX1_kept_2 (by decide) ?_
  obtain ⟨r1, er1, hl⟩ := xb hl
  refine cx_callS (T_X1_in er1) lS_X1_139 C_X1_in dX1_kept_4 rfl (by omega) (Nat.le_of_ble_eq_true rfl) ?_
  obtain ⟨r3, er3, hl⟩ := xb hl
  rcases r3 with ⟨v5 | ⟨C8, q9⟩, h6⟩
  · dsimp only at hl
    refine cx_callS (T_X1_right er3) lS_X1_62 C_X1_right dX1_kept_7 rfl (by omega) (Nat.le_of_ble_eq_true rfl) ?_
    refine cx_aload_n dX1_kept_10 rfl rfl ?_
    refine cx_iload_n dX1_kept_11 rfl ?_
    obtain ⟨u11, eu11, hl⟩ := xb hl
    obtain ⟨r10, er10, hl⟩ := xb hl
    refine cx_callV (Or.inl ⟨by decide, _, _, rfl⟩) (T_X1_later er10) lV_X1_248 C_X1_later dX1_kept_12 eu11 (by decide) rfl (by omega) (Nat.le_of_ble_eq_true rfl) ?_
    refine cx_pop dX1_kept_15 rfl ?_
    refine cx_iconst (v := 0) dX1_kept_16 rfl ?_
    refine cx_istore_n dX1_kept_17 (by decide) ?_
    refine cx_iconst (v := 0) dX1_kept_18 rfl ?_
    refine cx_istore_n dX1_kept_19 (by decide) ?_
    obtain ⟨o31, eo31, hl⟩ := xb hl
    refine cx_lsK (k_X1_kept_L20_ok (h := r10.2) (s := (0, 0, r10.2)) eo31 ?_) ⟨rfl, rfl, rfl, trivial⟩
    refine cx_iload_n dX1_kept_77 rfl ?_
    cases hl
    exact cx_iret dX1_kept_78 rfl rfl rfl rfl
  · dsimp only at hl
    cases hl
    exact cx_callSx (T_X1_right er3) lS_X1_62 C_X1_right dX1_kept_7 rfl (by omega) (Nat.le_of_ble_eq_true rfl) (ct_out rfl rfl (by decide))
def k_X1_sorest_L20 (n : Nat) (g : Nat) (c : Nat → Value) (x0 : Nat) (x2 : Int32) (x3 : Int32) (h : XH) : Option ((Int32 × Int32 × XH) ⊕ ((Int32 × XH))) := (cgR h x0 0 1).bind fun v12 => (ckd h v12 1).bind fun u14 => (k_X2_people v12 h).bind fun r13 => if x3 ≥ r13 then some (.inr (x2, h)) else if x2 = (-1) then (some (x3 + 1)).bind fun w17 => some (.inl (x3, w17, h)) else (cgR h x0 0 3).bind fun v18 => (cgR h v18 2 4).bind fun v19 => (caI h v19 100 x3).bind fun v20 => (cgR h x0 0 3).bind fun v21 => (cgR h v21 2 4).bind fun v22 => (caI h v22 100 x2).bind fun v23 => if v20 ≤ v23 then (some (x3 + 1)).bind fun w25 => some (.inl (x2, w25, h)) else (some (x3 + 1)).bind fun w26 => some (.inl (x3, w26, h))
abbrev K_X1_sorest_L20 (l : Launch) (E : XEnv) (hf : XH) (res : XO) (g : Nat) (h : XH) (x0 : Nat) (o : (Int32 × XH)) : Prop := match o with
  | e => CX l E mX1_sorest (5 * g + 12) 65 [(2, .int e.1)] [] e.2 hf res
def k_X1_sorest (n : Nat) (g : Nat) (c : Nat → Value) (x0 : Nat) (x1 : Int32) (h : XH) : Option ((Int32 ⊕ XX) × XH) := (k_X1_in x1 0 40 h).bind fun r1 => (k_X1_right r1 h).bind fun r3 => match r3 with | (.inl v5, h6) => ((ckd h6 x0 0).bind fun u11 => (k_X1_later n g c x0 x1 h6).bind fun r10 => (xloop (fun s => k_X1_sorest_L20 n g c x0 s.1 s.2.1 s.2.2) n ((-1), 0, r10.2)).bind fun o27 => some (.inl o27.1, o27.2)) | (.inr e7, h6) => (some (.inr e7, h6))
set_option maxHeartbeats 4000000 in
theorem k_X1_sorest_L20_s {l : Launch} {E : XEnv} {hf : XH} {res : XO} {n : Nat} {g : Nat} {x0 : Nat} {x2 : Int32} {x3 : Int32} {h : XH} {o : (Int32 × Int32 × XH) ⊕ ((Int32 × XH))} (hl : k_X1_sorest_L20 n g E.2.2.2 x0 x2 x3 h = some o) (hK : (xk (fun s : Int32 × Int32 × XH => CX l E mX1_sorest (5 * g + 12) 20 [(0, .ref x0), (2, .int s.1), (3, .int s.2.1)] [] s.2.2 hf res) (fun r => K_X1_sorest_L20 l E hf res g h x0 r) o)) : CX l E mX1_sorest (5 * g + 12) 20 [(0, .ref x0), (2, .int x2), (3, .int x3)] [] h hf res := by
  unfold k_X1_sorest_L20 at hl
  refine cx_iload_n dX1_sorest_20 rfl ?_
  refine cx_aload_n dX1_sorest_21 rfl rfl ?_
  obtain ⟨v12, ev12, hl⟩ := xb hl
  refine cx_getR gF_X1_22 dX1_sorest_22 ev12 ?_
  obtain ⟨u14, eu14, hl⟩ := xb hl
  obtain ⟨r13, er13, hl⟩ := xb hl
  refine cx_callV (Or.inl ⟨by decide, _, _, rfl⟩) (T_X2_people er13) lV_X1_104 C_X2_people dX1_sorest_25 eu14 (by decide) rfl (by omega) (Nat.le_of_ble_eq_true rfl) ?_
  by_cases c15 : x3 ≥ r13
  · rw [if_pos c15] at hl
    refine cx_icmp_ge (X := True) (tgt := 65) dX1_sorest_28 (by decide) (fun _ => ?_) (fun z => absurd c15 z)
    cases hl
    exact cx_lsK hK ⟨rfl, trivial⟩
  · rw [if_neg c15] at hl
    refine cx_icmp_ge (X := True) (tgt := 65) dX1_sorest_28 (by decide) (fun z => absurd z c15) (fun _ => ?_)
    refine cx_iload_n dX1_sorest_31 rfl ?_
    refine cx_iconst (v := (-1)) dX1_sorest_32 rfl ?_
    by_cases c16 : x2 = (-1)
    · rw [if_pos c16] at hl
      refine cx_icmp_eq (X := True) (tgt := 57) dX1_sorest_33 (by decide) (fun _ => ?_) (fun z => absurd c16 z)
      refine cx_iload_n dX1_sorest_57 rfl ?_
      refine cx_istore_n dX1_sorest_58 (by decide) ?_
      obtain ⟨w17, ew17, hl⟩ := xb hl
      refine cx_iinc dX1_sorest_59 rfl (by decide) (Option.some.inj ew17) ?_
      refine cx_goto (tgt := 20) dX1_sorest_62 (by decide) ?_
      cases hl
      exact cx_lsK hK ⟨rfl, rfl, rfl, trivial⟩
    · rw [if_neg c16] at hl
      refine cx_icmp_eq (X := True) (tgt := 57) dX1_sorest_33 (by decide) (fun z => absurd z c16) (fun _ => ?_)
      refine cx_aload_n dX1_sorest_36 rfl rfl ?_
      obtain ⟨v18, ev18, hl⟩ := xb hl
      refine cx_getR gF_X1_35 dX1_sorest_37 ev18 ?_
      obtain ⟨v19, ev19, hl⟩ := xb hl
      refine cx_getR gF_X1_203 dX1_sorest_40 ev19 ?_
      refine cx_iload_n dX1_sorest_43 rfl ?_
      obtain ⟨v20, ev20, hl⟩ := xb hl
      refine cx_iald dX1_sorest_44 ev20 ?_
      refine cx_aload_n dX1_sorest_45 rfl rfl ?_
      obtain ⟨v21, ev21, hl⟩ := xb hl
      refine cx_getR gF_X1_35 dX1_sorest_46 ev21 ?_
      obtain ⟨v22, ev22, hl⟩ := xb hl
      refine cx_getR gF_X1_203 dX1_sorest_49 ev22 ?_
      refine cx_iload_n dX1_sorest_52 rfl ?_
      obtain ⟨v23, ev23, hl⟩ := xb hl
      refine cx_iald dX1_sorest_53 ev23 ?_
      by_cases c24 : v20 ≤ v23
      · rw [if_pos c24] at hl
        refine cx_icmp_le (X := True) (tgt := 59) dX1_sorest_54 (by decide) (fun _ => ?_) (fun z => absurd c24 z)
        obtain ⟨w25, ew25, hl⟩ := xb hl
        refine cx_iinc dX1_sorest_59 rfl (by decide) (Option.some.inj ew25) ?_
        refine cx_goto (tgt := 20) dX1_sorest_62 (by decide) ?_
        cases hl
        exact cx_lsK hK ⟨rfl, rfl, rfl, trivial⟩
      · rw [if_neg c24] at hl
        refine cx_icmp_le (X := True) (tgt := 59) dX1_sorest_54 (by decide) (fun z => absurd z c24) (fun _ => ?_)
        refine cx_iload_n dX1_sorest_57 rfl ?_
        refine cx_istore_n dX1_sorest_58 (by decide) ?_
        obtain ⟨w26, ew26, hl⟩ := xb hl
        refine cx_iinc dX1_sorest_59 rfl (by decide) (Option.some.inj ew26) ?_
        refine cx_goto (tgt := 20) dX1_sorest_62 (by decide) ?_
        cases hl
        exact cx_lsK hK ⟨rfl, rfl, rfl, trivial⟩
set_option maxHeartbeats 4000000 in
theorem k_X1_sorest_L20_ok {l : Launch} {E : XEnv} {hf : XH} {res : XO} {n : Nat} {g : Nat} {x0 : Nat} {h : XH} {s : Int32 × Int32 × XH} {o : (Int32 × XH)} (hl : xloop (fun s => k_X1_sorest_L20 n g E.2.2.2 x0 s.1 s.2.1 s.2.2) n s = some o) (hK : K_X1_sorest_L20 l E hf res g h x0 o) : CX l E mX1_sorest (5 * g + 12) 20 [(0, .ref x0), (2, .int s.1), (3, .int s.2.1)] [] s.2.2 hf res :=
  xloop_of (fun s : Int32 × Int32 × XH => CX l E mX1_sorest (5 * g + 12) 20 [(0, .ref x0), (2, .int s.1), (3, .int s.2.1)] [] s.2.2 hf res) (fun r => K_X1_sorest_L20 l E hf res g h x0 r) (fun s o hl hk => k_X1_sorest_L20_s (h := s.2.2) (o := o) hl hk) n s o hl hK
set_option maxHeartbeats 4000000 in
theorem T_X1_sorest {l : Launch} {E : XEnv}  {n : Nat} {g : Nat} {x0 : Nat} {x1 : Int32} {h : XH} {r : (Int32 ⊕ XX) × XH} (hl : k_X1_sorest n g E.2.2.2 x0 x1 h = some r) : CM l E mX1_sorest (5 * g + 12) [.ref x0, .int x1] h (xrI r.1) r.2 := by
  unfold k_X1_sorest at hl
  refine cm_of (by decide +kernel) rfl (Nat.le_of_ble_eq_true rfl) ?_
  refine cx_iload_n dX1_sorest_0 rfl ?_
  refine cx_iconst (v := 0) dX1_sorest_1 rfl ?_
  refine cx_bipush (v := 40) dX1_sorest_2 (by decide) ?_
  obtain ⟨r1, er1, hl⟩ := xb hl
  refine cx_callS (T_X1_in er1) lS_X1_139 C_X1_in dX1_sorest_4 rfl (by omega) (Nat.le_of_ble_eq_true rfl) ?_
  obtain ⟨r3, er3, hl⟩ := xb hl
  rcases r3 with ⟨v5 | ⟨C8, q9⟩, h6⟩
  · dsimp only at hl
    refine cx_callS (T_X1_right er3) lS_X1_62 C_X1_right dX1_sorest_7 rfl (by omega) (Nat.le_of_ble_eq_true rfl) ?_
    refine cx_aload_n dX1_sorest_10 rfl rfl ?_
    refine cx_iload_n dX1_sorest_11 rfl ?_
    obtain ⟨u11, eu11, hl⟩ := xb hl
    obtain ⟨r10, er10, hl⟩ := xb hl
    refine cx_callV (Or.inl ⟨by decide, _, _, rfl⟩) (T_X1_later er10) lV_X1_248 C_X1_later dX1_sorest_12 eu11 (by decide) rfl (by omega) (Nat.le_of_ble_eq_true rfl) ?_
    refine cx_pop dX1_sorest_15 rfl ?_
    refine cx_iconst (v := (-1)) dX1_sorest_16 rfl ?_
    refine cx_istore_n dX1_sorest_17 (by decide) ?_
    refine cx_iconst (v := 0) dX1_sorest_18 rfl ?_
    refine cx_istore_n dX1_sorest_19 (by decide) ?_
    obtain ⟨o27, eo27, hl⟩ := xb hl
    refine cx_lsK (k_X1_sorest_L20_ok (h := r10.2) (s := ((-1), 0, r10.2)) eo27 ?_) ⟨rfl, rfl, rfl, trivial⟩
    refine cx_iload_n dX1_sorest_65 rfl ?_
    cases hl
    exact cx_iret dX1_sorest_66 rfl rfl rfl rfl
  · dsimp only at hl
    cases hl
    exact cx_callSx (T_X1_right er3) lS_X1_62 C_X1_right dX1_sorest_7 rfl (by omega) (Nat.le_of_ble_eq_true rfl) (ct_out rfl rfl (by decide))
def k_X1_eased_L41 (n : Nat) (g : Nat) (c : Nat → Value) (x0 : Nat) (x1 : Int32) (x2 : Int32) (x3 : Int32) (x4 : Int32) (x5 : Int32) (x6 : Int32) (h : XH) : Option ((Int32 × Int32 × Int32 × XH) ⊕ ((Int32 × XH))) := if x6 ≥ x3 then some (.inr (x4, h)) else (cgR h x0 0 3).bind fun v29 => (ckd h v29 2).bind fun u31 => (k_X3_eases n g c v29 x1 x2 h).bind fun r30 => if r30.1 ≤ x5 then (cgR r30.2 x0 0 3).bind fun v33 => (ckd r30.2 v33 2).bind fun u35 => (k_X3_pass n g c v33 r30.2).bind fun r34 => (some (x6 + 1)).bind fun w36 => some (.inl (x4, x5, w36, r34.2)) else (cgR r30.2 x0 0 3).bind fun v37 => (ckd r30.2 v37 2).bind fun u39 => (k_X3_pass n g c v37 r30.2).bind fun r38 => (some (x6 + 1)).bind fun w40 => some (.inl (x6, r30.1, w40, r38.2))
abbrev K_X1_eased_L41 (l : Launch) (E : XEnv) (hf : XH) (res : XO) (g : Nat) (h : XH) (x0 : Nat) (x1 : Int32) (x2 : Int32) (x3 : Int32) (o : (Int32 × XH)) : Prop := match o with
  | e => CX l E mX1_eased (5 * g + 10) 87 [(4, .int e.1)] [] e.2 hf res
def k_X1_eased (n : Nat) (g : Nat) (c : Nat → Value) (x0 : Nat) (x1 : Int32) (x2 : Int32) (x3 : Int32) (h : XH) : Option ((Int32 ⊕ XX) × XH) := (ckd h x0 0).bind fun u2 => (k_X1_aPerson x0 x1 h).bind fun r1 => match r1 with | (.inl v3, h4) => ((ckd h4 x0 0).bind fun u9 => (k_X1_aHouse x0 x2 h4).bind fun r8 => match r8 with | (.inl v10, h11) => ((k_X1_in x3 1 40 h11).bind fun r15 => (k_X1_right r15 h11).bind fun r17 => match r17 with | (.inl v19, h20) => ((cgR h20 x0 0 3).bind fun v24 => (cgR h20 x0 0 2).bind fun v25 => (ckd h20 v24 2).bind fun u27 => (k_X3_be n v24 v25 h20).bind fun r26 => (xloop (fun s => k_X1_eased_L41 n g c x0 x1 x2 x3 s.1 s.2.1 s.2.2.1 s.2.2.2) n (0, (-1), 0, r26.2)).bind fun o41 => some (.inl o41.1, o41.2)) | (.inr e21, h20) => (some (.inr e21, h20))) | (.inr e12, h11) => (some (.inr e12, h11))) | (.inr e5, h4) => (some (.inr e5, h4))
set_option maxHeartbeats 4000000 in
theorem k_X1_eased_L41_s {l : Launch} {E : XEnv} {hf : XH} {res : XO} {n : Nat} {g : Nat} {x0 : Nat} {x1 : Int32} {x2 : Int32} {x3 : Int32} {x4 : Int32} {x5 : Int32} {x6 : Int32} {h : XH} {o : (Int32 × Int32 × Int32 × XH) ⊕ ((Int32 × XH))} (hl : k_X1_eased_L41 n g E.2.2.2 x0 x1 x2 x3 x4 x5 x6 h = some o) (hK : (xk (fun s : Int32 × Int32 × Int32 × XH => CX l E mX1_eased (5 * g + 10) 41 [(0, .ref x0), (1, .int x1), (2, .int x2), (3, .int x3), (4, .int s.1), (5, .int s.2.1), (6, .int s.2.2.1)] [] s.2.2.2 hf res) (fun r => K_X1_eased_L41 l E hf res g h x0 x1 x2 x3 r) o)) : CX l E mX1_eased (5 * g + 10) 41 [(0, .ref x0), (1, .int x1), (2, .int x2), (3, .int x3), (4, .int x4), (5, .int x5), (6, .int x6)] [] h hf res := by
  unfold k_X1_eased_L41 at hl
  refine cx_iload dX1_eased_41 rfl ?_
  refine cx_iload_n dX1_eased_43 rfl ?_
  by_cases c28 : x6 ≥ x3
  · rw [if_pos c28] at hl
    refine cx_icmp_ge (X := True) (tgt := 87) dX1_eased_44 (by decide) (fun _ => ?_) (fun z => absurd c28 z)
    cases hl
    exact cx_lsK hK ⟨rfl, trivial⟩
  · rw [if_neg c28] at hl
    refine cx_icmp_ge (X := True) (tgt := 87) dX1_eased_44 (by decide) (fun z => absurd z c28) (fun _ => ?_)
    refine cx_aload_n dX1_eased_47 rfl rfl ?_
    obtain ⟨v29, ev29, hl⟩ := xb hl
    refine cx_getR gF_X1_35 dX1_eased_48 ev29 ?_
    refine cx_iload_n dX1_eased_51 rfl ?_
    refine cx_iload_n dX1_eased_52 rfl ?_
    obtain ⟨u31, eu31, hl⟩ := xb hl
    obtain ⟨r30, er30, hl⟩ := xb hl
    refine cx_callV (Or.inl ⟨by decide, _, _, rfl⟩) (T_X3_eases er30) lV_X1_206 C_X3_eases dX1_eased_53 eu31 (by decide) rfl (by omega) (Nat.le_of_ble_eq_true rfl) ?_
    refine cx_istore dX1_eased_56 (by decide) ?_
    refine cx_iload dX1_eased_58 rfl ?_
    refine cx_iload dX1_eased_60 rfl ?_
    by_cases c32 : r30.1 ≤ x5
    · rw [if_pos c32] at hl
      refine cx_icmp_le (X := True) (tgt := 73) dX1_eased_62 (by decide) (fun _ => ?_) (fun z => absurd c32 z)
      refine cx_aload_n dX1_eased_73 rfl rfl ?_
      obtain ⟨v33, ev33, hl⟩ := xb hl
      refine cx_getR gF_X1_35 dX1_eased_74 ev33 ?_
      obtain ⟨u35, eu35, hl⟩ := xb hl
      obtain ⟨r34, er34, hl⟩ := xb hl
      refine cx_callV (Or.inl ⟨by decide, _, _, rfl⟩) (T_X3_pass er34) lV_X1_251 C_X3_pass dX1_eased_77 eu35 (by decide) rfl (by omega) (Nat.le_of_ble_eq_true rfl) ?_
      refine cx_pop dX1_eased_80 rfl ?_
      obtain ⟨w36, ew36, hl⟩ := xb hl
      refine cx_iinc dX1_eased_81 rfl (by decide) (Option.some.inj ew36) ?_
      refine cx_goto (tgt := 41) dX1_eased_84 (by decide) ?_
      cases hl
      exact cx_lsK hK ⟨rfl, rfl, rfl, rfl, rfl, rfl, rfl, trivial⟩
    · rw [if_neg c32] at hl
      refine cx_icmp_le (X := True) (tgt := 73) dX1_eased_62 (by decide) (fun z => absurd z c32) (fun _ => ?_)
      refine cx_iload dX1_eased_65 rfl ?_
      refine cx_istore dX1_eased_67 (by decide) ?_
      refine cx_iload dX1_eased_69 rfl ?_
      refine cx_istore dX1_eased_71 (by decide) ?_
      refine cx_aload_n dX1_eased_73 rfl rfl ?_
      obtain ⟨v37, ev37, hl⟩ := xb hl
      refine cx_getR gF_X1_35 dX1_eased_74 ev37 ?_
      obtain ⟨u39, eu39, hl⟩ := xb hl
      obtain ⟨r38, er38, hl⟩ := xb hl
      refine cx_callV (Or.inl ⟨by decide, _, _, rfl⟩) (T_X3_pass er38) lV_X1_251 C_X3_pass dX1_eased_77 eu39 (by decide) rfl (by omega) (Nat.le_of_ble_eq_true rfl) ?_
      refine cx_pop dX1_eased_80 rfl ?_
      obtain ⟨w40, ew40, hl⟩ := xb hl
      refine cx_iinc dX1_eased_81 rfl (by decide) (Option.some.inj ew40) ?_
      refine cx_goto (tgt := 41) dX1_eased_84 (by decide) ?_
      cases hl
      exact cx_lsK hK ⟨rfl, rfl, rfl, rfl, rfl, rfl, rfl, trivial⟩
set_option maxHeartbeats 4000000 in
theorem k_X1_eased_L41_ok {l : Launch} {E : XEnv} {hf : XH} {res : XO} {n : Nat} {g : Nat} {x0 : Nat} {x1 : Int32} {x2 : Int32} {x3 : Int32} {h : XH} {s : Int32 × Int32 × Int32 × XH} {o : (Int32 × XH)} (hl : xloop (fun s => k_X1_eased_L41 n g E.2.2.2 x0 x1 x2 x3 s.1 s.2.1 s.2.2.1 s.2.2.2) n s = some o) (hK : K_X1_eased_L41 l E hf res g h x0 x1 x2 x3 o) : CX l E mX1_eased (5 * g + 10) 41 [(0, .ref x0), (1, .int x1), (2, .int x2), (3, .int x3), (4, .int s.1), (5, .int s.2.1), (6, .int s.2.2.1)] [] s.2.2.2 hf res :=
  xloop_of (fun s : Int32 × Int32 × Int32 × XH => CX l E mX1_eased (5 * g + 10) 41 [(0, .ref x0), (1, .int x1), (2, .int x2), (3, .int x3), (4, .int s.1), (5, .int s.2.1), (6, .int s.2.2.1)] [] s.2.2.2 hf res) (fun r => K_X1_eased_L41 l E hf res g h x0 x1 x2 x3 r) (fun s o hl hk => k_X1_eased_L41_s (h := s.2.2.2) (o := o) hl hk) n s o hl hK
set_option maxHeartbeats 4000000 in
theorem T_X1_eased {l : Launch} {E : XEnv}  {n : Nat} {g : Nat} {x0 : Nat} {x1 : Int32} {x2 : Int32} {x3 : Int32} {h : XH} {r : (Int32 ⊕ XX) × XH} (hl : k_X1_eased n g E.2.2.2 x0 x1 x2 x3 h = some r) : CM l E mX1_eased (5 * g + 10) [.ref x0, .int x1, .int x2, .int x3] h (xrI r.1) r.2 := by
  unfold k_X1_eased at hl
  refine cm_of (by decide +kernel) rfl (Nat.le_of_ble_eq_true rfl) ?_
  refine cx_aload_n dX1_eased_0 rfl rfl ?_
  refine cx_iload_n dX1_eased_1 rfl ?_
  obtain ⟨u2, eu2, hl⟩ := xb hl
  obtain ⟨r1, er1, hl⟩ := xb hl
  rcases r1 with ⟨v3 | ⟨C6, q7⟩, h4⟩
  · dsimp only at hl
    refine cx_callV (Or.inl ⟨by decide, _, _, rfl⟩) (T_X1_aPerson er1) lV_X1_193 C_X1_aPerson dX1_eased_2 eu2 (by decide) rfl (by omega) (Nat.le_of_ble_eq_true rfl) ?_
    refine cx_aload_n dX1_eased_5 rfl rfl ?_
    refine cx_iload_n dX1_eased_6 rfl ?_
    obtain ⟨u9, eu9, hl⟩ := xb hl
    obtain ⟨r8, er8, hl⟩ := xb hl
    rcases r8 with ⟨v10 | ⟨C13, q14⟩, h11⟩
    · dsimp only at hl
      refine cx_callV (Or.inl ⟨by decide, _, _, rfl⟩) (T_X1_aHouse er8) lV_X1_173 C_X1_aHouse dX1_eased_7 eu9 (by decide) rfl (by omega) (Nat.le_of_ble_eq_true rfl) ?_
      refine cx_iload_n dX1_eased_10 rfl ?_
      refine cx_iconst (v := 1) dX1_eased_11 rfl ?_
      refine cx_bipush (v := 40) dX1_eased_12 (by decide) ?_
      obtain ⟨r15, er15, hl⟩ := xb hl
      refine cx_callS (T_X1_in er15) lS_X1_139 C_X1_in dX1_eased_14 rfl (by omega) (Nat.le_of_ble_eq_true rfl) ?_
      obtain ⟨r17, er17, hl⟩ := xb hl
      rcases r17 with ⟨v19 | ⟨C22, q23⟩, h20⟩
      · dsimp only at hl
        refine cx_callS (T_X1_right er17) lS_X1_62 C_X1_right dX1_eased_17 rfl (by omega) (Nat.le_of_ble_eq_true rfl) ?_
        refine cx_aload_n dX1_eased_20 rfl rfl ?_
        obtain ⟨v24, ev24, hl⟩ := xb hl
        refine cx_getR gF_X1_35 dX1_eased_21 ev24 ?_
        refine cx_aload_n dX1_eased_24 rfl rfl ?_
        obtain ⟨v25, ev25, hl⟩ := xb hl
        refine cx_getR gF_X1_31 dX1_eased_25 ev25 ?_
        obtain ⟨u27, eu27, hl⟩ := xb hl
        obtain ⟨r26, er26, hl⟩ := xb hl
        refine cx_callV (Or.inl ⟨by decide, _, _, rfl⟩) (T_X3_be er26) lV_X1_244 C_X3_be dX1_eased_28 eu27 (by decide) rfl (by omega) (Nat.le_of_ble_eq_true rfl) ?_
        refine cx_pop dX1_eased_31 rfl ?_
        refine cx_iconst (v := 0) dX1_eased_32 rfl ?_
        refine cx_istore dX1_eased_33 (by decide) ?_
        refine cx_iconst (v := (-1)) dX1_eased_35 rfl ?_
        refine cx_istore dX1_eased_36 (by decide) ?_
        refine cx_iconst (v := 0) dX1_eased_38 rfl ?_
        refine cx_istore dX1_eased_39 (by decide) ?_
        obtain ⟨o41, eo41, hl⟩ := xb hl
        refine cx_lsK (k_X1_eased_L41_ok (h := r26.2) (s := (0, (-1), 0, r26.2)) eo41 ?_) ⟨rfl, rfl, rfl, rfl, rfl, rfl, rfl, trivial⟩
        refine cx_iload dX1_eased_87 rfl ?_
        cases hl
        exact cx_iret dX1_eased_89 rfl rfl rfl rfl
      · dsimp only at hl
        cases hl
        exact cx_callSx (T_X1_right er17) lS_X1_62 C_X1_right dX1_eased_17 rfl (by omega) (Nat.le_of_ble_eq_true rfl) (ct_out rfl rfl (by decide))
    · dsimp only at hl
      cases hl
      exact cx_callVx (Or.inl ⟨by decide, _, _, rfl⟩) (T_X1_aHouse er8) lV_X1_173 C_X1_aHouse dX1_eased_7 eu9 (by decide) rfl (by omega) (Nat.le_of_ble_eq_true rfl) (ct_out rfl rfl (by decide))
  · dsimp only at hl
    cases hl
    exact cx_callVx (Or.inl ⟨by decide, _, _, rfl⟩) (T_X1_aPerson er1) lV_X1_193 C_X1_aPerson dX1_eased_2 eu2 (by decide) rfl (by omega) (Nat.le_of_ble_eq_true rfl) (ct_out rfl rfl (by decide))
def k_X1_free_L9 (n : Nat) (g : Nat) (c : Nat → Value) (x0 : Nat) (x1 : Int32) (x2 : Int32) (x3 : Int32) (h : XH) : Option ((Int32 × Int32 × XH) ⊕ ((Int32 × XH))) := (cgR h x0 0 1).bind fun v8 => (ckd h v8 1).bind fun u10 => (k_X2_houses v8 h).bind fun r9 => if x3 ≥ r9 then some (.inr (x2, h)) else (cgR h x0 0 2).bind fun v12 => (ckd h v12 2).bind fun u14 => (k_X3_in n v12 x3 h).bind fun r13 => if r13 = (-1) then (cgR h x0 0 2).bind fun v17 => (ckd h v17 2).bind fun u19 => (k_X3_goesIn n g c v17 x1 x3 h).bind fun r18 => if r18.1 = 0 then (some (x3 + 1)).bind fun w32 => some (.inl (x2, w32, r18.2)) else if x2 = (-1) then (some (x3 + 1)).bind fun w22 => some (.inl (x3, w22, r18.2)) else (cgR r18.2 x0 0 2).bind fun v23 => (ckd r18.2 v23 2).bind fun u25 => (k_X3_tight v23 x1 x3 r18.2).bind fun r24 => (cgR r18.2 x0 0 2).bind fun v26 => (ckd r18.2 v26 2).bind fun u28 => (k_X3_tight v26 x1 x2 r18.2).bind fun r27 => if r24 ≥ r27 then (some (x3 + 1)).bind fun w30 => some (.inl (x2, w30, r18.2)) else (some (x3 + 1)).bind fun w31 => some (.inl (x3, w31, r18.2)) else (some (x3 + 1)).bind fun w16 => some (.inl (x2, w16, h))
abbrev K_X1_free_L9 (l : Launch) (E : XEnv) (hf : XH) (res : XO) (g : Nat) (h : XH) (x0 : Nat) (x1 : Int32) (o : (Int32 × XH)) : Prop := match o with
  | e => CX l E mX1_free (5 * g + 10) 81 [(2, .int e.1)] [] e.2 hf res
def k_X1_free (n : Nat) (g : Nat) (c : Nat → Value) (x0 : Nat) (x1 : Int32) (h : XH) : Option ((Int32 ⊕ XX) × XH) := (ckd h x0 0).bind fun u2 => (k_X1_aPerson x0 x1 h).bind fun r1 => match r1 with | (.inl v3, h4) => ((xloop (fun s => k_X1_free_L9 n g c x0 x1 s.1 s.2.1 s.2.2) n ((-1), 0, h4)).bind fun o33 => some (.inl o33.1, o33.2)) | (.inr e5, h4) => (some (.inr e5, h4))
set_option maxHeartbeats 4000000 in
theorem k_X1_free_L9_s {l : Launch} {E : XEnv} {hf : XH} {res : XO} {n : Nat} {g : Nat} {x0 : Nat} {x1 : Int32} {x2 : Int32} {x3 : Int32} {h : XH} {o : (Int32 × Int32 × XH) ⊕ ((Int32 × XH))} (hl : k_X1_free_L9 n g E.2.2.2 x0 x1 x2 x3 h = some o) (hK : (xk (fun s : Int32 × Int32 × XH => CX l E mX1_free (5 * g + 10) 9 [(0, .ref x0), (1, .int x1), (2, .int s.1), (3, .int s.2.1)] [] s.2.2 hf res) (fun r => K_X1_free_L9 l E hf res g h x0 x1 r) o)) : CX l E mX1_free (5 * g + 10) 9 [(0, .ref x0), (1, .int x1), (2, .int x2), (3, .int x3)] [] h hf res := by
  unfold k_X1_free_L9 at hl
  refine cx_iload_n dX1_free_9 rfl ?_
  refine cx_aload_n dX1_free_10 rfl rfl ?_
  obtain ⟨v8, ev8, hl⟩ := xb hl
  refine cx_getR gF_X1_22 dX1_free_11 ev8 ?_
  obtain ⟨u10, eu10, hl⟩ := xb hl
  obtain ⟨r9, er9, hl⟩ := xb hl
  refine cx_callV (Or.inl ⟨by decide, _, _, rfl⟩) (T_X2_houses er9) lV_X1_89 C_X2_houses dX1_free_14 eu10 (by decide) rfl (by omega) (Nat.le_of_ble_eq_true rfl) ?_
  by_cases c11 : x3 ≥ r9
  · rw [if_pos c11] at hl
    refine cx_icmp_ge (X := True) (tgt := 81) dX1_free_17 (by decide) (fun _ => ?_) (fun z => absurd c11 z)
    cases hl
    exact cx_lsK hK ⟨rfl, trivial⟩
  · rw [if_neg c11] at hl
    refine cx_icmp_ge (X := True) (tgt := 81) dX1_free_17 (by decide) (fun z => absurd z c11) (fun _ => ?_)
    refine cx_aload_n dX1_free_20 rfl rfl ?_
    obtain ⟨v12, ev12, hl⟩ := xb hl
    refine cx_getR gF_X1_31 dX1_free_21 ev12 ?_
    refine cx_iload_n dX1_free_24 rfl ?_
    obtain ⟨u14, eu14, hl⟩ := xb hl
    obtain ⟨r13, er13, hl⟩ := xb hl
    refine cx_callV (Or.inl ⟨by decide, _, _, rfl⟩) (T_X3_in er13) lV_X1_93 C_X3_in dX1_free_25 eu14 (by decide) rfl (by omega) (Nat.le_of_ble_eq_true rfl) ?_
    refine cx_iconst (v := (-1)) dX1_free_28 rfl ?_
    by_cases c15 : r13 = (-1)
    · rw [if_pos c15] at hl
      refine cx_icmp_ne (X := True) (tgt := 75) dX1_free_29 (by decide) (fun z => absurd c15 z) (fun _ => ?_)
      refine cx_aload_n dX1_free_32 rfl rfl ?_
      obtain ⟨v17, ev17, hl⟩ := xb hl
      refine cx_getR gF_X1_31 dX1_free_33 ev17 ?_
      refine cx_iload_n dX1_free_36 rfl ?_
      refine cx_iload_n dX1_free_37 rfl ?_
      obtain ⟨u19, eu19, hl⟩ := xb hl
      obtain ⟨r18, er18, hl⟩ := xb hl
      refine cx_callV (Or.inl ⟨by decide, _, _, rfl⟩) (T_X3_goesIn er18) lV_X1_233 C_X3_goesIn dX1_free_38 eu19 (by decide) rfl (by omega) (Nat.le_of_ble_eq_true rfl) ?_
      by_cases c20 : r18.1 = 0
      · rw [if_pos c20] at hl
        refine cx_if_ne (X := True) (tgt := 47) dX1_free_41 (by decide) (fun z => absurd c20 z) (fun _ => ?_)
        refine cx_goto (tgt := 75) dX1_free_44 (by decide) ?_
        obtain ⟨w32, ew32, hl⟩ := xb hl
        refine cx_iinc dX1_free_75 rfl (by decide) (Option.some.inj ew32) ?_
        refine cx_goto (tgt := 9) dX1_free_78 (by decide) ?_
        cases hl
        exact cx_lsK hK ⟨rfl, rfl, rfl, rfl, trivial⟩
      · rw [if_neg c20] at hl
        refine cx_if_ne (X := True) (tgt := 47) dX1_free_41 (by decide) (fun _ => ?_) (fun z => absurd z c20)
        refine cx_iload_n dX1_free_47 rfl ?_
        refine cx_iconst (v := (-1)) dX1_free_48 rfl ?_
        by_cases c21 : x2 = (-1)
        · rw [if_pos c21] at hl
          refine cx_icmp_eq (X := True) (tgt := 73) dX1_free_49 (by decide) (fun _ => ?_) (fun z => absurd c21 z)
          refine cx_iload_n dX1_free_73 rfl ?_
          refine cx_istore_n dX1_free_74 (by decide) ?_
          obtain ⟨w22, ew22, hl⟩ := xb hl
          refine cx_iinc dX1_free_75 rfl (by decide) (Option.some.inj ew22) ?_
          refine cx_goto (tgt := 9) dX1_free_78 (by decide) ?_
          cases hl
          exact cx_lsK hK ⟨rfl, rfl, rfl, rfl, trivial⟩
        · rw [if_neg c21] at hl
          refine cx_icmp_eq (X := True) (tgt := 73) dX1_free_49 (by decide) (fun z => absurd z c21) (fun _ => ?_)
          refine cx_aload_n dX1_free_52 rfl rfl ?_
          obtain ⟨v23, ev23, hl⟩ := xb hl
          refine cx_getR gF_X1_31 dX1_free_53 ev23 ?_
          refine cx_iload_n dX1_free_56 rfl ?_
          refine cx_iload_n dX1_free_57 rfl ?_
          obtain ⟨u25, eu25, hl⟩ := xb hl
          obtain ⟨r24, er24, hl⟩ := xb hl
          refine cx_callV (Or.inl ⟨by decide, _, _, rfl⟩) (T_X3_tight er24) lV_X1_100 C_X3_tight dX1_free_58 eu25 (by decide) rfl (by omega) (Nat.le_of_ble_eq_true rfl) ?_
          refine cx_aload_n dX1_free_61 rfl rfl ?_
          obtain ⟨v26, ev26, hl⟩ := xb hl
          refine cx_getR gF_X1_31 dX1_free_62 ev26 ?_
          refine cx_iload_n dX1_free_65 rfl ?_
          refine cx_iload_n dX1_free_66 rfl ?_
          obtain ⟨u28, eu28, hl⟩ := xb hl
          obtain ⟨r27, er27, hl⟩ := xb hl
          refine cx_callV (Or.inl ⟨by decide, _, _, rfl⟩) (T_X3_tight er27) lV_X1_100 C_X3_tight dX1_free_67 eu28 (by decide) rfl (by omega) (Nat.le_of_ble_eq_true rfl) ?_
          by_cases c29 : r24 ≥ r27
          · rw [if_pos c29] at hl
            refine cx_icmp_ge (X := True) (tgt := 75) dX1_free_70 (by decide) (fun _ => ?_) (fun z => absurd c29 z)
            obtain ⟨w30, ew30, hl⟩ := xb hl
            refine cx_iinc dX1_free_75 rfl (by decide) (Option.some.inj ew30) ?_
            refine cx_goto (tgt := 9) dX1_free_78 (by decide) ?_
            cases hl
            exact cx_lsK hK ⟨rfl, rfl, rfl, rfl, trivial⟩
          · rw [if_neg c29] at hl
            refine cx_icmp_ge (X := True) (tgt := 75) dX1_free_70 (by decide) (fun z => absurd z c29) (fun _ => ?_)
            refine cx_iload_n dX1_free_73 rfl ?_
            refine cx_istore_n dX1_free_74 (by decide) ?_
            obtain ⟨w31, ew31, hl⟩ := xb hl
            refine cx_iinc dX1_free_75 rfl (by decide) (Option.some.inj ew31) ?_
            refine cx_goto (tgt := 9) dX1_free_78 (by decide) ?_
            cases hl
            exact cx_lsK hK ⟨rfl, rfl, rfl, rfl, trivial⟩
    · rw [if_neg c15] at hl
      refine cx_icmp_ne (X := True) (tgt := 75) dX1_free_29 (by decide) (fun _ => ?_) (fun z => absurd z c15)
      obtain ⟨w16, ew16, hl⟩ := xb hl
      refine cx_iinc dX1_free_75 rfl (by decide) (Option.some.inj ew16) ?_
      refine cx_goto (tgt := 9) dX1_free_78 (by decide) ?_
      cases hl
      exact cx_lsK hK ⟨rfl, rfl, rfl, rfl, trivial⟩
set_option maxHeartbeats 4000000 in
theorem k_X1_free_L9_ok {l : Launch} {E : XEnv} {hf : XH} {res : XO} {n : Nat} {g : Nat} {x0 : Nat} {x1 : Int32} {h : XH} {s : Int32 × Int32 × XH} {o : (Int32 × XH)} (hl : xloop (fun s => k_X1_free_L9 n g E.2.2.2 x0 x1 s.1 s.2.1 s.2.2) n s = some o) (hK : K_X1_free_L9 l E hf res g h x0 x1 o) : CX l E mX1_free (5 * g + 10) 9 [(0, .ref x0), (1, .int x1), (2, .int s.1), (3, .int s.2.1)] [] s.2.2 hf res :=
  xloop_of (fun s : Int32 × Int32 × XH => CX l E mX1_free (5 * g + 10) 9 [(0, .ref x0), (1, .int x1), (2, .int s.1), (3, .int s.2.1)] [] s.2.2 hf res) (fun r => K_X1_free_L9 l E hf res g h x0 x1 r) (fun s o hl hk => k_X1_free_L9_s (h := s.2.2) (o := o) hl hk) n s o hl hK
set_option maxHeartbeats 4000000 in
theorem T_X1_free {l : Launch} {E : XEnv}  {n : Nat} {g : Nat} {x0 : Nat} {x1 : Int32} {h : XH} {r : (Int32 ⊕ XX) × XH} (hl : k_X1_free n g E.2.2.2 x0 x1 h = some r) : CM l E mX1_free (5 * g + 10) [.ref x0, .int x1] h (xrI r.1) r.2 := by
  unfold k_X1_free at hl
  refine cm_of (by decide +kernel) rfl (Nat.le_of_ble_eq_true rfl) ?_
  refine cx_aload_n dX1_free_0 rfl rfl ?_
  refine cx_iload_n dX1_free_1 rfl ?_
  obtain ⟨u2, eu2, hl⟩ := xb hl
  obtain ⟨r1, er1, hl⟩ := xb hl
  rcases r1 with ⟨v3 | ⟨C6, q7⟩, h4⟩
  · dsimp only at hl
    refine cx_callV (Or.inl ⟨by decide, _, _, rfl⟩) (T_X1_aPerson er1) lV_X1_193 C_X1_aPerson dX1_free_2 eu2 (by decide) rfl (by omega) (Nat.le_of_ble_eq_true rfl) ?_
    refine cx_iconst (v := (-1)) dX1_free_5 rfl ?_
    refine cx_istore_n dX1_free_6 (by decide) ?_
    refine cx_iconst (v := 0) dX1_free_7 rfl ?_
    refine cx_istore_n dX1_free_8 (by decide) ?_
    obtain ⟨o33, eo33, hl⟩ := xb hl
    refine cx_lsK (k_X1_free_L9_ok (h := h4) (s := ((-1), 0, h4)) eo33 ?_) ⟨rfl, rfl, rfl, rfl, trivial⟩
    refine cx_iload_n dX1_free_81 rfl ?_
    cases hl
    exact cx_iret dX1_free_82 rfl rfl rfl rfl
  · dsimp only at hl
    cases hl
    exact cx_callVx (Or.inl ⟨by decide, _, _, rfl⟩) (T_X1_aPerson er1) lV_X1_193 C_X1_aPerson dX1_free_2 eu2 (by decide) rfl (by omega) (Nat.le_of_ble_eq_true rfl) (ct_out rfl rfl (by decide))
def k_X1_larger_L9 (n : Nat) (x0 : Nat) (x1 : Int32) (x2 : Int32) (x3 : Int32) (h : XH) : Option ((Int32 × Int32 × XH) ⊕ ((Int32 × XH))) := (cgR h x0 0 1).bind fun v8 => (ckd h v8 1).bind fun u10 => (k_X2_people v8 h).bind fun r9 => if x3 ≥ r9 then some (.inr (x2, h)) else (cgR h x0 0 2).bind fun v12 => (cgR h v12 2 2).bind fun v13 => (caI h v13 100 x3).bind fun v14 => (cgR h x0 0 2).bind fun v15 => (cgR h v15 2 2).bind fun v16 => (caI h v16 100 x1).bind fun v17 => if v14 ≤ v17 then (some (x3 + 1)).bind fun w19 => some (.inl (x2, w19, h)) else (some (x2 + 1)).bind fun w20 => (some (x3 + 1)).bind fun w21 => some (.inl (w20, w21, h))
abbrev K_X1_larger_L9 (l : Launch) (E : XEnv) (hf : XH) (res : XO) (h : XH) (x0 : Nat) (x1 : Int32) (o : (Int32 × XH)) : Prop := match o with
  | e => CX l E mX1_larger 10 50 [(2, .int e.1)] [] e.2 hf res
def k_X1_larger (n : Nat) (x0 : Nat) (x1 : Int32) (h : XH) : Option ((Int32 ⊕ XX) × XH) := (ckd h x0 0).bind fun u2 => (k_X1_aPerson x0 x1 h).bind fun r1 => match r1 with | (.inl v3, h4) => ((xloop (fun s => k_X1_larger_L9 n x0 x1 s.1 s.2.1 s.2.2) n (0, 0, h4)).bind fun o22 => some (.inl o22.1, o22.2)) | (.inr e5, h4) => (some (.inr e5, h4))
set_option maxHeartbeats 4000000 in
theorem k_X1_larger_L9_s {l : Launch} {E : XEnv} {hf : XH} {res : XO} {n : Nat} {x0 : Nat} {x1 : Int32} {x2 : Int32} {x3 : Int32} {h : XH} {o : (Int32 × Int32 × XH) ⊕ ((Int32 × XH))} (hl : k_X1_larger_L9 n x0 x1 x2 x3 h = some o) (hK : (xk (fun s : Int32 × Int32 × XH => CX l E mX1_larger 10 9 [(0, .ref x0), (1, .int x1), (2, .int s.1), (3, .int s.2.1)] [] s.2.2 hf res) (fun r => K_X1_larger_L9 l E hf res h x0 x1 r) o)) : CX l E mX1_larger 10 9 [(0, .ref x0), (1, .int x1), (2, .int x2), (3, .int x3)] [] h hf res := by
  unfold k_X1_larger_L9 at hl
  refine cx_iload_n dX1_larger_9 rfl ?_
  refine cx_aload_n dX1_larger_10 rfl rfl ?_
  obtain ⟨v8, ev8, hl⟩ := xb hl
  refine cx_getR gF_X1_22 dX1_larger_11 ev8 ?_
  obtain ⟨u10, eu10, hl⟩ := xb hl
  obtain ⟨r9, er9, hl⟩ := xb hl
  refine cx_callV (Or.inl ⟨by decide, _, _, rfl⟩) (T_X2_people er9) lV_X1_104 C_X2_people dX1_larger_14 eu10 (by decide) rfl (by omega) (Nat.le_of_ble_eq_true rfl) ?_
  by_cases c11 : x3 ≥ r9
  · rw [if_pos c11] at hl
    refine cx_icmp_ge (X := True) (tgt := 50) dX1_larger_17 (by decide) (fun _ => ?_) (fun z => absurd c11 z)
    cases hl
    exact cx_lsK hK ⟨rfl, trivial⟩
  · rw [if_neg c11] at hl
    refine cx_icmp_ge (X := True) (tgt := 50) dX1_larger_17 (by decide) (fun z => absurd z c11) (fun _ => ?_)
    refine cx_aload_n dX1_larger_20 rfl rfl ?_
    obtain ⟨v12, ev12, hl⟩ := xb hl
    refine cx_getR gF_X1_31 dX1_larger_21 ev12 ?_
    obtain ⟨v13, ev13, hl⟩ := xb hl
    refine cx_getR gF_X1_167 dX1_larger_24 ev13 ?_
    refine cx_iload_n dX1_larger_27 rfl ?_
    obtain ⟨v14, ev14, hl⟩ := xb hl
    refine cx_iald dX1_larger_28 ev14 ?_
    refine cx_aload_n dX1_larger_29 rfl rfl ?_
    obtain ⟨v15, ev15, hl⟩ := xb hl
    refine cx_getR gF_X1_31 dX1_larger_30 ev15 ?_
    obtain ⟨v16, ev16, hl⟩ := xb hl
    refine cx_getR gF_X1_167 dX1_larger_33 ev16 ?_
    refine cx_iload_n dX1_larger_36 rfl ?_
    obtain ⟨v17, ev17, hl⟩ := xb hl
    refine cx_iald dX1_larger_37 ev17 ?_
    by_cases c18 : v14 ≤ v17
    · rw [if_pos c18] at hl
      refine cx_icmp_le (X := True) (tgt := 44) dX1_larger_38 (by decide) (fun _ => ?_) (fun z => absurd c18 z)
      obtain ⟨w19, ew19, hl⟩ := xb hl
      refine cx_iinc dX1_larger_44 rfl (by decide) (Option.some.inj ew19) ?_
      refine cx_goto (tgt := 9) dX1_larger_47 (by decide) ?_
      cases hl
      exact cx_lsK hK ⟨rfl, rfl, rfl, rfl, trivial⟩
    · rw [if_neg c18] at hl
      refine cx_icmp_le (X := True) (tgt := 44) dX1_larger_38 (by decide) (fun z => absurd z c18) (fun _ => ?_)
      obtain ⟨w20, ew20, hl⟩ := xb hl
      refine cx_iinc dX1_larger_41 rfl (by decide) (Option.some.inj ew20) ?_
      obtain ⟨w21, ew21, hl⟩ := xb hl
      refine cx_iinc dX1_larger_44 rfl (by decide) (Option.some.inj ew21) ?_
      refine cx_goto (tgt := 9) dX1_larger_47 (by decide) ?_
      cases hl
      exact cx_lsK hK ⟨rfl, rfl, rfl, rfl, trivial⟩
set_option maxHeartbeats 4000000 in
theorem k_X1_larger_L9_ok {l : Launch} {E : XEnv} {hf : XH} {res : XO} {n : Nat} {x0 : Nat} {x1 : Int32} {h : XH} {s : Int32 × Int32 × XH} {o : (Int32 × XH)} (hl : xloop (fun s => k_X1_larger_L9 n x0 x1 s.1 s.2.1 s.2.2) n s = some o) (hK : K_X1_larger_L9 l E hf res h x0 x1 o) : CX l E mX1_larger 10 9 [(0, .ref x0), (1, .int x1), (2, .int s.1), (3, .int s.2.1)] [] s.2.2 hf res :=
  xloop_of (fun s : Int32 × Int32 × XH => CX l E mX1_larger 10 9 [(0, .ref x0), (1, .int x1), (2, .int s.1), (3, .int s.2.1)] [] s.2.2 hf res) (fun r => K_X1_larger_L9 l E hf res h x0 x1 r) (fun s o hl hk => k_X1_larger_L9_s (h := s.2.2) (o := o) hl hk) n s o hl hK
set_option maxHeartbeats 4000000 in
theorem T_X1_larger {l : Launch} {E : XEnv}  {n : Nat} {x0 : Nat} {x1 : Int32} {h : XH} {r : (Int32 ⊕ XX) × XH} (hl : k_X1_larger n x0 x1 h = some r) : CM l E mX1_larger 10 [.ref x0, .int x1] h (xrI r.1) r.2 := by
  unfold k_X1_larger at hl
  refine cm_of (by decide +kernel) rfl (Nat.le_of_ble_eq_true rfl) ?_
  refine cx_aload_n dX1_larger_0 rfl rfl ?_
  refine cx_iload_n dX1_larger_1 rfl ?_
  obtain ⟨u2, eu2, hl⟩ := xb hl
  obtain ⟨r1, er1, hl⟩ := xb hl
  rcases r1 with ⟨v3 | ⟨C6, q7⟩, h4⟩
  · dsimp only at hl
    refine cx_callV (Or.inl ⟨by decide, _, _, rfl⟩) (T_X1_aPerson er1) lV_X1_193 C_X1_aPerson dX1_larger_2 eu2 (by decide) rfl (by omega) (Nat.le_of_ble_eq_true rfl) ?_
    refine cx_iconst (v := 0) dX1_larger_5 rfl ?_
    refine cx_istore_n dX1_larger_6 (by decide) ?_
    refine cx_iconst (v := 0) dX1_larger_7 rfl ?_
    refine cx_istore_n dX1_larger_8 (by decide) ?_
    obtain ⟨o22, eo22, hl⟩ := xb hl
    refine cx_lsK (k_X1_larger_L9_ok (h := h4) (s := (0, 0, h4)) eo22 ?_) ⟨rfl, rfl, rfl, rfl, trivial⟩
    refine cx_iload_n dX1_larger_50 rfl ?_
    cases hl
    exact cx_iret dX1_larger_51 rfl rfl rfl rfl
  · dsimp only at hl
    cases hl
    exact cx_callVx (Or.inl ⟨by decide, _, _, rfl⟩) (T_X1_aPerson er1) lV_X1_193 C_X1_aPerson dX1_larger_2 eu2 (by decide) rfl (by omega) (Nat.le_of_ble_eq_true rfl) (ct_out rfl rfl (by decide))
def k_X1_wide_L14 (n : Nat) (x0 : Nat) (x1 : Int32) (x2 : Int32) (x3 : Int32) (h : XH) : Option ((Int32 × Int32 × XH) ⊕ ((Int32 × XH))) := (cgR h x0 0 1).bind fun v10 => (ckd h v10 1).bind fun u12 => (k_X2_houses v10 h).bind fun r11 => if x3 ≥ r11 then some (.inr (x2, h)) else (cgR h x0 0 2).bind fun v14 => (cgI h v14 2 6).bind fun v15 => (k_X1_isOf v15 x3 h).bind fun r16 => if r16 = 0 then (cgR h x0 0 2).bind fun v20 => (cgR h v20 2 0).bind fun v21 => (caI h v21 100 x3).bind fun v22 => if v22 < x1 then (some (x3 + 1)).bind fun w24 => some (.inl (x2, w24, h)) else (some (x2 ||| ((1 : Int32) <<< ((x3 : Int32) &&& 31)))).bind fun w25 => (some (x3 + 1)).bind fun w26 => some (.inl (w25, w26, h)) else (some (x3 + 1)).bind fun w19 => some (.inl (x2, w19, h))
abbrev K_X1_wide_L14 (l : Launch) (E : XEnv) (hf : XH) (res : XO) (h : XH) (x0 : Nat) (x1 : Int32) (o : (Int32 × XH)) : Prop := match o with
  | e => CX l E mX1_wide 9 64 [(2, .int e.1)] [] e.2 hf res
def k_X1_wide (n : Nat) (x0 : Nat) (x1 : Int32) (h : XH) : Option ((Int32 ⊕ XX) × XH) := (k_X1_in x1 1 60 h).bind fun r1 => (k_X1_right r1 h).bind fun r3 => match r3 with | (.inl v5, h6) => ((xloop (fun s => k_X1_wide_L14 n x0 x1 s.1 s.2.1 s.2.2) n (0, 0, h6)).bind fun o27 => some (.inl o27.1, o27.2)) | (.inr e7, h6) => (some (.inr e7, h6))
set_option maxHeartbeats 4000000 in
theorem k_X1_wide_L14_s {l : Launch} {E : XEnv} {hf : XH} {res : XO} {n : Nat} {x0 : Nat} {x1 : Int32} {x2 : Int32} {x3 : Int32} {h : XH} {o : (Int32 × Int32 × XH) ⊕ ((Int32 × XH))} (hl : k_X1_wide_L14 n x0 x1 x2 x3 h = some o) (hK : (xk (fun s : Int32 × Int32 × XH => CX l E mX1_wide 9 14 [(0, .ref x0), (1, .int x1), (2, .int s.1), (3, .int s.2.1)] [] s.2.2 hf res) (fun r => K_X1_wide_L14 l E hf res h x0 x1 r) o)) : CX l E mX1_wide 9 14 [(0, .ref x0), (1, .int x1), (2, .int x2), (3, .int x3)] [] h hf res := by
  unfold k_X1_wide_L14 at hl
  refine cx_iload_n dX1_wide_14 rfl ?_
  refine cx_aload_n dX1_wide_15 rfl rfl ?_
  obtain ⟨v10, ev10, hl⟩ := xb hl
  refine cx_getR gF_X1_22 dX1_wide_16 ev10 ?_
  obtain ⟨u12, eu12, hl⟩ := xb hl
  obtain ⟨r11, er11, hl⟩ := xb hl
  refine cx_callV (Or.inl ⟨by decide, _, _, rfl⟩) (T_X2_houses er11) lV_X1_89 C_X2_houses dX1_wide_19 eu12 (by decide) rfl (by omega) (Nat.le_of_ble_eq_true rfl) ?_
  by_cases c13 : x3 ≥ r11
  · rw [if_pos c13] at hl
    refine cx_icmp_ge (X := True) (tgt := 64) dX1_wide_22 (by decide) (fun _ => ?_) (fun z => absurd c13 z)
    cases hl
    exact cx_lsK hK ⟨rfl, trivial⟩
  · rw [if_neg c13] at hl
    refine cx_icmp_ge (X := True) (tgt := 64) dX1_wide_22 (by decide) (fun z => absurd z c13) (fun _ => ?_)
    refine cx_aload_n dX1_wide_25 rfl rfl ?_
    obtain ⟨v14, ev14, hl⟩ := xb hl
    refine cx_getR gF_X1_31 dX1_wide_26 ev14 ?_
    obtain ⟨v15, ev15, hl⟩ := xb hl
    refine cx_getI gF_X1_116 dX1_wide_29 ev15 ?_
    refine cx_iload_n dX1_wide_32 rfl ?_
    obtain ⟨r16, er16, hl⟩ := xb hl
    refine cx_callS (T_X1_isOf er16) lS_X1_183 C_X1_isOf dX1_wide_33 rfl (by omega) (Nat.le_of_ble_eq_true rfl) ?_
    by_cases c18 : r16 = 0
    · rw [if_pos c18] at hl
      refine cx_if_ne (X := True) (tgt := 58) dX1_wide_36 (by decide) (fun z => absurd c18 z) (fun _ => ?_)
      refine cx_aload_n dX1_wide_39 rfl rfl ?_
      obtain ⟨v20, ev20, hl⟩ := xb hl
      refine cx_getR gF_X1_31 dX1_wide_40 ev20 ?_
      obtain ⟨v21, ev21, hl⟩ := xb hl
      refine cx_getR gF_X1_165 dX1_wide_43 ev21 ?_
      refine cx_iload_n dX1_wide_46 rfl ?_
      obtain ⟨v22, ev22, hl⟩ := xb hl
      refine cx_iald dX1_wide_47 ev22 ?_
      refine cx_iload_n dX1_wide_48 rfl ?_
      by_cases c23 : v22 < x1
      · rw [if_pos c23] at hl
        refine cx_icmp_lt (X := True) (tgt := 58) dX1_wide_49 (by decide) (fun _ => ?_) (fun z => absurd c23 z)
        obtain ⟨w24, ew24, hl⟩ := xb hl
        refine cx_iinc dX1_wide_58 rfl (by decide) (Option.some.inj ew24) ?_
        refine cx_goto (tgt := 14) dX1_wide_61 (by decide) ?_
        cases hl
        exact cx_lsK hK ⟨rfl, rfl, rfl, rfl, trivial⟩
      · rw [if_neg c23] at hl
        refine cx_icmp_lt (X := True) (tgt := 58) dX1_wide_49 (by decide) (fun z => absurd z c23) (fun _ => ?_)
        refine cx_iload_n dX1_wide_52 rfl ?_
        refine cx_iconst (v := 1) dX1_wide_53 rfl ?_
        refine cx_iload_n dX1_wide_54 rfl ?_
        refine cx_ishl dX1_wide_55 ?_
        refine cx_ior dX1_wide_56 ?_
        obtain ⟨w25, ew25, hl⟩ := xb hl
        refine cx_top (Option.some.inj ew25) ?_
        refine cx_istore_n dX1_wide_57 (by decide) ?_
        obtain ⟨w26, ew26, hl⟩ := xb hl
        refine cx_iinc dX1_wide_58 rfl (by decide) (Option.some.inj ew26) ?_
        refine cx_goto (tgt := 14) dX1_wide_61 (by decide) ?_
        cases hl
        exact cx_lsK hK ⟨rfl, rfl, rfl, rfl, trivial⟩
    · rw [if_neg c18] at hl
      refine cx_if_ne (X := True) (tgt := 58) dX1_wide_36 (by decide) (fun _ => ?_) (fun z => absurd z c18)
      obtain ⟨w19, ew19, hl⟩ := xb hl
      refine cx_iinc dX1_wide_58 rfl (by decide) (Option.some.inj ew19) ?_
      refine cx_goto (tgt := 14) dX1_wide_61 (by decide) ?_
      cases hl
      exact cx_lsK hK ⟨rfl, rfl, rfl, rfl, trivial⟩
set_option maxHeartbeats 4000000 in
theorem k_X1_wide_L14_ok {l : Launch} {E : XEnv} {hf : XH} {res : XO} {n : Nat} {x0 : Nat} {x1 : Int32} {h : XH} {s : Int32 × Int32 × XH} {o : (Int32 × XH)} (hl : xloop (fun s => k_X1_wide_L14 n x0 x1 s.1 s.2.1 s.2.2) n s = some o) (hK : K_X1_wide_L14 l E hf res h x0 x1 o) : CX l E mX1_wide 9 14 [(0, .ref x0), (1, .int x1), (2, .int s.1), (3, .int s.2.1)] [] s.2.2 hf res :=
  xloop_of (fun s : Int32 × Int32 × XH => CX l E mX1_wide 9 14 [(0, .ref x0), (1, .int x1), (2, .int s.1), (3, .int s.2.1)] [] s.2.2 hf res) (fun r => K_X1_wide_L14 l E hf res h x0 x1 r) (fun s o hl hk => k_X1_wide_L14_s (h := s.2.2) (o := o) hl hk) n s o hl hK
set_option maxHeartbeats 4000000 in
theorem T_X1_wide {l : Launch} {E : XEnv}  {n : Nat} {x0 : Nat} {x1 : Int32} {h : XH} {r : (Int32 ⊕ XX) × XH} (hl : k_X1_wide n x0 x1 h = some r) : CM l E mX1_wide 9 [.ref x0, .int x1] h (xrI r.1) r.2 := by
  unfold k_X1_wide at hl
  refine cm_of (by decide +kernel) rfl (Nat.le_of_ble_eq_true rfl) ?_
  refine cx_iload_n dX1_wide_0 rfl ?_
  refine cx_iconst (v := 1) dX1_wide_1 rfl ?_
  refine cx_bipush (v := 60) dX1_wide_2 (by decide) ?_
  obtain ⟨r1, er1, hl⟩ := xb hl
  refine cx_callS (T_X1_in er1) lS_X1_139 C_X1_in dX1_wide_4 rfl (by omega) (Nat.le_of_ble_eq_true rfl) ?_
  obtain ⟨r3, er3, hl⟩ := xb hl
  rcases r3 with ⟨v5 | ⟨C8, q9⟩, h6⟩
  · dsimp only at hl
    refine cx_callS (T_X1_right er3) lS_X1_62 C_X1_right dX1_wide_7 rfl (by omega) (Nat.le_of_ble_eq_true rfl) ?_
    refine cx_iconst (v := 0) dX1_wide_10 rfl ?_
    refine cx_istore_n dX1_wide_11 (by decide) ?_
    refine cx_iconst (v := 0) dX1_wide_12 rfl ?_
    refine cx_istore_n dX1_wide_13 (by decide) ?_
    obtain ⟨o27, eo27, hl⟩ := xb hl
    refine cx_lsK (k_X1_wide_L14_ok (h := h6) (s := (0, 0, h6)) eo27 ?_) ⟨rfl, rfl, rfl, rfl, trivial⟩
    refine cx_iload_n dX1_wide_64 rfl ?_
    cases hl
    exact cx_iret dX1_wide_65 rfl rfl rfl rfl
  · dsimp only at hl
    cases hl
    exact cx_callSx (T_X1_right er3) lS_X1_62 C_X1_right dX1_wide_7 rfl (by omega) (Nat.le_of_ble_eq_true rfl) (ct_out rfl rfl (by decide))
def k_X1_endures_L75 (n : Nat) (g : Nat) (c : Nat → Value) (x0 : Nat) (x2 : Int32) (x4 : Int32) (h : XH) : Option ((Int32 × XH) ⊕ ((XH) ⊕ (Int32 × XH))) := if x4 > 40 then some (.inr (.inl h)) else (cgR h x0 0 3).bind fun v32 => (ckd h v32 2).bind fun u34 => (k_X3_pass n g c v32 h).bind fun r33 => (cgI r33.2 r33.1 2 6).bind fun v35 => (k_X1_isOf v35 x2 r33.2).bind fun r36 => if r36 = 0 then (some (x4 + 1)).bind fun w39 => some (.inl (w39, r33.2)) else some (.inr (.inr (x4, r33.2)))
abbrev K_X1_endures_L75 (l : Launch) (E : XEnv) (hf : XH) (res : XO) (g : Nat) (h : XH) (x0 : Nat) (x2 : Int32) (o : (XH) ⊕ (Int32 × XH)) : Prop := match o with
  | .inl e => CX l E mX1_endures (5 * g + 10) 108 [] [] e hf res
  | .inr e => CX l E mX1_endures (5 * g + 10) 99 [(4, .int e.1)] [] e.2 hf res
def k_X1_endures_J62 (n : Nat) (g : Nat) (c : Nat → Value) (x0 : Nat) (x1 : Int32) (x2 : Int32) (h : XH) : Option ((Int32 ⊕ XX) × XH) := (cgR h x0 0 3).bind fun v28 => (cgR h v28 2 3).bind fun v29 => (csu h v29 100 x1 (.int x2)).bind fun h30 => (xloop (fun s => k_X1_endures_L75 n g c x0 x2 s.1 s.2) n (1, h30)).bind fun o40 => match o40 with | .inl e41 => (some (.inl (-1), e41)) | .inr e42 => (some (.inl e42.1, e42.2))
def k_X1_endures (n : Nat) (g : Nat) (c : Nat → Value) (x0 : Nat) (x1 : Int32) (x2 : Int32) (h : XH) : Option ((Int32 ⊕ XX) × XH) := (ckd h x0 0).bind fun u2 => (k_X1_aPerson x0 x1 h).bind fun r1 => match r1 with | (.inl v3, h4) => ((ckd h4 x0 0).bind fun u9 => (k_X1_aHouse x0 x2 h4).bind fun r8 => match r8 with | (.inl v10, h11) => ((cgR h11 x0 0 2).bind fun v15 => (cgI h11 v15 2 6).bind fun v16 => (k_X1_isOf v16 x2 h11).bind fun r17 => if r17 = 0 then (cgR h11 x0 0 3).bind fun v20 => (cgR h11 x0 0 2).bind fun v21 => (ckd h11 v20 2).bind fun u23 => (k_X3_be n v20 v21 h11).bind fun r22 => (cgR r22.2 x0 0 3).bind fun v24 => (ckd r22.2 v24 2).bind fun u26 => (k_X3_in n v24 x2 r22.2).bind fun r25 => if r25 = (-1) then k_X1_endures_J62 n g c x0 x1 x2 r22.2 else (cgR r22.2 x0 0 3).bind fun v43 => (cgR r22.2 v43 2 3).bind fun v44 => (csu r22.2 v44 100 r25 (.int (-1))).bind fun h45 => k_X1_endures_J62 n g c x0 x1 x2 h45 else some (.inl (-1), h11)) | (.inr e12, h11) => (some (.inr e12, h11))) | (.inr e5, h4) => (some (.inr e5, h4))
set_option maxHeartbeats 4000000 in
theorem k_X1_endures_L75_s {l : Launch} {E : XEnv} {hf : XH} {res : XO} {n : Nat} {g : Nat} {x0 : Nat} {x2 : Int32} {x4 : Int32} {h : XH} {o : (Int32 × XH) ⊕ ((XH) ⊕ (Int32 × XH))} (hl : k_X1_endures_L75 n g E.2.2.2 x0 x2 x4 h = some o) (hK : (xk (fun s : Int32 × XH => CX l E mX1_endures (5 * g + 10) 75 [(0, .ref x0), (2, .int x2), (4, .int s.1)] [] s.2 hf res) (fun r => K_X1_endures_L75 l E hf res g h x0 x2 r) o)) : CX l E mX1_endures (5 * g + 10) 75 [(0, .ref x0), (2, .int x2), (4, .int x4)] [] h hf res := by
  unfold k_X1_endures_L75 at hl
  refine cx_iload dX1_endures_75 rfl ?_
  refine cx_bipush (v := 40) dX1_endures_77 (by decide) ?_
  by_cases c31 : x4 > 40
  · rw [if_pos c31] at hl
    refine cx_icmp_gt (X := True) (tgt := 108) dX1_endures_79 (by decide) (fun _ => ?_) (fun z => absurd c31 z)
    cases hl
    exact cx_lsK hK trivial
  · rw [if_neg c31] at hl
    refine cx_icmp_gt (X := True) (tgt := 108) dX1_endures_79 (by decide) (fun z => absurd z c31) (fun _ => ?_)
    refine cx_aload_n dX1_endures_82 rfl rfl ?_
    obtain ⟨v32, ev32, hl⟩ := xb hl
    refine cx_getR gF_X1_35 dX1_endures_83 ev32 ?_
    obtain ⟨u34, eu34, hl⟩ := xb hl
    obtain ⟨r33, er33, hl⟩ := xb hl
    refine cx_callV (Or.inl ⟨by decide, _, _, rfl⟩) (T_X3_pass er33) lV_X1_251 C_X3_pass dX1_endures_86 eu34 (by decide) rfl (by omega) (Nat.le_of_ble_eq_true rfl) ?_
    obtain ⟨v35, ev35, hl⟩ := xb hl
    refine cx_getI gF_X1_116 dX1_endures_89 ev35 ?_
    refine cx_iload_n dX1_endures_92 rfl ?_
    obtain ⟨r36, er36, hl⟩ := xb hl
    refine cx_callS (T_X1_isOf er36) lS_X1_183 C_X1_isOf dX1_endures_93 rfl (by omega) (Nat.le_of_ble_eq_true rfl) ?_
    by_cases c38 : r36 = 0
    · rw [if_pos c38] at hl
      refine cx_if_eq (X := True) (tgt := 102) dX1_endures_96 (by decide) (fun _ => ?_) (fun z => absurd c38 z)
      obtain ⟨w39, ew39, hl⟩ := xb hl
      refine cx_iinc dX1_endures_102 rfl (by decide) (Option.some.inj ew39) ?_
      refine cx_goto (tgt := 75) dX1_endures_105 (by decide) ?_
      cases hl
      exact cx_lsK hK ⟨rfl, rfl, rfl, trivial⟩
    · rw [if_neg c38] at hl
      refine cx_if_eq (X := True) (tgt := 102) dX1_endures_96 (by decide) (fun z => absurd z c38) (fun _ => ?_)
      cases hl
      exact cx_lsK hK ⟨rfl, trivial⟩
set_option maxHeartbeats 4000000 in
theorem k_X1_endures_L75_ok {l : Launch} {E : XEnv} {hf : XH} {res : XO} {n : Nat} {g : Nat} {x0 : Nat} {x2 : Int32} {h : XH} {s : Int32 × XH} {o : (XH) ⊕ (Int32 × XH)} (hl : xloop (fun s => k_X1_endures_L75 n g E.2.2.2 x0 x2 s.1 s.2) n s = some o) (hK : K_X1_endures_L75 l E hf res g h x0 x2 o) : CX l E mX1_endures (5 * g + 10) 75 [(0, .ref x0), (2, .int x2), (4, .int s.1)] [] s.2 hf res :=
  xloop_of (fun s : Int32 × XH => CX l E mX1_endures (5 * g + 10) 75 [(0, .ref x0), (2, .int x2), (4, .int s.1)] [] s.2 hf res) (fun r => K_X1_endures_L75 l E hf res g h x0 x2 r) (fun s o hl hk => k_X1_endures_L75_s (h := s.2) (o := o) hl hk) n s o hl hK
set_option maxHeartbeats 4000000 in
theorem k_X1_endures_J62_s {l : Launch} {E : XEnv}  {n : Nat} {g : Nat} {x0 : Nat} {x1 : Int32} {x2 : Int32} {h : XH} {r : (Int32 ⊕ XX) × XH} (hl : k_X1_endures_J62 n g E.2.2.2 x0 x1 x2 h = some r) : CX l E mX1_endures (5 * g + 10) 62 [(0, .ref x0), (1, .int x1), (2, .int x2)] [] h r.2 (xrI r.1) := by
  unfold k_X1_endures_J62 at hl
  refine cx_aload_n dX1_endures_62 rfl rfl ?_
  obtain ⟨v28, ev28, hl⟩ := xb hl
  refine cx_getR gF_X1_35 dX1_endures_63 ev28 ?_
  obtain ⟨v29, ev29, hl⟩ := xb hl
  refine cx_getR gF_X1_97 dX1_endures_66 ev29 ?_
  refine cx_iload_n dX1_endures_69 rfl ?_
  refine cx_iload_n dX1_endures_70 rfl ?_
  obtain ⟨h30, eh30, hl⟩ := xb hl
  refine cx_iast dX1_endures_71 eh30 ?_
  refine cx_iconst (v := 1) dX1_endures_72 rfl ?_
  refine cx_istore dX1_endures_73 (by decide) ?_
  obtain ⟨o40, eo40, hl⟩ := xb hl
  rcases o40 with e41 | e42
  · dsimp only at hl
    refine cx_lsK (k_X1_endures_L75_ok (h := h30) (s := (1, h30)) eo40 ?_) ⟨rfl, rfl, rfl, trivial⟩
    refine cx_iconst (v := (-1)) dX1_endures_108 rfl ?_
    cases hl
    exact cx_iret dX1_endures_109 rfl rfl rfl rfl
  · dsimp only at hl
    refine cx_lsK (k_X1_endures_L75_ok (h := h30) (s := (1, h30)) eo40 ?_) ⟨rfl, rfl, rfl, trivial⟩
    refine cx_iload dX1_endures_99 rfl ?_
    cases hl
    exact cx_iret dX1_endures_101 rfl rfl rfl rfl
set_option maxHeartbeats 4000000 in
theorem T_X1_endures {l : Launch} {E : XEnv}  {n : Nat} {g : Nat} {x0 : Nat} {x1 : Int32} {x2 : Int32} {h : XH} {r : (Int32 ⊕ XX) × XH} (hl : k_X1_endures n g E.2.2.2 x0 x1 x2 h = some r) : CM l E mX1_endures (5 * g + 10) [.ref x0, .int x1, .int x2] h (xrI r.1) r.2 := by
  unfold k_X1_endures at hl
  refine cm_of (by decide +kernel) rfl (Nat.le_of_ble_eq_true rfl) ?_
  refine cx_aload_n dX1_endures_0 rfl rfl ?_
  refine cx_iload_n dX1_endures_1 rfl ?_
  obtain ⟨u2, eu2, hl⟩ := xb hl
  obtain ⟨r1, er1, hl⟩ := xb hl
  rcases r1 with ⟨v3 | ⟨C6, q7⟩, h4⟩
  · dsimp only at hl
    refine cx_callV (Or.inl ⟨by decide, _, _, rfl⟩) (T_X1_aPerson er1) lV_X1_193 C_X1_aPerson dX1_endures_2 eu2 (by decide) rfl (by omega) (Nat.le_of_ble_eq_true rfl) ?_
    refine cx_aload_n dX1_endures_5 rfl rfl ?_
    refine cx_iload_n dX1_endures_6 rfl ?_
    obtain ⟨u9, eu9, hl⟩ := xb hl
    obtain ⟨r8, er8, hl⟩ := xb hl
    rcases r8 with ⟨v10 | ⟨C13, q14⟩, h11⟩
    · dsimp only at hl
      refine cx_callV (Or.inl ⟨by decide, _, _, rfl⟩) (T_X1_aHouse er8) lV_X1_173 C_X1_aHouse dX1_endures_7 eu9 (by decide) rfl (by omega) (Nat.le_of_ble_eq_true rfl) ?_
      refine cx_aload_n dX1_endures_10 rfl rfl ?_
      obtain ⟨v15, ev15, hl⟩ := xb hl
      refine cx_getR gF_X1_31 dX1_endures_11 ev15 ?_
      obtain ⟨v16, ev16, hl⟩ := xb hl
      refine cx_getI gF_X1_116 dX1_endures_14 ev16 ?_
      refine cx_iload_n dX1_endures_17 rfl ?_
      obtain ⟨r17, er17, hl⟩ := xb hl
      refine cx_callS (T_X1_isOf er17) lS_X1_183 C_X1_isOf dX1_endures_18 rfl (by omega) (Nat.le_of_ble_eq_true rfl) ?_
      by_cases c19 : r17 = 0
      · rw [if_pos c19] at hl
        refine cx_if_eq (X := True) (tgt := 26) dX1_endures_21 (by decide) (fun _ => ?_) (fun z => absurd c19 z)
        refine cx_aload_n dX1_endures_26 rfl rfl ?_
        obtain ⟨v20, ev20, hl⟩ := xb hl
        refine cx_getR gF_X1_35 dX1_endures_27 ev20 ?_
        refine cx_aload_n dX1_endures_30 rfl rfl ?_
        obtain ⟨v21, ev21, hl⟩ := xb hl
        refine cx_getR gF_X1_31 dX1_endures_31 ev21 ?_
        obtain ⟨u23, eu23, hl⟩ := xb hl
        obtain ⟨r22, er22, hl⟩ := xb hl
        refine cx_callV (Or.inl ⟨by decide, _, _, rfl⟩) (T_X3_be er22) lV_X1_244 C_X3_be dX1_endures_34 eu23 (by decide) rfl (by omega) (Nat.le_of_ble_eq_true rfl) ?_
        refine cx_pop dX1_endures_37 rfl ?_
        refine cx_aload_n dX1_endures_38 rfl rfl ?_
        obtain ⟨v24, ev24, hl⟩ := xb hl
        refine cx_getR gF_X1_35 dX1_endures_39 ev24 ?_
        refine cx_iload_n dX1_endures_42 rfl ?_
        obtain ⟨u26, eu26, hl⟩ := xb hl
        obtain ⟨r25, er25, hl⟩ := xb hl
        refine cx_callV (Or.inl ⟨by decide, _, _, rfl⟩) (T_X3_in er25) lV_X1_93 C_X3_in dX1_endures_43 eu26 (by decide) rfl (by omega) (Nat.le_of_ble_eq_true rfl) ?_
        refine cx_istore_n dX1_endures_46 (by decide) ?_
        refine cx_iload_n dX1_endures_47 rfl ?_
        refine cx_iconst (v := (-1)) dX1_endures_48 rfl ?_
        by_cases c27 : r25 = (-1)
        · rw [if_pos c27] at hl
          refine cx_icmp_eq (X := True) (tgt := 62) dX1_endures_49 (by decide) (fun _ => ?_) (fun z => absurd c27 z)
          exact cx_lsK (k_X1_endures_J62_s hl) ⟨rfl, rfl, rfl, trivial⟩
        · rw [if_neg c27] at hl
          refine cx_icmp_eq (X := True) (tgt := 62) dX1_endures_49 (by decide) (fun z => absurd z c27) (fun _ => ?_)
          refine cx_aload_n dX1_endures_52 rfl rfl ?_
          obtain ⟨v43, ev43, hl⟩ := xb hl
          refine cx_getR gF_X1_35 dX1_endures_53 ev43 ?_
          obtain ⟨v44, ev44, hl⟩ := xb hl
          refine cx_getR gF_X1_97 dX1_endures_56 ev44 ?_
          refine cx_iload_n dX1_endures_59 rfl ?_
          refine cx_iconst (v := (-1)) dX1_endures_60 rfl ?_
          obtain ⟨h45, eh45, hl⟩ := xb hl
          refine cx_iast dX1_endures_61 eh45 ?_
          exact cx_lsK (k_X1_endures_J62_s hl) ⟨rfl, rfl, rfl, trivial⟩
      · rw [if_neg c19] at hl
        refine cx_if_eq (X := True) (tgt := 26) dX1_endures_21 (by decide) (fun z => absurd z c19) (fun _ => ?_)
        refine cx_iconst (v := (-1)) dX1_endures_24 rfl ?_
        cases hl
        exact cx_iret dX1_endures_25 rfl rfl rfl rfl
    · dsimp only at hl
      cases hl
      exact cx_callVx (Or.inl ⟨by decide, _, _, rfl⟩) (T_X1_aHouse er8) lV_X1_173 C_X1_aHouse dX1_endures_7 eu9 (by decide) rfl (by omega) (Nat.le_of_ble_eq_true rfl) (ct_out rfl rfl (by decide))
  · dsimp only at hl
    cases hl
    exact cx_callVx (Or.inl ⟨by decide, _, _, rfl⟩) (T_X1_aPerson er1) lV_X1_193 C_X1_aPerson dX1_endures_2 eu2 (by decide) rfl (by omega) (Nat.le_of_ble_eq_true rfl) (ct_out rfl rfl (by decide))
def k_X1_ringed_L31 (n : Nat) (x0 : Nat) (x1 : Int32) (x2 : Int32) (x3 : Int32) (x4 : Int32) (h : XH) : Option ((Int32 × Int32 × XH) ⊕ ((Int32 × XH))) := (cgR h x0 0 2).bind fun v14 => (ckd h x0 0).bind fun u16 => (k_X1_wanted n x0 x4 x2 h).bind fun r15 => (ckd h v14 2).bind fun u18 => (k_X3_in n v14 r15 h).bind fun r17 => (some (x3 + 1)).bind fun w19 => if r17 = x1 then some (.inr (w19, h)) else some (.inl (w19, r17, h))
abbrev K_X1_ringed_L31 (l : Launch) (E : XEnv) (hf : XH) (res : XO) (h : XH) (x0 : Nat) (x1 : Int32) (x2 : Int32) (o : (Int32 × XH)) : Prop := match o with
  | e => CX l E mX1_ringed 10 56 [(3, .int e.1)] [] e.2 hf res
def k_X1_ringed (n : Nat) (x0 : Nat) (x1 : Int32) (h : XH) : Option ((Int32 ⊕ XX) × XH) := (ckd h x0 0).bind fun u2 => (k_X1_aPerson x0 x1 h).bind fun r1 => match r1 with | (.inl v3, h4) => ((cgR h4 x0 0 2).bind fun v8 => (cgR h4 v8 2 3).bind fun v9 => (caI h4 v9 100 x1).bind fun v10 => if v10 = (-1) then some (.inl 0, h4) else (ckd h4 x0 0).bind fun u13 => (k_X1_leftFor n x0 x1 h4).bind fun r12 => (xloop (fun s => k_X1_ringed_L31 n x0 x1 r12 s.1 s.2.1 s.2.2) n (0, x1, h4)).bind fun o21 => some (.inl o21.1, o21.2)) | (.inr e5, h4) => (some (.inr e5, h4))
set_option maxHeartbeats 4000000 in
theorem k_X1_ringed_L31_s {l : Launch} {E : XEnv} {hf : XH} {res : XO} {n : Nat} {x0 : Nat} {x1 : Int32} {x2 : Int32} {x3 : Int32} {x4 : Int32} {h : XH} {o : (Int32 × Int32 × XH) ⊕ ((Int32 × XH))} (hl : k_X1_ringed_L31 n x0 x1 x2 x3 x4 h = some o) (hK : (xk (fun s : Int32 × Int32 × XH => CX l E mX1_ringed 10 31 [(0, .ref x0), (1, .int x1), (2, .int x2), (3, .int s.1), (4, .int s.2.1)] [] s.2.2 hf res) (fun r => K_X1_ringed_L31 l E hf res h x0 x1 x2 r) o)) : CX l E mX1_ringed 10 31 [(0, .ref x0), (1, .int x1), (2, .int x2), (3, .int x3), (4, .int x4)] [] h hf res := by
  unfold k_X1_ringed_L31 at hl
  refine cx_aload_n dX1_ringed_31 rfl rfl ?_
  obtain ⟨v14, ev14, hl⟩ := xb hl
  refine cx_getR gF_X1_31 dX1_ringed_32 ev14 ?_
  refine cx_aload_n dX1_ringed_35 rfl rfl ?_
  refine cx_iload dX1_ringed_36 rfl ?_
  refine cx_iload_n dX1_ringed_38 rfl ?_
  obtain ⟨u16, eu16, hl⟩ := xb hl
  obtain ⟨r15, er15, hl⟩ := xb hl
  refine cx_callV (Or.inl ⟨by decide, _, _, rfl⟩) (T_X1_wanted er15) lV_X1_274 C_X1_wanted dX1_ringed_39 eu16 (by decide) rfl (by omega) (Nat.le_of_ble_eq_true rfl) ?_
  obtain ⟨u18, eu18, hl⟩ := xb hl
  obtain ⟨r17, er17, hl⟩ := xb hl
  refine cx_callV (Or.inl ⟨by decide, _, _, rfl⟩) (T_X3_in er17) lV_X1_93 C_X3_in dX1_ringed_42 eu18 (by decide) rfl (by omega) (Nat.le_of_ble_eq_true rfl) ?_
  refine cx_istore dX1_ringed_45 (by decide) ?_
  obtain ⟨w19, ew19, hl⟩ := xb hl
  refine cx_iinc dX1_ringed_47 rfl (by decide) (Option.some.inj ew19) ?_
  refine cx_iload dX1_ringed_50 rfl ?_
  refine cx_iload_n dX1_ringed_52 rfl ?_
  by_cases c20 : r17 = x1
  · rw [if_pos c20] at hl
    refine cx_icmp_ne (X := True) (tgt := 31) dX1_ringed_53 (by decide) (fun z => absurd c20 z) (fun _ => ?_)
    cases hl
    exact cx_lsK hK ⟨rfl, trivial⟩
  · rw [if_neg c20] at hl
    refine cx_icmp_ne (X := True) (tgt := 31) dX1_ringed_53 (by decide) (fun _ => ?_) (fun z => absurd z c20)
    cases hl
    exact cx_lsK hK ⟨rfl, rfl, rfl, rfl, rfl, trivial⟩
set_option maxHeartbeats 4000000 in
theorem k_X1_ringed_L31_ok {l : Launch} {E : XEnv} {hf : XH} {res : XO} {n : Nat} {x0 : Nat} {x1 : Int32} {x2 : Int32} {h : XH} {s : Int32 × Int32 × XH} {o : (Int32 × XH)} (hl : xloop (fun s => k_X1_ringed_L31 n x0 x1 x2 s.1 s.2.1 s.2.2) n s = some o) (hK : K_X1_ringed_L31 l E hf res h x0 x1 x2 o) : CX l E mX1_ringed 10 31 [(0, .ref x0), (1, .int x1), (2, .int x2), (3, .int s.1), (4, .int s.2.1)] [] s.2.2 hf res :=
  xloop_of (fun s : Int32 × Int32 × XH => CX l E mX1_ringed 10 31 [(0, .ref x0), (1, .int x1), (2, .int x2), (3, .int s.1), (4, .int s.2.1)] [] s.2.2 hf res) (fun r => K_X1_ringed_L31 l E hf res h x0 x1 x2 r) (fun s o hl hk => k_X1_ringed_L31_s (h := s.2.2) (o := o) hl hk) n s o hl hK
set_option maxHeartbeats 4000000 in
theorem T_X1_ringed {l : Launch} {E : XEnv}  {n : Nat} {x0 : Nat} {x1 : Int32} {h : XH} {r : (Int32 ⊕ XX) × XH} (hl : k_X1_ringed n x0 x1 h = some r) : CM l E mX1_ringed 10 [.ref x0, .int x1] h (xrI r.1) r.2 := by
  unfold k_X1_ringed at hl
  refine cm_of (by decide +kernel) rfl (Nat.le_of_ble_eq_true rfl) ?_
  refine cx_aload_n dX1_ringed_0 rfl rfl ?_
  refine cx_iload_n dX1_ringed_1 rfl ?_
  obtain ⟨u2, eu2, hl⟩ := xb hl
  obtain ⟨r1, er1, hl⟩ := xb hl
  rcases r1 with ⟨v3 | ⟨C6, q7⟩, h4⟩
  · dsimp only at hl
    refine cx_callV (Or.inl ⟨by decide, _, _, rfl⟩) (T_X1_aPerson er1) lV_X1_193 C_X1_aPerson dX1_ringed_2 eu2 (by decide) rfl (by omega) (Nat.le_of_ble_eq_true rfl) ?_
    refine cx_aload_n dX1_ringed_5 rfl rfl ?_
    obtain ⟨v8, ev8, hl⟩ := xb hl
    refine cx_getR gF_X1_31 dX1_ringed_6 ev8 ?_
    obtain ⟨v9, ev9, hl⟩ := xb hl
    refine cx_getR gF_X1_97 dX1_ringed_9 ev9 ?_
    refine cx_iload_n dX1_ringed_12 rfl ?_
    obtain ⟨v10, ev10, hl⟩ := xb hl
    refine cx_iald dX1_ringed_13 ev10 ?_
    refine cx_iconst (v := (-1)) dX1_ringed_14 rfl ?_
    by_cases c11 : v10 = (-1)
    · rw [if_pos c11] at hl
      refine cx_icmp_ne (X := True) (tgt := 20) dX1_ringed_15 (by decide) (fun z => absurd c11 z) (fun _ => ?_)
      refine cx_iconst (v := 0) dX1_ringed_18 rfl ?_
      cases hl
      exact cx_iret dX1_ringed_19 rfl rfl rfl rfl
    · rw [if_neg c11] at hl
      refine cx_icmp_ne (X := True) (tgt := 20) dX1_ringed_15 (by decide) (fun _ => ?_) (fun z => absurd z c11)
      refine cx_aload_n dX1_ringed_20 rfl rfl ?_
      refine cx_iload_n dX1_ringed_21 rfl ?_
      obtain ⟨u13, eu13, hl⟩ := xb hl
      obtain ⟨r12, er12, hl⟩ := xb hl
      refine cx_callV (Or.inl ⟨by decide, _, _, rfl⟩) (T_X1_leftFor er12) lV_X1_280 C_X1_leftFor dX1_ringed_22 eu13 (by decide) rfl (by omega) (Nat.le_of_ble_eq_true rfl) ?_
      refine cx_istore_n dX1_ringed_25 (by decide) ?_
      refine cx_iconst (v := 0) dX1_ringed_26 rfl ?_
      refine cx_istore_n dX1_ringed_27 (by decide) ?_
      refine cx_iload_n dX1_ringed_28 rfl ?_
      refine cx_istore dX1_ringed_29 (by decide) ?_
      obtain ⟨o21, eo21, hl⟩ := xb hl
      refine cx_lsK (k_X1_ringed_L31_ok (h := h4) (s := (0, x1, h4)) eo21 ?_) ⟨rfl, rfl, rfl, rfl, rfl, trivial⟩
      refine cx_iload_n dX1_ringed_56 rfl ?_
      cases hl
      exact cx_iret dX1_ringed_57 rfl rfl rfl rfl
  · dsimp only at hl
    cases hl
    exact cx_callVx (Or.inl ⟨by decide, _, _, rfl⟩) (T_X1_aPerson er1) lV_X1_193 C_X1_aPerson dX1_ringed_2 eu2 (by decide) rfl (by omega) (Nat.le_of_ble_eq_true rfl) (ct_out rfl rfl (by decide))
def k_X0_town (n : Nat) (g : Nat) (c : Nat → Value) (x0 : Nat) (x1 : Int32) (x2 : Nat) (h : XH) : Option (Int32 × XH) := (ckd h x0 0).bind fun u2 => (k_X1_town n g c x0 x1 h).bind fun r1 => match r1 with | (.inl v3, h4) => ((csu h4 x2 103 0 (.long ((v3 : Int32).toInt64))).bind fun h8 => some (0, h8)) | (.inr e5, h4) => (if e5.1 = "java/lang/IllegalArgumentException" then some (1, h4) else none)
set_option maxHeartbeats 4000000 in
theorem T_X0_town {l : Launch} {E : XEnv}  {n : Nat} {g : Nat} {x0 : Nat} {x1 : Int32} {x2 : Nat} {h : XH} (hE : va_Nc "java/lang/IllegalArgumentException" "java/util/NoSuchElementException" E.1) {r : Int32 × XH} (hl : k_X0_town n g E.2.2.2 x0 x1 x2 h = some r) : CM l E mX0_town (13 * g + 13) [.ref x0, .int x1, .ref x2] h (.inl (some (.int r.1))) r.2 := by
  unfold k_X0_town at hl
  refine cm_ofH (by decide +kernel) (by decide) (Nat.le_of_ble_eq_true rfl) ?_
  refine cx_aload_n dX0_town_0 rfl rfl ?_
  refine cx_iconst (v := 0) dX0_town_1 rfl ?_
  refine cx_aload_n dX0_town_2 rfl rfl ?_
  refine cx_iload_n dX0_town_3 rfl ?_
  obtain ⟨u2, eu2, hl⟩ := xb hl
  obtain ⟨r1, er1, hl⟩ := xb hl
  rcases r1 with ⟨v3 | ⟨C6, q7⟩, h4⟩
  · dsimp only at hl
    refine cx_callVH (Or.inl ⟨by decide, _, _, rfl⟩) (T_X1_town er1) lV_X0_7 C_X1_town dX0_town_4 eu2 (by decide) rfl (by omega) (Nat.le_of_ble_eq_true rfl) ?_
    refine cx_i2l dX0_town_7 ?_
    obtain ⟨h8, eh8, hl⟩ := xb hl
    refine cx_last dX0_town_8 eh8 ?_
    refine cx_goto (tgt := 15) dX0_town_9 (by decide) ?_
    refine cx_iconst (v := 0) dX0_town_15 rfl ?_
    cases hl
    exact cx_iret dX0_town_16 rfl rfl rfl rfl
  · dsimp only at hl
    by_cases c9 : C6 = "java/lang/IllegalArgumentException"
    · rw [if_pos c9] at hl
      subst c9
      refine cx_callVHx (Or.inl ⟨by decide, _, _, rfl⟩) (T_X1_town er1) lV_X0_7 C_X1_town dX0_town_4 eu2 (by decide) rfl (by omega) (Nat.le_of_ble_eq_true rfl) ?_
      refine ct_catch [] _ _ rfl (fun z hz => by cases hz) (by decide) (by decide) q650 q661 ?_
      refine cx_astore_n dX0_town_12 (by decide) rfl ?_
      refine cx_iconst (v := 1) dX0_town_13 rfl ?_
      cases hl
      exact cx_iret dX0_town_14 rfl rfl rfl rfl
    rw [if_neg c9] at hl
    cases hl
def k_X0_count (n : Nat) (g : Nat) (c : Nat → Value) (x0 : Nat) (x1 : Int32) (x2 : Nat) (h : XH) : Option (Int32 × XH) := (ckd h x0 0).bind fun u2 => (k_X1_count n g c x0 x1 h).bind fun r1 => match r1 with | (.inl v3, h4) => ((csu h4 x2 103 0 (.long ((v3 : Int32).toInt64))).bind fun h8 => some (0, h8)) | (.inr e5, h4) => (if e5.1 = "java/util/NoSuchElementException" then some (1, h4) else none)
set_option maxHeartbeats 4000000 in
theorem T_X0_count {l : Launch} {E : XEnv}  {n : Nat} {g : Nat} {x0 : Nat} {x1 : Int32} {x2 : Nat} {h : XH} (hE : va_Nc "java/lang/IllegalArgumentException" "java/util/NoSuchElementException" E.1) {r : Int32 × XH} (hl : k_X0_count n g E.2.2.2 x0 x1 x2 h = some r) : CM l E mX0_count (5 * g + 13) [.ref x0, .int x1, .ref x2] h (.inl (some (.int r.1))) r.2 := by
  unfold k_X0_count at hl
  refine cm_ofH (by decide +kernel) (by decide) (Nat.le_of_ble_eq_true rfl) ?_
  refine cx_aload_n dX0_count_0 rfl rfl ?_
  refine cx_iconst (v := 0) dX0_count_1 rfl ?_
  refine cx_aload_n dX0_count_2 rfl rfl ?_
  refine cx_iload_n dX0_count_3 rfl ?_
  obtain ⟨u2, eu2, hl⟩ := xb hl
  obtain ⟨r1, er1, hl⟩ := xb hl
  rcases r1 with ⟨v3 | ⟨C6, q7⟩, h4⟩
  · dsimp only at hl
    refine cx_callV (Or.inl ⟨by decide, _, _, rfl⟩) (T_X1_count er1) lV_X0_15 C_X1_count dX0_count_4 eu2 (by decide) rfl (by omega) (Nat.le_of_ble_eq_true rfl) ?_
    refine cx_i2l dX0_count_7 ?_
    obtain ⟨h8, eh8, hl⟩ := xb hl
    refine cx_last dX0_count_8 eh8 ?_
    refine cx_goto (tgt := 15) dX0_count_9 (by decide) ?_
    refine cx_iconst (v := 0) dX0_count_15 rfl ?_
    cases hl
    exact cx_iret dX0_count_16 rfl rfl rfl rfl
  · dsimp only at hl
    by_cases c9 : C6 = "java/util/NoSuchElementException"
    · rw [if_pos c9] at hl
      subst c9
      refine cx_callVx (Or.inl ⟨by decide, _, _, rfl⟩) (T_X1_count er1) lV_X0_15 C_X1_count dX0_count_4 eu2 (by decide) rfl (by omega) (Nat.le_of_ble_eq_true rfl) ?_
      refine ct_catch [] _ _ rfl (fun z hz => by cases hz) (by decide) (by decide) q1182 q1245 ?_
      refine cx_astore_n dX0_count_12 (by decide) rfl ?_
      refine cx_iconst (v := 1) dX0_count_13 rfl ?_
      cases hl
      exact cx_iret dX0_count_14 rfl rfl rfl rfl
    rw [if_neg c9] at hl
    cases hl
def k_X0_house (n : Nat) (x0 : Nat) (x1 : Int32) (x2 : Int32) (x3 : Nat) (h : XH) : Option (Int32 × XH) := (ckd h x0 0).bind fun u2 => (k_X1_house n x0 x1 x2 h).bind fun r1 => match r1 with | (.inl v3, h4) => ((csu h4 x3 103 0 (.long ((v3 : Int32).toInt64))).bind fun h8 => some (0, h8)) | (.inr e5, h4) => (if e5.1 = "java/util/NoSuchElementException" then some (1, h4) else none)
set_option maxHeartbeats 4000000 in
theorem T_X0_house {l : Launch} {E : XEnv}  {n : Nat} {x0 : Nat} {x1 : Int32} {x2 : Int32} {x3 : Nat} {h : XH} (hE : va_Nc "java/lang/IllegalArgumentException" "java/util/NoSuchElementException" E.1) {r : Int32 × XH} (hl : k_X0_house n x0 x1 x2 x3 h = some r) : CM l E mX0_house 11 [.ref x0, .int x1, .int x2, .ref x3] h (.inl (some (.int r.1))) r.2 := by
  unfold k_X0_house at hl
  refine cm_ofH (by decide +kernel) (by decide) (Nat.le_of_ble_eq_true rfl) ?_
  refine cx_aload_n dX0_house_0 rfl rfl ?_
  refine cx_iconst (v := 0) dX0_house_1 rfl ?_
  refine cx_aload_n dX0_house_2 rfl rfl ?_
  refine cx_iload_n dX0_house_3 rfl ?_
  refine cx_iload_n dX0_house_4 rfl ?_
  obtain ⟨u2, eu2, hl⟩ := xb hl
  obtain ⟨r1, er1, hl⟩ := xb hl
  rcases r1 with ⟨v3 | ⟨C6, q7⟩, h4⟩
  · dsimp only at hl
    refine cx_callV (Or.inl ⟨by decide, _, _, rfl⟩) (T_X1_house er1) lV_X0_20 C_X1_house dX0_house_5 eu2 (by decide) rfl (by omega) (Nat.le_of_ble_eq_true rfl) ?_
    refine cx_i2l dX0_house_8 ?_
    obtain ⟨h8, eh8, hl⟩ := xb hl
    refine cx_last dX0_house_9 eh8 ?_
    refine cx_goto (tgt := 17) dX0_house_10 (by decide) ?_
    refine cx_iconst (v := 0) dX0_house_17 rfl ?_
    cases hl
    exact cx_iret dX0_house_18 rfl rfl rfl rfl
  · dsimp only at hl
    by_cases c9 : C6 = "java/util/NoSuchElementException"
    · rw [if_pos c9] at hl
      subst c9
      refine cx_callVx (Or.inl ⟨by decide, _, _, rfl⟩) (T_X1_house er1) lV_X0_20 C_X1_house dX0_house_5 eu2 (by decide) rfl (by omega) (Nat.le_of_ble_eq_true rfl) ?_
      refine ct_catch [] _ _ rfl (fun z hz => by cases hz) (by decide) (by decide) q1182 q1245 ?_
      refine cx_astore dX0_house_13 (by decide) rfl ?_
      refine cx_iconst (v := 1) dX0_house_15 rfl ?_
      cases hl
      exact cx_iret dX0_house_16 rfl rfl rfl rfl
    rw [if_neg c9] at hl
    cases hl
def k_X0_person (x0 : Nat) (x1 : Int32) (x2 : Int32) (x3 : Nat) (h : XH) : Option (Int32 × XH) := (ckd h x0 0).bind fun u2 => (k_X1_person x0 x1 x2 h).bind fun r1 => match r1 with | (.inl v3, h4) => ((csu h4 x3 103 0 (.long ((v3 : Int32).toInt64))).bind fun h8 => some (0, h8)) | (.inr e5, h4) => (if e5.1 = "java/util/NoSuchElementException" then some (1, h4) else none)
set_option maxHeartbeats 4000000 in
theorem T_X0_person {l : Launch} {E : XEnv}  {x0 : Nat} {x1 : Int32} {x2 : Int32} {x3 : Nat} {h : XH} (hE : va_Nc "java/lang/IllegalArgumentException" "java/util/NoSuchElementException" E.1) {r : Int32 × XH} (hl : k_X0_person x0 x1 x2 x3 h = some r) : CM l E mX0_person 11 [.ref x0, .int x1, .int x2, .ref x3] h (.inl (some (.int r.1))) r.2 := by
  unfold k_X0_person at hl
  refine cm_ofH (by decide +kernel) (by decide) (Nat.le_of_ble_eq_true rfl) ?_
  refine cx_aload_n dX0_person_0 rfl rfl ?_
  refine cx_iconst (v := 0) dX0_person_1 rfl ?_
  refine cx_aload_n dX0_person_2 rfl rfl ?_
  refine cx_iload_n dX0_person_3 rfl ?_
  refine cx_iload_n dX0_person_4 rfl ?_
  obtain ⟨u2, eu2, hl⟩ := xb hl
  obtain ⟨r1, er1, hl⟩ := xb hl
  rcases r1 with ⟨v3 | ⟨C6, q7⟩, h4⟩
  · dsimp only at hl
    refine cx_callV (Or.inl ⟨by decide, _, _, rfl⟩) (T_X1_person er1) lV_X0_24 C_X1_person dX0_person_5 eu2 (by decide) rfl (by omega) (Nat.le_of_ble_eq_true rfl) ?_
    refine cx_i2l dX0_person_8 ?_
    obtain ⟨h8, eh8, hl⟩ := xb hl
    refine cx_last dX0_person_9 eh8 ?_
    refine cx_goto (tgt := 17) dX0_person_10 (by decide) ?_
    refine cx_iconst (v := 0) dX0_person_17 rfl ?_
    cases hl
    exact cx_iret dX0_person_18 rfl rfl rfl rfl
  · dsimp only at hl
    by_cases c9 : C6 = "java/util/NoSuchElementException"
    · rw [if_pos c9] at hl
      subst c9
      refine cx_callVx (Or.inl ⟨by decide, _, _, rfl⟩) (T_X1_person er1) lV_X0_24 C_X1_person dX0_person_5 eu2 (by decide) rfl (by omega) (Nat.le_of_ble_eq_true rfl) ?_
      refine ct_catch [] _ _ rfl (fun z hz => by cases hz) (by decide) (by decide) q1182 q1245 ?_
      refine cx_astore dX0_person_13 (by decide) rfl ?_
      refine cx_iconst (v := 1) dX0_person_15 rfl ?_
      cases hl
      exact cx_iret dX0_person_16 rfl rfl rfl rfl
    rw [if_neg c9] at hl
    cases hl
def k_X0_eases (n : Nat) (g : Nat) (c : Nat → Value) (x0 : Nat) (x1 : Int32) (x2 : Int32) (x3 : Nat) (h : XH) : Option (Int32 × XH) := (ckd h x0 0).bind fun u2 => (k_X1_eases n g c x0 x1 x2 h).bind fun r1 => match r1 with | (.inl v3, h4) => ((csu h4 x3 103 0 (.long ((v3 : Int32).toInt64))).bind fun h8 => some (0, h8)) | (.inr e5, h4) => (if e5.1 = "java/util/NoSuchElementException" then some (1, h4) else none)
set_option maxHeartbeats 4000000 in
theorem T_X0_eases {l : Launch} {E : XEnv}  {n : Nat} {g : Nat} {x0 : Nat} {x1 : Int32} {x2 : Int32} {x3 : Nat} {h : XH} (hE : va_Nc "java/lang/IllegalArgumentException" "java/util/NoSuchElementException" E.1) {r : Int32 × XH} (hl : k_X0_eases n g E.2.2.2 x0 x1 x2 x3 h = some r) : CM l E mX0_eases (5 * g + 11) [.ref x0, .int x1, .int x2, .ref x3] h (.inl (some (.int r.1))) r.2 := by
  unfold k_X0_eases at hl
  refine cm_ofH (by decide +kernel) (by decide) (Nat.le_of_ble_eq_true rfl) ?_
  refine cx_aload_n dX0_eases_0 rfl rfl ?_
  refine cx_iconst (v := 0) dX0_eases_1 rfl ?_
  refine cx_aload_n dX0_eases_2 rfl rfl ?_
  refine cx_iload_n dX0_eases_3 rfl ?_
  refine cx_iload_n dX0_eases_4 rfl ?_
  obtain ⟨u2, eu2, hl⟩ := xb hl
  obtain ⟨r1, er1, hl⟩ := xb hl
  rcases r1 with ⟨v3 | ⟨C6, q7⟩, h4⟩
  · dsimp only at hl
    refine cx_callV (Or.inl ⟨by decide, _, _, rfl⟩) (T_X1_eases er1) lV_X0_27 C_X1_eases dX0_eases_5 eu2 (by decide) rfl (by omega) (Nat.le_of_ble_eq_true rfl) ?_
    refine cx_i2l dX0_eases_8 ?_
    obtain ⟨h8, eh8, hl⟩ := xb hl
    refine cx_last dX0_eases_9 eh8 ?_
    refine cx_goto (tgt := 17) dX0_eases_10 (by decide) ?_
    refine cx_iconst (v := 0) dX0_eases_17 rfl ?_
    cases hl
    exact cx_iret dX0_eases_18 rfl rfl rfl rfl
  · dsimp only at hl
    by_cases c9 : C6 = "java/util/NoSuchElementException"
    · rw [if_pos c9] at hl
      subst c9
      refine cx_callVx (Or.inl ⟨by decide, _, _, rfl⟩) (T_X1_eases er1) lV_X0_27 C_X1_eases dX0_eases_5 eu2 (by decide) rfl (by omega) (Nat.le_of_ble_eq_true rfl) ?_
      refine ct_catch [] _ _ rfl (fun z hz => by cases hz) (by decide) (by decide) q1182 q1245 ?_
      refine cx_astore dX0_eases_13 (by decide) rfl ?_
      refine cx_iconst (v := 1) dX0_eases_15 rfl ?_
      cases hl
      exact cx_iret dX0_eases_16 rfl rfl rfl rfl
    rw [if_neg c9] at hl
    cases hl
def k_X0_putIn (n : Nat) (g : Nat) (c : Nat → Value) (x0 : Nat) (x1 : Int32) (x2 : Int32) (x3 : Nat) (h : XH) : Option (Int32 × XH) := (ckd h x0 0).bind fun u2 => (k_X1_putIn n g c x0 x1 x2 h).bind fun r1 => match r1 with | (.inl v3, h4) => ((csu h4 x3 103 0 (.long ((v3 : Int32).toInt64))).bind fun h8 => some (0, h8)) | (.inr e5, h4) => (if e5.1 = "java/util/NoSuchElementException" then some (1, h4) else none)
set_option maxHeartbeats 4000000 in
theorem T_X0_putIn {l : Launch} {E : XEnv}  {n : Nat} {g : Nat} {x0 : Nat} {x1 : Int32} {x2 : Int32} {x3 : Nat} {h : XH} (hE : va_Nc "java/lang/IllegalArgumentException" "java/util/NoSuchElementException" E.1) {r : Int32 × XH} (hl : k_X0_putIn n g E.2.2.2 x0 x1 x2 x3 h = some r) : CM l E mX0_putIn (5 * g + 11) [.ref x0, .int x1, .int x2, .ref x3] h (.inl (some (.int r.1))) r.2 := by
  unfold k_X0_putIn at hl
  refine cm_ofH (by decide +kernel) (by decide) (Nat.le_of_ble_eq_true rfl) ?_
  refine cx_aload_n dX0_putIn_0 rfl rfl ?_
  refine cx_iconst (v := 0) dX0_putIn_1 rfl ?_
  refine cx_aload_n dX0_putIn_2 rfl rfl ?_
  refine cx_iload_n dX0_putIn_3 rfl ?_
  refine cx_iload_n dX0_putIn_4 rfl ?_
  obtain ⟨u2, eu2, hl⟩ := xb hl
  obtain ⟨r1, er1, hl⟩ := xb hl
  rcases r1 with ⟨v3 | ⟨C6, q7⟩, h4⟩
  · dsimp only at hl
    refine cx_callV (Or.inl ⟨by decide, _, _, rfl⟩) (T_X1_putIn er1) lV_X0_30 C_X1_putIn dX0_putIn_5 eu2 (by decide) rfl (by omega) (Nat.le_of_ble_eq_true rfl) ?_
    refine cx_i2l dX0_putIn_8 ?_
    obtain ⟨h8, eh8, hl⟩ := xb hl
    refine cx_last dX0_putIn_9 eh8 ?_
    refine cx_goto (tgt := 17) dX0_putIn_10 (by decide) ?_
    refine cx_iconst (v := 0) dX0_putIn_17 rfl ?_
    cases hl
    exact cx_iret dX0_putIn_18 rfl rfl rfl rfl
  · dsimp only at hl
    by_cases c9 : C6 = "java/util/NoSuchElementException"
    · rw [if_pos c9] at hl
      subst c9
      refine cx_callVx (Or.inl ⟨by decide, _, _, rfl⟩) (T_X1_putIn er1) lV_X0_30 C_X1_putIn dX0_putIn_5 eu2 (by decide) rfl (by omega) (Nat.le_of_ble_eq_true rfl) ?_
      refine ct_catch [] _ _ rfl (fun z hz => by cases hz) (by decide) (by decide) q1182 q1245 ?_
      refine cx_astore dX0_putIn_13 (by decide) rfl ?_
      refine cx_iconst (v := 1) dX0_putIn_15 rfl ?_
      cases hl
      exact cx_iret dX0_putIn_16 rfl rfl rfl rfl
    rw [if_neg c9] at hl
    cases hl
def k_X0_out (n : Nat) (c : Nat → Value) (x0 : Nat) (x1 : Int32) (x2 : Nat) (h : XH) : Option (Int32 × XH) := (ckd h x0 0).bind fun u2 => (k_X1_out n c x0 x1 h).bind fun r1 => match r1 with | (.inl v3, h4) => ((csu h4 x2 103 0 (.long ((v3 : Int32).toInt64))).bind fun h8 => some (0, h8)) | (.inr e5, h4) => (if e5.1 = "java/util/NoSuchElementException" then some (1, h4) else none)
set_option maxHeartbeats 4000000 in
theorem T_X0_out {l : Launch} {E : XEnv}  {n : Nat} {x0 : Nat} {x1 : Int32} {x2 : Nat} {h : XH} (hE : va_Nc "java/lang/IllegalArgumentException" "java/util/NoSuchElementException" E.1) {r : Int32 × XH} (hl : k_X0_out n E.2.2.2 x0 x1 x2 h = some r) : CM l E mX0_out 11 [.ref x0, .int x1, .ref x2] h (.inl (some (.int r.1))) r.2 := by
  unfold k_X0_out at hl
  refine cm_ofH (by decide +kernel) (by decide) (Nat.le_of_ble_eq_true rfl) ?_
  refine cx_aload_n dX0_out_0 rfl rfl ?_
  refine cx_iconst (v := 0) dX0_out_1 rfl ?_
  refine cx_aload_n dX0_out_2 rfl rfl ?_
  refine cx_iload_n dX0_out_3 rfl ?_
  obtain ⟨u2, eu2, hl⟩ := xb hl
  obtain ⟨r1, er1, hl⟩ := xb hl
  rcases r1 with ⟨v3 | ⟨C6, q7⟩, h4⟩
  · dsimp only at hl
    refine cx_callV (Or.inl ⟨by decide, _, _, rfl⟩) (T_X1_out er1) lV_X0_33 C_X1_out dX0_out_4 eu2 (by decide) rfl (by omega) (Nat.le_of_ble_eq_true rfl) ?_
    refine cx_i2l dX0_out_7 ?_
    obtain ⟨h8, eh8, hl⟩ := xb hl
    refine cx_last dX0_out_8 eh8 ?_
    refine cx_goto (tgt := 15) dX0_out_9 (by decide) ?_
    refine cx_iconst (v := 0) dX0_out_15 rfl ?_
    cases hl
    exact cx_iret dX0_out_16 rfl rfl rfl rfl
  · dsimp only at hl
    by_cases c9 : C6 = "java/util/NoSuchElementException"
    · rw [if_pos c9] at hl
      subst c9
      refine cx_callVx (Or.inl ⟨by decide, _, _, rfl⟩) (T_X1_out er1) lV_X0_33 C_X1_out dX0_out_4 eu2 (by decide) rfl (by omega) (Nat.le_of_ble_eq_true rfl) ?_
      refine ct_catch [] _ _ rfl (fun z hz => by cases hz) (by decide) (by decide) q1182 q1245 ?_
      refine cx_astore_n dX0_out_12 (by decide) rfl ?_
      refine cx_iconst (v := 1) dX0_out_13 rfl ?_
      cases hl
      exact cx_iret dX0_out_14 rfl rfl rfl rfl
    rw [if_neg c9] at hl
    cases hl
def k_X0_stuff (n : Nat) (c : Nat → Value) (x0 : Nat) (x1 : Int32) (x2 : Int32) (x3 : Nat) (h : XH) : Option (Int32 × XH) := (ckd h x0 0).bind fun u2 => (k_X1_stuff n c x0 x1 x2 h).bind fun r1 => match r1 with | (.inl v3, h4) => ((csu h4 x3 103 0 (.long ((v3 : Int32).toInt64))).bind fun h8 => some (0, h8)) | (.inr e5, h4) => (if e5.1 = "java/util/NoSuchElementException" then some (1, h4) else none)
set_option maxHeartbeats 4000000 in
theorem T_X0_stuff {l : Launch} {E : XEnv}  {n : Nat} {x0 : Nat} {x1 : Int32} {x2 : Int32} {x3 : Nat} {h : XH} (hE : va_Nc "java/lang/IllegalArgumentException" "java/util/NoSuchElementException" E.1) {r : Int32 × XH} (hl : k_X0_stuff n E.2.2.2 x0 x1 x2 x3 h = some r) : CM l E mX0_stuff 11 [.ref x0, .int x1, .int x2, .ref x3] h (.inl (some (.int r.1))) r.2 := by
  unfold k_X0_stuff at hl
  refine cm_ofH (by decide +kernel) (by decide) (Nat.le_of_ble_eq_true rfl) ?_
  refine cx_aload_n dX0_stuff_0 rfl rfl ?_
  refine cx_iconst (v := 0) dX0_stuff_1 rfl ?_
  refine cx_aload_n dX0_stuff_2 rfl rfl ?_
  refine cx_iload_n dX0_stuff_3 rfl ?_
  refine cx_iload_n dX0_stuff_4 rfl ?_
  obtain ⟨u2, eu2, hl⟩ := xb hl
  obtain ⟨r1, er1, hl⟩ := xb hl
  rcases r1 with ⟨v3 | ⟨C6, q7⟩, h4⟩
  · dsimp only at hl
    refine cx_callV (Or.inl ⟨by decide, _, _, rfl⟩) (T_X1_stuff er1) lV_X0_36 C_X1_stuff dX0_stuff_5 eu2 (by decide) rfl (by omega) (Nat.le_of_ble_eq_true rfl) ?_
    refine cx_i2l dX0_stuff_8 ?_
    obtain ⟨h8, eh8, hl⟩ := xb hl
    refine cx_last dX0_stuff_9 eh8 ?_
    refine cx_goto (tgt := 17) dX0_stuff_10 (by decide) ?_
    refine cx_iconst (v := 0) dX0_stuff_17 rfl ?_
    cases hl
    exact cx_iret dX0_stuff_18 rfl rfl rfl rfl
  · dsimp only at hl
    by_cases c9 : C6 = "java/util/NoSuchElementException"
    · rw [if_pos c9] at hl
      subst c9
      refine cx_callVx (Or.inl ⟨by decide, _, _, rfl⟩) (T_X1_stuff er1) lV_X0_36 C_X1_stuff dX0_stuff_5 eu2 (by decide) rfl (by omega) (Nat.le_of_ble_eq_true rfl) ?_
      refine ct_catch [] _ _ rfl (fun z hz => by cases hz) (by decide) (by decide) q1182 q1245 ?_
      refine cx_astore dX0_stuff_13 (by decide) rfl ?_
      refine cx_iconst (v := 1) dX0_stuff_15 rfl ?_
      cases hl
      exact cx_iret dX0_stuff_16 rfl rfl rfl rfl
    rw [if_neg c9] at hl
    cases hl
def k_X0_change (n : Nat) (g : Nat) (c : Nat → Value) (x0 : Nat) (x1 : Int32) (x2 : Int32) (x3 : Nat) (h : XH) : Option (Int32 × XH) := (ckd h x0 0).bind fun u2 => (k_X1_change n g c x0 x1 x2 h).bind fun r1 => match r1 with | (.inl v3, h4) => (if v3 = 0 then (csu h4 x3 103 0 (.long 0)).bind fun h9 => some (0, h9) else (csu h4 x3 103 0 (.long 1)).bind fun h10 => some (0, h10)) | (.inr e5, h4) => (if e5.1 = "java/util/NoSuchElementException" then some (1, h4) else none)
set_option maxHeartbeats 4000000 in
theorem T_X0_change {l : Launch} {E : XEnv}  {n : Nat} {g : Nat} {x0 : Nat} {x1 : Int32} {x2 : Int32} {x3 : Nat} {h : XH} (hE : va_Nc "java/lang/IllegalArgumentException" "java/util/NoSuchElementException" E.1) {r : Int32 × XH} (hl : k_X0_change n g E.2.2.2 x0 x1 x2 x3 h = some r) : CM l E mX0_change (5 * g + 11) [.ref x0, .int x1, .int x2, .ref x3] h (.inl (some (.int r.1))) r.2 := by
  unfold k_X0_change at hl
  refine cm_ofH (by decide +kernel) (by decide) (Nat.le_of_ble_eq_true rfl) ?_
  refine cx_aload_n dX0_change_0 rfl rfl ?_
  refine cx_iconst (v := 0) dX0_change_1 rfl ?_
  refine cx_aload_n dX0_change_2 rfl rfl ?_
  refine cx_iload_n dX0_change_3 rfl ?_
  refine cx_iload_n dX0_change_4 rfl ?_
  obtain ⟨u2, eu2, hl⟩ := xb hl
  obtain ⟨r1, er1, hl⟩ := xb hl
  rcases r1 with ⟨v3 | ⟨C6, q7⟩, h4⟩
  · dsimp only at hl
    refine cx_callV (Or.inl ⟨by decide, _, _, rfl⟩) (T_X1_change er1) lV_X0_39 C_X1_change dX0_change_5 eu2 (by decide) rfl (by omega) (Nat.le_of_ble_eq_true rfl) ?_
    by_cases c8 : v3 = 0
    · rw [if_pos c8] at hl
      refine cx_if_eq (X := True) (tgt := 15) dX0_change_8 (by decide) (fun _ => ?_) (fun z => absurd c8 z)
      refine cx_lconst (v := 0) dX0_change_15 rfl ?_
      obtain ⟨h9, eh9, hl⟩ := xb hl
      refine cx_last dX0_change_16 eh9 ?_
      refine cx_goto (tgt := 24) dX0_change_17 (by decide) ?_
      refine cx_iconst (v := 0) dX0_change_24 rfl ?_
      cases hl
      exact cx_iret dX0_change_25 rfl rfl rfl rfl
    · rw [if_neg c8] at hl
      refine cx_if_eq (X := True) (tgt := 15) dX0_change_8 (by decide) (fun z => absurd z c8) (fun _ => ?_)
      refine cx_lconst (v := 1) dX0_change_11 rfl ?_
      refine cx_goto (tgt := 16) dX0_change_12 (by decide) ?_
      obtain ⟨h10, eh10, hl⟩ := xb hl
      refine cx_last dX0_change_16 eh10 ?_
      refine cx_goto (tgt := 24) dX0_change_17 (by decide) ?_
      refine cx_iconst (v := 0) dX0_change_24 rfl ?_
      cases hl
      exact cx_iret dX0_change_25 rfl rfl rfl rfl
  · dsimp only at hl
    by_cases c11 : C6 = "java/util/NoSuchElementException"
    · rw [if_pos c11] at hl
      subst c11
      refine cx_callVx (Or.inl ⟨by decide, _, _, rfl⟩) (T_X1_change er1) lV_X0_39 C_X1_change dX0_change_5 eu2 (by decide) rfl (by omega) (Nat.le_of_ble_eq_true rfl) ?_
      refine ct_catch [] _ _ rfl (fun z hz => by cases hz) (by decide) (by decide) q1182 q1245 ?_
      refine cx_astore dX0_change_20 (by decide) rfl ?_
      refine cx_iconst (v := 1) dX0_change_22 rfl ?_
      cases hl
      exact cx_iret dX0_change_23 rfl rfl rfl rfl
    rw [if_neg c11] at hl
    cases hl
def k_X0_then (n : Nat) (g : Nat) (c : Nat → Value) (x0 : Nat) (x1 : Int32) (x2 : Int32) (x3 : Int32) (x4 : Nat) (h : XH) : Option (Int32 × XH) := (ckd h x0 0).bind fun u2 => (k_X1_then n g c x0 x1 x2 x3 h).bind fun r1 => match r1 with | (.inl v3, h4) => ((csu h4 x4 103 0 (.long ((v3 : Int32).toInt64))).bind fun h8 => some (0, h8)) | (.inr e5, h4) => (if e5.1 = "java/util/NoSuchElementException" then some (1, h4) else if e5.1 = "java/lang/IllegalArgumentException" then some (2, h4) else none)
set_option maxHeartbeats 4000000 in
theorem T_X0_then {l : Launch} {E : XEnv}  {n : Nat} {g : Nat} {x0 : Nat} {x1 : Int32} {x2 : Int32} {x3 : Int32} {x4 : Nat} {h : XH} (hE : va_Nc "java/lang/IllegalArgumentException" "java/util/NoSuchElementException" E.1) {r : Int32 × XH} (hl : k_X0_then n g E.2.2.2 x0 x1 x2 x3 x4 h = some r) : CM l E mX0_then (5 * g + 13) [.ref x0, .int x1, .int x2, .int x3, .ref x4] h (.inl (some (.int r.1))) r.2 := by
  unfold k_X0_then at hl
  refine cm_ofH (by decide +kernel) (by decide) (Nat.le_of_ble_eq_true rfl) ?_
  refine cx_aload dX0_then_0 rfl rfl ?_
  refine cx_iconst (v := 0) dX0_then_2 rfl ?_
  refine cx_aload_n dX0_then_3 rfl rfl ?_
  refine cx_iload_n dX0_then_4 rfl ?_
  refine cx_iload_n dX0_then_5 rfl ?_
  refine cx_iload_n dX0_then_6 rfl ?_
  obtain ⟨u2, eu2, hl⟩ := xb hl
  obtain ⟨r1, er1, hl⟩ := xb hl
  rcases r1 with ⟨v3 | ⟨C6, q7⟩, h4⟩
  · dsimp only at hl
    refine cx_callV (Or.inl ⟨by decide, _, _, rfl⟩) (T_X1_then er1) lV_X0_43 C_X1_then dX0_then_7 eu2 (by decide) rfl (by omega) (Nat.le_of_ble_eq_true rfl) ?_
    refine cx_i2l dX0_then_10 ?_
    obtain ⟨h8, eh8, hl⟩ := xb hl
    refine cx_last dX0_then_11 eh8 ?_
    refine cx_goto (tgt := 23) dX0_then_12 (by decide) ?_
    refine cx_iconst (v := 0) dX0_then_23 rfl ?_
    cases hl
    exact cx_iret dX0_then_24 rfl rfl rfl rfl
  · dsimp only at hl
    by_cases c10 : C6 = "java/util/NoSuchElementException"
    · rw [if_pos c10] at hl
      subst c10
      refine cx_callVx (Or.inl ⟨by decide, _, _, rfl⟩) (T_X1_then er1) lV_X0_43 C_X1_then dX0_then_7 eu2 (by decide) rfl (by omega) (Nat.le_of_ble_eq_true rfl) ?_
      refine ct_catch [] _ _ rfl (fun z hz => by cases hz) (by decide) (by decide) q1182 q1245 ?_
      refine cx_astore dX0_then_15 (by decide) rfl ?_
      refine cx_iconst (v := 1) dX0_then_17 rfl ?_
      cases hl
      exact cx_iret dX0_then_18 rfl rfl rfl rfl
    rw [if_neg c10] at hl
    by_cases c9 : C6 = "java/lang/IllegalArgumentException"
    · rw [if_pos c9] at hl
      subst c9
      refine cx_callVx (Or.inl ⟨by decide, _, _, rfl⟩) (T_X1_then er1) lV_X0_43 C_X1_then dX0_then_7 eu2 (by decide) rfl (by omega) (Nat.le_of_ble_eq_true rfl) ?_
      refine ct_catch [_] _ _ rfl (fun z hz => by cases List.mem_singleton.mp hz; exact Or.inr ⟨by decide, _, q1182, hE⟩) (by decide) (by decide) q650 q661 ?_
      refine cx_astore dX0_then_19 (by decide) rfl ?_
      refine cx_iconst (v := 2) dX0_then_21 rfl ?_
      cases hl
      exact cx_iret dX0_then_22 rfl rfl rfl rfl
    rw [if_neg c9] at hl
    cases hl
def k_X0_worn (n : Nat) (g : Nat) (c : Nat → Value) (x0 : Nat) (x1 : Int32) (x2 : Int32) (x3 : Nat) (h : XH) : Option (Int32 × XH) := (ckd h x0 0).bind fun u2 => (k_X1_worn n g c x0 x1 x2 h).bind fun r1 => match r1 with | (.inl v3, h4) => ((csu h4 x3 103 0 (.long ((v3 : Int32).toInt64))).bind fun h8 => some (0, h8)) | (.inr e5, h4) => (if e5.1 = "java/util/NoSuchElementException" then some (1, h4) else if e5.1 = "java/lang/IllegalArgumentException" then some (2, h4) else none)
set_option maxHeartbeats 4000000 in
theorem T_X0_worn {l : Launch} {E : XEnv}  {n : Nat} {g : Nat} {x0 : Nat} {x1 : Int32} {x2 : Int32} {x3 : Nat} {h : XH} (hE : va_Nc "java/lang/IllegalArgumentException" "java/util/NoSuchElementException" E.1) {r : Int32 × XH} (hl : k_X0_worn n g E.2.2.2 x0 x1 x2 x3 h = some r) : CM l E mX0_worn (5 * g + 13) [.ref x0, .int x1, .int x2, .ref x3] h (.inl (some (.int r.1))) r.2 := by
  unfold k_X0_worn at hl
  refine cm_ofH (by decide +kernel) (by decide) (Nat.le_of_ble_eq_true rfl) ?_
  refine cx_aload_n dX0_worn_0 rfl rfl ?_
  refine cx_iconst (v := 0) dX0_worn_1 rfl ?_
  refine cx_aload_n dX0_worn_2 rfl rfl ?_
  refine cx_iload_n dX0_worn_3 rfl ?_
  refine cx_iload_n dX0_worn_4 rfl ?_
  obtain ⟨u2, eu2, hl⟩ := xb hl
  obtain ⟨r1, er1, hl⟩ := xb hl
  rcases r1 with ⟨v3 | ⟨C6, q7⟩, h4⟩
  · dsimp only at hl
    refine cx_callV (Or.inl ⟨by decide, _, _, rfl⟩) (T_X1_worn er1) lV_X0_47 C_X1_worn dX0_worn_5 eu2 (by decide) rfl (by omega) (Nat.le_of_ble_eq_true rfl) ?_
    refine cx_i2l dX0_worn_8 ?_
    obtain ⟨h8, eh8, hl⟩ := xb hl
    refine cx_last dX0_worn_9 eh8 ?_
    refine cx_goto (tgt := 21) dX0_worn_10 (by decide) ?_
    refine cx_iconst (v := 0) dX0_worn_21 rfl ?_
    cases hl
    exact cx_iret dX0_worn_22 rfl rfl rfl rfl
  · dsimp only at hl
    by_cases c10 : C6 = "java/util/NoSuchElementException"
    · rw [if_pos c10] at hl
      subst c10
      refine cx_callVx (Or.inl ⟨by decide, _, _, rfl⟩) (T_X1_worn er1) lV_X0_47 C_X1_worn dX0_worn_5 eu2 (by decide) rfl (by omega) (Nat.le_of_ble_eq_true rfl) ?_
      refine ct_catch [] _ _ rfl (fun z hz => by cases hz) (by decide) (by decide) q1182 q1245 ?_
      refine cx_astore dX0_worn_13 (by decide) rfl ?_
      refine cx_iconst (v := 1) dX0_worn_15 rfl ?_
      cases hl
      exact cx_iret dX0_worn_16 rfl rfl rfl rfl
    rw [if_neg c10] at hl
    by_cases c9 : C6 = "java/lang/IllegalArgumentException"
    · rw [if_pos c9] at hl
      subst c9
      refine cx_callVx (Or.inl ⟨by decide, _, _, rfl⟩) (T_X1_worn er1) lV_X0_47 C_X1_worn dX0_worn_5 eu2 (by decide) rfl (by omega) (Nat.le_of_ble_eq_true rfl) ?_
      refine ct_catch [_] _ _ rfl (fun z hz => by cases List.mem_singleton.mp hz; exact Or.inr ⟨by decide, _, q1182, hE⟩) (by decide) (by decide) q650 q661 ?_
      refine cx_astore dX0_worn_17 (by decide) rfl ?_
      refine cx_iconst (v := 2) dX0_worn_19 rfl ?_
      cases hl
      exact cx_iret dX0_worn_20 rfl rfl rfl rfl
    rw [if_neg c9] at hl
    cases hl
def k_X0_burst (n : Nat) (g : Nat) (c : Nat → Value) (x0 : Nat) (x1 : Int32) (x2 : Nat) (h : XH) : Option (Int32 × XH) := (ckd h x0 0).bind fun u2 => (k_X1_burst n g c x0 x1 h).bind fun r1 => match r1 with | (.inl v3, h4) => ((csu h4 x2 103 0 (.long ((v3 : Int32).toInt64))).bind fun h8 => some (0, h8)) | (.inr e5, h4) => (if e5.1 = "java/util/NoSuchElementException" then some (1, h4) else none)
set_option maxHeartbeats 4000000 in
theorem T_X0_burst {l : Launch} {E : XEnv}  {n : Nat} {g : Nat} {x0 : Nat} {x1 : Int32} {x2 : Nat} {h : XH} (hE : va_Nc "java/lang/IllegalArgumentException" "java/util/NoSuchElementException" E.1) {r : Int32 × XH} (hl : k_X0_burst n g E.2.2.2 x0 x1 x2 h = some r) : CM l E mX0_burst (5 * g + 12) [.ref x0, .int x1, .ref x2] h (.inl (some (.int r.1))) r.2 := by
  unfold k_X0_burst at hl
  refine cm_ofH (by decide +kernel) (by decide) (Nat.le_of_ble_eq_true rfl) ?_
  refine cx_aload_n dX0_burst_0 rfl rfl ?_
  refine cx_iconst (v := 0) dX0_burst_1 rfl ?_
  refine cx_aload_n dX0_burst_2 rfl rfl ?_
  refine cx_iload_n dX0_burst_3 rfl ?_
  obtain ⟨u2, eu2, hl⟩ := xb hl
  obtain ⟨r1, er1, hl⟩ := xb hl
  rcases r1 with ⟨v3 | ⟨C6, q7⟩, h4⟩
  · dsimp only at hl
    refine cx_callV (Or.inl ⟨by decide, _, _, rfl⟩) (T_X1_burst er1) lV_X0_50 C_X1_burst dX0_burst_4 eu2 (by decide) rfl (by omega) (Nat.le_of_ble_eq_true rfl) ?_
    refine cx_i2l dX0_burst_7 ?_
    obtain ⟨h8, eh8, hl⟩ := xb hl
    refine cx_last dX0_burst_8 eh8 ?_
    refine cx_goto (tgt := 15) dX0_burst_9 (by decide) ?_
    refine cx_iconst (v := 0) dX0_burst_15 rfl ?_
    cases hl
    exact cx_iret dX0_burst_16 rfl rfl rfl rfl
  · dsimp only at hl
    by_cases c9 : C6 = "java/util/NoSuchElementException"
    · rw [if_pos c9] at hl
      subst c9
      refine cx_callVx (Or.inl ⟨by decide, _, _, rfl⟩) (T_X1_burst er1) lV_X0_50 C_X1_burst dX0_burst_4 eu2 (by decide) rfl (by omega) (Nat.le_of_ble_eq_true rfl) ?_
      refine ct_catch [] _ _ rfl (fun z hz => by cases hz) (by decide) (by decide) q1182 q1245 ?_
      refine cx_astore_n dX0_burst_12 (by decide) rfl ?_
      refine cx_iconst (v := 1) dX0_burst_13 rfl ?_
      cases hl
      exact cx_iret dX0_burst_14 rfl rfl rfl rfl
    rw [if_neg c9] at hl
    cases hl
def k_X0_wriggles (n : Nat) (g : Nat) (c : Nat → Value) (x0 : Nat) (x1 : Int32) (x2 : Nat) (h : XH) : Option (Int32 × XH) := (ckd h x0 0).bind fun u2 => (k_X1_wriggles n g c x0 x1 h).bind fun r1 => match r1 with | (.inl v3, h4) => ((csu h4 x2 103 0 (.long ((v3 : Int32).toInt64))).bind fun h8 => some (0, h8)) | (.inr e5, h4) => (if e5.1 = "java/util/NoSuchElementException" then some (1, h4) else none)
set_option maxHeartbeats 4000000 in
theorem T_X0_wriggles {l : Launch} {E : XEnv}  {n : Nat} {g : Nat} {x0 : Nat} {x1 : Int32} {x2 : Nat} {h : XH} (hE : va_Nc "java/lang/IllegalArgumentException" "java/util/NoSuchElementException" E.1) {r : Int32 × XH} (hl : k_X0_wriggles n g E.2.2.2 x0 x1 x2 h = some r) : CM l E mX0_wriggles (5 * g + 11) [.ref x0, .int x1, .ref x2] h (.inl (some (.int r.1))) r.2 := by
  unfold k_X0_wriggles at hl
  refine cm_ofH (by decide +kernel) (by decide) (Nat.le_of_ble_eq_true rfl) ?_
  refine cx_aload_n dX0_wriggles_0 rfl rfl ?_
  refine cx_iconst (v := 0) dX0_wriggles_1 rfl ?_
  refine cx_aload_n dX0_wriggles_2 rfl rfl ?_
  refine cx_iload_n dX0_wriggles_3 rfl ?_
  obtain ⟨u2, eu2, hl⟩ := xb hl
  obtain ⟨r1, er1, hl⟩ := xb hl
  rcases r1 with ⟨v3 | ⟨C6, q7⟩, h4⟩
  · dsimp only at hl
    refine cx_callV (Or.inl ⟨by decide, _, _, rfl⟩) (T_X1_wriggles er1) lV_X0_53 C_X1_wriggles dX0_wriggles_4 eu2 (by decide) rfl (by omega) (Nat.le_of_ble_eq_true rfl) ?_
    refine cx_i2l dX0_wriggles_7 ?_
    obtain ⟨h8, eh8, hl⟩ := xb hl
    refine cx_last dX0_wriggles_8 eh8 ?_
    refine cx_goto (tgt := 15) dX0_wriggles_9 (by decide) ?_
    refine cx_iconst (v := 0) dX0_wriggles_15 rfl ?_
    cases hl
    exact cx_iret dX0_wriggles_16 rfl rfl rfl rfl
  · dsimp only at hl
    by_cases c9 : C6 = "java/util/NoSuchElementException"
    · rw [if_pos c9] at hl
      subst c9
      refine cx_callVx (Or.inl ⟨by decide, _, _, rfl⟩) (T_X1_wriggles er1) lV_X0_53 C_X1_wriggles dX0_wriggles_4 eu2 (by decide) rfl (by omega) (Nat.le_of_ble_eq_true rfl) ?_
      refine ct_catch [] _ _ rfl (fun z hz => by cases hz) (by decide) (by decide) q1182 q1245 ?_
      refine cx_astore_n dX0_wriggles_12 (by decide) rfl ?_
      refine cx_iconst (v := 1) dX0_wriggles_13 rfl ?_
      cases hl
      exact cx_iret dX0_wriggles_14 rfl rfl rfl rfl
    rw [if_neg c9] at hl
    cases hl
def k_X0_barefoot (n : Nat) (g : Nat) (c : Nat → Value) (x0 : Nat) (x1 : Int32) (x2 : Nat) (h : XH) : Option (Int32 × XH) := (ckd h x0 0).bind fun u2 => (k_X1_barefoot n g c x0 x1 h).bind fun r1 => match r1 with | (.inl v3, h4) => ((csu h4 x2 103 0 (.long ((v3 : Int32).toInt64))).bind fun h8 => some (0, h8)) | (.inr e5, h4) => (if e5.1 = "java/lang/IllegalArgumentException" then some (1, h4) else none)
set_option maxHeartbeats 4000000 in
theorem T_X0_barefoot {l : Launch} {E : XEnv}  {n : Nat} {g : Nat} {x0 : Nat} {x1 : Int32} {x2 : Nat} {h : XH} (hE : va_Nc "java/lang/IllegalArgumentException" "java/util/NoSuchElementException" E.1) {r : Int32 × XH} (hl : k_X0_barefoot n g E.2.2.2 x0 x1 x2 h = some r) : CM l E mX0_barefoot (5 * g + 13) [.ref x0, .int x1, .ref x2] h (.inl (some (.int r.1))) r.2 := by
  unfold k_X0_barefoot at hl
  refine cm_ofH (by decide +kernel) (by decide) (Nat.le_of_ble_eq_true rfl) ?_
  refine cx_aload_n dX0_barefoot_0 rfl rfl ?_
  refine cx_iconst (v := 0) dX0_barefoot_1 rfl ?_
  refine cx_aload_n dX0_barefoot_2 rfl rfl ?_
  refine cx_iload_n dX0_barefoot_3 rfl ?_
  obtain ⟨u2, eu2, hl⟩ := xb hl
  obtain ⟨r1, er1, hl⟩ := xb hl
  rcases r1 with ⟨v3 | ⟨C6, q7⟩, h4⟩
  · dsimp only at hl
    refine cx_callV (Or.inl ⟨by decide, _, _, rfl⟩) (T_X1_barefoot er1) lV_X0_56 C_X1_barefoot dX0_barefoot_4 eu2 (by decide) rfl (by omega) (Nat.le_of_ble_eq_true rfl) ?_
    refine cx_i2l dX0_barefoot_7 ?_
    obtain ⟨h8, eh8, hl⟩ := xb hl
    refine cx_last dX0_barefoot_8 eh8 ?_
    refine cx_goto (tgt := 15) dX0_barefoot_9 (by decide) ?_
    refine cx_iconst (v := 0) dX0_barefoot_15 rfl ?_
    cases hl
    exact cx_iret dX0_barefoot_16 rfl rfl rfl rfl
  · dsimp only at hl
    by_cases c9 : C6 = "java/lang/IllegalArgumentException"
    · rw [if_pos c9] at hl
      subst c9
      refine cx_callVx (Or.inl ⟨by decide, _, _, rfl⟩) (T_X1_barefoot er1) lV_X0_56 C_X1_barefoot dX0_barefoot_4 eu2 (by decide) rfl (by omega) (Nat.le_of_ble_eq_true rfl) ?_
      refine ct_catch [] _ _ rfl (fun z hz => by cases hz) (by decide) (by decide) q650 q661 ?_
      refine cx_astore_n dX0_barefoot_12 (by decide) rfl ?_
      refine cx_iconst (v := 1) dX0_barefoot_13 rfl ?_
      cases hl
      exact cx_iret dX0_barefoot_14 rfl rfl rfl rfl
    rw [if_neg c9] at hl
    cases hl
def k_X0_last (n : Nat) (g : Nat) (c : Nat → Value) (x0 : Nat) (x1 : Int32) (x2 : Nat) (h : XH) : Option (Int32 × XH) := (ckd h x0 0).bind fun u2 => (k_X1_last n g c x0 x1 h).bind fun r1 => match r1 with | (.inl v3, h4) => ((csu h4 x2 103 0 (.long ((v3 : Int32).toInt64))).bind fun h8 => some (0, h8)) | (.inr e5, h4) => (if e5.1 = "java/util/NoSuchElementException" then some (1, h4) else none)
set_option maxHeartbeats 4000000 in
theorem T_X0_last {l : Launch} {E : XEnv}  {n : Nat} {g : Nat} {x0 : Nat} {x1 : Int32} {x2 : Nat} {h : XH} (hE : va_Nc "java/lang/IllegalArgumentException" "java/util/NoSuchElementException" E.1) {r : Int32 × XH} (hl : k_X0_last n g E.2.2.2 x0 x1 x2 h = some r) : CM l E mX0_last (5 * g + 12) [.ref x0, .int x1, .ref x2] h (.inl (some (.int r.1))) r.2 := by
  unfold k_X0_last at hl
  refine cm_ofH (by decide +kernel) (by decide) (Nat.le_of_ble_eq_true rfl) ?_
  refine cx_aload_n dX0_last_0 rfl rfl ?_
  refine cx_iconst (v := 0) dX0_last_1 rfl ?_
  refine cx_aload_n dX0_last_2 rfl rfl ?_
  refine cx_iload_n dX0_last_3 rfl ?_
  obtain ⟨u2, eu2, hl⟩ := xb hl
  obtain ⟨r1, er1, hl⟩ := xb hl
  rcases r1 with ⟨v3 | ⟨C6, q7⟩, h4⟩
  · dsimp only at hl
    refine cx_callV (Or.inl ⟨by decide, _, _, rfl⟩) (T_X1_last er1) lV_X0_59 C_X1_last dX0_last_4 eu2 (by decide) rfl (by omega) (Nat.le_of_ble_eq_true rfl) ?_
    refine cx_i2l dX0_last_7 ?_
    obtain ⟨h8, eh8, hl⟩ := xb hl
    refine cx_last dX0_last_8 eh8 ?_
    refine cx_goto (tgt := 15) dX0_last_9 (by decide) ?_
    refine cx_iconst (v := 0) dX0_last_15 rfl ?_
    cases hl
    exact cx_iret dX0_last_16 rfl rfl rfl rfl
  · dsimp only at hl
    by_cases c9 : C6 = "java/util/NoSuchElementException"
    · rw [if_pos c9] at hl
      subst c9
      refine cx_callVx (Or.inl ⟨by decide, _, _, rfl⟩) (T_X1_last er1) lV_X0_59 C_X1_last dX0_last_4 eu2 (by decide) rfl (by omega) (Nat.le_of_ble_eq_true rfl) ?_
      refine ct_catch [] _ _ rfl (fun z hz => by cases hz) (by decide) (by decide) q1182 q1245 ?_
      refine cx_astore_n dX0_last_12 (by decide) rfl ?_
      refine cx_iconst (v := 1) dX0_last_13 rfl ?_
      cases hl
      exact cx_iret dX0_last_14 rfl rfl rfl rfl
    rw [if_neg c9] at hl
    cases hl
def k_X0_goes (n : Nat) (g : Nat) (c : Nat → Value) (x0 : Nat) (x1 : Int32) (x2 : Nat) (h : XH) : Option (Int32 × XH) := (ckd h x0 0).bind fun u2 => (k_X1_goes n g c x0 x1 h).bind fun r1 => match r1 with | (.inl v3, h4) => ((csu h4 x2 103 0 (.long ((v3 : Int32).toInt64))).bind fun h8 => some (0, h8)) | (.inr e5, h4) => (if e5.1 = "java/util/NoSuchElementException" then some (1, h4) else none)
set_option maxHeartbeats 4000000 in
theorem T_X0_goes {l : Launch} {E : XEnv}  {n : Nat} {g : Nat} {x0 : Nat} {x1 : Int32} {x2 : Nat} {h : XH} (hE : va_Nc "java/lang/IllegalArgumentException" "java/util/NoSuchElementException" E.1) {r : Int32 × XH} (hl : k_X0_goes n g E.2.2.2 x0 x1 x2 h = some r) : CM l E mX0_goes (5 * g + 11) [.ref x0, .int x1, .ref x2] h (.inl (some (.int r.1))) r.2 := by
  unfold k_X0_goes at hl
  refine cm_ofH (by decide +kernel) (by decide) (Nat.le_of_ble_eq_true rfl) ?_
  refine cx_aload_n dX0_goes_0 rfl rfl ?_
  refine cx_iconst (v := 0) dX0_goes_1 rfl ?_
  refine cx_aload_n dX0_goes_2 rfl rfl ?_
  refine cx_iload_n dX0_goes_3 rfl ?_
  obtain ⟨u2, eu2, hl⟩ := xb hl
  obtain ⟨r1, er1, hl⟩ := xb hl
  rcases r1 with ⟨v3 | ⟨C6, q7⟩, h4⟩
  · dsimp only at hl
    refine cx_callV (Or.inl ⟨by decide, _, _, rfl⟩) (T_X1_goes er1) lV_X0_62 C_X1_goes dX0_goes_4 eu2 (by decide) rfl (by omega) (Nat.le_of_ble_eq_true rfl) ?_
    refine cx_i2l dX0_goes_7 ?_
    obtain ⟨h8, eh8, hl⟩ := xb hl
    refine cx_last dX0_goes_8 eh8 ?_
    refine cx_goto (tgt := 15) dX0_goes_9 (by decide) ?_
    refine cx_iconst (v := 0) dX0_goes_15 rfl ?_
    cases hl
    exact cx_iret dX0_goes_16 rfl rfl rfl rfl
  · dsimp only at hl
    by_cases c9 : C6 = "java/util/NoSuchElementException"
    · rw [if_pos c9] at hl
      subst c9
      refine cx_callVx (Or.inl ⟨by decide, _, _, rfl⟩) (T_X1_goes er1) lV_X0_62 C_X1_goes dX0_goes_4 eu2 (by decide) rfl (by omega) (Nat.le_of_ble_eq_true rfl) ?_
      refine ct_catch [] _ _ rfl (fun z hz => by cases hz) (by decide) (by decide) q1182 q1245 ?_
      refine cx_astore_n dX0_goes_12 (by decide) rfl ?_
      refine cx_iconst (v := 1) dX0_goes_13 rfl ?_
      cases hl
      exact cx_iret dX0_goes_14 rfl rfl rfl rfl
    rw [if_neg c9] at hl
    cases hl
def k_X0_match (n : Nat) (g : Nat) (c : Nat → Value) (x0 : Nat) (x1 : Int32) (x2 : Nat) (h : XH) : Option (Int32 × XH) := (ckd h x0 0).bind fun u2 => (k_X1_match n g c x0 x1 h).bind fun r1 => match r1 with | (.inl v3, h4) => ((csu h4 x2 103 0 (.long ((v3 : Int32).toInt64))).bind fun h8 => some (0, h8)) | (.inr e5, h4) => (if e5.1 = "java/util/NoSuchElementException" then some (1, h4) else none)
set_option maxHeartbeats 4000000 in
theorem T_X0_match {l : Launch} {E : XEnv}  {n : Nat} {g : Nat} {x0 : Nat} {x1 : Int32} {x2 : Nat} {h : XH} (hE : va_Nc "java/lang/IllegalArgumentException" "java/util/NoSuchElementException" E.1) {r : Int32 × XH} (hl : k_X0_match n g E.2.2.2 x0 x1 x2 h = some r) : CM l E mX0_match (5 * g + 12) [.ref x0, .int x1, .ref x2] h (.inl (some (.int r.1))) r.2 := by
  unfold k_X0_match at hl
  refine cm_ofH (by decide +kernel) (by decide) (Nat.le_of_ble_eq_true rfl) ?_
  refine cx_aload_n dX0_match_0 rfl rfl ?_
  refine cx_iconst (v := 0) dX0_match_1 rfl ?_
  refine cx_aload_n dX0_match_2 rfl rfl ?_
  refine cx_iload_n dX0_match_3 rfl ?_
  obtain ⟨u2, eu2, hl⟩ := xb hl
  obtain ⟨r1, er1, hl⟩ := xb hl
  rcases r1 with ⟨v3 | ⟨C6, q7⟩, h4⟩
  · dsimp only at hl
    refine cx_callV (Or.inl ⟨by decide, _, _, rfl⟩) (T_X1_match er1) lV_X0_65 C_X1_match dX0_match_4 eu2 (by decide) rfl (by omega) (Nat.le_of_ble_eq_true rfl) ?_
    refine cx_i2l dX0_match_7 ?_
    obtain ⟨h8, eh8, hl⟩ := xb hl
    refine cx_last dX0_match_8 eh8 ?_
    refine cx_goto (tgt := 15) dX0_match_9 (by decide) ?_
    refine cx_iconst (v := 0) dX0_match_15 rfl ?_
    cases hl
    exact cx_iret dX0_match_16 rfl rfl rfl rfl
  · dsimp only at hl
    by_cases c9 : C6 = "java/util/NoSuchElementException"
    · rw [if_pos c9] at hl
      subst c9
      refine cx_callVx (Or.inl ⟨by decide, _, _, rfl⟩) (T_X1_match er1) lV_X0_65 C_X1_match dX0_match_4 eu2 (by decide) rfl (by omega) (Nat.le_of_ble_eq_true rfl) ?_
      refine ct_catch [] _ _ rfl (fun z hz => by cases hz) (by decide) (by decide) q1182 q1245 ?_
      refine cx_astore_n dX0_match_12 (by decide) rfl ?_
      refine cx_iconst (v := 1) dX0_match_13 rfl ?_
      cases hl
      exact cx_iret dX0_match_14 rfl rfl rfl rfl
    rw [if_neg c9] at hl
    cases hl
def k_X0_matched (n : Nat) (g : Nat) (c : Nat → Value) (x0 : Nat) (x1 : Int32) (x2 : Nat) (h : XH) : Option (Int32 × XH) := (ckd h x0 0).bind fun u2 => (k_X1_matched n g c x0 x1 h).bind fun r1 => match r1 with | (.inl v3, h4) => ((csu h4 x2 103 0 (.long ((v3 : Int32).toInt64))).bind fun h8 => some (0, h8)) | (.inr e5, h4) => (if e5.1 = "java/util/NoSuchElementException" then some (1, h4) else none)
set_option maxHeartbeats 4000000 in
theorem T_X0_matched {l : Launch} {E : XEnv}  {n : Nat} {g : Nat} {x0 : Nat} {x1 : Int32} {x2 : Nat} {h : XH} (hE : va_Nc "java/lang/IllegalArgumentException" "java/util/NoSuchElementException" E.1) {r : Int32 × XH} (hl : k_X0_matched n g E.2.2.2 x0 x1 x2 h = some r) : CM l E mX0_matched (5 * g + 12) [.ref x0, .int x1, .ref x2] h (.inl (some (.int r.1))) r.2 := by
  unfold k_X0_matched at hl
  refine cm_ofH (by decide +kernel) (by decide) (Nat.le_of_ble_eq_true rfl) ?_
  refine cx_aload_n dX0_matched_0 rfl rfl ?_
  refine cx_iconst (v := 0) dX0_matched_1 rfl ?_
  refine cx_aload_n dX0_matched_2 rfl rfl ?_
  refine cx_iload_n dX0_matched_3 rfl ?_
  obtain ⟨u2, eu2, hl⟩ := xb hl
  obtain ⟨r1, er1, hl⟩ := xb hl
  rcases r1 with ⟨v3 | ⟨C6, q7⟩, h4⟩
  · dsimp only at hl
    refine cx_callV (Or.inl ⟨by decide, _, _, rfl⟩) (T_X1_matched er1) lV_X0_68 C_X1_matched dX0_matched_4 eu2 (by decide) rfl (by omega) (Nat.le_of_ble_eq_true rfl) ?_
    refine cx_i2l dX0_matched_7 ?_
    obtain ⟨h8, eh8, hl⟩ := xb hl
    refine cx_last dX0_matched_8 eh8 ?_
    refine cx_goto (tgt := 15) dX0_matched_9 (by decide) ?_
    refine cx_iconst (v := 0) dX0_matched_15 rfl ?_
    cases hl
    exact cx_iret dX0_matched_16 rfl rfl rfl rfl
  · dsimp only at hl
    by_cases c9 : C6 = "java/util/NoSuchElementException"
    · rw [if_pos c9] at hl
      subst c9
      refine cx_callVx (Or.inl ⟨by decide, _, _, rfl⟩) (T_X1_matched er1) lV_X0_68 C_X1_matched dX0_matched_4 eu2 (by decide) rfl (by omega) (Nat.le_of_ble_eq_true rfl) ?_
      refine ct_catch [] _ _ rfl (fun z hz => by cases hz) (by decide) (by decide) q1182 q1245 ?_
      refine cx_astore_n dX0_matched_12 (by decide) rfl ?_
      refine cx_iconst (v := 1) dX0_matched_13 rfl ?_
      cases hl
      exact cx_iret dX0_matched_14 rfl rfl rfl rfl
    rw [if_neg c9] at hl
    cases hl
def k_X0_trade (n : Nat) (x0 : Nat) (x1 : Int32) (x2 : Nat) (h : XH) : Option (Int32 × XH) := (ckd h x0 0).bind fun u2 => (k_X1_trade n x0 x1 h).bind fun r1 => match r1 with | (.inl v3, h4) => ((csu h4 x2 103 0 (.long ((v3 : Int32).toInt64))).bind fun h8 => some (0, h8)) | (.inr e5, h4) => (if e5.1 = "java/util/NoSuchElementException" then some (1, h4) else none)
set_option maxHeartbeats 4000000 in
theorem T_X0_trade {l : Launch} {E : XEnv}  {n : Nat} {x0 : Nat} {x1 : Int32} {x2 : Nat} {h : XH} (hE : va_Nc "java/lang/IllegalArgumentException" "java/util/NoSuchElementException" E.1) {r : Int32 × XH} (hl : k_X0_trade n x0 x1 x2 h = some r) : CM l E mX0_trade 11 [.ref x0, .int x1, .ref x2] h (.inl (some (.int r.1))) r.2 := by
  unfold k_X0_trade at hl
  refine cm_ofH (by decide +kernel) (by decide) (Nat.le_of_ble_eq_true rfl) ?_
  refine cx_aload_n dX0_trade_0 rfl rfl ?_
  refine cx_iconst (v := 0) dX0_trade_1 rfl ?_
  refine cx_aload_n dX0_trade_2 rfl rfl ?_
  refine cx_iload_n dX0_trade_3 rfl ?_
  obtain ⟨u2, eu2, hl⟩ := xb hl
  obtain ⟨r1, er1, hl⟩ := xb hl
  rcases r1 with ⟨v3 | ⟨C6, q7⟩, h4⟩
  · dsimp only at hl
    refine cx_callV (Or.inl ⟨by decide, _, _, rfl⟩) (T_X1_trade er1) lV_X0_71 C_X1_trade dX0_trade_4 eu2 (by decide) rfl (by omega) (Nat.le_of_ble_eq_true rfl) ?_
    refine cx_i2l dX0_trade_7 ?_
    obtain ⟨h8, eh8, hl⟩ := xb hl
    refine cx_last dX0_trade_8 eh8 ?_
    refine cx_goto (tgt := 15) dX0_trade_9 (by decide) ?_
    refine cx_iconst (v := 0) dX0_trade_15 rfl ?_
    cases hl
    exact cx_iret dX0_trade_16 rfl rfl rfl rfl
  · dsimp only at hl
    by_cases c9 : C6 = "java/util/NoSuchElementException"
    · rw [if_pos c9] at hl
      subst c9
      refine cx_callVx (Or.inl ⟨by decide, _, _, rfl⟩) (T_X1_trade er1) lV_X0_71 C_X1_trade dX0_trade_4 eu2 (by decide) rfl (by omega) (Nat.le_of_ble_eq_true rfl) ?_
      refine ct_catch [] _ _ rfl (fun z hz => by cases hz) (by decide) (by decide) q1182 q1245 ?_
      refine cx_astore_n dX0_trade_12 (by decide) rfl ?_
      refine cx_iconst (v := 1) dX0_trade_13 rfl ?_
      cases hl
      exact cx_iret dX0_trade_14 rfl rfl rfl rfl
    rw [if_neg c9] at hl
    cases hl
def k_X0_toStuff (x0 : Nat) (x1 : Int32) (x2 : Int32) (x3 : Nat) (h : XH) : Option (Int32 × XH) := (ckd h x0 0).bind fun u2 => (k_X1_toStuff x0 x1 x2 h).bind fun r1 => match r1 with | (.inl v3, h4) => ((csu h4 x3 103 0 (.long ((v3 : Int32).toInt64))).bind fun h8 => some (0, h8)) | (.inr e5, h4) => (if e5.1 = "java/util/NoSuchElementException" then some (1, h4) else none)
set_option maxHeartbeats 4000000 in
theorem T_X0_toStuff {l : Launch} {E : XEnv}  {x0 : Nat} {x1 : Int32} {x2 : Int32} {x3 : Nat} {h : XH} (hE : va_Nc "java/lang/IllegalArgumentException" "java/util/NoSuchElementException" E.1) {r : Int32 × XH} (hl : k_X0_toStuff x0 x1 x2 x3 h = some r) : CM l E mX0_toStuff 11 [.ref x0, .int x1, .int x2, .ref x3] h (.inl (some (.int r.1))) r.2 := by
  unfold k_X0_toStuff at hl
  refine cm_ofH (by decide +kernel) (by decide) (Nat.le_of_ble_eq_true rfl) ?_
  refine cx_aload_n dX0_toStuff_0 rfl rfl ?_
  refine cx_iconst (v := 0) dX0_toStuff_1 rfl ?_
  refine cx_aload_n dX0_toStuff_2 rfl rfl ?_
  refine cx_iload_n dX0_toStuff_3 rfl ?_
  refine cx_iload_n dX0_toStuff_4 rfl ?_
  obtain ⟨u2, eu2, hl⟩ := xb hl
  obtain ⟨r1, er1, hl⟩ := xb hl
  rcases r1 with ⟨v3 | ⟨C6, q7⟩, h4⟩
  · dsimp only at hl
    refine cx_callV (Or.inl ⟨by decide, _, _, rfl⟩) (T_X1_toStuff er1) lV_X0_74 C_X1_toStuff dX0_toStuff_5 eu2 (by decide) rfl (by omega) (Nat.le_of_ble_eq_true rfl) ?_
    refine cx_i2l dX0_toStuff_8 ?_
    obtain ⟨h8, eh8, hl⟩ := xb hl
    refine cx_last dX0_toStuff_9 eh8 ?_
    refine cx_goto (tgt := 17) dX0_toStuff_10 (by decide) ?_
    refine cx_iconst (v := 0) dX0_toStuff_17 rfl ?_
    cases hl
    exact cx_iret dX0_toStuff_18 rfl rfl rfl rfl
  · dsimp only at hl
    by_cases c9 : C6 = "java/util/NoSuchElementException"
    · rw [if_pos c9] at hl
      subst c9
      refine cx_callVx (Or.inl ⟨by decide, _, _, rfl⟩) (T_X1_toStuff er1) lV_X0_74 C_X1_toStuff dX0_toStuff_5 eu2 (by decide) rfl (by omega) (Nat.le_of_ble_eq_true rfl) ?_
      refine ct_catch [] _ _ rfl (fun z hz => by cases hz) (by decide) (by decide) q1182 q1245 ?_
      refine cx_astore dX0_toStuff_13 (by decide) rfl ?_
      refine cx_iconst (v := 1) dX0_toStuff_15 rfl ?_
      cases hl
      exact cx_iret dX0_toStuff_16 rfl rfl rfl rfl
    rw [if_neg c9] at hl
    cases hl
def k_X0_toWait (n : Nat) (g : Nat) (c : Nat → Value) (x0 : Nat) (x1 : Int32) (x2 : Int32) (x3 : Nat) (h : XH) : Option (Int32 × XH) := (ckd h x0 0).bind fun u2 => (k_X1_toWait n g c x0 x1 x2 h).bind fun r1 => match r1 with | (.inl v3, h4) => ((csu h4 x3 103 0 (.long ((v3 : Int32).toInt64))).bind fun h8 => some (0, h8)) | (.inr e5, h4) => (if e5.1 = "java/util/NoSuchElementException" then some (1, h4) else none)
set_option maxHeartbeats 4000000 in
theorem T_X0_toWait {l : Launch} {E : XEnv}  {n : Nat} {g : Nat} {x0 : Nat} {x1 : Int32} {x2 : Int32} {x3 : Nat} {h : XH} (hE : va_Nc "java/lang/IllegalArgumentException" "java/util/NoSuchElementException" E.1) {r : Int32 × XH} (hl : k_X0_toWait n g E.2.2.2 x0 x1 x2 x3 h = some r) : CM l E mX0_toWait (5 * g + 11) [.ref x0, .int x1, .int x2, .ref x3] h (.inl (some (.int r.1))) r.2 := by
  unfold k_X0_toWait at hl
  refine cm_ofH (by decide +kernel) (by decide) (Nat.le_of_ble_eq_true rfl) ?_
  refine cx_aload_n dX0_toWait_0 rfl rfl ?_
  refine cx_iconst (v := 0) dX0_toWait_1 rfl ?_
  refine cx_aload_n dX0_toWait_2 rfl rfl ?_
  refine cx_iload_n dX0_toWait_3 rfl ?_
  refine cx_iload_n dX0_toWait_4 rfl ?_
  obtain ⟨u2, eu2, hl⟩ := xb hl
  obtain ⟨r1, er1, hl⟩ := xb hl
  rcases r1 with ⟨v3 | ⟨C6, q7⟩, h4⟩
  · dsimp only at hl
    refine cx_callV (Or.inl ⟨by decide, _, _, rfl⟩) (T_X1_toWait er1) lV_X0_77 C_X1_toWait dX0_toWait_5 eu2 (by decide) rfl (by omega) (Nat.le_of_ble_eq_true rfl) ?_
    refine cx_i2l dX0_toWait_8 ?_
    obtain ⟨h8, eh8, hl⟩ := xb hl
    refine cx_last dX0_toWait_9 eh8 ?_
    refine cx_goto (tgt := 17) dX0_toWait_10 (by decide) ?_
    refine cx_iconst (v := 0) dX0_toWait_17 rfl ?_
    cases hl
    exact cx_iret dX0_toWait_18 rfl rfl rfl rfl
  · dsimp only at hl
    by_cases c9 : C6 = "java/util/NoSuchElementException"
    · rw [if_pos c9] at hl
      subst c9
      refine cx_callVx (Or.inl ⟨by decide, _, _, rfl⟩) (T_X1_toWait er1) lV_X0_77 C_X1_toWait dX0_toWait_5 eu2 (by decide) rfl (by omega) (Nat.le_of_ble_eq_true rfl) ?_
      refine ct_catch [] _ _ rfl (fun z hz => by cases hz) (by decide) (by decide) q1182 q1245 ?_
      refine cx_astore dX0_toWait_13 (by decide) rfl ?_
      refine cx_iconst (v := 1) dX0_toWait_15 rfl ?_
      cases hl
      exact cx_iret dX0_toWait_16 rfl rfl rfl rfl
    rw [if_neg c9] at hl
    cases hl
def k_X0_round (n : Nat) (x0 : Nat) (x1 : Int32) (x2 : Nat) (h : XH) : Option (Int32 × XH) := (ckd h x0 0).bind fun u2 => (k_X1_round n x0 x1 h).bind fun r1 => match r1 with | (.inl v3, h4) => ((csu h4 x2 103 0 (.long ((v3 : Int32).toInt64))).bind fun h8 => some (0, h8)) | (.inr e5, h4) => (if e5.1 = "java/lang/IllegalArgumentException" then some (1, h4) else none)
set_option maxHeartbeats 4000000 in
theorem T_X0_round {l : Launch} {E : XEnv}  {n : Nat} {x0 : Nat} {x1 : Int32} {x2 : Nat} {h : XH} (hE : va_Nc "java/lang/IllegalArgumentException" "java/util/NoSuchElementException" E.1) {r : Int32 × XH} (hl : k_X0_round n x0 x1 x2 h = some r) : CM l E mX0_round 10 [.ref x0, .int x1, .ref x2] h (.inl (some (.int r.1))) r.2 := by
  unfold k_X0_round at hl
  refine cm_ofH (by decide +kernel) (by decide) (Nat.le_of_ble_eq_true rfl) ?_
  refine cx_aload_n dX0_round_0 rfl rfl ?_
  refine cx_iconst (v := 0) dX0_round_1 rfl ?_
  refine cx_aload_n dX0_round_2 rfl rfl ?_
  refine cx_iload_n dX0_round_3 rfl ?_
  obtain ⟨u2, eu2, hl⟩ := xb hl
  obtain ⟨r1, er1, hl⟩ := xb hl
  rcases r1 with ⟨v3 | ⟨C6, q7⟩, h4⟩
  · dsimp only at hl
    refine cx_callV (Or.inl ⟨by decide, _, _, rfl⟩) (T_X1_round er1) lV_X0_80 C_X1_round dX0_round_4 eu2 (by decide) rfl (by omega) (Nat.le_of_ble_eq_true rfl) ?_
    refine cx_i2l dX0_round_7 ?_
    obtain ⟨h8, eh8, hl⟩ := xb hl
    refine cx_last dX0_round_8 eh8 ?_
    refine cx_goto (tgt := 15) dX0_round_9 (by decide) ?_
    refine cx_iconst (v := 0) dX0_round_15 rfl ?_
    cases hl
    exact cx_iret dX0_round_16 rfl rfl rfl rfl
  · dsimp only at hl
    by_cases c9 : C6 = "java/lang/IllegalArgumentException"
    · rw [if_pos c9] at hl
      subst c9
      refine cx_callVx (Or.inl ⟨by decide, _, _, rfl⟩) (T_X1_round er1) lV_X0_80 C_X1_round dX0_round_4 eu2 (by decide) rfl (by omega) (Nat.le_of_ble_eq_true rfl) ?_
      refine ct_catch [] _ _ rfl (fun z hz => by cases hz) (by decide) (by decide) q650 q661 ?_
      refine cx_astore_n dX0_round_12 (by decide) rfl ?_
      refine cx_iconst (v := 1) dX0_round_13 rfl ?_
      cases hl
      exact cx_iret dX0_round_14 rfl rfl rfl rfl
    rw [if_neg c9] at hl
    cases hl
def k_X0_see (c : Nat → Value) (x0 : Nat) (x1 : Int32) (x2 : Int32) (x3 : Int32) (x4 : Nat) (h : XH) : Option (Int32 × XH) := (ckd h x0 0).bind fun u2 => (k_X1_see c x0 x1 x2 x3 h).bind fun r1 => match r1 with | (.inl v3, h4) => ((csu h4 x4 103 0 (.long ((v3 : Int32).toInt64))).bind fun h8 => some (0, h8)) | (.inr e5, h4) => (if e5.1 = "java/util/NoSuchElementException" then some (1, h4) else none)
set_option maxHeartbeats 4000000 in
theorem T_X0_see {l : Launch} {E : XEnv}  {x0 : Nat} {x1 : Int32} {x2 : Int32} {x3 : Int32} {x4 : Nat} {h : XH} (hE : va_Nc "java/lang/IllegalArgumentException" "java/util/NoSuchElementException" E.1) {r : Int32 × XH} (hl : k_X0_see E.2.2.2 x0 x1 x2 x3 x4 h = some r) : CM l E mX0_see 11 [.ref x0, .int x1, .int x2, .int x3, .ref x4] h (.inl (some (.int r.1))) r.2 := by
  unfold k_X0_see at hl
  refine cm_ofH (by decide +kernel) (by decide) (Nat.le_of_ble_eq_true rfl) ?_
  refine cx_aload dX0_see_0 rfl rfl ?_
  refine cx_iconst (v := 0) dX0_see_2 rfl ?_
  refine cx_aload_n dX0_see_3 rfl rfl ?_
  refine cx_iload_n dX0_see_4 rfl ?_
  refine cx_iload_n dX0_see_5 rfl ?_
  refine cx_iload_n dX0_see_6 rfl ?_
  obtain ⟨u2, eu2, hl⟩ := xb hl
  obtain ⟨r1, er1, hl⟩ := xb hl
  rcases r1 with ⟨v3 | ⟨C6, q7⟩, h4⟩
  · dsimp only at hl
    refine cx_callV (Or.inl ⟨by decide, _, _, rfl⟩) (T_X1_see er1) lV_X0_83 C_X1_see dX0_see_7 eu2 (by decide) rfl (by omega) (Nat.le_of_ble_eq_true rfl) ?_
    refine cx_i2l dX0_see_10 ?_
    obtain ⟨h8, eh8, hl⟩ := xb hl
    refine cx_last dX0_see_11 eh8 ?_
    refine cx_goto (tgt := 19) dX0_see_12 (by decide) ?_
    refine cx_iconst (v := 0) dX0_see_19 rfl ?_
    cases hl
    exact cx_iret dX0_see_20 rfl rfl rfl rfl
  · dsimp only at hl
    by_cases c9 : C6 = "java/util/NoSuchElementException"
    · rw [if_pos c9] at hl
      subst c9
      refine cx_callVx (Or.inl ⟨by decide, _, _, rfl⟩) (T_X1_see er1) lV_X0_83 C_X1_see dX0_see_7 eu2 (by decide) rfl (by omega) (Nat.le_of_ble_eq_true rfl) ?_
      refine ct_catch [] _ _ rfl (fun z hz => by cases hz) (by decide) (by decide) q1182 q1245 ?_
      refine cx_astore dX0_see_15 (by decide) rfl ?_
      refine cx_iconst (v := 1) dX0_see_17 rfl ?_
      cases hl
      exact cx_iret dX0_see_18 rfl rfl rfl rfl
    rw [if_neg c9] at hl
    cases hl
def k_X0_large (n : Nat) (g : Nat) (c : Nat → Value) (x0 : Nat) (x1 : Int32) (x2 : Nat) (h : XH) : Option (Int32 × XH) := (ckd h x0 0).bind fun u2 => (k_X1_large n g c x0 x1 h).bind fun r1 => match r1 with | (.inl v3, h4) => ((csu h4 x2 103 0 (.long ((v3 : Int32).toInt64))).bind fun h8 => some (0, h8)) | (.inr e5, h4) => (if e5.1 = "java/util/NoSuchElementException" then some (1, h4) else none)
set_option maxHeartbeats 4000000 in
theorem T_X0_large {l : Launch} {E : XEnv}  {n : Nat} {g : Nat} {x0 : Nat} {x1 : Int32} {x2 : Nat} {h : XH} (hE : va_Nc "java/lang/IllegalArgumentException" "java/util/NoSuchElementException" E.1) {r : Int32 × XH} (hl : k_X0_large n g E.2.2.2 x0 x1 x2 h = some r) : CM l E mX0_large (5 * g + 13) [.ref x0, .int x1, .ref x2] h (.inl (some (.int r.1))) r.2 := by
  unfold k_X0_large at hl
  refine cm_ofH (by decide +kernel) (by decide) (Nat.le_of_ble_eq_true rfl) ?_
  refine cx_aload_n dX0_large_0 rfl rfl ?_
  refine cx_iconst (v := 0) dX0_large_1 rfl ?_
  refine cx_aload_n dX0_large_2 rfl rfl ?_
  refine cx_iload_n dX0_large_3 rfl ?_
  obtain ⟨u2, eu2, hl⟩ := xb hl
  obtain ⟨r1, er1, hl⟩ := xb hl
  rcases r1 with ⟨v3 | ⟨C6, q7⟩, h4⟩
  · dsimp only at hl
    refine cx_callV (Or.inl ⟨by decide, _, _, rfl⟩) (T_X1_large er1) lV_X0_86 C_X1_large dX0_large_4 eu2 (by decide) rfl (by omega) (Nat.le_of_ble_eq_true rfl) ?_
    refine cx_i2l dX0_large_7 ?_
    obtain ⟨h8, eh8, hl⟩ := xb hl
    refine cx_last dX0_large_8 eh8 ?_
    refine cx_goto (tgt := 15) dX0_large_9 (by decide) ?_
    refine cx_iconst (v := 0) dX0_large_15 rfl ?_
    cases hl
    exact cx_iret dX0_large_16 rfl rfl rfl rfl
  · dsimp only at hl
    by_cases c9 : C6 = "java/util/NoSuchElementException"
    · rw [if_pos c9] at hl
      subst c9
      refine cx_callVx (Or.inl ⟨by decide, _, _, rfl⟩) (T_X1_large er1) lV_X0_86 C_X1_large dX0_large_4 eu2 (by decide) rfl (by omega) (Nat.le_of_ble_eq_true rfl) ?_
      refine ct_catch [] _ _ rfl (fun z hz => by cases hz) (by decide) (by decide) q1182 q1245 ?_
      refine cx_astore_n dX0_large_12 (by decide) rfl ?_
      refine cx_iconst (v := 1) dX0_large_13 rfl ?_
      cases hl
      exact cx_iret dX0_large_14 rfl rfl rfl rfl
    rw [if_neg c9] at hl
    cases hl
def k_X0_next (n : Nat) (g : Nat) (c : Nat → Value) (x0 : Nat) (x1 : Int32) (x2 : Nat) (h : XH) : Option (Int32 × XH) := (ckd h x0 0).bind fun u2 => (k_X1_next n g c x0 x1 h).bind fun r1 => match r1 with | (.inl v3, h4) => ((csu h4 x2 103 0 (.long ((v3 : Int32).toInt64))).bind fun h8 => some (0, h8)) | (.inr e5, h4) => (if e5.1 = "java/util/NoSuchElementException" then some (1, h4) else none)
set_option maxHeartbeats 4000000 in
theorem T_X0_next {l : Launch} {E : XEnv}  {n : Nat} {g : Nat} {x0 : Nat} {x1 : Int32} {x2 : Nat} {h : XH} (hE : va_Nc "java/lang/IllegalArgumentException" "java/util/NoSuchElementException" E.1) {r : Int32 × XH} (hl : k_X0_next n g E.2.2.2 x0 x1 x2 h = some r) : CM l E mX0_next (5 * g + 13) [.ref x0, .int x1, .ref x2] h (.inl (some (.int r.1))) r.2 := by
  unfold k_X0_next at hl
  refine cm_ofH (by decide +kernel) (by decide) (Nat.le_of_ble_eq_true rfl) ?_
  refine cx_aload_n dX0_next_0 rfl rfl ?_
  refine cx_iconst (v := 0) dX0_next_1 rfl ?_
  refine cx_aload_n dX0_next_2 rfl rfl ?_
  refine cx_iload_n dX0_next_3 rfl ?_
  obtain ⟨u2, eu2, hl⟩ := xb hl
  obtain ⟨r1, er1, hl⟩ := xb hl
  rcases r1 with ⟨v3 | ⟨C6, q7⟩, h4⟩
  · dsimp only at hl
    refine cx_callV (Or.inl ⟨by decide, _, _, rfl⟩) (T_X1_next er1) lV_X0_89 C_X1_next dX0_next_4 eu2 (by decide) rfl (by omega) (Nat.le_of_ble_eq_true rfl) ?_
    refine cx_i2l dX0_next_7 ?_
    obtain ⟨h8, eh8, hl⟩ := xb hl
    refine cx_last dX0_next_8 eh8 ?_
    refine cx_goto (tgt := 15) dX0_next_9 (by decide) ?_
    refine cx_iconst (v := 0) dX0_next_15 rfl ?_
    cases hl
    exact cx_iret dX0_next_16 rfl rfl rfl rfl
  · dsimp only at hl
    by_cases c9 : C6 = "java/util/NoSuchElementException"
    · rw [if_pos c9] at hl
      subst c9
      refine cx_callVx (Or.inl ⟨by decide, _, _, rfl⟩) (T_X1_next er1) lV_X0_89 C_X1_next dX0_next_4 eu2 (by decide) rfl (by omega) (Nat.le_of_ble_eq_true rfl) ?_
      refine ct_catch [] _ _ rfl (fun z hz => by cases hz) (by decide) (by decide) q1182 q1245 ?_
      refine cx_astore_n dX0_next_12 (by decide) rfl ?_
      refine cx_iconst (v := 1) dX0_next_13 rfl ?_
      cases hl
      exact cx_iret dX0_next_14 rfl rfl rfl rfl
    rw [if_neg c9] at hl
    cases hl
def k_X0_byDamp (n : Nat) (g : Nat) (c : Nat → Value) (x0 : Nat) (x1 : Int32) (x2 : Int32) (x3 : Int32) (x4 : Nat) (h : XH) : Option (Int32 × XH) := (ckd h x0 0).bind fun u2 => (k_X1_byDamp n g c x0 x1 x2 x3 h).bind fun r1 => match r1 with | (.inl v3, h4) => ((csu h4 x4 103 0 (.long ((v3 : Int32).toInt64))).bind fun h8 => some (0, h8)) | (.inr e5, h4) => (if e5.1 = "java/util/NoSuchElementException" then some (1, h4) else if e5.1 = "java/lang/IllegalArgumentException" then some (2, h4) else none)
set_option maxHeartbeats 4000000 in
theorem T_X0_byDamp {l : Launch} {E : XEnv}  {n : Nat} {g : Nat} {x0 : Nat} {x1 : Int32} {x2 : Int32} {x3 : Int32} {x4 : Nat} {h : XH} (hE : va_Nc "java/lang/IllegalArgumentException" "java/util/NoSuchElementException" E.1) {r : Int32 × XH} (hl : k_X0_byDamp n g E.2.2.2 x0 x1 x2 x3 x4 h = some r) : CM l E mX0_byDamp (5 * g + 11) [.ref x0, .int x1, .int x2, .int x3, .ref x4] h (.inl (some (.int r.1))) r.2 := by
  unfold k_X0_byDamp at hl
  refine cm_ofH (by decide +kernel) (by decide) (Nat.le_of_ble_eq_true rfl) ?_
  refine cx_aload dX0_byDamp_0 rfl rfl ?_
  refine cx_iconst (v := 0) dX0_byDamp_2 rfl ?_
  refine cx_aload_n dX0_byDamp_3 rfl rfl ?_
  refine cx_iload_n dX0_byDamp_4 rfl ?_
  refine cx_iload_n dX0_byDamp_5 rfl ?_
  refine cx_iload_n dX0_byDamp_6 rfl ?_
  obtain ⟨u2, eu2, hl⟩ := xb hl
  obtain ⟨r1, er1, hl⟩ := xb hl
  rcases r1 with ⟨v3 | ⟨C6, q7⟩, h4⟩
  · dsimp only at hl
    refine cx_callV (Or.inl ⟨by decide, _, _, rfl⟩) (T_X1_byDamp er1) lV_X0_92 C_X1_byDamp dX0_byDamp_7 eu2 (by decide) rfl (by omega) (Nat.le_of_ble_eq_true rfl) ?_
    refine cx_i2l dX0_byDamp_10 ?_
    obtain ⟨h8, eh8, hl⟩ := xb hl
    refine cx_last dX0_byDamp_11 eh8 ?_
    refine cx_goto (tgt := 23) dX0_byDamp_12 (by decide) ?_
    refine cx_iconst (v := 0) dX0_byDamp_23 rfl ?_
    cases hl
    exact cx_iret dX0_byDamp_24 rfl rfl rfl rfl
  · dsimp only at hl
    by_cases c10 : C6 = "java/util/NoSuchElementException"
    · rw [if_pos c10] at hl
      subst c10
      refine cx_callVx (Or.inl ⟨by decide, _, _, rfl⟩) (T_X1_byDamp er1) lV_X0_92 C_X1_byDamp dX0_byDamp_7 eu2 (by decide) rfl (by omega) (Nat.le_of_ble_eq_true rfl) ?_
      refine ct_catch [] _ _ rfl (fun z hz => by cases hz) (by decide) (by decide) q1182 q1245 ?_
      refine cx_astore dX0_byDamp_15 (by decide) rfl ?_
      refine cx_iconst (v := 1) dX0_byDamp_17 rfl ?_
      cases hl
      exact cx_iret dX0_byDamp_18 rfl rfl rfl rfl
    rw [if_neg c10] at hl
    by_cases c9 : C6 = "java/lang/IllegalArgumentException"
    · rw [if_pos c9] at hl
      subst c9
      refine cx_callVx (Or.inl ⟨by decide, _, _, rfl⟩) (T_X1_byDamp er1) lV_X0_92 C_X1_byDamp dX0_byDamp_7 eu2 (by decide) rfl (by omega) (Nat.le_of_ble_eq_true rfl) ?_
      refine ct_catch [_] _ _ rfl (fun z hz => by cases List.mem_singleton.mp hz; exact Or.inr ⟨by decide, _, q1182, hE⟩) (by decide) (by decide) q650 q661 ?_
      refine cx_astore dX0_byDamp_19 (by decide) rfl ?_
      refine cx_iconst (v := 2) dX0_byDamp_21 rfl ?_
      cases hl
      exact cx_iret dX0_byDamp_22 rfl rfl rfl rfl
    rw [if_neg c9] at hl
    cases hl
def k_X0_game (n : Nat) (g : Nat) (c : Nat → Value) (x0 : Nat) (x1 : Int32) (x2 : Int32) (x3 : Int32) (x4 : Int32) (x5 : Nat) (h : XH) : Option (Int32 × XH) := (ckd h x0 0).bind fun u2 => (k_X1_game n g c x0 x1 x2 x3 x4 h).bind fun r1 => match r1 with | (.inl v3, h4) => ((csu h4 x5 103 0 (.long ((v3 : Int32).toInt64))).bind fun h8 => some (0, h8)) | (.inr e5, h4) => (if e5.1 = "java/util/NoSuchElementException" then some (1, h4) else if e5.1 = "java/lang/IllegalArgumentException" then some (2, h4) else none)
set_option maxHeartbeats 4000000 in
theorem T_X0_game {l : Launch} {E : XEnv}  {n : Nat} {g : Nat} {x0 : Nat} {x1 : Int32} {x2 : Int32} {x3 : Int32} {x4 : Int32} {x5 : Nat} {h : XH} (hE : va_Nc "java/lang/IllegalArgumentException" "java/util/NoSuchElementException" E.1) {r : Int32 × XH} (hl : k_X0_game n g E.2.2.2 x0 x1 x2 x3 x4 x5 h = some r) : CM l E mX0_game (5 * g + 12) [.ref x0, .int x1, .int x2, .int x3, .int x4, .ref x5] h (.inl (some (.int r.1))) r.2 := by
  unfold k_X0_game at hl
  refine cm_ofH (by decide +kernel) (by decide) (Nat.le_of_ble_eq_true rfl) ?_
  refine cx_aload dX0_game_0 rfl rfl ?_
  refine cx_iconst (v := 0) dX0_game_2 rfl ?_
  refine cx_aload_n dX0_game_3 rfl rfl ?_
  refine cx_iload_n dX0_game_4 rfl ?_
  refine cx_iload_n dX0_game_5 rfl ?_
  refine cx_iload_n dX0_game_6 rfl ?_
  refine cx_iload dX0_game_7 rfl ?_
  obtain ⟨u2, eu2, hl⟩ := xb hl
  obtain ⟨r1, er1, hl⟩ := xb hl
  rcases r1 with ⟨v3 | ⟨C6, q7⟩, h4⟩
  · dsimp only at hl
    refine cx_callV (Or.inl ⟨by decide, _, _, rfl⟩) (T_X1_game er1) lV_X0_95 C_X1_game dX0_game_9 eu2 (by decide) rfl (by omega) (Nat.le_of_ble_eq_true rfl) ?_
    refine cx_i2l dX0_game_12 ?_
    obtain ⟨h8, eh8, hl⟩ := xb hl
    refine cx_last dX0_game_13 eh8 ?_
    refine cx_goto (tgt := 25) dX0_game_14 (by decide) ?_
    refine cx_iconst (v := 0) dX0_game_25 rfl ?_
    cases hl
    exact cx_iret dX0_game_26 rfl rfl rfl rfl
  · dsimp only at hl
    by_cases c10 : C6 = "java/util/NoSuchElementException"
    · rw [if_pos c10] at hl
      subst c10
      refine cx_callVx (Or.inl ⟨by decide, _, _, rfl⟩) (T_X1_game er1) lV_X0_95 C_X1_game dX0_game_9 eu2 (by decide) rfl (by omega) (Nat.le_of_ble_eq_true rfl) ?_
      refine ct_catch [] _ _ rfl (fun z hz => by cases hz) (by decide) (by decide) q1182 q1245 ?_
      refine cx_astore dX0_game_17 (by decide) rfl ?_
      refine cx_iconst (v := 1) dX0_game_19 rfl ?_
      cases hl
      exact cx_iret dX0_game_20 rfl rfl rfl rfl
    rw [if_neg c10] at hl
    by_cases c9 : C6 = "java/lang/IllegalArgumentException"
    · rw [if_pos c9] at hl
      subst c9
      refine cx_callVx (Or.inl ⟨by decide, _, _, rfl⟩) (T_X1_game er1) lV_X0_95 C_X1_game dX0_game_9 eu2 (by decide) rfl (by omega) (Nat.le_of_ble_eq_true rfl) ?_
      refine ct_catch [_] _ _ rfl (fun z hz => by cases List.mem_singleton.mp hz; exact Or.inr ⟨by decide, _, q1182, hE⟩) (by decide) (by decide) q650 q661 ?_
      refine cx_astore dX0_game_21 (by decide) rfl ?_
      refine cx_iconst (v := 2) dX0_game_23 rfl ?_
      cases hl
      exact cx_iret dX0_game_24 rfl rfl rfl rfl
    rw [if_neg c9] at hl
    cases hl
def k_X0_years (n : Nat) (g : Nat) (c : Nat → Value) (x0 : Nat) (x1 : Int32) (x2 : Int32) (x3 : Int32) (x4 : Nat) (h : XH) : Option (Int32 × XH) := (ckd h x0 0).bind fun u2 => (k_X1_years n g c x0 x1 x2 x3 h).bind fun r1 => match r1 with | (.inl v3, h4) => ((csu h4 x4 103 0 (.long ((v3 : Int32).toInt64))).bind fun h8 => some (0, h8)) | (.inr e5, h4) => (if e5.1 = "java/util/NoSuchElementException" then some (1, h4) else if e5.1 = "java/lang/IllegalArgumentException" then some (2, h4) else none)
set_option maxHeartbeats 4000000 in
theorem T_X0_years {l : Launch} {E : XEnv}  {n : Nat} {g : Nat} {x0 : Nat} {x1 : Int32} {x2 : Int32} {x3 : Int32} {x4 : Nat} {h : XH} (hE : va_Nc "java/lang/IllegalArgumentException" "java/util/NoSuchElementException" E.1) {r : Int32 × XH} (hl : k_X0_years n g E.2.2.2 x0 x1 x2 x3 x4 h = some r) : CM l E mX0_years (5 * g + 12) [.ref x0, .int x1, .int x2, .int x3, .ref x4] h (.inl (some (.int r.1))) r.2 := by
  unfold k_X0_years at hl
  refine cm_ofH (by decide +kernel) (by decide) (Nat.le_of_ble_eq_true rfl) ?_
  refine cx_aload dX0_years_0 rfl rfl ?_
  refine cx_iconst (v := 0) dX0_years_2 rfl ?_
  refine cx_aload_n dX0_years_3 rfl rfl ?_
  refine cx_iload_n dX0_years_4 rfl ?_
  refine cx_iload_n dX0_years_5 rfl ?_
  refine cx_iload_n dX0_years_6 rfl ?_
  obtain ⟨u2, eu2, hl⟩ := xb hl
  obtain ⟨r1, er1, hl⟩ := xb hl
  rcases r1 with ⟨v3 | ⟨C6, q7⟩, h4⟩
  · dsimp only at hl
    refine cx_callV (Or.inl ⟨by decide, _, _, rfl⟩) (T_X1_years er1) lV_X0_99 C_X1_years dX0_years_7 eu2 (by decide) rfl (by omega) (Nat.le_of_ble_eq_true rfl) ?_
    refine cx_i2l dX0_years_10 ?_
    obtain ⟨h8, eh8, hl⟩ := xb hl
    refine cx_last dX0_years_11 eh8 ?_
    refine cx_goto (tgt := 23) dX0_years_12 (by decide) ?_
    refine cx_iconst (v := 0) dX0_years_23 rfl ?_
    cases hl
    exact cx_iret dX0_years_24 rfl rfl rfl rfl
  · dsimp only at hl
    by_cases c10 : C6 = "java/util/NoSuchElementException"
    · rw [if_pos c10] at hl
      subst c10
      refine cx_callVx (Or.inl ⟨by decide, _, _, rfl⟩) (T_X1_years er1) lV_X0_99 C_X1_years dX0_years_7 eu2 (by decide) rfl (by omega) (Nat.le_of_ble_eq_true rfl) ?_
      refine ct_catch [] _ _ rfl (fun z hz => by cases hz) (by decide) (by decide) q1182 q1245 ?_
      refine cx_astore dX0_years_15 (by decide) rfl ?_
      refine cx_iconst (v := 1) dX0_years_17 rfl ?_
      cases hl
      exact cx_iret dX0_years_18 rfl rfl rfl rfl
    rw [if_neg c10] at hl
    by_cases c9 : C6 = "java/lang/IllegalArgumentException"
    · rw [if_pos c9] at hl
      subst c9
      refine cx_callVx (Or.inl ⟨by decide, _, _, rfl⟩) (T_X1_years er1) lV_X0_99 C_X1_years dX0_years_7 eu2 (by decide) rfl (by omega) (Nat.le_of_ble_eq_true rfl) ?_
      refine ct_catch [_] _ _ rfl (fun z hz => by cases List.mem_singleton.mp hz; exact Or.inr ⟨by decide, _, q1182, hE⟩) (by decide) (by decide) q650 q661 ?_
      refine cx_astore dX0_years_19 (by decide) rfl ?_
      refine cx_iconst (v := 2) dX0_years_21 rfl ?_
      cases hl
      exact cx_iret dX0_years_22 rfl rfl rfl rfl
    rw [if_neg c9] at hl
    cases hl
def k_X0_heirs (n : Nat) (g : Nat) (c : Nat → Value) (x0 : Nat) (x1 : Int32) (x2 : Nat) (h : XH) : Option (Int32 × XH) := (ckd h x0 0).bind fun u2 => (k_X1_heirs n g c x0 x1 h).bind fun r1 => match r1 with | (.inl v3, h4) => ((csu h4 x2 103 0 (.long ((v3 : Int32).toInt64))).bind fun h8 => some (0, h8)) | (.inr e5, h4) => (if e5.1 = "java/util/NoSuchElementException" then some (1, h4) else none)
set_option maxHeartbeats 4000000 in
theorem T_X0_heirs {l : Launch} {E : XEnv}  {n : Nat} {g : Nat} {x0 : Nat} {x1 : Int32} {x2 : Nat} {h : XH} (hE : va_Nc "java/lang/IllegalArgumentException" "java/util/NoSuchElementException" E.1) {r : Int32 × XH} (hl : k_X0_heirs n g E.2.2.2 x0 x1 x2 h = some r) : CM l E mX0_heirs (5 * g + 11) [.ref x0, .int x1, .ref x2] h (.inl (some (.int r.1))) r.2 := by
  unfold k_X0_heirs at hl
  refine cm_ofH (by decide +kernel) (by decide) (Nat.le_of_ble_eq_true rfl) ?_
  refine cx_aload_n dX0_heirs_0 rfl rfl ?_
  refine cx_iconst (v := 0) dX0_heirs_1 rfl ?_
  refine cx_aload_n dX0_heirs_2 rfl rfl ?_
  refine cx_iload_n dX0_heirs_3 rfl ?_
  obtain ⟨u2, eu2, hl⟩ := xb hl
  obtain ⟨r1, er1, hl⟩ := xb hl
  rcases r1 with ⟨v3 | ⟨C6, q7⟩, h4⟩
  · dsimp only at hl
    refine cx_callV (Or.inl ⟨by decide, _, _, rfl⟩) (T_X1_heirs er1) lV_X0_102 C_X1_heirs dX0_heirs_4 eu2 (by decide) rfl (by omega) (Nat.le_of_ble_eq_true rfl) ?_
    refine cx_i2l dX0_heirs_7 ?_
    obtain ⟨h8, eh8, hl⟩ := xb hl
    refine cx_last dX0_heirs_8 eh8 ?_
    refine cx_goto (tgt := 15) dX0_heirs_9 (by decide) ?_
    refine cx_iconst (v := 0) dX0_heirs_15 rfl ?_
    cases hl
    exact cx_iret dX0_heirs_16 rfl rfl rfl rfl
  · dsimp only at hl
    by_cases c9 : C6 = "java/util/NoSuchElementException"
    · rw [if_pos c9] at hl
      subst c9
      refine cx_callVx (Or.inl ⟨by decide, _, _, rfl⟩) (T_X1_heirs er1) lV_X0_102 C_X1_heirs dX0_heirs_4 eu2 (by decide) rfl (by omega) (Nat.le_of_ble_eq_true rfl) ?_
      refine ct_catch [] _ _ rfl (fun z hz => by cases hz) (by decide) (by decide) q1182 q1245 ?_
      refine cx_astore_n dX0_heirs_12 (by decide) rfl ?_
      refine cx_iconst (v := 1) dX0_heirs_13 rfl ?_
      cases hl
      exact cx_iret dX0_heirs_14 rfl rfl rfl rfl
    rw [if_neg c9] at hl
    cases hl
def k_X0_toGrow (n : Nat) (g : Nat) (c : Nat → Value) (x0 : Nat) (x1 : Int32) (x2 : Int32) (x3 : Nat) (h : XH) : Option (Int32 × XH) := (ckd h x0 0).bind fun u2 => (k_X1_toGrow n g c x0 x1 x2 h).bind fun r1 => match r1 with | (.inl v3, h4) => ((csu h4 x3 103 0 (.long ((v3 : Int32).toInt64))).bind fun h8 => some (0, h8)) | (.inr e5, h4) => (if e5.1 = "java/util/NoSuchElementException" then some (1, h4) else none)
set_option maxHeartbeats 4000000 in
theorem T_X0_toGrow {l : Launch} {E : XEnv}  {n : Nat} {g : Nat} {x0 : Nat} {x1 : Int32} {x2 : Int32} {x3 : Nat} {h : XH} (hE : va_Nc "java/lang/IllegalArgumentException" "java/util/NoSuchElementException" E.1) {r : Int32 × XH} (hl : k_X0_toGrow n g E.2.2.2 x0 x1 x2 x3 h = some r) : CM l E mX0_toGrow (5 * g + 11) [.ref x0, .int x1, .int x2, .ref x3] h (.inl (some (.int r.1))) r.2 := by
  unfold k_X0_toGrow at hl
  refine cm_ofH (by decide +kernel) (by decide) (Nat.le_of_ble_eq_true rfl) ?_
  refine cx_aload_n dX0_toGrow_0 rfl rfl ?_
  refine cx_iconst (v := 0) dX0_toGrow_1 rfl ?_
  refine cx_aload_n dX0_toGrow_2 rfl rfl ?_
  refine cx_iload_n dX0_toGrow_3 rfl ?_
  refine cx_iload_n dX0_toGrow_4 rfl ?_
  obtain ⟨u2, eu2, hl⟩ := xb hl
  obtain ⟨r1, er1, hl⟩ := xb hl
  rcases r1 with ⟨v3 | ⟨C6, q7⟩, h4⟩
  · dsimp only at hl
    refine cx_callV (Or.inl ⟨by decide, _, _, rfl⟩) (T_X1_toGrow er1) lV_X0_105 C_X1_toGrow dX0_toGrow_5 eu2 (by decide) rfl (by omega) (Nat.le_of_ble_eq_true rfl) ?_
    refine cx_i2l dX0_toGrow_8 ?_
    obtain ⟨h8, eh8, hl⟩ := xb hl
    refine cx_last dX0_toGrow_9 eh8 ?_
    refine cx_goto (tgt := 17) dX0_toGrow_10 (by decide) ?_
    refine cx_iconst (v := 0) dX0_toGrow_17 rfl ?_
    cases hl
    exact cx_iret dX0_toGrow_18 rfl rfl rfl rfl
  · dsimp only at hl
    by_cases c9 : C6 = "java/util/NoSuchElementException"
    · rw [if_pos c9] at hl
      subst c9
      refine cx_callVx (Or.inl ⟨by decide, _, _, rfl⟩) (T_X1_toGrow er1) lV_X0_105 C_X1_toGrow dX0_toGrow_5 eu2 (by decide) rfl (by omega) (Nat.le_of_ble_eq_true rfl) ?_
      refine ct_catch [] _ _ rfl (fun z hz => by cases hz) (by decide) (by decide) q1182 q1245 ?_
      refine cx_astore dX0_toGrow_13 (by decide) rfl ?_
      refine cx_iconst (v := 1) dX0_toGrow_15 rfl ?_
      cases hl
      exact cx_iret dX0_toGrow_16 rfl rfl rfl rfl
    rw [if_neg c9] at hl
    cases hl
def k_X0_paid (n : Nat) (g : Nat) (c : Nat → Value) (x0 : Nat) (x1 : Int32) (x2 : Nat) (h : XH) : Option (Int32 × XH) := (ckd h x0 0).bind fun u2 => (k_X1_paid n g c x0 x1 h).bind fun r1 => match r1 with | (.inl v3, h4) => ((csu h4 x2 103 0 (.long ((v3 : Int32).toInt64))).bind fun h8 => some (0, h8)) | (.inr e5, h4) => (if e5.1 = "java/lang/IllegalArgumentException" then some (1, h4) else none)
set_option maxHeartbeats 4000000 in
theorem T_X0_paid {l : Launch} {E : XEnv}  {n : Nat} {g : Nat} {x0 : Nat} {x1 : Int32} {x2 : Nat} {h : XH} (hE : va_Nc "java/lang/IllegalArgumentException" "java/util/NoSuchElementException" E.1) {r : Int32 × XH} (hl : k_X0_paid n g E.2.2.2 x0 x1 x2 h = some r) : CM l E mX0_paid (5 * g + 13) [.ref x0, .int x1, .ref x2] h (.inl (some (.int r.1))) r.2 := by
  unfold k_X0_paid at hl
  refine cm_ofH (by decide +kernel) (by decide) (Nat.le_of_ble_eq_true rfl) ?_
  refine cx_aload_n dX0_paid_0 rfl rfl ?_
  refine cx_iconst (v := 0) dX0_paid_1 rfl ?_
  refine cx_aload_n dX0_paid_2 rfl rfl ?_
  refine cx_iload_n dX0_paid_3 rfl ?_
  obtain ⟨u2, eu2, hl⟩ := xb hl
  obtain ⟨r1, er1, hl⟩ := xb hl
  rcases r1 with ⟨v3 | ⟨C6, q7⟩, h4⟩
  · dsimp only at hl
    refine cx_callV (Or.inl ⟨by decide, _, _, rfl⟩) (T_X1_paid er1) lV_X0_108 C_X1_paid dX0_paid_4 eu2 (by decide) rfl (by omega) (Nat.le_of_ble_eq_true rfl) ?_
    refine cx_i2l dX0_paid_7 ?_
    obtain ⟨h8, eh8, hl⟩ := xb hl
    refine cx_last dX0_paid_8 eh8 ?_
    refine cx_goto (tgt := 15) dX0_paid_9 (by decide) ?_
    refine cx_iconst (v := 0) dX0_paid_15 rfl ?_
    cases hl
    exact cx_iret dX0_paid_16 rfl rfl rfl rfl
  · dsimp only at hl
    by_cases c9 : C6 = "java/lang/IllegalArgumentException"
    · rw [if_pos c9] at hl
      subst c9
      refine cx_callVx (Or.inl ⟨by decide, _, _, rfl⟩) (T_X1_paid er1) lV_X0_108 C_X1_paid dX0_paid_4 eu2 (by decide) rfl (by omega) (Nat.le_of_ble_eq_true rfl) ?_
      refine ct_catch [] _ _ rfl (fun z hz => by cases hz) (by decide) (by decide) q650 q661 ?_
      refine cx_astore_n dX0_paid_12 (by decide) rfl ?_
      refine cx_iconst (v := 1) dX0_paid_13 rfl ?_
      cases hl
      exact cx_iret dX0_paid_14 rfl rfl rfl rfl
    rw [if_neg c9] at hl
    cases hl
def k_X0_wornest (n : Nat) (g : Nat) (c : Nat → Value) (x0 : Nat) (x1 : Int32) (x2 : Nat) (h : XH) : Option (Int32 × XH) := (ckd h x0 0).bind fun u2 => (k_X1_wornest n g c x0 x1 h).bind fun r1 => match r1 with | (.inl v3, h4) => ((csu h4 x2 103 0 (.long ((v3 : Int32).toInt64))).bind fun h8 => some (0, h8)) | (.inr e5, h4) => (if e5.1 = "java/lang/IllegalArgumentException" then some (1, h4) else none)
set_option maxHeartbeats 4000000 in
theorem T_X0_wornest {l : Launch} {E : XEnv}  {n : Nat} {g : Nat} {x0 : Nat} {x1 : Int32} {x2 : Nat} {h : XH} (hE : va_Nc "java/lang/IllegalArgumentException" "java/util/NoSuchElementException" E.1) {r : Int32 × XH} (hl : k_X0_wornest n g E.2.2.2 x0 x1 x2 h = some r) : CM l E mX0_wornest (5 * g + 13) [.ref x0, .int x1, .ref x2] h (.inl (some (.int r.1))) r.2 := by
  unfold k_X0_wornest at hl
  refine cm_ofH (by decide +kernel) (by decide) (Nat.le_of_ble_eq_true rfl) ?_
  refine cx_aload_n dX0_wornest_0 rfl rfl ?_
  refine cx_iconst (v := 0) dX0_wornest_1 rfl ?_
  refine cx_aload_n dX0_wornest_2 rfl rfl ?_
  refine cx_iload_n dX0_wornest_3 rfl ?_
  obtain ⟨u2, eu2, hl⟩ := xb hl
  obtain ⟨r1, er1, hl⟩ := xb hl
  rcases r1 with ⟨v3 | ⟨C6, q7⟩, h4⟩
  · dsimp only at hl
    refine cx_callV (Or.inl ⟨by decide, _, _, rfl⟩) (T_X1_wornest er1) lV_X0_111 C_X1_wornest dX0_wornest_4 eu2 (by decide) rfl (by omega) (Nat.le_of_ble_eq_true rfl) ?_
    refine cx_i2l dX0_wornest_7 ?_
    obtain ⟨h8, eh8, hl⟩ := xb hl
    refine cx_last dX0_wornest_8 eh8 ?_
    refine cx_goto (tgt := 15) dX0_wornest_9 (by decide) ?_
    refine cx_iconst (v := 0) dX0_wornest_15 rfl ?_
    cases hl
    exact cx_iret dX0_wornest_16 rfl rfl rfl rfl
  · dsimp only at hl
    by_cases c9 : C6 = "java/lang/IllegalArgumentException"
    · rw [if_pos c9] at hl
      subst c9
      refine cx_callVx (Or.inl ⟨by decide, _, _, rfl⟩) (T_X1_wornest er1) lV_X0_111 C_X1_wornest dX0_wornest_4 eu2 (by decide) rfl (by omega) (Nat.le_of_ble_eq_true rfl) ?_
      refine ct_catch [] _ _ rfl (fun z hz => by cases hz) (by decide) (by decide) q650 q661 ?_
      refine cx_astore_n dX0_wornest_12 (by decide) rfl ?_
      refine cx_iconst (v := 1) dX0_wornest_13 rfl ?_
      cases hl
      exact cx_iret dX0_wornest_14 rfl rfl rfl rfl
    rw [if_neg c9] at hl
    cases hl
def k_X0_dampest (n : Nat) (g : Nat) (c : Nat → Value) (x0 : Nat) (x1 : Int32) (x2 : Nat) (h : XH) : Option (Int32 × XH) := (ckd h x0 0).bind fun u2 => (k_X1_dampest n g c x0 x1 h).bind fun r1 => match r1 with | (.inl v3, h4) => ((csu h4 x2 103 0 (.long ((v3 : Int32).toInt64))).bind fun h8 => some (0, h8)) | (.inr e5, h4) => (if e5.1 = "java/lang/IllegalArgumentException" then some (1, h4) else none)
set_option maxHeartbeats 4000000 in
theorem T_X0_dampest {l : Launch} {E : XEnv}  {n : Nat} {g : Nat} {x0 : Nat} {x1 : Int32} {x2 : Nat} {h : XH} (hE : va_Nc "java/lang/IllegalArgumentException" "java/util/NoSuchElementException" E.1) {r : Int32 × XH} (hl : k_X0_dampest n g E.2.2.2 x0 x1 x2 h = some r) : CM l E mX0_dampest (5 * g + 11) [.ref x0, .int x1, .ref x2] h (.inl (some (.int r.1))) r.2 := by
  unfold k_X0_dampest at hl
  refine cm_ofH (by decide +kernel) (by decide) (Nat.le_of_ble_eq_true rfl) ?_
  refine cx_aload_n dX0_dampest_0 rfl rfl ?_
  refine cx_iconst (v := 0) dX0_dampest_1 rfl ?_
  refine cx_aload_n dX0_dampest_2 rfl rfl ?_
  refine cx_iload_n dX0_dampest_3 rfl ?_
  obtain ⟨u2, eu2, hl⟩ := xb hl
  obtain ⟨r1, er1, hl⟩ := xb hl
  rcases r1 with ⟨v3 | ⟨C6, q7⟩, h4⟩
  · dsimp only at hl
    refine cx_callV (Or.inl ⟨by decide, _, _, rfl⟩) (T_X1_dampest er1) lV_X0_114 C_X1_dampest dX0_dampest_4 eu2 (by decide) rfl (by omega) (Nat.le_of_ble_eq_true rfl) ?_
    refine cx_i2l dX0_dampest_7 ?_
    obtain ⟨h8, eh8, hl⟩ := xb hl
    refine cx_last dX0_dampest_8 eh8 ?_
    refine cx_goto (tgt := 15) dX0_dampest_9 (by decide) ?_
    refine cx_iconst (v := 0) dX0_dampest_15 rfl ?_
    cases hl
    exact cx_iret dX0_dampest_16 rfl rfl rfl rfl
  · dsimp only at hl
    by_cases c9 : C6 = "java/lang/IllegalArgumentException"
    · rw [if_pos c9] at hl
      subst c9
      refine cx_callVx (Or.inl ⟨by decide, _, _, rfl⟩) (T_X1_dampest er1) lV_X0_114 C_X1_dampest dX0_dampest_4 eu2 (by decide) rfl (by omega) (Nat.le_of_ble_eq_true rfl) ?_
      refine ct_catch [] _ _ rfl (fun z hz => by cases hz) (by decide) (by decide) q650 q661 ?_
      refine cx_astore_n dX0_dampest_12 (by decide) rfl ?_
      refine cx_iconst (v := 1) dX0_dampest_13 rfl ?_
      cases hl
      exact cx_iret dX0_dampest_14 rfl rfl rfl rfl
    rw [if_neg c9] at hl
    cases hl
def k_X0_kept (n : Nat) (g : Nat) (c : Nat → Value) (x0 : Nat) (x1 : Int32) (x2 : Nat) (h : XH) : Option (Int32 × XH) := (ckd h x0 0).bind fun u2 => (k_X1_kept n g c x0 x1 h).bind fun r1 => match r1 with | (.inl v3, h4) => ((csu h4 x2 103 0 (.long ((v3 : Int32).toInt64))).bind fun h8 => some (0, h8)) | (.inr e5, h4) => (if e5.1 = "java/lang/IllegalArgumentException" then some (1, h4) else none)
set_option maxHeartbeats 4000000 in
theorem T_X0_kept {l : Launch} {E : XEnv}  {n : Nat} {g : Nat} {x0 : Nat} {x1 : Int32} {x2 : Nat} {h : XH} (hE : va_Nc "java/lang/IllegalArgumentException" "java/util/NoSuchElementException" E.1) {r : Int32 × XH} (hl : k_X0_kept n g E.2.2.2 x0 x1 x2 h = some r) : CM l E mX0_kept (5 * g + 13) [.ref x0, .int x1, .ref x2] h (.inl (some (.int r.1))) r.2 := by
  unfold k_X0_kept at hl
  refine cm_ofH (by decide +kernel) (by decide) (Nat.le_of_ble_eq_true rfl) ?_
  refine cx_aload_n dX0_kept_0 rfl rfl ?_
  refine cx_iconst (v := 0) dX0_kept_1 rfl ?_
  refine cx_aload_n dX0_kept_2 rfl rfl ?_
  refine cx_iload_n dX0_kept_3 rfl ?_
  obtain ⟨u2, eu2, hl⟩ := xb hl
  obtain ⟨r1, er1, hl⟩ := xb hl
  rcases r1 with ⟨v3 | ⟨C6, q7⟩, h4⟩
  · dsimp only at hl
    refine cx_callV (Or.inl ⟨by decide, _, _, rfl⟩) (T_X1_kept er1) lV_X0_117 C_X1_kept dX0_kept_4 eu2 (by decide) rfl (by omega) (Nat.le_of_ble_eq_true rfl) ?_
    refine cx_i2l dX0_kept_7 ?_
    obtain ⟨h8, eh8, hl⟩ := xb hl
    refine cx_last dX0_kept_8 eh8 ?_
    refine cx_goto (tgt := 15) dX0_kept_9 (by decide) ?_
    refine cx_iconst (v := 0) dX0_kept_15 rfl ?_
    cases hl
    exact cx_iret dX0_kept_16 rfl rfl rfl rfl
  · dsimp only at hl
    by_cases c9 : C6 = "java/lang/IllegalArgumentException"
    · rw [if_pos c9] at hl
      subst c9
      refine cx_callVx (Or.inl ⟨by decide, _, _, rfl⟩) (T_X1_kept er1) lV_X0_117 C_X1_kept dX0_kept_4 eu2 (by decide) rfl (by omega) (Nat.le_of_ble_eq_true rfl) ?_
      refine ct_catch [] _ _ rfl (fun z hz => by cases hz) (by decide) (by decide) q650 q661 ?_
      refine cx_astore_n dX0_kept_12 (by decide) rfl ?_
      refine cx_iconst (v := 1) dX0_kept_13 rfl ?_
      cases hl
      exact cx_iret dX0_kept_14 rfl rfl rfl rfl
    rw [if_neg c9] at hl
    cases hl
def k_X0_sorest (n : Nat) (g : Nat) (c : Nat → Value) (x0 : Nat) (x1 : Int32) (x2 : Nat) (h : XH) : Option (Int32 × XH) := (ckd h x0 0).bind fun u2 => (k_X1_sorest n g c x0 x1 h).bind fun r1 => match r1 with | (.inl v3, h4) => ((csu h4 x2 103 0 (.long ((v3 : Int32).toInt64))).bind fun h8 => some (0, h8)) | (.inr e5, h4) => (if e5.1 = "java/lang/IllegalArgumentException" then some (1, h4) else none)
set_option maxHeartbeats 4000000 in
theorem T_X0_sorest {l : Launch} {E : XEnv}  {n : Nat} {g : Nat} {x0 : Nat} {x1 : Int32} {x2 : Nat} {h : XH} (hE : va_Nc "java/lang/IllegalArgumentException" "java/util/NoSuchElementException" E.1) {r : Int32 × XH} (hl : k_X0_sorest n g E.2.2.2 x0 x1 x2 h = some r) : CM l E mX0_sorest (5 * g + 13) [.ref x0, .int x1, .ref x2] h (.inl (some (.int r.1))) r.2 := by
  unfold k_X0_sorest at hl
  refine cm_ofH (by decide +kernel) (by decide) (Nat.le_of_ble_eq_true rfl) ?_
  refine cx_aload_n dX0_sorest_0 rfl rfl ?_
  refine cx_iconst (v := 0) dX0_sorest_1 rfl ?_
  refine cx_aload_n dX0_sorest_2 rfl rfl ?_
  refine cx_iload_n dX0_sorest_3 rfl ?_
  obtain ⟨u2, eu2, hl⟩ := xb hl
  obtain ⟨r1, er1, hl⟩ := xb hl
  rcases r1 with ⟨v3 | ⟨C6, q7⟩, h4⟩
  · dsimp only at hl
    refine cx_callV (Or.inl ⟨by decide, _, _, rfl⟩) (T_X1_sorest er1) lV_X0_120 C_X1_sorest dX0_sorest_4 eu2 (by decide) rfl (by omega) (Nat.le_of_ble_eq_true rfl) ?_
    refine cx_i2l dX0_sorest_7 ?_
    obtain ⟨h8, eh8, hl⟩ := xb hl
    refine cx_last dX0_sorest_8 eh8 ?_
    refine cx_goto (tgt := 15) dX0_sorest_9 (by decide) ?_
    refine cx_iconst (v := 0) dX0_sorest_15 rfl ?_
    cases hl
    exact cx_iret dX0_sorest_16 rfl rfl rfl rfl
  · dsimp only at hl
    by_cases c9 : C6 = "java/lang/IllegalArgumentException"
    · rw [if_pos c9] at hl
      subst c9
      refine cx_callVx (Or.inl ⟨by decide, _, _, rfl⟩) (T_X1_sorest er1) lV_X0_120 C_X1_sorest dX0_sorest_4 eu2 (by decide) rfl (by omega) (Nat.le_of_ble_eq_true rfl) ?_
      refine ct_catch [] _ _ rfl (fun z hz => by cases hz) (by decide) (by decide) q650 q661 ?_
      refine cx_astore_n dX0_sorest_12 (by decide) rfl ?_
      refine cx_iconst (v := 1) dX0_sorest_13 rfl ?_
      cases hl
      exact cx_iret dX0_sorest_14 rfl rfl rfl rfl
    rw [if_neg c9] at hl
    cases hl
def k_X0_eased (n : Nat) (g : Nat) (c : Nat → Value) (x0 : Nat) (x1 : Int32) (x2 : Int32) (x3 : Int32) (x4 : Nat) (h : XH) : Option (Int32 × XH) := (ckd h x0 0).bind fun u2 => (k_X1_eased n g c x0 x1 x2 x3 h).bind fun r1 => match r1 with | (.inl v3, h4) => ((csu h4 x4 103 0 (.long ((v3 : Int32).toInt64))).bind fun h8 => some (0, h8)) | (.inr e5, h4) => (if e5.1 = "java/util/NoSuchElementException" then some (1, h4) else if e5.1 = "java/lang/IllegalArgumentException" then some (2, h4) else none)
set_option maxHeartbeats 4000000 in
theorem T_X0_eased {l : Launch} {E : XEnv}  {n : Nat} {g : Nat} {x0 : Nat} {x1 : Int32} {x2 : Int32} {x3 : Int32} {x4 : Nat} {h : XH} (hE : va_Nc "java/lang/IllegalArgumentException" "java/util/NoSuchElementException" E.1) {r : Int32 × XH} (hl : k_X0_eased n g E.2.2.2 x0 x1 x2 x3 x4 h = some r) : CM l E mX0_eased (5 * g + 11) [.ref x0, .int x1, .int x2, .int x3, .ref x4] h (.inl (some (.int r.1))) r.2 := by
  unfold k_X0_eased at hl
  refine cm_ofH (by decide +kernel) (by decide) (Nat.le_of_ble_eq_true rfl) ?_
  refine cx_aload dX0_eased_0 rfl rfl ?_
  refine cx_iconst (v := 0) dX0_eased_2 rfl ?_
  refine cx_aload_n dX0_eased_3 rfl rfl ?_
  refine cx_iload_n dX0_eased_4 rfl ?_
  refine cx_iload_n dX0_eased_5 rfl ?_
  refine cx_iload_n dX0_eased_6 rfl ?_
  obtain ⟨u2, eu2, hl⟩ := xb hl
  obtain ⟨r1, er1, hl⟩ := xb hl
  rcases r1 with ⟨v3 | ⟨C6, q7⟩, h4⟩
  · dsimp only at hl
    refine cx_callV (Or.inl ⟨by decide, _, _, rfl⟩) (T_X1_eased er1) lV_X0_123 C_X1_eased dX0_eased_7 eu2 (by decide) rfl (by omega) (Nat.le_of_ble_eq_true rfl) ?_
    refine cx_i2l dX0_eased_10 ?_
    obtain ⟨h8, eh8, hl⟩ := xb hl
    refine cx_last dX0_eased_11 eh8 ?_
    refine cx_goto (tgt := 23) dX0_eased_12 (by decide) ?_
    refine cx_iconst (v := 0) dX0_eased_23 rfl ?_
    cases hl
    exact cx_iret dX0_eased_24 rfl rfl rfl rfl
  · dsimp only at hl
    by_cases c10 : C6 = "java/util/NoSuchElementException"
    · rw [if_pos c10] at hl
      subst c10
      refine cx_callVx (Or.inl ⟨by decide, _, _, rfl⟩) (T_X1_eased er1) lV_X0_123 C_X1_eased dX0_eased_7 eu2 (by decide) rfl (by omega) (Nat.le_of_ble_eq_true rfl) ?_
      refine ct_catch [] _ _ rfl (fun z hz => by cases hz) (by decide) (by decide) q1182 q1245 ?_
      refine cx_astore dX0_eased_15 (by decide) rfl ?_
      refine cx_iconst (v := 1) dX0_eased_17 rfl ?_
      cases hl
      exact cx_iret dX0_eased_18 rfl rfl rfl rfl
    rw [if_neg c10] at hl
    by_cases c9 : C6 = "java/lang/IllegalArgumentException"
    · rw [if_pos c9] at hl
      subst c9
      refine cx_callVx (Or.inl ⟨by decide, _, _, rfl⟩) (T_X1_eased er1) lV_X0_123 C_X1_eased dX0_eased_7 eu2 (by decide) rfl (by omega) (Nat.le_of_ble_eq_true rfl) ?_
      refine ct_catch [_] _ _ rfl (fun z hz => by cases List.mem_singleton.mp hz; exact Or.inr ⟨by decide, _, q1182, hE⟩) (by decide) (by decide) q650 q661 ?_
      refine cx_astore dX0_eased_19 (by decide) rfl ?_
      refine cx_iconst (v := 2) dX0_eased_21 rfl ?_
      cases hl
      exact cx_iret dX0_eased_22 rfl rfl rfl rfl
    rw [if_neg c9] at hl
    cases hl
def k_X0_free (n : Nat) (g : Nat) (c : Nat → Value) (x0 : Nat) (x1 : Int32) (x2 : Nat) (h : XH) : Option (Int32 × XH) := (ckd h x0 0).bind fun u2 => (k_X1_free n g c x0 x1 h).bind fun r1 => match r1 with | (.inl v3, h4) => ((csu h4 x2 103 0 (.long ((v3 : Int32).toInt64))).bind fun h8 => some (0, h8)) | (.inr e5, h4) => (if e5.1 = "java/util/NoSuchElementException" then some (1, h4) else none)
set_option maxHeartbeats 4000000 in
theorem T_X0_free {l : Launch} {E : XEnv}  {n : Nat} {g : Nat} {x0 : Nat} {x1 : Int32} {x2 : Nat} {h : XH} (hE : va_Nc "java/lang/IllegalArgumentException" "java/util/NoSuchElementException" E.1) {r : Int32 × XH} (hl : k_X0_free n g E.2.2.2 x0 x1 x2 h = some r) : CM l E mX0_free (5 * g + 11) [.ref x0, .int x1, .ref x2] h (.inl (some (.int r.1))) r.2 := by
  unfold k_X0_free at hl
  refine cm_ofH (by decide +kernel) (by decide) (Nat.le_of_ble_eq_true rfl) ?_
  refine cx_aload_n dX0_free_0 rfl rfl ?_
  refine cx_iconst (v := 0) dX0_free_1 rfl ?_
  refine cx_aload_n dX0_free_2 rfl rfl ?_
  refine cx_iload_n dX0_free_3 rfl ?_
  obtain ⟨u2, eu2, hl⟩ := xb hl
  obtain ⟨r1, er1, hl⟩ := xb hl
  rcases r1 with ⟨v3 | ⟨C6, q7⟩, h4⟩
  · dsimp only at hl
    refine cx_callV (Or.inl ⟨by decide, _, _, rfl⟩) (T_X1_free er1) lV_X0_126 C_X1_free dX0_free_4 eu2 (by decide) rfl (by omega) (Nat.le_of_ble_eq_true rfl) ?_
    refine cx_i2l dX0_free_7 ?_
    obtain ⟨h8, eh8, hl⟩ := xb hl
    refine cx_last dX0_free_8 eh8 ?_
    refine cx_goto (tgt := 15) dX0_free_9 (by decide) ?_
    refine cx_iconst (v := 0) dX0_free_15 rfl ?_
    cases hl
    exact cx_iret dX0_free_16 rfl rfl rfl rfl
  · dsimp only at hl
    by_cases c9 : C6 = "java/util/NoSuchElementException"
    · rw [if_pos c9] at hl
      subst c9
      refine cx_callVx (Or.inl ⟨by decide, _, _, rfl⟩) (T_X1_free er1) lV_X0_126 C_X1_free dX0_free_4 eu2 (by decide) rfl (by omega) (Nat.le_of_ble_eq_true rfl) ?_
      refine ct_catch [] _ _ rfl (fun z hz => by cases hz) (by decide) (by decide) q1182 q1245 ?_
      refine cx_astore_n dX0_free_12 (by decide) rfl ?_
      refine cx_iconst (v := 1) dX0_free_13 rfl ?_
      cases hl
      exact cx_iret dX0_free_14 rfl rfl rfl rfl
    rw [if_neg c9] at hl
    cases hl
def k_X0_larger (n : Nat) (x0 : Nat) (x1 : Int32) (x2 : Nat) (h : XH) : Option (Int32 × XH) := (ckd h x0 0).bind fun u2 => (k_X1_larger n x0 x1 h).bind fun r1 => match r1 with | (.inl v3, h4) => ((csu h4 x2 103 0 (.long ((v3 : Int32).toInt64))).bind fun h8 => some (0, h8)) | (.inr e5, h4) => (if e5.1 = "java/util/NoSuchElementException" then some (1, h4) else none)
set_option maxHeartbeats 4000000 in
theorem T_X0_larger {l : Launch} {E : XEnv}  {n : Nat} {x0 : Nat} {x1 : Int32} {x2 : Nat} {h : XH} (hE : va_Nc "java/lang/IllegalArgumentException" "java/util/NoSuchElementException" E.1) {r : Int32 × XH} (hl : k_X0_larger n x0 x1 x2 h = some r) : CM l E mX0_larger 11 [.ref x0, .int x1, .ref x2] h (.inl (some (.int r.1))) r.2 := by
  unfold k_X0_larger at hl
  refine cm_ofH (by decide +kernel) (by decide) (Nat.le_of_ble_eq_true rfl) ?_
  refine cx_aload_n dX0_larger_0 rfl rfl ?_
  refine cx_iconst (v := 0) dX0_larger_1 rfl ?_
  refine cx_aload_n dX0_larger_2 rfl rfl ?_
  refine cx_iload_n dX0_larger_3 rfl ?_
  obtain ⟨u2, eu2, hl⟩ := xb hl
  obtain ⟨r1, er1, hl⟩ := xb hl
  rcases r1 with ⟨v3 | ⟨C6, q7⟩, h4⟩
  · dsimp only at hl
    refine cx_callV (Or.inl ⟨by decide, _, _, rfl⟩) (T_X1_larger er1) lV_X0_129 C_X1_larger dX0_larger_4 eu2 (by decide) rfl (by omega) (Nat.le_of_ble_eq_true rfl) ?_
    refine cx_i2l dX0_larger_7 ?_
    obtain ⟨h8, eh8, hl⟩ := xb hl
    refine cx_last dX0_larger_8 eh8 ?_
    refine cx_goto (tgt := 15) dX0_larger_9 (by decide) ?_
    refine cx_iconst (v := 0) dX0_larger_15 rfl ?_
    cases hl
    exact cx_iret dX0_larger_16 rfl rfl rfl rfl
  · dsimp only at hl
    by_cases c9 : C6 = "java/util/NoSuchElementException"
    · rw [if_pos c9] at hl
      subst c9
      refine cx_callVx (Or.inl ⟨by decide, _, _, rfl⟩) (T_X1_larger er1) lV_X0_129 C_X1_larger dX0_larger_4 eu2 (by decide) rfl (by omega) (Nat.le_of_ble_eq_true rfl) ?_
      refine ct_catch [] _ _ rfl (fun z hz => by cases hz) (by decide) (by decide) q1182 q1245 ?_
      refine cx_astore_n dX0_larger_12 (by decide) rfl ?_
      refine cx_iconst (v := 1) dX0_larger_13 rfl ?_
      cases hl
      exact cx_iret dX0_larger_14 rfl rfl rfl rfl
    rw [if_neg c9] at hl
    cases hl
def k_X0_wide (n : Nat) (x0 : Nat) (x1 : Int32) (x2 : Nat) (h : XH) : Option (Int32 × XH) := (ckd h x0 0).bind fun u2 => (k_X1_wide n x0 x1 h).bind fun r1 => match r1 with | (.inl v3, h4) => ((csu h4 x2 103 0 (.long ((v3 : Int32).toInt64))).bind fun h8 => some (0, h8)) | (.inr e5, h4) => (if e5.1 = "java/lang/IllegalArgumentException" then some (1, h4) else none)
set_option maxHeartbeats 4000000 in
theorem T_X0_wide {l : Launch} {E : XEnv}  {n : Nat} {x0 : Nat} {x1 : Int32} {x2 : Nat} {h : XH} (hE : va_Nc "java/lang/IllegalArgumentException" "java/util/NoSuchElementException" E.1) {r : Int32 × XH} (hl : k_X0_wide n x0 x1 x2 h = some r) : CM l E mX0_wide 10 [.ref x0, .int x1, .ref x2] h (.inl (some (.int r.1))) r.2 := by
  unfold k_X0_wide at hl
  refine cm_ofH (by decide +kernel) (by decide) (Nat.le_of_ble_eq_true rfl) ?_
  refine cx_aload_n dX0_wide_0 rfl rfl ?_
  refine cx_iconst (v := 0) dX0_wide_1 rfl ?_
  refine cx_aload_n dX0_wide_2 rfl rfl ?_
  refine cx_iload_n dX0_wide_3 rfl ?_
  obtain ⟨u2, eu2, hl⟩ := xb hl
  obtain ⟨r1, er1, hl⟩ := xb hl
  rcases r1 with ⟨v3 | ⟨C6, q7⟩, h4⟩
  · dsimp only at hl
    refine cx_callV (Or.inl ⟨by decide, _, _, rfl⟩) (T_X1_wide er1) lV_X0_132 C_X1_wide dX0_wide_4 eu2 (by decide) rfl (by omega) (Nat.le_of_ble_eq_true rfl) ?_
    refine cx_i2l dX0_wide_7 ?_
    obtain ⟨h8, eh8, hl⟩ := xb hl
    refine cx_last dX0_wide_8 eh8 ?_
    refine cx_goto (tgt := 15) dX0_wide_9 (by decide) ?_
    refine cx_iconst (v := 0) dX0_wide_15 rfl ?_
    cases hl
    exact cx_iret dX0_wide_16 rfl rfl rfl rfl
  · dsimp only at hl
    by_cases c9 : C6 = "java/lang/IllegalArgumentException"
    · rw [if_pos c9] at hl
      subst c9
      refine cx_callVx (Or.inl ⟨by decide, _, _, rfl⟩) (T_X1_wide er1) lV_X0_132 C_X1_wide dX0_wide_4 eu2 (by decide) rfl (by omega) (Nat.le_of_ble_eq_true rfl) ?_
      refine ct_catch [] _ _ rfl (fun z hz => by cases hz) (by decide) (by decide) q650 q661 ?_
      refine cx_astore_n dX0_wide_12 (by decide) rfl ?_
      refine cx_iconst (v := 1) dX0_wide_13 rfl ?_
      cases hl
      exact cx_iret dX0_wide_14 rfl rfl rfl rfl
    rw [if_neg c9] at hl
    cases hl
def k_X0_endures (n : Nat) (g : Nat) (c : Nat → Value) (x0 : Nat) (x1 : Int32) (x2 : Int32) (x3 : Nat) (h : XH) : Option (Int32 × XH) := (ckd h x0 0).bind fun u2 => (k_X1_endures n g c x0 x1 x2 h).bind fun r1 => match r1 with | (.inl v3, h4) => ((csu h4 x3 103 0 (.long ((v3 : Int32).toInt64))).bind fun h8 => some (0, h8)) | (.inr e5, h4) => (if e5.1 = "java/util/NoSuchElementException" then some (1, h4) else none)
set_option maxHeartbeats 4000000 in
theorem T_X0_endures {l : Launch} {E : XEnv}  {n : Nat} {g : Nat} {x0 : Nat} {x1 : Int32} {x2 : Int32} {x3 : Nat} {h : XH} (hE : va_Nc "java/lang/IllegalArgumentException" "java/util/NoSuchElementException" E.1) {r : Int32 × XH} (hl : k_X0_endures n g E.2.2.2 x0 x1 x2 x3 h = some r) : CM l E mX0_endures (5 * g + 11) [.ref x0, .int x1, .int x2, .ref x3] h (.inl (some (.int r.1))) r.2 := by
  unfold k_X0_endures at hl
  refine cm_ofH (by decide +kernel) (by decide) (Nat.le_of_ble_eq_true rfl) ?_
  refine cx_aload_n dX0_endures_0 rfl rfl ?_
  refine cx_iconst (v := 0) dX0_endures_1 rfl ?_
  refine cx_aload_n dX0_endures_2 rfl rfl ?_
  refine cx_iload_n dX0_endures_3 rfl ?_
  refine cx_iload_n dX0_endures_4 rfl ?_
  obtain ⟨u2, eu2, hl⟩ := xb hl
  obtain ⟨r1, er1, hl⟩ := xb hl
  rcases r1 with ⟨v3 | ⟨C6, q7⟩, h4⟩
  · dsimp only at hl
    refine cx_callV (Or.inl ⟨by decide, _, _, rfl⟩) (T_X1_endures er1) lV_X0_135 C_X1_endures dX0_endures_5 eu2 (by decide) rfl (by omega) (Nat.le_of_ble_eq_true rfl) ?_
    refine cx_i2l dX0_endures_8 ?_
    obtain ⟨h8, eh8, hl⟩ := xb hl
    refine cx_last dX0_endures_9 eh8 ?_
    refine cx_goto (tgt := 17) dX0_endures_10 (by decide) ?_
    refine cx_iconst (v := 0) dX0_endures_17 rfl ?_
    cases hl
    exact cx_iret dX0_endures_18 rfl rfl rfl rfl
  · dsimp only at hl
    by_cases c9 : C6 = "java/util/NoSuchElementException"
    · rw [if_pos c9] at hl
      subst c9
      refine cx_callVx (Or.inl ⟨by decide, _, _, rfl⟩) (T_X1_endures er1) lV_X0_135 C_X1_endures dX0_endures_5 eu2 (by decide) rfl (by omega) (Nat.le_of_ble_eq_true rfl) ?_
      refine ct_catch [] _ _ rfl (fun z hz => by cases hz) (by decide) (by decide) q1182 q1245 ?_
      refine cx_astore dX0_endures_13 (by decide) rfl ?_
      refine cx_iconst (v := 1) dX0_endures_15 rfl ?_
      cases hl
      exact cx_iret dX0_endures_16 rfl rfl rfl rfl
    rw [if_neg c9] at hl
    cases hl
def k_X0_ringed (n : Nat) (x0 : Nat) (x1 : Int32) (x2 : Nat) (h : XH) : Option (Int32 × XH) := (ckd h x0 0).bind fun u2 => (k_X1_ringed n x0 x1 h).bind fun r1 => match r1 with | (.inl v3, h4) => ((csu h4 x2 103 0 (.long ((v3 : Int32).toInt64))).bind fun h8 => some (0, h8)) | (.inr e5, h4) => (if e5.1 = "java/util/NoSuchElementException" then some (1, h4) else none)
set_option maxHeartbeats 4000000 in
theorem T_X0_ringed {l : Launch} {E : XEnv}  {n : Nat} {x0 : Nat} {x1 : Int32} {x2 : Nat} {h : XH} (hE : va_Nc "java/lang/IllegalArgumentException" "java/util/NoSuchElementException" E.1) {r : Int32 × XH} (hl : k_X0_ringed n x0 x1 x2 h = some r) : CM l E mX0_ringed 11 [.ref x0, .int x1, .ref x2] h (.inl (some (.int r.1))) r.2 := by
  unfold k_X0_ringed at hl
  refine cm_ofH (by decide +kernel) (by decide) (Nat.le_of_ble_eq_true rfl) ?_
  refine cx_aload_n dX0_ringed_0 rfl rfl ?_
  refine cx_iconst (v := 0) dX0_ringed_1 rfl ?_
  refine cx_aload_n dX0_ringed_2 rfl rfl ?_
  refine cx_iload_n dX0_ringed_3 rfl ?_
  obtain ⟨u2, eu2, hl⟩ := xb hl
  obtain ⟨r1, er1, hl⟩ := xb hl
  rcases r1 with ⟨v3 | ⟨C6, q7⟩, h4⟩
  · dsimp only at hl
    refine cx_callV (Or.inl ⟨by decide, _, _, rfl⟩) (T_X1_ringed er1) lV_X0_138 C_X1_ringed dX0_ringed_4 eu2 (by decide) rfl (by omega) (Nat.le_of_ble_eq_true rfl) ?_
    refine cx_i2l dX0_ringed_7 ?_
    obtain ⟨h8, eh8, hl⟩ := xb hl
    refine cx_last dX0_ringed_8 eh8 ?_
    refine cx_goto (tgt := 15) dX0_ringed_9 (by decide) ?_
    refine cx_iconst (v := 0) dX0_ringed_15 rfl ?_
    cases hl
    exact cx_iret dX0_ringed_16 rfl rfl rfl rfl
  · dsimp only at hl
    by_cases c9 : C6 = "java/util/NoSuchElementException"
    · rw [if_pos c9] at hl
      subst c9
      refine cx_callVx (Or.inl ⟨by decide, _, _, rfl⟩) (T_X1_ringed er1) lV_X0_138 C_X1_ringed dX0_ringed_4 eu2 (by decide) rfl (by omega) (Nat.le_of_ble_eq_true rfl) ?_
      refine ct_catch [] _ _ rfl (fun z hz => by cases hz) (by decide) (by decide) q1182 q1245 ?_
      refine cx_astore_n dX0_ringed_12 (by decide) rfl ?_
      refine cx_iconst (v := 1) dX0_ringed_13 rfl ?_
      cases hl
      exact cx_iret dX0_ringed_14 rfl rfl rfl rfl
    rw [if_neg c9] at hl
    cases hl
