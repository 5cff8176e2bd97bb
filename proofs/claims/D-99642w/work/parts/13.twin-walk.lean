/-! pure functions of the reference, printed out of its bytecode by gen/extract.py, and their contracts -/
set_option maxRecDepth 100000
def f_thrown  (S : TS) : Option (Int32) := some (S.1 0)
set_option maxHeartbeats 4000000 in
theorem T_thrown {l : Launch} {E : XEnv} {m : Nat} {ad : Nat → Nat}  {S : TS} {r : Int32} (hl : f_thrown  S = some r) : TM l E mX4_thrown 1 m ad [.ref m] S (some (.int r)) S := by
  unfold f_thrown at hl
  refine tm_of (by decide +kernel) rfl (Nat.le_of_ble_eq_true rfl) fun h0 => ?_
  refine tx_aload_n dX4_thrown_0 rfl rfl ?_
  refine tx_getI gF_X4_111 dX4_thrown_1 (by decide) ?_
  cases hl
  exact tx_iret dX4_thrown_4 rfl rfl ⟨rfl, rfl⟩
def f_lays_L3 (n : Nat) (x1 : Int32) (x2 : Int32) (S : TS) : Option ((Int32 × TS) ⊕ ((TS))) := if x2 < 0 then some (.inr S) else (twr S 11 (S.1 12) ((x1 >>> ((x2 : Int32) &&& 31)) &&& 255)).bind fun S2 => (some (tpF S2 12 ((S2.1 12) + 1))).bind fun S3 => (some (x2 + (-8))).bind fun w4 => some (.inl (w4, S3))
abbrev K_lays_L3 (l : Launch) (E : XEnv) (m : Nat) (ad : Nat → Nat) (h0 : XH) (R : Option Value → TS → Prop) (S : TS) (x1 : Int32) (o : (TS)) : Prop := match o with
  | e => TX l E mX4_lays 1 39 [(0, .ref m)] [] m ad h0 e R
def f_lays (n : Nat) (x1 : Int32) (S : TS) : Option (TS) := (xloop (fun s => f_lays_L3 n x1 s.1 s.2) n (24, S)).bind fun o5 => some o5
set_option maxHeartbeats 4000000 in
theorem f_lays_L3_s {l : Launch} {E : XEnv} {m : Nat} {ad : Nat → Nat} {h0 : XH} {R : Option Value → TS → Prop} {n : Nat} {x1 : Int32} {x2 : Int32} {S : TS} {o : (Int32 × TS) ⊕ ((TS))} (hl : f_lays_L3 n x1 x2 S = some o) (hK : (xk (fun s : Int32 × TS => TX l E mX4_lays 1 3 [(0, .ref m), (1, .int x1), (2, .int s.1)] [] m ad h0 s.2 R) (fun r => K_lays_L3 l E m ad h0 R S x1 r) o)) : TX l E mX4_lays 1 3 [(0, .ref m), (1, .int x1), (2, .int x2)] [] m ad h0 S R := by
  unfold f_lays_L3 at hl
  refine tx_iload_n dX4_lays_3 rfl ?_
  refine tx_if_lt (tgt := 39) dX4_lays_4 (by decide) (fun c1 => ?_) (fun c1 => ?_)
  · rw [if_pos c1] at hl
    cases hl
    exact tx_lsK hK ⟨rfl, trivial⟩
  · rw [if_neg c1] at hl
    refine tx_aload_n dX4_lays_7 rfl rfl ?_
    refine tx_getA gF_X4_32 dX4_lays_8 (by decide) ?_
    refine tx_aload_n dX4_lays_11 rfl rfl ?_
    refine tx_getI gF_X4_114 dX4_lays_12 (by decide) ?_
    refine tx_iload_n dX4_lays_15 rfl ?_
    refine tx_iload_n dX4_lays_16 rfl ?_
    refine tx_ishr dX4_lays_17 ?_
    refine tx_sipush (v := 255) dX4_lays_18 (by decide) ?_
    refine tx_iand dX4_lays_21 ?_
    obtain ⟨S2, eS2, hl⟩ := xb hl
    refine tx_iast (by decide) dX4_lays_22 eS2 ?_
    refine tx_aload_n dX4_lays_23 rfl rfl ?_
    refine tx_dup dX4_lays_24 rfl ?_
    refine tx_getI gF_X4_114 dX4_lays_25 (by decide) ?_
    refine tx_iconst (v := 1) dX4_lays_28 rfl ?_
    refine tx_iadd dX4_lays_29 ?_
    obtain ⟨S3, eS3, hl⟩ := xb hl
    refine tx_putI pF_X4_114 dX4_lays_30 (by decide) rfl rfl (Option.some.inj eS3) ?_
    obtain ⟨w4, ew4, hl⟩ := xb hl
    refine tx_iinc dX4_lays_33 rfl (by decide) (Option.some.inj ew4) ?_
    refine tx_goto (tgt := 3) dX4_lays_36 (by decide) ?_
    cases hl
    exact tx_lsK hK ⟨rfl, rfl, rfl, trivial⟩
set_option maxHeartbeats 4000000 in
theorem f_lays_L3_ok {l : Launch} {E : XEnv} {m : Nat} {ad : Nat → Nat} {h0 : XH} {R : Option Value → TS → Prop} {n : Nat} {x1 : Int32} {S : TS} {s : Int32 × TS} {o : (TS)} (hl : xloop (fun s => f_lays_L3 n x1 s.1 s.2) n s = some o) (hK : K_lays_L3 l E m ad h0 R S x1 o) : TX l E mX4_lays 1 3 [(0, .ref m), (1, .int x1), (2, .int s.1)] [] m ad h0 s.2 R :=
  xloop_of (fun s : Int32 × TS => TX l E mX4_lays 1 3 [(0, .ref m), (1, .int x1), (2, .int s.1)] [] m ad h0 s.2 R) (fun r => K_lays_L3 l E m ad h0 R S x1 r) (fun s o hl hk => f_lays_L3_s (S := s.2) (o := o) hl hk) n s o hl hK
set_option maxHeartbeats 4000000 in
theorem T_lays {l : Launch} {E : XEnv} {m : Nat} {ad : Nat → Nat} {n : Nat} {x1 : Int32} {S : TS} {S' : TS} (hl : f_lays n x1 S = some S') : TM l E mX4_lays 1 m ad [.ref m, .int x1] S none S' := by
  unfold f_lays at hl
  refine tm_of (by decide +kernel) rfl (Nat.le_of_ble_eq_true rfl) fun h0 => ?_
  refine tx_bipush (v := 24) dX4_lays_0 (by decide) ?_
  refine tx_istore_n dX4_lays_2 (by decide) ?_
  obtain ⟨o5, eo5, hl⟩ := xb hl
  refine tx_lsK (f_lays_L3_ok (S := S) (s := (24, S)) eo5 ?_) ⟨rfl, rfl, rfl, trivial⟩
  cases hl
  exact tx_vret dX4_lays_39 rfl ⟨rfl, rfl⟩
def f_feed (n : Nat) (x1 : Int32) (x2 : Int32) (x3 : Int32) (x4 : Int32) (x5 : Int32) (S : TS) : Option (Int32 × TS) := (some (tpF S 0 0)).bind fun S1 => if ((S1.1 12) + 20) ≤ 700 then (f_lays n x1 S1).bind fun r3 => (f_lays n x2 r3).bind fun r4 => (f_lays n x3 r4).bind fun r5 => (f_lays n x4 r5).bind fun r6 => (f_lays n x5 r6).bind fun r7 => some ((r7.1 12), r7) else some ((-1), S1)
set_option maxHeartbeats 4000000 in
theorem T_feed {l : Launch} {E : XEnv} {m : Nat} {ad : Nat → Nat} {n : Nat} {x1 : Int32} {x2 : Int32} {x3 : Int32} {x4 : Int32} {x5 : Int32} {S : TS} {r : Int32 × TS} (hl : f_feed n x1 x2 x3 x4 x5 S = some r) : TM l E mX4_feed 2 m ad [.ref m, .int x1, .int x2, .int x3, .int x4, .int x5] S (some (.int r.1)) r.2 := by
  unfold f_feed at hl
  refine tm_of (by decide +kernel) rfl (Nat.le_of_ble_eq_true rfl) fun h0 => ?_
  refine tx_aload_n dX4_feed_0 rfl rfl ?_
  refine tx_iconst (v := 0) dX4_feed_1 rfl ?_
  obtain ⟨S1, eS1, hl⟩ := xb hl
  refine tx_putI pF_X4_111 dX4_feed_2 (by decide) rfl rfl (Option.some.inj eS1) ?_
  refine tx_aload_n dX4_feed_5 rfl rfl ?_
  refine tx_getI gF_X4_114 dX4_feed_6 (by decide) ?_
  refine tx_bipush (v := 20) dX4_feed_9 (by decide) ?_
  refine tx_iadd dX4_feed_11 ?_
  refine tx_sipush (v := 700) dX4_feed_12 (by decide) ?_
  refine tx_icmp_le (tgt := 20) dX4_feed_15 (by decide) (fun c2 => ?_) (fun c2 => ?_)
  · rw [if_pos c2] at hl
    refine tx_aload_n dX4_feed_20 rfl rfl ?_
    refine tx_iload_n dX4_feed_21 rfl ?_
    obtain ⟨r3, er3, hl⟩ := xb hl
    refine tx_callV (T_lays er3) lV_X4_117 C_X4_lays rfl dX4_feed_22 rfl (by decide) (Nat.le_of_ble_eq_true rfl) ?_
    refine tx_aload_n dX4_feed_25 rfl rfl ?_
    refine tx_iload_n dX4_feed_26 rfl ?_
    obtain ⟨r4, er4, hl⟩ := xb hl
    refine tx_callV (T_lays er4) lV_X4_117 C_X4_lays rfl dX4_feed_27 rfl (by decide) (Nat.le_of_ble_eq_true rfl) ?_
    refine tx_aload_n dX4_feed_30 rfl rfl ?_
    refine tx_iload_n dX4_feed_31 rfl ?_
    obtain ⟨r5, er5, hl⟩ := xb hl
    refine tx_callV (T_lays er5) lV_X4_117 C_X4_lays rfl dX4_feed_32 rfl (by decide) (Nat.le_of_ble_eq_true rfl) ?_
    refine tx_aload_n dX4_feed_35 rfl rfl ?_
    refine tx_iload dX4_feed_36 rfl ?_
    obtain ⟨r6, er6, hl⟩ := xb hl
    refine tx_callV (T_lays er6) lV_X4_117 C_X4_lays rfl dX4_feed_38 rfl (by decide) (Nat.le_of_ble_eq_true rfl) ?_
    refine tx_aload_n dX4_feed_41 rfl rfl ?_
    refine tx_iload dX4_feed_42 rfl ?_
    obtain ⟨r7, er7, hl⟩ := xb hl
    refine tx_callV (T_lays er7) lV_X4_117 C_X4_lays rfl dX4_feed_44 rfl (by decide) (Nat.le_of_ble_eq_true rfl) ?_
    refine tx_aload_n dX4_feed_47 rfl rfl ?_
    refine tx_getI gF_X4_114 dX4_feed_48 (by decide) ?_
    cases hl
    exact tx_iret dX4_feed_51 rfl rfl ⟨rfl, rfl⟩
  · rw [if_neg c2] at hl
    refine tx_iconst (v := (-1)) dX4_feed_18 rfl ?_
    cases hl
    exact tx_iret dX4_feed_19 rfl rfl ⟨rfl, rfl⟩
def f_right_J16  (S : TS) : Option (Int32 × TS) := if (S.1 0) = 0 then some (1, S) else some (0, S)
def f_right (x1 : Int32) (x2 : Int32) (S : TS) : Option (Int32 × TS) := if (S.1 0) = 0 then if x1 = 0 then (some (tpF S 0 x2)).bind fun S4 => f_right_J16  S4 else f_right_J16  S else f_right_J16  S
set_option maxHeartbeats 4000000 in
theorem f_right_J16_s {l : Launch} {E : XEnv} {m : Nat} {ad : Nat → Nat} {h0 : XH}  {S : TS} {r : Int32 × TS} (hl : f_right_J16  S = some r) : TX l E mX4_right 1 16 [(0, .ref m)] [] m ad h0 S (fun v' S'' => v' = some (.int r.1) ∧ S'' = r.2) := by
  unfold f_right_J16 at hl
  refine tx_aload_n dX4_right_16 rfl rfl ?_
  refine tx_getI gF_X4_111 dX4_right_17 (by decide) ?_
  refine tx_if_ne (tgt := 27) dX4_right_20 (by decide) (fun c2 => ?_) (fun c2 => ?_)
  · rw [if_neg c2] at hl
    refine tx_iconst (v := 0) dX4_right_27 rfl ?_
    cases hl
    exact tx_iret dX4_right_28 rfl rfl ⟨rfl, rfl⟩
  · rw [if_pos c2] at hl
    refine tx_iconst (v := 1) dX4_right_23 rfl ?_
    refine tx_goto (tgt := 28) dX4_right_24 (by decide) ?_
    cases hl
    exact tx_iret dX4_right_28 rfl rfl ⟨rfl, rfl⟩
set_option maxHeartbeats 4000000 in
theorem T_right {l : Launch} {E : XEnv} {m : Nat} {ad : Nat → Nat} {x1 : Int32} {x2 : Int32} {S : TS} {r : Int32 × TS} (hl : f_right x1 x2 S = some r) : TM l E mX4_right 1 m ad [.ref m, .int x1, .int x2] S (some (.int r.1)) r.2 := by
  unfold f_right at hl
  refine tm_of (by decide +kernel) rfl (Nat.le_of_ble_eq_true rfl) fun h0 => ?_
  refine tx_aload_n dX4_right_0 rfl rfl ?_
  refine tx_getI gF_X4_111 dX4_right_1 (by decide) ?_
  refine tx_if_ne (tgt := 16) dX4_right_4 (by decide) (fun c1 => ?_) (fun c1 => ?_)
  · rw [if_neg c1] at hl
    exact tx_lsK (f_right_J16_s hl) ⟨rfl, trivial⟩
  · rw [if_pos c1] at hl
    refine tx_iload_n dX4_right_7 rfl ?_
    refine tx_if_ne (tgt := 16) dX4_right_8 (by decide) (fun c3 => ?_) (fun c3 => ?_)
    · rw [if_neg c3] at hl
      exact tx_lsK (f_right_J16_s hl) ⟨rfl, trivial⟩
    · rw [if_pos c3] at hl
      refine tx_aload_n dX4_right_11 rfl rfl ?_
      refine tx_iload_n dX4_right_12 rfl ?_
      obtain ⟨S4, eS4, hl⟩ := xb hl
      refine tx_putI pF_X4_111 dX4_right_13 (by decide) rfl rfl (Option.some.inj eS4) ?_
      exact tx_lsK (f_right_J16_s hl) ⟨rfl, trivial⟩
def f_byteAt (x1 : Int32) (S : TS) : Option (Int32) := if x1 ≥ (S.1 16) then some 0 else (trd S 11 x1).bind fun v2 => some v2
set_option maxHeartbeats 4000000 in
theorem T_byteAt {l : Launch} {E : XEnv} {m : Nat} {ad : Nat → Nat} {x1 : Int32} {S : TS} {r : Int32} (hl : f_byteAt x1 S = some r) : TM l E mX4_byteAt 1 m ad [.ref m, .int x1] S (some (.int r)) S := by
  unfold f_byteAt at hl
  refine tm_of (by decide +kernel) rfl (Nat.le_of_ble_eq_true rfl) fun h0 => ?_
  refine tx_iload_n dX4_byteAt_0 rfl ?_
  refine tx_aload_n dX4_byteAt_1 rfl rfl ?_
  refine tx_getI gF_X4_121 dX4_byteAt_2 (by decide) ?_
  refine tx_icmp_ge (tgt := 17) dX4_byteAt_5 (by decide) (fun c1 => ?_) (fun c1 => ?_)
  · rw [if_pos c1] at hl
    refine tx_iconst (v := 0) dX4_byteAt_17 rfl ?_
    cases hl
    exact tx_iret dX4_byteAt_18 rfl rfl ⟨rfl, rfl⟩
  · rw [if_neg c1] at hl
    refine tx_aload_n dX4_byteAt_8 rfl rfl ?_
    refine tx_getA gF_X4_32 dX4_byteAt_9 (by decide) ?_
    refine tx_iload_n dX4_byteAt_12 rfl ?_
    obtain ⟨v2, ev2, hl⟩ := xb hl
    refine tx_iald (by decide) dX4_byteAt_13 ev2 ?_
    refine tx_goto (tgt := 18) dX4_byteAt_14 (by decide) ?_
    cases hl
    exact tx_iret dX4_byteAt_18 rfl rfl ⟨rfl, rfl⟩
def f_isLetter (x0 : Int32) : Option (Int32) := if x0 < 97 then some 0 else if x0 > 122 then some 0 else some 1
set_option maxHeartbeats 4000000 in
theorem T_isLetter {l : Launch} {E : XEnv} {m : Nat} {ad : Nat → Nat} {x0 : Int32} {S : TS} {r : Int32} (hl : f_isLetter x0 = some r) : TM l E mX4_isLetter 1 m ad [.int x0] S (some (.int r)) S := by
  unfold f_isLetter at hl
  refine tm_of (by decide +kernel) rfl (Nat.le_of_ble_eq_true rfl) fun h0 => ?_
  refine tx_iload_n dX4_isLetter_0 rfl ?_
  refine tx_bipush (v := 97) dX4_isLetter_1 (by decide) ?_
  refine tx_icmp_lt (tgt := 16) dX4_isLetter_3 (by decide) (fun c1 => ?_) (fun c1 => ?_)
  · rw [if_pos c1] at hl
    refine tx_iconst (v := 0) dX4_isLetter_16 rfl ?_
    cases hl
    exact tx_iret dX4_isLetter_17 rfl rfl ⟨rfl, rfl⟩
  · rw [if_neg c1] at hl
    refine tx_iload_n dX4_isLetter_6 rfl ?_
    refine tx_bipush (v := 122) dX4_isLetter_7 (by decide) ?_
    refine tx_icmp_gt (tgt := 16) dX4_isLetter_9 (by decide) (fun c2 => ?_) (fun c2 => ?_)
    · rw [if_pos c2] at hl
      refine tx_iconst (v := 0) dX4_isLetter_16 rfl ?_
      cases hl
      exact tx_iret dX4_isLetter_17 rfl rfl ⟨rfl, rfl⟩
    · rw [if_neg c2] at hl
      refine tx_iconst (v := 1) dX4_isLetter_12 rfl ?_
      refine tx_goto (tgt := 17) dX4_isLetter_13 (by decide) ?_
      cases hl
      exact tx_iret dX4_isLetter_17 rfl rfl ⟨rfl, rfl⟩
def f_isDigit (x0 : Int32) : Option (Int32) := if x0 < 48 then some 0 else if x0 > 57 then some 0 else some 1
set_option maxHeartbeats 4000000 in
theorem T_isDigit {l : Launch} {E : XEnv} {m : Nat} {ad : Nat → Nat} {x0 : Int32} {S : TS} {r : Int32} (hl : f_isDigit x0 = some r) : TM l E mX4_isDigit 1 m ad [.int x0] S (some (.int r)) S := by
  unfold f_isDigit at hl
  refine tm_of (by decide +kernel) rfl (Nat.le_of_ble_eq_true rfl) fun h0 => ?_
  refine tx_iload_n dX4_isDigit_0 rfl ?_
  refine tx_bipush (v := 48) dX4_isDigit_1 (by decide) ?_
  refine tx_icmp_lt (tgt := 16) dX4_isDigit_3 (by decide) (fun c1 => ?_) (fun c1 => ?_)
  · rw [if_pos c1] at hl
    refine tx_iconst (v := 0) dX4_isDigit_16 rfl ?_
    cases hl
    exact tx_iret dX4_isDigit_17 rfl rfl ⟨rfl, rfl⟩
  · rw [if_neg c1] at hl
    refine tx_iload_n dX4_isDigit_6 rfl ?_
    refine tx_bipush (v := 57) dX4_isDigit_7 (by decide) ?_
    refine tx_icmp_gt (tgt := 16) dX4_isDigit_9 (by decide) (fun c2 => ?_) (fun c2 => ?_)
    · rw [if_pos c2] at hl
      refine tx_iconst (v := 0) dX4_isDigit_16 rfl ?_
      cases hl
      exact tx_iret dX4_isDigit_17 rfl rfl ⟨rfl, rfl⟩
    · rw [if_neg c2] at hl
      refine tx_iconst (v := 1) dX4_isDigit_12 rfl ?_
      refine tx_goto (tgt := 17) dX4_isDigit_13 (by decide) ?_
      cases hl
      exact tx_iret dX4_isDigit_17 rfl rfl ⟨rfl, rfl⟩
def f_takes_J37 (n : Nat)  (S : TS) : Option ((TS) ⊕ ((TS))) := (some (tpF S 17 ((S.1 17) + 1))).bind fun S4 => some (.inl S4)
def f_takes_L0 (n : Nat)  (S : TS) : Option ((TS) ⊕ ((TS))) := if (S.1 17) ≥ (S.1 16) then some (.inr S) else (f_byteAt (S.1 17) S).bind fun r2 => if r2 = 32 then f_takes_J37 n  S else (f_byteAt (S.1 17) S).bind fun r5 => if r5 = 10 then f_takes_J37 n  S else some (.inr S)
abbrev K_takes_L0 (l : Launch) (E : XEnv) (m : Nat) (ad : Nat → Nat) (h0 : XH) (R : Option Value → TS → Prop) (S : TS)  (o : (TS)) : Prop := match o with
  | e => TX l E mX4_takes 2 50 [(0, .ref m)] [] m ad h0 e R
def f_takes_J331 (n : Nat)  (S : TS) : Option (TS) := (some (tpF S 20 ((S.1 17) - (S.1 19)))).bind fun S21 => some S21
def f_takes_J237 (n : Nat)  (S : TS) : Option ((TS) ⊕ ((TS))) := (some (tpF S 17 ((S.1 17) + 1))).bind fun S43 => some (.inl S43)
def f_takes_L187 (n : Nat)  (S : TS) : Option ((TS) ⊕ ((TS))) := (f_byteAt (S.1 17) S).bind fun r39 => (f_isDigit r39).bind fun r40 => if r40 = 0 then some (.inr S) else if ((S.1 17) - (S.1 19)) ≥ 4 then f_takes_J237 n  S else (f_byteAt (S.1 17) S).bind fun r44 => (some (tpF S 21 ((((10 : Int32) * (S.1 21)) + r44) - 48))).bind fun S45 => f_takes_J237 n  S45
abbrev K_takes_L187 (l : Launch) (E : XEnv) (m : Nat) (ad : Nat → Nat) (h0 : XH) (R : Option Value → TS → Prop) (S : TS)  (o : (TS)) : Prop := match o with
  | e => TX l E mX4_takes 2 250 [(0, .ref m)] [] m ad h0 e R
def f_takes_J159 (n : Nat)  (S : TS) : Option ((TS) ⊕ ((TS))) := (some (tpF S 17 ((S.1 17) + 1))).bind fun S52 => some (.inl S52)
def f_takes_L108 (n : Nat)  (S : TS) : Option ((TS) ⊕ ((TS))) := (f_byteAt (S.1 17) S).bind fun r48 => (f_isLetter r48).bind fun r49 => if r49 = 0 then some (.inr S) else if ((S.1 17) - (S.1 19)) ≥ 6 then f_takes_J159 n  S else (f_byteAt (S.1 17) S).bind fun r53 => (some (tpW S ((S.2.1 <<< ((5 : Int32).toInt64 &&& 63)) ||| (((r53 - 96) : Int32).toInt64)))).bind fun S54 => f_takes_J159 n  S54
abbrev K_takes_L108 (l : Launch) (E : XEnv) (m : Nat) (ad : Nat → Nat) (h0 : XH) (R : Option Value → TS → Prop) (S : TS)  (o : (TS)) : Prop := match o with
  | e => TX l E mX4_takes 2 172 [(0, .ref m)] [] m ad h0 e R
def f_takes_J50 (n : Nat)  (S : TS) : Option (TS) := (some (tpF S 19 (S.1 17))).bind fun S8 => (some (tpW S8 0)).bind fun S9 => (some (tpF S9 21 0)).bind fun S10 => (f_byteAt (S10.1 17) S10).bind fun r11 => (some (tpF S10 22 r11)).bind fun S12 => if (S12.1 17) < (S12.1 16) then (f_isLetter r11).bind fun r14 => if r14 = 0 then (f_isDigit r11).bind fun r16 => if r16 = 0 then (some (tpF S12 17 ((S12.1 17) + 1))).bind fun S18 => if r11 = 59 then (some (tpF S18 18 3)).bind fun S20 => f_takes_J331 n  S20 else if r11 = 40 then (some (tpF S18 18 3)).bind fun S23 => f_takes_J331 n  S23 else if r11 = 41 then (some (tpF S18 18 3)).bind fun S25 => f_takes_J331 n  S25 else if r11 = 43 then (some (tpF S18 18 3)).bind fun S27 => f_takes_J331 n  S27 else if r11 = 45 then (some (tpF S18 18 3)).bind fun S29 => f_takes_J331 n  S29 else if r11 = 42 then (some (tpF S18 18 3)).bind fun S31 => f_takes_J331 n  S31 else if r11 = 47 then (some (tpF S18 18 3)).bind fun S33 => f_takes_J331 n  S33 else if r11 = 60 then (some (tpF S18 18 3)).bind fun S35 => f_takes_J331 n  S35 else if r11 = 61 then (some (tpF S18 18 3)).bind fun S38 => f_takes_J331 n  S38 else (some (tpF S18 18 4)).bind fun S37 => f_takes_J331 n  S37 else (xloop (fun s => f_takes_L187 n  s) n S12).bind fun o46 => (some (tpF o46 18 2)).bind fun S47 => f_takes_J331 n  S47 else (xloop (fun s => f_takes_L108 n  s) n S12).bind fun o55 => (some (tpF o55 18 1)).bind fun S56 => f_takes_J331 n  S56 else (some (tpF S12 18 0)).bind fun S57 => f_takes_J331 n  S57
def f_takes (n : Nat)  (S : TS) : Option (TS) := (xloop (fun s => f_takes_L0 n  s) n S).bind fun o7 => f_takes_J50 n  o7
set_option maxHeartbeats 4000000 in
theorem f_takes_J37_s {l : Launch} {E : XEnv} {m : Nat} {ad : Nat → Nat} {h0 : XH} {R : Option Value → TS → Prop} {n : Nat}  {S : TS} {o : (TS) ⊕ ((TS))} (hl : f_takes_J37 n  S = some o) (hK : (xk (fun s : TS => TX l E mX4_takes 2 0 [(0, .ref m)] [] m ad h0 s R) (fun r => K_takes_L0 l E m ad h0 R S r) o)) : TX l E mX4_takes 2 37 [(0, .ref m)] [] m ad h0 S R := by
  unfold f_takes_J37 at hl
  refine tx_aload_n dX4_takes_37 rfl rfl ?_
  refine tx_dup dX4_takes_38 rfl ?_
  refine tx_getI gF_X4_124 dX4_takes_39 (by decide) ?_
  refine tx_iconst (v := 1) dX4_takes_42 rfl ?_
  refine tx_iadd dX4_takes_43 ?_
  obtain ⟨S4, eS4, hl⟩ := xb hl
  refine tx_putI pF_X4_124 dX4_takes_44 (by decide) rfl rfl (Option.some.inj eS4) ?_
  refine tx_goto (tgt := 0) dX4_takes_47 (by decide) ?_
  cases hl
  exact tx_lsK hK ⟨rfl, trivial⟩
set_option maxHeartbeats 4000000 in
theorem f_takes_L0_s {l : Launch} {E : XEnv} {m : Nat} {ad : Nat → Nat} {h0 : XH} {R : Option Value → TS → Prop} {n : Nat}  {S : TS} {o : (TS) ⊕ ((TS))} (hl : f_takes_L0 n  S = some o) (hK : (xk (fun s : TS => TX l E mX4_takes 2 0 [(0, .ref m)] [] m ad h0 s R) (fun r => K_takes_L0 l E m ad h0 R S r) o)) : TX l E mX4_takes 2 0 [(0, .ref m)] [] m ad h0 S R := by
  unfold f_takes_L0 at hl
  refine tx_aload_n dX4_takes_0 rfl rfl ?_
  refine tx_getI gF_X4_124 dX4_takes_1 (by decide) ?_
  refine tx_aload_n dX4_takes_4 rfl rfl ?_
  refine tx_getI gF_X4_121 dX4_takes_5 (by decide) ?_
  refine tx_icmp_ge (tgt := 50) dX4_takes_8 (by decide) (fun c1 => ?_) (fun c1 => ?_)
  · rw [if_pos c1] at hl
    cases hl
    exact tx_lsK hK ⟨rfl, trivial⟩
  · rw [if_neg c1] at hl
    refine tx_aload_n dX4_takes_11 rfl rfl ?_
    refine tx_aload_n dX4_takes_12 rfl rfl ?_
    refine tx_getI gF_X4_124 dX4_takes_13 (by decide) ?_
    obtain ⟨r2, er2, hl⟩ := xb hl
    refine tx_callV (T_byteAt er2) lV_X4_127 C_X4_byteAt rfl dX4_takes_16 rfl (by decide) (Nat.le_of_ble_eq_true rfl) ?_
    refine tx_bipush (v := 32) dX4_takes_19 (by decide) ?_
    refine tx_icmp_eq (tgt := 37) dX4_takes_21 (by decide) (fun c3 => ?_) (fun c3 => ?_)
    · rw [if_pos c3] at hl
      exact tx_lsK (f_takes_J37_s hl hK) ⟨rfl, trivial⟩
    · rw [if_neg c3] at hl
      refine tx_aload_n dX4_takes_24 rfl rfl ?_
      refine tx_aload_n dX4_takes_25 rfl rfl ?_
      refine tx_getI gF_X4_124 dX4_takes_26 (by decide) ?_
      obtain ⟨r5, er5, hl⟩ := xb hl
      refine tx_callV (T_byteAt er5) lV_X4_127 C_X4_byteAt rfl dX4_takes_29 rfl (by decide) (Nat.le_of_ble_eq_true rfl) ?_
      refine tx_bipush (v := 10) dX4_takes_32 (by decide) ?_
      refine tx_icmp_ne (tgt := 50) dX4_takes_34 (by decide) (fun c6 => ?_) (fun c6 => ?_)
      · rw [if_neg c6] at hl
        cases hl
        exact tx_lsK hK ⟨rfl, trivial⟩
      · rw [if_pos c6] at hl
        exact tx_lsK (f_takes_J37_s hl hK) ⟨rfl, trivial⟩
set_option maxHeartbeats 4000000 in
theorem f_takes_L0_ok {l : Launch} {E : XEnv} {m : Nat} {ad : Nat → Nat} {h0 : XH} {R : Option Value → TS → Prop} {n : Nat}  {S : TS} {s : TS} {o : (TS)} (hl : xloop (fun s => f_takes_L0 n  s) n s = some o) (hK : K_takes_L0 l E m ad h0 R S o) : TX l E mX4_takes 2 0 [(0, .ref m)] [] m ad h0 s R :=
  xloop_of (fun s : TS => TX l E mX4_takes 2 0 [(0, .ref m)] [] m ad h0 s R) (fun r => K_takes_L0 l E m ad h0 R S r) (fun s o hl hk => f_takes_L0_s (S := s) (o := o) hl hk) n s o hl hK
set_option maxHeartbeats 4000000 in
theorem f_takes_J331_s {l : Launch} {E : XEnv} {m : Nat} {ad : Nat → Nat} {h0 : XH} {n : Nat}  {S : TS} {S' : TS} (hl : f_takes_J331 n  S = some S') : TX l E mX4_takes 2 331 [(0, .ref m)] [] m ad h0 S (fun v' S'' => v' = none ∧ S'' = S') := by
  unfold f_takes_J331 at hl
  refine tx_aload_n dX4_takes_331 rfl rfl ?_
  refine tx_aload_n dX4_takes_332 rfl rfl ?_
  refine tx_getI gF_X4_124 dX4_takes_333 (by decide) ?_
  refine tx_aload_n dX4_takes_336 rfl rfl ?_
  refine tx_getI gF_X4_131 dX4_takes_337 (by decide) ?_
  refine tx_isub dX4_takes_340 ?_
  obtain ⟨S21, eS21, hl⟩ := xb hl
  refine tx_putI pF_X4_154 dX4_takes_341 (by decide) rfl rfl (Option.some.inj eS21) ?_
  cases hl
  exact tx_vret dX4_takes_344 rfl ⟨rfl, rfl⟩
set_option maxHeartbeats 4000000 in
theorem f_takes_J237_s {l : Launch} {E : XEnv} {m : Nat} {ad : Nat → Nat} {h0 : XH} {R : Option Value → TS → Prop} {n : Nat}  {S : TS} {o : (TS) ⊕ ((TS))} (hl : f_takes_J237 n  S = some o) (hK : (xk (fun s : TS => TX l E mX4_takes 2 187 [(0, .ref m)] [] m ad h0 s R) (fun r => K_takes_L187 l E m ad h0 R S r) o)) : TX l E mX4_takes 2 237 [(0, .ref m)] [] m ad h0 S R := by
  unfold f_takes_J237 at hl
  refine tx_aload_n dX4_takes_237 rfl rfl ?_
  refine tx_dup dX4_takes_238 rfl ?_
  refine tx_getI gF_X4_124 dX4_takes_239 (by decide) ?_
  refine tx_iconst (v := 1) dX4_takes_242 rfl ?_
  refine tx_iadd dX4_takes_243 ?_
  obtain ⟨S43, eS43, hl⟩ := xb hl
  refine tx_putI pF_X4_124 dX4_takes_244 (by decide) rfl rfl (Option.some.inj eS43) ?_
  refine tx_goto (tgt := 187) dX4_takes_247 (by decide) ?_
  cases hl
  exact tx_lsK hK ⟨rfl, trivial⟩
set_option maxHeartbeats 4000000 in
theorem f_takes_L187_s {l : Launch} {E : XEnv} {m : Nat} {ad : Nat → Nat} {h0 : XH} {R : Option Value → TS → Prop} {n : Nat}  {S : TS} {o : (TS) ⊕ ((TS))} (hl : f_takes_L187 n  S = some o) (hK : (xk (fun s : TS => TX l E mX4_takes 2 187 [(0, .ref m)] [] m ad h0 s R) (fun r => K_takes_L187 l E m ad h0 R S r) o)) : TX l E mX4_takes 2 187 [(0, .ref m)] [] m ad h0 S R := by
  unfold f_takes_L187 at hl
  refine tx_aload_n dX4_takes_187 rfl rfl ?_
  refine tx_aload_n dX4_takes_188 rfl rfl ?_
  refine tx_getI gF_X4_124 dX4_takes_189 (by decide) ?_
  obtain ⟨r39, er39, hl⟩ := xb hl
  refine tx_callV (T_byteAt er39) lV_X4_127 C_X4_byteAt rfl dX4_takes_192 rfl (by decide) (Nat.le_of_ble_eq_true rfl) ?_
  obtain ⟨r40, er40, hl⟩ := xb hl
  refine tx_callS (T_isDigit er40) lS_X4_151 C_X4_isDigit dX4_takes_195 rfl (by decide) (Nat.le_of_ble_eq_true rfl) ?_
  refine tx_if_eq (tgt := 250) dX4_takes_198 (by decide) (fun c41 => ?_) (fun c41 => ?_)
  · rw [if_pos c41] at hl
    cases hl
    exact tx_lsK hK ⟨rfl, trivial⟩
  · rw [if_neg c41] at hl
    refine tx_aload_n dX4_takes_201 rfl rfl ?_
    refine tx_getI gF_X4_124 dX4_takes_202 (by decide) ?_
    refine tx_aload_n dX4_takes_205 rfl rfl ?_
    refine tx_getI gF_X4_131 dX4_takes_206 (by decide) ?_
    refine tx_isub dX4_takes_209 ?_
    refine tx_iconst (v := 4) dX4_takes_210 rfl ?_
    refine tx_icmp_ge (tgt := 237) dX4_takes_211 (by decide) (fun c42 => ?_) (fun c42 => ?_)
    · rw [if_pos c42] at hl
      exact tx_lsK (f_takes_J237_s hl hK) ⟨rfl, trivial⟩
    · rw [if_neg c42] at hl
      refine tx_aload_n dX4_takes_214 rfl rfl ?_
      refine tx_bipush (v := 10) dX4_takes_215 (by decide) ?_
      refine tx_aload_n dX4_takes_217 rfl rfl ?_
      refine tx_getI gF_X4_138 dX4_takes_218 (by decide) ?_
      refine tx_imul dX4_takes_221 ?_
      refine tx_aload_n dX4_takes_222 rfl rfl ?_
      refine tx_aload_n dX4_takes_223 rfl rfl ?_
      refine tx_getI gF_X4_124 dX4_takes_224 (by decide) ?_
      obtain ⟨r44, er44, hl⟩ := xb hl
      refine tx_callV (T_byteAt er44) lV_X4_127 C_X4_byteAt rfl dX4_takes_227 rfl (by decide) (Nat.le_of_ble_eq_true rfl) ?_
      refine tx_iadd dX4_takes_230 ?_
      refine tx_bipush (v := 48) dX4_takes_231 (by decide) ?_
      refine tx_isub dX4_takes_233 ?_
      obtain ⟨S45, eS45, hl⟩ := xb hl
      refine tx_putI pF_X4_138 dX4_takes_234 (by decide) rfl rfl (Option.some.inj eS45) ?_
      exact tx_lsK (f_takes_J237_s hl hK) ⟨rfl, trivial⟩
set_option maxHeartbeats 4000000 in
theorem f_takes_L187_ok {l : Launch} {E : XEnv} {m : Nat} {ad : Nat → Nat} {h0 : XH} {R : Option Value → TS → Prop} {n : Nat}  {S : TS} {s : TS} {o : (TS)} (hl : xloop (fun s => f_takes_L187 n  s) n s = some o) (hK : K_takes_L187 l E m ad h0 R S o) : TX l E mX4_takes 2 187 [(0, .ref m)] [] m ad h0 s R :=
  xloop_of (fun s : TS => TX l E mX4_takes 2 187 [(0, .ref m)] [] m ad h0 s R) (fun r => K_takes_L187 l E m ad h0 R S r) (fun s o hl hk => f_takes_L187_s (S := s) (o := o) hl hk) n s o hl hK
set_option maxHeartbeats 4000000 in
theorem f_takes_J159_s {l : Launch} {E : XEnv} {m : Nat} {ad : Nat → Nat} {h0 : XH} {R : Option Value → TS → Prop} {n : Nat}  {S : TS} {o : (TS) ⊕ ((TS))} (hl : f_takes_J159 n  S = some o) (hK : (xk (fun s : TS => TX l E mX4_takes 2 108 [(0, .ref m)] [] m ad h0 s R) (fun r => K_takes_L108 l E m ad h0 R S r) o)) : TX l E mX4_takes 2 159 [(0, .ref m)] [] m ad h0 S R := by
  unfold f_takes_J159 at hl
  refine tx_aload_n dX4_takes_159 rfl rfl ?_
  refine tx_dup dX4_takes_160 rfl ?_
  refine tx_getI gF_X4_124 dX4_takes_161 (by decide) ?_
  refine tx_iconst (v := 1) dX4_takes_164 rfl ?_
  refine tx_iadd dX4_takes_165 ?_
  obtain ⟨S52, eS52, hl⟩ := xb hl
  refine tx_putI pF_X4_124 dX4_takes_166 (by decide) rfl rfl (Option.some.inj eS52) ?_
  refine tx_goto (tgt := 108) dX4_takes_169 (by decide) ?_
  cases hl
  exact tx_lsK hK ⟨rfl, trivial⟩
set_option maxHeartbeats 4000000 in
theorem f_takes_L108_s {l : Launch} {E : XEnv} {m : Nat} {ad : Nat → Nat} {h0 : XH} {R : Option Value → TS → Prop} {n : Nat}  {S : TS} {o : (TS) ⊕ ((TS))} (hl : f_takes_L108 n  S = some o) (hK : (xk (fun s : TS => TX l E mX4_takes 2 108 [(0, .ref m)] [] m ad h0 s R) (fun r => K_takes_L108 l E m ad h0 R S r) o)) : TX l E mX4_takes 2 108 [(0, .ref m)] [] m ad h0 S R := by
  unfold f_takes_L108 at hl
  refine tx_aload_n dX4_takes_108 rfl rfl ?_
  refine tx_aload_n dX4_takes_109 rfl rfl ?_
  refine tx_getI gF_X4_124 dX4_takes_110 (by decide) ?_
  obtain ⟨r48, er48, hl⟩ := xb hl
  refine tx_callV (T_byteAt er48) lV_X4_127 C_X4_byteAt rfl dX4_takes_113 rfl (by decide) (Nat.le_of_ble_eq_true rfl) ?_
  obtain ⟨r49, er49, hl⟩ := xb hl
  refine tx_callS (T_isLetter er49) lS_X4_147 C_X4_isLetter dX4_takes_116 rfl (by decide) (Nat.le_of_ble_eq_true rfl) ?_
  refine tx_if_eq (tgt := 172) dX4_takes_119 (by decide) (fun c50 => ?_) (fun c50 => ?_)
  · rw [if_pos c50] at hl
    cases hl
    exact tx_lsK hK ⟨rfl, trivial⟩
  · rw [if_neg c50] at hl
    refine tx_aload_n dX4_takes_122 rfl rfl ?_
    refine tx_getI gF_X4_124 dX4_takes_123 (by decide) ?_
    refine tx_aload_n dX4_takes_126 rfl rfl ?_
    refine tx_getI gF_X4_131 dX4_takes_127 (by decide) ?_
    refine tx_isub dX4_takes_130 ?_
    refine tx_bipush (v := 6) dX4_takes_131 (by decide) ?_
    refine tx_icmp_ge (tgt := 159) dX4_takes_133 (by decide) (fun c51 => ?_) (fun c51 => ?_)
    · rw [if_pos c51] at hl
      exact tx_lsK (f_takes_J159_s hl hK) ⟨rfl, trivial⟩
    · rw [if_neg c51] at hl
      refine tx_aload_n dX4_takes_136 rfl rfl ?_
      refine tx_aload_n dX4_takes_137 rfl rfl ?_
      refine tx_getJ gF_X4_134 dX4_takes_138 ?_
      refine tx_iconst (v := 5) dX4_takes_141 rfl ?_
      refine tx_lshl dX4_takes_142 ?_
      refine tx_aload_n dX4_takes_143 rfl rfl ?_
      refine tx_aload_n dX4_takes_144 rfl rfl ?_
      refine tx_getI gF_X4_124 dX4_takes_145 (by decide) ?_
      obtain ⟨r53, er53, hl⟩ := xb hl
      refine tx_callV (T_byteAt er53) lV_X4_127 C_X4_byteAt rfl dX4_takes_148 rfl (by decide) (Nat.le_of_ble_eq_true rfl) ?_
      refine tx_bipush (v := 96) dX4_takes_151 (by decide) ?_
      refine tx_isub dX4_takes_153 ?_
      refine tx_i2l dX4_takes_154 ?_
      refine tx_lor dX4_takes_155 ?_
      obtain ⟨S54, eS54, hl⟩ := xb hl
      refine tx_putJ pF_X4_134 dX4_takes_156 (Option.some.inj eS54) ?_
      exact tx_lsK (f_takes_J159_s hl hK) ⟨rfl, trivial⟩
set_option maxHeartbeats 4000000 in
theorem f_takes_L108_ok {l : Launch} {E : XEnv} {m : Nat} {ad : Nat → Nat} {h0 : XH} {R : Option Value → TS → Prop} {n : Nat}  {S : TS} {s : TS} {o : (TS)} (hl : xloop (fun s => f_takes_L108 n  s) n s = some o) (hK : K_takes_L108 l E m ad h0 R S o) : TX l E mX4_takes 2 108 [(0, .ref m)] [] m ad h0 s R :=
  xloop_of (fun s : TS => TX l E mX4_takes 2 108 [(0, .ref m)] [] m ad h0 s R) (fun r => K_takes_L108 l E m ad h0 R S r) (fun s o hl hk => f_takes_L108_s (S := s) (o := o) hl hk) n s o hl hK
set_option maxHeartbeats 4000000 in
theorem f_takes_J50_s {l : Launch} {E : XEnv} {m : Nat} {ad : Nat → Nat} {h0 : XH} {n : Nat}  {S : TS} {S' : TS} (hl : f_takes_J50 n  S = some S') : TX l E mX4_takes 2 50 [(0, .ref m)] [] m ad h0 S (fun v' S'' => v' = none ∧ S'' = S') := by
  unfold f_takes_J50 at hl
  refine tx_aload_n dX4_takes_50 rfl rfl ?_
  refine tx_aload_n dX4_takes_51 rfl rfl ?_
  refine tx_getI gF_X4_124 dX4_takes_52 (by decide) ?_
  obtain ⟨S8, eS8, hl⟩ := xb hl
  refine tx_putI pF_X4_131 dX4_takes_55 (by decide) rfl rfl (Option.some.inj eS8) ?_
  refine tx_aload_n dX4_takes_58 rfl rfl ?_
  refine tx_lconst (v := 0) dX4_takes_59 rfl ?_
  obtain ⟨S9, eS9, hl⟩ := xb hl
  refine tx_putJ pF_X4_134 dX4_takes_60 (Option.some.inj eS9) ?_
  refine tx_aload_n dX4_takes_63 rfl rfl ?_
  refine tx_iconst (v := 0) dX4_takes_64 rfl ?_
  obtain ⟨S10, eS10, hl⟩ := xb hl
  refine tx_putI pF_X4_138 dX4_takes_65 (by decide) rfl rfl (Option.some.inj eS10) ?_
  refine tx_aload_n dX4_takes_68 rfl rfl ?_
  refine tx_aload_n dX4_takes_69 rfl rfl ?_
  refine tx_getI gF_X4_124 dX4_takes_70 (by decide) ?_
  obtain ⟨r11, er11, hl⟩ := xb hl
  refine tx_callV (T_byteAt er11) lV_X4_127 C_X4_byteAt rfl dX4_takes_73 rfl (by decide) (Nat.le_of_ble_eq_true rfl) ?_
  refine tx_istore_n dX4_takes_76 (by decide) ?_
  refine tx_aload_n dX4_takes_77 rfl rfl ?_
  refine tx_iload_n dX4_takes_78 rfl ?_
  obtain ⟨S12, eS12, hl⟩ := xb hl
  refine tx_putI pF_X4_141 dX4_takes_79 (by decide) rfl rfl (Option.some.inj eS12) ?_
  refine tx_aload_n dX4_takes_82 rfl rfl ?_
  refine tx_getI gF_X4_124 dX4_takes_83 (by decide) ?_
  refine tx_aload_n dX4_takes_86 rfl rfl ?_
  refine tx_getI gF_X4_121 dX4_takes_87 (by decide) ?_
  refine tx_icmp_lt (tgt := 101) dX4_takes_90 (by decide) (fun c13 => ?_) (fun c13 => ?_)
  · rw [if_pos c13] at hl
    refine tx_iload_n dX4_takes_101 rfl ?_
    obtain ⟨r14, er14, hl⟩ := xb hl
    refine tx_callS (T_isLetter er14) lS_X4_147 C_X4_isLetter dX4_takes_102 rfl (by decide) (Nat.le_of_ble_eq_true rfl) ?_
    refine tx_if_eq (tgt := 180) dX4_takes_105 (by decide) (fun c15 => ?_) (fun c15 => ?_)
    · rw [if_pos c15] at hl
      refine tx_iload_n dX4_takes_180 rfl ?_
      obtain ⟨r16, er16, hl⟩ := xb hl
      refine tx_callS (T_isDigit er16) lS_X4_151 C_X4_isDigit dX4_takes_181 rfl (by decide) (Nat.le_of_ble_eq_true rfl) ?_
      refine tx_if_eq (tgt := 258) dX4_takes_184 (by decide) (fun c17 => ?_) (fun c17 => ?_)
      · rw [if_pos c17] at hl
        refine tx_aload_n dX4_takes_258 rfl rfl ?_
        refine tx_dup dX4_takes_259 rfl ?_
        refine tx_getI gF_X4_124 dX4_takes_260 (by decide) ?_
        refine tx_iconst (v := 1) dX4_takes_263 rfl ?_
        refine tx_iadd dX4_takes_264 ?_
        obtain ⟨S18, eS18, hl⟩ := xb hl
        refine tx_putI pF_X4_124 dX4_takes_265 (by decide) rfl rfl (Option.some.inj eS18) ?_
        refine tx_aload_n dX4_takes_268 rfl rfl ?_
        refine tx_iload_n dX4_takes_269 rfl ?_
        refine tx_bipush (v := 59) dX4_takes_270 (by decide) ?_
        refine tx_icmp_eq (tgt := 323) dX4_takes_272 (by decide) (fun c19 => ?_) (fun c19 => ?_)
        · rw [if_pos c19] at hl
          refine tx_iconst (v := 3) dX4_takes_323 rfl ?_
          refine tx_goto (tgt := 328) dX4_takes_324 (by decide) ?_
          obtain ⟨S20, eS20, hl⟩ := xb hl
          refine tx_putI pF_X4_144 dX4_takes_328 (by decide) rfl rfl (Option.some.inj eS20) ?_
          exact tx_lsK (f_takes_J331_s hl) ⟨rfl, trivial⟩
        · rw [if_neg c19] at hl
          refine tx_iload_n dX4_takes_275 rfl ?_
          refine tx_bipush (v := 40) dX4_takes_276 (by decide) ?_
          refine tx_icmp_eq (tgt := 323) dX4_takes_278 (by decide) (fun c22 => ?_) (fun c22 => ?_)
          · rw [if_pos c22] at hl
            refine tx_iconst (v := 3) dX4_takes_323 rfl ?_
            refine tx_goto (tgt := 328) dX4_takes_324 (by decide) ?_
            obtain ⟨S23, eS23, hl⟩ := xb hl
            refine tx_putI pF_X4_144 dX4_takes_328 (by decide) rfl rfl (Option.some.inj eS23) ?_
            exact tx_lsK (f_takes_J331_s hl) ⟨rfl, trivial⟩
          · rw [if_neg c22] at hl
            refine tx_iload_n dX4_takes_281 rfl ?_
            refine tx_bipush (v := 41) dX4_takes_282 (by decide) ?_
            refine tx_icmp_eq (tgt := 323) dX4_takes_284 (by decide) (fun c24 => ?_) (fun c24 => ?_)
            · rw [if_pos c24] at hl
              refine tx_iconst (v := 3) dX4_takes_323 rfl ?_
              refine tx_goto (tgt := 328) dX4_takes_324 (by decide) ?_
              obtain ⟨S25, eS25, hl⟩ := xb hl
              refine tx_putI pF_X4_144 dX4_takes_328 (by decide) rfl rfl (Option.some.inj eS25) ?_
              exact tx_lsK (f_takes_J331_s hl) ⟨rfl, trivial⟩
            · rw [if_neg c24] at hl
              refine tx_iload_n dX4_takes_287 rfl ?_
              refine tx_bipush (v := 43) dX4_takes_288 (by decide) ?_
              refine tx_icmp_eq (tgt := 323) dX4_takes_290 (by decide) (fun c26 => ?_) (fun c26 => ?_)
              · rw [if_pos c26] at hl
                refine tx_iconst (v := 3) dX4_takes_323 rfl ?_
                refine tx_goto (tgt := 328) dX4_takes_324 (by decide) ?_
                obtain ⟨S27, eS27, hl⟩ := xb hl
                refine tx_putI pF_X4_144 dX4_takes_328 (by decide) rfl rfl (Option.some.inj eS27) ?_
                exact tx_lsK (f_takes_J331_s hl) ⟨rfl, trivial⟩
              · rw [if_neg c26] at hl
                refine tx_iload_n dX4_takes_293 rfl ?_
                refine tx_bipush (v := 45) dX4_takes_294 (by decide) ?_
                refine tx_icmp_eq (tgt := 323) dX4_takes_296 (by decide) (fun c28 => ?_) (fun c28 => ?_)
                · rw [if_pos c28] at hl
                  refine tx_iconst (v := 3) dX4_takes_323 rfl ?_
                  refine tx_goto (tgt := 328) dX4_takes_324 (by decide) ?_
                  obtain ⟨S29, eS29, hl⟩ := xb hl
                  refine tx_putI pF_X4_144 dX4_takes_328 (by decide) rfl rfl (Option.some.inj eS29) ?_
                  exact tx_lsK (f_takes_J331_s hl) ⟨rfl, trivial⟩
                · rw [if_neg c28] at hl
                  refine tx_iload_n dX4_takes_299 rfl ?_
                  refine tx_bipush (v := 42) dX4_takes_300 (by decide) ?_
                  refine tx_icmp_eq (tgt := 323) dX4_takes_302 (by decide) (fun c30 => ?_) (fun c30 => ?_)
                  · rw [if_pos c30] at hl
                    refine tx_iconst (v := 3) dX4_takes_323 rfl ?_
                    refine tx_goto (tgt := 328) dX4_takes_324 (by decide) ?_
                    obtain ⟨S31, eS31, hl⟩ := xb hl
                    refine tx_putI pF_X4_144 dX4_takes_328 (by decide) rfl rfl (Option.some.inj eS31) ?_
                    exact tx_lsK (f_takes_J331_s hl) ⟨rfl, trivial⟩
                  · rw [if_neg c30] at hl
                    refine tx_iload_n dX4_takes_305 rfl ?_
                    refine tx_bipush (v := 47) dX4_takes_306 (by decide) ?_
                    refine tx_icmp_eq (tgt := 323) dX4_takes_308 (by decide) (fun c32 => ?_) (fun c32 => ?_)
                    · rw [if_pos c32] at hl
                      refine tx_iconst (v := 3) dX4_takes_323 rfl ?_
                      refine tx_goto (tgt := 328) dX4_takes_324 (by decide) ?_
                      obtain ⟨S33, eS33, hl⟩ := xb hl
                      refine tx_putI pF_X4_144 dX4_takes_328 (by decide) rfl rfl (Option.some.inj eS33) ?_
                      exact tx_lsK (f_takes_J331_s hl) ⟨rfl, trivial⟩
                    · rw [if_neg c32] at hl
                      refine tx_iload_n dX4_takes_311 rfl ?_
                      refine tx_bipush (v := 60) dX4_takes_312 (by decide) ?_
                      refine tx_icmp_eq (tgt := 323) dX4_takes_314 (by decide) (fun c34 => ?_) (fun c34 => ?_)
                      · rw [if_pos c34] at hl
                        refine tx_iconst (v := 3) dX4_takes_323 rfl ?_
                        refine tx_goto (tgt := 328) dX4_takes_324 (by decide) ?_
                        obtain ⟨S35, eS35, hl⟩ := xb hl
                        refine tx_putI pF_X4_144 dX4_takes_328 (by decide) rfl rfl (Option.some.inj eS35) ?_
                        exact tx_lsK (f_takes_J331_s hl) ⟨rfl, trivial⟩
                      · rw [if_neg c34] at hl
                        refine tx_iload_n dX4_takes_317 rfl ?_
                        refine tx_bipush (v := 61) dX4_takes_318 (by decide) ?_
                        refine tx_icmp_ne (tgt := 327) dX4_takes_320 (by decide) (fun c36 => ?_) (fun c36 => ?_)
                        · rw [if_neg c36] at hl
                          refine tx_iconst (v := 4) dX4_takes_327 rfl ?_
                          obtain ⟨S37, eS37, hl⟩ := xb hl
                          refine tx_putI pF_X4_144 dX4_takes_328 (by decide) rfl rfl (Option.some.inj eS37) ?_
                          exact tx_lsK (f_takes_J331_s hl) ⟨rfl, trivial⟩
                        · rw [if_pos c36] at hl
                          refine tx_iconst (v := 3) dX4_takes_323 rfl ?_
                          refine tx_goto (tgt := 328) dX4_takes_324 (by decide) ?_
                          obtain ⟨S38, eS38, hl⟩ := xb hl
                          refine tx_putI pF_X4_144 dX4_takes_328 (by decide) rfl rfl (Option.some.inj eS38) ?_
                          exact tx_lsK (f_takes_J331_s hl) ⟨rfl, trivial⟩
      · rw [if_neg c17] at hl
        obtain ⟨o46, eo46, hl⟩ := xb hl
        refine tx_lsK (f_takes_L187_ok (S := S12) (s := S12) eo46 ?_) ⟨rfl, trivial⟩
        refine tx_aload_n dX4_takes_250 rfl rfl ?_
        refine tx_iconst (v := 2) dX4_takes_251 rfl ?_
        obtain ⟨S47, eS47, hl⟩ := xb hl
        refine tx_putI pF_X4_144 dX4_takes_252 (by decide) rfl rfl (Option.some.inj eS47) ?_
        refine tx_goto (tgt := 331) dX4_takes_255 (by decide) ?_
        exact tx_lsK (f_takes_J331_s hl) ⟨rfl, trivial⟩
    · rw [if_neg c15] at hl
      obtain ⟨o55, eo55, hl⟩ := xb hl
      refine tx_lsK (f_takes_L108_ok (S := S12) (s := S12) eo55 ?_) ⟨rfl, trivial⟩
      refine tx_aload_n dX4_takes_172 rfl rfl ?_
      refine tx_iconst (v := 1) dX4_takes_173 rfl ?_
      obtain ⟨S56, eS56, hl⟩ := xb hl
      refine tx_putI pF_X4_144 dX4_takes_174 (by decide) rfl rfl (Option.some.inj eS56) ?_
      refine tx_goto (tgt := 331) dX4_takes_177 (by decide) ?_
      exact tx_lsK (f_takes_J331_s hl) ⟨rfl, trivial⟩
  · rw [if_neg c13] at hl
    refine tx_aload_n dX4_takes_93 rfl rfl ?_
    refine tx_iconst (v := 0) dX4_takes_94 rfl ?_
    obtain ⟨S57, eS57, hl⟩ := xb hl
    refine tx_putI pF_X4_144 dX4_takes_95 (by decide) rfl rfl (Option.some.inj eS57) ?_
    refine tx_goto (tgt := 331) dX4_takes_98 (by decide) ?_
    exact tx_lsK (f_takes_J331_s hl) ⟨rfl, trivial⟩
set_option maxHeartbeats 4000000 in
theorem T_takes {l : Launch} {E : XEnv} {m : Nat} {ad : Nat → Nat} {n : Nat}  {S : TS} {S' : TS} (hl : f_takes n  S = some S') : TM l E mX4_takes 2 m ad [.ref m] S none S' := by
  unfold f_takes at hl
  refine tm_of (by decide +kernel) rfl (Nat.le_of_ble_eq_true rfl) fun h0 => ?_
  obtain ⟨o7, eo7, hl⟩ := xb hl
  refine tx_lsK (f_takes_L0_ok (S := S) (s := S) eo7 ?_) ⟨rfl, trivial⟩
  exact tx_lsK (f_takes_J50_s hl) ⟨rfl, trivial⟩
def f_isGood  (S : TS) : Option (Int32) := if (S.1 13) = 0 then some 1 else some 0
set_option maxHeartbeats 4000000 in
theorem T_isGood {l : Launch} {E : XEnv} {m : Nat} {ad : Nat → Nat}  {S : TS} {r : Int32} (hl : f_isGood  S = some r) : TM l E mX4_isGood 1 m ad [.ref m] S (some (.int r)) S := by
  unfold f_isGood at hl
  refine tm_of (by decide +kernel) rfl (Nat.le_of_ble_eq_true rfl) fun h0 => ?_
  refine tx_aload_n dX4_isGood_0 rfl rfl ?_
  refine tx_getI gF_X4_167 dX4_isGood_1 (by decide) ?_
  refine tx_if_ne (tgt := 11) dX4_isGood_4 (by decide) (fun c1 => ?_) (fun c1 => ?_)
  · rw [if_neg c1] at hl
    refine tx_iconst (v := 0) dX4_isGood_11 rfl ?_
    cases hl
    exact tx_iret dX4_isGood_12 rfl rfl ⟨rfl, rfl⟩
  · rw [if_pos c1] at hl
    refine tx_iconst (v := 1) dX4_isGood_7 rfl ?_
    refine tx_goto (tgt := 12) dX4_isGood_8 (by decide) ?_
    cases hl
    exact tx_iret dX4_isGood_12 rfl rfl ⟨rfl, rfl⟩
def f_spelled_J66 (x5 : Int32) (x6 : Int64) : Option (Int64) := if x5 = 0 then some x6 else (some ((x6 <<< ((5 : Int32).toInt64 &&& 63)) ||| (((x5 - 96) : Int32).toInt64))).bind fun w6 => some w6
def f_spelled_J48 (x4 : Int32) (x5 : Int32) (x6 : Int64) : Option (Int64) := if x4 = 0 then f_spelled_J66 x5 x6 else (some ((x6 <<< ((5 : Int32).toInt64 &&& 63)) ||| (((x4 - 96) : Int32).toInt64))).bind fun w7 => f_spelled_J66 x5 w7
def f_spelled_J32 (x3 : Int32) (x4 : Int32) (x5 : Int32) (x6 : Int64) : Option (Int64) := if x3 = 0 then f_spelled_J48 x4 x5 x6 else (some ((x6 <<< ((5 : Int32).toInt64 &&& 63)) ||| (((x3 - 96) : Int32).toInt64))).bind fun w8 => f_spelled_J48 x4 x5 w8
def f_spelled (x0 : Int32) (x1 : Int32) (x2 : Int32) (x3 : Int32) (x4 : Int32) (x5 : Int32) : Option (Int64) := (some (((((x0 : Int32).toInt64) - 96) <<< ((5 : Int32).toInt64 &&& 63)) ||| (((x1 - 96) : Int32).toInt64))).bind fun w1 => if x2 = 0 then f_spelled_J32 x3 x4 x5 w1 else (some ((w1 <<< ((5 : Int32).toInt64 &&& 63)) ||| (((x2 - 96) : Int32).toInt64))).bind fun w9 => f_spelled_J32 x3 x4 x5 w9
set_option maxHeartbeats 4000000 in
theorem f_spelled_J66_s {l : Launch} {E : XEnv} {m : Nat} {ad : Nat → Nat} {h0 : XH} {x5 : Int32} {x6 : Int64} {S : TS} {r : Int64} (hl : f_spelled_J66 x5 x6 = some r) : TX l E mX4_spelled 1 66 [(5, .int x5), (6, .long x6)] [] m ad h0 S (fun v' S'' => v' = some (.long r) ∧ S'' = S) := by
  unfold f_spelled_J66 at hl
  refine tx_iload dX4_spelled_66 rfl ?_
  refine tx_if_eq (tgt := 84) dX4_spelled_68 (by decide) (fun c5 => ?_) (fun c5 => ?_)
  · rw [if_pos c5] at hl
    refine tx_lload dX4_spelled_84 rfl ?_
    cases hl
    exact tx_lret dX4_spelled_86 rfl ⟨rfl, rfl⟩
  · rw [if_neg c5] at hl
    refine tx_lload dX4_spelled_71 rfl ?_
    refine tx_iconst (v := 5) dX4_spelled_73 rfl ?_
    refine tx_lshl dX4_spelled_74 ?_
    refine tx_iload dX4_spelled_75 rfl ?_
    refine tx_bipush (v := 96) dX4_spelled_77 (by decide) ?_
    refine tx_isub dX4_spelled_79 ?_
    refine tx_i2l dX4_spelled_80 ?_
    refine tx_lor dX4_spelled_81 ?_
    obtain ⟨w6, ew6, hl⟩ := xb hl
    refine tx_topl (Option.some.inj ew6) ?_
    refine tx_lstore dX4_spelled_82 (by decide) ?_
    refine tx_lload dX4_spelled_84 rfl ?_
    cases hl
    exact tx_lret dX4_spelled_86 rfl ⟨rfl, rfl⟩
set_option maxHeartbeats 4000000 in
theorem f_spelled_J48_s {l : Launch} {E : XEnv} {m : Nat} {ad : Nat → Nat} {h0 : XH} {x4 : Int32} {x5 : Int32} {x6 : Int64} {S : TS} {r : Int64} (hl : f_spelled_J48 x4 x5 x6 = some r) : TX l E mX4_spelled 1 48 [(4, .int x4), (5, .int x5), (6, .long x6)] [] m ad h0 S (fun v' S'' => v' = some (.long r) ∧ S'' = S) := by
  unfold f_spelled_J48 at hl
  refine tx_iload dX4_spelled_48 rfl ?_
  refine tx_if_eq (tgt := 66) dX4_spelled_50 (by decide) (fun c4 => ?_) (fun c4 => ?_)
  · rw [if_pos c4] at hl
    exact tx_lsK (f_spelled_J66_s hl) ⟨rfl, rfl, trivial⟩
  · rw [if_neg c4] at hl
    refine tx_lload dX4_spelled_53 rfl ?_
    refine tx_iconst (v := 5) dX4_spelled_55 rfl ?_
    refine tx_lshl dX4_spelled_56 ?_
    refine tx_iload dX4_spelled_57 rfl ?_
    refine tx_bipush (v := 96) dX4_spelled_59 (by decide) ?_
    refine tx_isub dX4_spelled_61 ?_
    refine tx_i2l dX4_spelled_62 ?_
    refine tx_lor dX4_spelled_63 ?_
    obtain ⟨w7, ew7, hl⟩ := xb hl
    refine tx_topl (Option.some.inj ew7) ?_
    refine tx_lstore dX4_spelled_64 (by decide) ?_
    exact tx_lsK (f_spelled_J66_s hl) ⟨rfl, rfl, trivial⟩
set_option maxHeartbeats 4000000 in
theorem f_spelled_J32_s {l : Launch} {E : XEnv} {m : Nat} {ad : Nat → Nat} {h0 : XH} {x3 : Int32} {x4 : Int32} {x5 : Int32} {x6 : Int64} {S : TS} {r : Int64} (hl : f_spelled_J32 x3 x4 x5 x6 = some r) : TX l E mX4_spelled 1 32 [(3, .int x3), (4, .int x4), (5, .int x5), (6, .long x6)] [] m ad h0 S (fun v' S'' => v' = some (.long r) ∧ S'' = S) := by
  unfold f_spelled_J32 at hl
  refine tx_iload_n dX4_spelled_32 rfl ?_
  refine tx_if_eq (tgt := 48) dX4_spelled_33 (by decide) (fun c3 => ?_) (fun c3 => ?_)
  · rw [if_pos c3] at hl
    exact tx_lsK (f_spelled_J48_s hl) ⟨rfl, rfl, rfl, trivial⟩
  · rw [if_neg c3] at hl
    refine tx_lload dX4_spelled_36 rfl ?_
    refine tx_iconst (v := 5) dX4_spelled_38 rfl ?_
    refine tx_lshl dX4_spelled_39 ?_
    refine tx_iload_n dX4_spelled_40 rfl ?_
    refine tx_bipush (v := 96) dX4_spelled_41 (by decide) ?_
    refine tx_isub dX4_spelled_43 ?_
    refine tx_i2l dX4_spelled_44 ?_
    refine tx_lor dX4_spelled_45 ?_
    obtain ⟨w8, ew8, hl⟩ := xb hl
    refine tx_topl (Option.some.inj ew8) ?_
    refine tx_lstore dX4_spelled_46 (by decide) ?_
    exact tx_lsK (f_spelled_J48_s hl) ⟨rfl, rfl, rfl, trivial⟩
set_option maxHeartbeats 4000000 in
theorem T_spelled {l : Launch} {E : XEnv} {m : Nat} {ad : Nat → Nat} {x0 : Int32} {x1 : Int32} {x2 : Int32} {x3 : Int32} {x4 : Int32} {x5 : Int32} {S : TS} {r : Int64} (hl : f_spelled x0 x1 x2 x3 x4 x5 = some r) : TM l E mX4_spelled 1 m ad [.int x0, .int x1, .int x2, .int x3, .int x4, .int x5] S (some (.long r)) S := by
  unfold f_spelled at hl
  refine tm_of (by decide +kernel) rfl (Nat.le_of_ble_eq_true rfl) fun h0 => ?_
  refine tx_iload_n dX4_spelled_0 rfl ?_
  refine tx_i2l dX4_spelled_1 ?_
  refine tx_ldc2 (v := 96) q1870 dX4_spelled_2 ?_
  refine tx_lsub dX4_spelled_5 ?_
  refine tx_iconst (v := 5) dX4_spelled_6 rfl ?_
  refine tx_lshl dX4_spelled_7 ?_
  refine tx_iload_n dX4_spelled_8 rfl ?_
  refine tx_bipush (v := 96) dX4_spelled_9 (by decide) ?_
  refine tx_isub dX4_spelled_11 ?_
  refine tx_i2l dX4_spelled_12 ?_
  refine tx_lor dX4_spelled_13 ?_
  obtain ⟨w1, ew1, hl⟩ := xb hl
  refine tx_topl (Option.some.inj ew1) ?_
  refine tx_lstore dX4_spelled_14 (by decide) ?_
  refine tx_iload_n dX4_spelled_16 rfl ?_
  refine tx_if_eq (tgt := 32) dX4_spelled_17 (by decide) (fun c2 => ?_) (fun c2 => ?_)
  · rw [if_pos c2] at hl
    exact tx_lsK (f_spelled_J32_s hl) ⟨rfl, rfl, rfl, rfl, trivial⟩
  · rw [if_neg c2] at hl
    refine tx_lload dX4_spelled_20 rfl ?_
    refine tx_iconst (v := 5) dX4_spelled_22 rfl ?_
    refine tx_lshl dX4_spelled_23 ?_
    refine tx_iload_n dX4_spelled_24 rfl ?_
    refine tx_bipush (v := 96) dX4_spelled_25 (by decide) ?_
    refine tx_isub dX4_spelled_27 ?_
    refine tx_i2l dX4_spelled_28 ?_
    refine tx_lor dX4_spelled_29 ?_
    obtain ⟨w9, ew9, hl⟩ := xb hl
    refine tx_topl (Option.some.inj ew9) ?_
    refine tx_lstore dX4_spelled_30 (by decide) ?_
    exact tx_lsK (f_spelled_J32_s hl) ⟨rfl, rfl, rfl, rfl, trivial⟩
def f_letters (x0 : Int32) : Option (Int64) := if x0.toInt < 0 ∨ 13 < x0.toInt then (f_spelled 110 111 116 0 0 0).bind fun r1 => some r1 else if x0 = 0 then (f_spelled 104 101 101 108 0 0).bind fun r4 => some r4 else if x0 = 1 then (f_spelled 115 105 122 101 0 0).bind fun r6 => some r6 else if x0 = 2 then (f_spelled 103 105 118 101 0 0).bind fun r8 => some r8 else if x0 = 3 then (f_spelled 119 111 114 110 0 0).bind fun r10 => some r10 else if x0 = 4 then (f_spelled 100 97 109 112 0 0).bind fun r12 => some r12 else if x0 = 5 then (f_spelled 100 97 121 0 0 0).bind fun r14 => some r14 else if x0 = 6 then (f_spelled 116 105 103 104 116 0).bind fun r16 => some r16 else if x0 = 7 then (f_spelled 104 111 117 115 101 0).bind fun r18 => some r18 else if x0 = 8 then (f_spelled 112 101 114 115 111 110).bind fun r20 => some r20 else if x0 = 9 then (f_spelled 105 110 0 0 0 0).bind fun r22 => some r22 else if x0 = 10 then (f_spelled 101 97 115 101 115 0).bind fun r24 => some r24 else if x0 = 11 then (f_spelled 98 117 114 115 116 115).bind fun r26 => some r26 else if x0 = 12 then (f_spelled 97 110 100 0 0 0).bind fun r28 => some r28 else if x0 = 13 then (f_spelled 111 114 0 0 0 0).bind fun r30 => some r30 else none
set_option maxHeartbeats 4000000 in
theorem T_letters {l : Launch} {E : XEnv} {m : Nat} {ad : Nat → Nat} {x0 : Int32} {S : TS} {r : Int64} (hl : f_letters x0 = some r) : TM l E mX4_letters 2 m ad [.int x0] S (some (.long r)) S := by
  unfold f_letters at hl
  refine tm_of (by decide +kernel) rfl (Nat.le_of_ble_eq_true rfl) fun h0 => ?_
  refine tx_iload_n dX4_letters_0 rfl ?_
  by_cases c2 : x0.toInt < 0 ∨ 13 < x0.toInt
  · rw [if_pos c2] at hl
    refine tx_tableOut (tgt := 269) dX4_letters_1 c2 (by decide) ?_
    refine tx_bipush (v := 110) dX4_letters_269 (by decide) ?_
    refine tx_bipush (v := 111) dX4_letters_271 (by decide) ?_
    refine tx_bipush (v := 116) dX4_letters_273 (by decide) ?_
    refine tx_iconst (v := 0) dX4_letters_275 rfl ?_
    refine tx_iconst (v := 0) dX4_letters_276 rfl ?_
    refine tx_iconst (v := 0) dX4_letters_277 rfl ?_
    obtain ⟨r1, er1, hl⟩ := xb hl
    refine tx_callS (T_spelled er1) lS_X4_159 C_X4_spelled dX4_letters_278 rfl (by decide) (Nat.le_of_ble_eq_true rfl) ?_
    cases hl
    exact tx_lret dX4_letters_281 rfl ⟨rfl, rfl⟩
  rw [if_neg c2] at hl
  by_cases k3 : x0 = 0
  · rw [if_pos k3] at hl
    refine tx_tableIn (off := 71) (tgt := 72) dX4_letters_1 (by rw [k3]; decide) (by rw [k3]; decide) (by rw [k3]; rfl) (by decide) ?_
    refine tx_bipush (v := 104) dX4_letters_72 (by decide) ?_
    refine tx_bipush (v := 101) dX4_letters_74 (by decide) ?_
    refine tx_bipush (v := 101) dX4_letters_76 (by decide) ?_
    refine tx_bipush (v := 108) dX4_letters_78 (by decide) ?_
    refine tx_iconst (v := 0) dX4_letters_80 rfl ?_
    refine tx_iconst (v := 0) dX4_letters_81 rfl ?_
    obtain ⟨r4, er4, hl⟩ := xb hl
    refine tx_callS (T_spelled er4) lS_X4_159 C_X4_spelled dX4_letters_82 rfl (by decide) (Nat.le_of_ble_eq_true rfl) ?_
    cases hl
    exact tx_lret dX4_letters_85 rfl ⟨rfl, rfl⟩
  rw [if_neg k3] at hl
  by_cases k5 : x0 = 1
  · rw [if_pos k5] at hl
    refine tx_tableIn (off := 85) (tgt := 86) dX4_letters_1 (by rw [k5]; decide) (by rw [k5]; decide) (by rw [k5]; rfl) (by decide) ?_
    refine tx_bipush (v := 115) dX4_letters_86 (by decide) ?_
    refine tx_bipush (v := 105) dX4_letters_88 (by decide) ?_
    refine tx_bipush (v := 122) dX4_letters_90 (by decide) ?_
    refine tx_bipush (v := 101) dX4_letters_92 (by decide) ?_
    refine tx_iconst (v := 0) dX4_letters_94 rfl ?_
    refine tx_iconst (v := 0) dX4_letters_95 rfl ?_
    obtain ⟨r6, er6, hl⟩ := xb hl
    refine tx_callS (T_spelled er6) lS_X4_159 C_X4_spelled dX4_letters_96 rfl (by decide) (Nat.le_of_ble_eq_true rfl) ?_
    cases hl
    exact tx_lret dX4_letters_99 rfl ⟨rfl, rfl⟩
  rw [if_neg k5] at hl
  by_cases k7 : x0 = 2
  · rw [if_pos k7] at hl
    refine tx_tableIn (off := 99) (tgt := 100) dX4_letters_1 (by rw [k7]; decide) (by rw [k7]; decide) (by rw [k7]; rfl) (by decide) ?_
    refine tx_bipush (v := 103) dX4_letters_100 (by decide) ?_
    refine tx_bipush (v := 105) dX4_letters_102 (by decide) ?_
    refine tx_bipush (v := 118) dX4_letters_104 (by decide) ?_
    refine tx_bipush (v := 101) dX4_letters_106 (by decide) ?_
    refine tx_iconst (v := 0) dX4_letters_108 rfl ?_
    refine tx_iconst (v := 0) dX4_letters_109 rfl ?_
    obtain ⟨r8, er8, hl⟩ := xb hl
    refine tx_callS (T_spelled er8) lS_X4_159 C_X4_spelled dX4_letters_110 rfl (by decide) (Nat.le_of_ble_eq_true rfl) ?_
    cases hl
    exact tx_lret dX4_letters_113 rfl ⟨rfl, rfl⟩
  rw [if_neg k7] at hl
  by_cases k9 : x0 = 3
  · rw [if_pos k9] at hl
    refine tx_tableIn (off := 113) (tgt := 114) dX4_letters_1 (by rw [k9]; decide) (by rw [k9]; decide) (by rw [k9]; rfl) (by decide) ?_
    refine tx_bipush (v := 119) dX4_letters_114 (by decide) ?_
    refine tx_bipush (v := 111) dX4_letters_116 (by decide) ?_
    refine tx_bipush (v := 114) dX4_letters_118 (by decide) ?_
    refine tx_bipush (v := 110) dX4_letters_120 (by decide) ?_
    refine tx_iconst (v := 0) dX4_letters_122 rfl ?_
    refine tx_iconst (v := 0) dX4_letters_123 rfl ?_
    obtain ⟨r10, er10, hl⟩ := xb hl
    refine tx_callS (T_spelled er10) lS_X4_159 C_X4_spelled dX4_letters_124 rfl (by decide) (Nat.le_of_ble_eq_true rfl) ?_
    cases hl
    exact tx_lret dX4_letters_127 rfl ⟨rfl, rfl⟩
  rw [if_neg k9] at hl
  by_cases k11 : x0 = 4
  · rw [if_pos k11] at hl
    refine tx_tableIn (off := 127) (tgt := 128) dX4_letters_1 (by rw [k11]; decide) (by rw [k11]; decide) (by rw [k11]; rfl) (by decide) ?_
    refine tx_bipush (v := 100) dX4_letters_128 (by decide) ?_
    refine tx_bipush (v := 97) dX4_letters_130 (by decide) ?_
    refine tx_bipush (v := 109) dX4_letters_132 (by decide) ?_
    refine tx_bipush (v := 112) dX4_letters_134 (by decide) ?_
    refine tx_iconst (v := 0) dX4_letters_136 rfl ?_
    refine tx_iconst (v := 0) dX4_letters_137 rfl ?_
    obtain ⟨r12, er12, hl⟩ := xb hl
    refine tx_callS (T_spelled er12) lS_X4_159 C_X4_spelled dX4_letters_138 rfl (by decide) (Nat.le_of_ble_eq_true rfl) ?_
    cases hl
    exact tx_lret dX4_letters_141 rfl ⟨rfl, rfl⟩
  rw [if_neg k11] at hl
  by_cases k13 : x0 = 5
  · rw [if_pos k13] at hl
    refine tx_tableIn (off := 141) (tgt := 142) dX4_letters_1 (by rw [k13]; decide) (by rw [k13]; decide) (by rw [k13]; rfl) (by decide) ?_
    refine tx_bipush (v := 100) dX4_letters_142 (by decide) ?_
    refine tx_bipush (v := 97) dX4_letters_144 (by decide) ?_
    refine tx_bipush (v := 121) dX4_letters_146 (by decide) ?_
    refine tx_iconst (v := 0) dX4_letters_148 rfl ?_
    refine tx_iconst (v := 0) dX4_letters_149 rfl ?_
    refine tx_iconst (v := 0) dX4_letters_150 rfl ?_
    obtain ⟨r14, er14, hl⟩ := xb hl
    refine tx_callS (T_spelled er14) lS_X4_159 C_X4_spelled dX4_letters_151 rfl (by decide) (Nat.le_of_ble_eq_true rfl) ?_
    cases hl
    exact tx_lret dX4_letters_154 rfl ⟨rfl, rfl⟩
  rw [if_neg k13] at hl
  by_cases k15 : x0 = 6
  · rw [if_pos k15] at hl
    refine tx_tableIn (off := 154) (tgt := 155) dX4_letters_1 (by rw [k15]; decide) (by rw [k15]; decide) (by rw [k15]; rfl) (by decide) ?_
    refine tx_bipush (v := 116) dX4_letters_155 (by decide) ?_
    refine tx_bipush (v := 105) dX4_letters_157 (by decide) ?_
    refine tx_bipush (v := 103) dX4_letters_159 (by decide) ?_
    refine tx_bipush (v := 104) dX4_letters_161 (by decide) ?_
    refine tx_bipush (v := 116) dX4_letters_163 (by decide) ?_
    refine tx_iconst (v := 0) dX4_letters_165 rfl ?_
    obtain ⟨r16, er16, hl⟩ := xb hl
    refine tx_callS (T_spelled er16) lS_X4_159 C_X4_spelled dX4_letters_166 rfl (by decide) (Nat.le_of_ble_eq_true rfl) ?_
    cases hl
    exact tx_lret dX4_letters_169 rfl ⟨rfl, rfl⟩
  rw [if_neg k15] at hl
  by_cases k17 : x0 = 7
  · rw [if_pos k17] at hl
    refine tx_tableIn (off := 169) (tgt := 170) dX4_letters_1 (by rw [k17]; decide) (by rw [k17]; decide) (by rw [k17]; rfl) (by decide) ?_
    refine tx_bipush (v := 104) dX4_letters_170 (by decide) ?_
    refine tx_bipush (v := 111) dX4_letters_172 (by decide) ?_
    refine tx_bipush (v := 117) dX4_letters_174 (by decide) ?_
    refine tx_bipush (v := 115) dX4_letters_176 (by decide) ?_
    refine tx_bipush (v := 101) dX4_letters_178 (by decide) ?_
    refine tx_iconst (v := 0) dX4_letters_180 rfl ?_
    obtain ⟨r18, er18, hl⟩ := xb hl
    refine tx_callS (T_spelled er18) lS_X4_159 C_X4_spelled dX4_letters_181 rfl (by decide) (Nat.le_of_ble_eq_true rfl) ?_
    cases hl
    exact tx_lret dX4_letters_184 rfl ⟨rfl, rfl⟩
  rw [if_neg k17] at hl
  by_cases k19 : x0 = 8
  · rw [if_pos k19] at hl
    refine tx_tableIn (off := 184) (tgt := 185) dX4_letters_1 (by rw [k19]; decide) (by rw [k19]; decide) (by rw [k19]; rfl) (by decide) ?_
    refine tx_bipush (v := 112) dX4_letters_185 (by decide) ?_
    refine tx_bipush (v := 101) dX4_letters_187 (by decide) ?_
    refine tx_bipush (v := 114) dX4_letters_189 (by decide) ?_
    refine tx_bipush (v := 115) dX4_letters_191 (by decide) ?_
    refine tx_bipush (v := 111) dX4_letters_193 (by decide) ?_
    refine tx_bipush (v := 110) dX4_letters_195 (by decide) ?_
    obtain ⟨r20, er20, hl⟩ := xb hl
    refine tx_callS (T_spelled er20) lS_X4_159 C_X4_spelled dX4_letters_197 rfl (by decide) (Nat.le_of_ble_eq_true rfl) ?_
    cases hl
    exact tx_lret dX4_letters_200 rfl ⟨rfl, rfl⟩
  rw [if_neg k19] at hl
  by_cases k21 : x0 = 9
  · rw [if_pos k21] at hl
    refine tx_tableIn (off := 200) (tgt := 201) dX4_letters_1 (by rw [k21]; decide) (by rw [k21]; decide) (by rw [k21]; rfl) (by decide) ?_
    refine tx_bipush (v := 105) dX4_letters_201 (by decide) ?_
    refine tx_bipush (v := 110) dX4_letters_203 (by decide) ?_
    refine tx_iconst (v := 0) dX4_letters_205 rfl ?_
    refine tx_iconst (v := 0) dX4_letters_206 rfl ?_
    refine tx_iconst (v := 0) dX4_letters_207 rfl ?_
    refine tx_iconst (v := 0) dX4_letters_208 rfl ?_
    obtain ⟨r22, er22, hl⟩ := xb hl
    refine tx_callS (T_spelled er22) lS_X4_159 C_X4_spelled dX4_letters_209 rfl (by decide) (Nat.le_of_ble_eq_true rfl) ?_
    cases hl
    exact tx_lret dX4_letters_212 rfl ⟨rfl, rfl⟩
  rw [if_neg k21] at hl
  by_cases k23 : x0 = 10
  · rw [if_pos k23] at hl
    refine tx_tableIn (off := 212) (tgt := 213) dX4_letters_1 (by rw [k23]; decide) (by rw [k23]; decide) (by rw [k23]; rfl) (by decide) ?_
    refine tx_bipush (v := 101) dX4_letters_213 (by decide) ?_
    refine tx_bipush (v := 97) dX4_letters_215 (by decide) ?_
    refine tx_bipush (v := 115) dX4_letters_217 (by decide) ?_
    refine tx_bipush (v := 101) dX4_letters_219 (by decide) ?_
    refine tx_bipush (v := 115) dX4_letters_221 (by decide) ?_
    refine tx_iconst (v := 0) dX4_letters_223 rfl ?_
    obtain ⟨r24, er24, hl⟩ := xb hl
    refine tx_callS (T_spelled er24) lS_X4_159 C_X4_spelled dX4_letters_224 rfl (by decide) (Nat.le_of_ble_eq_true rfl) ?_
    cases hl
    exact tx_lret dX4_letters_227 rfl ⟨rfl, rfl⟩
  rw [if_neg k23] at hl
  by_cases k25 : x0 = 11
  · rw [if_pos k25] at hl
    refine tx_tableIn (off := 227) (tgt := 228) dX4_letters_1 (by rw [k25]; decide) (by rw [k25]; decide) (by rw [k25]; rfl) (by decide) ?_
    refine tx_bipush (v := 98) dX4_letters_228 (by decide) ?_
    refine tx_bipush (v := 117) dX4_letters_230 (by decide) ?_
    refine tx_bipush (v := 114) dX4_letters_232 (by decide) ?_
    refine tx_bipush (v := 115) dX4_letters_234 (by decide) ?_
    refine tx_bipush (v := 116) dX4_letters_236 (by decide) ?_
    refine tx_bipush (v := 115) dX4_letters_238 (by decide) ?_
    obtain ⟨r26, er26, hl⟩ := xb hl
    refine tx_callS (T_spelled er26) lS_X4_159 C_X4_spelled dX4_letters_240 rfl (by decide) (Nat.le_of_ble_eq_true rfl) ?_
    cases hl
    exact tx_lret dX4_letters_243 rfl ⟨rfl, rfl⟩
  rw [if_neg k25] at hl
  by_cases k27 : x0 = 12
  · rw [if_pos k27] at hl
    refine tx_tableIn (off := 243) (tgt := 244) dX4_letters_1 (by rw [k27]; decide) (by rw [k27]; decide) (by rw [k27]; rfl) (by decide) ?_
    refine tx_bipush (v := 97) dX4_letters_244 (by decide) ?_
    refine tx_bipush (v := 110) dX4_letters_246 (by decide) ?_
    refine tx_bipush (v := 100) dX4_letters_248 (by decide) ?_
    refine tx_iconst (v := 0) dX4_letters_250 rfl ?_
    refine tx_iconst (v := 0) dX4_letters_251 rfl ?_
    refine tx_iconst (v := 0) dX4_letters_252 rfl ?_
    obtain ⟨r28, er28, hl⟩ := xb hl
    refine tx_callS (T_spelled er28) lS_X4_159 C_X4_spelled dX4_letters_253 rfl (by decide) (Nat.le_of_ble_eq_true rfl) ?_
    cases hl
    exact tx_lret dX4_letters_256 rfl ⟨rfl, rfl⟩
  rw [if_neg k27] at hl
  by_cases k29 : x0 = 13
  · rw [if_pos k29] at hl
    refine tx_tableIn (off := 256) (tgt := 257) dX4_letters_1 (by rw [k29]; decide) (by rw [k29]; decide) (by rw [k29]; rfl) (by decide) ?_
    refine tx_bipush (v := 111) dX4_letters_257 (by decide) ?_
    refine tx_bipush (v := 114) dX4_letters_259 (by decide) ?_
    refine tx_iconst (v := 0) dX4_letters_261 rfl ?_
    refine tx_iconst (v := 0) dX4_letters_262 rfl ?_
    refine tx_iconst (v := 0) dX4_letters_263 rfl ?_
    refine tx_iconst (v := 0) dX4_letters_264 rfl ?_
    obtain ⟨r30, er30, hl⟩ := xb hl
    refine tx_callS (T_spelled er30) lS_X4_159 C_X4_spelled dX4_letters_265 rfl (by decide) (Nat.le_of_ble_eq_true rfl) ?_
    cases hl
    exact tx_lret dX4_letters_268 rfl ⟨rfl, rfl⟩
  rw [if_neg k29] at hl
  cases hl
def f_knownWord_L21 (n : Nat) (x1 : Int32) (S : TS) : Option ((Int32) ⊕ ((Unit) ⊕ (Int32))) := if x1 ≥ 15 then some (.inr (.inl ())) else (f_letters x1).bind fun r4 => if (lg_cmp r4 S.2.1) = 0 then some (.inr (.inr x1)) else (some (x1 + 1)).bind fun w6 => some (.inl w6)
abbrev K_knownWord_L21 (l : Launch) (E : XEnv) (m : Nat) (ad : Nat → Nat) (h0 : XH) (R : Option Value → TS → Prop) (S : TS)  (o : (Unit) ⊕ (Int32)) : Prop := match o with
  | .inl e => TX l E mX4_knownWord 3 47 [(0, .ref m)] [] m ad h0 S R
  | .inr e => TX l E mX4_knownWord 3 39 [(0, .ref m), (1, .int e)] [] m ad h0 S R
def f_knownWord (n : Nat)  (S : TS) : Option (Int32) := if (S.1 18) = 1 then if (S.1 20) ≤ 6 then (xloop (fun s => f_knownWord_L21 n s S) n 0).bind fun o7 => match o7 with | .inl e8 => (some (-1)) | .inr e9 => (some e9) else some (-1) else some (-1)
set_option maxHeartbeats 4000000 in
theorem f_knownWord_L21_s {l : Launch} {E : XEnv} {m : Nat} {ad : Nat → Nat} {h0 : XH} {R : Option Value → TS → Prop} {n : Nat} {x1 : Int32} {S : TS} {o : (Int32) ⊕ ((Unit) ⊕ (Int32))} (hl : f_knownWord_L21 n x1 S = some o) (hK : (xk (fun s : Int32 => TX l E mX4_knownWord 3 21 [(0, .ref m), (1, .int s)] [] m ad h0 S R) (fun r => K_knownWord_L21 l E m ad h0 R S r) o)) : TX l E mX4_knownWord 3 21 [(0, .ref m), (1, .int x1)] [] m ad h0 S R := by
  unfold f_knownWord_L21 at hl
  refine tx_iload_n dX4_knownWord_21 rfl ?_
  refine tx_bipush (v := 15) dX4_knownWord_22 (by decide) ?_
  refine tx_icmp_ge (tgt := 47) dX4_knownWord_24 (by decide) (fun c3 => ?_) (fun c3 => ?_)
  · rw [if_pos c3] at hl
    cases hl
    exact tx_lsK hK ⟨rfl, trivial⟩
  · rw [if_neg c3] at hl
    refine tx_iload_n dX4_knownWord_27 rfl ?_
    obtain ⟨r4, er4, hl⟩ := xb hl
    refine tx_callS (T_letters er4) lS_X4_163 C_X4_letters dX4_knownWord_28 rfl (by decide) (Nat.le_of_ble_eq_true rfl) ?_
    refine tx_aload_n dX4_knownWord_31 rfl rfl ?_
    refine tx_getJ gF_X4_134 dX4_knownWord_32 ?_
    refine tx_lcmp dX4_knownWord_35 ?_
    refine tx_if_ne (tgt := 41) dX4_knownWord_36 (by decide) (fun c5 => ?_) (fun c5 => ?_)
    · rw [if_neg c5] at hl
      obtain ⟨w6, ew6, hl⟩ := xb hl
      refine tx_iinc dX4_knownWord_41 rfl (by decide) (Option.some.inj ew6) ?_
      refine tx_goto (tgt := 21) dX4_knownWord_44 (by decide) ?_
      cases hl
      exact tx_lsK hK ⟨rfl, rfl, trivial⟩
    · rw [if_pos c5] at hl
      cases hl
      exact tx_lsK hK ⟨rfl, rfl, trivial⟩
set_option maxHeartbeats 4000000 in
theorem f_knownWord_L21_ok {l : Launch} {E : XEnv} {m : Nat} {ad : Nat → Nat} {h0 : XH} {R : Option Value → TS → Prop} {n : Nat}  {S : TS} {s : Int32} {o : (Unit) ⊕ (Int32)} (hl : xloop (fun s => f_knownWord_L21 n s S) n s = some o) (hK : K_knownWord_L21 l E m ad h0 R S o) : TX l E mX4_knownWord 3 21 [(0, .ref m), (1, .int s)] [] m ad h0 S R :=
  xloop_of (fun s : Int32 => TX l E mX4_knownWord 3 21 [(0, .ref m), (1, .int s)] [] m ad h0 S R) (fun r => K_knownWord_L21 l E m ad h0 R S r) (fun s o hl hk => f_knownWord_L21_s (S := S) (o := o) hl hk) n s o hl hK
set_option maxHeartbeats 4000000 in
theorem T_knownWord {l : Launch} {E : XEnv} {m : Nat} {ad : Nat → Nat} {n : Nat}  {S : TS} {r : Int32} (hl : f_knownWord n  S = some r) : TM l E mX4_knownWord 3 m ad [.ref m] S (some (.int r)) S := by
  unfold f_knownWord at hl
  refine tm_of (by decide +kernel) rfl (Nat.le_of_ble_eq_true rfl) fun h0 => ?_
  refine tx_aload_n dX4_knownWord_0 rfl rfl ?_
  refine tx_getI gF_X4_144 dX4_knownWord_1 (by decide) ?_
  refine tx_iconst (v := 1) dX4_knownWord_4 rfl ?_
  refine tx_icmp_ne (tgt := 17) dX4_knownWord_5 (by decide) (fun c1 => ?_) (fun c1 => ?_)
  · rw [if_neg c1] at hl
    refine tx_iconst (v := (-1)) dX4_knownWord_17 rfl ?_
    cases hl
    exact tx_iret dX4_knownWord_18 rfl rfl ⟨rfl, rfl⟩
  · rw [if_pos c1] at hl
    refine tx_aload_n dX4_knownWord_8 rfl rfl ?_
    refine tx_getI gF_X4_154 dX4_knownWord_9 (by decide) ?_
    refine tx_bipush (v := 6) dX4_knownWord_12 (by decide) ?_
    refine tx_icmp_le (tgt := 19) dX4_knownWord_14 (by decide) (fun c2 => ?_) (fun c2 => ?_)
    · rw [if_pos c2] at hl
      refine tx_iconst (v := 0) dX4_knownWord_19 rfl ?_
      refine tx_istore_n dX4_knownWord_20 (by decide) ?_
      obtain ⟨o7, eo7, hl⟩ := xb hl
      rcases o7 with e8 | e9
      · dsimp only at hl
        refine tx_lsK (f_knownWord_L21_ok (S := S) (s := 0) eo7 ?_) ⟨rfl, rfl, trivial⟩
        refine tx_iconst (v := (-1)) dX4_knownWord_47 rfl ?_
        cases hl
        exact tx_iret dX4_knownWord_48 rfl rfl ⟨rfl, rfl⟩
      · dsimp only at hl
        refine tx_lsK (f_knownWord_L21_ok (S := S) (s := 0) eo7 ?_) ⟨rfl, rfl, trivial⟩
        refine tx_iload_n dX4_knownWord_39 rfl ?_
        cases hl
        exact tx_iret dX4_knownWord_40 rfl rfl ⟨rfl, rfl⟩
    · rw [if_neg c2] at hl
      refine tx_iconst (v := (-1)) dX4_knownWord_17 rfl ?_
      cases hl
      exact tx_iret dX4_knownWord_18 rfl rfl ⟨rfl, rfl⟩
def f_wrong (x1 : Int32) (S : TS) : Option (TS) := if (S.1 13) = 0 then (some (tpF S 13 x1)).bind fun S2 => (some (tpF S2 14 (S2.1 19))).bind fun S3 => some S3 else some S
set_option maxHeartbeats 4000000 in
theorem T_wrong {l : Launch} {E : XEnv} {m : Nat} {ad : Nat → Nat} {x1 : Int32} {S : TS} {S' : TS} (hl : f_wrong x1 S = some S') : TM l E mX4_wrong 1 m ad [.ref m, .int x1] S none S' := by
  unfold f_wrong at hl
  refine tm_of (by decide +kernel) rfl (Nat.le_of_ble_eq_true rfl) fun h0 => ?_
  refine tx_aload_n dX4_wrong_0 rfl rfl ?_
  refine tx_getI gF_X4_167 dX4_wrong_1 (by decide) ?_
  refine tx_if_eq (tgt := 8) dX4_wrong_4 (by decide) (fun c1 => ?_) (fun c1 => ?_)
  · rw [if_pos c1] at hl
    refine tx_aload_n dX4_wrong_8 rfl rfl ?_
    refine tx_iload_n dX4_wrong_9 rfl ?_
    obtain ⟨S2, eS2, hl⟩ := xb hl
    refine tx_putI pF_X4_167 dX4_wrong_10 (by decide) rfl rfl (Option.some.inj eS2) ?_
    refine tx_aload_n dX4_wrong_13 rfl rfl ?_
    refine tx_aload_n dX4_wrong_14 rfl rfl ?_
    refine tx_getI gF_X4_131 dX4_wrong_15 (by decide) ?_
    obtain ⟨S3, eS3, hl⟩ := xb hl
    refine tx_putI pF_X4_35 dX4_wrong_18 (by decide) rfl rfl (Option.some.inj eS3) ?_
    cases hl
    exact tx_vret dX4_wrong_21 rfl ⟨rfl, rfl⟩
  · rw [if_neg c1] at hl
    cases hl
    exact tx_vret dX4_wrong_7 rfl ⟨rfl, rfl⟩
def f_begins_J18 (n : Nat)  (S : TS) : Option (Int32 × TS) := (f_isGood S).bind fun r3 => if r3 = 0 then some (0, S) else (f_takes n S).bind fun r5 => some (1, r5)
def f_begins_J9 (n : Nat) (x2 : Int32) (S : TS) : Option (Int32 × TS) := if x2 = 0 then f_begins_J18 n  S else (f_wrong 5 S).bind fun r6 => f_begins_J18 n  r6
def f_begins (n : Nat) (x1 : Int32) (x2 : Int32) (S : TS) : Option (Int32 × TS) := if x1 = 0 then f_begins_J9 n x2 S else (f_wrong 2 S).bind fun r7 => f_begins_J9 n x2 r7
set_option maxHeartbeats 4000000 in
theorem f_begins_J18_s {l : Launch} {E : XEnv} {m : Nat} {ad : Nat → Nat} {h0 : XH} {n : Nat}  {S : TS} {r : Int32 × TS} (hl : f_begins_J18 n  S = some r) : TX l E mX4_begins 3 18 [(0, .ref m)] [] m ad h0 S (fun v' S'' => v' = some (.int r.1) ∧ S'' = r.2) := by
  unfold f_begins_J18 at hl
  refine tx_aload_n dX4_begins_18 rfl rfl ?_
  obtain ⟨r3, er3, hl⟩ := xb hl
  refine tx_callV (T_isGood er3) lV_X4_170 C_X4_isGood rfl dX4_begins_19 rfl (by decide) (Nat.le_of_ble_eq_true rfl) ?_
  refine tx_if_ne (tgt := 27) dX4_begins_22 (by decide) (fun c4 => ?_) (fun c4 => ?_)
  · rw [if_neg c4] at hl
    refine tx_aload_n dX4_begins_27 rfl rfl ?_
    obtain ⟨r5, er5, hl⟩ := xb hl
    refine tx_callV (T_takes er5) lV_X4_174 C_X4_takes rfl dX4_begins_28 rfl (by decide) (Nat.le_of_ble_eq_true rfl) ?_
    refine tx_iconst (v := 1) dX4_begins_31 rfl ?_
    cases hl
    exact tx_iret dX4_begins_32 rfl rfl ⟨rfl, rfl⟩
  · rw [if_pos c4] at hl
    refine tx_iconst (v := 0) dX4_begins_25 rfl ?_
    cases hl
    exact tx_iret dX4_begins_26 rfl rfl ⟨rfl, rfl⟩
set_option maxHeartbeats 4000000 in
theorem f_begins_J9_s {l : Launch} {E : XEnv} {m : Nat} {ad : Nat → Nat} {h0 : XH} {n : Nat} {x2 : Int32} {S : TS} {r : Int32 × TS} (hl : f_begins_J9 n x2 S = some r) : TX l E mX4_begins 3 9 [(0, .ref m), (2, .int x2)] [] m ad h0 S (fun v' S'' => v' = some (.int r.1) ∧ S'' = r.2) := by
  unfold f_begins_J9 at hl
  refine tx_iload_n dX4_begins_9 rfl ?_
  refine tx_if_eq (tgt := 18) dX4_begins_10 (by decide) (fun c2 => ?_) (fun c2 => ?_)
  · rw [if_pos c2] at hl
    exact tx_lsK (f_begins_J18_s hl) ⟨rfl, trivial⟩
  · rw [if_neg c2] at hl
    refine tx_aload_n dX4_begins_13 rfl rfl ?_
    refine tx_iconst (v := 5) dX4_begins_14 rfl ?_
    obtain ⟨r6, er6, hl⟩ := xb hl
    refine tx_callV (T_wrong er6) lV_X4_177 C_X4_wrong rfl dX4_begins_15 rfl (by decide) (Nat.le_of_ble_eq_true rfl) ?_
    exact tx_lsK (f_begins_J18_s hl) ⟨rfl, trivial⟩
set_option maxHeartbeats 4000000 in
theorem T_begins {l : Launch} {E : XEnv} {m : Nat} {ad : Nat → Nat} {n : Nat} {x1 : Int32} {x2 : Int32} {S : TS} {r : Int32 × TS} (hl : f_begins n x1 x2 S = some r) : TM l E mX4_begins 3 m ad [.ref m, .int x1, .int x2] S (some (.int r.1)) r.2 := by
  unfold f_begins at hl
  refine tm_of (by decide +kernel) rfl (Nat.le_of_ble_eq_true rfl) fun h0 => ?_
  refine tx_iload_n dX4_begins_0 rfl ?_
  refine tx_if_eq (tgt := 9) dX4_begins_1 (by decide) (fun c1 => ?_) (fun c1 => ?_)
  · rw [if_pos c1] at hl
    exact tx_lsK (f_begins_J9_s hl) ⟨rfl, rfl, trivial⟩
  · rw [if_neg c1] at hl
    refine tx_aload_n dX4_begins_4 rfl rfl ?_
    refine tx_iconst (v := 2) dX4_begins_5 rfl ?_
    obtain ⟨r7, er7, hl⟩ := xb hl
    refine tx_callV (T_wrong er7) lV_X4_177 C_X4_wrong rfl dX4_begins_6 rfl (by decide) (Nat.le_of_ble_eq_true rfl) ?_
    exact tx_lsK (f_begins_J9_s hl) ⟨rfl, rfl, trivial⟩
def f_number_J54 (n : Nat)  (S : TS) : Option (Int32 × TS) := (some (S.1 21)).bind fun w6 => (f_isGood S).bind fun r7 => if r7 = 0 then some (w6, S) else (f_takes n S).bind fun r9 => some (w6, r9)
def f_number_J49 (n : Nat)  (S : TS) : Option (Int32 × TS) := (f_wrong 2 S).bind fun r5 => f_number_J54 n  r5
def f_number (n : Nat) (x1 : Int32) (x2 : Int32) (S : TS) : Option (Int32 × TS) := (f_isGood S).bind fun r1 => if r1 = 0 then some (0, S) else if (S.1 18) = 2 then if (S.1 20) > 4 then f_number_J49 n  S else if (S.1 21) < x1 then f_number_J49 n  S else if (S.1 21) ≤ x2 then f_number_J54 n  S else f_number_J49 n  S else (f_wrong 1 S).bind fun r12 => f_number_J54 n  r12
set_option maxHeartbeats 4000000 in
theorem f_number_J54_s {l : Launch} {E : XEnv} {m : Nat} {ad : Nat → Nat} {h0 : XH} {n : Nat}  {S : TS} {r : Int32 × TS} (hl : f_number_J54 n  S = some r) : TX l E mX4_number 3 54 [(0, .ref m)] [] m ad h0 S (fun v' S'' => v' = some (.int r.1) ∧ S'' = r.2) := by
  unfold f_number_J54 at hl
  refine tx_aload_n dX4_number_54 rfl rfl ?_
  refine tx_getI gF_X4_138 dX4_number_55 (by decide) ?_
  obtain ⟨w6, ew6, hl⟩ := xb hl
  refine tx_top (Option.some.inj ew6) ?_
  refine tx_istore_n dX4_number_58 (by decide) ?_
  refine tx_aload_n dX4_number_59 rfl rfl ?_
  obtain ⟨r7, er7, hl⟩ := xb hl
  refine tx_callV (T_isGood er7) lV_X4_170 C_X4_isGood rfl dX4_number_60 rfl (by decide) (Nat.le_of_ble_eq_true rfl) ?_
  refine tx_if_eq (tgt := 70) dX4_number_63 (by decide) (fun c8 => ?_) (fun c8 => ?_)
  · rw [if_pos c8] at hl
    refine tx_iload_n dX4_number_70 rfl ?_
    cases hl
    exact tx_iret dX4_number_71 rfl rfl ⟨rfl, rfl⟩
  · rw [if_neg c8] at hl
    refine tx_aload_n dX4_number_66 rfl rfl ?_
    obtain ⟨r9, er9, hl⟩ := xb hl
    refine tx_callV (T_takes er9) lV_X4_174 C_X4_takes rfl dX4_number_67 rfl (by decide) (Nat.le_of_ble_eq_true rfl) ?_
    refine tx_iload_n dX4_number_70 rfl ?_
    cases hl
    exact tx_iret dX4_number_71 rfl rfl ⟨rfl, rfl⟩
set_option maxHeartbeats 4000000 in
theorem f_number_J49_s {l : Launch} {E : XEnv} {m : Nat} {ad : Nat → Nat} {h0 : XH} {n : Nat}  {S : TS} {r : Int32 × TS} (hl : f_number_J49 n  S = some r) : TX l E mX4_number 3 49 [(0, .ref m)] [] m ad h0 S (fun v' S'' => v' = some (.int r.1) ∧ S'' = r.2) := by
  unfold f_number_J49 at hl
  refine tx_aload_n dX4_number_49 rfl rfl ?_
  refine tx_iconst (v := 2) dX4_number_50 rfl ?_
  obtain ⟨r5, er5, hl⟩ := xb hl
  refine tx_callV (T_wrong er5) lV_X4_177 C_X4_wrong rfl dX4_number_51 rfl (by decide) (Nat.le_of_ble_eq_true rfl) ?_
  exact tx_lsK (f_number_J54_s hl) ⟨rfl, trivial⟩
set_option maxHeartbeats 4000000 in
theorem T_number {l : Launch} {E : XEnv} {m : Nat} {ad : Nat → Nat} {n : Nat} {x1 : Int32} {x2 : Int32} {S : TS} {r : Int32 × TS} (hl : f_number n x1 x2 S = some r) : TM l E mX4_number 3 m ad [.ref m, .int x1, .int x2] S (some (.int r.1)) r.2 := by
  unfold f_number at hl
  refine tm_of (by decide +kernel) rfl (Nat.le_of_ble_eq_true rfl) fun h0 => ?_
  refine tx_aload_n dX4_number_0 rfl rfl ?_
  obtain ⟨r1, er1, hl⟩ := xb hl
  refine tx_callV (T_isGood er1) lV_X4_170 C_X4_isGood rfl dX4_number_1 rfl (by decide) (Nat.le_of_ble_eq_true rfl) ?_
  refine tx_if_ne (tgt := 9) dX4_number_4 (by decide) (fun c2 => ?_) (fun c2 => ?_)
  · rw [if_neg c2] at hl
    refine tx_aload_n dX4_number_9 rfl rfl ?_
    refine tx_getI gF_X4_144 dX4_number_10 (by decide) ?_
    refine tx_iconst (v := 2) dX4_number_13 rfl ?_
    refine tx_icmp_eq (tgt := 25) dX4_number_14 (by decide) (fun c3 => ?_) (fun c3 => ?_)
    · rw [if_pos c3] at hl
      refine tx_aload_n dX4_number_25 rfl rfl ?_
      refine tx_getI gF_X4_154 dX4_number_26 (by decide) ?_
      refine tx_iconst (v := 4) dX4_number_29 rfl ?_
      refine tx_icmp_gt (tgt := 49) dX4_number_30 (by decide) (fun c4 => ?_) (fun c4 => ?_)
      · rw [if_pos c4] at hl
        exact tx_lsK (f_number_J49_s hl) ⟨rfl, trivial⟩
      · rw [if_neg c4] at hl
        refine tx_aload_n dX4_number_33 rfl rfl ?_
        refine tx_getI gF_X4_138 dX4_number_34 (by decide) ?_
        refine tx_iload_n dX4_number_37 rfl ?_
        refine tx_icmp_lt (tgt := 49) dX4_number_38 (by decide) (fun c10 => ?_) (fun c10 => ?_)
        · rw [if_pos c10] at hl
          exact tx_lsK (f_number_J49_s hl) ⟨rfl, trivial⟩
        · rw [if_neg c10] at hl
          refine tx_aload_n dX4_number_41 rfl rfl ?_
          refine tx_getI gF_X4_138 dX4_number_42 (by decide) ?_
          refine tx_iload_n dX4_number_45 rfl ?_
          refine tx_icmp_le (tgt := 54) dX4_number_46 (by decide) (fun c11 => ?_) (fun c11 => ?_)
          · rw [if_pos c11] at hl
            exact tx_lsK (f_number_J54_s hl) ⟨rfl, trivial⟩
          · rw [if_neg c11] at hl
            exact tx_lsK (f_number_J49_s hl) ⟨rfl, trivial⟩
    · rw [if_neg c3] at hl
      refine tx_aload_n dX4_number_17 rfl rfl ?_
      refine tx_iconst (v := 1) dX4_number_18 rfl ?_
      obtain ⟨r12, er12, hl⟩ := xb hl
      refine tx_callV (T_wrong er12) lV_X4_177 C_X4_wrong rfl dX4_number_19 rfl (by decide) (Nat.le_of_ble_eq_true rfl) ?_
      refine tx_goto (tgt := 54) dX4_number_22 (by decide) ?_
      exact tx_lsK (f_number_J54_s hl) ⟨rfl, trivial⟩
  · rw [if_pos c2] at hl
    refine tx_iconst (v := 0) dX4_number_7 rfl ?_
    cases hl
    exact tx_iret dX4_number_8 rfl rfl ⟨rfl, rfl⟩
def f_readsHouse (n : Nat)  (S : TS) : Option (TS) := (some (S.1 24)).bind fun w1 => (f_number n 1 60 S).bind fun r2 => (twr r2.2 37 ((3 : Int32) + w1) r2.1).bind fun S3 => (f_number n 0 9 S3).bind fun r4 => (twr r4.2 33 w1 r4.1).bind fun S5 => (f_number n 0 30 S5).bind fun r6 => (twr r6.2 34 w1 r6.1).bind fun S7 => (twr S7 37 ((11 : Int32) + w1) 0).bind fun S8 => (twr S8 37 ((19 : Int32) + w1) (-1)).bind fun S9 => (f_isGood S9).bind fun r10 => if r10 = 0 then some S9 else (some (tpF S9 24 ((S9.1 24) + 1))).bind fun S12 => some S12
set_option maxHeartbeats 4000000 in
theorem T_readsHouse {l : Launch} {E : XEnv} {m : Nat} {ad : Nat → Nat} {n : Nat}  {S : TS} {S' : TS} (hl : f_readsHouse n  S = some S') : TM l E mX4_readsHouse 4 m ad [.ref m] S none S' := by
  unfold f_readsHouse at hl
  refine tm_of (by decide +kernel) rfl (Nat.le_of_ble_eq_true rfl) fun h0 => ?_
  refine tx_aload_n dX4_readsHouse_0 rfl rfl ?_
  refine tx_getI gF_X4_230 dX4_readsHouse_1 (by decide) ?_
  obtain ⟨w1, ew1, hl⟩ := xb hl
  refine tx_top (Option.some.inj ew1) ?_
  refine tx_istore_n dX4_readsHouse_4 (by decide) ?_
  refine tx_aload_n dX4_readsHouse_5 rfl rfl ?_
  refine tx_getA gF_X4_53 dX4_readsHouse_6 (by decide) ?_
  refine tx_iconst (v := 3) dX4_readsHouse_9 rfl ?_
  refine tx_iload_n dX4_readsHouse_10 rfl ?_
  refine tx_iadd dX4_readsHouse_11 ?_
  refine tx_aload_n dX4_readsHouse_12 rfl rfl ?_
  refine tx_iconst (v := 1) dX4_readsHouse_13 rfl ?_
  refine tx_bipush (v := 60) dX4_readsHouse_14 (by decide) ?_
  obtain ⟨r2, er2, hl⟩ := xb hl
  refine tx_callV (T_number er2) lV_X4_233 C_X4_number rfl dX4_readsHouse_16 rfl (by decide) (Nat.le_of_ble_eq_true rfl) ?_
  obtain ⟨S3, eS3, hl⟩ := xb hl
  refine tx_iast (by decide) dX4_readsHouse_19 eS3 ?_
  refine tx_aload_n dX4_readsHouse_20 rfl rfl ?_
  refine tx_getA gF_X4_41 dX4_readsHouse_21 (by decide) ?_
  refine tx_iload_n dX4_readsHouse_24 rfl ?_
  refine tx_aload_n dX4_readsHouse_25 rfl rfl ?_
  refine tx_iconst (v := 0) dX4_readsHouse_26 rfl ?_
  refine tx_bipush (v := 9) dX4_readsHouse_27 (by decide) ?_
  obtain ⟨r4, er4, hl⟩ := xb hl
  refine tx_callV (T_number er4) lV_X4_233 C_X4_number rfl dX4_readsHouse_29 rfl (by decide) (Nat.le_of_ble_eq_true rfl) ?_
  obtain ⟨S5, eS5, hl⟩ := xb hl
  refine tx_iast (by decide) dX4_readsHouse_32 eS5 ?_
  refine tx_aload_n dX4_readsHouse_33 rfl rfl ?_
  refine tx_getA gF_X4_44 dX4_readsHouse_34 (by decide) ?_
  refine tx_iload_n dX4_readsHouse_37 rfl ?_
  refine tx_aload_n dX4_readsHouse_38 rfl rfl ?_
  refine tx_iconst (v := 0) dX4_readsHouse_39 rfl ?_
  refine tx_bipush (v := 30) dX4_readsHouse_40 (by decide) ?_
  obtain ⟨r6, er6, hl⟩ := xb hl
  refine tx_callV (T_number er6) lV_X4_233 C_X4_number rfl dX4_readsHouse_42 rfl (by decide) (Nat.le_of_ble_eq_true rfl) ?_
  obtain ⟨S7, eS7, hl⟩ := xb hl
  refine tx_iast (by decide) dX4_readsHouse_45 eS7 ?_
  refine tx_aload_n dX4_readsHouse_46 rfl rfl ?_
  refine tx_getA gF_X4_53 dX4_readsHouse_47 (by decide) ?_
  refine tx_bipush (v := 11) dX4_readsHouse_50 (by decide) ?_
  refine tx_iload_n dX4_readsHouse_52 rfl ?_
  refine tx_iadd dX4_readsHouse_53 ?_
  refine tx_iconst (v := 0) dX4_readsHouse_54 rfl ?_
  obtain ⟨S8, eS8, hl⟩ := xb hl
  refine tx_iast (by decide) dX4_readsHouse_55 eS8 ?_
  refine tx_aload_n dX4_readsHouse_56 rfl rfl ?_
  refine tx_getA gF_X4_53 dX4_readsHouse_57 (by decide) ?_
  refine tx_bipush (v := 19) dX4_readsHouse_60 (by decide) ?_
  refine tx_iload_n dX4_readsHouse_62 rfl ?_
  refine tx_iadd dX4_readsHouse_63 ?_
  refine tx_iconst (v := (-1)) dX4_readsHouse_64 rfl ?_
  obtain ⟨S9, eS9, hl⟩ := xb hl
  refine tx_iast (by decide) dX4_readsHouse_65 eS9 ?_
  refine tx_aload_n dX4_readsHouse_66 rfl rfl ?_
  obtain ⟨r10, er10, hl⟩ := xb hl
  refine tx_callV (T_isGood er10) lV_X4_170 C_X4_isGood rfl dX4_readsHouse_67 rfl (by decide) (Nat.le_of_ble_eq_true rfl) ?_
  refine tx_if_eq (tgt := 83) dX4_readsHouse_70 (by decide) (fun c11 => ?_) (fun c11 => ?_)
  · rw [if_pos c11] at hl
    cases hl
    exact tx_vret dX4_readsHouse_83 rfl ⟨rfl, rfl⟩
  · rw [if_neg c11] at hl
    refine tx_aload_n dX4_readsHouse_73 rfl rfl ?_
    refine tx_dup dX4_readsHouse_74 rfl ?_
    refine tx_getI gF_X4_230 dX4_readsHouse_75 (by decide) ?_
    refine tx_iconst (v := 1) dX4_readsHouse_78 rfl ?_
    refine tx_iadd dX4_readsHouse_79 ?_
    obtain ⟨S12, eS12, hl⟩ := xb hl
    refine tx_putI pF_X4_230 dX4_readsHouse_80 (by decide) rfl rfl (Option.some.inj eS12) ?_
    cases hl
    exact tx_vret dX4_readsHouse_83 rfl ⟨rfl, rfl⟩
def f_readsPerson_J161 (n : Nat)  (S : TS) : Option (TS) := (f_isGood S).bind fun r9 => if r9 = 0 then some S else (some (tpF S 25 ((S.1 25) + 1))).bind fun S11 => some S11
def f_readsPerson_J136 (n : Nat) (x1 : Int32) (S : TS) : Option (TS) := (f_isGood S).bind fun r20 => if r20 = 0 then some S else (twr S 37 ((19 : Int32) + (S.1 21)) x1).bind fun S22 => (f_takes n S22).bind fun r23 => f_readsPerson_J161 n  r23
def f_readsPerson (n : Nat)  (S : TS) : Option (TS) := (some (S.1 25)).bind fun w1 => (f_number n 1 60 S).bind fun r2 => (twr r2.2 37 ((27 : Int32) + w1) r2.1).bind fun S3 => (f_number n 0 9 S3).bind fun r4 => (twr r4.2 35 w1 r4.1).bind fun S5 => (twr S5 37 ((35 : Int32) + w1) 0).bind fun S6 => (f_isGood S6).bind fun r7 => if r7 = 0 then f_readsPerson_J161 n  S6 else (f_knownWord n S6).bind fun r12 => if r12 = 9 then (f_takes n S6).bind fun r14 => if (r14.1 18) = 2 then if (r14.1 20) ≤ 4 then if (r14.1 21) < (r14.1 24) then (trd r14 37 ((19 : Int32) + (r14.1 21))).bind fun v18 => if v18 = (-1) then f_readsPerson_J136 n w1 r14 else (f_wrong 4 r14).bind fun r24 => f_readsPerson_J136 n w1 r24 else (f_wrong 3 r14).bind fun r25 => f_readsPerson_J136 n w1 r25 else (f_wrong 2 r14).bind fun r26 => f_readsPerson_J136 n w1 r26 else (f_wrong 1 r14).bind fun r27 => f_readsPerson_J136 n w1 r27 else f_readsPerson_J161 n  S6
set_option maxHeartbeats 4000000 in
theorem f_readsPerson_J161_s {l : Launch} {E : XEnv} {m : Nat} {ad : Nat → Nat} {h0 : XH} {n : Nat}  {S : TS} {S' : TS} (hl : f_readsPerson_J161 n  S = some S') : TX l E mX4_readsPerson 4 161 [(0, .ref m)] [] m ad h0 S (fun v' S'' => v' = none ∧ S'' = S') := by
  unfold f_readsPerson_J161 at hl
  refine tx_aload_n dX4_readsPerson_161 rfl rfl ?_
  obtain ⟨r9, er9, hl⟩ := xb hl
  refine tx_callV (T_isGood er9) lV_X4_170 C_X4_isGood rfl dX4_readsPerson_162 rfl (by decide) (Nat.le_of_ble_eq_true rfl) ?_
  refine tx_if_eq (tgt := 178) dX4_readsPerson_165 (by decide) (fun c10 => ?_) (fun c10 => ?_)
  · rw [if_pos c10] at hl
    cases hl
    exact tx_vret dX4_readsPerson_178 rfl ⟨rfl, rfl⟩
  · rw [if_neg c10] at hl
    refine tx_aload_n dX4_readsPerson_168 rfl rfl ?_
    refine tx_dup dX4_readsPerson_169 rfl ?_
    refine tx_getI gF_X4_237 dX4_readsPerson_170 (by decide) ?_
    refine tx_iconst (v := 1) dX4_readsPerson_173 rfl ?_
    refine tx_iadd dX4_readsPerson_174 ?_
    obtain ⟨S11, eS11, hl⟩ := xb hl
    refine tx_putI pF_X4_237 dX4_readsPerson_175 (by decide) rfl rfl (Option.some.inj eS11) ?_
    cases hl
    exact tx_vret dX4_readsPerson_178 rfl ⟨rfl, rfl⟩
set_option maxHeartbeats 4000000 in
theorem f_readsPerson_J136_s {l : Launch} {E : XEnv} {m : Nat} {ad : Nat → Nat} {h0 : XH} {n : Nat} {x1 : Int32} {S : TS} {S' : TS} (hl : f_readsPerson_J136 n x1 S = some S') : TX l E mX4_readsPerson 4 136 [(0, .ref m), (1, .int x1)] [] m ad h0 S (fun v' S'' => v' = none ∧ S'' = S') := by
  unfold f_readsPerson_J136 at hl
  refine tx_aload_n dX4_readsPerson_136 rfl rfl ?_
  obtain ⟨r20, er20, hl⟩ := xb hl
  refine tx_callV (T_isGood er20) lV_X4_170 C_X4_isGood rfl dX4_readsPerson_137 rfl (by decide) (Nat.le_of_ble_eq_true rfl) ?_
  refine tx_if_ne (tgt := 144) dX4_readsPerson_140 (by decide) (fun c21 => ?_) (fun c21 => ?_)
  · rw [if_neg c21] at hl
    refine tx_aload_n dX4_readsPerson_144 rfl rfl ?_
    refine tx_getA gF_X4_53 dX4_readsPerson_145 (by decide) ?_
    refine tx_bipush (v := 19) dX4_readsPerson_148 (by decide) ?_
    refine tx_aload_n dX4_readsPerson_150 rfl rfl ?_
    refine tx_getI gF_X4_138 dX4_readsPerson_151 (by decide) ?_
    refine tx_iadd dX4_readsPerson_154 ?_
    refine tx_iload_n dX4_readsPerson_155 rfl ?_
    obtain ⟨S22, eS22, hl⟩ := xb hl
    refine tx_iast (by decide) dX4_readsPerson_156 eS22 ?_
    refine tx_aload_n dX4_readsPerson_157 rfl rfl ?_
    obtain ⟨r23, er23, hl⟩ := xb hl
    refine tx_callV (T_takes er23) lV_X4_174 C_X4_takes rfl dX4_readsPerson_158 rfl (by decide) (Nat.le_of_ble_eq_true rfl) ?_
    exact tx_lsK (f_readsPerson_J161_s hl) ⟨rfl, trivial⟩
  · rw [if_pos c21] at hl
    cases hl
    exact tx_vret dX4_readsPerson_143 rfl ⟨rfl, rfl⟩
set_option maxHeartbeats 4000000 in
theorem T_readsPerson {l : Launch} {E : XEnv} {m : Nat} {ad : Nat → Nat} {n : Nat}  {S : TS} {S' : TS} (hl : f_readsPerson n  S = some S') : TM l E mX4_readsPerson 4 m ad [.ref m] S none S' := by
  unfold f_readsPerson at hl
  refine tm_of (by decide +kernel) rfl (Nat.le_of_ble_eq_true rfl) fun h0 => ?_
  refine tx_aload_n dX4_readsPerson_0 rfl rfl ?_
  refine tx_getI gF_X4_237 dX4_readsPerson_1 (by decide) ?_
  obtain ⟨w1, ew1, hl⟩ := xb hl
  refine tx_top (Option.some.inj ew1) ?_
  refine tx_istore_n dX4_readsPerson_4 (by decide) ?_
  refine tx_aload_n dX4_readsPerson_5 rfl rfl ?_
  refine tx_getA gF_X4_53 dX4_readsPerson_6 (by decide) ?_
  refine tx_bipush (v := 27) dX4_readsPerson_9 (by decide) ?_
  refine tx_iload_n dX4_readsPerson_11 rfl ?_
  refine tx_iadd dX4_readsPerson_12 ?_
  refine tx_aload_n dX4_readsPerson_13 rfl rfl ?_
  refine tx_iconst (v := 1) dX4_readsPerson_14 rfl ?_
  refine tx_bipush (v := 60) dX4_readsPerson_15 (by decide) ?_
  obtain ⟨r2, er2, hl⟩ := xb hl
  refine tx_callV (T_number er2) lV_X4_233 C_X4_number rfl dX4_readsPerson_17 rfl (by decide) (Nat.le_of_ble_eq_true rfl) ?_
  obtain ⟨S3, eS3, hl⟩ := xb hl
  refine tx_iast (by decide) dX4_readsPerson_20 eS3 ?_
  refine tx_aload_n dX4_readsPerson_21 rfl rfl ?_
  refine tx_getA gF_X4_47 dX4_readsPerson_22 (by decide) ?_
  refine tx_iload_n dX4_readsPerson_25 rfl ?_
  refine tx_aload_n dX4_readsPerson_26 rfl rfl ?_
  refine tx_iconst (v := 0) dX4_readsPerson_27 rfl ?_
  refine tx_bipush (v := 9) dX4_readsPerson_28 (by decide) ?_
  obtain ⟨r4, er4, hl⟩ := xb hl
  refine tx_callV (T_number er4) lV_X4_233 C_X4_number rfl dX4_readsPerson_30 rfl (by decide) (Nat.le_of_ble_eq_true rfl) ?_
  obtain ⟨S5, eS5, hl⟩ := xb hl
  refine tx_iast (by decide) dX4_readsPerson_33 eS5 ?_
  refine tx_aload_n dX4_readsPerson_34 rfl rfl ?_
  refine tx_getA gF_X4_53 dX4_readsPerson_35 (by decide) ?_
  refine tx_bipush (v := 35) dX4_readsPerson_38 (by decide) ?_
  refine tx_iload_n dX4_readsPerson_40 rfl ?_
  refine tx_iadd dX4_readsPerson_41 ?_
  refine tx_iconst (v := 0) dX4_readsPerson_42 rfl ?_
  obtain ⟨S6, eS6, hl⟩ := xb hl
  refine tx_iast (by decide) dX4_readsPerson_43 eS6 ?_
  refine tx_aload_n dX4_readsPerson_44 rfl rfl ?_
  obtain ⟨r7, er7, hl⟩ := xb hl
  refine tx_callV (T_isGood er7) lV_X4_170 C_X4_isGood rfl dX4_readsPerson_45 rfl (by decide) (Nat.le_of_ble_eq_true rfl) ?_
  refine tx_if_eq (tgt := 161) dX4_readsPerson_48 (by decide) (fun c8 => ?_) (fun c8 => ?_)
  · rw [if_pos c8] at hl
    exact tx_lsK (f_readsPerson_J161_s hl) ⟨rfl, trivial⟩
  · rw [if_neg c8] at hl
    refine tx_aload_n dX4_readsPerson_51 rfl rfl ?_
    obtain ⟨r12, er12, hl⟩ := xb hl
    refine tx_callV (T_knownWord er12) lV_X4_195 C_X4_knownWord rfl dX4_readsPerson_52 rfl (by decide) (Nat.le_of_ble_eq_true rfl) ?_
    refine tx_bipush (v := 9) dX4_readsPerson_55 (by decide) ?_
    refine tx_icmp_ne (tgt := 161) dX4_readsPerson_57 (by decide) (fun c13 => ?_) (fun c13 => ?_)
    · rw [if_neg c13] at hl
      exact tx_lsK (f_readsPerson_J161_s hl) ⟨rfl, trivial⟩
    · rw [if_pos c13] at hl
      refine tx_aload_n dX4_readsPerson_60 rfl rfl ?_
      obtain ⟨r14, er14, hl⟩ := xb hl
      refine tx_callV (T_takes er14) lV_X4_174 C_X4_takes rfl dX4_readsPerson_61 rfl (by decide) (Nat.le_of_ble_eq_true rfl) ?_
      refine tx_aload_n dX4_readsPerson_64 rfl rfl ?_
      refine tx_getI gF_X4_144 dX4_readsPerson_65 (by decide) ?_
      refine tx_iconst (v := 2) dX4_readsPerson_68 rfl ?_
      refine tx_icmp_eq (tgt := 80) dX4_readsPerson_69 (by decide) (fun c15 => ?_) (fun c15 => ?_)
      · rw [if_pos c15] at hl
        refine tx_aload_n dX4_readsPerson_80 rfl rfl ?_
        refine tx_getI gF_X4_154 dX4_readsPerson_81 (by decide) ?_
        refine tx_iconst (v := 4) dX4_readsPerson_84 rfl ?_
        refine tx_icmp_le (tgt := 96) dX4_readsPerson_85 (by decide) (fun c16 => ?_) (fun c16 => ?_)
        · rw [if_pos c16] at hl
          refine tx_aload_n dX4_readsPerson_96 rfl rfl ?_
          refine tx_getI gF_X4_138 dX4_readsPerson_97 (by decide) ?_
          refine tx_aload_n dX4_readsPerson_100 rfl rfl ?_
          refine tx_getI gF_X4_230 dX4_readsPerson_101 (by decide) ?_
          refine tx_icmp_lt (tgt := 115) dX4_readsPerson_104 (by decide) (fun c17 => ?_) (fun c17 => ?_)
          · rw [if_pos c17] at hl
            refine tx_aload_n dX4_readsPerson_115 rfl rfl ?_
            refine tx_getA gF_X4_53 dX4_readsPerson_116 (by decide) ?_
            refine tx_bipush (v := 19) dX4_readsPerson_119 (by decide) ?_
            refine tx_aload_n dX4_readsPerson_121 rfl rfl ?_
            refine tx_getI gF_X4_138 dX4_readsPerson_122 (by decide) ?_
            refine tx_iadd dX4_readsPerson_125 ?_
            obtain ⟨v18, ev18, hl⟩ := xb hl
            refine tx_iald (by decide) dX4_readsPerson_126 ev18 ?_
            refine tx_iconst (v := (-1)) dX4_readsPerson_127 rfl ?_
            refine tx_icmp_eq (tgt := 136) dX4_readsPerson_128 (by decide) (fun c19 => ?_) (fun c19 => ?_)
            · rw [if_pos c19] at hl
              exact tx_lsK (f_readsPerson_J136_s hl) ⟨rfl, rfl, trivial⟩
            · rw [if_neg c19] at hl
              refine tx_aload_n dX4_readsPerson_131 rfl rfl ?_
              refine tx_iconst (v := 4) dX4_readsPerson_132 rfl ?_
              obtain ⟨r24, er24, hl⟩ := xb hl
              refine tx_callV (T_wrong er24) lV_X4_177 C_X4_wrong rfl dX4_readsPerson_133 rfl (by decide) (Nat.le_of_ble_eq_true rfl) ?_
              exact tx_lsK (f_readsPerson_J136_s hl) ⟨rfl, rfl, trivial⟩
          · rw [if_neg c17] at hl
            refine tx_aload_n dX4_readsPerson_107 rfl rfl ?_
            refine tx_iconst (v := 3) dX4_readsPerson_108 rfl ?_
            obtain ⟨r25, er25, hl⟩ := xb hl
            refine tx_callV (T_wrong er25) lV_X4_177 C_X4_wrong rfl dX4_readsPerson_109 rfl (by decide) (Nat.le_of_ble_eq_true rfl) ?_
            refine tx_goto (tgt := 136) dX4_readsPerson_112 (by decide) ?_
            exact tx_lsK (f_readsPerson_J136_s hl) ⟨rfl, rfl, trivial⟩
        · rw [if_neg c16] at hl
          refine tx_aload_n dX4_readsPerson_88 rfl rfl ?_
          refine tx_iconst (v := 2) dX4_readsPerson_89 rfl ?_
          obtain ⟨r26, er26, hl⟩ := xb hl
          refine tx_callV (T_wrong er26) lV_X4_177 C_X4_wrong rfl dX4_readsPerson_90 rfl (by decide) (Nat.le_of_ble_eq_true rfl) ?_
          refine tx_goto (tgt := 136) dX4_readsPerson_93 (by decide) ?_
          exact tx_lsK (f_readsPerson_J136_s hl) ⟨rfl, rfl, trivial⟩
      · rw [if_neg c15] at hl
        refine tx_aload_n dX4_readsPerson_72 rfl rfl ?_
        refine tx_iconst (v := 1) dX4_readsPerson_73 rfl ?_
        obtain ⟨r27, er27, hl⟩ := xb hl
        refine tx_callV (T_wrong er27) lV_X4_177 C_X4_wrong rfl dX4_readsPerson_74 rfl (by decide) (Nat.le_of_ble_eq_true rfl) ?_
        refine tx_goto (tgt := 136) dX4_readsPerson_77 (by decide) ?_
        exact tx_lsK (f_readsPerson_J136_s hl) ⟨rfl, rfl, trivial⟩
def f_readsDamp_J35 (n : Nat)  (S : TS) : Option ((Int32 × TS) ⊕ ((TS) ⊕ (TS))) := (f_number n 0 9 S).bind fun r5 => (some r5.1).bind fun w6 => (f_isGood r5.2).bind fun r7 => if r7 = 0 then some (.inr (.inr r5.2)) else (twr r5.2 36 (r5.2.1 26) w6).bind fun S9 => (some (tpF S9 26 ((S9.1 26) + 1))).bind fun S10 => if (S10.1 18) = 2 then some (.inl (1, S10)) else some (.inl (0, S10))
def f_readsDamp_L2 (n : Nat) (x1 : Int32) (S : TS) : Option ((Int32 × TS) ⊕ ((TS) ⊕ (TS))) := if x1 = 0 then some (.inr (.inl S)) else (f_isGood S).bind fun r2 => if r2 = 0 then some (.inr (.inl S)) else if (S.1 26) = 8 then if (S.1 18) = 2 then (f_wrong 2 S).bind fun r13 => f_readsDamp_J35 n  r13 else f_readsDamp_J35 n  S else f_readsDamp_J35 n  S
abbrev K_readsDamp_L2 (l : Launch) (E : XEnv) (m : Nat) (ad : Nat → Nat) (h0 : XH) (R : Option Value → TS → Prop) (S : TS)  (o : (TS) ⊕ (TS)) : Prop := match o with
  | .inl e => TX l E mX4_readsDamp 4 88 [(0, .ref m)] [] m ad h0 e R
  | .inr e => TX l E mX4_readsDamp 4 50 [(0, .ref m)] [] m ad h0 e R
def f_readsDamp (n : Nat)  (S : TS) : Option (TS) := (xloop (fun s => f_readsDamp_L2 n s.1 s.2) n (1, S)).bind fun o14 => match o14 with | .inl e15 => (some e15) | .inr e16 => (some e16)
set_option maxHeartbeats 4000000 in
theorem f_readsDamp_J35_s {l : Launch} {E : XEnv} {m : Nat} {ad : Nat → Nat} {h0 : XH} {R : Option Value → TS → Prop} {n : Nat}  {S : TS} {o : (Int32 × TS) ⊕ ((TS) ⊕ (TS))} (hl : f_readsDamp_J35 n  S = some o) (hK : (xk (fun s : Int32 × TS => TX l E mX4_readsDamp 4 2 [(0, .ref m), (1, .int s.1)] [] m ad h0 s.2 R) (fun r => K_readsDamp_L2 l E m ad h0 R S r) o)) : TX l E mX4_readsDamp 4 35 [(0, .ref m)] [] m ad h0 S R := by
  unfold f_readsDamp_J35 at hl
  refine tx_aload_n dX4_readsDamp_35 rfl rfl ?_
  refine tx_iconst (v := 0) dX4_readsDamp_36 rfl ?_
  refine tx_bipush (v := 9) dX4_readsDamp_37 (by decide) ?_
  obtain ⟨r5, er5, hl⟩ := xb hl
  refine tx_callV (T_number er5) lV_X4_233 C_X4_number rfl dX4_readsDamp_39 rfl (by decide) (Nat.le_of_ble_eq_true rfl) ?_
  obtain ⟨w6, ew6, hl⟩ := xb hl
  refine tx_top (Option.some.inj ew6) ?_
  refine tx_istore_n dX4_readsDamp_42 (by decide) ?_
  refine tx_aload_n dX4_readsDamp_43 rfl rfl ?_
  obtain ⟨r7, er7, hl⟩ := xb hl
  refine tx_callV (T_isGood er7) lV_X4_170 C_X4_isGood rfl dX4_readsDamp_44 rfl (by decide) (Nat.le_of_ble_eq_true rfl) ?_
  refine tx_if_ne (tgt := 51) dX4_readsDamp_47 (by decide) (fun c8 => ?_) (fun c8 => ?_)
  · rw [if_neg c8] at hl
    refine tx_aload_n dX4_readsDamp_51 rfl rfl ?_
    refine tx_getA gF_X4_50 dX4_readsDamp_52 (by decide) ?_
    refine tx_aload_n dX4_readsDamp_55 rfl rfl ?_
    refine tx_getI gF_X4_240 dX4_readsDamp_56 (by decide) ?_
    refine tx_iload_n dX4_readsDamp_59 rfl ?_
    obtain ⟨S9, eS9, hl⟩ := xb hl
    refine tx_iast (by decide) dX4_readsDamp_60 eS9 ?_
    refine tx_aload_n dX4_readsDamp_61 rfl rfl ?_
    refine tx_dup dX4_readsDamp_62 rfl ?_
    refine tx_getI gF_X4_240 dX4_readsDamp_63 (by decide) ?_
    refine tx_iconst (v := 1) dX4_readsDamp_66 rfl ?_
    refine tx_iadd dX4_readsDamp_67 ?_
    obtain ⟨S10, eS10, hl⟩ := xb hl
    refine tx_putI pF_X4_240 dX4_readsDamp_68 (by decide) rfl rfl (Option.some.inj eS10) ?_
    refine tx_aload_n dX4_readsDamp_71 rfl rfl ?_
    refine tx_getI gF_X4_144 dX4_readsDamp_72 (by decide) ?_
    refine tx_iconst (v := 2) dX4_readsDamp_75 rfl ?_
    refine tx_icmp_ne (tgt := 83) dX4_readsDamp_76 (by decide) (fun c11 => ?_) (fun c11 => ?_)
    · rw [if_neg c11] at hl
      refine tx_iconst (v := 0) dX4_readsDamp_83 rfl ?_
      refine tx_istore_n dX4_readsDamp_84 (by decide) ?_
      refine tx_goto (tgt := 2) dX4_readsDamp_85 (by decide) ?_
      cases hl
      exact tx_lsK hK ⟨rfl, rfl, trivial⟩
    · rw [if_pos c11] at hl
      refine tx_iconst (v := 1) dX4_readsDamp_79 rfl ?_
      refine tx_goto (tgt := 84) dX4_readsDamp_80 (by decide) ?_
      refine tx_istore_n dX4_readsDamp_84 (by decide) ?_
      refine tx_goto (tgt := 2) dX4_readsDamp_85 (by decide) ?_
      cases hl
      exact tx_lsK hK ⟨rfl, rfl, trivial⟩
  · rw [if_pos c8] at hl
    cases hl
    exact tx_lsK hK ⟨rfl, trivial⟩
set_option maxHeartbeats 4000000 in
theorem f_readsDamp_L2_s {l : Launch} {E : XEnv} {m : Nat} {ad : Nat → Nat} {h0 : XH} {R : Option Value → TS → Prop} {n : Nat} {x1 : Int32} {S : TS} {o : (Int32 × TS) ⊕ ((TS) ⊕ (TS))} (hl : f_readsDamp_L2 n x1 S = some o) (hK : (xk (fun s : Int32 × TS => TX l E mX4_readsDamp 4 2 [(0, .ref m), (1, .int s.1)] [] m ad h0 s.2 R) (fun r => K_readsDamp_L2 l E m ad h0 R S r) o)) : TX l E mX4_readsDamp 4 2 [(0, .ref m), (1, .int x1)] [] m ad h0 S R := by
  unfold f_readsDamp_L2 at hl
  refine tx_iload_n dX4_readsDamp_2 rfl ?_
  refine tx_if_eq (tgt := 88) dX4_readsDamp_3 (by decide) (fun c1 => ?_) (fun c1 => ?_)
  · rw [if_pos c1] at hl
    cases hl
    exact tx_lsK hK ⟨rfl, trivial⟩
  · rw [if_neg c1] at hl
    refine tx_aload_n dX4_readsDamp_6 rfl rfl ?_
    obtain ⟨r2, er2, hl⟩ := xb hl
    refine tx_callV (T_isGood er2) lV_X4_170 C_X4_isGood rfl dX4_readsDamp_7 rfl (by decide) (Nat.le_of_ble_eq_true rfl) ?_
    refine tx_if_eq (tgt := 88) dX4_readsDamp_10 (by decide) (fun c3 => ?_) (fun c3 => ?_)
    · rw [if_pos c3] at hl
      cases hl
      exact tx_lsK hK ⟨rfl, trivial⟩
    · rw [if_neg c3] at hl
      refine tx_aload_n dX4_readsDamp_13 rfl rfl ?_
      refine tx_getI gF_X4_240 dX4_readsDamp_14 (by decide) ?_
      refine tx_bipush (v := 8) dX4_readsDamp_17 (by decide) ?_
      refine tx_icmp_ne (tgt := 35) dX4_readsDamp_19 (by decide) (fun c4 => ?_) (fun c4 => ?_)
      · rw [if_neg c4] at hl
        exact tx_lsK (f_readsDamp_J35_s hl hK) ⟨rfl, trivial⟩
      · rw [if_pos c4] at hl
        refine tx_aload_n dX4_readsDamp_22 rfl rfl ?_
        refine tx_getI gF_X4_144 dX4_readsDamp_23 (by decide) ?_
        refine tx_iconst (v := 2) dX4_readsDamp_26 rfl ?_
        refine tx_icmp_ne (tgt := 35) dX4_readsDamp_27 (by decide) (fun c12 => ?_) (fun c12 => ?_)
        · rw [if_neg c12] at hl
          exact tx_lsK (f_readsDamp_J35_s hl hK) ⟨rfl, trivial⟩
        · rw [if_pos c12] at hl
          refine tx_aload_n dX4_readsDamp_30 rfl rfl ?_
          refine tx_iconst (v := 2) dX4_readsDamp_31 rfl ?_
          obtain ⟨r13, er13, hl⟩ := xb hl
          refine tx_callV (T_wrong er13) lV_X4_177 C_X4_wrong rfl dX4_readsDamp_32 rfl (by decide) (Nat.le_of_ble_eq_true rfl) ?_
          exact tx_lsK (f_readsDamp_J35_s hl hK) ⟨rfl, trivial⟩
set_option maxHeartbeats 4000000 in
theorem f_readsDamp_L2_ok {l : Launch} {E : XEnv} {m : Nat} {ad : Nat → Nat} {h0 : XH} {R : Option Value → TS → Prop} {n : Nat}  {S : TS} {s : Int32 × TS} {o : (TS) ⊕ (TS)} (hl : xloop (fun s => f_readsDamp_L2 n s.1 s.2) n s = some o) (hK : K_readsDamp_L2 l E m ad h0 R S o) : TX l E mX4_readsDamp 4 2 [(0, .ref m), (1, .int s.1)] [] m ad h0 s.2 R :=
  xloop_of (fun s : Int32 × TS => TX l E mX4_readsDamp 4 2 [(0, .ref m), (1, .int s.1)] [] m ad h0 s.2 R) (fun r => K_readsDamp_L2 l E m ad h0 R S r) (fun s o hl hk => f_readsDamp_L2_s (S := s.2) (o := o) hl hk) n s o hl hK
set_option maxHeartbeats 4000000 in
theorem T_readsDamp {l : Launch} {E : XEnv} {m : Nat} {ad : Nat → Nat} {n : Nat}  {S : TS} {S' : TS} (hl : f_readsDamp n  S = some S') : TM l E mX4_readsDamp 4 m ad [.ref m] S none S' := by
  unfold f_readsDamp at hl
  refine tm_of (by decide +kernel) rfl (Nat.le_of_ble_eq_true rfl) fun h0 => ?_
  refine tx_iconst (v := 1) dX4_readsDamp_0 rfl ?_
  refine tx_istore_n dX4_readsDamp_1 (by decide) ?_
  obtain ⟨o14, eo14, hl⟩ := xb hl
  rcases o14 with e15 | e16
  · dsimp only at hl
    refine tx_lsK (f_readsDamp_L2_ok (S := S) (s := (1, S)) eo14 ?_) ⟨rfl, rfl, trivial⟩
    cases hl
    exact tx_vret dX4_readsDamp_88 rfl ⟨rfl, rfl⟩
  · dsimp only at hl
    refine tx_lsK (f_readsDamp_L2_ok (S := S) (s := (1, S)) eo14 ?_) ⟨rfl, rfl, trivial⟩
    cases hl
    exact tx_vret dX4_readsDamp_50 rfl ⟨rfl, rfl⟩
def f_isSign (x1 : Int32) (S : TS) : Option (Int32) := if (S.1 18) = 3 then if (S.1 22) = x1 then some 1 else some 0 else some 0
set_option maxHeartbeats 4000000 in
theorem T_isSign {l : Launch} {E : XEnv} {m : Nat} {ad : Nat → Nat} {x1 : Int32} {S : TS} {r : Int32} (hl : f_isSign x1 S = some r) : TM l E mX4_isSign 1 m ad [.ref m, .int x1] S (some (.int r)) S := by
  unfold f_isSign at hl
  refine tm_of (by decide +kernel) rfl (Nat.le_of_ble_eq_true rfl) fun h0 => ?_
  refine tx_aload_n dX4_isSign_0 rfl rfl ?_
  refine tx_getI gF_X4_144 dX4_isSign_1 (by decide) ?_
  refine tx_iconst (v := 3) dX4_isSign_4 rfl ?_
  refine tx_icmp_ne (tgt := 20) dX4_isSign_5 (by decide) (fun c1 => ?_) (fun c1 => ?_)
  · rw [if_neg c1] at hl
    refine tx_iconst (v := 0) dX4_isSign_20 rfl ?_
    cases hl
    exact tx_iret dX4_isSign_21 rfl rfl ⟨rfl, rfl⟩
  · rw [if_pos c1] at hl
    refine tx_aload_n dX4_isSign_8 rfl rfl ?_
    refine tx_getI gF_X4_141 dX4_isSign_9 (by decide) ?_
    refine tx_iload_n dX4_isSign_12 rfl ?_
    refine tx_icmp_ne (tgt := 20) dX4_isSign_13 (by decide) (fun c2 => ?_) (fun c2 => ?_)
    · rw [if_neg c2] at hl
      refine tx_iconst (v := 0) dX4_isSign_20 rfl ?_
      cases hl
      exact tx_iret dX4_isSign_21 rfl rfl ⟨rfl, rfl⟩
    · rw [if_pos c2] at hl
      refine tx_iconst (v := 1) dX4_isSign_16 rfl ?_
      refine tx_goto (tgt := 21) dX4_isSign_17 (by decide) ?_
      cases hl
      exact tx_iret dX4_isSign_21 rfl rfl ⟨rfl, rfl⟩
def f_deeper  (S : TS) : Option (TS) := if (S.1 32) ≥ 6 then if (S.1 18) = 2 then (f_wrong 2 S).bind fun r3 => some r3 else if (S.1 18) = 1 then (f_wrong 2 S).bind fun r5 => some r5 else (f_isSign 40 S).bind fun r6 => if r6 = 0 then (f_wrong 1 S).bind fun r8 => some r8 else (f_wrong 2 S).bind fun r9 => some r9 else (some (tpF S 32 ((S.1 32) + 1))).bind fun S10 => (twr S10 40 (S10.1 32) 0).bind fun S11 => some S11
set_option maxHeartbeats 4000000 in
theorem T_deeper {l : Launch} {E : XEnv} {m : Nat} {ad : Nat → Nat}  {S : TS} {S' : TS} (hl : f_deeper  S = some S') : TM l E mX4_deeper 2 m ad [.ref m] S none S' := by
  unfold f_deeper at hl
  refine tm_of (by decide +kernel) rfl (Nat.le_of_ble_eq_true rfl) fun h0 => ?_
  refine tx_aload_n dX4_deeper_0 rfl rfl ?_
  refine tx_getI gF_X4_202 dX4_deeper_1 (by decide) ?_
  refine tx_bipush (v := 6) dX4_deeper_4 (by decide) ?_
  refine tx_icmp_ge (tgt := 30) dX4_deeper_6 (by decide) (fun c1 => ?_) (fun c1 => ?_)
  · rw [if_pos c1] at hl
    refine tx_aload_n dX4_deeper_30 rfl rfl ?_
    refine tx_aload_n dX4_deeper_31 rfl rfl ?_
    refine tx_getI gF_X4_144 dX4_deeper_32 (by decide) ?_
    refine tx_iconst (v := 2) dX4_deeper_35 rfl ?_
    refine tx_icmp_eq (tgt := 56) dX4_deeper_36 (by decide) (fun c2 => ?_) (fun c2 => ?_)
    · rw [if_pos c2] at hl
      refine tx_iconst (v := 2) dX4_deeper_56 rfl ?_
      refine tx_goto (tgt := 61) dX4_deeper_57 (by decide) ?_
      obtain ⟨r3, er3, hl⟩ := xb hl
      refine tx_callV (T_wrong er3) lV_X4_177 C_X4_wrong rfl dX4_deeper_61 rfl (by decide) (Nat.le_of_ble_eq_true rfl) ?_
      cases hl
      exact tx_vret dX4_deeper_64 rfl ⟨rfl, rfl⟩
    · rw [if_neg c2] at hl
      refine tx_aload_n dX4_deeper_39 rfl rfl ?_
      refine tx_getI gF_X4_144 dX4_deeper_40 (by decide) ?_
      refine tx_iconst (v := 1) dX4_deeper_43 rfl ?_
      refine tx_icmp_eq (tgt := 56) dX4_deeper_44 (by decide) (fun c4 => ?_) (fun c4 => ?_)
      · rw [if_pos c4] at hl
        refine tx_iconst (v := 2) dX4_deeper_56 rfl ?_
        refine tx_goto (tgt := 61) dX4_deeper_57 (by decide) ?_
        obtain ⟨r5, er5, hl⟩ := xb hl
        refine tx_callV (T_wrong er5) lV_X4_177 C_X4_wrong rfl dX4_deeper_61 rfl (by decide) (Nat.le_of_ble_eq_true rfl) ?_
        cases hl
        exact tx_vret dX4_deeper_64 rfl ⟨rfl, rfl⟩
      · rw [if_neg c4] at hl
        refine tx_aload_n dX4_deeper_47 rfl rfl ?_
        refine tx_bipush (v := 40) dX4_deeper_48 (by decide) ?_
        obtain ⟨r6, er6, hl⟩ := xb hl
        refine tx_callV (T_isSign er6) lV_X4_205 C_X4_isSign rfl dX4_deeper_50 rfl (by decide) (Nat.le_of_ble_eq_true rfl) ?_
        refine tx_if_eq (tgt := 60) dX4_deeper_53 (by decide) (fun c7 => ?_) (fun c7 => ?_)
        · rw [if_pos c7] at hl
          refine tx_iconst (v := 1) dX4_deeper_60 rfl ?_
          obtain ⟨r8, er8, hl⟩ := xb hl
          refine tx_callV (T_wrong er8) lV_X4_177 C_X4_wrong rfl dX4_deeper_61 rfl (by decide) (Nat.le_of_ble_eq_true rfl) ?_
          cases hl
          exact tx_vret dX4_deeper_64 rfl ⟨rfl, rfl⟩
        · rw [if_neg c7] at hl
          refine tx_iconst (v := 2) dX4_deeper_56 rfl ?_
          refine tx_goto (tgt := 61) dX4_deeper_57 (by decide) ?_
          obtain ⟨r9, er9, hl⟩ := xb hl
          refine tx_callV (T_wrong er9) lV_X4_177 C_X4_wrong rfl dX4_deeper_61 rfl (by decide) (Nat.le_of_ble_eq_true rfl) ?_
          cases hl
          exact tx_vret dX4_deeper_64 rfl ⟨rfl, rfl⟩
  · rw [if_neg c1] at hl
    refine tx_aload_n dX4_deeper_9 rfl rfl ?_
    refine tx_dup dX4_deeper_10 rfl ?_
    refine tx_getI gF_X4_202 dX4_deeper_11 (by decide) ?_
    refine tx_iconst (v := 1) dX4_deeper_14 rfl ?_
    refine tx_iadd dX4_deeper_15 ?_
    obtain ⟨S10, eS10, hl⟩ := xb hl
    refine tx_putI pF_X4_202 dX4_deeper_16 (by decide) rfl rfl (Option.some.inj eS10) ?_
    refine tx_aload_n dX4_deeper_19 rfl rfl ?_
    refine tx_getA gF_X4_62 dX4_deeper_20 (by decide) ?_
    refine tx_aload_n dX4_deeper_23 rfl rfl ?_
    refine tx_getI gF_X4_202 dX4_deeper_24 (by decide) ?_
    refine tx_iconst (v := 0) dX4_deeper_27 rfl ?_
    obtain ⟨S11, eS11, hl⟩ := xb hl
    refine tx_zast dX4_deeper_28 rfl eS11 ?_
    cases hl
    exact tx_vret dX4_deeper_29 rfl ⟨rfl, rfl⟩
def f_waitsFor (x1 : Int32) (S : TS) : Option (TS) := (twr S 39 (S.1 31) x1).bind fun S1 => (some (tpF S1 31 ((S1.1 31) + 1))).bind fun S2 => some S2
set_option maxHeartbeats 4000000 in
theorem T_waitsFor {l : Launch} {E : XEnv} {m : Nat} {ad : Nat → Nat} {x1 : Int32} {S : TS} {S' : TS} (hl : f_waitsFor x1 S = some S') : TM l E mX4_waitsFor 1 m ad [.ref m, .int x1] S none S' := by
  unfold f_waitsFor at hl
  refine tm_of (by decide +kernel) rfl (Nat.le_of_ble_eq_true rfl) fun h0 => ?_
  refine tx_aload_n dX4_waitsFor_0 rfl rfl ?_
  refine tx_getA gF_X4_59 dX4_waitsFor_1 (by decide) ?_
  refine tx_aload_n dX4_waitsFor_4 rfl rfl ?_
  refine tx_getI gF_X4_183 dX4_waitsFor_5 (by decide) ?_
  refine tx_iload_n dX4_waitsFor_8 rfl ?_
  obtain ⟨S1, eS1, hl⟩ := xb hl
  refine tx_iast (by decide) dX4_waitsFor_9 eS1 ?_
  refine tx_aload_n dX4_waitsFor_10 rfl rfl ?_
  refine tx_dup dX4_waitsFor_11 rfl ?_
  refine tx_getI gF_X4_183 dX4_waitsFor_12 (by decide) ?_
  refine tx_iconst (v := 1) dX4_waitsFor_15 rfl ?_
  refine tx_iadd dX4_waitsFor_16 ?_
  obtain ⟨S2, eS2, hl⟩ := xb hl
  refine tx_putI pF_X4_183 dX4_waitsFor_17 (by decide) rfl rfl (Option.some.inj eS2) ?_
  cases hl
  exact tx_vret dX4_waitsFor_20 rfl ⟨rfl, rfl⟩
def f_puts (x1 : Int32) (S : TS) : Option (TS) := (twr S 38 (S.1 29) x1).bind fun S1 => (some (tpF S1 29 ((S1.1 29) + 1))).bind fun S2 => some S2
set_option maxHeartbeats 4000000 in
theorem T_puts {l : Launch} {E : XEnv} {m : Nat} {ad : Nat → Nat} {x1 : Int32} {S : TS} {S' : TS} (hl : f_puts x1 S = some S') : TM l E mX4_puts 1 m ad [.ref m, .int x1] S none S' := by
  unfold f_puts at hl
  refine tm_of (by decide +kernel) rfl (Nat.le_of_ble_eq_true rfl) fun h0 => ?_
  refine tx_aload_n dX4_puts_0 rfl rfl ?_
  refine tx_getA gF_X4_56 dX4_puts_1 (by decide) ?_
  refine tx_aload_n dX4_puts_4 rfl rfl ?_
  refine tx_getI gF_X4_180 dX4_puts_5 (by decide) ?_
  refine tx_iload_n dX4_puts_8 rfl ?_
  obtain ⟨S1, eS1, hl⟩ := xb hl
  refine tx_iast (by decide) dX4_puts_9 eS1 ?_
  refine tx_aload_n dX4_puts_10 rfl rfl ?_
  refine tx_dup dX4_puts_11 rfl ?_
  refine tx_getI gF_X4_180 dX4_puts_12 (by decide) ?_
  refine tx_iconst (v := 1) dX4_puts_15 rfl ?_
  refine tx_iadd dX4_puts_16 ?_
  obtain ⟨S2, eS2, hl⟩ := xb hl
  refine tx_putI pF_X4_180 dX4_puts_17 (by decide) rfl rfl (Option.some.inj eS2) ?_
  cases hl
  exact tx_vret dX4_puts_20 rfl ⟨rfl, rfl⟩
def f_part_J93 (n : Nat)  (S : TS) : Option (TS) := (f_isGood S).bind fun r6 => if r6 = 0 then some S else (f_takes n S).bind fun r8 => some r8
def f_part_J75 (n : Nat) (x1 : Int32) (S : TS) : Option (TS) := (f_puts 2 S).bind fun r12 => (f_puts x1 r12).bind fun r13 => f_part_J93 n  r13
def f_part_J70 (n : Nat) (x1 : Int32) (S : TS) : Option (TS) := (f_wrong 3 S).bind fun r11 => f_part_J75 n x1 r11
def f_part_J29 (n : Nat)  (S : TS) : Option (TS) := (f_puts 1 S).bind fun r16 => (f_puts (r16.1 21) r16).bind fun r17 => f_part_J93 n  r17
def f_part (n : Nat)  (S : TS) : Option (TS) := (f_isGood S).bind fun r1 => if r1 = 0 then some S else if (S.1 18) = 2 then if (S.1 20) ≤ 4 then f_part_J29 n  S else (f_wrong 2 S).bind fun r18 => f_part_J29 n  r18 else if (S.1 18) = 1 then (f_knownWord n S).bind fun r9 => if r9 < 0 then f_part_J70 n r9 S else if r9 ≤ (S.1 30) then f_part_J75 n r9 S else f_part_J70 n r9 S else (f_wrong 1 S).bind fun r5 => f_part_J93 n  r5
set_option maxHeartbeats 4000000 in
theorem f_part_J93_s {l : Launch} {E : XEnv} {m : Nat} {ad : Nat → Nat} {h0 : XH} {n : Nat}  {S : TS} {S' : TS} (hl : f_part_J93 n  S = some S') : TX l E mX4_part 4 93 [(0, .ref m)] [] m ad h0 S (fun v' S'' => v' = none ∧ S'' = S') := by
  unfold f_part_J93 at hl
  refine tx_aload_n dX4_part_93 rfl rfl ?_
  obtain ⟨r6, er6, hl⟩ := xb hl
  refine tx_callV (T_isGood er6) lV_X4_170 C_X4_isGood rfl dX4_part_94 rfl (by decide) (Nat.le_of_ble_eq_true rfl) ?_
  refine tx_if_eq (tgt := 104) dX4_part_97 (by decide) (fun c7 => ?_) (fun c7 => ?_)
  · rw [if_pos c7] at hl
    cases hl
    exact tx_vret dX4_part_104 rfl ⟨rfl, rfl⟩
  · rw [if_neg c7] at hl
    refine tx_aload_n dX4_part_100 rfl rfl ?_
    obtain ⟨r8, er8, hl⟩ := xb hl
    refine tx_callV (T_takes er8) lV_X4_174 C_X4_takes rfl dX4_part_101 rfl (by decide) (Nat.le_of_ble_eq_true rfl) ?_
    cases hl
    exact tx_vret dX4_part_104 rfl ⟨rfl, rfl⟩
set_option maxHeartbeats 4000000 in
theorem f_part_J75_s {l : Launch} {E : XEnv} {m : Nat} {ad : Nat → Nat} {h0 : XH} {n : Nat} {x1 : Int32} {S : TS} {S' : TS} (hl : f_part_J75 n x1 S = some S') : TX l E mX4_part 4 75 [(0, .ref m), (1, .int x1)] [] m ad h0 S (fun v' S'' => v' = none ∧ S'' = S') := by
  unfold f_part_J75 at hl
  refine tx_aload_n dX4_part_75 rfl rfl ?_
  refine tx_iconst (v := 2) dX4_part_76 rfl ?_
  obtain ⟨r12, er12, hl⟩ := xb hl
  refine tx_callV (T_puts er12) lV_X4_192 C_X4_puts rfl dX4_part_77 rfl (by decide) (Nat.le_of_ble_eq_true rfl) ?_
  refine tx_aload_n dX4_part_80 rfl rfl ?_
  refine tx_iload_n dX4_part_81 rfl ?_
  obtain ⟨r13, er13, hl⟩ := xb hl
  refine tx_callV (T_puts er13) lV_X4_192 C_X4_puts rfl dX4_part_82 rfl (by decide) (Nat.le_of_ble_eq_true rfl) ?_
  refine tx_goto (tgt := 93) dX4_part_85 (by decide) ?_
  exact tx_lsK (f_part_J93_s hl) ⟨rfl, trivial⟩
set_option maxHeartbeats 4000000 in
theorem f_part_J70_s {l : Launch} {E : XEnv} {m : Nat} {ad : Nat → Nat} {h0 : XH} {n : Nat} {x1 : Int32} {S : TS} {S' : TS} (hl : f_part_J70 n x1 S = some S') : TX l E mX4_part 4 70 [(0, .ref m), (1, .int x1)] [] m ad h0 S (fun v' S'' => v' = none ∧ S'' = S') := by
  unfold f_part_J70 at hl
  refine tx_aload_n dX4_part_70 rfl rfl ?_
  refine tx_iconst (v := 3) dX4_part_71 rfl ?_
  obtain ⟨r11, er11, hl⟩ := xb hl
  refine tx_callV (T_wrong er11) lV_X4_177 C_X4_wrong rfl dX4_part_72 rfl (by decide) (Nat.le_of_ble_eq_true rfl) ?_
  exact tx_lsK (f_part_J75_s hl) ⟨rfl, rfl, trivial⟩
set_option maxHeartbeats 4000000 in
theorem f_part_J29_s {l : Launch} {E : XEnv} {m : Nat} {ad : Nat → Nat} {h0 : XH} {n : Nat}  {S : TS} {S' : TS} (hl : f_part_J29 n  S = some S') : TX l E mX4_part 4 29 [(0, .ref m)] [] m ad h0 S (fun v' S'' => v' = none ∧ S'' = S') := by
  unfold f_part_J29 at hl
  refine tx_aload_n dX4_part_29 rfl rfl ?_
  refine tx_iconst (v := 1) dX4_part_30 rfl ?_
  obtain ⟨r16, er16, hl⟩ := xb hl
  refine tx_callV (T_puts er16) lV_X4_192 C_X4_puts rfl dX4_part_31 rfl (by decide) (Nat.le_of_ble_eq_true rfl) ?_
  refine tx_aload_n dX4_part_34 rfl rfl ?_
  refine tx_aload_n dX4_part_35 rfl rfl ?_
  refine tx_getI gF_X4_138 dX4_part_36 (by decide) ?_
  obtain ⟨r17, er17, hl⟩ := xb hl
  refine tx_callV (T_puts er17) lV_X4_192 C_X4_puts rfl dX4_part_39 rfl (by decide) (Nat.le_of_ble_eq_true rfl) ?_
  refine tx_goto (tgt := 93) dX4_part_42 (by decide) ?_
  exact tx_lsK (f_part_J93_s hl) ⟨rfl, trivial⟩
set_option maxHeartbeats 4000000 in
theorem T_part {l : Launch} {E : XEnv} {m : Nat} {ad : Nat → Nat} {n : Nat}  {S : TS} {S' : TS} (hl : f_part n  S = some S') : TM l E mX4_part 4 m ad [.ref m] S none S' := by
  unfold f_part at hl
  refine tm_of (by decide +kernel) rfl (Nat.le_of_ble_eq_true rfl) fun h0 => ?_
  refine tx_aload_n dX4_part_0 rfl rfl ?_
  obtain ⟨r1, er1, hl⟩ := xb hl
  refine tx_callV (T_isGood er1) lV_X4_170 C_X4_isGood rfl dX4_part_1 rfl (by decide) (Nat.le_of_ble_eq_true rfl) ?_
  refine tx_if_ne (tgt := 8) dX4_part_4 (by decide) (fun c2 => ?_) (fun c2 => ?_)
  · rw [if_neg c2] at hl
    refine tx_aload_n dX4_part_8 rfl rfl ?_
    refine tx_getI gF_X4_144 dX4_part_9 (by decide) ?_
    refine tx_iconst (v := 2) dX4_part_12 rfl ?_
    refine tx_icmp_ne (tgt := 45) dX4_part_13 (by decide) (fun c3 => ?_) (fun c3 => ?_)
    · rw [if_neg c3] at hl
      refine tx_aload_n dX4_part_45 rfl rfl ?_
      refine tx_getI gF_X4_144 dX4_part_46 (by decide) ?_
      refine tx_iconst (v := 1) dX4_part_49 rfl ?_
      refine tx_icmp_ne (tgt := 88) dX4_part_50 (by decide) (fun c4 => ?_) (fun c4 => ?_)
      · rw [if_neg c4] at hl
        refine tx_aload_n dX4_part_88 rfl rfl ?_
        refine tx_iconst (v := 1) dX4_part_89 rfl ?_
        obtain ⟨r5, er5, hl⟩ := xb hl
        refine tx_callV (T_wrong er5) lV_X4_177 C_X4_wrong rfl dX4_part_90 rfl (by decide) (Nat.le_of_ble_eq_true rfl) ?_
        exact tx_lsK (f_part_J93_s hl) ⟨rfl, trivial⟩
      · rw [if_pos c4] at hl
        refine tx_aload_n dX4_part_53 rfl rfl ?_
        obtain ⟨r9, er9, hl⟩ := xb hl
        refine tx_callV (T_knownWord er9) lV_X4_195 C_X4_knownWord rfl dX4_part_54 rfl (by decide) (Nat.le_of_ble_eq_true rfl) ?_
        refine tx_istore_n dX4_part_57 (by decide) ?_
        refine tx_iload_n dX4_part_58 rfl ?_
        refine tx_if_lt (tgt := 70) dX4_part_59 (by decide) (fun c10 => ?_) (fun c10 => ?_)
        · rw [if_pos c10] at hl
          exact tx_lsK (f_part_J70_s hl) ⟨rfl, rfl, trivial⟩
        · rw [if_neg c10] at hl
          refine tx_iload_n dX4_part_62 rfl ?_
          refine tx_aload_n dX4_part_63 rfl rfl ?_
          refine tx_getI gF_X4_199 dX4_part_64 (by decide) ?_
          refine tx_icmp_le (tgt := 75) dX4_part_67 (by decide) (fun c14 => ?_) (fun c14 => ?_)
          · rw [if_pos c14] at hl
            exact tx_lsK (f_part_J75_s hl) ⟨rfl, rfl, trivial⟩
          · rw [if_neg c14] at hl
            exact tx_lsK (f_part_J70_s hl) ⟨rfl, rfl, trivial⟩
    · rw [if_pos c3] at hl
      refine tx_aload_n dX4_part_16 rfl rfl ?_
      refine tx_getI gF_X4_154 dX4_part_17 (by decide) ?_
      refine tx_iconst (v := 4) dX4_part_20 rfl ?_
      refine tx_icmp_le (tgt := 29) dX4_part_21 (by decide) (fun c15 => ?_) (fun c15 => ?_)
      · rw [if_pos c15] at hl
        exact tx_lsK (f_part_J29_s hl) ⟨rfl, trivial⟩
      · rw [if_neg c15] at hl
        refine tx_aload_n dX4_part_24 rfl rfl ?_
        refine tx_iconst (v := 2) dX4_part_25 rfl ?_
        obtain ⟨r18, er18, hl⟩ := xb hl
        refine tx_callV (T_wrong er18) lV_X4_177 C_X4_wrong rfl dX4_part_26 rfl (by decide) (Nat.le_of_ble_eq_true rfl) ?_
        exact tx_lsK (f_part_J29_s hl) ⟨rfl, trivial⟩
  · rw [if_pos c2] at hl
    cases hl
    exact tx_vret dX4_part_7 rfl ⟨rfl, rfl⟩
def f_operand_J50 (n : Nat) (x2 : Int32) (x4 : Int32) (S : TS) : Option ((Int32 × TS) ⊕ ((TS))) := (some (x4 + 1)).bind fun w10 => (f_isGood S).bind fun r11 => if r11 = 0 then some (.inl (w10, S)) else (f_waitsFor 3 S).bind fun r13 => (f_takes n r13).bind fun r14 => some (.inl (w10, r14))
def f_operand_L18 (n : Nat) (x2 : Int32) (x4 : Int32) (S : TS) : Option ((Int32 × TS) ⊕ ((TS))) := (f_isGood S).bind fun r4 => if r4 = 0 then some (.inr S) else if x2 = 0 then some (.inr S) else (f_knownWord n S).bind fun r7 => if r7 = 14 then if x4 = 6 then (f_wrong 2 S).bind fun r15 => f_operand_J50 n x2 x4 r15 else f_operand_J50 n x2 x4 S else some (.inr S)
abbrev K_operand_L18 (l : Launch) (E : XEnv) (m : Nat) (ad : Nat → Nat) (h0 : XH) (R : Option Value → TS → Prop) (S : TS) (x2 : Int32) (o : (TS)) : Prop := match o with
  | e => TX l E mX4_operand 5 75 [(0, .ref m), (2, .int x2)] [] m ad h0 e R
def f_operand_J96 (n : Nat) (x2 : Int32) (y0 : Int32) (S : TS) : Option ((Int32 × Int32 × TS) ⊕ ((TS))) := if y0 = 0 then some (.inl (x2, y0, S)) else (f_waitsFor 14 S).bind fun r20 => (f_takes n r20).bind fun r21 => (f_deeper r21).bind fun r22 => some (.inl (1, y0, r22))
def f_operand_J95 (n : Nat) (x2 : Int32) (S : TS) : Option ((Int32 × Int32 × TS) ⊕ ((TS))) := f_operand_J96 n x2 0 S
def f_operand_J75 (n : Nat) (x2 : Int32) (S : TS) : Option ((Int32 × Int32 × TS) ⊕ ((TS))) := (f_isGood S).bind fun r17 => if r17 = 0 then f_operand_J95 n x2 S else (f_isSign 40 S).bind fun r23 => if r23 = 0 then f_operand_J95 n x2 S else f_operand_J96 n x2 1 S
def f_operand_L4 (n : Nat) (x2 : Int32) (x3 : Int32) (S : TS) : Option ((Int32 × Int32 × TS) ⊕ ((TS))) := if x3 = 0 then some (.inr S) else (f_isGood S).bind fun r2 => if r2 = 0 then some (.inr S) else (xloop (fun s => f_operand_L18 n x2 s.1 s.2) n (0, S)).bind fun o16 => f_operand_J75 n x2 o16
abbrev K_operand_L4 (l : Launch) (E : XEnv) (m : Nat) (ad : Nat → Nat) (h0 : XH) (R : Option Value → TS → Prop) (S : TS)  (o : (TS)) : Prop := match o with
  | e => TX l E mX4_operand 5 120 [(0, .ref m)] [] m ad h0 e R
def f_operand (n : Nat) (x1 : Int32) (S : TS) : Option (TS) := (xloop (fun s => f_operand_L4 n s.1 s.2.1 s.2.2) n (x1, 1, S)).bind fun o25 => (f_part n o25).bind fun r26 => some r26
set_option maxHeartbeats 4000000 in
theorem f_operand_J50_s {l : Launch} {E : XEnv} {m : Nat} {ad : Nat → Nat} {h0 : XH} {R : Option Value → TS → Prop} {n : Nat} {x2 : Int32} {x4 : Int32} {S : TS} {o : (Int32 × TS) ⊕ ((TS))} (hl : f_operand_J50 n x2 x4 S = some o) (hK : (xk (fun s : Int32 × TS => TX l E mX4_operand 5 18 [(0, .ref m), (2, .int x2), (4, .int s.1)] [] m ad h0 s.2 R) (fun r => K_operand_L18 l E m ad h0 R S x2 r) o)) : TX l E mX4_operand 5 50 [(0, .ref m), (2, .int x2), (4, .int x4)] [] m ad h0 S R := by
  unfold f_operand_J50 at hl
  obtain ⟨w10, ew10, hl⟩ := xb hl
  refine tx_iinc dX4_operand_50 rfl (by decide) (Option.some.inj ew10) ?_
  refine tx_aload_n dX4_operand_53 rfl rfl ?_
  obtain ⟨r11, er11, hl⟩ := xb hl
  refine tx_callV (T_isGood er11) lV_X4_170 C_X4_isGood rfl dX4_operand_54 rfl (by decide) (Nat.le_of_ble_eq_true rfl) ?_
  refine tx_if_ne (tgt := 63) dX4_operand_57 (by decide) (fun c12 => ?_) (fun c12 => ?_)
  · rw [if_neg c12] at hl
    refine tx_aload_n dX4_operand_63 rfl rfl ?_
    refine tx_iconst (v := 3) dX4_operand_64 rfl ?_
    obtain ⟨r13, er13, hl⟩ := xb hl
    refine tx_callV (T_waitsFor er13) lV_X4_208 C_X4_waitsFor rfl dX4_operand_65 rfl (by decide) (Nat.le_of_ble_eq_true rfl) ?_
    refine tx_aload_n dX4_operand_68 rfl rfl ?_
    obtain ⟨r14, er14, hl⟩ := xb hl
    refine tx_callV (T_takes er14) lV_X4_174 C_X4_takes rfl dX4_operand_69 rfl (by decide) (Nat.le_of_ble_eq_true rfl) ?_
    refine tx_goto (tgt := 18) dX4_operand_72 (by decide) ?_
    cases hl
    exact tx_lsK hK ⟨rfl, rfl, rfl, trivial⟩
  · rw [if_pos c12] at hl
    refine tx_goto (tgt := 18) dX4_operand_60 (by decide) ?_
    cases hl
    exact tx_lsK hK ⟨rfl, rfl, rfl, trivial⟩
set_option maxHeartbeats 4000000 in
theorem f_operand_L18_s {l : Launch} {E : XEnv} {m : Nat} {ad : Nat → Nat} {h0 : XH} {R : Option Value → TS → Prop} {n : Nat} {x2 : Int32} {x4 : Int32} {S : TS} {o : (Int32 × TS) ⊕ ((TS))} (hl : f_operand_L18 n x2 x4 S = some o) (hK : (xk (fun s : Int32 × TS => TX l E mX4_operand 5 18 [(0, .ref m), (2, .int x2), (4, .int s.1)] [] m ad h0 s.2 R) (fun r => K_operand_L18 l E m ad h0 R S x2 r) o)) : TX l E mX4_operand 5 18 [(0, .ref m), (2, .int x2), (4, .int x4)] [] m ad h0 S R := by
  unfold f_operand_L18 at hl
  refine tx_aload_n dX4_operand_18 rfl rfl ?_
  obtain ⟨r4, er4, hl⟩ := xb hl
  refine tx_callV (T_isGood er4) lV_X4_170 C_X4_isGood rfl dX4_operand_19 rfl (by decide) (Nat.le_of_ble_eq_true rfl) ?_
  refine tx_if_eq (tgt := 75) dX4_operand_22 (by decide) (fun c5 => ?_) (fun c5 => ?_)
  · rw [if_pos c5] at hl
    cases hl
    exact tx_lsK hK ⟨rfl, rfl, trivial⟩
  · rw [if_neg c5] at hl
    refine tx_iload_n dX4_operand_25 rfl ?_
    refine tx_if_eq (tgt := 75) dX4_operand_26 (by decide) (fun c6 => ?_) (fun c6 => ?_)
    · rw [if_pos c6] at hl
      cases hl
      exact tx_lsK hK ⟨rfl, rfl, trivial⟩
    · rw [if_neg c6] at hl
      refine tx_aload_n dX4_operand_29 rfl rfl ?_
      obtain ⟨r7, er7, hl⟩ := xb hl
      refine tx_callV (T_knownWord er7) lV_X4_195 C_X4_knownWord rfl dX4_operand_30 rfl (by decide) (Nat.le_of_ble_eq_true rfl) ?_
      refine tx_bipush (v := 14) dX4_operand_33 (by decide) ?_
      refine tx_icmp_ne (tgt := 75) dX4_operand_35 (by decide) (fun c8 => ?_) (fun c8 => ?_)
      · rw [if_neg c8] at hl
        cases hl
        exact tx_lsK hK ⟨rfl, rfl, trivial⟩
      · rw [if_pos c8] at hl
        refine tx_iload dX4_operand_38 rfl ?_
        refine tx_bipush (v := 6) dX4_operand_40 (by decide) ?_
        refine tx_icmp_ne (tgt := 50) dX4_operand_42 (by decide) (fun c9 => ?_) (fun c9 => ?_)
        · rw [if_neg c9] at hl
          exact tx_lsK (f_operand_J50_s hl hK) ⟨rfl, rfl, rfl, trivial⟩
        · rw [if_pos c9] at hl
          refine tx_aload_n dX4_operand_45 rfl rfl ?_
          refine tx_iconst (v := 2) dX4_operand_46 rfl ?_
          obtain ⟨r15, er15, hl⟩ := xb hl
          refine tx_callV (T_wrong er15) lV_X4_177 C_X4_wrong rfl dX4_operand_47 rfl (by decide) (Nat.le_of_ble_eq_true rfl) ?_
          exact tx_lsK (f_operand_J50_s hl hK) ⟨rfl, rfl, rfl, trivial⟩
set_option maxHeartbeats 4000000 in
theorem f_operand_L18_ok {l : Launch} {E : XEnv} {m : Nat} {ad : Nat → Nat} {h0 : XH} {R : Option Value → TS → Prop} {n : Nat} {x2 : Int32} {S : TS} {s : Int32 × TS} {o : (TS)} (hl : xloop (fun s => f_operand_L18 n x2 s.1 s.2) n s = some o) (hK : K_operand_L18 l E m ad h0 R S x2 o) : TX l E mX4_operand 5 18 [(0, .ref m), (2, .int x2), (4, .int s.1)] [] m ad h0 s.2 R :=
  xloop_of (fun s : Int32 × TS => TX l E mX4_operand 5 18 [(0, .ref m), (2, .int x2), (4, .int s.1)] [] m ad h0 s.2 R) (fun r => K_operand_L18 l E m ad h0 R S x2 r) (fun s o hl hk => f_operand_L18_s (S := s.2) (o := o) hl hk) n s o hl hK
set_option maxHeartbeats 4000000 in
theorem f_operand_J96_s {l : Launch} {E : XEnv} {m : Nat} {ad : Nat → Nat} {h0 : XH} {R : Option Value → TS → Prop} {n : Nat} {x2 : Int32} {y0 : Int32} {S : TS} {o : (Int32 × Int32 × TS) ⊕ ((TS))} (hl : f_operand_J96 n x2 y0 S = some o) (hK : (xk (fun s : Int32 × Int32 × TS => TX l E mX4_operand 5 4 [(0, .ref m), (2, .int s.1), (3, .int s.2.1)] [] m ad h0 s.2.2 R) (fun r => K_operand_L4 l E m ad h0 R S r) o)) : TX l E mX4_operand 5 96 [(0, .ref m), (2, .int x2)] [.int y0] m ad h0 S R := by
  unfold f_operand_J96 at hl
  refine tx_istore_n dX4_operand_96 (by decide) ?_
  refine tx_iload_n dX4_operand_97 rfl ?_
  refine tx_if_eq (tgt := 117) dX4_operand_98 (by decide) (fun c19 => ?_) (fun c19 => ?_)
  · rw [if_pos c19] at hl
    refine tx_goto (tgt := 4) dX4_operand_117 (by decide) ?_
    cases hl
    exact tx_lsK hK ⟨rfl, rfl, rfl, trivial⟩
  · rw [if_neg c19] at hl
    refine tx_aload_n dX4_operand_101 rfl rfl ?_
    refine tx_bipush (v := 14) dX4_operand_102 (by decide) ?_
    obtain ⟨r20, er20, hl⟩ := xb hl
    refine tx_callV (T_waitsFor er20) lV_X4_208 C_X4_waitsFor rfl dX4_operand_104 rfl (by decide) (Nat.le_of_ble_eq_true rfl) ?_
    refine tx_aload_n dX4_operand_107 rfl rfl ?_
    obtain ⟨r21, er21, hl⟩ := xb hl
    refine tx_callV (T_takes er21) lV_X4_174 C_X4_takes rfl dX4_operand_108 rfl (by decide) (Nat.le_of_ble_eq_true rfl) ?_
    refine tx_aload_n dX4_operand_111 rfl rfl ?_
    obtain ⟨r22, er22, hl⟩ := xb hl
    refine tx_callV (T_deeper er22) lV_X4_211 C_X4_deeper rfl dX4_operand_112 rfl (by decide) (Nat.le_of_ble_eq_true rfl) ?_
    refine tx_iconst (v := 1) dX4_operand_115 rfl ?_
    refine tx_istore_n dX4_operand_116 (by decide) ?_
    refine tx_goto (tgt := 4) dX4_operand_117 (by decide) ?_
    cases hl
    exact tx_lsK hK ⟨rfl, rfl, rfl, trivial⟩
set_option maxHeartbeats 4000000 in
theorem f_operand_J95_s {l : Launch} {E : XEnv} {m : Nat} {ad : Nat → Nat} {h0 : XH} {R : Option Value → TS → Prop} {n : Nat} {x2 : Int32} {S : TS} {o : (Int32 × Int32 × TS) ⊕ ((TS))} (hl : f_operand_J95 n x2 S = some o) (hK : (xk (fun s : Int32 × Int32 × TS => TX l E mX4_operand 5 4 [(0, .ref m), (2, .int s.1), (3, .int s.2.1)] [] m ad h0 s.2.2 R) (fun r => K_operand_L4 l E m ad h0 R S r) o)) : TX l E mX4_operand 5 95 [(0, .ref m), (2, .int x2)] [] m ad h0 S R := by
  unfold f_operand_J95 at hl
  refine tx_iconst (v := 0) dX4_operand_95 rfl ?_
  exact tx_lsK (f_operand_J96_s hl hK) ⟨rfl, rfl, trivial⟩
set_option maxHeartbeats 4000000 in
theorem f_operand_J75_s {l : Launch} {E : XEnv} {m : Nat} {ad : Nat → Nat} {h0 : XH} {R : Option Value → TS → Prop} {n : Nat} {x2 : Int32} {S : TS} {o : (Int32 × Int32 × TS) ⊕ ((TS))} (hl : f_operand_J75 n x2 S = some o) (hK : (xk (fun s : Int32 × Int32 × TS => TX l E mX4_operand 5 4 [(0, .ref m), (2, .int s.1), (3, .int s.2.1)] [] m ad h0 s.2.2 R) (fun r => K_operand_L4 l E m ad h0 R S r) o)) : TX l E mX4_operand 5 75 [(0, .ref m), (2, .int x2)] [] m ad h0 S R := by
  unfold f_operand_J75 at hl
  refine tx_aload_n dX4_operand_75 rfl rfl ?_
  obtain ⟨r17, er17, hl⟩ := xb hl
  refine tx_callV (T_isGood er17) lV_X4_170 C_X4_isGood rfl dX4_operand_76 rfl (by decide) (Nat.le_of_ble_eq_true rfl) ?_
  refine tx_if_eq (tgt := 95) dX4_operand_79 (by decide) (fun c18 => ?_) (fun c18 => ?_)
  · rw [if_pos c18] at hl
    exact tx_lsK (f_operand_J95_s hl hK) ⟨rfl, rfl, trivial⟩
  · rw [if_neg c18] at hl
    refine tx_aload_n dX4_operand_82 rfl rfl ?_
    refine tx_bipush (v := 40) dX4_operand_83 (by decide) ?_
    obtain ⟨r23, er23, hl⟩ := xb hl
    refine tx_callV (T_isSign er23) lV_X4_205 C_X4_isSign rfl dX4_operand_85 rfl (by decide) (Nat.le_of_ble_eq_true rfl) ?_
    refine tx_if_eq (tgt := 95) dX4_operand_88 (by decide) (fun c24 => ?_) (fun c24 => ?_)
    · rw [if_pos c24] at hl
      exact tx_lsK (f_operand_J95_s hl hK) ⟨rfl, rfl, trivial⟩
    · rw [if_neg c24] at hl
      refine tx_iconst (v := 1) dX4_operand_91 rfl ?_
      refine tx_goto (tgt := 96) dX4_operand_92 (by decide) ?_
      exact tx_lsK (f_operand_J96_s hl hK) ⟨rfl, rfl, trivial⟩
set_option maxHeartbeats 4000000 in
theorem f_operand_L4_s {l : Launch} {E : XEnv} {m : Nat} {ad : Nat → Nat} {h0 : XH} {R : Option Value → TS → Prop} {n : Nat} {x2 : Int32} {x3 : Int32} {S : TS} {o : (Int32 × Int32 × TS) ⊕ ((TS))} (hl : f_operand_L4 n x2 x3 S = some o) (hK : (xk (fun s : Int32 × Int32 × TS => TX l E mX4_operand 5 4 [(0, .ref m), (2, .int s.1), (3, .int s.2.1)] [] m ad h0 s.2.2 R) (fun r => K_operand_L4 l E m ad h0 R S r) o)) : TX l E mX4_operand 5 4 [(0, .ref m), (2, .int x2), (3, .int x3)] [] m ad h0 S R := by
  unfold f_operand_L4 at hl
  refine tx_iload_n dX4_operand_4 rfl ?_
  refine tx_if_eq (tgt := 120) dX4_operand_5 (by decide) (fun c1 => ?_) (fun c1 => ?_)
  · rw [if_pos c1] at hl
    cases hl
    exact tx_lsK hK ⟨rfl, trivial⟩
  · rw [if_neg c1] at hl
    refine tx_aload_n dX4_operand_8 rfl rfl ?_
    obtain ⟨r2, er2, hl⟩ := xb hl
    refine tx_callV (T_isGood er2) lV_X4_170 C_X4_isGood rfl dX4_operand_9 rfl (by decide) (Nat.le_of_ble_eq_true rfl) ?_
    refine tx_if_eq (tgt := 120) dX4_operand_12 (by decide) (fun c3 => ?_) (fun c3 => ?_)
    · rw [if_pos c3] at hl
      cases hl
      exact tx_lsK hK ⟨rfl, trivial⟩
    · rw [if_neg c3] at hl
      refine tx_iconst (v := 0) dX4_operand_15 rfl ?_
      refine tx_istore dX4_operand_16 (by decide) ?_
      obtain ⟨o16, eo16, hl⟩ := xb hl
      refine tx_lsK (f_operand_L18_ok (S := S) (s := (0, S)) eo16 ?_) ⟨rfl, rfl, rfl, trivial⟩
      exact tx_lsK (f_operand_J75_s hl hK) ⟨rfl, rfl, trivial⟩
set_option maxHeartbeats 4000000 in
theorem f_operand_L4_ok {l : Launch} {E : XEnv} {m : Nat} {ad : Nat → Nat} {h0 : XH} {R : Option Value → TS → Prop} {n : Nat}  {S : TS} {s : Int32 × Int32 × TS} {o : (TS)} (hl : xloop (fun s => f_operand_L4 n s.1 s.2.1 s.2.2) n s = some o) (hK : K_operand_L4 l E m ad h0 R S o) : TX l E mX4_operand 5 4 [(0, .ref m), (2, .int s.1), (3, .int s.2.1)] [] m ad h0 s.2.2 R :=
  xloop_of (fun s : Int32 × Int32 × TS => TX l E mX4_operand 5 4 [(0, .ref m), (2, .int s.1), (3, .int s.2.1)] [] m ad h0 s.2.2 R) (fun r => K_operand_L4 l E m ad h0 R S r) (fun s o hl hk => f_operand_L4_s (S := s.2.2) (o := o) hl hk) n s o hl hK
set_option maxHeartbeats 4000000 in
theorem T_operand {l : Launch} {E : XEnv} {m : Nat} {ad : Nat → Nat} {n : Nat} {x1 : Int32} {S : TS} {S' : TS} (hl : f_operand n x1 S = some S') : TM l E mX4_operand 5 m ad [.ref m, .int x1] S none S' := by
  unfold f_operand at hl
  refine tm_of (by decide +kernel) rfl (Nat.le_of_ble_eq_true rfl) fun h0 => ?_
  refine tx_iload_n dX4_operand_0 rfl ?_
  refine tx_istore_n dX4_operand_1 (by decide) ?_
  refine tx_iconst (v := 1) dX4_operand_2 rfl ?_
  refine tx_istore_n dX4_operand_3 (by decide) ?_
  obtain ⟨o25, eo25, hl⟩ := xb hl
  refine tx_lsK (f_operand_L4_ok (S := S) (s := (x1, 1, S)) eo25 ?_) ⟨rfl, rfl, rfl, trivial⟩
  refine tx_aload_n dX4_operand_120 rfl rfl ?_
  obtain ⟨r26, er26, hl⟩ := xb hl
  refine tx_callV (T_part er26) lV_X4_214 C_X4_part rfl dX4_operand_121 rfl (by decide) (Nat.le_of_ble_eq_true rfl) ?_
  cases hl
  exact tx_vret dX4_operand_124 rfl ⟨rfl, rfl⟩
def f_isOpen (x0 : Int32) : Option (Int32) := if x0 < 14 then some 0 else some 1
set_option maxHeartbeats 4000000 in
theorem T_isOpen {l : Launch} {E : XEnv} {m : Nat} {ad : Nat → Nat} {x0 : Int32} {S : TS} {r : Int32} (hl : f_isOpen x0 = some r) : TM l E mX4_isOpen 1 m ad [.int x0] S (some (.int r)) S := by
  unfold f_isOpen at hl
  refine tm_of (by decide +kernel) rfl (Nat.le_of_ble_eq_true rfl) fun h0 => ?_
  refine tx_iload_n dX4_isOpen_0 rfl ?_
  refine tx_bipush (v := 14) dX4_isOpen_1 (by decide) ?_
  refine tx_icmp_lt (tgt := 10) dX4_isOpen_3 (by decide) (fun c1 => ?_) (fun c1 => ?_)
  · rw [if_pos c1] at hl
    refine tx_iconst (v := 0) dX4_isOpen_10 rfl ?_
    cases hl
    exact tx_iret dX4_isOpen_11 rfl rfl ⟨rfl, rfl⟩
  · rw [if_neg c1] at hl
    refine tx_iconst (v := 1) dX4_isOpen_6 rfl ?_
    refine tx_goto (tgt := 11) dX4_isOpen_7 (by decide) ?_
    cases hl
    exact tx_iret dX4_isOpen_11 rfl rfl ⟨rfl, rfl⟩
def f_strength (x0 : Int32) : Option (Int32) := if x0 = 5 then some 1 else if x0 = 4 then some 2 else if x0 = 3 then some 3 else if x0 = 6 then some 4 else if x0 = 7 then some 4 else if x0 = 8 then some 5 else if x0 = 9 then some 5 else some 6
set_option maxHeartbeats 4000000 in
theorem T_strength {l : Launch} {E : XEnv} {m : Nat} {ad : Nat → Nat} {x0 : Int32} {S : TS} {r : Int32} (hl : f_strength x0 = some r) : TM l E mX4_strength 1 m ad [.int x0] S (some (.int r)) S := by
  unfold f_strength at hl
  refine tm_of (by decide +kernel) rfl (Nat.le_of_ble_eq_true rfl) fun h0 => ?_
  refine tx_iload_n dX4_strength_0 rfl ?_
  refine tx_iconst (v := 5) dX4_strength_1 rfl ?_
  refine tx_icmp_ne (tgt := 9) dX4_strength_2 (by decide) (fun c1 => ?_) (fun c1 => ?_)
  · rw [if_neg c1] at hl
    refine tx_iload_n dX4_strength_9 rfl ?_
    refine tx_iconst (v := 4) dX4_strength_10 rfl ?_
    refine tx_icmp_ne (tgt := 18) dX4_strength_11 (by decide) (fun c2 => ?_) (fun c2 => ?_)
    · rw [if_neg c2] at hl
      refine tx_iload_n dX4_strength_18 rfl ?_
      refine tx_iconst (v := 3) dX4_strength_19 rfl ?_
      refine tx_icmp_ne (tgt := 27) dX4_strength_20 (by decide) (fun c3 => ?_) (fun c3 => ?_)
      · rw [if_neg c3] at hl
        refine tx_iload_n dX4_strength_27 rfl ?_
        refine tx_bipush (v := 6) dX4_strength_28 (by decide) ?_
        refine tx_icmp_eq (tgt := 39) dX4_strength_30 (by decide) (fun c4 => ?_) (fun c4 => ?_)
        · rw [if_pos c4] at hl
          refine tx_iconst (v := 4) dX4_strength_39 rfl ?_
          refine tx_goto (tgt := 61) dX4_strength_40 (by decide) ?_
          cases hl
          exact tx_iret dX4_strength_61 rfl rfl ⟨rfl, rfl⟩
        · rw [if_neg c4] at hl
          refine tx_iload_n dX4_strength_33 rfl ?_
          refine tx_bipush (v := 7) dX4_strength_34 (by decide) ?_
          refine tx_icmp_ne (tgt := 43) dX4_strength_36 (by decide) (fun c5 => ?_) (fun c5 => ?_)
          · rw [if_neg c5] at hl
            refine tx_iload_n dX4_strength_43 rfl ?_
            refine tx_bipush (v := 8) dX4_strength_44 (by decide) ?_
            refine tx_icmp_eq (tgt := 55) dX4_strength_46 (by decide) (fun c6 => ?_) (fun c6 => ?_)
            · rw [if_pos c6] at hl
              refine tx_iconst (v := 5) dX4_strength_55 rfl ?_
              refine tx_goto (tgt := 61) dX4_strength_56 (by decide) ?_
              cases hl
              exact tx_iret dX4_strength_61 rfl rfl ⟨rfl, rfl⟩
            · rw [if_neg c6] at hl
              refine tx_iload_n dX4_strength_49 rfl ?_
              refine tx_bipush (v := 9) dX4_strength_50 (by decide) ?_
              refine tx_icmp_ne (tgt := 59) dX4_strength_52 (by decide) (fun c7 => ?_) (fun c7 => ?_)
              · rw [if_neg c7] at hl
                refine tx_bipush (v := 6) dX4_strength_59 (by decide) ?_
                cases hl
                exact tx_iret dX4_strength_61 rfl rfl ⟨rfl, rfl⟩
              · rw [if_pos c7] at hl
                refine tx_iconst (v := 5) dX4_strength_55 rfl ?_
                refine tx_goto (tgt := 61) dX4_strength_56 (by decide) ?_
                cases hl
                exact tx_iret dX4_strength_61 rfl rfl ⟨rfl, rfl⟩
          · rw [if_pos c5] at hl
            refine tx_iconst (v := 4) dX4_strength_39 rfl ?_
            refine tx_goto (tgt := 61) dX4_strength_40 (by decide) ?_
            cases hl
            exact tx_iret dX4_strength_61 rfl rfl ⟨rfl, rfl⟩
      · rw [if_pos c3] at hl
        refine tx_iconst (v := 3) dX4_strength_23 rfl ?_
        refine tx_goto (tgt := 61) dX4_strength_24 (by decide) ?_
        cases hl
        exact tx_iret dX4_strength_61 rfl rfl ⟨rfl, rfl⟩
    · rw [if_pos c2] at hl
      refine tx_iconst (v := 2) dX4_strength_14 rfl ?_
      refine tx_goto (tgt := 61) dX4_strength_15 (by decide) ?_
      cases hl
      exact tx_iret dX4_strength_61 rfl rfl ⟨rfl, rfl⟩
  · rw [if_pos c1] at hl
    refine tx_iconst (v := 1) dX4_strength_5 rfl ?_
    refine tx_goto (tgt := 61) dX4_strength_6 (by decide) ?_
    cases hl
    exact tx_iret dX4_strength_61 rfl rfl ⟨rfl, rfl⟩
def f_drops_L0 (n : Nat) (x1 : Int32) (S : TS) : Option ((TS) ⊕ ((TS))) := if (S.1 31) ≤ 0 then some (.inr S) else (trd S 39 ((S.1 31) - 1)).bind fun v2 => (f_isOpen v2).bind fun r3 => if r3 = 0 then (trd S 39 ((S.1 31) - 1)).bind fun v5 => (f_strength v5).bind fun r6 => if r6 < x1 then some (.inr S) else (some (tpF S 31 ((S.1 31) - 1))).bind fun S8 => (trd S8 39 (S8.1 31)).bind fun v9 => (f_puts v9 S8).bind fun r10 => some (.inl r10) else some (.inr S)
abbrev K_drops_L0 (l : Launch) (E : XEnv) (m : Nat) (ad : Nat → Nat) (h0 : XH) (R : Option Value → TS → Prop) (S : TS) (x1 : Int32) (o : (TS)) : Prop := match o with
  | e => TX l E mX4_drops 2 68 [(0, .ref m)] [] m ad h0 e R
def f_drops (n : Nat) (x1 : Int32) (S : TS) : Option (TS) := (xloop (fun s => f_drops_L0 n x1 s) n S).bind fun o11 => some o11
set_option maxHeartbeats 4000000 in
theorem f_drops_L0_s {l : Launch} {E : XEnv} {m : Nat} {ad : Nat → Nat} {h0 : XH} {R : Option Value → TS → Prop} {n : Nat} {x1 : Int32} {S : TS} {o : (TS) ⊕ ((TS))} (hl : f_drops_L0 n x1 S = some o) (hK : (xk (fun s : TS => TX l E mX4_drops 2 0 [(0, .ref m), (1, .int x1)] [] m ad h0 s R) (fun r => K_drops_L0 l E m ad h0 R S x1 r) o)) : TX l E mX4_drops 2 0 [(0, .ref m), (1, .int x1)] [] m ad h0 S R := by
  unfold f_drops_L0 at hl
  refine tx_aload_n dX4_drops_0 rfl rfl ?_
  refine tx_getI gF_X4_183 dX4_drops_1 (by decide) ?_
  refine tx_if_le (tgt := 68) dX4_drops_4 (by decide) (fun c1 => ?_) (fun c1 => ?_)
  · rw [if_pos c1] at hl
    cases hl
    exact tx_lsK hK ⟨rfl, trivial⟩
  · rw [if_neg c1] at hl
    refine tx_aload_n dX4_drops_7 rfl rfl ?_
    refine tx_getA gF_X4_59 dX4_drops_8 (by decide) ?_
    refine tx_aload_n dX4_drops_11 rfl rfl ?_
    refine tx_getI gF_X4_183 dX4_drops_12 (by decide) ?_
    refine tx_iconst (v := 1) dX4_drops_15 rfl ?_
    refine tx_isub dX4_drops_16 ?_
    obtain ⟨v2, ev2, hl⟩ := xb hl
    refine tx_iald (by decide) dX4_drops_17 ev2 ?_
    obtain ⟨r3, er3, hl⟩ := xb hl
    refine tx_callS (T_isOpen er3) lS_X4_186 C_X4_isOpen dX4_drops_18 rfl (by decide) (Nat.le_of_ble_eq_true rfl) ?_
    refine tx_if_ne (tgt := 68) dX4_drops_21 (by decide) (fun c4 => ?_) (fun c4 => ?_)
    · rw [if_neg c4] at hl
      cases hl
      exact tx_lsK hK ⟨rfl, trivial⟩
    · rw [if_pos c4] at hl
      refine tx_aload_n dX4_drops_24 rfl rfl ?_
      refine tx_getA gF_X4_59 dX4_drops_25 (by decide) ?_
      refine tx_aload_n dX4_drops_28 rfl rfl ?_
      refine tx_getI gF_X4_183 dX4_drops_29 (by decide) ?_
      refine tx_iconst (v := 1) dX4_drops_32 rfl ?_
      refine tx_isub dX4_drops_33 ?_
      obtain ⟨v5, ev5, hl⟩ := xb hl
      refine tx_iald (by decide) dX4_drops_34 ev5 ?_
      obtain ⟨r6, er6, hl⟩ := xb hl
      refine tx_callS (T_strength er6) lS_X4_189 C_X4_strength dX4_drops_35 rfl (by decide) (Nat.le_of_ble_eq_true rfl) ?_
      refine tx_iload_n dX4_drops_38 rfl ?_
      refine tx_icmp_lt (tgt := 68) dX4_drops_39 (by decide) (fun c7 => ?_) (fun c7 => ?_)
      · rw [if_pos c7] at hl
        cases hl
        exact tx_lsK hK ⟨rfl, trivial⟩
      · rw [if_neg c7] at hl
        refine tx_aload_n dX4_drops_42 rfl rfl ?_
        refine tx_dup dX4_drops_43 rfl ?_
        refine tx_getI gF_X4_183 dX4_drops_44 (by decide) ?_
        refine tx_iconst (v := 1) dX4_drops_47 rfl ?_
        refine tx_isub dX4_drops_48 ?_
        obtain ⟨S8, eS8, hl⟩ := xb hl
        refine tx_putI pF_X4_183 dX4_drops_49 (by decide) rfl rfl (Option.some.inj eS8) ?_
        refine tx_aload_n dX4_drops_52 rfl rfl ?_
        refine tx_aload_n dX4_drops_53 rfl rfl ?_
        refine tx_getA gF_X4_59 dX4_drops_54 (by decide) ?_
        refine tx_aload_n dX4_drops_57 rfl rfl ?_
        refine tx_getI gF_X4_183 dX4_drops_58 (by decide) ?_
        obtain ⟨v9, ev9, hl⟩ := xb hl
        refine tx_iald (by decide) dX4_drops_61 ev9 ?_
        obtain ⟨r10, er10, hl⟩ := xb hl
        refine tx_callV (T_puts er10) lV_X4_192 C_X4_puts rfl dX4_drops_62 rfl (by decide) (Nat.le_of_ble_eq_true rfl) ?_
        refine tx_goto (tgt := 0) dX4_drops_65 (by decide) ?_
        cases hl
        exact tx_lsK hK ⟨rfl, rfl, trivial⟩
set_option maxHeartbeats 4000000 in
theorem f_drops_L0_ok {l : Launch} {E : XEnv} {m : Nat} {ad : Nat → Nat} {h0 : XH} {R : Option Value → TS → Prop} {n : Nat} {x1 : Int32} {S : TS} {s : TS} {o : (TS)} (hl : xloop (fun s => f_drops_L0 n x1 s) n s = some o) (hK : K_drops_L0 l E m ad h0 R S x1 o) : TX l E mX4_drops 2 0 [(0, .ref m), (1, .int x1)] [] m ad h0 s R :=
  xloop_of (fun s : TS => TX l E mX4_drops 2 0 [(0, .ref m), (1, .int x1)] [] m ad h0 s R) (fun r => K_drops_L0 l E m ad h0 R S x1 r) (fun s o hl hk => f_drops_L0_s (S := s) (o := o) hl hk) n s o hl hK
set_option maxHeartbeats 4000000 in
theorem T_drops {l : Launch} {E : XEnv} {m : Nat} {ad : Nat → Nat} {n : Nat} {x1 : Int32} {S : TS} {S' : TS} (hl : f_drops n x1 S = some S') : TM l E mX4_drops 2 m ad [.ref m, .int x1] S none S' := by
  unfold f_drops at hl
  refine tm_of (by decide +kernel) rfl (Nat.le_of_ble_eq_true rfl) fun h0 => ?_
  obtain ⟨o11, eo11, hl⟩ := xb hl
  refine tx_lsK (f_drops_L0_ok (S := S) (s := S) eo11 ?_) ⟨rfl, rfl, trivial⟩
  cases hl
  exact tx_vret dX4_drops_68 rfl ⟨rfl, rfl⟩
def f_isOpened_L7 (n : Nat) (x1 : Int32) (S : TS) : Option ((Int32) ⊕ ((Int32))) := if x1 < 0 then some (.inr x1) else (trd S 39 x1).bind fun v3 => (f_isOpen v3).bind fun r4 => if r4 = 0 then (some (x1 + (-1))).bind fun w6 => some (.inl w6) else some (.inr x1)
abbrev K_isOpened_L7 (l : Launch) (E : XEnv) (m : Nat) (ad : Nat → Nat) (h0 : XH) (R : Option Value → TS → Prop) (S : TS)  (o : (Int32)) : Prop := match o with
  | e => TX l E mX4_isOpened 2 29 [(0, .ref m), (1, .int e)] [] m ad h0 S R
def f_isOpened_J29 (n : Nat) (x1 : Int32) (S : TS) : Option (Int32) := if x1 < 0 then some 0 else some 1
def f_isOpened (n : Nat)  (S : TS) : Option (Int32) := (some ((S.1 31) - 1)).bind fun w1 => (xloop (fun s => f_isOpened_L7 n s S) n w1).bind fun o7 => f_isOpened_J29 n o7 S
set_option maxHeartbeats 4000000 in
theorem f_isOpened_L7_s {l : Launch} {E : XEnv} {m : Nat} {ad : Nat → Nat} {h0 : XH} {R : Option Value → TS → Prop} {n : Nat} {x1 : Int32} {S : TS} {o : (Int32) ⊕ ((Int32))} (hl : f_isOpened_L7 n x1 S = some o) (hK : (xk (fun s : Int32 => TX l E mX4_isOpened 2 7 [(0, .ref m), (1, .int s)] [] m ad h0 S R) (fun r => K_isOpened_L7 l E m ad h0 R S r) o)) : TX l E mX4_isOpened 2 7 [(0, .ref m), (1, .int x1)] [] m ad h0 S R := by
  unfold f_isOpened_L7 at hl
  refine tx_iload_n dX4_isOpened_7 rfl ?_
  refine tx_if_lt (tgt := 29) dX4_isOpened_8 (by decide) (fun c2 => ?_) (fun c2 => ?_)
  · rw [if_pos c2] at hl
    cases hl
    exact tx_lsK hK ⟨rfl, rfl, trivial⟩
  · rw [if_neg c2] at hl
    refine tx_aload_n dX4_isOpened_11 rfl rfl ?_
    refine tx_getA gF_X4_59 dX4_isOpened_12 (by decide) ?_
    refine tx_iload_n dX4_isOpened_15 rfl ?_
    obtain ⟨v3, ev3, hl⟩ := xb hl
    refine tx_iald (by decide) dX4_isOpened_16 ev3 ?_
    obtain ⟨r4, er4, hl⟩ := xb hl
    refine tx_callS (T_isOpen er4) lS_X4_186 C_X4_isOpen dX4_isOpened_17 rfl (by decide) (Nat.le_of_ble_eq_true rfl) ?_
    refine tx_if_ne (tgt := 29) dX4_isOpened_20 (by decide) (fun c5 => ?_) (fun c5 => ?_)
    · rw [if_neg c5] at hl
      cases hl
      exact tx_lsK hK ⟨rfl, rfl, trivial⟩
    · rw [if_pos c5] at hl
      obtain ⟨w6, ew6, hl⟩ := xb hl
      refine tx_iinc dX4_isOpened_23 rfl (by decide) (Option.some.inj ew6) ?_
      refine tx_goto (tgt := 7) dX4_isOpened_26 (by decide) ?_
      cases hl
      exact tx_lsK hK ⟨rfl, rfl, trivial⟩
set_option maxHeartbeats 4000000 in
theorem f_isOpened_L7_ok {l : Launch} {E : XEnv} {m : Nat} {ad : Nat → Nat} {h0 : XH} {R : Option Value → TS → Prop} {n : Nat}  {S : TS} {s : Int32} {o : (Int32)} (hl : xloop (fun s => f_isOpened_L7 n s S) n s = some o) (hK : K_isOpened_L7 l E m ad h0 R S o) : TX l E mX4_isOpened 2 7 [(0, .ref m), (1, .int s)] [] m ad h0 S R :=
  xloop_of (fun s : Int32 => TX l E mX4_isOpened 2 7 [(0, .ref m), (1, .int s)] [] m ad h0 S R) (fun r => K_isOpened_L7 l E m ad h0 R S r) (fun s o hl hk => f_isOpened_L7_s (S := S) (o := o) hl hk) n s o hl hK
set_option maxHeartbeats 4000000 in
theorem f_isOpened_J29_s {l : Launch} {E : XEnv} {m : Nat} {ad : Nat → Nat} {h0 : XH} {n : Nat} {x1 : Int32} {S : TS} {r : Int32} (hl : f_isOpened_J29 n x1 S = some r) : TX l E mX4_isOpened 2 29 [(0, .ref m), (1, .int x1)] [] m ad h0 S (fun v' S'' => v' = some (.int r) ∧ S'' = S) := by
  unfold f_isOpened_J29 at hl
  refine tx_iload_n dX4_isOpened_29 rfl ?_
  refine tx_if_lt (tgt := 37) dX4_isOpened_30 (by decide) (fun c8 => ?_) (fun c8 => ?_)
  · rw [if_pos c8] at hl
    refine tx_iconst (v := 0) dX4_isOpened_37 rfl ?_
    cases hl
    exact tx_iret dX4_isOpened_38 rfl rfl ⟨rfl, rfl⟩
  · rw [if_neg c8] at hl
    refine tx_iconst (v := 1) dX4_isOpened_33 rfl ?_
    refine tx_goto (tgt := 38) dX4_isOpened_34 (by decide) ?_
    cases hl
    exact tx_iret dX4_isOpened_38 rfl rfl ⟨rfl, rfl⟩
set_option maxHeartbeats 4000000 in
theorem T_isOpened {l : Launch} {E : XEnv} {m : Nat} {ad : Nat → Nat} {n : Nat}  {S : TS} {r : Int32} (hl : f_isOpened n  S = some r) : TM l E mX4_isOpened 2 m ad [.ref m] S (some (.int r)) S := by
  unfold f_isOpened at hl
  refine tm_of (by decide +kernel) rfl (Nat.le_of_ble_eq_true rfl) fun h0 => ?_
  refine tx_aload_n dX4_isOpened_0 rfl rfl ?_
  refine tx_getI gF_X4_183 dX4_isOpened_1 (by decide) ?_
  refine tx_iconst (v := 1) dX4_isOpened_4 rfl ?_
  refine tx_isub dX4_isOpened_5 ?_
  obtain ⟨w1, ew1, hl⟩ := xb hl
  refine tx_top (Option.some.inj ew1) ?_
  refine tx_istore_n dX4_isOpened_6 (by decide) ?_
  obtain ⟨o7, eo7, hl⟩ := xb hl
  refine tx_lsK (f_isOpened_L7_ok (S := S) (s := w1) eo7 ?_) ⟨rfl, rfl, trivial⟩
  exact tx_lsK (f_isOpened_J29_s hl) ⟨rfl, rfl, trivial⟩
def f_closes (n : Nat)  (S : TS) : Option (TS) := (f_drops n 0 S).bind fun r1 => (some (tpF r1 31 ((r1.1 31) - 1))).bind fun S2 => (some (tpF S2 32 ((S2.1 32) - 1))).bind fun S3 => (f_takes n S3).bind fun r4 => some r4
set_option maxHeartbeats 4000000 in
theorem T_closes {l : Launch} {E : XEnv} {m : Nat} {ad : Nat → Nat} {n : Nat}  {S : TS} {S' : TS} (hl : f_closes n  S = some S') : TM l E mX4_closes 3 m ad [.ref m] S none S' := by
  unfold f_closes at hl
  refine tm_of (by decide +kernel) rfl (Nat.le_of_ble_eq_true rfl) fun h0 => ?_
  refine tx_aload_n dX4_closes_0 rfl rfl ?_
  refine tx_iconst (v := 0) dX4_closes_1 rfl ?_
  obtain ⟨r1, er1, hl⟩ := xb hl
  refine tx_callV (T_drops er1) lV_X4_217 C_X4_drops rfl dX4_closes_2 rfl (by decide) (Nat.le_of_ble_eq_true rfl) ?_
  refine tx_aload_n dX4_closes_5 rfl rfl ?_
  refine tx_dup dX4_closes_6 rfl ?_
  refine tx_getI gF_X4_183 dX4_closes_7 (by decide) ?_
  refine tx_iconst (v := 1) dX4_closes_10 rfl ?_
  refine tx_isub dX4_closes_11 ?_
  obtain ⟨S2, eS2, hl⟩ := xb hl
  refine tx_putI pF_X4_183 dX4_closes_12 (by decide) rfl rfl (Option.some.inj eS2) ?_
  refine tx_aload_n dX4_closes_15 rfl rfl ?_
  refine tx_dup dX4_closes_16 rfl ?_
  refine tx_getI gF_X4_202 dX4_closes_17 (by decide) ?_
  refine tx_iconst (v := 1) dX4_closes_20 rfl ?_
  refine tx_isub dX4_closes_21 ?_
  obtain ⟨S3, eS3, hl⟩ := xb hl
  refine tx_putI pF_X4_202 dX4_closes_22 (by decide) rfl rfl (Option.some.inj eS3) ?_
  refine tx_aload_n dX4_closes_25 rfl rfl ?_
  obtain ⟨r4, er4, hl⟩ := xb hl
  refine tx_callV (T_takes er4) lV_X4_174 C_X4_takes rfl dX4_closes_26 rfl (by decide) (Nat.le_of_ble_eq_true rfl) ?_
  cases hl
  exact tx_vret dX4_closes_29 rfl ⟨rfl, rfl⟩
def f_expression_J89 (n : Nat) (x2 : Int32) (y0 : Int32) (S : TS) : Option ((Int32 × TS) ⊕ ((TS))) := (f_waitsFor y0 S).bind fun r16 => (twr r16 40 (r16.1 32) 0).bind fun S17 => (f_takes n S17).bind fun r18 => (f_operand n 1 r18).bind fun r19 => some (.inl (x2, r19))
def f_expression_J74 (n : Nat) (x2 : Int32) (x3 : Int32) (y0 : Int32) (S : TS) : Option ((Int32 × TS) ⊕ ((TS))) := (f_drops n y0 S).bind fun r14 => if x3 = 12 then f_expression_J89 n x2 4 r14 else f_expression_J89 n x2 5 r14
def f_expression_J62 (n : Nat) (x2 : Int32) (x3 : Int32) (S : TS) : Option ((Int32 × TS) ⊕ ((TS))) := if x3 = 12 then f_expression_J74 n x2 x3 2 S else f_expression_J74 n x2 x3 1 S
def f_expression_J231 (n : Nat) (x2 : Int32) (y0 : Int32) (S : TS) : Option ((Int32 × TS) ⊕ ((TS))) := (f_waitsFor y0 S).bind fun r30 => (f_takes n r30).bind fun r31 => (f_operand n 0 r31).bind fun r32 => some (.inl (x2, r32))
def f_expression_J209 (n : Nat) (x2 : Int32) (S : TS) : Option ((Int32 × TS) ⊕ ((TS))) := (f_drops n 5 S).bind fun r27 => (f_isSign 43 r27).bind fun r28 => if r28 = 0 then f_expression_J231 n x2 9 r27 else f_expression_J231 n x2 8 r27
def f_expression_J287 (n : Nat) (x2 : Int32) (y0 : Int32) (S : TS) : Option ((Int32 × TS) ⊕ ((TS))) := (f_waitsFor y0 S).bind fun r40 => (f_takes n r40).bind fun r41 => (f_operand n 0 r41).bind fun r42 => some (.inl (x2, r42))
def f_expression_J264 (n : Nat) (x2 : Int32) (S : TS) : Option ((Int32 × TS) ⊕ ((TS))) := (f_drops n 6 S).bind fun r37 => (f_isSign 42 r37).bind fun r38 => if r38 = 0 then f_expression_J287 n x2 11 r37 else f_expression_J287 n x2 10 r37
def f_expression_J191 (n : Nat) (x2 : Int32) (S : TS) : Option ((Int32 × TS) ⊕ ((TS))) := (f_isSign 43 S).bind fun r25 => if r25 = 0 then (f_isSign 45 S).bind fun r33 => if r33 = 0 then (f_isSign 42 S).bind fun r35 => if r35 = 0 then (f_isSign 47 S).bind fun r43 => if r43 = 0 then (f_isSign 41 S).bind fun r45 => if r45 = 0 then some (.inl (0, S)) else (f_isOpened n S).bind fun r47 => if r47 = 0 then some (.inl (0, S)) else (f_closes n S).bind fun r49 => some (.inl (x2, r49)) else f_expression_J264 n x2 S else f_expression_J264 n x2 S else f_expression_J209 n x2 S else f_expression_J209 n x2 S
def f_expression_J166 (n : Nat) (x2 : Int32) (y0 : Int32) (S : TS) : Option ((Int32 × TS) ⊕ ((TS))) := (f_waitsFor y0 S).bind fun r53 => (twr r53 40 (r53.1 32) 1).bind fun S54 => (f_takes n S54).bind fun r55 => (f_operand n 0 r55).bind fun r56 => some (.inl (x2, r56))
def f_expression_J132 (n : Nat) (x2 : Int32) (S : TS) : Option ((Int32 × TS) ⊕ ((TS))) := (trd S 40 (S.1 32)).bind fun v23 => if v23 = 0 then (f_drops n 4 S).bind fun r50 => (f_isSign 60 r50).bind fun r51 => if r51 = 0 then f_expression_J166 n x2 7 r50 else f_expression_J166 n x2 6 r50 else f_expression_J191 n x2 S
def f_expression_L34 (n : Nat) (x2 : Int32) (S : TS) : Option ((Int32 × TS) ⊕ ((TS))) := if x2 = 0 then some (.inr S) else (f_isGood S).bind fun r9 => if r9 = 0 then some (.inr S) else (f_knownWord n S).bind fun r11 => if r11 = 12 then f_expression_J62 n x2 r11 S else if r11 = 13 then f_expression_J62 n x2 r11 S else (f_isSign 60 S).bind fun r21 => if r21 = 0 then (f_isSign 61 S).bind fun r57 => if r57 = 0 then f_expression_J191 n x2 S else f_expression_J132 n x2 S else f_expression_J132 n x2 S
abbrev K_expression_L34 (l : Launch) (E : XEnv) (m : Nat) (ad : Nat → Nat) (h0 : XH) (R : Option Value → TS → Prop) (S : TS)  (o : (TS)) : Prop := match o with
  | e => TX l E mX4_expression 6 330 [(0, .ref m)] [] m ad h0 e R
def f_expression_J350 (n : Nat)  (S : TS) : Option (TS) := (f_drops n 0 S).bind fun r62 => (f_puts 0 r62).bind fun r63 => some r63
def f_expression_J330 (n : Nat)  (S : TS) : Option (TS) := (f_isGood S).bind fun r60 => if r60 = 0 then f_expression_J350 n  S else if (S.1 32) ≤ 1 then f_expression_J350 n  S else (f_wrong 1 S).bind fun r65 => f_expression_J350 n  r65
def f_expression (n : Nat) (x1 : Int32) (S : TS) : Option (TS) := (f_isGood S).bind fun r1 => if r1 = 0 then some S else (some (tpF S 30 x1)).bind fun S3 => (some (tpF S3 31 0)).bind fun S4 => (some (tpF S4 32 0)).bind fun S5 => (f_deeper S5).bind fun r6 => (f_operand n 1 r6).bind fun r7 => (xloop (fun s => f_expression_L34 n s.1 s.2) n (1, r7)).bind fun o59 => f_expression_J330 n  o59
set_option maxHeartbeats 4000000 in
theorem f_expression_J89_s {l : Launch} {E : XEnv} {m : Nat} {ad : Nat → Nat} {h0 : XH} {R : Option Value → TS → Prop} {n : Nat} {x2 : Int32} {y0 : Int32} {S : TS} {o : (Int32 × TS) ⊕ ((TS))} (hl : f_expression_J89 n x2 y0 S = some o) (hK : (xk (fun s : Int32 × TS => TX l E mX4_expression 6 34 [(0, .ref m), (2, .int s.1)] [] m ad h0 s.2 R) (fun r => K_expression_L34 l E m ad h0 R S r) o)) : TX l E mX4_expression 6 89 [(0, .ref m), (2, .int x2)] [.int y0, .ref m] m ad h0 S R := by
  unfold f_expression_J89 at hl
  obtain ⟨r16, er16, hl⟩ := xb hl
  refine tx_callV (T_waitsFor er16) lV_X4_208 C_X4_waitsFor rfl dX4_expression_89 rfl (by decide) (Nat.le_of_ble_eq_true rfl) ?_
  refine tx_aload_n dX4_expression_92 rfl rfl ?_
  refine tx_getA gF_X4_62 dX4_expression_93 (by decide) ?_
  refine tx_aload_n dX4_expression_96 rfl rfl ?_
  refine tx_getI gF_X4_202 dX4_expression_97 (by decide) ?_
  refine tx_iconst (v := 0) dX4_expression_100 rfl ?_
  obtain ⟨S17, eS17, hl⟩ := xb hl
  refine tx_zast dX4_expression_101 rfl eS17 ?_
  refine tx_aload_n dX4_expression_102 rfl rfl ?_
  obtain ⟨r18, er18, hl⟩ := xb hl
  refine tx_callV (T_takes er18) lV_X4_174 C_X4_takes rfl dX4_expression_103 rfl (by decide) (Nat.le_of_ble_eq_true rfl) ?_
  refine tx_aload_n dX4_expression_106 rfl rfl ?_
  refine tx_iconst (v := 1) dX4_expression_107 rfl ?_
  obtain ⟨r19, er19, hl⟩ := xb hl
  refine tx_callV (T_operand er19) lV_X4_220 C_X4_operand rfl dX4_expression_108 rfl (by decide) (Nat.le_of_ble_eq_true rfl) ?_
  refine tx_goto (tgt := 327) dX4_expression_111 (by decide) ?_
  refine tx_goto (tgt := 34) dX4_expression_327 (by decide) ?_
  cases hl
  exact tx_lsK hK ⟨rfl, rfl, trivial⟩
set_option maxHeartbeats 4000000 in
theorem f_expression_J74_s {l : Launch} {E : XEnv} {m : Nat} {ad : Nat → Nat} {h0 : XH} {R : Option Value → TS → Prop} {n : Nat} {x2 : Int32} {x3 : Int32} {y0 : Int32} {S : TS} {o : (Int32 × TS) ⊕ ((TS))} (hl : f_expression_J74 n x2 x3 y0 S = some o) (hK : (xk (fun s : Int32 × TS => TX l E mX4_expression 6 34 [(0, .ref m), (2, .int s.1)] [] m ad h0 s.2 R) (fun r => K_expression_L34 l E m ad h0 R S r) o)) : TX l E mX4_expression 6 74 [(0, .ref m), (2, .int x2), (3, .int x3)] [.int y0, .ref m] m ad h0 S R := by
  unfold f_expression_J74 at hl
  obtain ⟨r14, er14, hl⟩ := xb hl
  refine tx_callV (T_drops er14) lV_X4_217 C_X4_drops rfl dX4_expression_74 rfl (by decide) (Nat.le_of_ble_eq_true rfl) ?_
  refine tx_aload_n dX4_expression_77 rfl rfl ?_
  refine tx_iload_n dX4_expression_78 rfl ?_
  refine tx_bipush (v := 12) dX4_expression_79 (by decide) ?_
  refine tx_icmp_ne (tgt := 88) dX4_expression_81 (by decide) (fun c15 => ?_) (fun c15 => ?_)
  · rw [if_neg c15] at hl
    refine tx_iconst (v := 5) dX4_expression_88 rfl ?_
    exact tx_lsK (f_expression_J89_s hl hK) ⟨rfl, rfl, trivial⟩
  · rw [if_pos c15] at hl
    refine tx_iconst (v := 4) dX4_expression_84 rfl ?_
    refine tx_goto (tgt := 89) dX4_expression_85 (by decide) ?_
    exact tx_lsK (f_expression_J89_s hl hK) ⟨rfl, rfl, trivial⟩
set_option maxHeartbeats 4000000 in
theorem f_expression_J62_s {l : Launch} {E : XEnv} {m : Nat} {ad : Nat → Nat} {h0 : XH} {R : Option Value → TS → Prop} {n : Nat} {x2 : Int32} {x3 : Int32} {S : TS} {o : (Int32 × TS) ⊕ ((TS))} (hl : f_expression_J62 n x2 x3 S = some o) (hK : (xk (fun s : Int32 × TS => TX l E mX4_expression 6 34 [(0, .ref m), (2, .int s.1)] [] m ad h0 s.2 R) (fun r => K_expression_L34 l E m ad h0 R S r) o)) : TX l E mX4_expression 6 62 [(0, .ref m), (2, .int x2), (3, .int x3)] [] m ad h0 S R := by
  unfold f_expression_J62 at hl
  refine tx_aload_n dX4_expression_62 rfl rfl ?_
  refine tx_iload_n dX4_expression_63 rfl ?_
  refine tx_bipush (v := 12) dX4_expression_64 (by decide) ?_
  refine tx_icmp_ne (tgt := 73) dX4_expression_66 (by decide) (fun c13 => ?_) (fun c13 => ?_)
  · rw [if_neg c13] at hl
    refine tx_iconst (v := 1) dX4_expression_73 rfl ?_
    exact tx_lsK (f_expression_J74_s hl hK) ⟨rfl, rfl, rfl, trivial⟩
  · rw [if_pos c13] at hl
    refine tx_iconst (v := 2) dX4_expression_69 rfl ?_
    refine tx_goto (tgt := 74) dX4_expression_70 (by decide) ?_
    exact tx_lsK (f_expression_J74_s hl hK) ⟨rfl, rfl, rfl, trivial⟩
set_option maxHeartbeats 4000000 in
theorem f_expression_J231_s {l : Launch} {E : XEnv} {m : Nat} {ad : Nat → Nat} {h0 : XH} {R : Option Value → TS → Prop} {n : Nat} {x2 : Int32} {y0 : Int32} {S : TS} {o : (Int32 × TS) ⊕ ((TS))} (hl : f_expression_J231 n x2 y0 S = some o) (hK : (xk (fun s : Int32 × TS => TX l E mX4_expression 6 34 [(0, .ref m), (2, .int s.1)] [] m ad h0 s.2 R) (fun r => K_expression_L34 l E m ad h0 R S r) o)) : TX l E mX4_expression 6 231 [(0, .ref m), (2, .int x2)] [.int y0, .ref m] m ad h0 S R := by
  unfold f_expression_J231 at hl
  obtain ⟨r30, er30, hl⟩ := xb hl
  refine tx_callV (T_waitsFor er30) lV_X4_208 C_X4_waitsFor rfl dX4_expression_231 rfl (by decide) (Nat.le_of_ble_eq_true rfl) ?_
  refine tx_aload_n dX4_expression_234 rfl rfl ?_
  obtain ⟨r31, er31, hl⟩ := xb hl
  refine tx_callV (T_takes er31) lV_X4_174 C_X4_takes rfl dX4_expression_235 rfl (by decide) (Nat.le_of_ble_eq_true rfl) ?_
  refine tx_aload_n dX4_expression_238 rfl rfl ?_
  refine tx_iconst (v := 0) dX4_expression_239 rfl ?_
  obtain ⟨r32, er32, hl⟩ := xb hl
  refine tx_callV (T_operand er32) lV_X4_220 C_X4_operand rfl dX4_expression_240 rfl (by decide) (Nat.le_of_ble_eq_true rfl) ?_
  refine tx_goto (tgt := 327) dX4_expression_243 (by decide) ?_
  refine tx_goto (tgt := 34) dX4_expression_327 (by decide) ?_
  cases hl
  exact tx_lsK hK ⟨rfl, rfl, trivial⟩
set_option maxHeartbeats 4000000 in
theorem f_expression_J209_s {l : Launch} {E : XEnv} {m : Nat} {ad : Nat → Nat} {h0 : XH} {R : Option Value → TS → Prop} {n : Nat} {x2 : Int32} {S : TS} {o : (Int32 × TS) ⊕ ((TS))} (hl : f_expression_J209 n x2 S = some o) (hK : (xk (fun s : Int32 × TS => TX l E mX4_expression 6 34 [(0, .ref m), (2, .int s.1)] [] m ad h0 s.2 R) (fun r => K_expression_L34 l E m ad h0 R S r) o)) : TX l E mX4_expression 6 209 [(0, .ref m), (2, .int x2)] [] m ad h0 S R := by
  unfold f_expression_J209 at hl
  refine tx_aload_n dX4_expression_209 rfl rfl ?_
  refine tx_iconst (v := 5) dX4_expression_210 rfl ?_
  obtain ⟨r27, er27, hl⟩ := xb hl
  refine tx_callV (T_drops er27) lV_X4_217 C_X4_drops rfl dX4_expression_211 rfl (by decide) (Nat.le_of_ble_eq_true rfl) ?_
  refine tx_aload_n dX4_expression_214 rfl rfl ?_
  refine tx_aload_n dX4_expression_215 rfl rfl ?_
  refine tx_bipush (v := 43) dX4_expression_216 (by decide) ?_
  obtain ⟨r28, er28, hl⟩ := xb hl
  refine tx_callV (T_isSign er28) lV_X4_205 C_X4_isSign rfl dX4_expression_218 rfl (by decide) (Nat.le_of_ble_eq_true rfl) ?_
  refine tx_if_eq (tgt := 229) dX4_expression_221 (by decide) (fun c29 => ?_) (fun c29 => ?_)
  · rw [if_pos c29] at hl
    refine tx_bipush (v := 9) dX4_expression_229 (by decide) ?_
    exact tx_lsK (f_expression_J231_s hl hK) ⟨rfl, rfl, trivial⟩
  · rw [if_neg c29] at hl
    refine tx_bipush (v := 8) dX4_expression_224 (by decide) ?_
    refine tx_goto (tgt := 231) dX4_expression_226 (by decide) ?_
    exact tx_lsK (f_expression_J231_s hl hK) ⟨rfl, rfl, trivial⟩
set_option maxHeartbeats 4000000 in
theorem f_expression_J287_s {l : Launch} {E : XEnv} {m : Nat} {ad : Nat → Nat} {h0 : XH} {R : Option Value → TS → Prop} {n : Nat} {x2 : Int32} {y0 : Int32} {S : TS} {o : (Int32 × TS) ⊕ ((TS))} (hl : f_expression_J287 n x2 y0 S = some o) (hK : (xk (fun s : Int32 × TS => TX l E mX4_expression 6 34 [(0, .ref m), (2, .int s.1)] [] m ad h0 s.2 R) (fun r => K_expression_L34 l E m ad h0 R S r) o)) : TX l E mX4_expression 6 287 [(0, .ref m), (2, .int x2)] [.int y0, .ref m] m ad h0 S R := by
  unfold f_expression_J287 at hl
  obtain ⟨r40, er40, hl⟩ := xb hl
  refine tx_callV (T_waitsFor er40) lV_X4_208 C_X4_waitsFor rfl dX4_expression_287 rfl (by decide) (Nat.le_of_ble_eq_true rfl) ?_
  refine tx_aload_n dX4_expression_290 rfl rfl ?_
  obtain ⟨r41, er41, hl⟩ := xb hl
  refine tx_callV (T_takes er41) lV_X4_174 C_X4_takes rfl dX4_expression_291 rfl (by decide) (Nat.le_of_ble_eq_true rfl) ?_
  refine tx_aload_n dX4_expression_294 rfl rfl ?_
  refine tx_iconst (v := 0) dX4_expression_295 rfl ?_
  obtain ⟨r42, er42, hl⟩ := xb hl
  refine tx_callV (T_operand er42) lV_X4_220 C_X4_operand rfl dX4_expression_296 rfl (by decide) (Nat.le_of_ble_eq_true rfl) ?_
  refine tx_goto (tgt := 327) dX4_expression_299 (by decide) ?_
  refine tx_goto (tgt := 34) dX4_expression_327 (by decide) ?_
  cases hl
  exact tx_lsK hK ⟨rfl, rfl, trivial⟩
set_option maxHeartbeats 4000000 in
theorem f_expression_J264_s {l : Launch} {E : XEnv} {m : Nat} {ad : Nat → Nat} {h0 : XH} {R : Option Value → TS → Prop} {n : Nat} {x2 : Int32} {S : TS} {o : (Int32 × TS) ⊕ ((TS))} (hl : f_expression_J264 n x2 S = some o) (hK : (xk (fun s : Int32 × TS => TX l E mX4_expression 6 34 [(0, .ref m), (2, .int s.1)] [] m ad h0 s.2 R) (fun r => K_expression_L34 l E m ad h0 R S r) o)) : TX l E mX4_expression 6 264 [(0, .ref m), (2, .int x2)] [] m ad h0 S R := by
  unfold f_expression_J264 at hl
  refine tx_aload_n dX4_expression_264 rfl rfl ?_
  refine tx_bipush (v := 6) dX4_expression_265 (by decide) ?_
  obtain ⟨r37, er37, hl⟩ := xb hl
  refine tx_callV (T_drops er37) lV_X4_217 C_X4_drops rfl dX4_expression_267 rfl (by decide) (Nat.le_of_ble_eq_true rfl) ?_
  refine tx_aload_n dX4_expression_270 rfl rfl ?_
  refine tx_aload_n dX4_expression_271 rfl rfl ?_
  refine tx_bipush (v := 42) dX4_expression_272 (by decide) ?_
  obtain ⟨r38, er38, hl⟩ := xb hl
  refine tx_callV (T_isSign er38) lV_X4_205 C_X4_isSign rfl dX4_expression_274 rfl (by decide) (Nat.le_of_ble_eq_true rfl) ?_
  refine tx_if_eq (tgt := 285) dX4_expression_277 (by decide) (fun c39 => ?_) (fun c39 => ?_)
  · rw [if_pos c39] at hl
    refine tx_bipush (v := 11) dX4_expression_285 (by decide) ?_
    exact tx_lsK (f_expression_J287_s hl hK) ⟨rfl, rfl, trivial⟩
  · rw [if_neg c39] at hl
    refine tx_bipush (v := 10) dX4_expression_280 (by decide) ?_
    refine tx_goto (tgt := 287) dX4_expression_282 (by decide) ?_
    exact tx_lsK (f_expression_J287_s hl hK) ⟨rfl, rfl, trivial⟩
set_option maxHeartbeats 4000000 in
theorem f_expression_J191_s {l : Launch} {E : XEnv} {m : Nat} {ad : Nat → Nat} {h0 : XH} {R : Option Value → TS → Prop} {n : Nat} {x2 : Int32} {S : TS} {o : (Int32 × TS) ⊕ ((TS))} (hl : f_expression_J191 n x2 S = some o) (hK : (xk (fun s : Int32 × TS => TX l E mX4_expression 6 34 [(0, .ref m), (2, .int s.1)] [] m ad h0 s.2 R) (fun r => K_expression_L34 l E m ad h0 R S r) o)) : TX l E mX4_expression 6 191 [(0, .ref m), (2, .int x2)] [] m ad h0 S R := by
  unfold f_expression_J191 at hl
  refine tx_aload_n dX4_expression_191 rfl rfl ?_
  refine tx_bipush (v := 43) dX4_expression_192 (by decide) ?_
  obtain ⟨r25, er25, hl⟩ := xb hl
  refine tx_callV (T_isSign er25) lV_X4_205 C_X4_isSign rfl dX4_expression_194 rfl (by decide) (Nat.le_of_ble_eq_true rfl) ?_
  refine tx_if_ne (tgt := 209) dX4_expression_197 (by decide) (fun c26 => ?_) (fun c26 => ?_)
  · rw [if_neg c26] at hl
    exact tx_lsK (f_expression_J209_s hl hK) ⟨rfl, rfl, trivial⟩
  · rw [if_pos c26] at hl
    refine tx_aload_n dX4_expression_200 rfl rfl ?_
    refine tx_bipush (v := 45) dX4_expression_201 (by decide) ?_
    obtain ⟨r33, er33, hl⟩ := xb hl
    refine tx_callV (T_isSign er33) lV_X4_205 C_X4_isSign rfl dX4_expression_203 rfl (by decide) (Nat.le_of_ble_eq_true rfl) ?_
    refine tx_if_eq (tgt := 246) dX4_expression_206 (by decide) (fun c34 => ?_) (fun c34 => ?_)
    · rw [if_pos c34] at hl
      refine tx_aload_n dX4_expression_246 rfl rfl ?_
      refine tx_bipush (v := 42) dX4_expression_247 (by decide) ?_
      obtain ⟨r35, er35, hl⟩ := xb hl
      refine tx_callV (T_isSign er35) lV_X4_205 C_X4_isSign rfl dX4_expression_249 rfl (by decide) (Nat.le_of_ble_eq_true rfl) ?_
      refine tx_if_ne (tgt := 264) dX4_expression_252 (by decide) (fun c36 => ?_) (fun c36 => ?_)
      · rw [if_neg c36] at hl
        exact tx_lsK (f_expression_J264_s hl hK) ⟨rfl, rfl, trivial⟩
      · rw [if_pos c36] at hl
        refine tx_aload_n dX4_expression_255 rfl rfl ?_
        refine tx_bipush (v := 47) dX4_expression_256 (by decide) ?_
        obtain ⟨r43, er43, hl⟩ := xb hl
        refine tx_callV (T_isSign er43) lV_X4_205 C_X4_isSign rfl dX4_expression_258 rfl (by decide) (Nat.le_of_ble_eq_true rfl) ?_
        refine tx_if_eq (tgt := 302) dX4_expression_261 (by decide) (fun c44 => ?_) (fun c44 => ?_)
        · rw [if_pos c44] at hl
          refine tx_aload_n dX4_expression_302 rfl rfl ?_
          refine tx_bipush (v := 41) dX4_expression_303 (by decide) ?_
          obtain ⟨r45, er45, hl⟩ := xb hl
          refine tx_callV (T_isSign er45) lV_X4_205 C_X4_isSign rfl dX4_expression_305 rfl (by decide) (Nat.le_of_ble_eq_true rfl) ?_
          refine tx_if_eq (tgt := 325) dX4_expression_308 (by decide) (fun c46 => ?_) (fun c46 => ?_)
          · rw [if_pos c46] at hl
            refine tx_iconst (v := 0) dX4_expression_325 rfl ?_
            refine tx_istore_n dX4_expression_326 (by decide) ?_
            refine tx_goto (tgt := 34) dX4_expression_327 (by decide) ?_
            cases hl
            exact tx_lsK hK ⟨rfl, rfl, trivial⟩
          · rw [if_neg c46] at hl
            refine tx_aload_n dX4_expression_311 rfl rfl ?_
            obtain ⟨r47, er47, hl⟩ := xb hl
            refine tx_callV (T_isOpened er47) lV_X4_224 C_X4_isOpened rfl dX4_expression_312 rfl (by decide) (Nat.le_of_ble_eq_true rfl) ?_
            refine tx_if_eq (tgt := 325) dX4_expression_315 (by decide) (fun c48 => ?_) (fun c48 => ?_)
            · rw [if_pos c48] at hl
              refine tx_iconst (v := 0) dX4_expression_325 rfl ?_
              refine tx_istore_n dX4_expression_326 (by decide) ?_
              refine tx_goto (tgt := 34) dX4_expression_327 (by decide) ?_
              cases hl
              exact tx_lsK hK ⟨rfl, rfl, trivial⟩
            · rw [if_neg c48] at hl
              refine tx_aload_n dX4_expression_318 rfl rfl ?_
              obtain ⟨r49, er49, hl⟩ := xb hl
              refine tx_callV (T_closes er49) lV_X4_227 C_X4_closes rfl dX4_expression_319 rfl (by decide) (Nat.le_of_ble_eq_true rfl) ?_
              refine tx_goto (tgt := 327) dX4_expression_322 (by decide) ?_
              refine tx_goto (tgt := 34) dX4_expression_327 (by decide) ?_
              cases hl
              exact tx_lsK hK ⟨rfl, rfl, trivial⟩
        · rw [if_neg c44] at hl
          exact tx_lsK (f_expression_J264_s hl hK) ⟨rfl, rfl, trivial⟩
    · rw [if_neg c34] at hl
      exact tx_lsK (f_expression_J209_s hl hK) ⟨rfl, rfl, trivial⟩
set_option maxHeartbeats 4000000 in
theorem f_expression_J166_s {l : Launch} {E : XEnv} {m : Nat} {ad : Nat → Nat} {h0 : XH} {R : Option Value → TS → Prop} {n : Nat} {x2 : Int32} {y0 : Int32} {S : TS} {o : (Int32 × TS) ⊕ ((TS))} (hl : f_expression_J166 n x2 y0 S = some o) (hK : (xk (fun s : Int32 × TS => TX l E mX4_expression 6 34 [(0, .ref m), (2, .int s.1)] [] m ad h0 s.2 R) (fun r => K_expression_L34 l E m ad h0 R S r) o)) : TX l E mX4_expression 6 166 [(0, .ref m), (2, .int x2)] [.int y0, .ref m] m ad h0 S R := by
  unfold f_expression_J166 at hl
  obtain ⟨r53, er53, hl⟩ := xb hl
  refine tx_callV (T_waitsFor er53) lV_X4_208 C_X4_waitsFor rfl dX4_expression_166 rfl (by decide) (Nat.le_of_ble_eq_true rfl) ?_
  refine tx_aload_n dX4_expression_169 rfl rfl ?_
  refine tx_getA gF_X4_62 dX4_expression_170 (by decide) ?_
  refine tx_aload_n dX4_expression_173 rfl rfl ?_
  refine tx_getI gF_X4_202 dX4_expression_174 (by decide) ?_
  refine tx_iconst (v := 1) dX4_expression_177 rfl ?_
  obtain ⟨S54, eS54, hl⟩ := xb hl
  refine tx_zast dX4_expression_178 rfl eS54 ?_
  refine tx_aload_n dX4_expression_179 rfl rfl ?_
  obtain ⟨r55, er55, hl⟩ := xb hl
  refine tx_callV (T_takes er55) lV_X4_174 C_X4_takes rfl dX4_expression_180 rfl (by decide) (Nat.le_of_ble_eq_true rfl) ?_
  refine tx_aload_n dX4_expression_183 rfl rfl ?_
  refine tx_iconst (v := 0) dX4_expression_184 rfl ?_
  obtain ⟨r56, er56, hl⟩ := xb hl
  refine tx_callV (T_operand er56) lV_X4_220 C_X4_operand rfl dX4_expression_185 rfl (by decide) (Nat.le_of_ble_eq_true rfl) ?_
  refine tx_goto (tgt := 327) dX4_expression_188 (by decide) ?_
  refine tx_goto (tgt := 34) dX4_expression_327 (by decide) ?_
  cases hl
  exact tx_lsK hK ⟨rfl, rfl, trivial⟩
set_option maxHeartbeats 4000000 in
theorem f_expression_J132_s {l : Launch} {E : XEnv} {m : Nat} {ad : Nat → Nat} {h0 : XH} {R : Option Value → TS → Prop} {n : Nat} {x2 : Int32} {S : TS} {o : (Int32 × TS) ⊕ ((TS))} (hl : f_expression_J132 n x2 S = some o) (hK : (xk (fun s : Int32 × TS => TX l E mX4_expression 6 34 [(0, .ref m), (2, .int s.1)] [] m ad h0 s.2 R) (fun r => K_expression_L34 l E m ad h0 R S r) o)) : TX l E mX4_expression 6 132 [(0, .ref m), (2, .int x2)] [] m ad h0 S R := by
  unfold f_expression_J132 at hl
  refine tx_aload_n dX4_expression_132 rfl rfl ?_
  refine tx_getA gF_X4_62 dX4_expression_133 (by decide) ?_
  refine tx_aload_n dX4_expression_136 rfl rfl ?_
  refine tx_getI gF_X4_202 dX4_expression_137 (by decide) ?_
  obtain ⟨v23, ev23, hl⟩ := xb hl
  refine tx_zald dX4_expression_140 ev23 ?_
  refine tx_if_ne (tgt := 191) dX4_expression_141 (by decide) (fun c24 => ?_) (fun c24 => ?_)
  · rw [if_neg c24] at hl
    exact tx_lsK (f_expression_J191_s hl hK) ⟨rfl, rfl, trivial⟩
  · rw [if_pos c24] at hl
    refine tx_aload_n dX4_expression_144 rfl rfl ?_
    refine tx_iconst (v := 4) dX4_expression_145 rfl ?_
    obtain ⟨r50, er50, hl⟩ := xb hl
    refine tx_callV (T_drops er50) lV_X4_217 C_X4_drops rfl dX4_expression_146 rfl (by decide) (Nat.le_of_ble_eq_true rfl) ?_
    refine tx_aload_n dX4_expression_149 rfl rfl ?_
    refine tx_aload_n dX4_expression_150 rfl rfl ?_
    refine tx_bipush (v := 60) dX4_expression_151 (by decide) ?_
    obtain ⟨r51, er51, hl⟩ := xb hl
    refine tx_callV (T_isSign er51) lV_X4_205 C_X4_isSign rfl dX4_expression_153 rfl (by decide) (Nat.le_of_ble_eq_true rfl) ?_
    refine tx_if_eq (tgt := 164) dX4_expression_156 (by decide) (fun c52 => ?_) (fun c52 => ?_)
    · rw [if_pos c52] at hl
      refine tx_bipush (v := 7) dX4_expression_164 (by decide) ?_
      exact tx_lsK (f_expression_J166_s hl hK) ⟨rfl, rfl, trivial⟩
    · rw [if_neg c52] at hl
      refine tx_bipush (v := 6) dX4_expression_159 (by decide) ?_
      refine tx_goto (tgt := 166) dX4_expression_161 (by decide) ?_
      exact tx_lsK (f_expression_J166_s hl hK) ⟨rfl, rfl, trivial⟩
set_option maxHeartbeats 4000000 in
theorem f_expression_L34_s {l : Launch} {E : XEnv} {m : Nat} {ad : Nat → Nat} {h0 : XH} {R : Option Value → TS → Prop} {n : Nat} {x2 : Int32} {S : TS} {o : (Int32 × TS) ⊕ ((TS))} (hl : f_expression_L34 n x2 S = some o) (hK : (xk (fun s : Int32 × TS => TX l E mX4_expression 6 34 [(0, .ref m), (2, .int s.1)] [] m ad h0 s.2 R) (fun r => K_expression_L34 l E m ad h0 R S r) o)) : TX l E mX4_expression 6 34 [(0, .ref m), (2, .int x2)] [] m ad h0 S R := by
  unfold f_expression_L34 at hl
  refine tx_iload_n dX4_expression_34 rfl ?_
  refine tx_if_eq (tgt := 330) dX4_expression_35 (by decide) (fun c8 => ?_) (fun c8 => ?_)
  · rw [if_pos c8] at hl
    cases hl
    exact tx_lsK hK ⟨rfl, trivial⟩
  · rw [if_neg c8] at hl
    refine tx_aload_n dX4_expression_38 rfl rfl ?_
    obtain ⟨r9, er9, hl⟩ := xb hl
    refine tx_callV (T_isGood er9) lV_X4_170 C_X4_isGood rfl dX4_expression_39 rfl (by decide) (Nat.le_of_ble_eq_true rfl) ?_
    refine tx_if_eq (tgt := 330) dX4_expression_42 (by decide) (fun c10 => ?_) (fun c10 => ?_)
    · rw [if_pos c10] at hl
      cases hl
      exact tx_lsK hK ⟨rfl, trivial⟩
    · rw [if_neg c10] at hl
      refine tx_aload_n dX4_expression_45 rfl rfl ?_
      obtain ⟨r11, er11, hl⟩ := xb hl
      refine tx_callV (T_knownWord er11) lV_X4_195 C_X4_knownWord rfl dX4_expression_46 rfl (by decide) (Nat.le_of_ble_eq_true rfl) ?_
      refine tx_istore_n dX4_expression_49 (by decide) ?_
      refine tx_iload_n dX4_expression_50 rfl ?_
      refine tx_bipush (v := 12) dX4_expression_51 (by decide) ?_
      refine tx_icmp_eq (tgt := 62) dX4_expression_53 (by decide) (fun c12 => ?_) (fun c12 => ?_)
      · rw [if_pos c12] at hl
        exact tx_lsK (f_expression_J62_s hl hK) ⟨rfl, rfl, rfl, trivial⟩
      · rw [if_neg c12] at hl
        refine tx_iload_n dX4_expression_56 rfl ?_
        refine tx_bipush (v := 13) dX4_expression_57 (by decide) ?_
        refine tx_icmp_ne (tgt := 114) dX4_expression_59 (by decide) (fun c20 => ?_) (fun c20 => ?_)
        · rw [if_neg c20] at hl
          refine tx_aload_n dX4_expression_114 rfl rfl ?_
          refine tx_bipush (v := 60) dX4_expression_115 (by decide) ?_
          obtain ⟨r21, er21, hl⟩ := xb hl
          refine tx_callV (T_isSign er21) lV_X4_205 C_X4_isSign rfl dX4_expression_117 rfl (by decide) (Nat.le_of_ble_eq_true rfl) ?_
          refine tx_if_ne (tgt := 132) dX4_expression_120 (by decide) (fun c22 => ?_) (fun c22 => ?_)
          · rw [if_neg c22] at hl
            exact tx_lsK (f_expression_J132_s hl hK) ⟨rfl, rfl, trivial⟩
          · rw [if_pos c22] at hl
            refine tx_aload_n dX4_expression_123 rfl rfl ?_
            refine tx_bipush (v := 61) dX4_expression_124 (by decide) ?_
            obtain ⟨r57, er57, hl⟩ := xb hl
            refine tx_callV (T_isSign er57) lV_X4_205 C_X4_isSign rfl dX4_expression_126 rfl (by decide) (Nat.le_of_ble_eq_true rfl) ?_
            refine tx_if_eq (tgt := 191) dX4_expression_129 (by decide) (fun c58 => ?_) (fun c58 => ?_)
            · rw [if_pos c58] at hl
              exact tx_lsK (f_expression_J191_s hl hK) ⟨rfl, rfl, trivial⟩
            · rw [if_neg c58] at hl
              exact tx_lsK (f_expression_J132_s hl hK) ⟨rfl, rfl, trivial⟩
        · rw [if_pos c20] at hl
          exact tx_lsK (f_expression_J62_s hl hK) ⟨rfl, rfl, rfl, trivial⟩
set_option maxHeartbeats 4000000 in
theorem f_expression_L34_ok {l : Launch} {E : XEnv} {m : Nat} {ad : Nat → Nat} {h0 : XH} {R : Option Value → TS → Prop} {n : Nat}  {S : TS} {s : Int32 × TS} {o : (TS)} (hl : xloop (fun s => f_expression_L34 n s.1 s.2) n s = some o) (hK : K_expression_L34 l E m ad h0 R S o) : TX l E mX4_expression 6 34 [(0, .ref m), (2, .int s.1)] [] m ad h0 s.2 R :=
  xloop_of (fun s : Int32 × TS => TX l E mX4_expression 6 34 [(0, .ref m), (2, .int s.1)] [] m ad h0 s.2 R) (fun r => K_expression_L34 l E m ad h0 R S r) (fun s o hl hk => f_expression_L34_s (S := s.2) (o := o) hl hk) n s o hl hK
set_option maxHeartbeats 4000000 in
theorem f_expression_J350_s {l : Launch} {E : XEnv} {m : Nat} {ad : Nat → Nat} {h0 : XH} {n : Nat}  {S : TS} {S' : TS} (hl : f_expression_J350 n  S = some S') : TX l E mX4_expression 6 350 [(0, .ref m)] [] m ad h0 S (fun v' S'' => v' = none ∧ S'' = S') := by
  unfold f_expression_J350 at hl
  refine tx_aload_n dX4_expression_350 rfl rfl ?_
  refine tx_iconst (v := 0) dX4_expression_351 rfl ?_
  obtain ⟨r62, er62, hl⟩ := xb hl
  refine tx_callV (T_drops er62) lV_X4_217 C_X4_drops rfl dX4_expression_352 rfl (by decide) (Nat.le_of_ble_eq_true rfl) ?_
  refine tx_aload_n dX4_expression_355 rfl rfl ?_
  refine tx_iconst (v := 0) dX4_expression_356 rfl ?_
  obtain ⟨r63, er63, hl⟩ := xb hl
  refine tx_callV (T_puts er63) lV_X4_192 C_X4_puts rfl dX4_expression_357 rfl (by decide) (Nat.le_of_ble_eq_true rfl) ?_
  cases hl
  exact tx_vret dX4_expression_360 rfl ⟨rfl, rfl⟩
set_option maxHeartbeats 4000000 in
theorem f_expression_J330_s {l : Launch} {E : XEnv} {m : Nat} {ad : Nat → Nat} {h0 : XH} {n : Nat}  {S : TS} {S' : TS} (hl : f_expression_J330 n  S = some S') : TX l E mX4_expression 6 330 [(0, .ref m)] [] m ad h0 S (fun v' S'' => v' = none ∧ S'' = S') := by
  unfold f_expression_J330 at hl
  refine tx_aload_n dX4_expression_330 rfl rfl ?_
  obtain ⟨r60, er60, hl⟩ := xb hl
  refine tx_callV (T_isGood er60) lV_X4_170 C_X4_isGood rfl dX4_expression_331 rfl (by decide) (Nat.le_of_ble_eq_true rfl) ?_
  refine tx_if_eq (tgt := 350) dX4_expression_334 (by decide) (fun c61 => ?_) (fun c61 => ?_)
  · rw [if_pos c61] at hl
    exact tx_lsK (f_expression_J350_s hl) ⟨rfl, trivial⟩
  · rw [if_neg c61] at hl
    refine tx_aload_n dX4_expression_337 rfl rfl ?_
    refine tx_getI gF_X4_202 dX4_expression_338 (by decide) ?_
    refine tx_iconst (v := 1) dX4_expression_341 rfl ?_
    refine tx_icmp_le (tgt := 350) dX4_expression_342 (by decide) (fun c64 => ?_) (fun c64 => ?_)
    · rw [if_pos c64] at hl
      exact tx_lsK (f_expression_J350_s hl) ⟨rfl, trivial⟩
    · rw [if_neg c64] at hl
      refine tx_aload_n dX4_expression_345 rfl rfl ?_
      refine tx_iconst (v := 1) dX4_expression_346 rfl ?_
      obtain ⟨r65, er65, hl⟩ := xb hl
      refine tx_callV (T_wrong er65) lV_X4_177 C_X4_wrong rfl dX4_expression_347 rfl (by decide) (Nat.le_of_ble_eq_true rfl) ?_
      exact tx_lsK (f_expression_J350_s hl) ⟨rfl, trivial⟩
set_option maxHeartbeats 4000000 in
theorem T_expression {l : Launch} {E : XEnv} {m : Nat} {ad : Nat → Nat} {n : Nat} {x1 : Int32} {S : TS} {S' : TS} (hl : f_expression n x1 S = some S') : TM l E mX4_expression 6 m ad [.ref m, .int x1] S none S' := by
  unfold f_expression at hl
  refine tm_of (by decide +kernel) rfl (Nat.le_of_ble_eq_true rfl) fun h0 => ?_
  refine tx_aload_n dX4_expression_0 rfl rfl ?_
  obtain ⟨r1, er1, hl⟩ := xb hl
  refine tx_callV (T_isGood er1) lV_X4_170 C_X4_isGood rfl dX4_expression_1 rfl (by decide) (Nat.le_of_ble_eq_true rfl) ?_
  refine tx_if_ne (tgt := 8) dX4_expression_4 (by decide) (fun c2 => ?_) (fun c2 => ?_)
  · rw [if_neg c2] at hl
    refine tx_aload_n dX4_expression_8 rfl rfl ?_
    refine tx_iload_n dX4_expression_9 rfl ?_
    obtain ⟨S3, eS3, hl⟩ := xb hl
    refine tx_putI pF_X4_199 dX4_expression_10 (by decide) rfl rfl (Option.some.inj eS3) ?_
    refine tx_aload_n dX4_expression_13 rfl rfl ?_
    refine tx_iconst (v := 0) dX4_expression_14 rfl ?_
    obtain ⟨S4, eS4, hl⟩ := xb hl
    refine tx_putI pF_X4_183 dX4_expression_15 (by decide) rfl rfl (Option.some.inj eS4) ?_
    refine tx_aload_n dX4_expression_18 rfl rfl ?_
    refine tx_iconst (v := 0) dX4_expression_19 rfl ?_
    obtain ⟨S5, eS5, hl⟩ := xb hl
    refine tx_putI pF_X4_202 dX4_expression_20 (by decide) rfl rfl (Option.some.inj eS5) ?_
    refine tx_aload_n dX4_expression_23 rfl rfl ?_
    obtain ⟨r6, er6, hl⟩ := xb hl
    refine tx_callV (T_deeper er6) lV_X4_211 C_X4_deeper rfl dX4_expression_24 rfl (by decide) (Nat.le_of_ble_eq_true rfl) ?_
    refine tx_aload_n dX4_expression_27 rfl rfl ?_
    refine tx_iconst (v := 1) dX4_expression_28 rfl ?_
    obtain ⟨r7, er7, hl⟩ := xb hl
    refine tx_callV (T_operand er7) lV_X4_220 C_X4_operand rfl dX4_expression_29 rfl (by decide) (Nat.le_of_ble_eq_true rfl) ?_
    refine tx_iconst (v := 1) dX4_expression_32 rfl ?_
    refine tx_istore_n dX4_expression_33 (by decide) ?_
    obtain ⟨o59, eo59, hl⟩ := xb hl
    refine tx_lsK (f_expression_L34_ok (S := r7) (s := (1, r7)) eo59 ?_) ⟨rfl, rfl, trivial⟩
    exact tx_lsK (f_expression_J330_s hl) ⟨rfl, trivial⟩
  · rw [if_pos c2] at hl
    cases hl
    exact tx_vret dX4_expression_7 rfl ⟨rfl, rfl⟩
def f_need (n : Nat) (x1 : Int32) (S : TS) : Option (TS) := (f_isGood S).bind fun r1 => if r1 = 0 then some S else if x1 = 0 then (f_wrong 1 S).bind fun r4 => some r4 else (f_takes n S).bind fun r5 => some r5
set_option maxHeartbeats 4000000 in
theorem T_need {l : Launch} {E : XEnv} {m : Nat} {ad : Nat → Nat} {n : Nat} {x1 : Int32} {S : TS} {S' : TS} (hl : f_need n x1 S = some S') : TM l E mX4_need 3 m ad [.ref m, .int x1] S none S' := by
  unfold f_need at hl
  refine tm_of (by decide +kernel) rfl (Nat.le_of_ble_eq_true rfl) fun h0 => ?_
  refine tx_aload_n dX4_need_0 rfl rfl ?_
  obtain ⟨r1, er1, hl⟩ := xb hl
  refine tx_callV (T_isGood er1) lV_X4_170 C_X4_isGood rfl dX4_need_1 rfl (by decide) (Nat.le_of_ble_eq_true rfl) ?_
  refine tx_if_ne (tgt := 8) dX4_need_4 (by decide) (fun c2 => ?_) (fun c2 => ?_)
  · rw [if_neg c2] at hl
    refine tx_iload_n dX4_need_8 rfl ?_
    refine tx_if_eq (tgt := 19) dX4_need_9 (by decide) (fun c3 => ?_) (fun c3 => ?_)
    · rw [if_pos c3] at hl
      refine tx_aload_n dX4_need_19 rfl rfl ?_
      refine tx_iconst (v := 1) dX4_need_20 rfl ?_
      obtain ⟨r4, er4, hl⟩ := xb hl
      refine tx_callV (T_wrong er4) lV_X4_177 C_X4_wrong rfl dX4_need_21 rfl (by decide) (Nat.le_of_ble_eq_true rfl) ?_
      cases hl
      exact tx_vret dX4_need_24 rfl ⟨rfl, rfl⟩
    · rw [if_neg c3] at hl
      refine tx_aload_n dX4_need_12 rfl rfl ?_
      obtain ⟨r5, er5, hl⟩ := xb hl
      refine tx_callV (T_takes er5) lV_X4_174 C_X4_takes rfl dX4_need_13 rfl (by decide) (Nat.le_of_ble_eq_true rfl) ?_
      refine tx_goto (tgt := 24) dX4_need_16 (by decide) ?_
      cases hl
      exact tx_vret dX4_need_24 rfl ⟨rfl, rfl⟩
  · rw [if_pos c2] at hl
    cases hl
    exact tx_vret dX4_need_7 rfl ⟨rfl, rfl⟩
def f_line_J171 (n : Nat) (y0 : Int32) (y1 : Int32) (S : TS) : Option (TS) := (f_begins n y1 y0 S).bind fun r11 => if r11.1 = 0 then (f_isSign 59 r11.2).bind fun r13 => (f_need n r13 r11.2).bind fun r14 => some r14 else (some (tpF r11.2 28 (r11.2.1 29))).bind fun S15 => (f_expression n 6 S15).bind fun r16 => (f_isSign 59 r16).bind fun r17 => (f_need n r17 r16).bind fun r18 => some r18
def f_line_J128 (n : Nat) (y0 : Int32) (y1 : Int32) (S : TS) : Option (TS) := (f_begins n y1 y0 S).bind fun r20 => if r20.1 = 0 then (f_isSign 59 r20.2).bind fun r22 => (f_need n r22 r20.2).bind fun r23 => some r23 else (some (tpF r20.2 27 (r20.2.1 29))).bind fun S24 => (f_expression n 5 S24).bind fun r25 => (f_isSign 59 r25).bind fun r26 => (f_need n r26 r25).bind fun r27 => some r27
def f_line_J94 (n : Nat) (y0 : Int32) (y1 : Int32) (S : TS) : Option (TS) := (f_begins n y1 y0 S).bind fun r29 => if r29.1 = 0 then (f_isSign 59 r29.2).bind fun r31 => (f_need n r31 r29.2).bind fun r32 => some r32 else (f_readsDamp n r29.2).bind fun r33 => (f_isSign 59 r33).bind fun r34 => (f_need n r34 r33).bind fun r35 => some r35
def f_line_J61 (n : Nat) (y0 : Int32) (S : TS) : Option (TS) := (f_begins n y0 0 S).bind fun r37 => if r37.1 = 0 then (f_isSign 59 r37.2).bind fun r39 => (f_need n r39 r37.2).bind fun r40 => some r40 else (f_readsPerson n r37.2).bind fun r41 => (f_isSign 59 r41).bind fun r42 => (f_need n r42 r41).bind fun r43 => some r43
def f_line_J26 (n : Nat) (y0 : Int32) (S : TS) : Option (TS) := (f_begins n y0 0 S).bind fun r45 => if r45.1 = 0 then (f_isSign 59 r45.2).bind fun r47 => (f_need n r47 r45.2).bind fun r48 => some r48 else (f_readsHouse n r45.2).bind fun r49 => (f_isSign 59 r49).bind fun r50 => (f_need n r50 r49).bind fun r51 => some r51
def f_line (n : Nat)  (S : TS) : Option (TS) := (f_knownWord n S).bind fun r1 => if r1 = 7 then if (S.1 24) = 8 then f_line_J26 n 1 S else f_line_J26 n 0 S else if r1 = 8 then if (S.1 25) = 8 then f_line_J61 n 1 S else f_line_J61 n 0 S else if r1 = 4 then if (S.1 26) ≤ 0 then f_line_J94 n 0 0 S else f_line_J94 n 1 0 S else if r1 = 10 then if (S.1 27) = (-1) then f_line_J128 n 0 0 S else f_line_J128 n 1 0 S else if r1 = 11 then if (S.1 28) = (-1) then f_line_J171 n 0 0 S else f_line_J171 n 1 0 S else (f_wrong 1 S).bind fun r7 => (f_isSign 59 r7).bind fun r8 => (f_need n r8 r7).bind fun r9 => some r9
set_option maxHeartbeats 4000000 in
theorem f_line_J171_s {l : Launch} {E : XEnv} {m : Nat} {ad : Nat → Nat} {h0 : XH} {n : Nat} {y0 : Int32} {y1 : Int32} {S : TS} {S' : TS} (hl : f_line_J171 n y0 y1 S = some S') : TX l E mX4_line 7 171 [(0, .ref m)] [.int y0, .int y1, .ref m] m ad h0 S (fun v' S'' => v' = none ∧ S'' = S') := by
  unfold f_line_J171 at hl
  obtain ⟨r11, er11, hl⟩ := xb hl
  refine tx_callV (T_begins er11) lV_X4_243 C_X4_begins rfl dX4_line_171 rfl (by decide) (Nat.le_of_ble_eq_true rfl) ?_
  refine tx_if_eq (tgt := 199) dX4_line_174 (by decide) (fun c12 => ?_) (fun c12 => ?_)
  · rw [if_pos c12] at hl
    refine tx_aload_n dX4_line_199 rfl rfl ?_
    refine tx_aload_n dX4_line_200 rfl rfl ?_
    refine tx_bipush (v := 59) dX4_line_201 (by decide) ?_
    obtain ⟨r13, er13, hl⟩ := xb hl
    refine tx_callV (T_isSign er13) lV_X4_205 C_X4_isSign rfl dX4_line_203 rfl (by decide) (Nat.le_of_ble_eq_true rfl) ?_
    obtain ⟨r14, er14, hl⟩ := xb hl
    refine tx_callV (T_need er14) lV_X4_265 C_X4_need rfl dX4_line_206 rfl (by decide) (Nat.le_of_ble_eq_true rfl) ?_
    cases hl
    exact tx_vret dX4_line_209 rfl ⟨rfl, rfl⟩
  · rw [if_neg c12] at hl
    refine tx_aload_n dX4_line_177 rfl rfl ?_
    refine tx_aload_n dX4_line_178 rfl rfl ?_
    refine tx_getI gF_X4_180 dX4_line_179 (by decide) ?_
    obtain ⟨S15, eS15, hl⟩ := xb hl
    refine tx_putI pF_X4_262 dX4_line_182 (by decide) rfl rfl (Option.some.inj eS15) ?_
    refine tx_aload_n dX4_line_185 rfl rfl ?_
    refine tx_bipush (v := 6) dX4_line_186 (by decide) ?_
    obtain ⟨r16, er16, hl⟩ := xb hl
    refine tx_callV (T_expression er16) lV_X4_259 C_X4_expression rfl dX4_line_188 rfl (by decide) (Nat.le_of_ble_eq_true rfl) ?_
    refine tx_goto (tgt := 199) dX4_line_191 (by decide) ?_
    refine tx_aload_n dX4_line_199 rfl rfl ?_
    refine tx_aload_n dX4_line_200 rfl rfl ?_
    refine tx_bipush (v := 59) dX4_line_201 (by decide) ?_
    obtain ⟨r17, er17, hl⟩ := xb hl
    refine tx_callV (T_isSign er17) lV_X4_205 C_X4_isSign rfl dX4_line_203 rfl (by decide) (Nat.le_of_ble_eq_true rfl) ?_
    obtain ⟨r18, er18, hl⟩ := xb hl
    refine tx_callV (T_need er18) lV_X4_265 C_X4_need rfl dX4_line_206 rfl (by decide) (Nat.le_of_ble_eq_true rfl) ?_
    cases hl
    exact tx_vret dX4_line_209 rfl ⟨rfl, rfl⟩
set_option maxHeartbeats 4000000 in
theorem f_line_J128_s {l : Launch} {E : XEnv} {m : Nat} {ad : Nat → Nat} {h0 : XH} {n : Nat} {y0 : Int32} {y1 : Int32} {S : TS} {S' : TS} (hl : f_line_J128 n y0 y1 S = some S') : TX l E mX4_line 7 128 [(0, .ref m)] [.int y0, .int y1, .ref m] m ad h0 S (fun v' S'' => v' = none ∧ S'' = S') := by
  unfold f_line_J128 at hl
  obtain ⟨r20, er20, hl⟩ := xb hl
  refine tx_callV (T_begins er20) lV_X4_243 C_X4_begins rfl dX4_line_128 rfl (by decide) (Nat.le_of_ble_eq_true rfl) ?_
  refine tx_if_eq (tgt := 199) dX4_line_131 (by decide) (fun c21 => ?_) (fun c21 => ?_)
  · rw [if_pos c21] at hl
    refine tx_aload_n dX4_line_199 rfl rfl ?_
    refine tx_aload_n dX4_line_200 rfl rfl ?_
    refine tx_bipush (v := 59) dX4_line_201 (by decide) ?_
    obtain ⟨r22, er22, hl⟩ := xb hl
    refine tx_callV (T_isSign er22) lV_X4_205 C_X4_isSign rfl dX4_line_203 rfl (by decide) (Nat.le_of_ble_eq_true rfl) ?_
    obtain ⟨r23, er23, hl⟩ := xb hl
    refine tx_callV (T_need er23) lV_X4_265 C_X4_need rfl dX4_line_206 rfl (by decide) (Nat.le_of_ble_eq_true rfl) ?_
    cases hl
    exact tx_vret dX4_line_209 rfl ⟨rfl, rfl⟩
  · rw [if_neg c21] at hl
    refine tx_aload_n dX4_line_134 rfl rfl ?_
    refine tx_aload_n dX4_line_135 rfl rfl ?_
    refine tx_getI gF_X4_180 dX4_line_136 (by decide) ?_
    obtain ⟨S24, eS24, hl⟩ := xb hl
    refine tx_putI pF_X4_256 dX4_line_139 (by decide) rfl rfl (Option.some.inj eS24) ?_
    refine tx_aload_n dX4_line_142 rfl rfl ?_
    refine tx_iconst (v := 5) dX4_line_143 rfl ?_
    obtain ⟨r25, er25, hl⟩ := xb hl
    refine tx_callV (T_expression er25) lV_X4_259 C_X4_expression rfl dX4_line_144 rfl (by decide) (Nat.le_of_ble_eq_true rfl) ?_
    refine tx_goto (tgt := 199) dX4_line_147 (by decide) ?_
    refine tx_aload_n dX4_line_199 rfl rfl ?_
    refine tx_aload_n dX4_line_200 rfl rfl ?_
    refine tx_bipush (v := 59) dX4_line_201 (by decide) ?_
    obtain ⟨r26, er26, hl⟩ := xb hl
    refine tx_callV (T_isSign er26) lV_X4_205 C_X4_isSign rfl dX4_line_203 rfl (by decide) (Nat.le_of_ble_eq_true rfl) ?_
    obtain ⟨r27, er27, hl⟩ := xb hl
    refine tx_callV (T_need er27) lV_X4_265 C_X4_need rfl dX4_line_206 rfl (by decide) (Nat.le_of_ble_eq_true rfl) ?_
    cases hl
    exact tx_vret dX4_line_209 rfl ⟨rfl, rfl⟩
set_option maxHeartbeats 4000000 in
theorem f_line_J94_s {l : Launch} {E : XEnv} {m : Nat} {ad : Nat → Nat} {h0 : XH} {n : Nat} {y0 : Int32} {y1 : Int32} {S : TS} {S' : TS} (hl : f_line_J94 n y0 y1 S = some S') : TX l E mX4_line 7 94 [(0, .ref m)] [.int y0, .int y1, .ref m] m ad h0 S (fun v' S'' => v' = none ∧ S'' = S') := by
  unfold f_line_J94 at hl
  obtain ⟨r29, er29, hl⟩ := xb hl
  refine tx_callV (T_begins er29) lV_X4_243 C_X4_begins rfl dX4_line_94 rfl (by decide) (Nat.le_of_ble_eq_true rfl) ?_
  refine tx_if_eq (tgt := 199) dX4_line_97 (by decide) (fun c30 => ?_) (fun c30 => ?_)
  · rw [if_pos c30] at hl
    refine tx_aload_n dX4_line_199 rfl rfl ?_
    refine tx_aload_n dX4_line_200 rfl rfl ?_
    refine tx_bipush (v := 59) dX4_line_201 (by decide) ?_
    obtain ⟨r31, er31, hl⟩ := xb hl
    refine tx_callV (T_isSign er31) lV_X4_205 C_X4_isSign rfl dX4_line_203 rfl (by decide) (Nat.le_of_ble_eq_true rfl) ?_
    obtain ⟨r32, er32, hl⟩ := xb hl
    refine tx_callV (T_need er32) lV_X4_265 C_X4_need rfl dX4_line_206 rfl (by decide) (Nat.le_of_ble_eq_true rfl) ?_
    cases hl
    exact tx_vret dX4_line_209 rfl ⟨rfl, rfl⟩
  · rw [if_neg c30] at hl
    refine tx_aload_n dX4_line_100 rfl rfl ?_
    obtain ⟨r33, er33, hl⟩ := xb hl
    refine tx_callV (T_readsDamp er33) lV_X4_253 C_X4_readsDamp rfl dX4_line_101 rfl (by decide) (Nat.le_of_ble_eq_true rfl) ?_
    refine tx_goto (tgt := 199) dX4_line_104 (by decide) ?_
    refine tx_aload_n dX4_line_199 rfl rfl ?_
    refine tx_aload_n dX4_line_200 rfl rfl ?_
    refine tx_bipush (v := 59) dX4_line_201 (by decide) ?_
    obtain ⟨r34, er34, hl⟩ := xb hl
    refine tx_callV (T_isSign er34) lV_X4_205 C_X4_isSign rfl dX4_line_203 rfl (by decide) (Nat.le_of_ble_eq_true rfl) ?_
    obtain ⟨r35, er35, hl⟩ := xb hl
    refine tx_callV (T_need er35) lV_X4_265 C_X4_need rfl dX4_line_206 rfl (by decide) (Nat.le_of_ble_eq_true rfl) ?_
    cases hl
    exact tx_vret dX4_line_209 rfl ⟨rfl, rfl⟩
set_option maxHeartbeats 4000000 in
theorem f_line_J61_s {l : Launch} {E : XEnv} {m : Nat} {ad : Nat → Nat} {h0 : XH} {n : Nat} {y0 : Int32} {S : TS} {S' : TS} (hl : f_line_J61 n y0 S = some S') : TX l E mX4_line 7 61 [(0, .ref m)] [.int y0, .ref m] m ad h0 S (fun v' S'' => v' = none ∧ S'' = S') := by
  unfold f_line_J61 at hl
  refine tx_iconst (v := 0) dX4_line_61 rfl ?_
  obtain ⟨r37, er37, hl⟩ := xb hl
  refine tx_callV (T_begins er37) lV_X4_243 C_X4_begins rfl dX4_line_62 rfl (by decide) (Nat.le_of_ble_eq_true rfl) ?_
  refine tx_if_eq (tgt := 199) dX4_line_65 (by decide) (fun c38 => ?_) (fun c38 => ?_)
  · rw [if_pos c38] at hl
    refine tx_aload_n dX4_line_199 rfl rfl ?_
    refine tx_aload_n dX4_line_200 rfl rfl ?_
    refine tx_bipush (v := 59) dX4_line_201 (by decide) ?_
    obtain ⟨r39, er39, hl⟩ := xb hl
    refine tx_callV (T_isSign er39) lV_X4_205 C_X4_isSign rfl dX4_line_203 rfl (by decide) (Nat.le_of_ble_eq_true rfl) ?_
    obtain ⟨r40, er40, hl⟩ := xb hl
    refine tx_callV (T_need er40) lV_X4_265 C_X4_need rfl dX4_line_206 rfl (by decide) (Nat.le_of_ble_eq_true rfl) ?_
    cases hl
    exact tx_vret dX4_line_209 rfl ⟨rfl, rfl⟩
  · rw [if_neg c38] at hl
    refine tx_aload_n dX4_line_68 rfl rfl ?_
    obtain ⟨r41, er41, hl⟩ := xb hl
    refine tx_callV (T_readsPerson er41) lV_X4_250 C_X4_readsPerson rfl dX4_line_69 rfl (by decide) (Nat.le_of_ble_eq_true rfl) ?_
    refine tx_goto (tgt := 199) dX4_line_72 (by decide) ?_
    refine tx_aload_n dX4_line_199 rfl rfl ?_
    refine tx_aload_n dX4_line_200 rfl rfl ?_
    refine tx_bipush (v := 59) dX4_line_201 (by decide) ?_
    obtain ⟨r42, er42, hl⟩ := xb hl
    refine tx_callV (T_isSign er42) lV_X4_205 C_X4_isSign rfl dX4_line_203 rfl (by decide) (Nat.le_of_ble_eq_true rfl) ?_
    obtain ⟨r43, er43, hl⟩ := xb hl
    refine tx_callV (T_need er43) lV_X4_265 C_X4_need rfl dX4_line_206 rfl (by decide) (Nat.le_of_ble_eq_true rfl) ?_
    cases hl
    exact tx_vret dX4_line_209 rfl ⟨rfl, rfl⟩
set_option maxHeartbeats 4000000 in
theorem f_line_J26_s {l : Launch} {E : XEnv} {m : Nat} {ad : Nat → Nat} {h0 : XH} {n : Nat} {y0 : Int32} {S : TS} {S' : TS} (hl : f_line_J26 n y0 S = some S') : TX l E mX4_line 7 26 [(0, .ref m)] [.int y0, .ref m] m ad h0 S (fun v' S'' => v' = none ∧ S'' = S') := by
  unfold f_line_J26 at hl
  refine tx_iconst (v := 0) dX4_line_26 rfl ?_
  obtain ⟨r45, er45, hl⟩ := xb hl
  refine tx_callV (T_begins er45) lV_X4_243 C_X4_begins rfl dX4_line_27 rfl (by decide) (Nat.le_of_ble_eq_true rfl) ?_
  refine tx_if_eq (tgt := 199) dX4_line_30 (by decide) (fun c46 => ?_) (fun c46 => ?_)
  · rw [if_pos c46] at hl
    refine tx_aload_n dX4_line_199 rfl rfl ?_
    refine tx_aload_n dX4_line_200 rfl rfl ?_
    refine tx_bipush (v := 59) dX4_line_201 (by decide) ?_
    obtain ⟨r47, er47, hl⟩ := xb hl
    refine tx_callV (T_isSign er47) lV_X4_205 C_X4_isSign rfl dX4_line_203 rfl (by decide) (Nat.le_of_ble_eq_true rfl) ?_
    obtain ⟨r48, er48, hl⟩ := xb hl
    refine tx_callV (T_need er48) lV_X4_265 C_X4_need rfl dX4_line_206 rfl (by decide) (Nat.le_of_ble_eq_true rfl) ?_
    cases hl
    exact tx_vret dX4_line_209 rfl ⟨rfl, rfl⟩
  · rw [if_neg c46] at hl
    refine tx_aload_n dX4_line_33 rfl rfl ?_
    obtain ⟨r49, er49, hl⟩ := xb hl
    refine tx_callV (T_readsHouse er49) lV_X4_247 C_X4_readsHouse rfl dX4_line_34 rfl (by decide) (Nat.le_of_ble_eq_true rfl) ?_
    refine tx_goto (tgt := 199) dX4_line_37 (by decide) ?_
    refine tx_aload_n dX4_line_199 rfl rfl ?_
    refine tx_aload_n dX4_line_200 rfl rfl ?_
    refine tx_bipush (v := 59) dX4_line_201 (by decide) ?_
    obtain ⟨r50, er50, hl⟩ := xb hl
    refine tx_callV (T_isSign er50) lV_X4_205 C_X4_isSign rfl dX4_line_203 rfl (by decide) (Nat.le_of_ble_eq_true rfl) ?_
    obtain ⟨r51, er51, hl⟩ := xb hl
    refine tx_callV (T_need er51) lV_X4_265 C_X4_need rfl dX4_line_206 rfl (by decide) (Nat.le_of_ble_eq_true rfl) ?_
    cases hl
    exact tx_vret dX4_line_209 rfl ⟨rfl, rfl⟩
set_option maxHeartbeats 4000000 in
theorem T_line {l : Launch} {E : XEnv} {m : Nat} {ad : Nat → Nat} {n : Nat}  {S : TS} {S' : TS} (hl : f_line n  S = some S') : TM l E mX4_line 7 m ad [.ref m] S none S' := by
  unfold f_line at hl
  refine tm_of (by decide +kernel) rfl (Nat.le_of_ble_eq_true rfl) fun h0 => ?_
  refine tx_aload_n dX4_line_0 rfl rfl ?_
  obtain ⟨r1, er1, hl⟩ := xb hl
  refine tx_callV (T_knownWord er1) lV_X4_195 C_X4_knownWord rfl dX4_line_1 rfl (by decide) (Nat.le_of_ble_eq_true rfl) ?_
  refine tx_istore_n dX4_line_4 (by decide) ?_
  refine tx_iload_n dX4_line_5 rfl ?_
  refine tx_bipush (v := 7) dX4_line_6 (by decide) ?_
  refine tx_icmp_ne (tgt := 40) dX4_line_8 (by decide) (fun c2 => ?_) (fun c2 => ?_)
  · rw [if_neg c2] at hl
    refine tx_iload_n dX4_line_40 rfl ?_
    refine tx_bipush (v := 8) dX4_line_41 (by decide) ?_
    refine tx_icmp_ne (tgt := 75) dX4_line_43 (by decide) (fun c3 => ?_) (fun c3 => ?_)
    · rw [if_neg c3] at hl
      refine tx_iload_n dX4_line_75 rfl ?_
      refine tx_iconst (v := 4) dX4_line_76 rfl ?_
      refine tx_icmp_ne (tgt := 107) dX4_line_77 (by decide) (fun c4 => ?_) (fun c4 => ?_)
      · rw [if_neg c4] at hl
        refine tx_iload_n dX4_line_107 rfl ?_
        refine tx_bipush (v := 10) dX4_line_108 (by decide) ?_
        refine tx_icmp_ne (tgt := 150) dX4_line_110 (by decide) (fun c5 => ?_) (fun c5 => ?_)
        · rw [if_neg c5] at hl
          refine tx_iload_n dX4_line_150 rfl ?_
          refine tx_bipush (v := 11) dX4_line_151 (by decide) ?_
          refine tx_icmp_ne (tgt := 194) dX4_line_153 (by decide) (fun c6 => ?_) (fun c6 => ?_)
          · rw [if_neg c6] at hl
            refine tx_aload_n dX4_line_194 rfl rfl ?_
            refine tx_iconst (v := 1) dX4_line_195 rfl ?_
            obtain ⟨r7, er7, hl⟩ := xb hl
            refine tx_callV (T_wrong er7) lV_X4_177 C_X4_wrong rfl dX4_line_196 rfl (by decide) (Nat.le_of_ble_eq_true rfl) ?_
            refine tx_aload_n dX4_line_199 rfl rfl ?_
            refine tx_aload_n dX4_line_200 rfl rfl ?_
            refine tx_bipush (v := 59) dX4_line_201 (by decide) ?_
            obtain ⟨r8, er8, hl⟩ := xb hl
            refine tx_callV (T_isSign er8) lV_X4_205 C_X4_isSign rfl dX4_line_203 rfl (by decide) (Nat.le_of_ble_eq_true rfl) ?_
            obtain ⟨r9, er9, hl⟩ := xb hl
            refine tx_callV (T_need er9) lV_X4_265 C_X4_need rfl dX4_line_206 rfl (by decide) (Nat.le_of_ble_eq_true rfl) ?_
            cases hl
            exact tx_vret dX4_line_209 rfl ⟨rfl, rfl⟩
          · rw [if_pos c6] at hl
            refine tx_aload_n dX4_line_156 rfl rfl ?_
            refine tx_iconst (v := 0) dX4_line_157 rfl ?_
            refine tx_aload_n dX4_line_158 rfl rfl ?_
            refine tx_getI gF_X4_262 dX4_line_159 (by decide) ?_
            refine tx_iconst (v := (-1)) dX4_line_162 rfl ?_
            refine tx_icmp_eq (tgt := 170) dX4_line_163 (by decide) (fun c10 => ?_) (fun c10 => ?_)
            · rw [if_pos c10] at hl
              refine tx_iconst (v := 0) dX4_line_170 rfl ?_
              exact tx_lsK (f_line_J171_s hl) ⟨rfl, trivial⟩
            · rw [if_neg c10] at hl
              refine tx_iconst (v := 1) dX4_line_166 rfl ?_
              refine tx_goto (tgt := 171) dX4_line_167 (by decide) ?_
              exact tx_lsK (f_line_J171_s hl) ⟨rfl, trivial⟩
        · rw [if_pos c5] at hl
          refine tx_aload_n dX4_line_113 rfl rfl ?_
          refine tx_iconst (v := 0) dX4_line_114 rfl ?_
          refine tx_aload_n dX4_line_115 rfl rfl ?_
          refine tx_getI gF_X4_256 dX4_line_116 (by decide) ?_
          refine tx_iconst (v := (-1)) dX4_line_119 rfl ?_
          refine tx_icmp_eq (tgt := 127) dX4_line_120 (by decide) (fun c19 => ?_) (fun c19 => ?_)
          · rw [if_pos c19] at hl
            refine tx_iconst (v := 0) dX4_line_127 rfl ?_
            exact tx_lsK (f_line_J128_s hl) ⟨rfl, trivial⟩
          · rw [if_neg c19] at hl
            refine tx_iconst (v := 1) dX4_line_123 rfl ?_
            refine tx_goto (tgt := 128) dX4_line_124 (by decide) ?_
            exact tx_lsK (f_line_J128_s hl) ⟨rfl, trivial⟩
      · rw [if_pos c4] at hl
        refine tx_aload_n dX4_line_80 rfl rfl ?_
        refine tx_iconst (v := 0) dX4_line_81 rfl ?_
        refine tx_aload_n dX4_line_82 rfl rfl ?_
        refine tx_getI gF_X4_240 dX4_line_83 (by decide) ?_
        refine tx_if_le (tgt := 93) dX4_line_86 (by decide) (fun c28 => ?_) (fun c28 => ?_)
        · rw [if_pos c28] at hl
          refine tx_iconst (v := 0) dX4_line_93 rfl ?_
          exact tx_lsK (f_line_J94_s hl) ⟨rfl, trivial⟩
        · rw [if_neg c28] at hl
          refine tx_iconst (v := 1) dX4_line_89 rfl ?_
          refine tx_goto (tgt := 94) dX4_line_90 (by decide) ?_
          exact tx_lsK (f_line_J94_s hl) ⟨rfl, trivial⟩
    · rw [if_pos c3] at hl
      refine tx_aload_n dX4_line_46 rfl rfl ?_
      refine tx_aload_n dX4_line_47 rfl rfl ?_
      refine tx_getI gF_X4_237 dX4_line_48 (by decide) ?_
      refine tx_bipush (v := 8) dX4_line_51 (by decide) ?_
      refine tx_icmp_ne (tgt := 60) dX4_line_53 (by decide) (fun c36 => ?_) (fun c36 => ?_)
      · rw [if_neg c36] at hl
        refine tx_iconst (v := 0) dX4_line_60 rfl ?_
        exact tx_lsK (f_line_J61_s hl) ⟨rfl, trivial⟩
      · rw [if_pos c36] at hl
        refine tx_iconst (v := 1) dX4_line_56 rfl ?_
        refine tx_goto (tgt := 61) dX4_line_57 (by decide) ?_
        exact tx_lsK (f_line_J61_s hl) ⟨rfl, trivial⟩
  · rw [if_pos c2] at hl
    refine tx_aload_n dX4_line_11 rfl rfl ?_
    refine tx_aload_n dX4_line_12 rfl rfl ?_
    refine tx_getI gF_X4_230 dX4_line_13 (by decide) ?_
    refine tx_bipush (v := 8) dX4_line_16 (by decide) ?_
    refine tx_icmp_ne (tgt := 25) dX4_line_18 (by decide) (fun c44 => ?_) (fun c44 => ?_)
    · rw [if_neg c44] at hl
      refine tx_iconst (v := 0) dX4_line_25 rfl ?_
      exact tx_lsK (f_line_J26_s hl) ⟨rfl, trivial⟩
    · rw [if_pos c44] at hl
      refine tx_iconst (v := 1) dX4_line_21 rfl ?_
      refine tx_goto (tgt := 26) dX4_line_22 (by decide) ?_
      exact tx_lsK (f_line_J26_s hl) ⟨rfl, trivial⟩
def f_copies_L2 (n : Nat) (x1 : Nat) (x2 : Nat) (x3 : Int32) (S : TS) : Option ((Int32 × TS) ⊕ ((TS))) := if x3 ≥ (Int32.ofNat (tlen x1)) then some (.inr S) else (trd S x1 x3).bind fun v2 => (twr S x2 x3 v2).bind fun S3 => (some (x3 + 1)).bind fun w4 => some (.inl (w4, S3))
abbrev K_copies_L2 (l : Launch) (E : XEnv) (m : Nat) (ad : Nat → Nat) (h0 : XH) (R : Option Value → TS → Prop) (S : TS) (x1 : Nat) (x2 : Nat) (o : (TS)) : Prop := match o with
  | e => TX l E mX4_copies 1 20 [(0, .ref m)] [] m ad h0 e R
def f_copies (n : Nat) (x1 : Nat) (x2 : Nat) (S : TS) : Option (TS) := (xloop (fun s => f_copies_L2 n x1 x2 s.1 s.2) n (0, S)).bind fun o5 => some o5
set_option maxHeartbeats 4000000 in
theorem f_copies_L2_s {l : Launch} {E : XEnv} {m : Nat} {ad : Nat → Nat} {h0 : XH} {R : Option Value → TS → Prop} {n : Nat} {x1 : Nat} {x2 : Nat} {x3 : Int32} {S : TS} (hx1 : x1 < 62 ∧ tlen x1 ≠ 0 ∧ x1 ≠ 40) (hx2 : x2 < 62 ∧ tlen x2 ≠ 0 ∧ x2 ≠ 40) {o : (Int32 × TS) ⊕ ((TS))} (hl : f_copies_L2 n x1 x2 x3 S = some o) (hK : (xk (fun s : Int32 × TS => TX l E mX4_copies 1 2 [(0, .ref m), (1, .ref (ad x1)), (2, .ref (ad x2)), (3, .int s.1)] [] m ad h0 s.2 R) (fun r => K_copies_L2 l E m ad h0 R S x1 x2 r) o)) : TX l E mX4_copies 1 2 [(0, .ref m), (1, .ref (ad x1)), (2, .ref (ad x2)), (3, .int x3)] [] m ad h0 S R := by
  unfold f_copies_L2 at hl
  refine tx_iload_n dX4_copies_2 rfl ?_
  refine tx_aload_n dX4_copies_3 rfl rfl ?_
  refine tx_alen hx1 dX4_copies_4 ?_
  refine tx_icmp_ge (tgt := 20) dX4_copies_5 (by decide) (fun c1 => ?_) (fun c1 => ?_)
  · rw [if_pos c1] at hl
    cases hl
    exact tx_lsK hK ⟨rfl, trivial⟩
  · rw [if_neg c1] at hl
    refine tx_aload_n dX4_copies_8 rfl rfl ?_
    refine tx_iload_n dX4_copies_9 rfl ?_
    refine tx_aload_n dX4_copies_10 rfl rfl ?_
    refine tx_iload_n dX4_copies_11 rfl ?_
    obtain ⟨v2, ev2, hl⟩ := xb hl
    refine tx_iald hx1 dX4_copies_12 ev2 ?_
    obtain ⟨S3, eS3, hl⟩ := xb hl
    refine tx_iast hx2 dX4_copies_13 eS3 ?_
    obtain ⟨w4, ew4, hl⟩ := xb hl
    refine tx_iinc dX4_copies_14 rfl (by decide) (Option.some.inj ew4) ?_
    refine tx_goto (tgt := 2) dX4_copies_17 (by decide) ?_
    cases hl
    exact tx_lsK hK ⟨rfl, rfl, rfl, rfl, trivial⟩
set_option maxHeartbeats 4000000 in
theorem f_copies_L2_ok {l : Launch} {E : XEnv} {m : Nat} {ad : Nat → Nat} {h0 : XH} {R : Option Value → TS → Prop} {n : Nat} {x1 : Nat} {x2 : Nat} {S : TS} (hx1 : x1 < 62 ∧ tlen x1 ≠ 0 ∧ x1 ≠ 40) (hx2 : x2 < 62 ∧ tlen x2 ≠ 0 ∧ x2 ≠ 40) {s : Int32 × TS} {o : (TS)} (hl : xloop (fun s => f_copies_L2 n x1 x2 s.1 s.2) n s = some o) (hK : K_copies_L2 l E m ad h0 R S x1 x2 o) : TX l E mX4_copies 1 2 [(0, .ref m), (1, .ref (ad x1)), (2, .ref (ad x2)), (3, .int s.1)] [] m ad h0 s.2 R :=
  xloop_of (fun s : Int32 × TS => TX l E mX4_copies 1 2 [(0, .ref m), (1, .ref (ad x1)), (2, .ref (ad x2)), (3, .int s.1)] [] m ad h0 s.2 R) (fun r => K_copies_L2 l E m ad h0 R S x1 x2 r) (fun s o hl hk => f_copies_L2_s hx1 hx2 (S := s.2) (o := o) hl hk) n s o hl hK
set_option maxHeartbeats 4000000 in
theorem T_copies {l : Launch} {E : XEnv} {m : Nat} {ad : Nat → Nat} {n : Nat} {x1 : Nat} {x2 : Nat} {S : TS} (hx1 : x1 < 62 ∧ tlen x1 ≠ 0 ∧ x1 ≠ 40) (hx2 : x2 < 62 ∧ tlen x2 ≠ 0 ∧ x2 ≠ 40) {S' : TS} (hl : f_copies n x1 x2 S = some S') : TM l E mX4_copies 1 m ad [.ref m, .ref (ad x1), .ref (ad x2)] S none S' := by
  unfold f_copies at hl
  refine tm_of (by decide +kernel) rfl (Nat.le_of_ble_eq_true rfl) fun h0 => ?_
  refine tx_iconst (v := 0) dX4_copies_0 rfl ?_
  refine tx_istore_n dX4_copies_1 (by decide) ?_
  obtain ⟨o5, eo5, hl⟩ := xb hl
  refine tx_lsK (f_copies_L2_ok hx1 hx2 (S := S) (s := (0, S)) eo5 ?_) ⟨rfl, rfl, rfl, rfl, trivial⟩
  cases hl
  exact tx_vret dX4_copies_20 rfl ⟨rfl, rfl⟩
def f_town_L84 (n : Nat) (x2 : Int32) (S : TS) : Option ((Int32 × TS) ⊕ ((TS))) := if x2 ≥ 43 then some (.inr S) else (twr S 37 x2 0).bind fun S16 => (some (x2 + 1)).bind fun w17 => some (.inl (w17, S16))
abbrev K_town_L84 (l : Launch) (E : XEnv) (m : Nat) (ad : Nat → Nat) (h0 : XH) (R : Option Value → TS → Prop) (S : TS)  (o : (TS)) : Prop := match o with
  | e => TX l E mX4_town 8 103 [(0, .ref m)] [] m ad h0 e R
def f_town_L112 (n : Nat)  (S : TS) : Option ((TS) ⊕ ((TS))) := (f_isGood S).bind fun r21 => if r21 = 0 then some (.inr S) else if (S.1 18) = 0 then some (.inr S) else (f_line n S).bind fun r24 => some (.inl r24)
abbrev K_town_L112 (l : Launch) (E : XEnv) (m : Nat) (ad : Nat → Nat) (h0 : XH) (R : Option Value → TS → Prop) (S : TS)  (o : (TS)) : Prop := match o with
  | e => TX l E mX4_town 8 133 [(0, .ref m)] [] m ad h0 e R
def f_town_L257 (n : Nat) (x2 : Int32) (S : TS) : Option ((Int32 × TS) ⊕ ((TS))) := if x2 ≥ 43 then some (.inr S) else (trd S 37 x2).bind fun v39 => (twr S 41 x2 v39).bind fun S40 => (some (x2 + 1)).bind fun w41 => some (.inl (w41, S40))
abbrev K_town_L257 (l : Launch) (E : XEnv) (m : Nat) (ad : Nat → Nat) (h0 : XH) (R : Option Value → TS → Prop) (S : TS)  (o : (TS)) : Prop := match o with
  | e => TX l E mX4_town 8 281 [(0, .ref m)] [] m ad h0 e R
def f_town_J133 (n : Nat)  (S : TS) : Option (Int32 × TS) := (f_isGood S).bind fun r26 => if r26 = 0 then (trd S 15 0).bind fun v46 => (twr S 15 0 (v46 + 1)).bind fun S47 => some ((S47.1 13), S47) else (some (tpF S 1 (S.1 24))).bind fun S28 => (some (tpF S28 2 (S28.1 25))).bind fun S29 => (some (tpF S29 3 (S29.1 26))).bind fun S30 => (some (tpF S30 4 (S30.1 27))).bind fun S31 => (some (tpF S31 5 (S31.1 28))).bind fun S32 => (f_copies n 33 6 S32).bind fun r33 => (f_copies n 34 7 r33).bind fun r34 => (f_copies n 35 8 r34).bind fun r35 => (f_copies n 36 9 r35).bind fun r36 => (f_copies n 38 10 r36).bind fun r37 => (xloop (fun s => f_town_L257 n s.1 s.2) n (0, r37)).bind fun o42 => (some (tpF o42 43 0)).bind fun S43 => (some (tpF S43 51 0)).bind fun S44 => (some (tpF S44 56 0)).bind fun S45 => some (0, S45)
def f_town_J23 (n : Nat) (x1 : Int32) (y0 : Int32) (S : TS) : Option (Int32 × TS) := (f_right y0 1 S).bind fun r3 => if r3.1 = 0 then some (0, r3.2) else (some (tpF r3.2 12 0)).bind fun S5 => (some (tpF S5 14 (-1))).bind fun S6 => (some (tpF S6 13 0)).bind fun S7 => (some (tpF S7 16 x1)).bind fun S8 => (some (tpF S8 17 0)).bind fun S9 => (some (tpF S9 24 0)).bind fun S10 => (some (tpF S10 25 0)).bind fun S11 => (some (tpF S11 26 0)).bind fun S12 => (some (tpF S12 27 (-1))).bind fun S13 => (some (tpF S13 28 (-1))).bind fun S14 => (xloop (fun s => f_town_L84 n s.1 s.2) n (0, S14)).bind fun o18 => (some (tpF o18 29 0)).bind fun S19 => (f_takes n S19).bind fun r20 => (xloop (fun s => f_town_L112 n  s) n r20).bind fun o25 => f_town_J133 n  o25
def f_town_J22 (n : Nat) (x1 : Int32) (S : TS) : Option (Int32 × TS) := f_town_J23 n x1 0 S
def f_town (n : Nat) (x1 : Int32) (S : TS) : Option (Int32 × TS) := (some (tpF S 0 0)).bind fun S1 => if x1 < 0 then f_town_J22 n x1 S1 else if x1 > (S1.1 12) then f_town_J22 n x1 S1 else f_town_J23 n x1 1 S1
set_option maxHeartbeats 4000000 in
theorem f_town_L84_s {l : Launch} {E : XEnv} {m : Nat} {ad : Nat → Nat} {h0 : XH} {R : Option Value → TS → Prop} {n : Nat} {x2 : Int32} {S : TS} {o : (Int32 × TS) ⊕ ((TS))} (hl : f_town_L84 n x2 S = some o) (hK : (xk (fun s : Int32 × TS => TX l E mX4_town 8 84 [(0, .ref m), (2, .int s.1)] [] m ad h0 s.2 R) (fun r => K_town_L84 l E m ad h0 R S r) o)) : TX l E mX4_town 8 84 [(0, .ref m), (2, .int x2)] [] m ad h0 S R := by
  unfold f_town_L84 at hl
  refine tx_iload_n dX4_town_84 rfl ?_
  refine tx_bipush (v := 43) dX4_town_85 (by decide) ?_
  refine tx_icmp_ge (tgt := 103) dX4_town_87 (by decide) (fun c15 => ?_) (fun c15 => ?_)
  · rw [if_pos c15] at hl
    cases hl
    exact tx_lsK hK ⟨rfl, trivial⟩
  · rw [if_neg c15] at hl
    refine tx_aload_n dX4_town_90 rfl rfl ?_
    refine tx_getA gF_X4_53 dX4_town_91 (by decide) ?_
    refine tx_iload_n dX4_town_94 rfl ?_
    refine tx_iconst (v := 0) dX4_town_95 rfl ?_
    obtain ⟨S16, eS16, hl⟩ := xb hl
    refine tx_iast (by decide) dX4_town_96 eS16 ?_
    obtain ⟨w17, ew17, hl⟩ := xb hl
    refine tx_iinc dX4_town_97 rfl (by decide) (Option.some.inj ew17) ?_
    refine tx_goto (tgt := 84) dX4_town_100 (by decide) ?_
    cases hl
    exact tx_lsK hK ⟨rfl, rfl, trivial⟩
set_option maxHeartbeats 4000000 in
theorem f_town_L84_ok {l : Launch} {E : XEnv} {m : Nat} {ad : Nat → Nat} {h0 : XH} {R : Option Value → TS → Prop} {n : Nat}  {S : TS} {s : Int32 × TS} {o : (TS)} (hl : xloop (fun s => f_town_L84 n s.1 s.2) n s = some o) (hK : K_town_L84 l E m ad h0 R S o) : TX l E mX4_town 8 84 [(0, .ref m), (2, .int s.1)] [] m ad h0 s.2 R :=
  xloop_of (fun s : Int32 × TS => TX l E mX4_town 8 84 [(0, .ref m), (2, .int s.1)] [] m ad h0 s.2 R) (fun r => K_town_L84 l E m ad h0 R S r) (fun s o hl hk => f_town_L84_s (S := s.2) (o := o) hl hk) n s o hl hK
set_option maxHeartbeats 4000000 in
theorem f_town_L112_s {l : Launch} {E : XEnv} {m : Nat} {ad : Nat → Nat} {h0 : XH} {R : Option Value → TS → Prop} {n : Nat}  {S : TS} {o : (TS) ⊕ ((TS))} (hl : f_town_L112 n  S = some o) (hK : (xk (fun s : TS => TX l E mX4_town 8 112 [(0, .ref m)] [] m ad h0 s R) (fun r => K_town_L112 l E m ad h0 R S r) o)) : TX l E mX4_town 8 112 [(0, .ref m)] [] m ad h0 S R := by
  unfold f_town_L112 at hl
  refine tx_aload_n dX4_town_112 rfl rfl ?_
  obtain ⟨r21, er21, hl⟩ := xb hl
  refine tx_callV (T_isGood er21) lV_X4_170 C_X4_isGood rfl dX4_town_113 rfl (by decide) (Nat.le_of_ble_eq_true rfl) ?_
  refine tx_if_eq (tgt := 133) dX4_town_116 (by decide) (fun c22 => ?_) (fun c22 => ?_)
  · rw [if_pos c22] at hl
    cases hl
    exact tx_lsK hK ⟨rfl, trivial⟩
  · rw [if_neg c22] at hl
    refine tx_aload_n dX4_town_119 rfl rfl ?_
    refine tx_getI gF_X4_144 dX4_town_120 (by decide) ?_
    refine tx_if_eq (tgt := 133) dX4_town_123 (by decide) (fun c23 => ?_) (fun c23 => ?_)
    · rw [if_pos c23] at hl
      cases hl
      exact tx_lsK hK ⟨rfl, trivial⟩
    · rw [if_neg c23] at hl
      refine tx_aload_n dX4_town_126 rfl rfl ?_
      obtain ⟨r24, er24, hl⟩ := xb hl
      refine tx_callV (T_line er24) lV_X4_272 C_X4_line rfl dX4_town_127 rfl (by decide) (Nat.le_of_ble_eq_true rfl) ?_
      refine tx_goto (tgt := 112) dX4_town_130 (by decide) ?_
      cases hl
      exact tx_lsK hK ⟨rfl, trivial⟩
set_option maxHeartbeats 4000000 in
theorem f_town_L112_ok {l : Launch} {E : XEnv} {m : Nat} {ad : Nat → Nat} {h0 : XH} {R : Option Value → TS → Prop} {n : Nat}  {S : TS} {s : TS} {o : (TS)} (hl : xloop (fun s => f_town_L112 n  s) n s = some o) (hK : K_town_L112 l E m ad h0 R S o) : TX l E mX4_town 8 112 [(0, .ref m)] [] m ad h0 s R :=
  xloop_of (fun s : TS => TX l E mX4_town 8 112 [(0, .ref m)] [] m ad h0 s R) (fun r => K_town_L112 l E m ad h0 R S r) (fun s o hl hk => f_town_L112_s (S := s) (o := o) hl hk) n s o hl hK
set_option maxHeartbeats 4000000 in
theorem f_town_L257_s {l : Launch} {E : XEnv} {m : Nat} {ad : Nat → Nat} {h0 : XH} {R : Option Value → TS → Prop} {n : Nat} {x2 : Int32} {S : TS} {o : (Int32 × TS) ⊕ ((TS))} (hl : f_town_L257 n x2 S = some o) (hK : (xk (fun s : Int32 × TS => TX l E mX4_town 8 257 [(0, .ref m), (2, .int s.1)] [] m ad h0 s.2 R) (fun r => K_town_L257 l E m ad h0 R S r) o)) : TX l E mX4_town 8 257 [(0, .ref m), (2, .int x2)] [] m ad h0 S R := by
  unfold f_town_L257 at hl
  refine tx_iload_n dX4_town_257 rfl ?_
  refine tx_bipush (v := 43) dX4_town_258 (by decide) ?_
  refine tx_icmp_ge (tgt := 281) dX4_town_260 (by decide) (fun c38 => ?_) (fun c38 => ?_)
  · rw [if_pos c38] at hl
    cases hl
    exact tx_lsK hK ⟨rfl, trivial⟩
  · rw [if_neg c38] at hl
    refine tx_aload_n dX4_town_263 rfl rfl ?_
    refine tx_getA gF_X4_66 dX4_town_264 (by decide) ?_
    refine tx_iload_n dX4_town_267 rfl ?_
    refine tx_aload_n dX4_town_268 rfl rfl ?_
    refine tx_getA gF_X4_53 dX4_town_269 (by decide) ?_
    refine tx_iload_n dX4_town_272 rfl ?_
    obtain ⟨v39, ev39, hl⟩ := xb hl
    refine tx_iald (by decide) dX4_town_273 ev39 ?_
    obtain ⟨S40, eS40, hl⟩ := xb hl
    refine tx_iast (by decide) dX4_town_274 eS40 ?_
    obtain ⟨w41, ew41, hl⟩ := xb hl
    refine tx_iinc dX4_town_275 rfl (by decide) (Option.some.inj ew41) ?_
    refine tx_goto (tgt := 257) dX4_town_278 (by decide) ?_
    cases hl
    exact tx_lsK hK ⟨rfl, rfl, trivial⟩
set_option maxHeartbeats 4000000 in
theorem f_town_L257_ok {l : Launch} {E : XEnv} {m : Nat} {ad : Nat → Nat} {h0 : XH} {R : Option Value → TS → Prop} {n : Nat}  {S : TS} {s : Int32 × TS} {o : (TS)} (hl : xloop (fun s => f_town_L257 n s.1 s.2) n s = some o) (hK : K_town_L257 l E m ad h0 R S o) : TX l E mX4_town 8 257 [(0, .ref m), (2, .int s.1)] [] m ad h0 s.2 R :=
  xloop_of (fun s : Int32 × TS => TX l E mX4_town 8 257 [(0, .ref m), (2, .int s.1)] [] m ad h0 s.2 R) (fun r => K_town_L257 l E m ad h0 R S r) (fun s o hl hk => f_town_L257_s (S := s.2) (o := o) hl hk) n s o hl hK
set_option maxHeartbeats 4000000 in
theorem f_town_J133_s {l : Launch} {E : XEnv} {m : Nat} {ad : Nat → Nat} {h0 : XH} {n : Nat}  {S : TS} {r : Int32 × TS} (hl : f_town_J133 n  S = some r) : TX l E mX4_town 8 133 [(0, .ref m)] [] m ad h0 S (fun v' S'' => v' = some (.int r.1) ∧ S'' = r.2) := by
  unfold f_town_J133 at hl
  refine tx_aload_n dX4_town_133 rfl rfl ?_
  obtain ⟨r26, er26, hl⟩ := xb hl
  refine tx_callV (T_isGood er26) lV_X4_170 C_X4_isGood rfl dX4_town_134 rfl (by decide) (Nat.le_of_ble_eq_true rfl) ?_
  refine tx_if_ne (tgt := 155) dX4_town_137 (by decide) (fun c27 => ?_) (fun c27 => ?_)
  · rw [if_neg c27] at hl
    refine tx_aload_n dX4_town_155 rfl rfl ?_
    refine tx_aload_n dX4_town_156 rfl rfl ?_
    refine tx_getI gF_X4_230 dX4_town_157 (by decide) ?_
    obtain ⟨S28, eS28, hl⟩ := xb hl
    refine tx_putI pF_X4_275 dX4_town_160 (by decide) rfl rfl (Option.some.inj eS28) ?_
    refine tx_aload_n dX4_town_163 rfl rfl ?_
    refine tx_aload_n dX4_town_164 rfl rfl ?_
    refine tx_getI gF_X4_237 dX4_town_165 (by decide) ?_
    obtain ⟨S29, eS29, hl⟩ := xb hl
    refine tx_putI pF_X4_278 dX4_town_168 (by decide) rfl rfl (Option.some.inj eS29) ?_
    refine tx_aload_n dX4_town_171 rfl rfl ?_
    refine tx_aload_n dX4_town_172 rfl rfl ?_
    refine tx_getI gF_X4_240 dX4_town_173 (by decide) ?_
    obtain ⟨S30, eS30, hl⟩ := xb hl
    refine tx_putI pF_X4_281 dX4_town_176 (by decide) rfl rfl (Option.some.inj eS30) ?_
    refine tx_aload_n dX4_town_179 rfl rfl ?_
    refine tx_aload_n dX4_town_180 rfl rfl ?_
    refine tx_getI gF_X4_256 dX4_town_181 (by decide) ?_
    obtain ⟨S31, eS31, hl⟩ := xb hl
    refine tx_putI pF_X4_9 dX4_town_184 (by decide) rfl rfl (Option.some.inj eS31) ?_
    refine tx_aload_n dX4_town_187 rfl rfl ?_
    refine tx_aload_n dX4_town_188 rfl rfl ?_
    refine tx_getI gF_X4_262 dX4_town_189 (by decide) ?_
    obtain ⟨S32, eS32, hl⟩ := xb hl
    refine tx_putI pF_X4_13 dX4_town_192 (by decide) rfl rfl (Option.some.inj eS32) ?_
    refine tx_aload_n dX4_town_195 rfl rfl ?_
    refine tx_aload_n dX4_town_196 rfl rfl ?_
    refine tx_getA gF_X4_41 dX4_town_197 (by decide) ?_
    refine tx_aload_n dX4_town_200 rfl rfl ?_
    refine tx_getA gF_X4_16 dX4_town_201 (by decide) ?_
    obtain ⟨r33, er33, hl⟩ := xb hl
    refine tx_callV (T_copies (by decide) (by decide) er33) lV_X4_284 C_X4_copies rfl dX4_town_204 rfl (by decide) (Nat.le_of_ble_eq_true rfl) ?_
    refine tx_aload_n dX4_town_207 rfl rfl ?_
    refine tx_aload_n dX4_town_208 rfl rfl ?_
    refine tx_getA gF_X4_44 dX4_town_209 (by decide) ?_
    refine tx_aload_n dX4_town_212 rfl rfl ?_
    refine tx_getA gF_X4_20 dX4_town_213 (by decide) ?_
    obtain ⟨r34, er34, hl⟩ := xb hl
    refine tx_callV (T_copies (by decide) (by decide) er34) lV_X4_284 C_X4_copies rfl dX4_town_216 rfl (by decide) (Nat.le_of_ble_eq_true rfl) ?_
    refine tx_aload_n dX4_town_219 rfl rfl ?_
    refine tx_aload_n dX4_town_220 rfl rfl ?_
    refine tx_getA gF_X4_47 dX4_town_221 (by decide) ?_
    refine tx_aload_n dX4_town_224 rfl rfl ?_
    refine tx_getA gF_X4_23 dX4_town_225 (by decide) ?_
    obtain ⟨r35, er35, hl⟩ := xb hl
    refine tx_callV (T_copies (by decide) (by decide) er35) lV_X4_284 C_X4_copies rfl dX4_town_228 rfl (by decide) (Nat.le_of_ble_eq_true rfl) ?_
    refine tx_aload_n dX4_town_231 rfl rfl ?_
    refine tx_aload_n dX4_town_232 rfl rfl ?_
    refine tx_getA gF_X4_50 dX4_town_233 (by decide) ?_
    refine tx_aload_n dX4_town_236 rfl rfl ?_
    refine tx_getA gF_X4_26 dX4_town_237 (by decide) ?_
    obtain ⟨r36, er36, hl⟩ := xb hl
    refine tx_callV (T_copies (by decide) (by decide) er36) lV_X4_284 C_X4_copies rfl dX4_town_240 rfl (by decide) (Nat.le_of_ble_eq_true rfl) ?_
    refine tx_aload_n dX4_town_243 rfl rfl ?_
    refine tx_aload_n dX4_town_244 rfl rfl ?_
    refine tx_getA gF_X4_56 dX4_town_245 (by decide) ?_
    refine tx_aload_n dX4_town_248 rfl rfl ?_
    refine tx_getA gF_X4_29 dX4_town_249 (by decide) ?_
    obtain ⟨r37, er37, hl⟩ := xb hl
    refine tx_callV (T_copies (by decide) (by decide) er37) lV_X4_284 C_X4_copies rfl dX4_town_252 rfl (by decide) (Nat.le_of_ble_eq_true rfl) ?_
    refine tx_iconst (v := 0) dX4_town_255 rfl ?_
    refine tx_istore_n dX4_town_256 (by decide) ?_
    obtain ⟨o42, eo42, hl⟩ := xb hl
    refine tx_lsK (f_town_L257_ok (S := r37) (s := (0, r37)) eo42 ?_) ⟨rfl, rfl, trivial⟩
    refine tx_aload_n dX4_town_281 rfl rfl ?_
    refine tx_iconst (v := 0) dX4_town_282 rfl ?_
    obtain ⟨S43, eS43, hl⟩ := xb hl
    refine tx_putI pF_X4_288 dX4_town_283 (by decide) rfl rfl (Option.some.inj eS43) ?_
    refine tx_aload_n dX4_town_286 rfl rfl ?_
    refine tx_iconst (v := 0) dX4_town_287 rfl ?_
    obtain ⟨S44, eS44, hl⟩ := xb hl
    refine tx_putI pF_X4_291 dX4_town_288 (by decide) rfl rfl (Option.some.inj eS44) ?_
    refine tx_aload_n dX4_town_291 rfl rfl ?_
    refine tx_iconst (v := 0) dX4_town_292 rfl ?_
    obtain ⟨S45, eS45, hl⟩ := xb hl
    refine tx_putI pF_X4_294 dX4_town_293 (by decide) rfl rfl (Option.some.inj eS45) ?_
    refine tx_iconst (v := 0) dX4_town_296 rfl ?_
    cases hl
    exact tx_iret dX4_town_297 rfl rfl ⟨rfl, rfl⟩
  · rw [if_pos c27] at hl
    refine tx_aload_n dX4_town_140 rfl rfl ?_
    refine tx_getA gF_X4_38 dX4_town_141 (by decide) ?_
    refine tx_iconst (v := 0) dX4_town_144 rfl ?_
    refine tx_dup2 dX4_town_145 rfl rfl ?_
    obtain ⟨v46, ev46, hl⟩ := xb hl
    refine tx_iald (by decide) dX4_town_146 ev46 ?_
    refine tx_iconst (v := 1) dX4_town_147 rfl ?_
    refine tx_iadd dX4_town_148 ?_
    obtain ⟨S47, eS47, hl⟩ := xb hl
    refine tx_iast (by decide) dX4_town_149 eS47 ?_
    refine tx_aload_n dX4_town_150 rfl rfl ?_
    refine tx_getI gF_X4_167 dX4_town_151 (by decide) ?_
    cases hl
    exact tx_iret dX4_town_154 rfl rfl ⟨rfl, rfl⟩
set_option maxHeartbeats 4000000 in
theorem f_town_J23_s {l : Launch} {E : XEnv} {m : Nat} {ad : Nat → Nat} {h0 : XH} {n : Nat} {x1 : Int32} {y0 : Int32} {S : TS} {r : Int32 × TS} (hl : f_town_J23 n x1 y0 S = some r) : TX l E mX4_town 8 23 [(0, .ref m), (1, .int x1)] [.int y0, .ref m] m ad h0 S (fun v' S'' => v' = some (.int r.1) ∧ S'' = r.2) := by
  unfold f_town_J23 at hl
  refine tx_iconst (v := 1) dX4_town_23 rfl ?_
  obtain ⟨r3, er3, hl⟩ := xb hl
  refine tx_callV (T_right er3) lV_X4_268 C_X4_right rfl dX4_town_24 rfl (by decide) (Nat.le_of_ble_eq_true rfl) ?_
  refine tx_if_ne (tgt := 32) dX4_town_27 (by decide) (fun c4 => ?_) (fun c4 => ?_)
  · rw [if_neg c4] at hl
    refine tx_aload_n dX4_town_32 rfl rfl ?_
    refine tx_iconst (v := 0) dX4_town_33 rfl ?_
    obtain ⟨S5, eS5, hl⟩ := xb hl
    refine tx_putI pF_X4_114 dX4_town_34 (by decide) rfl rfl (Option.some.inj eS5) ?_
    refine tx_aload_n dX4_town_37 rfl rfl ?_
    refine tx_iconst (v := (-1)) dX4_town_38 rfl ?_
    obtain ⟨S6, eS6, hl⟩ := xb hl
    refine tx_putI pF_X4_35 dX4_town_39 (by decide) rfl rfl (Option.some.inj eS6) ?_
    refine tx_aload_n dX4_town_42 rfl rfl ?_
    refine tx_iconst (v := 0) dX4_town_43 rfl ?_
    obtain ⟨S7, eS7, hl⟩ := xb hl
    refine tx_putI pF_X4_167 dX4_town_44 (by decide) rfl rfl (Option.some.inj eS7) ?_
    refine tx_aload_n dX4_town_47 rfl rfl ?_
    refine tx_iload_n dX4_town_48 rfl ?_
    obtain ⟨S8, eS8, hl⟩ := xb hl
    refine tx_putI pF_X4_121 dX4_town_49 (by decide) rfl rfl (Option.some.inj eS8) ?_
    refine tx_aload_n dX4_town_52 rfl rfl ?_
    refine tx_iconst (v := 0) dX4_town_53 rfl ?_
    obtain ⟨S9, eS9, hl⟩ := xb hl
    refine tx_putI pF_X4_124 dX4_town_54 (by decide) rfl rfl (Option.some.inj eS9) ?_
    refine tx_aload_n dX4_town_57 rfl rfl ?_
    refine tx_iconst (v := 0) dX4_town_58 rfl ?_
    obtain ⟨S10, eS10, hl⟩ := xb hl
    refine tx_putI pF_X4_230 dX4_town_59 (by decide) rfl rfl (Option.some.inj eS10) ?_
    refine tx_aload_n dX4_town_62 rfl rfl ?_
    refine tx_iconst (v := 0) dX4_town_63 rfl ?_
    obtain ⟨S11, eS11, hl⟩ := xb hl
    refine tx_putI pF_X4_237 dX4_town_64 (by decide) rfl rfl (Option.some.inj eS11) ?_
    refine tx_aload_n dX4_town_67 rfl rfl ?_
    refine tx_iconst (v := 0) dX4_town_68 rfl ?_
    obtain ⟨S12, eS12, hl⟩ := xb hl
    refine tx_putI pF_X4_240 dX4_town_69 (by decide) rfl rfl (Option.some.inj eS12) ?_
    refine tx_aload_n dX4_town_72 rfl rfl ?_
    refine tx_iconst (v := (-1)) dX4_town_73 rfl ?_
    obtain ⟨S13, eS13, hl⟩ := xb hl
    refine tx_putI pF_X4_256 dX4_town_74 (by decide) rfl rfl (Option.some.inj eS13) ?_
    refine tx_aload_n dX4_town_77 rfl rfl ?_
    refine tx_iconst (v := (-1)) dX4_town_78 rfl ?_
    obtain ⟨S14, eS14, hl⟩ := xb hl
    refine tx_putI pF_X4_262 dX4_town_79 (by decide) rfl rfl (Option.some.inj eS14) ?_
    refine tx_iconst (v := 0) dX4_town_82 rfl ?_
    refine tx_istore_n dX4_town_83 (by decide) ?_
    obtain ⟨o18, eo18, hl⟩ := xb hl
    refine tx_lsK (f_town_L84_ok (S := S14) (s := (0, S14)) eo18 ?_) ⟨rfl, rfl, trivial⟩
    refine tx_aload_n dX4_town_103 rfl rfl ?_
    refine tx_iconst (v := 0) dX4_town_104 rfl ?_
    obtain ⟨S19, eS19, hl⟩ := xb hl
    refine tx_putI pF_X4_180 dX4_town_105 (by decide) rfl rfl (Option.some.inj eS19) ?_
    refine tx_aload_n dX4_town_108 rfl rfl ?_
    obtain ⟨r20, er20, hl⟩ := xb hl
    refine tx_callV (T_takes er20) lV_X4_174 C_X4_takes rfl dX4_town_109 rfl (by decide) (Nat.le_of_ble_eq_true rfl) ?_
    obtain ⟨o25, eo25, hl⟩ := xb hl
    refine tx_lsK (f_town_L112_ok (S := r20) (s := r20) eo25 ?_) ⟨rfl, trivial⟩
    exact tx_lsK (f_town_J133_s hl) ⟨rfl, trivial⟩
  · rw [if_pos c4] at hl
    refine tx_iconst (v := 0) dX4_town_30 rfl ?_
    cases hl
    exact tx_iret dX4_town_31 rfl rfl ⟨rfl, rfl⟩
set_option maxHeartbeats 4000000 in
theorem f_town_J22_s {l : Launch} {E : XEnv} {m : Nat} {ad : Nat → Nat} {h0 : XH} {n : Nat} {x1 : Int32} {S : TS} {r : Int32 × TS} (hl : f_town_J22 n x1 S = some r) : TX l E mX4_town 8 22 [(0, .ref m), (1, .int x1)] [.ref m] m ad h0 S (fun v' S'' => v' = some (.int r.1) ∧ S'' = r.2) := by
  unfold f_town_J22 at hl
  refine tx_iconst (v := 0) dX4_town_22 rfl ?_
  exact tx_lsK (f_town_J23_s hl) ⟨rfl, rfl, trivial⟩
set_option maxHeartbeats 4000000 in
theorem T_town {l : Launch} {E : XEnv} {m : Nat} {ad : Nat → Nat} {n : Nat} {x1 : Int32} {S : TS} {r : Int32 × TS} (hl : f_town n x1 S = some r) : TM l E mX4_town 8 m ad [.ref m, .int x1] S (some (.int r.1)) r.2 := by
  unfold f_town at hl
  refine tm_of (by decide +kernel) rfl (Nat.le_of_ble_eq_true rfl) fun h0 => ?_
  refine tx_aload_n dX4_town_0 rfl rfl ?_
  refine tx_iconst (v := 0) dX4_town_1 rfl ?_
  obtain ⟨S1, eS1, hl⟩ := xb hl
  refine tx_putI pF_X4_111 dX4_town_2 (by decide) rfl rfl (Option.some.inj eS1) ?_
  refine tx_aload_n dX4_town_5 rfl rfl ?_
  refine tx_iload_n dX4_town_6 rfl ?_
  refine tx_if_lt (tgt := 22) dX4_town_7 (by decide) (fun c2 => ?_) (fun c2 => ?_)
  · rw [if_pos c2] at hl
    exact tx_lsK (f_town_J22_s hl) ⟨rfl, rfl, trivial⟩
  · rw [if_neg c2] at hl
    refine tx_iload_n dX4_town_10 rfl ?_
    refine tx_aload_n dX4_town_11 rfl rfl ?_
    refine tx_getI gF_X4_114 dX4_town_12 (by decide) ?_
    refine tx_icmp_gt (tgt := 22) dX4_town_15 (by decide) (fun c48 => ?_) (fun c48 => ?_)
    · rw [if_pos c48] at hl
      exact tx_lsK (f_town_J22_s hl) ⟨rfl, rfl, trivial⟩
    · rw [if_neg c48] at hl
      refine tx_iconst (v := 1) dX4_town_18 rfl ?_
      refine tx_goto (tgt := 23) dX4_town_19 (by decide) ?_
      exact tx_lsK (f_town_J23_s hl) ⟨rfl, rfl, trivial⟩
def f_fault  (S : TS) : Option (Int32 × TS) := (some (tpF S 0 0)).bind fun S1 => some ((S1.1 14), S1)
set_option maxHeartbeats 4000000 in
theorem T_fault {l : Launch} {E : XEnv} {m : Nat} {ad : Nat → Nat}  {S : TS} {r : Int32 × TS} (hl : f_fault  S = some r) : TM l E mX4_fault 1 m ad [.ref m] S (some (.int r.1)) r.2 := by
  unfold f_fault at hl
  refine tm_of (by decide +kernel) rfl (Nat.le_of_ble_eq_true rfl) fun h0 => ?_
  refine tx_aload_n dX4_fault_0 rfl rfl ?_
  refine tx_iconst (v := 0) dX4_fault_1 rfl ?_
  obtain ⟨S1, eS1, hl⟩ := xb hl
  refine tx_putI pF_X4_111 dX4_fault_2 (by decide) rfl rfl (Option.some.inj eS1) ?_
  refine tx_aload_n dX4_fault_5 rfl rfl ?_
  refine tx_getI gF_X4_35 dX4_fault_6 (by decide) ?_
  cases hl
  exact tx_iret dX4_fault_9 rfl rfl ⟨rfl, rfl⟩
def f_undo_L26 (n : Nat) (x1 : Int32) (S : TS) : Option ((Int32 × TS) ⊕ ((TS))) := if x1 ≥ 43 then some (.inr S) else (trd S 42 (((43 : Int32) * (S.1 43)) + x1)).bind fun v5 => (twr S 41 x1 v5).bind fun S6 => (some (x1 + 1)).bind fun w7 => some (.inl (w7, S6))
abbrev K_undo_L26 (l : Launch) (E : XEnv) (m : Nat) (ad : Nat → Nat) (h0 : XH) (R : Option Value → TS → Prop) (S : TS)  (o : (TS)) : Prop := match o with
  | e => TX l E mX4_undo 1 58 [(0, .ref m)] [] m ad h0 e R
def f_undo (n : Nat)  (S : TS) : Option (Int32 × TS) := (some (tpF S 0 0)).bind fun S1 => if (S1.1 43) = 0 then some ((-1), S1) else (some (tpF S1 43 ((S1.1 43) - 1))).bind fun S3 => (xloop (fun s => f_undo_L26 n s.1 s.2) n (0, S3)).bind fun o8 => some ((o8.1 43), o8)
set_option maxHeartbeats 4000000 in
theorem f_undo_L26_s {l : Launch} {E : XEnv} {m : Nat} {ad : Nat → Nat} {h0 : XH} {R : Option Value → TS → Prop} {n : Nat} {x1 : Int32} {S : TS} {o : (Int32 × TS) ⊕ ((TS))} (hl : f_undo_L26 n x1 S = some o) (hK : (xk (fun s : Int32 × TS => TX l E mX4_undo 1 26 [(0, .ref m), (1, .int s.1)] [] m ad h0 s.2 R) (fun r => K_undo_L26 l E m ad h0 R S r) o)) : TX l E mX4_undo 1 26 [(0, .ref m), (1, .int x1)] [] m ad h0 S R := by
  unfold f_undo_L26 at hl
  refine tx_iload_n dX4_undo_26 rfl ?_
  refine tx_bipush (v := 43) dX4_undo_27 (by decide) ?_
  refine tx_icmp_ge (tgt := 58) dX4_undo_29 (by decide) (fun c4 => ?_) (fun c4 => ?_)
  · rw [if_pos c4] at hl
    cases hl
    exact tx_lsK hK ⟨rfl, trivial⟩
  · rw [if_neg c4] at hl
    refine tx_aload_n dX4_undo_32 rfl rfl ?_
    refine tx_getA gF_X4_66 dX4_undo_33 (by decide) ?_
    refine tx_iload_n dX4_undo_36 rfl ?_
    refine tx_aload_n dX4_undo_37 rfl rfl ?_
    refine tx_getA gF_X4_69 dX4_undo_38 (by decide) ?_
    refine tx_bipush (v := 43) dX4_undo_41 (by decide) ?_
    refine tx_aload_n dX4_undo_43 rfl rfl ?_
    refine tx_getI gF_X4_288 dX4_undo_44 (by decide) ?_
    refine tx_imul dX4_undo_47 ?_
    refine tx_iload_n dX4_undo_48 rfl ?_
    refine tx_iadd dX4_undo_49 ?_
    obtain ⟨v5, ev5, hl⟩ := xb hl
    refine tx_iald (by decide) dX4_undo_50 ev5 ?_
    obtain ⟨S6, eS6, hl⟩ := xb hl
    refine tx_iast (by decide) dX4_undo_51 eS6 ?_
    obtain ⟨w7, ew7, hl⟩ := xb hl
    refine tx_iinc dX4_undo_52 rfl (by decide) (Option.some.inj ew7) ?_
    refine tx_goto (tgt := 26) dX4_undo_55 (by decide) ?_
    cases hl
    exact tx_lsK hK ⟨rfl, rfl, trivial⟩
set_option maxHeartbeats 4000000 in
theorem f_undo_L26_ok {l : Launch} {E : XEnv} {m : Nat} {ad : Nat → Nat} {h0 : XH} {R : Option Value → TS → Prop} {n : Nat}  {S : TS} {s : Int32 × TS} {o : (TS)} (hl : xloop (fun s => f_undo_L26 n s.1 s.2) n s = some o) (hK : K_undo_L26 l E m ad h0 R S o) : TX l E mX4_undo 1 26 [(0, .ref m), (1, .int s.1)] [] m ad h0 s.2 R :=
  xloop_of (fun s : Int32 × TS => TX l E mX4_undo 1 26 [(0, .ref m), (1, .int s.1)] [] m ad h0 s.2 R) (fun r => K_undo_L26 l E m ad h0 R S r) (fun s o hl hk => f_undo_L26_s (S := s.2) (o := o) hl hk) n s o hl hK
set_option maxHeartbeats 4000000 in
theorem T_undo {l : Launch} {E : XEnv} {m : Nat} {ad : Nat → Nat} {n : Nat}  {S : TS} {r : Int32 × TS} (hl : f_undo n  S = some r) : TM l E mX4_undo 1 m ad [.ref m] S (some (.int r.1)) r.2 := by
  unfold f_undo at hl
  refine tm_of (by decide +kernel) rfl (Nat.le_of_ble_eq_true rfl) fun h0 => ?_
  refine tx_aload_n dX4_undo_0 rfl rfl ?_
  refine tx_iconst (v := 0) dX4_undo_1 rfl ?_
  obtain ⟨S1, eS1, hl⟩ := xb hl
  refine tx_putI pF_X4_111 dX4_undo_2 (by decide) rfl rfl (Option.some.inj eS1) ?_
  refine tx_aload_n dX4_undo_5 rfl rfl ?_
  refine tx_getI gF_X4_288 dX4_undo_6 (by decide) ?_
  refine tx_if_ne (tgt := 14) dX4_undo_9 (by decide) (fun c2 => ?_) (fun c2 => ?_)
  · rw [if_neg c2] at hl
    refine tx_aload_n dX4_undo_14 rfl rfl ?_
    refine tx_dup dX4_undo_15 rfl ?_
    refine tx_getI gF_X4_288 dX4_undo_16 (by decide) ?_
    refine tx_iconst (v := 1) dX4_undo_19 rfl ?_
    refine tx_isub dX4_undo_20 ?_
    obtain ⟨S3, eS3, hl⟩ := xb hl
    refine tx_putI pF_X4_288 dX4_undo_21 (by decide) rfl rfl (Option.some.inj eS3) ?_
    refine tx_iconst (v := 0) dX4_undo_24 rfl ?_
    refine tx_istore_n dX4_undo_25 (by decide) ?_
    obtain ⟨o8, eo8, hl⟩ := xb hl
    refine tx_lsK (f_undo_L26_ok (S := S3) (s := (0, S3)) eo8 ?_) ⟨rfl, rfl, trivial⟩
    refine tx_aload_n dX4_undo_58 rfl rfl ?_
    refine tx_getI gF_X4_288 dX4_undo_59 (by decide) ?_
    cases hl
    exact tx_iret dX4_undo_62 rfl rfl ⟨rfl, rfl⟩
  · rw [if_pos c2] at hl
    refine tx_iconst (v := (-1)) dX4_undo_12 rfl ?_
    cases hl
    exact tx_iret dX4_undo_13 rfl rfl ⟨rfl, rfl⟩
def f_within (x0 : Int32) (x1 : Int32) (x2 : Int32) : Option (Int32) := if x0 < x1 then some 0 else if x0 > x2 then some 0 else some 1
set_option maxHeartbeats 4000000 in
theorem T_within {l : Launch} {E : XEnv} {m : Nat} {ad : Nat → Nat} {x0 : Int32} {x1 : Int32} {x2 : Int32} {S : TS} {r : Int32} (hl : f_within x0 x1 x2 = some r) : TM l E mX4_within 1 m ad [.int x0, .int x1, .int x2] S (some (.int r)) S := by
  unfold f_within at hl
  refine tm_of (by decide +kernel) rfl (Nat.le_of_ble_eq_true rfl) fun h0 => ?_
  refine tx_iload_n dX4_within_0 rfl ?_
  refine tx_iload_n dX4_within_1 rfl ?_
  refine tx_icmp_lt (tgt := 14) dX4_within_2 (by decide) (fun c1 => ?_) (fun c1 => ?_)
  · rw [if_pos c1] at hl
    refine tx_iconst (v := 0) dX4_within_14 rfl ?_
    cases hl
    exact tx_iret dX4_within_15 rfl rfl ⟨rfl, rfl⟩
  · rw [if_neg c1] at hl
    refine tx_iload_n dX4_within_5 rfl ?_
    refine tx_iload_n dX4_within_6 rfl ?_
    refine tx_icmp_gt (tgt := 14) dX4_within_7 (by decide) (fun c2 => ?_) (fun c2 => ?_)
    · rw [if_pos c2] at hl
      refine tx_iconst (v := 0) dX4_within_14 rfl ?_
      cases hl
      exact tx_iret dX4_within_15 rfl rfl ⟨rfl, rfl⟩
    · rw [if_neg c2] at hl
      refine tx_iconst (v := 1) dX4_within_10 rfl ?_
      refine tx_goto (tgt := 15) dX4_within_11 (by decide) ?_
      cases hl
      exact tx_iret dX4_within_15 rfl rfl ⟨rfl, rfl⟩
def f_toldDamp (x1 : Int32) (S : TS) : Option (Int32) := if (S.1 3) = 0 then some 3 else if (S.1 3) = 0 then none else (trd S 9 (x1 - x1 / (S.1 3) * (S.1 3))).bind fun v2 => some v2
set_option maxHeartbeats 4000000 in
theorem T_toldDamp {l : Launch} {E : XEnv} {m : Nat} {ad : Nat → Nat} {x1 : Int32} {S : TS} {r : Int32} (hl : f_toldDamp x1 S = some r) : TM l E mX4_toldDamp 1 m ad [.ref m, .int x1] S (some (.int r)) S := by
  unfold f_toldDamp at hl
  refine tm_of (by decide +kernel) rfl (Nat.le_of_ble_eq_true rfl) fun h0 => ?_
  refine tx_aload_n dX4_toldDamp_0 rfl rfl ?_
  refine tx_getI gF_X4_281 dX4_toldDamp_1 (by decide) ?_
  refine tx_if_ne (tgt := 11) dX4_toldDamp_4 (by decide) (fun c1 => ?_) (fun c1 => ?_)
  · rw [if_neg c1] at hl
    refine tx_aload_n dX4_toldDamp_11 rfl rfl ?_
    refine tx_getA gF_X4_26 dX4_toldDamp_12 (by decide) ?_
    refine tx_iload_n dX4_toldDamp_15 rfl ?_
    refine tx_aload_n dX4_toldDamp_16 rfl rfl ?_
    refine tx_getI gF_X4_281 dX4_toldDamp_17 (by decide) ?_
    by_cases z3 : (S.1 3) = 0
    · rw [if_pos z3] at hl; cases hl
    rw [if_neg z3] at hl
    refine tx_irem dX4_toldDamp_20 z3 ?_
    obtain ⟨v2, ev2, hl⟩ := xb hl
    refine tx_iald (by decide) dX4_toldDamp_21 ev2 ?_
    cases hl
    exact tx_iret dX4_toldDamp_22 rfl rfl ⟨rfl, rfl⟩
  · rw [if_pos c1] at hl
    refine tx_iconst (v := 3) dX4_toldDamp_7 rfl ?_
    refine tx_goto (tgt := 22) dX4_toldDamp_8 (by decide) ?_
    cases hl
    exact tx_iret dX4_toldDamp_22 rfl rfl ⟨rfl, rfl⟩
def f_dampIn (x1 : Int32) (S : TS) : Option (Int32) := if (S.1 46) = (-1) then (trd S 41 (x1 + 2)).bind fun v2 => if v2 = 1 then some 9 else (trd S 41 (x1 + 0)).bind fun v4 => (f_toldDamp v4 S).bind fun r5 => some r5 else some (S.1 46)
set_option maxHeartbeats 4000000 in
theorem T_dampIn {l : Launch} {E : XEnv} {m : Nat} {ad : Nat → Nat} {x1 : Int32} {S : TS} {r : Int32} (hl : f_dampIn x1 S = some r) : TM l E mX4_dampIn 2 m ad [.ref m, .int x1] S (some (.int r)) S := by
  unfold f_dampIn at hl
  refine tm_of (by decide +kernel) rfl (Nat.le_of_ble_eq_true rfl) fun h0 => ?_
  refine tx_aload_n dX4_dampIn_0 rfl rfl ?_
  refine tx_getI gF_X4_78 dX4_dampIn_1 (by decide) ?_
  refine tx_iconst (v := (-1)) dX4_dampIn_4 rfl ?_
  refine tx_icmp_eq (tgt := 15) dX4_dampIn_5 (by decide) (fun c1 => ?_) (fun c1 => ?_)
  · rw [if_pos c1] at hl
    refine tx_aload_n dX4_dampIn_15 rfl rfl ?_
    refine tx_getA gF_X4_66 dX4_dampIn_16 (by decide) ?_
    refine tx_iload_n dX4_dampIn_19 rfl ?_
    refine tx_iconst (v := 2) dX4_dampIn_20 rfl ?_
    refine tx_iadd dX4_dampIn_21 ?_
    obtain ⟨v2, ev2, hl⟩ := xb hl
    refine tx_iald (by decide) dX4_dampIn_22 ev2 ?_
    refine tx_iconst (v := 1) dX4_dampIn_23 rfl ?_
    refine tx_icmp_ne (tgt := 32) dX4_dampIn_24 (by decide) (fun c3 => ?_) (fun c3 => ?_)
    · rw [if_neg c3] at hl
      refine tx_aload_n dX4_dampIn_32 rfl rfl ?_
      refine tx_aload_n dX4_dampIn_33 rfl rfl ?_
      refine tx_getA gF_X4_66 dX4_dampIn_34 (by decide) ?_
      refine tx_iload_n dX4_dampIn_37 rfl ?_
      refine tx_iconst (v := 0) dX4_dampIn_38 rfl ?_
      refine tx_iadd dX4_dampIn_39 ?_
      obtain ⟨v4, ev4, hl⟩ := xb hl
      refine tx_iald (by decide) dX4_dampIn_40 ev4 ?_
      obtain ⟨r5, er5, hl⟩ := xb hl
      refine tx_callV (T_toldDamp er5) lV_X4_302 C_X4_toldDamp rfl dX4_dampIn_41 rfl (by decide) (Nat.le_of_ble_eq_true rfl) ?_
      cases hl
      exact tx_iret dX4_dampIn_44 rfl rfl ⟨rfl, rfl⟩
    · rw [if_pos c3] at hl
      refine tx_bipush (v := 9) dX4_dampIn_27 (by decide) ?_
      refine tx_goto (tgt := 44) dX4_dampIn_29 (by decide) ?_
      cases hl
      exact tx_iret dX4_dampIn_44 rfl rfl ⟨rfl, rfl⟩
  · rw [if_neg c1] at hl
    refine tx_aload_n dX4_dampIn_8 rfl rfl ?_
    refine tx_getI gF_X4_78 dX4_dampIn_9 (by decide) ?_
    refine tx_goto (tgt := 44) dX4_dampIn_12 (by decide) ?_
    cases hl
    exact tx_iret dX4_dampIn_44 rfl rfl ⟨rfl, rfl⟩
def f_taken_L4 (n : Nat) (x1 : Int32) (x2 : Int32) (S : TS) : Option ((Int32 × Int32) ⊕ ((Int32))) := if x2 ≥ (S.1 1) then some (.inr x1) else (trd S 41 ((19 : Int32) + x2)).bind fun v2 => if v2 = (-1) then (some (x1 ||| 0)).bind fun w4 => (some (x2 + 1)).bind fun w5 => some (.inl (w4, w5)) else (some (x1 ||| ((1 : Int32) <<< ((x2 : Int32) &&& 31)))).bind fun w6 => (some (x2 + 1)).bind fun w7 => some (.inl (w6, w7))
abbrev K_taken_L4 (l : Launch) (E : XEnv) (m : Nat) (ad : Nat → Nat) (h0 : XH) (R : Option Value → TS → Prop) (S : TS)  (o : (Int32)) : Prop := match o with
  | e => TX l E mX4_taken 1 41 [(0, .ref m), (1, .int e)] [] m ad h0 S R
def f_taken (n : Nat)  (S : TS) : Option (Int32) := (xloop (fun s => f_taken_L4 n s.1 s.2 S) n (0, 0)).bind fun o8 => some o8
set_option maxHeartbeats 4000000 in
theorem f_taken_L4_s {l : Launch} {E : XEnv} {m : Nat} {ad : Nat → Nat} {h0 : XH} {R : Option Value → TS → Prop} {n : Nat} {x1 : Int32} {x2 : Int32} {S : TS} {o : (Int32 × Int32) ⊕ ((Int32))} (hl : f_taken_L4 n x1 x2 S = some o) (hK : (xk (fun s : Int32 × Int32 => TX l E mX4_taken 1 4 [(0, .ref m), (1, .int s.1), (2, .int s.2)] [] m ad h0 S R) (fun r => K_taken_L4 l E m ad h0 R S r) o)) : TX l E mX4_taken 1 4 [(0, .ref m), (1, .int x1), (2, .int x2)] [] m ad h0 S R := by
  unfold f_taken_L4 at hl
  refine tx_iload_n dX4_taken_4 rfl ?_
  refine tx_aload_n dX4_taken_5 rfl rfl ?_
  refine tx_getI gF_X4_275 dX4_taken_6 (by decide) ?_
  refine tx_icmp_ge (tgt := 41) dX4_taken_9 (by decide) (fun c1 => ?_) (fun c1 => ?_)
  · rw [if_pos c1] at hl
    cases hl
    exact tx_lsK hK ⟨rfl, rfl, trivial⟩
  · rw [if_neg c1] at hl
    refine tx_iload_n dX4_taken_12 rfl ?_
    refine tx_aload_n dX4_taken_13 rfl rfl ?_
    refine tx_getA gF_X4_66 dX4_taken_14 (by decide) ?_
    refine tx_bipush (v := 19) dX4_taken_17 (by decide) ?_
    refine tx_iload_n dX4_taken_19 rfl ?_
    refine tx_iadd dX4_taken_20 ?_
    obtain ⟨v2, ev2, hl⟩ := xb hl
    refine tx_iald (by decide) dX4_taken_21 ev2 ?_
    refine tx_iconst (v := (-1)) dX4_taken_22 rfl ?_
    refine tx_icmp_eq (tgt := 32) dX4_taken_23 (by decide) (fun c3 => ?_) (fun c3 => ?_)
    · rw [if_pos c3] at hl
      refine tx_iconst (v := 0) dX4_taken_32 rfl ?_
      refine tx_ior dX4_taken_33 ?_
      obtain ⟨w4, ew4, hl⟩ := xb hl
      refine tx_top (Option.some.inj ew4) ?_
      refine tx_istore_n dX4_taken_34 (by decide) ?_
      obtain ⟨w5, ew5, hl⟩ := xb hl
      refine tx_iinc dX4_taken_35 rfl (by decide) (Option.some.inj ew5) ?_
      refine tx_goto (tgt := 4) dX4_taken_38 (by decide) ?_
      cases hl
      exact tx_lsK hK ⟨rfl, rfl, rfl, trivial⟩
    · rw [if_neg c3] at hl
      refine tx_iconst (v := 1) dX4_taken_26 rfl ?_
      refine tx_iload_n dX4_taken_27 rfl ?_
      refine tx_ishl dX4_taken_28 ?_
      refine tx_goto (tgt := 33) dX4_taken_29 (by decide) ?_
      refine tx_ior dX4_taken_33 ?_
      obtain ⟨w6, ew6, hl⟩ := xb hl
      refine tx_top (Option.some.inj ew6) ?_
      refine tx_istore_n dX4_taken_34 (by decide) ?_
      obtain ⟨w7, ew7, hl⟩ := xb hl
      refine tx_iinc dX4_taken_35 rfl (by decide) (Option.some.inj ew7) ?_
      refine tx_goto (tgt := 4) dX4_taken_38 (by decide) ?_
      cases hl
      exact tx_lsK hK ⟨rfl, rfl, rfl, trivial⟩
set_option maxHeartbeats 4000000 in
theorem f_taken_L4_ok {l : Launch} {E : XEnv} {m : Nat} {ad : Nat → Nat} {h0 : XH} {R : Option Value → TS → Prop} {n : Nat}  {S : TS} {s : Int32 × Int32} {o : (Int32)} (hl : xloop (fun s => f_taken_L4 n s.1 s.2 S) n s = some o) (hK : K_taken_L4 l E m ad h0 R S o) : TX l E mX4_taken 1 4 [(0, .ref m), (1, .int s.1), (2, .int s.2)] [] m ad h0 S R :=
  xloop_of (fun s : Int32 × Int32 => TX l E mX4_taken 1 4 [(0, .ref m), (1, .int s.1), (2, .int s.2)] [] m ad h0 S R) (fun r => K_taken_L4 l E m ad h0 R S r) (fun s o hl hk => f_taken_L4_s (S := S) (o := o) hl hk) n s o hl hK
set_option maxHeartbeats 4000000 in
theorem T_taken {l : Launch} {E : XEnv} {m : Nat} {ad : Nat → Nat} {n : Nat}  {S : TS} {r : Int32} (hl : f_taken n  S = some r) : TM l E mX4_taken 1 m ad [.ref m] S (some (.int r)) S := by
  unfold f_taken at hl
  refine tm_of (by decide +kernel) rfl (Nat.le_of_ble_eq_true rfl) fun h0 => ?_
  refine tx_iconst (v := 0) dX4_taken_0 rfl ?_
  refine tx_istore_n dX4_taken_1 (by decide) ?_
  refine tx_iconst (v := 0) dX4_taken_2 rfl ?_
  refine tx_istore_n dX4_taken_3 (by decide) ?_
  obtain ⟨o8, eo8, hl⟩ := xb hl
  refine tx_lsK (f_taken_L4_ok (S := S) (s := (0, 0)) eo8 ?_) ⟨rfl, rfl, rfl, trivial⟩
  refine tx_iload_n dX4_taken_41 rfl ?_
  cases hl
  exact tx_iret dX4_taken_42 rfl rfl ⟨rfl, rfl⟩
def f_houseOf_L2 (n : Nat) (x1 : Int32) (x2 : Int32) (x3 : Int32) (S : TS) : Option ((Int32) ⊕ ((Unit) ⊕ (Int32))) := if x3 ≥ (S.1 1) then some (.inr (.inl ())) else (trd S 41 ((x1 + 19) + x3)).bind fun v2 => if v2 = x2 then some (.inr (.inr x3)) else (some (x3 + 1)).bind fun w4 => some (.inl w4)
abbrev K_houseOf_L2 (l : Launch) (E : XEnv) (m : Nat) (ad : Nat → Nat) (h0 : XH) (R : Option Value → TS → Prop) (S : TS) (x1 : Int32) (x2 : Int32) (o : (Unit) ⊕ (Int32)) : Prop := match o with
  | .inl e => TX l E mX4_houseOf 1 33 [(0, .ref m)] [] m ad h0 S R
  | .inr e => TX l E mX4_houseOf 1 25 [(0, .ref m), (3, .int e)] [] m ad h0 S R
def f_houseOf (n : Nat) (x1 : Int32) (x2 : Int32) (S : TS) : Option (Int32) := (xloop (fun s => f_houseOf_L2 n x1 x2 s S) n 0).bind fun o5 => match o5 with | .inl e6 => (some (-1)) | .inr e7 => (some e7)
set_option maxHeartbeats 4000000 in
theorem f_houseOf_L2_s {l : Launch} {E : XEnv} {m : Nat} {ad : Nat → Nat} {h0 : XH} {R : Option Value → TS → Prop} {n : Nat} {x1 : Int32} {x2 : Int32} {x3 : Int32} {S : TS} {o : (Int32) ⊕ ((Unit) ⊕ (Int32))} (hl : f_houseOf_L2 n x1 x2 x3 S = some o) (hK : (xk (fun s : Int32 => TX l E mX4_houseOf 1 2 [(0, .ref m), (1, .int x1), (2, .int x2), (3, .int s)] [] m ad h0 S R) (fun r => K_houseOf_L2 l E m ad h0 R S x1 x2 r) o)) : TX l E mX4_houseOf 1 2 [(0, .ref m), (1, .int x1), (2, .int x2), (3, .int x3)] [] m ad h0 S R := by
  unfold f_houseOf_L2 at hl
  refine tx_iload_n dX4_houseOf_2 rfl ?_
  refine tx_aload_n dX4_houseOf_3 rfl rfl ?_
  refine tx_getI gF_X4_275 dX4_houseOf_4 (by decide) ?_
  refine tx_icmp_ge (tgt := 33) dX4_houseOf_7 (by decide) (fun c1 => ?_) (fun c1 => ?_)
  · rw [if_pos c1] at hl
    cases hl
    exact tx_lsK hK ⟨rfl, trivial⟩
  · rw [if_neg c1] at hl
    refine tx_aload_n dX4_houseOf_10 rfl rfl ?_
    refine tx_getA gF_X4_66 dX4_houseOf_11 (by decide) ?_
    refine tx_iload_n dX4_houseOf_14 rfl ?_
    refine tx_bipush (v := 19) dX4_houseOf_15 (by decide) ?_
    refine tx_iadd dX4_houseOf_17 ?_
    refine tx_iload_n dX4_houseOf_18 rfl ?_
    refine tx_iadd dX4_houseOf_19 ?_
    obtain ⟨v2, ev2, hl⟩ := xb hl
    refine tx_iald (by decide) dX4_houseOf_20 ev2 ?_
    refine tx_iload_n dX4_houseOf_21 rfl ?_
    refine tx_icmp_ne (tgt := 27) dX4_houseOf_22 (by decide) (fun c3 => ?_) (fun c3 => ?_)
    · rw [if_neg c3] at hl
      obtain ⟨w4, ew4, hl⟩ := xb hl
      refine tx_iinc dX4_houseOf_27 rfl (by decide) (Option.some.inj ew4) ?_
      refine tx_goto (tgt := 2) dX4_houseOf_30 (by decide) ?_
      cases hl
      exact tx_lsK hK ⟨rfl, rfl, rfl, rfl, trivial⟩
    · rw [if_pos c3] at hl
      cases hl
      exact tx_lsK hK ⟨rfl, rfl, trivial⟩
set_option maxHeartbeats 4000000 in
theorem f_houseOf_L2_ok {l : Launch} {E : XEnv} {m : Nat} {ad : Nat → Nat} {h0 : XH} {R : Option Value → TS → Prop} {n : Nat} {x1 : Int32} {x2 : Int32} {S : TS} {s : Int32} {o : (Unit) ⊕ (Int32)} (hl : xloop (fun s => f_houseOf_L2 n x1 x2 s S) n s = some o) (hK : K_houseOf_L2 l E m ad h0 R S x1 x2 o) : TX l E mX4_houseOf 1 2 [(0, .ref m), (1, .int x1), (2, .int x2), (3, .int s)] [] m ad h0 S R :=
  xloop_of (fun s : Int32 => TX l E mX4_houseOf 1 2 [(0, .ref m), (1, .int x1), (2, .int x2), (3, .int s)] [] m ad h0 S R) (fun r => K_houseOf_L2 l E m ad h0 R S x1 x2 r) (fun s o hl hk => f_houseOf_L2_s (S := S) (o := o) hl hk) n s o hl hK
set_option maxHeartbeats 4000000 in
theorem T_houseOf {l : Launch} {E : XEnv} {m : Nat} {ad : Nat → Nat} {n : Nat} {x1 : Int32} {x2 : Int32} {S : TS} {r : Int32} (hl : f_houseOf n x1 x2 S = some r) : TM l E mX4_houseOf 1 m ad [.ref m, .int x1, .int x2] S (some (.int r)) S := by
  unfold f_houseOf at hl
  refine tm_of (by decide +kernel) rfl (Nat.le_of_ble_eq_true rfl) fun h0 => ?_
  refine tx_iconst (v := 0) dX4_houseOf_0 rfl ?_
  refine tx_istore_n dX4_houseOf_1 (by decide) ?_
  obtain ⟨o5, eo5, hl⟩ := xb hl
  rcases o5 with e6 | e7
  · dsimp only at hl
    refine tx_lsK (f_houseOf_L2_ok (S := S) (s := 0) eo5 ?_) ⟨rfl, rfl, rfl, rfl, trivial⟩
    refine tx_iconst (v := (-1)) dX4_houseOf_33 rfl ?_
    cases hl
    exact tx_iret dX4_houseOf_34 rfl rfl ⟨rfl, rfl⟩
  · dsimp only at hl
    refine tx_lsK (f_houseOf_L2_ok (S := S) (s := 0) eo5 ?_) ⟨rfl, rfl, rfl, rfl, trivial⟩
    refine tx_iload_n dX4_houseOf_25 rfl ?_
    cases hl
    exact tx_iret dX4_houseOf_26 rfl rfl ⟨rfl, rfl⟩
def f_lodgersIn_L4 (n : Nat) (x1 : Int32) (x2 : Int32) (x3 : Int32) (S : TS) : Option ((Int32 × Int32) ⊕ ((Int32))) := if x3 ≥ (S.1 2) then some (.inr x2) else (f_houseOf n x1 x3 S).bind fun r2 => if r2 = (-1) then (some (x2 ||| ((1 : Int32) <<< ((x3 : Int32) &&& 31)))).bind fun w6 => (some (x3 + 1)).bind fun w7 => some (.inl (w6, w7)) else (some (x2 ||| 0)).bind fun w4 => (some (x3 + 1)).bind fun w5 => some (.inl (w4, w5))
abbrev K_lodgersIn_L4 (l : Launch) (E : XEnv) (m : Nat) (ad : Nat → Nat) (h0 : XH) (R : Option Value → TS → Prop) (S : TS) (x1 : Int32) (o : (Int32)) : Prop := match o with
  | e => TX l E mX4_lodgersIn 2 38 [(0, .ref m), (2, .int e)] [] m ad h0 S R
def f_lodgersIn (n : Nat) (x1 : Int32) (S : TS) : Option (Int32) := (xloop (fun s => f_lodgersIn_L4 n x1 s.1 s.2 S) n (0, 0)).bind fun o8 => some o8
set_option maxHeartbeats 4000000 in
theorem f_lodgersIn_L4_s {l : Launch} {E : XEnv} {m : Nat} {ad : Nat → Nat} {h0 : XH} {R : Option Value → TS → Prop} {n : Nat} {x1 : Int32} {x2 : Int32} {x3 : Int32} {S : TS} {o : (Int32 × Int32) ⊕ ((Int32))} (hl : f_lodgersIn_L4 n x1 x2 x3 S = some o) (hK : (xk (fun s : Int32 × Int32 => TX l E mX4_lodgersIn 2 4 [(0, .ref m), (1, .int x1), (2, .int s.1), (3, .int s.2)] [] m ad h0 S R) (fun r => K_lodgersIn_L4 l E m ad h0 R S x1 r) o)) : TX l E mX4_lodgersIn 2 4 [(0, .ref m), (1, .int x1), (2, .int x2), (3, .int x3)] [] m ad h0 S R := by
  unfold f_lodgersIn_L4 at hl
  refine tx_iload_n dX4_lodgersIn_4 rfl ?_
  refine tx_aload_n dX4_lodgersIn_5 rfl rfl ?_
  refine tx_getI gF_X4_278 dX4_lodgersIn_6 (by decide) ?_
  refine tx_icmp_ge (tgt := 38) dX4_lodgersIn_9 (by decide) (fun c1 => ?_) (fun c1 => ?_)
  · rw [if_pos c1] at hl
    cases hl
    exact tx_lsK hK ⟨rfl, rfl, trivial⟩
  · rw [if_neg c1] at hl
    refine tx_iload_n dX4_lodgersIn_12 rfl ?_
    refine tx_aload_n dX4_lodgersIn_13 rfl rfl ?_
    refine tx_iload_n dX4_lodgersIn_14 rfl ?_
    refine tx_iload_n dX4_lodgersIn_15 rfl ?_
    obtain ⟨r2, er2, hl⟩ := xb hl
    refine tx_callV (T_houseOf er2) lV_X4_339 C_X4_houseOf rfl dX4_lodgersIn_16 rfl (by decide) (Nat.le_of_ble_eq_true rfl) ?_
    refine tx_iconst (v := (-1)) dX4_lodgersIn_19 rfl ?_
    refine tx_icmp_ne (tgt := 29) dX4_lodgersIn_20 (by decide) (fun c3 => ?_) (fun c3 => ?_)
    · rw [if_neg c3] at hl
      refine tx_iconst (v := 0) dX4_lodgersIn_29 rfl ?_
      refine tx_ior dX4_lodgersIn_30 ?_
      obtain ⟨w4, ew4, hl⟩ := xb hl
      refine tx_top (Option.some.inj ew4) ?_
      refine tx_istore_n dX4_lodgersIn_31 (by decide) ?_
      obtain ⟨w5, ew5, hl⟩ := xb hl
      refine tx_iinc dX4_lodgersIn_32 rfl (by decide) (Option.some.inj ew5) ?_
      refine tx_goto (tgt := 4) dX4_lodgersIn_35 (by decide) ?_
      cases hl
      exact tx_lsK hK ⟨rfl, rfl, rfl, rfl, trivial⟩
    · rw [if_pos c3] at hl
      refine tx_iconst (v := 1) dX4_lodgersIn_23 rfl ?_
      refine tx_iload_n dX4_lodgersIn_24 rfl ?_
      refine tx_ishl dX4_lodgersIn_25 ?_
      refine tx_goto (tgt := 30) dX4_lodgersIn_26 (by decide) ?_
      refine tx_ior dX4_lodgersIn_30 ?_
      obtain ⟨w6, ew6, hl⟩ := xb hl
      refine tx_top (Option.some.inj ew6) ?_
      refine tx_istore_n dX4_lodgersIn_31 (by decide) ?_
      obtain ⟨w7, ew7, hl⟩ := xb hl
      refine tx_iinc dX4_lodgersIn_32 rfl (by decide) (Option.some.inj ew7) ?_
      refine tx_goto (tgt := 4) dX4_lodgersIn_35 (by decide) ?_
      cases hl
      exact tx_lsK hK ⟨rfl, rfl, rfl, rfl, trivial⟩
set_option maxHeartbeats 4000000 in
theorem f_lodgersIn_L4_ok {l : Launch} {E : XEnv} {m : Nat} {ad : Nat → Nat} {h0 : XH} {R : Option Value → TS → Prop} {n : Nat} {x1 : Int32} {S : TS} {s : Int32 × Int32} {o : (Int32)} (hl : xloop (fun s => f_lodgersIn_L4 n x1 s.1 s.2 S) n s = some o) (hK : K_lodgersIn_L4 l E m ad h0 R S x1 o) : TX l E mX4_lodgersIn 2 4 [(0, .ref m), (1, .int x1), (2, .int s.1), (3, .int s.2)] [] m ad h0 S R :=
  xloop_of (fun s : Int32 × Int32 => TX l E mX4_lodgersIn 2 4 [(0, .ref m), (1, .int x1), (2, .int s.1), (3, .int s.2)] [] m ad h0 S R) (fun r => K_lodgersIn_L4 l E m ad h0 R S x1 r) (fun s o hl hk => f_lodgersIn_L4_s (S := S) (o := o) hl hk) n s o hl hK
set_option maxHeartbeats 4000000 in
theorem T_lodgersIn {l : Launch} {E : XEnv} {m : Nat} {ad : Nat → Nat} {n : Nat} {x1 : Int32} {S : TS} {r : Int32} (hl : f_lodgersIn n x1 S = some r) : TM l E mX4_lodgersIn 2 m ad [.ref m, .int x1] S (some (.int r)) S := by
  unfold f_lodgersIn at hl
  refine tm_of (by decide +kernel) rfl (Nat.le_of_ble_eq_true rfl) fun h0 => ?_
  refine tx_iconst (v := 0) dX4_lodgersIn_0 rfl ?_
  refine tx_istore_n dX4_lodgersIn_1 (by decide) ?_
  refine tx_iconst (v := 0) dX4_lodgersIn_2 rfl ?_
  refine tx_istore_n dX4_lodgersIn_3 (by decide) ?_
  obtain ⟨o8, eo8, hl⟩ := xb hl
  refine tx_lsK (f_lodgersIn_L4_ok (S := S) (s := (0, 0)) eo8 ?_) ⟨rfl, rfl, rfl, rfl, trivial⟩
  refine tx_iload_n dX4_lodgersIn_38 rfl ?_
  cases hl
  exact tx_iret dX4_lodgersIn_39 rfl rfl ⟨rfl, rfl⟩
def f_soreIn_L4 (n : Nat) (x1 : Int32) (x2 : Int32) (x3 : Int32) (S : TS) : Option ((Int32 × Int32) ⊕ ((Int32))) := if x3 ≥ (S.1 2) then some (.inr x2) else (trd S 41 ((x1 + 35) + x3)).bind fun v2 => (some (x2 + v2)).bind fun w3 => (some (x3 + 1)).bind fun w4 => some (.inl (w3, w4))
abbrev K_soreIn_L4 (l : Launch) (E : XEnv) (m : Nat) (ad : Nat → Nat) (h0 : XH) (R : Option Value → TS → Prop) (S : TS) (x1 : Int32) (o : (Int32)) : Prop := match o with
  | e => TX l E mX4_soreIn 1 32 [(0, .ref m), (2, .int e)] [] m ad h0 S R
def f_soreIn (n : Nat) (x1 : Int32) (S : TS) : Option (Int32) := (xloop (fun s => f_soreIn_L4 n x1 s.1 s.2 S) n (0, 0)).bind fun o5 => some o5
set_option maxHeartbeats 4000000 in
theorem f_soreIn_L4_s {l : Launch} {E : XEnv} {m : Nat} {ad : Nat → Nat} {h0 : XH} {R : Option Value → TS → Prop} {n : Nat} {x1 : Int32} {x2 : Int32} {x3 : Int32} {S : TS} {o : (Int32 × Int32) ⊕ ((Int32))} (hl : f_soreIn_L4 n x1 x2 x3 S = some o) (hK : (xk (fun s : Int32 × Int32 => TX l E mX4_soreIn 1 4 [(0, .ref m), (1, .int x1), (2, .int s.1), (3, .int s.2)] [] m ad h0 S R) (fun r => K_soreIn_L4 l E m ad h0 R S x1 r) o)) : TX l E mX4_soreIn 1 4 [(0, .ref m), (1, .int x1), (2, .int x2), (3, .int x3)] [] m ad h0 S R := by
  unfold f_soreIn_L4 at hl
  refine tx_iload_n dX4_soreIn_4 rfl ?_
  refine tx_aload_n dX4_soreIn_5 rfl rfl ?_
  refine tx_getI gF_X4_278 dX4_soreIn_6 (by decide) ?_
  refine tx_icmp_ge (tgt := 32) dX4_soreIn_9 (by decide) (fun c1 => ?_) (fun c1 => ?_)
  · rw [if_pos c1] at hl
    cases hl
    exact tx_lsK hK ⟨rfl, rfl, trivial⟩
  · rw [if_neg c1] at hl
    refine tx_iload_n dX4_soreIn_12 rfl ?_
    refine tx_aload_n dX4_soreIn_13 rfl rfl ?_
    refine tx_getA gF_X4_66 dX4_soreIn_14 (by decide) ?_
    refine tx_iload_n dX4_soreIn_17 rfl ?_
    refine tx_bipush (v := 35) dX4_soreIn_18 (by decide) ?_
    refine tx_iadd dX4_soreIn_20 ?_
    refine tx_iload_n dX4_soreIn_21 rfl ?_
    refine tx_iadd dX4_soreIn_22 ?_
    obtain ⟨v2, ev2, hl⟩ := xb hl
    refine tx_iald (by decide) dX4_soreIn_23 ev2 ?_
    refine tx_iadd dX4_soreIn_24 ?_
    obtain ⟨w3, ew3, hl⟩ := xb hl
    refine tx_top (Option.some.inj ew3) ?_
    refine tx_istore_n dX4_soreIn_25 (by decide) ?_
    obtain ⟨w4, ew4, hl⟩ := xb hl
    refine tx_iinc dX4_soreIn_26 rfl (by decide) (Option.some.inj ew4) ?_
    refine tx_goto (tgt := 4) dX4_soreIn_29 (by decide) ?_
    cases hl
    exact tx_lsK hK ⟨rfl, rfl, rfl, rfl, trivial⟩
set_option maxHeartbeats 4000000 in
theorem f_soreIn_L4_ok {l : Launch} {E : XEnv} {m : Nat} {ad : Nat → Nat} {h0 : XH} {R : Option Value → TS → Prop} {n : Nat} {x1 : Int32} {S : TS} {s : Int32 × Int32} {o : (Int32)} (hl : xloop (fun s => f_soreIn_L4 n x1 s.1 s.2 S) n s = some o) (hK : K_soreIn_L4 l E m ad h0 R S x1 o) : TX l E mX4_soreIn 1 4 [(0, .ref m), (1, .int x1), (2, .int s.1), (3, .int s.2)] [] m ad h0 S R :=
  xloop_of (fun s : Int32 × Int32 => TX l E mX4_soreIn 1 4 [(0, .ref m), (1, .int x1), (2, .int s.1), (3, .int s.2)] [] m ad h0 S R) (fun r => K_soreIn_L4 l E m ad h0 R S x1 r) (fun s o hl hk => f_soreIn_L4_s (S := S) (o := o) hl hk) n s o hl hK
set_option maxHeartbeats 4000000 in
theorem T_soreIn {l : Launch} {E : XEnv} {m : Nat} {ad : Nat → Nat} {n : Nat} {x1 : Int32} {S : TS} {r : Int32} (hl : f_soreIn n x1 S = some r) : TM l E mX4_soreIn 1 m ad [.ref m, .int x1] S (some (.int r)) S := by
  unfold f_soreIn at hl
  refine tm_of (by decide +kernel) rfl (Nat.le_of_ble_eq_true rfl) fun h0 => ?_
  refine tx_iconst (v := 0) dX4_soreIn_0 rfl ?_
  refine tx_istore_n dX4_soreIn_1 (by decide) ?_
  refine tx_iconst (v := 0) dX4_soreIn_2 rfl ?_
  refine tx_istore_n dX4_soreIn_3 (by decide) ?_
  obtain ⟨o5, eo5, hl⟩ := xb hl
  refine tx_lsK (f_soreIn_L4_ok (S := S) (s := (0, 0)) eo5 ?_) ⟨rfl, rfl, rfl, rfl, trivial⟩
  refine tx_iload_n dX4_soreIn_32 rfl ?_
  cases hl
  exact tx_iret dX4_soreIn_33 rfl rfl ⟨rfl, rfl⟩
def f_bounded (x0 : Int32) (x1 : Int32) (x2 : Int32) : Option (Int32) := if x0 ≥ x1 then if x0 ≤ x2 then some x0 else some x2 else some x1
set_option maxHeartbeats 4000000 in
theorem T_bounded {l : Launch} {E : XEnv} {m : Nat} {ad : Nat → Nat} {x0 : Int32} {x1 : Int32} {x2 : Int32} {S : TS} {r : Int32} (hl : f_bounded x0 x1 x2 = some r) : TM l E mX4_bounded 1 m ad [.int x0, .int x1, .int x2] S (some (.int r)) S := by
  unfold f_bounded at hl
  refine tm_of (by decide +kernel) rfl (Nat.le_of_ble_eq_true rfl) fun h0 => ?_
  refine tx_iload_n dX4_bounded_0 rfl ?_
  refine tx_iload_n dX4_bounded_1 rfl ?_
  refine tx_icmp_ge (tgt := 9) dX4_bounded_2 (by decide) (fun c1 => ?_) (fun c1 => ?_)
  · rw [if_pos c1] at hl
    refine tx_iload_n dX4_bounded_9 rfl ?_
    refine tx_iload_n dX4_bounded_10 rfl ?_
    refine tx_icmp_le (tgt := 18) dX4_bounded_11 (by decide) (fun c2 => ?_) (fun c2 => ?_)
    · rw [if_pos c2] at hl
      refine tx_iload_n dX4_bounded_18 rfl ?_
      cases hl
      exact tx_iret dX4_bounded_19 rfl rfl ⟨rfl, rfl⟩
    · rw [if_neg c2] at hl
      refine tx_iload_n dX4_bounded_14 rfl ?_
      refine tx_goto (tgt := 19) dX4_bounded_15 (by decide) ?_
      cases hl
      exact tx_iret dX4_bounded_19 rfl rfl ⟨rfl, rfl⟩
  · rw [if_neg c1] at hl
    refine tx_iload_n dX4_bounded_5 rfl ?_
    refine tx_goto (tgt := 19) dX4_bounded_6 (by decide) ?_
    cases hl
    exact tx_iret dX4_bounded_19 rfl rfl ⟨rfl, rfl⟩
def f_tightOf (x1 : Int32) (x2 : Int32) (x3 : Int32) (S : TS) : Option (Int32) := (trd S 41 ((x1 + 27) + x2)).bind fun v1 => (trd S 41 ((x1 + 3) + x3)).bind fun v2 => (f_bounded (v1 - v2) 0 99999).bind fun r3 => some r3
set_option maxHeartbeats 4000000 in
theorem T_tightOf {l : Launch} {E : XEnv} {m : Nat} {ad : Nat → Nat} {x1 : Int32} {x2 : Int32} {x3 : Int32} {S : TS} {r : Int32} (hl : f_tightOf x1 x2 x3 S = some r) : TM l E mX4_tightOf 2 m ad [.ref m, .int x1, .int x2, .int x3] S (some (.int r)) S := by
  unfold f_tightOf at hl
  refine tm_of (by decide +kernel) rfl (Nat.le_of_ble_eq_true rfl) fun h0 => ?_
  refine tx_aload_n dX4_tightOf_0 rfl rfl ?_
  refine tx_getA gF_X4_66 dX4_tightOf_1 (by decide) ?_
  refine tx_iload_n dX4_tightOf_4 rfl ?_
  refine tx_bipush (v := 27) dX4_tightOf_5 (by decide) ?_
  refine tx_iadd dX4_tightOf_7 ?_
  refine tx_iload_n dX4_tightOf_8 rfl ?_
  refine tx_iadd dX4_tightOf_9 ?_
  obtain ⟨v1, ev1, hl⟩ := xb hl
  refine tx_iald (by decide) dX4_tightOf_10 ev1 ?_
  refine tx_aload_n dX4_tightOf_11 rfl rfl ?_
  refine tx_getA gF_X4_66 dX4_tightOf_12 (by decide) ?_
  refine tx_iload_n dX4_tightOf_15 rfl ?_
  refine tx_iconst (v := 3) dX4_tightOf_16 rfl ?_
  refine tx_iadd dX4_tightOf_17 ?_
  refine tx_iload_n dX4_tightOf_18 rfl ?_
  refine tx_iadd dX4_tightOf_19 ?_
  obtain ⟨v2, ev2, hl⟩ := xb hl
  refine tx_iald (by decide) dX4_tightOf_20 ev2 ?_
  refine tx_isub dX4_tightOf_21 ?_
  refine tx_iconst (v := 0) dX4_tightOf_22 rfl ?_
  refine tx_ldcw (v := 99999) q2000 dX4_tightOf_23 ?_
  obtain ⟨r3, er3, hl⟩ := xb hl
  refine tx_callS (T_bounded er3) lS_X4_306 C_X4_bounded dX4_tightOf_26 rfl (by decide) (Nat.le_of_ble_eq_true rfl) ?_
  cases hl
  exact tx_iret dX4_tightOf_29 rfl rfl ⟨rfl, rfl⟩
def f_tightNow (n : Nat) (x1 : Int32) (S : TS) : Option (Int32) := (f_houseOf n 0 x1 S).bind fun r1 => if r1 = (-1) then some 0 else (f_tightOf 0 x1 r1 S).bind fun r3 => some r3
set_option maxHeartbeats 4000000 in
theorem T_tightNow {l : Launch} {E : XEnv} {m : Nat} {ad : Nat → Nat} {n : Nat} {x1 : Int32} {S : TS} {r : Int32} (hl : f_tightNow n x1 S = some r) : TM l E mX4_tightNow 3 m ad [.ref m, .int x1] S (some (.int r)) S := by
  unfold f_tightNow at hl
  refine tm_of (by decide +kernel) rfl (Nat.le_of_ble_eq_true rfl) fun h0 => ?_
  refine tx_aload_n dX4_tightNow_0 rfl rfl ?_
  refine tx_iconst (v := 0) dX4_tightNow_1 rfl ?_
  refine tx_iload_n dX4_tightNow_2 rfl ?_
  obtain ⟨r1, er1, hl⟩ := xb hl
  refine tx_callV (T_houseOf er1) lV_X4_339 C_X4_houseOf rfl dX4_tightNow_3 rfl (by decide) (Nat.le_of_ble_eq_true rfl) ?_
  refine tx_istore_n dX4_tightNow_6 (by decide) ?_
  refine tx_iload_n dX4_tightNow_7 rfl ?_
  refine tx_iconst (v := (-1)) dX4_tightNow_8 rfl ?_
  refine tx_icmp_ne (tgt := 16) dX4_tightNow_9 (by decide) (fun c2 => ?_) (fun c2 => ?_)
  · rw [if_neg c2] at hl
    refine tx_aload_n dX4_tightNow_16 rfl rfl ?_
    refine tx_iconst (v := 0) dX4_tightNow_17 rfl ?_
    refine tx_iload_n dX4_tightNow_18 rfl ?_
    refine tx_iload_n dX4_tightNow_19 rfl ?_
    obtain ⟨r3, er3, hl⟩ := xb hl
    refine tx_callV (T_tightOf er3) lV_X4_312 C_X4_tightOf rfl dX4_tightNow_20 rfl (by decide) (Nat.le_of_ble_eq_true rfl) ?_
    cases hl
    exact tx_iret dX4_tightNow_23 rfl rfl ⟨rfl, rfl⟩
  · rw [if_pos c2] at hl
    refine tx_iconst (v := 0) dX4_tightNow_12 rfl ?_
    refine tx_goto (tgt := 23) dX4_tightNow_13 (by decide) ?_
    cases hl
    exact tx_iret dX4_tightNow_23 rfl rfl ⟨rfl, rfl⟩
def f_tightest_J31 (n : Nat) (x1 : Int32) (x2 : Int32) (y0 : Int32) (y1 : Int32) (S : TS) : Option ((Int32 × Int32) ⊕ ((Int32))) := if y1 ≤ y0 then (some (x2 + 1)).bind fun w6 => some (.inl (x1, w6)) else (some (x2 + 1)).bind fun w7 => some (.inl (x2, w7))
def f_tightest_L4 (n : Nat) (x1 : Int32) (x2 : Int32) (S : TS) : Option ((Int32 × Int32) ⊕ ((Int32))) := if x2 ≥ (S.1 2) then some (.inr x1) else (f_tightNow n x2 S).bind fun r2 => if x1 = (-1) then f_tightest_J31 n x1 x2 0 r2 S else (f_tightNow n x1 S).bind fun r4 => f_tightest_J31 n x1 x2 r4 r2 S
abbrev K_tightest_L4 (l : Launch) (E : XEnv) (m : Nat) (ad : Nat → Nat) (h0 : XH) (R : Option Value → TS → Prop) (S : TS)  (o : (Int32)) : Prop := match o with
  | e => TX l E mX4_tightest 4 42 [(0, .ref m), (1, .int e)] [] m ad h0 S R
def f_tightest (n : Nat)  (S : TS) : Option (Int32) := (xloop (fun s => f_tightest_L4 n s.1 s.2 S) n ((-1), 0)).bind fun o8 => some o8
set_option maxHeartbeats 4000000 in
theorem f_tightest_J31_s {l : Launch} {E : XEnv} {m : Nat} {ad : Nat → Nat} {h0 : XH} {R : Option Value → TS → Prop} {n : Nat} {x1 : Int32} {x2 : Int32} {y0 : Int32} {y1 : Int32} {S : TS} {o : (Int32 × Int32) ⊕ ((Int32))} (hl : f_tightest_J31 n x1 x2 y0 y1 S = some o) (hK : (xk (fun s : Int32 × Int32 => TX l E mX4_tightest 4 4 [(0, .ref m), (1, .int s.1), (2, .int s.2)] [] m ad h0 S R) (fun r => K_tightest_L4 l E m ad h0 R S r) o)) : TX l E mX4_tightest 4 31 [(0, .ref m), (1, .int x1), (2, .int x2)] [.int y0, .int y1] m ad h0 S R := by
  unfold f_tightest_J31 at hl
  refine tx_icmp_le (tgt := 36) dX4_tightest_31 (by decide) (fun c5 => ?_) (fun c5 => ?_)
  · rw [if_pos c5] at hl
    obtain ⟨w6, ew6, hl⟩ := xb hl
    refine tx_iinc dX4_tightest_36 rfl (by decide) (Option.some.inj ew6) ?_
    refine tx_goto (tgt := 4) dX4_tightest_39 (by decide) ?_
    cases hl
    exact tx_lsK hK ⟨rfl, rfl, rfl, trivial⟩
  · rw [if_neg c5] at hl
    refine tx_iload_n dX4_tightest_34 rfl ?_
    refine tx_istore_n dX4_tightest_35 (by decide) ?_
    obtain ⟨w7, ew7, hl⟩ := xb hl
    refine tx_iinc dX4_tightest_36 rfl (by decide) (Option.some.inj ew7) ?_
    refine tx_goto (tgt := 4) dX4_tightest_39 (by decide) ?_
    cases hl
    exact tx_lsK hK ⟨rfl, rfl, rfl, trivial⟩
set_option maxHeartbeats 4000000 in
theorem f_tightest_L4_s {l : Launch} {E : XEnv} {m : Nat} {ad : Nat → Nat} {h0 : XH} {R : Option Value → TS → Prop} {n : Nat} {x1 : Int32} {x2 : Int32} {S : TS} {o : (Int32 × Int32) ⊕ ((Int32))} (hl : f_tightest_L4 n x1 x2 S = some o) (hK : (xk (fun s : Int32 × Int32 => TX l E mX4_tightest 4 4 [(0, .ref m), (1, .int s.1), (2, .int s.2)] [] m ad h0 S R) (fun r => K_tightest_L4 l E m ad h0 R S r) o)) : TX l E mX4_tightest 4 4 [(0, .ref m), (1, .int x1), (2, .int x2)] [] m ad h0 S R := by
  unfold f_tightest_L4 at hl
  refine tx_iload_n dX4_tightest_4 rfl ?_
  refine tx_aload_n dX4_tightest_5 rfl rfl ?_
  refine tx_getI gF_X4_278 dX4_tightest_6 (by decide) ?_
  refine tx_icmp_ge (tgt := 42) dX4_tightest_9 (by decide) (fun c1 => ?_) (fun c1 => ?_)
  · rw [if_pos c1] at hl
    cases hl
    exact tx_lsK hK ⟨rfl, rfl, trivial⟩
  · rw [if_neg c1] at hl
    refine tx_aload_n dX4_tightest_12 rfl rfl ?_
    refine tx_iload_n dX4_tightest_13 rfl ?_
    obtain ⟨r2, er2, hl⟩ := xb hl
    refine tx_callV (T_tightNow er2) lV_X4_342 C_X4_tightNow rfl dX4_tightest_14 rfl (by decide) (Nat.le_of_ble_eq_true rfl) ?_
    refine tx_iload_n dX4_tightest_17 rfl ?_
    refine tx_iconst (v := (-1)) dX4_tightest_18 rfl ?_
    refine tx_icmp_ne (tgt := 26) dX4_tightest_19 (by decide) (fun c3 => ?_) (fun c3 => ?_)
    · rw [if_neg c3] at hl
      refine tx_aload_n dX4_tightest_26 rfl rfl ?_
      refine tx_iload_n dX4_tightest_27 rfl ?_
      obtain ⟨r4, er4, hl⟩ := xb hl
      refine tx_callV (T_tightNow er4) lV_X4_342 C_X4_tightNow rfl dX4_tightest_28 rfl (by decide) (Nat.le_of_ble_eq_true rfl) ?_
      exact tx_lsK (f_tightest_J31_s hl hK) ⟨rfl, rfl, rfl, trivial⟩
    · rw [if_pos c3] at hl
      refine tx_iconst (v := 0) dX4_tightest_22 rfl ?_
      refine tx_goto (tgt := 31) dX4_tightest_23 (by decide) ?_
      exact tx_lsK (f_tightest_J31_s hl hK) ⟨rfl, rfl, rfl, trivial⟩
set_option maxHeartbeats 4000000 in
theorem f_tightest_L4_ok {l : Launch} {E : XEnv} {m : Nat} {ad : Nat → Nat} {h0 : XH} {R : Option Value → TS → Prop} {n : Nat}  {S : TS} {s : Int32 × Int32} {o : (Int32)} (hl : xloop (fun s => f_tightest_L4 n s.1 s.2 S) n s = some o) (hK : K_tightest_L4 l E m ad h0 R S o) : TX l E mX4_tightest 4 4 [(0, .ref m), (1, .int s.1), (2, .int s.2)] [] m ad h0 S R :=
  xloop_of (fun s : Int32 × Int32 => TX l E mX4_tightest 4 4 [(0, .ref m), (1, .int s.1), (2, .int s.2)] [] m ad h0 S R) (fun r => K_tightest_L4 l E m ad h0 R S r) (fun s o hl hk => f_tightest_L4_s (S := S) (o := o) hl hk) n s o hl hK
set_option maxHeartbeats 4000000 in
theorem T_tightest {l : Launch} {E : XEnv} {m : Nat} {ad : Nat → Nat} {n : Nat}  {S : TS} {r : Int32} (hl : f_tightest n  S = some r) : TM l E mX4_tightest 4 m ad [.ref m] S (some (.int r)) S := by
  unfold f_tightest at hl
  refine tm_of (by decide +kernel) rfl (Nat.le_of_ble_eq_true rfl) fun h0 => ?_
  refine tx_iconst (v := (-1)) dX4_tightest_0 rfl ?_
  refine tx_istore_n dX4_tightest_1 (by decide) ?_
  refine tx_iconst (v := 0) dX4_tightest_2 rfl ?_
  refine tx_istore_n dX4_tightest_3 (by decide) ?_
  obtain ⟨o8, eo8, hl⟩ := xb hl
  refine tx_lsK (f_tightest_L4_ok (S := S) (s := ((-1), 0)) eo8 ?_) ⟨rfl, rfl, rfl, trivial⟩
  refine tx_iload_n dX4_tightest_42 rfl ?_
  cases hl
  exact tx_iret dX4_tightest_43 rfl rfl ⟨rfl, rfl⟩
def f_leastOf (x1 : Int32) (x2 : Int32) (S : TS) : Option (Int32) := if x1 = (S.1 2) then some 0 else (trd S 47 (((256 : Int32) * x1) + x2)).bind fun v2 => some v2
set_option maxHeartbeats 4000000 in
theorem T_leastOf {l : Launch} {E : XEnv} {m : Nat} {ad : Nat → Nat} {x1 : Int32} {x2 : Int32} {S : TS} {r : Int32} (hl : f_leastOf x1 x2 S = some r) : TM l E mX4_leastOf 1 m ad [.ref m, .int x1, .int x2] S (some (.int r)) S := by
  unfold f_leastOf at hl
  refine tm_of (by decide +kernel) rfl (Nat.le_of_ble_eq_true rfl) fun h0 => ?_
  refine tx_iload_n dX4_leastOf_0 rfl ?_
  refine tx_aload_n dX4_leastOf_1 rfl rfl ?_
  refine tx_getI gF_X4_278 dX4_leastOf_2 (by decide) ?_
  refine tx_icmp_ne (tgt := 12) dX4_leastOf_5 (by decide) (fun c1 => ?_) (fun c1 => ?_)
  · rw [if_neg c1] at hl
    refine tx_aload_n dX4_leastOf_12 rfl rfl ?_
    refine tx_getA gF_X4_81 dX4_leastOf_13 (by decide) ?_
    refine tx_sipush (v := 256) dX4_leastOf_16 (by decide) ?_
    refine tx_iload_n dX4_leastOf_19 rfl ?_
    refine tx_imul dX4_leastOf_20 ?_
    refine tx_iload_n dX4_leastOf_21 rfl ?_
    refine tx_iadd dX4_leastOf_22 ?_
    obtain ⟨v2, ev2, hl⟩ := xb hl
    refine tx_iald (by decide) dX4_leastOf_23 ev2 ?_
    cases hl
    exact tx_iret dX4_leastOf_24 rfl rfl ⟨rfl, rfl⟩
  · rw [if_pos c1] at hl
    refine tx_iconst (v := 0) dX4_leastOf_8 rfl ?_
    refine tx_goto (tgt := 24) dX4_leastOf_9 (by decide) ?_
    cases hl
    exact tx_iret dX4_leastOf_24 rfl rfl ⟨rfl, rfl⟩
def f_isBurst (x1 : Int32) (x2 : Int32) (S : TS) : Option (Int32) := (trd S 41 (x1 + 1)).bind fun v1 => if ((v1 >>> ((x2 : Int32) &&& 31)) &&& 1) = 1 then some 1 else some 0
set_option maxHeartbeats 4000000 in
theorem T_isBurst {l : Launch} {E : XEnv} {m : Nat} {ad : Nat → Nat} {x1 : Int32} {x2 : Int32} {S : TS} {r : Int32} (hl : f_isBurst x1 x2 S = some r) : TM l E mX4_isBurst 1 m ad [.ref m, .int x1, .int x2] S (some (.int r)) S := by
  unfold f_isBurst at hl
  refine tm_of (by decide +kernel) rfl (Nat.le_of_ble_eq_true rfl) fun h0 => ?_
  refine tx_aload_n dX4_isBurst_0 rfl rfl ?_
  refine tx_getA gF_X4_66 dX4_isBurst_1 (by decide) ?_
  refine tx_iload_n dX4_isBurst_4 rfl ?_
  refine tx_iconst (v := 1) dX4_isBurst_5 rfl ?_
  refine tx_iadd dX4_isBurst_6 ?_
  obtain ⟨v1, ev1, hl⟩ := xb hl
  refine tx_iald (by decide) dX4_isBurst_7 ev1 ?_
  refine tx_iload_n dX4_isBurst_8 rfl ?_
  refine tx_ishr dX4_isBurst_9 ?_
  refine tx_iconst (v := 1) dX4_isBurst_10 rfl ?_
  refine tx_iand dX4_isBurst_11 ?_
  refine tx_iconst (v := 1) dX4_isBurst_12 rfl ?_
  refine tx_icmp_ne (tgt := 20) dX4_isBurst_13 (by decide) (fun c2 => ?_) (fun c2 => ?_)
  · rw [if_neg c2] at hl
    refine tx_iconst (v := 0) dX4_isBurst_20 rfl ?_
    cases hl
    exact tx_iret dX4_isBurst_21 rfl rfl ⟨rfl, rfl⟩
  · rw [if_pos c2] at hl
    refine tx_iconst (v := 1) dX4_isBurst_16 rfl ?_
    refine tx_goto (tgt := 21) dX4_isBurst_17 (by decide) ?_
    cases hl
    exact tx_iret dX4_isBurst_21 rfl rfl ⟨rfl, rfl⟩
def f_works (x0 : Int32) (x1 : Int32) (x2 : Int32) : Option (Int32) := if x0.toInt < 4 ∨ 10 < x0.toInt then if x2 = 0 then some 0 else if x2 = 0 then none else some (x1 / x2) else if x0 = 4 then if x1 = 0 then some 0 else if x2 = 0 then some 0 else some 1 else if x0 = 5 then if x1 = 0 then if x2 = 0 then some 0 else some 1 else some 1 else if x0 = 6 then if x1 ≥ x2 then some 0 else some 1 else if x0 = 7 then if x1 = x2 then some 1 else some 0 else if x0 = 8 then some (x1 + x2) else if x0 = 9 then some (x1 - x2) else if x0 = 10 then some (x1 * x2) else none
set_option maxHeartbeats 4000000 in
theorem T_works {l : Launch} {E : XEnv} {m : Nat} {ad : Nat → Nat} {x0 : Int32} {x1 : Int32} {x2 : Int32} {S : TS} {r : Int32} (hl : f_works x0 x1 x2 = some r) : TM l E mX4_works 1 m ad [.int x0, .int x1, .int x2] S (some (.int r)) S := by
  unfold f_works at hl
  refine tm_of (by decide +kernel) rfl (Nat.le_of_ble_eq_true rfl) fun h0 => ?_
  refine tx_iload_n dX4_works_0 rfl ?_
  by_cases c3 : x0.toInt < 4 ∨ 10 < x0.toInt
  · rw [if_pos c3] at hl
    refine tx_tableOut (tgt := 106) dX4_works_1 c3 (by decide) ?_
    refine tx_iload_n dX4_works_106 rfl ?_
    refine tx_if_ne (tgt := 114) dX4_works_107 (by decide) (fun c1 => ?_) (fun c1 => ?_)
    · rw [if_neg c1] at hl
      refine tx_iload_n dX4_works_114 rfl ?_
      refine tx_iload_n dX4_works_115 rfl ?_
      by_cases z2 : x2 = 0
      · rw [if_pos z2] at hl; cases hl
      rw [if_neg z2] at hl
      refine tx_idiv dX4_works_116 z2 ?_
      cases hl
      exact tx_iret dX4_works_117 rfl rfl ⟨rfl, rfl⟩
    · rw [if_pos c1] at hl
      refine tx_iconst (v := 0) dX4_works_110 rfl ?_
      refine tx_goto (tgt := 117) dX4_works_111 (by decide) ?_
      cases hl
      exact tx_iret dX4_works_117 rfl rfl ⟨rfl, rfl⟩
  rw [if_neg c3] at hl
  by_cases k4 : x0 = 4
  · rw [if_pos k4] at hl
    refine tx_tableIn (off := 43) (tgt := 44) dX4_works_1 (by rw [k4]; decide) (by rw [k4]; decide) (by rw [k4]; rfl) (by decide) ?_
    refine tx_iload_n dX4_works_44 rfl ?_
    refine tx_if_eq (tgt := 56) dX4_works_45 (by decide) (fun c5 => ?_) (fun c5 => ?_)
    · rw [if_pos c5] at hl
      refine tx_iconst (v := 0) dX4_works_56 rfl ?_
      cases hl
      exact tx_iret dX4_works_57 rfl rfl ⟨rfl, rfl⟩
    · rw [if_neg c5] at hl
      refine tx_iload_n dX4_works_48 rfl ?_
      refine tx_if_eq (tgt := 56) dX4_works_49 (by decide) (fun c6 => ?_) (fun c6 => ?_)
      · rw [if_pos c6] at hl
        refine tx_iconst (v := 0) dX4_works_56 rfl ?_
        cases hl
        exact tx_iret dX4_works_57 rfl rfl ⟨rfl, rfl⟩
      · rw [if_neg c6] at hl
        refine tx_iconst (v := 1) dX4_works_52 rfl ?_
        refine tx_goto (tgt := 57) dX4_works_53 (by decide) ?_
        cases hl
        exact tx_iret dX4_works_57 rfl rfl ⟨rfl, rfl⟩
  rw [if_neg k4] at hl
  by_cases k7 : x0 = 5
  · rw [if_pos k7] at hl
    refine tx_tableIn (off := 57) (tgt := 58) dX4_works_1 (by rw [k7]; decide) (by rw [k7]; decide) (by rw [k7]; rfl) (by decide) ?_
    refine tx_iload_n dX4_works_58 rfl ?_
    refine tx_if_ne (tgt := 66) dX4_works_59 (by decide) (fun c8 => ?_) (fun c8 => ?_)
    · rw [if_neg c8] at hl
      refine tx_iconst (v := 1) dX4_works_66 rfl ?_
      refine tx_goto (tgt := 71) dX4_works_67 (by decide) ?_
      cases hl
      exact tx_iret dX4_works_71 rfl rfl ⟨rfl, rfl⟩
    · rw [if_pos c8] at hl
      refine tx_iload_n dX4_works_62 rfl ?_
      refine tx_if_eq (tgt := 70) dX4_works_63 (by decide) (fun c9 => ?_) (fun c9 => ?_)
      · rw [if_pos c9] at hl
        refine tx_iconst (v := 0) dX4_works_70 rfl ?_
        cases hl
        exact tx_iret dX4_works_71 rfl rfl ⟨rfl, rfl⟩
      · rw [if_neg c9] at hl
        refine tx_iconst (v := 1) dX4_works_66 rfl ?_
        refine tx_goto (tgt := 71) dX4_works_67 (by decide) ?_
        cases hl
        exact tx_iret dX4_works_71 rfl rfl ⟨rfl, rfl⟩
  rw [if_neg k7] at hl
  by_cases k10 : x0 = 6
  · rw [if_pos k10] at hl
    refine tx_tableIn (off := 71) (tgt := 72) dX4_works_1 (by rw [k10]; decide) (by rw [k10]; decide) (by rw [k10]; rfl) (by decide) ?_
    refine tx_iload_n dX4_works_72 rfl ?_
    refine tx_iload_n dX4_works_73 rfl ?_
    refine tx_icmp_ge (tgt := 81) dX4_works_74 (by decide) (fun c11 => ?_) (fun c11 => ?_)
    · rw [if_pos c11] at hl
      refine tx_iconst (v := 0) dX4_works_81 rfl ?_
      cases hl
      exact tx_iret dX4_works_82 rfl rfl ⟨rfl, rfl⟩
    · rw [if_neg c11] at hl
      refine tx_iconst (v := 1) dX4_works_77 rfl ?_
      refine tx_goto (tgt := 82) dX4_works_78 (by decide) ?_
      cases hl
      exact tx_iret dX4_works_82 rfl rfl ⟨rfl, rfl⟩
  rw [if_neg k10] at hl
  by_cases k12 : x0 = 7
  · rw [if_pos k12] at hl
    refine tx_tableIn (off := 82) (tgt := 83) dX4_works_1 (by rw [k12]; decide) (by rw [k12]; decide) (by rw [k12]; rfl) (by decide) ?_
    refine tx_iload_n dX4_works_83 rfl ?_
    refine tx_iload_n dX4_works_84 rfl ?_
    refine tx_icmp_ne (tgt := 92) dX4_works_85 (by decide) (fun c13 => ?_) (fun c13 => ?_)
    · rw [if_neg c13] at hl
      refine tx_iconst (v := 0) dX4_works_92 rfl ?_
      cases hl
      exact tx_iret dX4_works_93 rfl rfl ⟨rfl, rfl⟩
    · rw [if_pos c13] at hl
      refine tx_iconst (v := 1) dX4_works_88 rfl ?_
      refine tx_goto (tgt := 93) dX4_works_89 (by decide) ?_
      cases hl
      exact tx_iret dX4_works_93 rfl rfl ⟨rfl, rfl⟩
  rw [if_neg k12] at hl
  by_cases k14 : x0 = 8
  · rw [if_pos k14] at hl
    refine tx_tableIn (off := 93) (tgt := 94) dX4_works_1 (by rw [k14]; decide) (by rw [k14]; decide) (by rw [k14]; rfl) (by decide) ?_
    refine tx_iload_n dX4_works_94 rfl ?_
    refine tx_iload_n dX4_works_95 rfl ?_
    refine tx_iadd dX4_works_96 ?_
    cases hl
    exact tx_iret dX4_works_97 rfl rfl ⟨rfl, rfl⟩
  rw [if_neg k14] at hl
  by_cases k15 : x0 = 9
  · rw [if_pos k15] at hl
    refine tx_tableIn (off := 97) (tgt := 98) dX4_works_1 (by rw [k15]; decide) (by rw [k15]; decide) (by rw [k15]; rfl) (by decide) ?_
    refine tx_iload_n dX4_works_98 rfl ?_
    refine tx_iload_n dX4_works_99 rfl ?_
    refine tx_isub dX4_works_100 ?_
    cases hl
    exact tx_iret dX4_works_101 rfl rfl ⟨rfl, rfl⟩
  rw [if_neg k15] at hl
  by_cases k16 : x0 = 10
  · rw [if_pos k16] at hl
    refine tx_tableIn (off := 101) (tgt := 102) dX4_works_1 (by rw [k16]; decide) (by rw [k16]; decide) (by rw [k16]; rfl) (by decide) ?_
    refine tx_iload_n dX4_works_102 rfl ?_
    refine tx_iload_n dX4_works_103 rfl ?_
    refine tx_imul dX4_works_104 ?_
    cases hl
    exact tx_iret dX4_works_105 rfl rfl ⟨rfl, rfl⟩
  rw [if_neg k16] at hl
  cases hl
def f_reckons_J36 (n : Nat) (x2 : Int32) (x3 : Int32) (x4 : Int32) (S : TS) : Option ((Int32 × Int32 × TS) ⊕ ((TS))) := if x4 = 1 then (trd S 10 x3).bind fun v12 => (twr S 45 x2 v12).bind fun S13 => (some (x3 + 1)).bind fun w14 => (some (x2 + 1)).bind fun w15 => some (.inl (w15, w14, S13)) else (trd S 10 x3).bind fun v7 => (trd S 44 v7).bind fun v8 => (twr S 45 x2 v8).bind fun S9 => (some (x3 + 1)).bind fun w10 => (some (x2 + 1)).bind fun w11 => some (.inl (w11, w10, S9))
def f_reckons_L4 (n : Nat) (x2 : Int32) (x3 : Int32) (S : TS) : Option ((Int32 × Int32 × TS) ⊕ ((TS))) := (trd S 10 x3).bind fun v1 => if v1 = 0 then some (.inr S) else (trd S 10 x3).bind fun v3 => (some (x3 + 1)).bind fun w4 => if v3 = 1 then f_reckons_J36 n x2 w4 v3 S else if v3 = 2 then f_reckons_J36 n x2 w4 v3 S else if v3 = 3 then (trd S 45 (x2 - 1)).bind fun v23 => if v23 = 0 then (twr S 45 (x2 - 1) 1).bind fun S26 => some (.inl (x2, w4, S26)) else (twr S 45 (x2 - 1) 0).bind fun S25 => some (.inl (x2, w4, S25)) else (some (x2 + (-1))).bind fun w18 => (trd S 45 (w18 - 1)).bind fun v19 => (trd S 45 w18).bind fun v20 => (f_works v3 v19 v20).bind fun r21 => (twr S 45 (w18 - 1) r21).bind fun S22 => some (.inl (w18, w4, S22))
abbrev K_reckons_L4 (l : Launch) (E : XEnv) (m : Nat) (ad : Nat → Nat) (h0 : XH) (R : Option Value → TS → Prop) (S : TS)  (o : (TS)) : Prop := match o with
  | e => TX l E mX4_reckons 2 143 [(0, .ref m)] [] m ad h0 e R
def f_reckons (n : Nat) (x1 : Int32) (S : TS) : Option (Int32 × TS) := (xloop (fun s => f_reckons_L4 n s.1 s.2.1 s.2.2) n (0, x1, S)).bind fun o27 => (trd o27 45 0).bind fun v28 => some (v28, o27)
set_option maxHeartbeats 4000000 in
theorem f_reckons_J36_s {l : Launch} {E : XEnv} {m : Nat} {ad : Nat → Nat} {h0 : XH} {R : Option Value → TS → Prop} {n : Nat} {x2 : Int32} {x3 : Int32} {x4 : Int32} {S : TS} {o : (Int32 × Int32 × TS) ⊕ ((TS))} (hl : f_reckons_J36 n x2 x3 x4 S = some o) (hK : (xk (fun s : Int32 × Int32 × TS => TX l E mX4_reckons 2 4 [(0, .ref m), (2, .int s.1), (3, .int s.2.1)] [] m ad h0 s.2.2 R) (fun r => K_reckons_L4 l E m ad h0 R S r) o)) : TX l E mX4_reckons 2 36 [(0, .ref m), (2, .int x2), (3, .int x3), (4, .int x4)] [] m ad h0 S R := by
  unfold f_reckons_J36 at hl
  refine tx_aload_n dX4_reckons_36 rfl rfl ?_
  refine tx_getA gF_X4_75 dX4_reckons_37 (by decide) ?_
  refine tx_iload_n dX4_reckons_40 rfl ?_
  refine tx_iload dX4_reckons_41 rfl ?_
  refine tx_iconst (v := 1) dX4_reckons_43 rfl ?_
  refine tx_icmp_ne (tgt := 56) dX4_reckons_44 (by decide) (fun c6 => ?_) (fun c6 => ?_)
  · rw [if_neg c6] at hl
    refine tx_aload_n dX4_reckons_56 rfl rfl ?_
    refine tx_getA gF_X4_72 dX4_reckons_57 (by decide) ?_
    refine tx_aload_n dX4_reckons_60 rfl rfl ?_
    refine tx_getA gF_X4_29 dX4_reckons_61 (by decide) ?_
    refine tx_iload_n dX4_reckons_64 rfl ?_
    obtain ⟨v7, ev7, hl⟩ := xb hl
    refine tx_iald (by decide) dX4_reckons_65 ev7 ?_
    obtain ⟨v8, ev8, hl⟩ := xb hl
    refine tx_iald (by decide) dX4_reckons_66 ev8 ?_
    obtain ⟨S9, eS9, hl⟩ := xb hl
    refine tx_iast (by decide) dX4_reckons_67 eS9 ?_
    obtain ⟨w10, ew10, hl⟩ := xb hl
    refine tx_iinc dX4_reckons_68 rfl (by decide) (Option.some.inj ew10) ?_
    obtain ⟨w11, ew11, hl⟩ := xb hl
    refine tx_iinc dX4_reckons_71 rfl (by decide) (Option.some.inj ew11) ?_
    refine tx_goto (tgt := 140) dX4_reckons_74 (by decide) ?_
    refine tx_goto (tgt := 4) dX4_reckons_140 (by decide) ?_
    cases hl
    exact tx_lsK hK ⟨rfl, rfl, rfl, trivial⟩
  · rw [if_pos c6] at hl
    refine tx_aload_n dX4_reckons_47 rfl rfl ?_
    refine tx_getA gF_X4_29 dX4_reckons_48 (by decide) ?_
    refine tx_iload_n dX4_reckons_51 rfl ?_
    obtain ⟨v12, ev12, hl⟩ := xb hl
    refine tx_iald (by decide) dX4_reckons_52 ev12 ?_
    refine tx_goto (tgt := 67) dX4_reckons_53 (by decide) ?_
    obtain ⟨S13, eS13, hl⟩ := xb hl
    refine tx_iast (by decide) dX4_reckons_67 eS13 ?_
    obtain ⟨w14, ew14, hl⟩ := xb hl
    refine tx_iinc dX4_reckons_68 rfl (by decide) (Option.some.inj ew14) ?_
    obtain ⟨w15, ew15, hl⟩ := xb hl
    refine tx_iinc dX4_reckons_71 rfl (by decide) (Option.some.inj ew15) ?_
    refine tx_goto (tgt := 140) dX4_reckons_74 (by decide) ?_
    refine tx_goto (tgt := 4) dX4_reckons_140 (by decide) ?_
    cases hl
    exact tx_lsK hK ⟨rfl, rfl, rfl, trivial⟩
set_option maxHeartbeats 4000000 in
theorem f_reckons_L4_s {l : Launch} {E : XEnv} {m : Nat} {ad : Nat → Nat} {h0 : XH} {R : Option Value → TS → Prop} {n : Nat} {x2 : Int32} {x3 : Int32} {S : TS} {o : (Int32 × Int32 × TS) ⊕ ((TS))} (hl : f_reckons_L4 n x2 x3 S = some o) (hK : (xk (fun s : Int32 × Int32 × TS => TX l E mX4_reckons 2 4 [(0, .ref m), (2, .int s.1), (3, .int s.2.1)] [] m ad h0 s.2.2 R) (fun r => K_reckons_L4 l E m ad h0 R S r) o)) : TX l E mX4_reckons 2 4 [(0, .ref m), (2, .int x2), (3, .int x3)] [] m ad h0 S R := by
  unfold f_reckons_L4 at hl
  refine tx_aload_n dX4_reckons_4 rfl rfl ?_
  refine tx_getA gF_X4_29 dX4_reckons_5 (by decide) ?_
  refine tx_iload_n dX4_reckons_8 rfl ?_
  obtain ⟨v1, ev1, hl⟩ := xb hl
  refine tx_iald (by decide) dX4_reckons_9 ev1 ?_
  refine tx_if_eq (tgt := 143) dX4_reckons_10 (by decide) (fun c2 => ?_) (fun c2 => ?_)
  · rw [if_pos c2] at hl
    cases hl
    exact tx_lsK hK ⟨rfl, trivial⟩
  · rw [if_neg c2] at hl
    refine tx_aload_n dX4_reckons_13 rfl rfl ?_
    refine tx_getA gF_X4_29 dX4_reckons_14 (by decide) ?_
    refine tx_iload_n dX4_reckons_17 rfl ?_
    obtain ⟨v3, ev3, hl⟩ := xb hl
    refine tx_iald (by decide) dX4_reckons_18 ev3 ?_
    refine tx_istore dX4_reckons_19 (by decide) ?_
    obtain ⟨w4, ew4, hl⟩ := xb hl
    refine tx_iinc dX4_reckons_21 rfl (by decide) (Option.some.inj ew4) ?_
    refine tx_iload dX4_reckons_24 rfl ?_
    refine tx_iconst (v := 1) dX4_reckons_26 rfl ?_
    refine tx_icmp_eq (tgt := 36) dX4_reckons_27 (by decide) (fun c5 => ?_) (fun c5 => ?_)
    · rw [if_pos c5] at hl
      exact tx_lsK (f_reckons_J36_s hl hK) ⟨rfl, rfl, rfl, rfl, trivial⟩
    · rw [if_neg c5] at hl
      refine tx_iload dX4_reckons_30 rfl ?_
      refine tx_iconst (v := 2) dX4_reckons_32 rfl ?_
      refine tx_icmp_ne (tgt := 77) dX4_reckons_33 (by decide) (fun c16 => ?_) (fun c16 => ?_)
      · rw [if_neg c16] at hl
        refine tx_iload dX4_reckons_77 rfl ?_
        refine tx_iconst (v := 3) dX4_reckons_79 rfl ?_
        refine tx_icmp_ne (tgt := 110) dX4_reckons_80 (by decide) (fun c17 => ?_) (fun c17 => ?_)
        · rw [if_neg c17] at hl
          obtain ⟨w18, ew18, hl⟩ := xb hl
          refine tx_iinc dX4_reckons_110 rfl (by decide) (Option.some.inj ew18) ?_
          refine tx_aload_n dX4_reckons_113 rfl rfl ?_
          refine tx_getA gF_X4_75 dX4_reckons_114 (by decide) ?_
          refine tx_iload_n dX4_reckons_117 rfl ?_
          refine tx_iconst (v := 1) dX4_reckons_118 rfl ?_
          refine tx_isub dX4_reckons_119 ?_
          refine tx_iload dX4_reckons_120 rfl ?_
          refine tx_aload_n dX4_reckons_122 rfl rfl ?_
          refine tx_getA gF_X4_75 dX4_reckons_123 (by decide) ?_
          refine tx_iload_n dX4_reckons_126 rfl ?_
          refine tx_iconst (v := 1) dX4_reckons_127 rfl ?_
          refine tx_isub dX4_reckons_128 ?_
          obtain ⟨v19, ev19, hl⟩ := xb hl
          refine tx_iald (by decide) dX4_reckons_129 ev19 ?_
          refine tx_aload_n dX4_reckons_130 rfl rfl ?_
          refine tx_getA gF_X4_75 dX4_reckons_131 (by decide) ?_
          refine tx_iload_n dX4_reckons_134 rfl ?_
          obtain ⟨v20, ev20, hl⟩ := xb hl
          refine tx_iald (by decide) dX4_reckons_135 ev20 ?_
          obtain ⟨r21, er21, hl⟩ := xb hl
          refine tx_callS (T_works er21) lS_X4_298 C_X4_works dX4_reckons_136 rfl (by decide) (Nat.le_of_ble_eq_true rfl) ?_
          obtain ⟨S22, eS22, hl⟩ := xb hl
          refine tx_iast (by decide) dX4_reckons_139 eS22 ?_
          refine tx_goto (tgt := 4) dX4_reckons_140 (by decide) ?_
          cases hl
          exact tx_lsK hK ⟨rfl, rfl, rfl, trivial⟩
        · rw [if_pos c17] at hl
          refine tx_aload_n dX4_reckons_83 rfl rfl ?_
          refine tx_getA gF_X4_75 dX4_reckons_84 (by decide) ?_
          refine tx_iload_n dX4_reckons_87 rfl ?_
          refine tx_iconst (v := 1) dX4_reckons_88 rfl ?_
          refine tx_isub dX4_reckons_89 ?_
          refine tx_aload_n dX4_reckons_90 rfl rfl ?_
          refine tx_getA gF_X4_75 dX4_reckons_91 (by decide) ?_
          refine tx_iload_n dX4_reckons_94 rfl ?_
          refine tx_iconst (v := 1) dX4_reckons_95 rfl ?_
          refine tx_isub dX4_reckons_96 ?_
          obtain ⟨v23, ev23, hl⟩ := xb hl
          refine tx_iald (by decide) dX4_reckons_97 ev23 ?_
          refine tx_if_ne (tgt := 105) dX4_reckons_98 (by decide) (fun c24 => ?_) (fun c24 => ?_)
          · rw [if_neg c24] at hl
            refine tx_iconst (v := 0) dX4_reckons_105 rfl ?_
            obtain ⟨S25, eS25, hl⟩ := xb hl
            refine tx_iast (by decide) dX4_reckons_106 eS25 ?_
            refine tx_goto (tgt := 140) dX4_reckons_107 (by decide) ?_
            refine tx_goto (tgt := 4) dX4_reckons_140 (by decide) ?_
            cases hl
            exact tx_lsK hK ⟨rfl, rfl, rfl, trivial⟩
          · rw [if_pos c24] at hl
            refine tx_iconst (v := 1) dX4_reckons_101 rfl ?_
            refine tx_goto (tgt := 106) dX4_reckons_102 (by decide) ?_
            obtain ⟨S26, eS26, hl⟩ := xb hl
            refine tx_iast (by decide) dX4_reckons_106 eS26 ?_
            refine tx_goto (tgt := 140) dX4_reckons_107 (by decide) ?_
            refine tx_goto (tgt := 4) dX4_reckons_140 (by decide) ?_
            cases hl
            exact tx_lsK hK ⟨rfl, rfl, rfl, trivial⟩
      · rw [if_pos c16] at hl
        exact tx_lsK (f_reckons_J36_s hl hK) ⟨rfl, rfl, rfl, rfl, trivial⟩
set_option maxHeartbeats 4000000 in
theorem f_reckons_L4_ok {l : Launch} {E : XEnv} {m : Nat} {ad : Nat → Nat} {h0 : XH} {R : Option Value → TS → Prop} {n : Nat}  {S : TS} {s : Int32 × Int32 × TS} {o : (TS)} (hl : xloop (fun s => f_reckons_L4 n s.1 s.2.1 s.2.2) n s = some o) (hK : K_reckons_L4 l E m ad h0 R S o) : TX l E mX4_reckons 2 4 [(0, .ref m), (2, .int s.1), (3, .int s.2.1)] [] m ad h0 s.2.2 R :=
  xloop_of (fun s : Int32 × Int32 × TS => TX l E mX4_reckons 2 4 [(0, .ref m), (2, .int s.1), (3, .int s.2.1)] [] m ad h0 s.2.2 R) (fun r => K_reckons_L4 l E m ad h0 R S r) (fun s o hl hk => f_reckons_L4_s (S := s.2.2) (o := o) hl hk) n s o hl hK
set_option maxHeartbeats 4000000 in
theorem T_reckons {l : Launch} {E : XEnv} {m : Nat} {ad : Nat → Nat} {n : Nat} {x1 : Int32} {S : TS} {r : Int32 × TS} (hl : f_reckons n x1 S = some r) : TM l E mX4_reckons 2 m ad [.ref m, .int x1] S (some (.int r.1)) r.2 := by
  unfold f_reckons at hl
  refine tm_of (by decide +kernel) rfl (Nat.le_of_ble_eq_true rfl) fun h0 => ?_
  refine tx_iconst (v := 0) dX4_reckons_0 rfl ?_
  refine tx_istore_n dX4_reckons_1 (by decide) ?_
  refine tx_iload_n dX4_reckons_2 rfl ?_
  refine tx_istore_n dX4_reckons_3 (by decide) ?_
  obtain ⟨o27, eo27, hl⟩ := xb hl
  refine tx_lsK (f_reckons_L4_ok (S := S) (s := (0, x1, S)) eo27 ?_) ⟨rfl, rfl, rfl, trivial⟩
  refine tx_aload_n dX4_reckons_143 rfl rfl ?_
  refine tx_getA gF_X4_75 dX4_reckons_144 (by decide) ?_
  refine tx_iconst (v := 0) dX4_reckons_147 rfl ?_
  obtain ⟨v28, ev28, hl⟩ := xb hl
  refine tx_iald (by decide) dX4_reckons_148 ev28 ?_
  cases hl
  exact tx_iret dX4_reckons_149 rfl rfl ⟨rfl, rfl⟩
def f_asks (n : Nat) (x1 : Int32) (x2 : Int32) (x3 : Int32) (x4 : Int32) (S : TS) : Option (Int32 × TS) := (trd S 41 ((x2 + 27) + x3)).bind fun v1 => (twr S 44 0 v1).bind fun S2 => (trd S2 41 ((x2 + 3) + x4)).bind fun v3 => (twr S2 44 1 v3).bind fun S4 => (trd S4 6 x4).bind fun v5 => (twr S4 44 2 v5).bind fun S6 => (trd S6 41 ((x2 + 11) + x4)).bind fun v7 => (twr S6 44 3 v7).bind fun S8 => (f_dampIn x2 S8).bind fun r9 => (twr S8 44 4 r9).bind fun S10 => (trd S10 41 (x2 + 0)).bind fun v11 => (twr S10 44 5 v11).bind fun S12 => (f_tightOf x2 x3 x4 S12).bind fun r13 => (twr S12 44 6 r13).bind fun S14 => (f_reckons n x1 S14).bind fun r15 => some (r15.1, r15.2)
set_option maxHeartbeats 4000000 in
theorem T_asks {l : Launch} {E : XEnv} {m : Nat} {ad : Nat → Nat} {n : Nat} {x1 : Int32} {x2 : Int32} {x3 : Int32} {x4 : Int32} {S : TS} {r : Int32 × TS} (hl : f_asks n x1 x2 x3 x4 S = some r) : TM l E mX4_asks 3 m ad [.ref m, .int x1, .int x2, .int x3, .int x4] S (some (.int r.1)) r.2 := by
  unfold f_asks at hl
  refine tm_of (by decide +kernel) rfl (Nat.le_of_ble_eq_true rfl) fun h0 => ?_
  refine tx_aload_n dX4_asks_0 rfl rfl ?_
  refine tx_getA gF_X4_72 dX4_asks_1 (by decide) ?_
  refine tx_iconst (v := 0) dX4_asks_4 rfl ?_
  refine tx_aload_n dX4_asks_5 rfl rfl ?_
  refine tx_getA gF_X4_66 dX4_asks_6 (by decide) ?_
  refine tx_iload_n dX4_asks_9 rfl ?_
  refine tx_bipush (v := 27) dX4_asks_10 (by decide) ?_
  refine tx_iadd dX4_asks_12 ?_
  refine tx_iload_n dX4_asks_13 rfl ?_
  refine tx_iadd dX4_asks_14 ?_
  obtain ⟨v1, ev1, hl⟩ := xb hl
  refine tx_iald (by decide) dX4_asks_15 ev1 ?_
  obtain ⟨S2, eS2, hl⟩ := xb hl
  refine tx_iast (by decide) dX4_asks_16 eS2 ?_
  refine tx_aload_n dX4_asks_17 rfl rfl ?_
  refine tx_getA gF_X4_72 dX4_asks_18 (by decide) ?_
  refine tx_iconst (v := 1) dX4_asks_21 rfl ?_
  refine tx_aload_n dX4_asks_22 rfl rfl ?_
  refine tx_getA gF_X4_66 dX4_asks_23 (by decide) ?_
  refine tx_iload_n dX4_asks_26 rfl ?_
  refine tx_iconst (v := 3) dX4_asks_27 rfl ?_
  refine tx_iadd dX4_asks_28 ?_
  refine tx_iload dX4_asks_29 rfl ?_
  refine tx_iadd dX4_asks_31 ?_
  obtain ⟨v3, ev3, hl⟩ := xb hl
  refine tx_iald (by decide) dX4_asks_32 ev3 ?_
  obtain ⟨S4, eS4, hl⟩ := xb hl
  refine tx_iast (by decide) dX4_asks_33 eS4 ?_
  refine tx_aload_n dX4_asks_34 rfl rfl ?_
  refine tx_getA gF_X4_72 dX4_asks_35 (by decide) ?_
  refine tx_iconst (v := 2) dX4_asks_38 rfl ?_
  refine tx_aload_n dX4_asks_39 rfl rfl ?_
  refine tx_getA gF_X4_16 dX4_asks_40 (by decide) ?_
  refine tx_iload dX4_asks_43 rfl ?_
  obtain ⟨v5, ev5, hl⟩ := xb hl
  refine tx_iald (by decide) dX4_asks_45 ev5 ?_
  obtain ⟨S6, eS6, hl⟩ := xb hl
  refine tx_iast (by decide) dX4_asks_46 eS6 ?_
  refine tx_aload_n dX4_asks_47 rfl rfl ?_
  refine tx_getA gF_X4_72 dX4_asks_48 (by decide) ?_
  refine tx_iconst (v := 3) dX4_asks_51 rfl ?_
  refine tx_aload_n dX4_asks_52 rfl rfl ?_
  refine tx_getA gF_X4_66 dX4_asks_53 (by decide) ?_
  refine tx_iload_n dX4_asks_56 rfl ?_
  refine tx_bipush (v := 11) dX4_asks_57 (by decide) ?_
  refine tx_iadd dX4_asks_59 ?_
  refine tx_iload dX4_asks_60 rfl ?_
  refine tx_iadd dX4_asks_62 ?_
  obtain ⟨v7, ev7, hl⟩ := xb hl
  refine tx_iald (by decide) dX4_asks_63 ev7 ?_
  obtain ⟨S8, eS8, hl⟩ := xb hl
  refine tx_iast (by decide) dX4_asks_64 eS8 ?_
  refine tx_aload_n dX4_asks_65 rfl rfl ?_
  refine tx_getA gF_X4_72 dX4_asks_66 (by decide) ?_
  refine tx_iconst (v := 4) dX4_asks_69 rfl ?_
  refine tx_aload_n dX4_asks_70 rfl rfl ?_
  refine tx_iload_n dX4_asks_71 rfl ?_
  obtain ⟨r9, er9, hl⟩ := xb hl
  refine tx_callV (T_dampIn er9) lV_X4_309 C_X4_dampIn rfl dX4_asks_72 rfl (by decide) (Nat.le_of_ble_eq_true rfl) ?_
  obtain ⟨S10, eS10, hl⟩ := xb hl
  refine tx_iast (by decide) dX4_asks_75 eS10 ?_
  refine tx_aload_n dX4_asks_76 rfl rfl ?_
  refine tx_getA gF_X4_72 dX4_asks_77 (by decide) ?_
  refine tx_iconst (v := 5) dX4_asks_80 rfl ?_
  refine tx_aload_n dX4_asks_81 rfl rfl ?_
  refine tx_getA gF_X4_66 dX4_asks_82 (by decide) ?_
  refine tx_iload_n dX4_asks_85 rfl ?_
  refine tx_iconst (v := 0) dX4_asks_86 rfl ?_
  refine tx_iadd dX4_asks_87 ?_
  obtain ⟨v11, ev11, hl⟩ := xb hl
  refine tx_iald (by decide) dX4_asks_88 ev11 ?_
  obtain ⟨S12, eS12, hl⟩ := xb hl
  refine tx_iast (by decide) dX4_asks_89 eS12 ?_
  refine tx_aload_n dX4_asks_90 rfl rfl ?_
  refine tx_getA gF_X4_72 dX4_asks_91 (by decide) ?_
  refine tx_bipush (v := 6) dX4_asks_94 (by decide) ?_
  refine tx_aload_n dX4_asks_96 rfl rfl ?_
  refine tx_iload_n dX4_asks_97 rfl ?_
  refine tx_iload_n dX4_asks_98 rfl ?_
  refine tx_iload dX4_asks_99 rfl ?_
  obtain ⟨r13, er13, hl⟩ := xb hl
  refine tx_callV (T_tightOf er13) lV_X4_312 C_X4_tightOf rfl dX4_asks_101 rfl (by decide) (Nat.le_of_ble_eq_true rfl) ?_
  obtain ⟨S14, eS14, hl⟩ := xb hl
  refine tx_iast (by decide) dX4_asks_104 eS14 ?_
  refine tx_aload_n dX4_asks_105 rfl rfl ?_
  refine tx_iload_n dX4_asks_106 rfl ?_
  obtain ⟨r15, er15, hl⟩ := xb hl
  refine tx_callV (T_reckons er15) lV_X4_315 C_X4_reckons rfl dX4_asks_107 rfl (by decide) (Nat.le_of_ble_eq_true rfl) ?_
  cases hl
  exact tx_iret dX4_asks_110 rfl rfl ⟨rfl, rfl⟩
def f_easesOf (n : Nat) (x1 : Int32) (x2 : Int32) (x3 : Int32) (S : TS) : Option (Int32 × TS) := if (S.1 4) = (-1) then (trd S 6 x3).bind fun v4 => (f_dampIn x1 S).bind fun r5 => (trd S 41 ((x1 + 11) + x3)).bind fun v6 => (f_bounded ((v4 + r5) + (v6 / 10)) 0 30).bind fun r7 => some (r7, S) else (f_asks n (S.1 4) x1 x2 x3 S).bind fun r2 => (f_bounded r2.1 0 30).bind fun r3 => some (r3, r2.2)
set_option maxHeartbeats 4000000 in
theorem T_easesOf {l : Launch} {E : XEnv} {m : Nat} {ad : Nat → Nat} {n : Nat} {x1 : Int32} {x2 : Int32} {x3 : Int32} {S : TS} {r : Int32 × TS} (hl : f_easesOf n x1 x2 x3 S = some r) : TM l E mX4_easesOf 4 m ad [.ref m, .int x1, .int x2, .int x3] S (some (.int r.1)) r.2 := by
  unfold f_easesOf at hl
  refine tm_of (by decide +kernel) rfl (Nat.le_of_ble_eq_true rfl) fun h0 => ?_
  refine tx_aload_n dX4_easesOf_0 rfl rfl ?_
  refine tx_getI gF_X4_9 dX4_easesOf_1 (by decide) ?_
  refine tx_iconst (v := (-1)) dX4_easesOf_4 rfl ?_
  refine tx_icmp_ne (tgt := 38) dX4_easesOf_5 (by decide) (fun c1 => ?_) (fun c1 => ?_)
  · rw [if_neg c1] at hl
    refine tx_aload_n dX4_easesOf_38 rfl rfl ?_
    refine tx_aload_n dX4_easesOf_39 rfl rfl ?_
    refine tx_getI gF_X4_9 dX4_easesOf_40 (by decide) ?_
    refine tx_iload_n dX4_easesOf_43 rfl ?_
    refine tx_iload_n dX4_easesOf_44 rfl ?_
    refine tx_iload_n dX4_easesOf_45 rfl ?_
    obtain ⟨r2, er2, hl⟩ := xb hl
    refine tx_callV (T_asks er2) lV_X4_318 C_X4_asks rfl dX4_easesOf_46 rfl (by decide) (Nat.le_of_ble_eq_true rfl) ?_
    refine tx_iconst (v := 0) dX4_easesOf_49 rfl ?_
    refine tx_bipush (v := 30) dX4_easesOf_50 (by decide) ?_
    obtain ⟨r3, er3, hl⟩ := xb hl
    refine tx_callS (T_bounded er3) lS_X4_306 C_X4_bounded dX4_easesOf_52 rfl (by decide) (Nat.le_of_ble_eq_true rfl) ?_
    cases hl
    exact tx_iret dX4_easesOf_55 rfl rfl ⟨rfl, rfl⟩
  · rw [if_pos c1] at hl
    refine tx_aload_n dX4_easesOf_8 rfl rfl ?_
    refine tx_getA gF_X4_16 dX4_easesOf_9 (by decide) ?_
    refine tx_iload_n dX4_easesOf_12 rfl ?_
    obtain ⟨v4, ev4, hl⟩ := xb hl
    refine tx_iald (by decide) dX4_easesOf_13 ev4 ?_
    refine tx_aload_n dX4_easesOf_14 rfl rfl ?_
    refine tx_iload_n dX4_easesOf_15 rfl ?_
    obtain ⟨r5, er5, hl⟩ := xb hl
    refine tx_callV (T_dampIn er5) lV_X4_309 C_X4_dampIn rfl dX4_easesOf_16 rfl (by decide) (Nat.le_of_ble_eq_true rfl) ?_
    refine tx_iadd dX4_easesOf_19 ?_
    refine tx_aload_n dX4_easesOf_20 rfl rfl ?_
    refine tx_getA gF_X4_66 dX4_easesOf_21 (by decide) ?_
    refine tx_iload_n dX4_easesOf_24 rfl ?_
    refine tx_bipush (v := 11) dX4_easesOf_25 (by decide) ?_
    refine tx_iadd dX4_easesOf_27 ?_
    refine tx_iload_n dX4_easesOf_28 rfl ?_
    refine tx_iadd dX4_easesOf_29 ?_
    obtain ⟨v6, ev6, hl⟩ := xb hl
    refine tx_iald (by decide) dX4_easesOf_30 ev6 ?_
    refine tx_bipush (v := 10) dX4_easesOf_31 (by decide) ?_
    refine tx_idiv dX4_easesOf_33 (by decide) ?_
    refine tx_iadd dX4_easesOf_34 ?_
    refine tx_goto (tgt := 49) dX4_easesOf_35 (by decide) ?_
    refine tx_iconst (v := 0) dX4_easesOf_49 rfl ?_
    refine tx_bipush (v := 30) dX4_easesOf_50 (by decide) ?_
    obtain ⟨r7, er7, hl⟩ := xb hl
    refine tx_callS (T_bounded er7) lS_X4_306 C_X4_bounded dX4_easesOf_52 rfl (by decide) (Nat.le_of_ble_eq_true rfl) ?_
    cases hl
    exact tx_iret dX4_easesOf_55 rfl rfl ⟨rfl, rfl⟩
def f_wouldGo (n : Nat) (x1 : Int32) (x2 : Int32) (x3 : Int32) (S : TS) : Option (Int32 × TS) := (f_isBurst x1 x3 S).bind fun r1 => if r1 = 0 then (f_tightOf x1 x2 x3 S).bind fun r3 => (f_easesOf n x1 x2 x3 S).bind fun r4 => if r3 > r4.1 then some (0, r4.2) else some (1, r4.2) else some (0, S)
set_option maxHeartbeats 4000000 in
theorem T_wouldGo {l : Launch} {E : XEnv} {m : Nat} {ad : Nat → Nat} {n : Nat} {x1 : Int32} {x2 : Int32} {x3 : Int32} {S : TS} {r : Int32 × TS} (hl : f_wouldGo n x1 x2 x3 S = some r) : TM l E mX4_wouldGo 5 m ad [.ref m, .int x1, .int x2, .int x3] S (some (.int r.1)) r.2 := by
  unfold f_wouldGo at hl
  refine tm_of (by decide +kernel) rfl (Nat.le_of_ble_eq_true rfl) fun h0 => ?_
  refine tx_aload_n dX4_wouldGo_0 rfl rfl ?_
  refine tx_iload_n dX4_wouldGo_1 rfl ?_
  refine tx_iload_n dX4_wouldGo_2 rfl ?_
  obtain ⟨r1, er1, hl⟩ := xb hl
  refine tx_callV (T_isBurst er1) lV_X4_322 C_X4_isBurst rfl dX4_wouldGo_3 rfl (by decide) (Nat.le_of_ble_eq_true rfl) ?_
  refine tx_if_ne (tgt := 30) dX4_wouldGo_6 (by decide) (fun c2 => ?_) (fun c2 => ?_)
  · rw [if_neg c2] at hl
    refine tx_iconst (v := 0) dX4_wouldGo_30 rfl ?_
    cases hl
    exact tx_iret dX4_wouldGo_31 rfl rfl ⟨rfl, rfl⟩
  · rw [if_pos c2] at hl
    refine tx_aload_n dX4_wouldGo_9 rfl rfl ?_
    refine tx_iload_n dX4_wouldGo_10 rfl ?_
    refine tx_iload_n dX4_wouldGo_11 rfl ?_
    refine tx_iload_n dX4_wouldGo_12 rfl ?_
    obtain ⟨r3, er3, hl⟩ := xb hl
    refine tx_callV (T_tightOf er3) lV_X4_312 C_X4_tightOf rfl dX4_wouldGo_13 rfl (by decide) (Nat.le_of_ble_eq_true rfl) ?_
    refine tx_aload_n dX4_wouldGo_16 rfl rfl ?_
    refine tx_iload_n dX4_wouldGo_17 rfl ?_
    refine tx_iload_n dX4_wouldGo_18 rfl ?_
    refine tx_iload_n dX4_wouldGo_19 rfl ?_
    obtain ⟨r4, er4, hl⟩ := xb hl
    refine tx_callV (T_easesOf er4) lV_X4_326 C_X4_easesOf rfl dX4_wouldGo_20 rfl (by decide) (Nat.le_of_ble_eq_true rfl) ?_
    refine tx_icmp_gt (tgt := 30) dX4_wouldGo_23 (by decide) (fun c5 => ?_) (fun c5 => ?_)
    · rw [if_pos c5] at hl
      refine tx_iconst (v := 0) dX4_wouldGo_30 rfl ?_
      cases hl
      exact tx_iret dX4_wouldGo_31 rfl rfl ⟨rfl, rfl⟩
    · rw [if_neg c5] at hl
      refine tx_iconst (v := 1) dX4_wouldGo_26 rfl ?_
      refine tx_goto (tgt := 31) dX4_wouldGo_27 (by decide) ?_
      cases hl
      exact tx_iret dX4_wouldGo_31 rfl rfl ⟨rfl, rfl⟩
def f_byHouse (x1 : Int32) (x2 : Int32) (x3 : Int32) (S : TS) : Option (Int32) := (f_tightOf 0 x1 x2 S).bind fun r1 => (f_leastOf (x1 + 1) (x3 ||| ((1 : Int32) <<< ((x2 : Int32) &&& 31))) S).bind fun r2 => some (r1 + r2)
set_option maxHeartbeats 4000000 in
theorem T_byHouse {l : Launch} {E : XEnv} {m : Nat} {ad : Nat → Nat} {x1 : Int32} {x2 : Int32} {x3 : Int32} {S : TS} {r : Int32} (hl : f_byHouse x1 x2 x3 S = some r) : TM l E mX4_byHouse 3 m ad [.ref m, .int x1, .int x2, .int x3] S (some (.int r)) S := by
  unfold f_byHouse at hl
  refine tm_of (by decide +kernel) rfl (Nat.le_of_ble_eq_true rfl) fun h0 => ?_
  refine tx_aload_n dX4_byHouse_0 rfl rfl ?_
  refine tx_iconst (v := 0) dX4_byHouse_1 rfl ?_
  refine tx_iload_n dX4_byHouse_2 rfl ?_
  refine tx_iload_n dX4_byHouse_3 rfl ?_
  obtain ⟨r1, er1, hl⟩ := xb hl
  refine tx_callV (T_tightOf er1) lV_X4_312 C_X4_tightOf rfl dX4_byHouse_4 rfl (by decide) (Nat.le_of_ble_eq_true rfl) ?_
  refine tx_aload_n dX4_byHouse_7 rfl rfl ?_
  refine tx_iload_n dX4_byHouse_8 rfl ?_
  refine tx_iconst (v := 1) dX4_byHouse_9 rfl ?_
  refine tx_iadd dX4_byHouse_10 ?_
  refine tx_iload_n dX4_byHouse_11 rfl ?_
  refine tx_iconst (v := 1) dX4_byHouse_12 rfl ?_
  refine tx_iload_n dX4_byHouse_13 rfl ?_
  refine tx_ishl dX4_byHouse_14 ?_
  refine tx_ior dX4_byHouse_15 ?_
  obtain ⟨r2, er2, hl⟩ := xb hl
  refine tx_callV (T_leastOf er2) lV_X4_406 C_X4_leastOf rfl dX4_byHouse_16 rfl (by decide) (Nat.le_of_ble_eq_true rfl) ?_
  refine tx_iadd dX4_byHouse_19 ?_
  cases hl
  exact tx_iret dX4_byHouse_20 rfl rfl ⟨rfl, rfl⟩
def f_lesser (x0 : Int32) (x1 : Int32) : Option (Int32) := if x0 ≥ x1 then some x1 else some x0
set_option maxHeartbeats 4000000 in
theorem T_lesser {l : Launch} {E : XEnv} {m : Nat} {ad : Nat → Nat} {x0 : Int32} {x1 : Int32} {S : TS} {r : Int32} (hl : f_lesser x0 x1 = some r) : TM l E mX4_lesser 1 m ad [.int x0, .int x1] S (some (.int r)) S := by
  unfold f_lesser at hl
  refine tm_of (by decide +kernel) rfl (Nat.le_of_ble_eq_true rfl) fun h0 => ?_
  refine tx_iload_n dX4_lesser_0 rfl ?_
  refine tx_iload_n dX4_lesser_1 rfl ?_
  refine tx_icmp_ge (tgt := 9) dX4_lesser_2 (by decide) (fun c1 => ?_) (fun c1 => ?_)
  · rw [if_pos c1] at hl
    refine tx_iload_n dX4_lesser_9 rfl ?_
    cases hl
    exact tx_iret dX4_lesser_10 rfl rfl ⟨rfl, rfl⟩
  · rw [if_neg c1] at hl
    refine tx_iload_n dX4_lesser_5 rfl ?_
    refine tx_goto (tgt := 10) dX4_lesser_6 (by decide) ?_
    cases hl
    exact tx_iret dX4_lesser_10 rfl rfl ⟨rfl, rfl⟩
def f_laysMatch_L39 (n : Nat) (x1 : Int32) (x2 : Int32) (x3 : Int32) (x4 : Int32) (S : TS) : Option ((Int32 × Int32 × TS) ⊕ ((Int32 × TS))) := if x4 ≥ (S.1 1) then some (.inr (x3, S)) else if ((x2 >>> ((x4 : Int32) &&& 31)) &&& 1) = 0 then (f_wouldGo n 0 x1 x4 S).bind fun r9 => if r9.1 = 0 then (some (x4 + 1)).bind fun w11 => some (.inl (x3, w11, r9.2)) else (f_byHouse x1 x4 x2 r9.2).bind fun r12 => (f_lesser x3 r12).bind fun r13 => (some (x4 + 1)).bind fun w14 => some (.inl (r13, w14, r9.2)) else (some (x4 + 1)).bind fun w8 => some (.inl (x3, w8, S))
abbrev K_laysMatch_L39 (l : Launch) (E : XEnv) (m : Nat) (ad : Nat → Nat) (h0 : XH) (R : Option Value → TS → Prop) (S : TS) (x1 : Int32) (x2 : Int32) (o : (Int32 × TS)) : Prop := match o with
  | e => TX l E mX4_laysMatch 6 87 [(0, .ref m), (1, .int x1), (2, .int x2), (3, .int e.1)] [] m ad h0 e.2 R
def f_laysMatch_L13 (n : Nat) (x1 : Int32) (x2 : Int32) (S : TS) : Option ((Int32 × TS) ⊕ ((TS))) := if x2 ≥ ((1 : Int32) <<< (((S.1 1) : Int32) &&& 31)) then some (.inr S) else (f_leastOf (x1 + 1) x2 S).bind fun r4 => (some ((10000 : Int32) + r4)).bind fun w5 => (xloop (fun s => f_laysMatch_L39 n x1 x2 s.1 s.2.1 s.2.2) n (w5, 0, S)).bind fun o15 => (twr o15.2 47 (((256 : Int32) * x1) + x2) o15.1).bind fun S16 => (some (x2 + 1)).bind fun w17 => some (.inl (w17, S16))
abbrev K_laysMatch_L13 (l : Launch) (E : XEnv) (m : Nat) (ad : Nat → Nat) (h0 : XH) (R : Option Value → TS → Prop) (S : TS) (x1 : Int32) (o : (TS)) : Prop := match o with
  | e => TX l E mX4_laysMatch 6 106 [(0, .ref m), (1, .int x1)] [] m ad h0 e R
def f_laysMatch_L7 (n : Nat) (x1 : Int32) (S : TS) : Option ((Int32 × TS) ⊕ ((TS))) := if x1 < 0 then some (.inr S) else (xloop (fun s => f_laysMatch_L13 n x1 s.1 s.2) n (0, S)).bind fun o18 => (some (x1 + (-1))).bind fun w19 => some (.inl (w19, o18))
abbrev K_laysMatch_L7 (l : Launch) (E : XEnv) (m : Nat) (ad : Nat → Nat) (h0 : XH) (R : Option Value → TS → Prop) (S : TS)  (o : (TS)) : Prop := match o with
  | e => TX l E mX4_laysMatch 6 112 [(0, .ref m)] [] m ad h0 e R
def f_laysMatch (n : Nat)  (S : TS) : Option (TS) := (some ((S.1 2) - 1)).bind fun w1 => (xloop (fun s => f_laysMatch_L7 n s.1 s.2) n (w1, S)).bind fun o20 => some o20
set_option maxHeartbeats 4000000 in
theorem f_laysMatch_L39_s {l : Launch} {E : XEnv} {m : Nat} {ad : Nat → Nat} {h0 : XH} {R : Option Value → TS → Prop} {n : Nat} {x1 : Int32} {x2 : Int32} {x3 : Int32} {x4 : Int32} {S : TS} {o : (Int32 × Int32 × TS) ⊕ ((Int32 × TS))} (hl : f_laysMatch_L39 n x1 x2 x3 x4 S = some o) (hK : (xk (fun s : Int32 × Int32 × TS => TX l E mX4_laysMatch 6 39 [(0, .ref m), (1, .int x1), (2, .int x2), (3, .int s.1), (4, .int s.2.1)] [] m ad h0 s.2.2 R) (fun r => K_laysMatch_L39 l E m ad h0 R S x1 x2 r) o)) : TX l E mX4_laysMatch 6 39 [(0, .ref m), (1, .int x1), (2, .int x2), (3, .int x3), (4, .int x4)] [] m ad h0 S R := by
  unfold f_laysMatch_L39 at hl
  refine tx_iload dX4_laysMatch_39 rfl ?_
  refine tx_aload_n dX4_laysMatch_41 rfl rfl ?_
  refine tx_getI gF_X4_275 dX4_laysMatch_42 (by decide) ?_
  refine tx_icmp_ge (tgt := 87) dX4_laysMatch_45 (by decide) (fun c6 => ?_) (fun c6 => ?_)
  · rw [if_pos c6] at hl
    cases hl
    exact tx_lsK hK ⟨rfl, rfl, rfl, rfl, trivial⟩
  · rw [if_neg c6] at hl
    refine tx_iload_n dX4_laysMatch_48 rfl ?_
    refine tx_iload dX4_laysMatch_49 rfl ?_
    refine tx_ishr dX4_laysMatch_51 ?_
    refine tx_iconst (v := 1) dX4_laysMatch_52 rfl ?_
    refine tx_iand dX4_laysMatch_53 ?_
    refine tx_if_ne (tgt := 81) dX4_laysMatch_54 (by decide) (fun c7 => ?_) (fun c7 => ?_)
    · rw [if_neg c7] at hl
      obtain ⟨w8, ew8, hl⟩ := xb hl
      refine tx_iinc dX4_laysMatch_81 rfl (by decide) (Option.some.inj ew8) ?_
      refine tx_goto (tgt := 39) dX4_laysMatch_84 (by decide) ?_
      cases hl
      exact tx_lsK hK ⟨rfl, rfl, rfl, rfl, rfl, trivial⟩
    · rw [if_pos c7] at hl
      refine tx_aload_n dX4_laysMatch_57 rfl rfl ?_
      refine tx_iconst (v := 0) dX4_laysMatch_58 rfl ?_
      refine tx_iload_n dX4_laysMatch_59 rfl ?_
      refine tx_iload dX4_laysMatch_60 rfl ?_
      obtain ⟨r9, er9, hl⟩ := xb hl
      refine tx_callV (T_wouldGo er9) lV_X4_388 C_X4_wouldGo rfl dX4_laysMatch_62 rfl (by decide) (Nat.le_of_ble_eq_true rfl) ?_
      refine tx_if_eq (tgt := 81) dX4_laysMatch_65 (by decide) (fun c10 => ?_) (fun c10 => ?_)
      · rw [if_pos c10] at hl
        obtain ⟨w11, ew11, hl⟩ := xb hl
        refine tx_iinc dX4_laysMatch_81 rfl (by decide) (Option.some.inj ew11) ?_
        refine tx_goto (tgt := 39) dX4_laysMatch_84 (by decide) ?_
        cases hl
        exact tx_lsK hK ⟨rfl, rfl, rfl, rfl, rfl, trivial⟩
      · rw [if_neg c10] at hl
        refine tx_iload_n dX4_laysMatch_68 rfl ?_
        refine tx_aload_n dX4_laysMatch_69 rfl rfl ?_
        refine tx_iload_n dX4_laysMatch_70 rfl ?_
        refine tx_iload dX4_laysMatch_71 rfl ?_
        refine tx_iload_n dX4_laysMatch_73 rfl ?_
        obtain ⟨r12, er12, hl⟩ := xb hl
        refine tx_callV (T_byHouse er12) lV_X4_409 C_X4_byHouse rfl dX4_laysMatch_74 rfl (by decide) (Nat.le_of_ble_eq_true rfl) ?_
        obtain ⟨r13, er13, hl⟩ := xb hl
        refine tx_callS (T_lesser er13) lS_X4_329 C_X4_lesser dX4_laysMatch_77 rfl (by decide) (Nat.le_of_ble_eq_true rfl) ?_
        refine tx_istore_n dX4_laysMatch_80 (by decide) ?_
        obtain ⟨w14, ew14, hl⟩ := xb hl
        refine tx_iinc dX4_laysMatch_81 rfl (by decide) (Option.some.inj ew14) ?_
        refine tx_goto (tgt := 39) dX4_laysMatch_84 (by decide) ?_
        cases hl
        exact tx_lsK hK ⟨rfl, rfl, rfl, rfl, rfl, trivial⟩
set_option maxHeartbeats 4000000 in
theorem f_laysMatch_L39_ok {l : Launch} {E : XEnv} {m : Nat} {ad : Nat → Nat} {h0 : XH} {R : Option Value → TS → Prop} {n : Nat} {x1 : Int32} {x2 : Int32} {S : TS} {s : Int32 × Int32 × TS} {o : (Int32 × TS)} (hl : xloop (fun s => f_laysMatch_L39 n x1 x2 s.1 s.2.1 s.2.2) n s = some o) (hK : K_laysMatch_L39 l E m ad h0 R S x1 x2 o) : TX l E mX4_laysMatch 6 39 [(0, .ref m), (1, .int x1), (2, .int x2), (3, .int s.1), (4, .int s.2.1)] [] m ad h0 s.2.2 R :=
  xloop_of (fun s : Int32 × Int32 × TS => TX l E mX4_laysMatch 6 39 [(0, .ref m), (1, .int x1), (2, .int x2), (3, .int s.1), (4, .int s.2.1)] [] m ad h0 s.2.2 R) (fun r => K_laysMatch_L39 l E m ad h0 R S x1 x2 r) (fun s o hl hk => f_laysMatch_L39_s (S := s.2.2) (o := o) hl hk) n s o hl hK
set_option maxHeartbeats 4000000 in
theorem f_laysMatch_L13_s {l : Launch} {E : XEnv} {m : Nat} {ad : Nat → Nat} {h0 : XH} {R : Option Value → TS → Prop} {n : Nat} {x1 : Int32} {x2 : Int32} {S : TS} {o : (Int32 × TS) ⊕ ((TS))} (hl : f_laysMatch_L13 n x1 x2 S = some o) (hK : (xk (fun s : Int32 × TS => TX l E mX4_laysMatch 6 13 [(0, .ref m), (1, .int x1), (2, .int s.1)] [] m ad h0 s.2 R) (fun r => K_laysMatch_L13 l E m ad h0 R S x1 r) o)) : TX l E mX4_laysMatch 6 13 [(0, .ref m), (1, .int x1), (2, .int x2)] [] m ad h0 S R := by
  unfold f_laysMatch_L13 at hl
  refine tx_iload_n dX4_laysMatch_13 rfl ?_
  refine tx_iconst (v := 1) dX4_laysMatch_14 rfl ?_
  refine tx_aload_n dX4_laysMatch_15 rfl rfl ?_
  refine tx_getI gF_X4_275 dX4_laysMatch_16 (by decide) ?_
  refine tx_ishl dX4_laysMatch_19 ?_
  refine tx_icmp_ge (tgt := 106) dX4_laysMatch_20 (by decide) (fun c3 => ?_) (fun c3 => ?_)
  · rw [if_pos c3] at hl
    cases hl
    exact tx_lsK hK ⟨rfl, rfl, trivial⟩
  · rw [if_neg c3] at hl
    refine tx_sipush (v := 10000) dX4_laysMatch_23 (by decide) ?_
    refine tx_aload_n dX4_laysMatch_26 rfl rfl ?_
    refine tx_iload_n dX4_laysMatch_27 rfl ?_
    refine tx_iconst (v := 1) dX4_laysMatch_28 rfl ?_
    refine tx_iadd dX4_laysMatch_29 ?_
    refine tx_iload_n dX4_laysMatch_30 rfl ?_
    obtain ⟨r4, er4, hl⟩ := xb hl
    refine tx_callV (T_leastOf er4) lV_X4_406 C_X4_leastOf rfl dX4_laysMatch_31 rfl (by decide) (Nat.le_of_ble_eq_true rfl) ?_
    refine tx_iadd dX4_laysMatch_34 ?_
    obtain ⟨w5, ew5, hl⟩ := xb hl
    refine tx_top (Option.some.inj ew5) ?_
    refine tx_istore_n dX4_laysMatch_35 (by decide) ?_
    refine tx_iconst (v := 0) dX4_laysMatch_36 rfl ?_
    refine tx_istore dX4_laysMatch_37 (by decide) ?_
    obtain ⟨o15, eo15, hl⟩ := xb hl
    refine tx_lsK (f_laysMatch_L39_ok (S := S) (s := (w5, 0, S)) eo15 ?_) ⟨rfl, rfl, rfl, rfl, rfl, trivial⟩
    refine tx_aload_n dX4_laysMatch_87 rfl rfl ?_
    refine tx_getA gF_X4_81 dX4_laysMatch_88 (by decide) ?_
    refine tx_sipush (v := 256) dX4_laysMatch_91 (by decide) ?_
    refine tx_iload_n dX4_laysMatch_94 rfl ?_
    refine tx_imul dX4_laysMatch_95 ?_
    refine tx_iload_n dX4_laysMatch_96 rfl ?_
    refine tx_iadd dX4_laysMatch_97 ?_
    refine tx_iload_n dX4_laysMatch_98 rfl ?_
    obtain ⟨S16, eS16, hl⟩ := xb hl
    refine tx_iast (by decide) dX4_laysMatch_99 eS16 ?_
    obtain ⟨w17, ew17, hl⟩ := xb hl
    refine tx_iinc dX4_laysMatch_100 rfl (by decide) (Option.some.inj ew17) ?_
    refine tx_goto (tgt := 13) dX4_laysMatch_103 (by decide) ?_
    cases hl
    exact tx_lsK hK ⟨rfl, rfl, rfl, trivial⟩
set_option maxHeartbeats 4000000 in
theorem f_laysMatch_L13_ok {l : Launch} {E : XEnv} {m : Nat} {ad : Nat → Nat} {h0 : XH} {R : Option Value → TS → Prop} {n : Nat} {x1 : Int32} {S : TS} {s : Int32 × TS} {o : (TS)} (hl : xloop (fun s => f_laysMatch_L13 n x1 s.1 s.2) n s = some o) (hK : K_laysMatch_L13 l E m ad h0 R S x1 o) : TX l E mX4_laysMatch 6 13 [(0, .ref m), (1, .int x1), (2, .int s.1)] [] m ad h0 s.2 R :=
  xloop_of (fun s : Int32 × TS => TX l E mX4_laysMatch 6 13 [(0, .ref m), (1, .int x1), (2, .int s.1)] [] m ad h0 s.2 R) (fun r => K_laysMatch_L13 l E m ad h0 R S x1 r) (fun s o hl hk => f_laysMatch_L13_s (S := s.2) (o := o) hl hk) n s o hl hK
set_option maxHeartbeats 4000000 in
theorem f_laysMatch_L7_s {l : Launch} {E : XEnv} {m : Nat} {ad : Nat → Nat} {h0 : XH} {R : Option Value → TS → Prop} {n : Nat} {x1 : Int32} {S : TS} {o : (Int32 × TS) ⊕ ((TS))} (hl : f_laysMatch_L7 n x1 S = some o) (hK : (xk (fun s : Int32 × TS => TX l E mX4_laysMatch 6 7 [(0, .ref m), (1, .int s.1)] [] m ad h0 s.2 R) (fun r => K_laysMatch_L7 l E m ad h0 R S r) o)) : TX l E mX4_laysMatch 6 7 [(0, .ref m), (1, .int x1)] [] m ad h0 S R := by
  unfold f_laysMatch_L7 at hl
  refine tx_iload_n dX4_laysMatch_7 rfl ?_
  refine tx_if_lt (tgt := 112) dX4_laysMatch_8 (by decide) (fun c2 => ?_) (fun c2 => ?_)
  · rw [if_pos c2] at hl
    cases hl
    exact tx_lsK hK ⟨rfl, trivial⟩
  · rw [if_neg c2] at hl
    refine tx_iconst (v := 0) dX4_laysMatch_11 rfl ?_
    refine tx_istore_n dX4_laysMatch_12 (by decide) ?_
    obtain ⟨o18, eo18, hl⟩ := xb hl
    refine tx_lsK (f_laysMatch_L13_ok (S := S) (s := (0, S)) eo18 ?_) ⟨rfl, rfl, rfl, trivial⟩
    obtain ⟨w19, ew19, hl⟩ := xb hl
    refine tx_iinc dX4_laysMatch_106 rfl (by decide) (Option.some.inj ew19) ?_
    refine tx_goto (tgt := 7) dX4_laysMatch_109 (by decide) ?_
    cases hl
    exact tx_lsK hK ⟨rfl, rfl, trivial⟩
set_option maxHeartbeats 4000000 in
theorem f_laysMatch_L7_ok {l : Launch} {E : XEnv} {m : Nat} {ad : Nat → Nat} {h0 : XH} {R : Option Value → TS → Prop} {n : Nat}  {S : TS} {s : Int32 × TS} {o : (TS)} (hl : xloop (fun s => f_laysMatch_L7 n s.1 s.2) n s = some o) (hK : K_laysMatch_L7 l E m ad h0 R S o) : TX l E mX4_laysMatch 6 7 [(0, .ref m), (1, .int s.1)] [] m ad h0 s.2 R :=
  xloop_of (fun s : Int32 × TS => TX l E mX4_laysMatch 6 7 [(0, .ref m), (1, .int s.1)] [] m ad h0 s.2 R) (fun r => K_laysMatch_L7 l E m ad h0 R S r) (fun s o hl hk => f_laysMatch_L7_s (S := s.2) (o := o) hl hk) n s o hl hK
set_option maxHeartbeats 4000000 in
theorem T_laysMatch {l : Launch} {E : XEnv} {m : Nat} {ad : Nat → Nat} {n : Nat}  {S : TS} {S' : TS} (hl : f_laysMatch n  S = some S') : TM l E mX4_laysMatch 6 m ad [.ref m] S none S' := by
  unfold f_laysMatch at hl
  refine tm_of (by decide +kernel) rfl (Nat.le_of_ble_eq_true rfl) fun h0 => ?_
  refine tx_aload_n dX4_laysMatch_0 rfl rfl ?_
  refine tx_getI gF_X4_278 dX4_laysMatch_1 (by decide) ?_
  refine tx_iconst (v := 1) dX4_laysMatch_4 rfl ?_
  refine tx_isub dX4_laysMatch_5 ?_
  obtain ⟨w1, ew1, hl⟩ := xb hl
  refine tx_top (Option.some.inj ew1) ?_
  refine tx_istore_n dX4_laysMatch_6 (by decide) ?_
  obtain ⟨o20, eo20, hl⟩ := xb hl
  refine tx_lsK (f_laysMatch_L7_ok (S := S) (s := (w1, S)) eo20 ?_) ⟨rfl, rfl, trivial⟩
  cases hl
  exact tx_vret dX4_laysMatch_112 rfl ⟨rfl, rfl⟩
def f_needed_L19 (n : Nat) (x1 : Int32) (x2 : Int32) (x3 : Int32) (S : TS) : Option ((Int32 × Int32 × TS) ⊕ ((Int32 × TS))) := if x3 ≥ (S.1 1) then some (.inr (x2, S)) else (f_isBurst 0 x3 S).bind fun r5 => if r5 = 0 then (f_leastOf 0 ((1 : Int32) <<< ((x3 : Int32) &&& 31)) S).bind fun r9 => if (r9 / 10000) ≤ x1 then (some (x2 ||| 0)).bind fun w11 => (some (x3 + 1)).bind fun w12 => some (.inl (w11, w12, S)) else (some (x2 ||| ((1 : Int32) <<< ((x3 : Int32) &&& 31)))).bind fun w13 => (some (x3 + 1)).bind fun w14 => some (.inl (w13, w14, S)) else (some (x2 ||| 0)).bind fun w7 => (some (x3 + 1)).bind fun w8 => some (.inl (w7, w8, S))
abbrev K_needed_L19 (l : Launch) (E : XEnv) (m : Nat) (ad : Nat → Nat) (h0 : XH) (R : Option Value → TS → Prop) (S : TS) (x1 : Int32) (o : (Int32 × TS)) : Prop := match o with
  | e => TX l E mX4_needed 7 68 [(0, .ref m), (2, .int e.1)] [] m ad h0 e.2 R
def f_needed (n : Nat)  (S : TS) : Option (Int32 × TS) := (f_laysMatch n S).bind fun r1 => (f_leastOf 0 0 r1).bind fun r2 => (some (r2 / 10000)).bind fun w3 => (xloop (fun s => f_needed_L19 n w3 s.1 s.2.1 s.2.2) n (0, 0, r1)).bind fun o15 => some (o15.1, o15.2)
set_option maxHeartbeats 4000000 in
theorem f_needed_L19_s {l : Launch} {E : XEnv} {m : Nat} {ad : Nat → Nat} {h0 : XH} {R : Option Value → TS → Prop} {n : Nat} {x1 : Int32} {x2 : Int32} {x3 : Int32} {S : TS} {o : (Int32 × Int32 × TS) ⊕ ((Int32 × TS))} (hl : f_needed_L19 n x1 x2 x3 S = some o) (hK : (xk (fun s : Int32 × Int32 × TS => TX l E mX4_needed 7 19 [(0, .ref m), (1, .int x1), (2, .int s.1), (3, .int s.2.1)] [] m ad h0 s.2.2 R) (fun r => K_needed_L19 l E m ad h0 R S x1 r) o)) : TX l E mX4_needed 7 19 [(0, .ref m), (1, .int x1), (2, .int x2), (3, .int x3)] [] m ad h0 S R := by
  unfold f_needed_L19 at hl
  refine tx_iload_n dX4_needed_19 rfl ?_
  refine tx_aload_n dX4_needed_20 rfl rfl ?_
  refine tx_getI gF_X4_275 dX4_needed_21 (by decide) ?_
  refine tx_icmp_ge (tgt := 68) dX4_needed_24 (by decide) (fun c4 => ?_) (fun c4 => ?_)
  · rw [if_pos c4] at hl
    cases hl
    exact tx_lsK hK ⟨rfl, rfl, trivial⟩
  · rw [if_neg c4] at hl
    refine tx_iload_n dX4_needed_27 rfl ?_
    refine tx_aload_n dX4_needed_28 rfl rfl ?_
    refine tx_iconst (v := 0) dX4_needed_29 rfl ?_
    refine tx_iload_n dX4_needed_30 rfl ?_
    obtain ⟨r5, er5, hl⟩ := xb hl
    refine tx_callV (T_isBurst er5) lV_X4_322 C_X4_isBurst rfl dX4_needed_31 rfl (by decide) (Nat.le_of_ble_eq_true rfl) ?_
    refine tx_if_ne (tgt := 59) dX4_needed_34 (by decide) (fun c6 => ?_) (fun c6 => ?_)
    · rw [if_neg c6] at hl
      refine tx_iconst (v := 0) dX4_needed_59 rfl ?_
      refine tx_ior dX4_needed_60 ?_
      obtain ⟨w7, ew7, hl⟩ := xb hl
      refine tx_top (Option.some.inj ew7) ?_
      refine tx_istore_n dX4_needed_61 (by decide) ?_
      obtain ⟨w8, ew8, hl⟩ := xb hl
      refine tx_iinc dX4_needed_62 rfl (by decide) (Option.some.inj ew8) ?_
      refine tx_goto (tgt := 19) dX4_needed_65 (by decide) ?_
      cases hl
      exact tx_lsK hK ⟨rfl, rfl, rfl, rfl, trivial⟩
    · rw [if_pos c6] at hl
      refine tx_aload_n dX4_needed_37 rfl rfl ?_
      refine tx_iconst (v := 0) dX4_needed_38 rfl ?_
      refine tx_iconst (v := 1) dX4_needed_39 rfl ?_
      refine tx_iload_n dX4_needed_40 rfl ?_
      refine tx_ishl dX4_needed_41 ?_
      obtain ⟨r9, er9, hl⟩ := xb hl
      refine tx_callV (T_leastOf er9) lV_X4_406 C_X4_leastOf rfl dX4_needed_42 rfl (by decide) (Nat.le_of_ble_eq_true rfl) ?_
      refine tx_sipush (v := 10000) dX4_needed_45 (by decide) ?_
      refine tx_idiv dX4_needed_48 (by decide) ?_
      refine tx_iload_n dX4_needed_49 rfl ?_
      refine tx_icmp_le (tgt := 59) dX4_needed_50 (by decide) (fun c10 => ?_) (fun c10 => ?_)
      · rw [if_pos c10] at hl
        refine tx_iconst (v := 0) dX4_needed_59 rfl ?_
        refine tx_ior dX4_needed_60 ?_
        obtain ⟨w11, ew11, hl⟩ := xb hl
        refine tx_top (Option.some.inj ew11) ?_
        refine tx_istore_n dX4_needed_61 (by decide) ?_
        obtain ⟨w12, ew12, hl⟩ := xb hl
        refine tx_iinc dX4_needed_62 rfl (by decide) (Option.some.inj ew12) ?_
        refine tx_goto (tgt := 19) dX4_needed_65 (by decide) ?_
        cases hl
        exact tx_lsK hK ⟨rfl, rfl, rfl, rfl, trivial⟩
      · rw [if_neg c10] at hl
        refine tx_iconst (v := 1) dX4_needed_53 rfl ?_
        refine tx_iload_n dX4_needed_54 rfl ?_
        refine tx_ishl dX4_needed_55 ?_
        refine tx_goto (tgt := 60) dX4_needed_56 (by decide) ?_
        refine tx_ior dX4_needed_60 ?_
        obtain ⟨w13, ew13, hl⟩ := xb hl
        refine tx_top (Option.some.inj ew13) ?_
        refine tx_istore_n dX4_needed_61 (by decide) ?_
        obtain ⟨w14, ew14, hl⟩ := xb hl
        refine tx_iinc dX4_needed_62 rfl (by decide) (Option.some.inj ew14) ?_
        refine tx_goto (tgt := 19) dX4_needed_65 (by decide) ?_
        cases hl
        exact tx_lsK hK ⟨rfl, rfl, rfl, rfl, trivial⟩
set_option maxHeartbeats 4000000 in
theorem f_needed_L19_ok {l : Launch} {E : XEnv} {m : Nat} {ad : Nat → Nat} {h0 : XH} {R : Option Value → TS → Prop} {n : Nat} {x1 : Int32} {S : TS} {s : Int32 × Int32 × TS} {o : (Int32 × TS)} (hl : xloop (fun s => f_needed_L19 n x1 s.1 s.2.1 s.2.2) n s = some o) (hK : K_needed_L19 l E m ad h0 R S x1 o) : TX l E mX4_needed 7 19 [(0, .ref m), (1, .int x1), (2, .int s.1), (3, .int s.2.1)] [] m ad h0 s.2.2 R :=
  xloop_of (fun s : Int32 × Int32 × TS => TX l E mX4_needed 7 19 [(0, .ref m), (1, .int x1), (2, .int s.1), (3, .int s.2.1)] [] m ad h0 s.2.2 R) (fun r => K_needed_L19 l E m ad h0 R S x1 r) (fun s o hl hk => f_needed_L19_s (S := s.2.2) (o := o) hl hk) n s o hl hK
set_option maxHeartbeats 4000000 in
theorem T_needed {l : Launch} {E : XEnv} {m : Nat} {ad : Nat → Nat} {n : Nat}  {S : TS} {r : Int32 × TS} (hl : f_needed n  S = some r) : TM l E mX4_needed 7 m ad [.ref m] S (some (.int r.1)) r.2 := by
  unfold f_needed at hl
  refine tm_of (by decide +kernel) rfl (Nat.le_of_ble_eq_true rfl) fun h0 => ?_
  refine tx_aload_n dX4_needed_0 rfl rfl ?_
  obtain ⟨r1, er1, hl⟩ := xb hl
  refine tx_callV (T_laysMatch er1) lV_X4_412 C_X4_laysMatch rfl dX4_needed_1 rfl (by decide) (Nat.le_of_ble_eq_true rfl) ?_
  refine tx_aload_n dX4_needed_4 rfl rfl ?_
  refine tx_iconst (v := 0) dX4_needed_5 rfl ?_
  refine tx_iconst (v := 0) dX4_needed_6 rfl ?_
  obtain ⟨r2, er2, hl⟩ := xb hl
  refine tx_callV (T_leastOf er2) lV_X4_406 C_X4_leastOf rfl dX4_needed_7 rfl (by decide) (Nat.le_of_ble_eq_true rfl) ?_
  refine tx_sipush (v := 10000) dX4_needed_10 (by decide) ?_
  refine tx_idiv dX4_needed_13 (by decide) ?_
  obtain ⟨w3, ew3, hl⟩ := xb hl
  refine tx_top (Option.some.inj ew3) ?_
  refine tx_istore_n dX4_needed_14 (by decide) ?_
  refine tx_iconst (v := 0) dX4_needed_15 rfl ?_
  refine tx_istore_n dX4_needed_16 (by decide) ?_
  refine tx_iconst (v := 0) dX4_needed_17 rfl ?_
  refine tx_istore_n dX4_needed_18 (by decide) ?_
  obtain ⟨o15, eo15, hl⟩ := xb hl
  refine tx_lsK (f_needed_L19_ok (S := r1) (s := (0, 0, r1)) eo15 ?_) ⟨rfl, rfl, rfl, rfl, trivial⟩
  refine tx_iload_n dX4_needed_68 rfl ?_
  cases hl
  exact tx_iret dX4_needed_69 rfl rfl ⟨rfl, rfl⟩
def f_count (n : Nat) (x1 : Int32) (S : TS) : Option (Int32 × TS) := (some (tpF S 0 0)).bind fun S1 => (f_within x1 0 15).bind fun r2 => (f_right r2 1 S1).bind fun r3 => if r3.1 = 0 then some (0, r3.2) else if x1.toInt < 0 ∨ 12 < x1.toInt then (trd r3.2 15 (x1 - 13)).bind fun v5 => some (v5, r3.2) else if x1 = 0 then some ((r3.2.1 1), r3.2) else if x1 = 1 then some ((r3.2.1 2), r3.2) else if x1 = 2 then (trd r3.2 41 0).bind fun v10 => some (v10, r3.2) else if x1 = 3 then (f_dampIn 0 r3.2).bind fun r12 => some (r12, r3.2) else if x1 = 4 then (trd r3.2 41 1).bind fun v14 => some (v14, r3.2) else if x1 = 5 then (f_taken n r3.2).bind fun r16 => some (r16, r3.2) else if x1 = 6 then (f_lodgersIn n 0 r3.2).bind fun r18 => some (r18, r3.2) else if x1 = 7 then (f_soreIn n 0 r3.2).bind fun r20 => some (r20, r3.2) else if x1 = 8 then (f_tightest n r3.2).bind fun r22 => some (r22, r3.2) else if x1 = 9 then (f_needed n r3.2).bind fun r24 => some (r24.1, r24.2) else if x1 = 10 then some ((r3.2.1 43), r3.2) else if x1 = 11 then some ((r3.2.1 51), r3.2) else if x1 = 12 then some ((r3.2.1 12), r3.2) else none
set_option maxHeartbeats 4000000 in
theorem T_count {l : Launch} {E : XEnv} {m : Nat} {ad : Nat → Nat} {n : Nat} {x1 : Int32} {S : TS} {r : Int32 × TS} (hl : f_count n x1 S = some r) : TM l E mX4_count 8 m ad [.ref m, .int x1] S (some (.int r.1)) r.2 := by
  unfold f_count at hl
  refine tm_of (by decide +kernel) rfl (Nat.le_of_ble_eq_true rfl) fun h0 => ?_
  refine tx_aload_n dX4_count_0 rfl rfl ?_
  refine tx_iconst (v := 0) dX4_count_1 rfl ?_
  obtain ⟨S1, eS1, hl⟩ := xb hl
  refine tx_putI pF_X4_111 dX4_count_2 (by decide) rfl rfl (Option.some.inj eS1) ?_
  refine tx_aload_n dX4_count_5 rfl rfl ?_
  refine tx_iload_n dX4_count_6 rfl ?_
  refine tx_iconst (v := 0) dX4_count_7 rfl ?_
  refine tx_bipush (v := 15) dX4_count_8 (by decide) ?_
  obtain ⟨r2, er2, hl⟩ := xb hl
  refine tx_callS (T_within er2) lS_X4_345 C_X4_within dX4_count_10 rfl (by decide) (Nat.le_of_ble_eq_true rfl) ?_
  refine tx_iconst (v := 1) dX4_count_13 rfl ?_
  obtain ⟨r3, er3, hl⟩ := xb hl
  refine tx_callV (T_right er3) lV_X4_268 C_X4_right rfl dX4_count_14 rfl (by decide) (Nat.le_of_ble_eq_true rfl) ?_
  refine tx_if_ne (tgt := 22) dX4_count_17 (by decide) (fun c4 => ?_) (fun c4 => ?_)
  · rw [if_neg c4] at hl
    refine tx_iload_n dX4_count_22 rfl ?_
    by_cases c6 : x1.toInt < 0 ∨ 12 < x1.toInt
    · rw [if_pos c6] at hl
      refine tx_tableOut (tgt := 160) dX4_count_23 c6 (by decide) ?_
      refine tx_aload_n dX4_count_160 rfl rfl ?_
      refine tx_getA gF_X4_38 dX4_count_161 (by decide) ?_
      refine tx_iload_n dX4_count_164 rfl ?_
      refine tx_bipush (v := 13) dX4_count_165 (by decide) ?_
      refine tx_isub dX4_count_167 ?_
      obtain ⟨v5, ev5, hl⟩ := xb hl
      refine tx_iald (by decide) dX4_count_168 ev5 ?_
      cases hl
      exact tx_iret dX4_count_169 rfl rfl ⟨rfl, rfl⟩
    rw [if_neg c6] at hl
    by_cases k7 : x1 = 0
    · rw [if_pos k7] at hl
      refine tx_tableIn (off := 65) (tgt := 88) dX4_count_23 (by rw [k7]; decide) (by rw [k7]; decide) (by rw [k7]; rfl) (by decide) ?_
      refine tx_aload_n dX4_count_88 rfl rfl ?_
      refine tx_getI gF_X4_275 dX4_count_89 (by decide) ?_
      cases hl
      exact tx_iret dX4_count_92 rfl rfl ⟨rfl, rfl⟩
    rw [if_neg k7] at hl
    by_cases k8 : x1 = 1
    · rw [if_pos k8] at hl
      refine tx_tableIn (off := 70) (tgt := 93) dX4_count_23 (by rw [k8]; decide) (by rw [k8]; decide) (by rw [k8]; rfl) (by decide) ?_
      refine tx_aload_n dX4_count_93 rfl rfl ?_
      refine tx_getI gF_X4_278 dX4_count_94 (by decide) ?_
      cases hl
      exact tx_iret dX4_count_97 rfl rfl ⟨rfl, rfl⟩
    rw [if_neg k8] at hl
    by_cases k9 : x1 = 2
    · rw [if_pos k9] at hl
      refine tx_tableIn (off := 75) (tgt := 98) dX4_count_23 (by rw [k9]; decide) (by rw [k9]; decide) (by rw [k9]; rfl) (by decide) ?_
      refine tx_aload_n dX4_count_98 rfl rfl ?_
      refine tx_getA gF_X4_66 dX4_count_99 (by decide) ?_
      refine tx_iconst (v := 0) dX4_count_102 rfl ?_
      obtain ⟨v10, ev10, hl⟩ := xb hl
      refine tx_iald (by decide) dX4_count_103 ev10 ?_
      cases hl
      exact tx_iret dX4_count_104 rfl rfl ⟨rfl, rfl⟩
    rw [if_neg k9] at hl
    by_cases k11 : x1 = 3
    · rw [if_pos k11] at hl
      refine tx_tableIn (off := 82) (tgt := 105) dX4_count_23 (by rw [k11]; decide) (by rw [k11]; decide) (by rw [k11]; rfl) (by decide) ?_
      refine tx_aload_n dX4_count_105 rfl rfl ?_
      refine tx_iconst (v := 0) dX4_count_106 rfl ?_
      obtain ⟨r12, er12, hl⟩ := xb hl
      refine tx_callV (T_dampIn er12) lV_X4_309 C_X4_dampIn rfl dX4_count_107 rfl (by decide) (Nat.le_of_ble_eq_true rfl) ?_
      cases hl
      exact tx_iret dX4_count_110 rfl rfl ⟨rfl, rfl⟩
    rw [if_neg k11] at hl
    by_cases k13 : x1 = 4
    · rw [if_pos k13] at hl
      refine tx_tableIn (off := 88) (tgt := 111) dX4_count_23 (by rw [k13]; decide) (by rw [k13]; decide) (by rw [k13]; rfl) (by decide) ?_
      refine tx_aload_n dX4_count_111 rfl rfl ?_
      refine tx_getA gF_X4_66 dX4_count_112 (by decide) ?_
      refine tx_iconst (v := 1) dX4_count_115 rfl ?_
      obtain ⟨v14, ev14, hl⟩ := xb hl
      refine tx_iald (by decide) dX4_count_116 ev14 ?_
      cases hl
      exact tx_iret dX4_count_117 rfl rfl ⟨rfl, rfl⟩
    rw [if_neg k13] at hl
    by_cases k15 : x1 = 5
    · rw [if_pos k15] at hl
      refine tx_tableIn (off := 95) (tgt := 118) dX4_count_23 (by rw [k15]; decide) (by rw [k15]; decide) (by rw [k15]; rfl) (by decide) ?_
      refine tx_aload_n dX4_count_118 rfl rfl ?_
      obtain ⟨r16, er16, hl⟩ := xb hl
      refine tx_callV (T_taken er16) lV_X4_349 C_X4_taken rfl dX4_count_119 rfl (by decide) (Nat.le_of_ble_eq_true rfl) ?_
      cases hl
      exact tx_iret dX4_count_122 rfl rfl ⟨rfl, rfl⟩
    rw [if_neg k15] at hl
    by_cases k17 : x1 = 6
    · rw [if_pos k17] at hl
      refine tx_tableIn (off := 100) (tgt := 123) dX4_count_23 (by rw [k17]; decide) (by rw [k17]; decide) (by rw [k17]; rfl) (by decide) ?_
      refine tx_aload_n dX4_count_123 rfl rfl ?_
      refine tx_iconst (v := 0) dX4_count_124 rfl ?_
      obtain ⟨r18, er18, hl⟩ := xb hl
      refine tx_callV (T_lodgersIn er18) lV_X4_352 C_X4_lodgersIn rfl dX4_count_125 rfl (by decide) (Nat.le_of_ble_eq_true rfl) ?_
      cases hl
      exact tx_iret dX4_count_128 rfl rfl ⟨rfl, rfl⟩
    rw [if_neg k17] at hl
    by_cases k19 : x1 = 7
    · rw [if_pos k19] at hl
      refine tx_tableIn (off := 106) (tgt := 129) dX4_count_23 (by rw [k19]; decide) (by rw [k19]; decide) (by rw [k19]; rfl) (by decide) ?_
      refine tx_aload_n dX4_count_129 rfl rfl ?_
      refine tx_iconst (v := 0) dX4_count_130 rfl ?_
      obtain ⟨r20, er20, hl⟩ := xb hl
      refine tx_callV (T_soreIn er20) lV_X4_355 C_X4_soreIn rfl dX4_count_131 rfl (by decide) (Nat.le_of_ble_eq_true rfl) ?_
      cases hl
      exact tx_iret dX4_count_134 rfl rfl ⟨rfl, rfl⟩
    rw [if_neg k19] at hl
    by_cases k21 : x1 = 8
    · rw [if_pos k21] at hl
      refine tx_tableIn (off := 112) (tgt := 135) dX4_count_23 (by rw [k21]; decide) (by rw [k21]; decide) (by rw [k21]; rfl) (by decide) ?_
      refine tx_aload_n dX4_count_135 rfl rfl ?_
      obtain ⟨r22, er22, hl⟩ := xb hl
      refine tx_callV (T_tightest er22) lV_X4_358 C_X4_tightest rfl dX4_count_136 rfl (by decide) (Nat.le_of_ble_eq_true rfl) ?_
      cases hl
      exact tx_iret dX4_count_139 rfl rfl ⟨rfl, rfl⟩
    rw [if_neg k21] at hl
    by_cases k23 : x1 = 9
    · rw [if_pos k23] at hl
      refine tx_tableIn (off := 117) (tgt := 140) dX4_count_23 (by rw [k23]; decide) (by rw [k23]; decide) (by rw [k23]; rfl) (by decide) ?_
      refine tx_aload_n dX4_count_140 rfl rfl ?_
      obtain ⟨r24, er24, hl⟩ := xb hl
      refine tx_callV (T_needed er24) lV_X4_361 C_X4_needed rfl dX4_count_141 rfl (by decide) (Nat.le_of_ble_eq_true rfl) ?_
      cases hl
      exact tx_iret dX4_count_144 rfl rfl ⟨rfl, rfl⟩
    rw [if_neg k23] at hl
    by_cases k25 : x1 = 10
    · rw [if_pos k25] at hl
      refine tx_tableIn (off := 122) (tgt := 145) dX4_count_23 (by rw [k25]; decide) (by rw [k25]; decide) (by rw [k25]; rfl) (by decide) ?_
      refine tx_aload_n dX4_count_145 rfl rfl ?_
      refine tx_getI gF_X4_288 dX4_count_146 (by decide) ?_
      cases hl
      exact tx_iret dX4_count_149 rfl rfl ⟨rfl, rfl⟩
    rw [if_neg k25] at hl
    by_cases k26 : x1 = 11
    · rw [if_pos k26] at hl
      refine tx_tableIn (off := 127) (tgt := 150) dX4_count_23 (by rw [k26]; decide) (by rw [k26]; decide) (by rw [k26]; rfl) (by decide) ?_
      refine tx_aload_n dX4_count_150 rfl rfl ?_
      refine tx_getI gF_X4_291 dX4_count_151 (by decide) ?_
      cases hl
      exact tx_iret dX4_count_154 rfl rfl ⟨rfl, rfl⟩
    rw [if_neg k26] at hl
    by_cases k27 : x1 = 12
    · rw [if_pos k27] at hl
      refine tx_tableIn (off := 132) (tgt := 155) dX4_count_23 (by rw [k27]; decide) (by rw [k27]; decide) (by rw [k27]; rfl) (by decide) ?_
      refine tx_aload_n dX4_count_155 rfl rfl ?_
      refine tx_getI gF_X4_114 dX4_count_156 (by decide) ?_
      cases hl
      exact tx_iret dX4_count_159 rfl rfl ⟨rfl, rfl⟩
    rw [if_neg k27] at hl
    cases hl
  · rw [if_pos c4] at hl
    refine tx_iconst (v := 0) dX4_count_20 rfl ?_
    cases hl
    exact tx_iret dX4_count_21 rfl rfl ⟨rfl, rfl⟩
def f_isHouse (x1 : Int32) (S : TS) : Option (Int32 × TS) := if x1 < 0 then (f_right 0 1 S).bind fun r2 => (tz r2.1).bind fun z3 => some (z3, r2.2) else if x1 ≥ (S.1 1) then (f_right 0 1 S).bind fun r5 => (tz r5.1).bind fun z6 => some (z6, r5.2) else (f_right 1 1 S).bind fun r7 => (tz r7.1).bind fun z8 => some (z8, r7.2)
set_option maxHeartbeats 4000000 in
theorem T_isHouse {l : Launch} {E : XEnv} {m : Nat} {ad : Nat → Nat} {x1 : Int32} {S : TS} {r : Int32 × TS} (hl : f_isHouse x1 S = some r) : TM l E mX4_isHouse 2 m ad [.ref m, .int x1] S (some (.int r.1)) r.2 := by
  unfold f_isHouse at hl
  refine tm_of (by decide +kernel) rfl (Nat.le_of_ble_eq_true rfl) fun h0 => ?_
  refine tx_aload_n dX4_isHouse_0 rfl rfl ?_
  refine tx_iload_n dX4_isHouse_1 rfl ?_
  refine tx_if_lt (tgt := 17) dX4_isHouse_2 (by decide) (fun c1 => ?_) (fun c1 => ?_)
  · rw [if_pos c1] at hl
    refine tx_iconst (v := 0) dX4_isHouse_17 rfl ?_
    refine tx_iconst (v := 1) dX4_isHouse_18 rfl ?_
    obtain ⟨r2, er2, hl⟩ := xb hl
    refine tx_callV (T_right er2) lV_X4_268 C_X4_right rfl dX4_isHouse_19 rfl (by decide) (Nat.le_of_ble_eq_true rfl) ?_
    obtain ⟨z3, ez3, hl⟩ := xb hl
    refine tx_top (tz_eq ez3).1 ?_
    cases hl
    exact tx_iret dX4_isHouse_22 rfl (tz_eq ez3).2 ⟨rfl, rfl⟩
  · rw [if_neg c1] at hl
    refine tx_iload_n dX4_isHouse_5 rfl ?_
    refine tx_aload_n dX4_isHouse_6 rfl rfl ?_
    refine tx_getI gF_X4_275 dX4_isHouse_7 (by decide) ?_
    refine tx_icmp_ge (tgt := 17) dX4_isHouse_10 (by decide) (fun c4 => ?_) (fun c4 => ?_)
    · rw [if_pos c4] at hl
      refine tx_iconst (v := 0) dX4_isHouse_17 rfl ?_
      refine tx_iconst (v := 1) dX4_isHouse_18 rfl ?_
      obtain ⟨r5, er5, hl⟩ := xb hl
      refine tx_callV (T_right er5) lV_X4_268 C_X4_right rfl dX4_isHouse_19 rfl (by decide) (Nat.le_of_ble_eq_true rfl) ?_
      obtain ⟨z6, ez6, hl⟩ := xb hl
      refine tx_top (tz_eq ez6).1 ?_
      cases hl
      exact tx_iret dX4_isHouse_22 rfl (tz_eq ez6).2 ⟨rfl, rfl⟩
    · rw [if_neg c4] at hl
      refine tx_iconst (v := 1) dX4_isHouse_13 rfl ?_
      refine tx_goto (tgt := 18) dX4_isHouse_14 (by decide) ?_
      refine tx_iconst (v := 1) dX4_isHouse_18 rfl ?_
      obtain ⟨r7, er7, hl⟩ := xb hl
      refine tx_callV (T_right er7) lV_X4_268 C_X4_right rfl dX4_isHouse_19 rfl (by decide) (Nat.le_of_ble_eq_true rfl) ?_
      obtain ⟨z8, ez8, hl⟩ := xb hl
      refine tx_top (tz_eq ez8).1 ?_
      cases hl
      exact tx_iret dX4_isHouse_22 rfl (tz_eq ez8).2 ⟨rfl, rfl⟩
def f_isWhat (x1 : Int32) (x2 : Int32) (S : TS) : Option (Int32 × TS) := (f_within x1 0 x2).bind fun r1 => (f_right r1 1 S).bind fun r2 => (tz r2.1).bind fun z3 => some (z3, r2.2)
set_option maxHeartbeats 4000000 in
theorem T_isWhat {l : Launch} {E : XEnv} {m : Nat} {ad : Nat → Nat} {x1 : Int32} {x2 : Int32} {S : TS} {r : Int32 × TS} (hl : f_isWhat x1 x2 S = some r) : TM l E mX4_isWhat 2 m ad [.ref m, .int x1, .int x2] S (some (.int r.1)) r.2 := by
  unfold f_isWhat at hl
  refine tm_of (by decide +kernel) rfl (Nat.le_of_ble_eq_true rfl) fun h0 => ?_
  refine tx_aload_n dX4_isWhat_0 rfl rfl ?_
  refine tx_iload_n dX4_isWhat_1 rfl ?_
  refine tx_iconst (v := 0) dX4_isWhat_2 rfl ?_
  refine tx_iload_n dX4_isWhat_3 rfl ?_
  obtain ⟨r1, er1, hl⟩ := xb hl
  refine tx_callS (T_within er1) lS_X4_345 C_X4_within dX4_isWhat_4 rfl (by decide) (Nat.le_of_ble_eq_true rfl) ?_
  refine tx_iconst (v := 1) dX4_isWhat_7 rfl ?_
  obtain ⟨r2, er2, hl⟩ := xb hl
  refine tx_callV (T_right er2) lV_X4_268 C_X4_right rfl dX4_isWhat_8 rfl (by decide) (Nat.le_of_ble_eq_true rfl) ?_
  obtain ⟨z3, ez3, hl⟩ := xb hl
  refine tx_top (tz_eq ez3).1 ?_
  cases hl
  exact tx_iret dX4_isWhat_11 rfl (tz_eq ez3).2 ⟨rfl, rfl⟩
def f_roomOf (x1 : Int32) (S : TS) : Option (Int32) := (trd S 41 ((19 : Int32) + x1)).bind fun v1 => if v1 = (-1) then some 0 else (trd S 41 ((3 : Int32) + x1)).bind fun v3 => (trd S 41 ((27 : Int32) + v1)).bind fun v4 => (f_bounded (v3 - v4) 0 99999).bind fun r5 => some r5
set_option maxHeartbeats 4000000 in
theorem T_roomOf {l : Launch} {E : XEnv} {m : Nat} {ad : Nat → Nat} {x1 : Int32} {S : TS} {r : Int32} (hl : f_roomOf x1 S = some r) : TM l E mX4_roomOf 2 m ad [.ref m, .int x1] S (some (.int r)) S := by
  unfold f_roomOf at hl
  refine tm_of (by decide +kernel) rfl (Nat.le_of_ble_eq_true rfl) fun h0 => ?_
  refine tx_aload_n dX4_roomOf_0 rfl rfl ?_
  refine tx_getA gF_X4_66 dX4_roomOf_1 (by decide) ?_
  refine tx_bipush (v := 19) dX4_roomOf_4 (by decide) ?_
  refine tx_iload_n dX4_roomOf_6 rfl ?_
  refine tx_iadd dX4_roomOf_7 ?_
  obtain ⟨v1, ev1, hl⟩ := xb hl
  refine tx_iald (by decide) dX4_roomOf_8 ev1 ?_
  refine tx_istore_n dX4_roomOf_9 (by decide) ?_
  refine tx_iload_n dX4_roomOf_10 rfl ?_
  refine tx_iconst (v := (-1)) dX4_roomOf_11 rfl ?_
  refine tx_icmp_ne (tgt := 19) dX4_roomOf_12 (by decide) (fun c2 => ?_) (fun c2 => ?_)
  · rw [if_neg c2] at hl
    refine tx_aload_n dX4_roomOf_19 rfl rfl ?_
    refine tx_getA gF_X4_66 dX4_roomOf_20 (by decide) ?_
    refine tx_iconst (v := 3) dX4_roomOf_23 rfl ?_
    refine tx_iload_n dX4_roomOf_24 rfl ?_
    refine tx_iadd dX4_roomOf_25 ?_
    obtain ⟨v3, ev3, hl⟩ := xb hl
    refine tx_iald (by decide) dX4_roomOf_26 ev3 ?_
    refine tx_aload_n dX4_roomOf_27 rfl rfl ?_
    refine tx_getA gF_X4_66 dX4_roomOf_28 (by decide) ?_
    refine tx_bipush (v := 27) dX4_roomOf_31 (by decide) ?_
    refine tx_iload_n dX4_roomOf_33 rfl ?_
    refine tx_iadd dX4_roomOf_34 ?_
    obtain ⟨v4, ev4, hl⟩ := xb hl
    refine tx_iald (by decide) dX4_roomOf_35 ev4 ?_
    refine tx_isub dX4_roomOf_36 ?_
    refine tx_iconst (v := 0) dX4_roomOf_37 rfl ?_
    refine tx_ldcw (v := 99999) q2000 dX4_roomOf_38 ?_
    obtain ⟨r5, er5, hl⟩ := xb hl
    refine tx_callS (T_bounded er5) lS_X4_306 C_X4_bounded dX4_roomOf_41 rfl (by decide) (Nat.le_of_ble_eq_true rfl) ?_
    cases hl
    exact tx_iret dX4_roomOf_44 rfl rfl ⟨rfl, rfl⟩
  · rw [if_pos c2] at hl
    refine tx_iconst (v := 0) dX4_roomOf_15 rfl ?_
    refine tx_goto (tgt := 44) dX4_roomOf_16 (by decide) ?_
    cases hl
    exact tx_iret dX4_roomOf_44 rfl rfl ⟨rfl, rfl⟩
def f_off (x0 : Int32) (x1 : Int32) : Option (Int32) := if x0 ≥ x1 then some (x0 - x1) else some (x1 - x0)
set_option maxHeartbeats 4000000 in
theorem T_off {l : Launch} {E : XEnv} {m : Nat} {ad : Nat → Nat} {x0 : Int32} {x1 : Int32} {S : TS} {r : Int32} (hl : f_off x0 x1 = some r) : TM l E mX4_off 1 m ad [.int x0, .int x1] S (some (.int r)) S := by
  unfold f_off at hl
  refine tm_of (by decide +kernel) rfl (Nat.le_of_ble_eq_true rfl) fun h0 => ?_
  refine tx_iload_n dX4_off_0 rfl ?_
  refine tx_iload_n dX4_off_1 rfl ?_
  refine tx_icmp_ge (tgt := 11) dX4_off_2 (by decide) (fun c1 => ?_) (fun c1 => ?_)
  · rw [if_pos c1] at hl
    refine tx_iload_n dX4_off_11 rfl ?_
    refine tx_iload_n dX4_off_12 rfl ?_
    refine tx_isub dX4_off_13 ?_
    cases hl
    exact tx_iret dX4_off_14 rfl rfl ⟨rfl, rfl⟩
  · rw [if_neg c1] at hl
    refine tx_iload_n dX4_off_5 rfl ?_
    refine tx_iload_n dX4_off_6 rfl ?_
    refine tx_isub dX4_off_7 ?_
    refine tx_goto (tgt := 14) dX4_off_8 (by decide) ?_
    cases hl
    exact tx_iret dX4_off_14 rfl rfl ⟨rfl, rfl⟩
def f_nextDoor_L4 (n : Nat) (x1 : Int32) (x2 : Int32) (x3 : Int32) (S : TS) : Option ((Int32 × Int32) ⊕ ((Int32))) := if x3 ≥ (S.1 1) then some (.inr x2) else if x3 = x1 then (some (x3 + 1)).bind fun w3 => some (.inl (x2, w3)) else if x2 = (-1) then (some (x3 + 1)).bind fun w5 => some (.inl (x3, w5)) else (trd S 7 x3).bind fun v6 => (trd S 7 x1).bind fun v7 => (f_off v6 v7).bind fun r8 => (trd S 7 x2).bind fun v9 => (trd S 7 x1).bind fun v10 => (f_off v9 v10).bind fun r11 => if r8 ≥ r11 then (some (x3 + 1)).bind fun w13 => some (.inl (x2, w13)) else (some (x3 + 1)).bind fun w14 => some (.inl (x3, w14))
abbrev K_nextDoor_L4 (l : Launch) (E : XEnv) (m : Nat) (ad : Nat → Nat) (h0 : XH) (R : Option Value → TS → Prop) (S : TS) (x1 : Int32) (o : (Int32)) : Prop := match o with
  | e => TX l E mX4_nextDoor 2 63 [(0, .ref m), (2, .int e)] [] m ad h0 S R
def f_nextDoor (n : Nat) (x1 : Int32) (S : TS) : Option (Int32) := (xloop (fun s => f_nextDoor_L4 n x1 s.1 s.2 S) n ((-1), 0)).bind fun o15 => some o15
set_option maxHeartbeats 4000000 in
theorem f_nextDoor_L4_s {l : Launch} {E : XEnv} {m : Nat} {ad : Nat → Nat} {h0 : XH} {R : Option Value → TS → Prop} {n : Nat} {x1 : Int32} {x2 : Int32} {x3 : Int32} {S : TS} {o : (Int32 × Int32) ⊕ ((Int32))} (hl : f_nextDoor_L4 n x1 x2 x3 S = some o) (hK : (xk (fun s : Int32 × Int32 => TX l E mX4_nextDoor 2 4 [(0, .ref m), (1, .int x1), (2, .int s.1), (3, .int s.2)] [] m ad h0 S R) (fun r => K_nextDoor_L4 l E m ad h0 R S x1 r) o)) : TX l E mX4_nextDoor 2 4 [(0, .ref m), (1, .int x1), (2, .int x2), (3, .int x3)] [] m ad h0 S R := by
  unfold f_nextDoor_L4 at hl
  refine tx_iload_n dX4_nextDoor_4 rfl ?_
  refine tx_aload_n dX4_nextDoor_5 rfl rfl ?_
  refine tx_getI gF_X4_275 dX4_nextDoor_6 (by decide) ?_
  refine tx_icmp_ge (tgt := 63) dX4_nextDoor_9 (by decide) (fun c1 => ?_) (fun c1 => ?_)
  · rw [if_pos c1] at hl
    cases hl
    exact tx_lsK hK ⟨rfl, rfl, trivial⟩
  · rw [if_neg c1] at hl
    refine tx_iload_n dX4_nextDoor_12 rfl ?_
    refine tx_iload_n dX4_nextDoor_13 rfl ?_
    refine tx_icmp_eq (tgt := 57) dX4_nextDoor_14 (by decide) (fun c2 => ?_) (fun c2 => ?_)
    · rw [if_pos c2] at hl
      obtain ⟨w3, ew3, hl⟩ := xb hl
      refine tx_iinc dX4_nextDoor_57 rfl (by decide) (Option.some.inj ew3) ?_
      refine tx_goto (tgt := 4) dX4_nextDoor_60 (by decide) ?_
      cases hl
      exact tx_lsK hK ⟨rfl, rfl, rfl, rfl, trivial⟩
    · rw [if_neg c2] at hl
      refine tx_iload_n dX4_nextDoor_17 rfl ?_
      refine tx_iconst (v := (-1)) dX4_nextDoor_18 rfl ?_
      refine tx_icmp_eq (tgt := 55) dX4_nextDoor_19 (by decide) (fun c4 => ?_) (fun c4 => ?_)
      · rw [if_pos c4] at hl
        refine tx_iload_n dX4_nextDoor_55 rfl ?_
        refine tx_istore_n dX4_nextDoor_56 (by decide) ?_
        obtain ⟨w5, ew5, hl⟩ := xb hl
        refine tx_iinc dX4_nextDoor_57 rfl (by decide) (Option.some.inj ew5) ?_
        refine tx_goto (tgt := 4) dX4_nextDoor_60 (by decide) ?_
        cases hl
        exact tx_lsK hK ⟨rfl, rfl, rfl, rfl, trivial⟩
      · rw [if_neg c4] at hl
        refine tx_aload_n dX4_nextDoor_22 rfl rfl ?_
        refine tx_getA gF_X4_20 dX4_nextDoor_23 (by decide) ?_
        refine tx_iload_n dX4_nextDoor_26 rfl ?_
        obtain ⟨v6, ev6, hl⟩ := xb hl
        refine tx_iald (by decide) dX4_nextDoor_27 ev6 ?_
        refine tx_aload_n dX4_nextDoor_28 rfl rfl ?_
        refine tx_getA gF_X4_20 dX4_nextDoor_29 (by decide) ?_
        refine tx_iload_n dX4_nextDoor_32 rfl ?_
        obtain ⟨v7, ev7, hl⟩ := xb hl
        refine tx_iald (by decide) dX4_nextDoor_33 ev7 ?_
        obtain ⟨r8, er8, hl⟩ := xb hl
        refine tx_callS (T_off er8) lS_X4_364 C_X4_off dX4_nextDoor_34 rfl (by decide) (Nat.le_of_ble_eq_true rfl) ?_
        refine tx_aload_n dX4_nextDoor_37 rfl rfl ?_
        refine tx_getA gF_X4_20 dX4_nextDoor_38 (by decide) ?_
        refine tx_iload_n dX4_nextDoor_41 rfl ?_
        obtain ⟨v9, ev9, hl⟩ := xb hl
        refine tx_iald (by decide) dX4_nextDoor_42 ev9 ?_
        refine tx_aload_n dX4_nextDoor_43 rfl rfl ?_
        refine tx_getA gF_X4_20 dX4_nextDoor_44 (by decide) ?_
        refine tx_iload_n dX4_nextDoor_47 rfl ?_
        obtain ⟨v10, ev10, hl⟩ := xb hl
        refine tx_iald (by decide) dX4_nextDoor_48 ev10 ?_
        obtain ⟨r11, er11, hl⟩ := xb hl
        refine tx_callS (T_off er11) lS_X4_364 C_X4_off dX4_nextDoor_49 rfl (by decide) (Nat.le_of_ble_eq_true rfl) ?_
        refine tx_icmp_ge (tgt := 57) dX4_nextDoor_52 (by decide) (fun c12 => ?_) (fun c12 => ?_)
        · rw [if_pos c12] at hl
          obtain ⟨w13, ew13, hl⟩ := xb hl
          refine tx_iinc dX4_nextDoor_57 rfl (by decide) (Option.some.inj ew13) ?_
          refine tx_goto (tgt := 4) dX4_nextDoor_60 (by decide) ?_
          cases hl
          exact tx_lsK hK ⟨rfl, rfl, rfl, rfl, trivial⟩
        · rw [if_neg c12] at hl
          refine tx_iload_n dX4_nextDoor_55 rfl ?_
          refine tx_istore_n dX4_nextDoor_56 (by decide) ?_
          obtain ⟨w14, ew14, hl⟩ := xb hl
          refine tx_iinc dX4_nextDoor_57 rfl (by decide) (Option.some.inj ew14) ?_
          refine tx_goto (tgt := 4) dX4_nextDoor_60 (by decide) ?_
          cases hl
          exact tx_lsK hK ⟨rfl, rfl, rfl, rfl, trivial⟩
set_option maxHeartbeats 4000000 in
theorem f_nextDoor_L4_ok {l : Launch} {E : XEnv} {m : Nat} {ad : Nat → Nat} {h0 : XH} {R : Option Value → TS → Prop} {n : Nat} {x1 : Int32} {S : TS} {s : Int32 × Int32} {o : (Int32)} (hl : xloop (fun s => f_nextDoor_L4 n x1 s.1 s.2 S) n s = some o) (hK : K_nextDoor_L4 l E m ad h0 R S x1 o) : TX l E mX4_nextDoor 2 4 [(0, .ref m), (1, .int x1), (2, .int s.1), (3, .int s.2)] [] m ad h0 S R :=
  xloop_of (fun s : Int32 × Int32 => TX l E mX4_nextDoor 2 4 [(0, .ref m), (1, .int x1), (2, .int s.1), (3, .int s.2)] [] m ad h0 S R) (fun r => K_nextDoor_L4 l E m ad h0 R S x1 r) (fun s o hl hk => f_nextDoor_L4_s (S := S) (o := o) hl hk) n s o hl hK
set_option maxHeartbeats 4000000 in
theorem T_nextDoor {l : Launch} {E : XEnv} {m : Nat} {ad : Nat → Nat} {n : Nat} {x1 : Int32} {S : TS} {r : Int32} (hl : f_nextDoor n x1 S = some r) : TM l E mX4_nextDoor 2 m ad [.ref m, .int x1] S (some (.int r)) S := by
  unfold f_nextDoor at hl
  refine tm_of (by decide +kernel) rfl (Nat.le_of_ble_eq_true rfl) fun h0 => ?_
  refine tx_iconst (v := (-1)) dX4_nextDoor_0 rfl ?_
  refine tx_istore_n dX4_nextDoor_1 (by decide) ?_
  refine tx_iconst (v := 0) dX4_nextDoor_2 rfl ?_
  refine tx_istore_n dX4_nextDoor_3 (by decide) ?_
  obtain ⟨o15, eo15, hl⟩ := xb hl
  refine tx_lsK (f_nextDoor_L4_ok (S := S) (s := ((-1), 0)) eo15 ?_) ⟨rfl, rfl, rfl, rfl, trivial⟩
  refine tx_iload_n dX4_nextDoor_63 rfl ?_
  cases hl
  exact tx_iret dX4_nextDoor_64 rfl rfl ⟨rfl, rfl⟩
def f_house (n : Nat) (x1 : Int32) (x2 : Int32) (S : TS) : Option (Int32 × TS) := (some (tpF S 0 0)).bind fun S1 => (f_isHouse x1 S1).bind fun r2 => if r2.1 = 0 then some (0, r2.2) else (f_isWhat x2 7 r2.2).bind fun r4 => if r4.1 = 0 then some (0, r4.2) else if x2.toInt < 0 ∨ 6 < x2.toInt then (f_nextDoor n x1 r4.2).bind fun r6 => some (r6, r4.2) else if x2 = 0 then (trd r4.2 41 ((3 : Int32) + x1)).bind fun v9 => some (v9, r4.2) else if x2 = 1 then (trd r4.2 6 x1).bind fun v11 => some (v11, r4.2) else if x2 = 2 then (trd r4.2 7 x1).bind fun v13 => some (v13, r4.2) else if x2 = 3 then (trd r4.2 41 ((11 : Int32) + x1)).bind fun v15 => some (v15, r4.2) else if x2 = 4 then (trd r4.2 41 ((19 : Int32) + x1)).bind fun v17 => some (v17, r4.2) else if x2 = 5 then (trd r4.2 41 1).bind fun v19 => some (((v19 >>> ((x1 : Int32) &&& 31)) &&& 1), r4.2) else if x2 = 6 then (f_roomOf x1 r4.2).bind fun r21 => some (r21, r4.2) else none
set_option maxHeartbeats 4000000 in
theorem T_house {l : Launch} {E : XEnv} {m : Nat} {ad : Nat → Nat} {n : Nat} {x1 : Int32} {x2 : Int32} {S : TS} {r : Int32 × TS} (hl : f_house n x1 x2 S = some r) : TM l E mX4_house 3 m ad [.ref m, .int x1, .int x2] S (some (.int r.1)) r.2 := by
  unfold f_house at hl
  refine tm_of (by decide +kernel) rfl (Nat.le_of_ble_eq_true rfl) fun h0 => ?_
  refine tx_aload_n dX4_house_0 rfl rfl ?_
  refine tx_iconst (v := 0) dX4_house_1 rfl ?_
  obtain ⟨S1, eS1, hl⟩ := xb hl
  refine tx_putI pF_X4_111 dX4_house_2 (by decide) rfl rfl (Option.some.inj eS1) ?_
  refine tx_aload_n dX4_house_5 rfl rfl ?_
  refine tx_iload_n dX4_house_6 rfl ?_
  obtain ⟨r2, er2, hl⟩ := xb hl
  refine tx_callV (T_isHouse er2) lV_X4_367 C_X4_isHouse rfl dX4_house_7 rfl (by decide) (Nat.le_of_ble_eq_true rfl) ?_
  refine tx_if_eq (tgt := 23) dX4_house_10 (by decide) (fun c3 => ?_) (fun c3 => ?_)
  · rw [if_pos c3] at hl
    refine tx_iconst (v := 0) dX4_house_23 rfl ?_
    cases hl
    exact tx_iret dX4_house_24 rfl rfl ⟨rfl, rfl⟩
  · rw [if_neg c3] at hl
    refine tx_aload_n dX4_house_13 rfl rfl ?_
    refine tx_iload_n dX4_house_14 rfl ?_
    refine tx_bipush (v := 7) dX4_house_15 (by decide) ?_
    obtain ⟨r4, er4, hl⟩ := xb hl
    refine tx_callV (T_isWhat er4) lV_X4_370 C_X4_isWhat rfl dX4_house_17 rfl (by decide) (Nat.le_of_ble_eq_true rfl) ?_
    refine tx_if_ne (tgt := 25) dX4_house_20 (by decide) (fun c5 => ?_) (fun c5 => ?_)
    · rw [if_neg c5] at hl
      refine tx_iload_n dX4_house_25 rfl ?_
      by_cases c7 : x2.toInt < 0 ∨ 6 < x2.toInt
      · rw [if_pos c7] at hl
        refine tx_tableOut (tgt := 128) dX4_house_26 c7 (by decide) ?_
        refine tx_aload_n dX4_house_128 rfl rfl ?_
        refine tx_iload_n dX4_house_129 rfl ?_
        obtain ⟨r6, er6, hl⟩ := xb hl
        refine tx_callV (T_nextDoor er6) lV_X4_376 C_X4_nextDoor rfl dX4_house_130 rfl (by decide) (Nat.le_of_ble_eq_true rfl) ?_
        cases hl
        exact tx_iret dX4_house_133 rfl rfl ⟨rfl, rfl⟩
      rw [if_neg c7] at hl
      by_cases k8 : x2 = 0
      · rw [if_pos k8] at hl
        refine tx_tableIn (off := 42) (tgt := 68) dX4_house_26 (by rw [k8]; decide) (by rw [k8]; decide) (by rw [k8]; rfl) (by decide) ?_
        refine tx_aload_n dX4_house_68 rfl rfl ?_
        refine tx_getA gF_X4_66 dX4_house_69 (by decide) ?_
        refine tx_iconst (v := 3) dX4_house_72 rfl ?_
        refine tx_iload_n dX4_house_73 rfl ?_
        refine tx_iadd dX4_house_74 ?_
        obtain ⟨v9, ev9, hl⟩ := xb hl
        refine tx_iald (by decide) dX4_house_75 ev9 ?_
        cases hl
        exact tx_iret dX4_house_76 rfl rfl ⟨rfl, rfl⟩
      rw [if_neg k8] at hl
      by_cases k10 : x2 = 1
      · rw [if_pos k10] at hl
        refine tx_tableIn (off := 51) (tgt := 77) dX4_house_26 (by rw [k10]; decide) (by rw [k10]; decide) (by rw [k10]; rfl) (by decide) ?_
        refine tx_aload_n dX4_house_77 rfl rfl ?_
        refine tx_getA gF_X4_16 dX4_house_78 (by decide) ?_
        refine tx_iload_n dX4_house_81 rfl ?_
        obtain ⟨v11, ev11, hl⟩ := xb hl
        refine tx_iald (by decide) dX4_house_82 ev11 ?_
        cases hl
        exact tx_iret dX4_house_83 rfl rfl ⟨rfl, rfl⟩
      rw [if_neg k10] at hl
      by_cases k12 : x2 = 2
      · rw [if_pos k12] at hl
        refine tx_tableIn (off := 58) (tgt := 84) dX4_house_26 (by rw [k12]; decide) (by rw [k12]; decide) (by rw [k12]; rfl) (by decide) ?_
        refine tx_aload_n dX4_house_84 rfl rfl ?_
        refine tx_getA gF_X4_20 dX4_house_85 (by decide) ?_
        refine tx_iload_n dX4_house_88 rfl ?_
        obtain ⟨v13, ev13, hl⟩ := xb hl
        refine tx_iald (by decide) dX4_house_89 ev13 ?_
        cases hl
        exact tx_iret dX4_house_90 rfl rfl ⟨rfl, rfl⟩
      rw [if_neg k12] at hl
      by_cases k14 : x2 = 3
      · rw [if_pos k14] at hl
        refine tx_tableIn (off := 65) (tgt := 91) dX4_house_26 (by rw [k14]; decide) (by rw [k14]; decide) (by rw [k14]; rfl) (by decide) ?_
        refine tx_aload_n dX4_house_91 rfl rfl ?_
        refine tx_getA gF_X4_66 dX4_house_92 (by decide) ?_
        refine tx_bipush (v := 11) dX4_house_95 (by decide) ?_
        refine tx_iload_n dX4_house_97 rfl ?_
        refine tx_iadd dX4_house_98 ?_
        obtain ⟨v15, ev15, hl⟩ := xb hl
        refine tx_iald (by decide) dX4_house_99 ev15 ?_
        cases hl
        exact tx_iret dX4_house_100 rfl rfl ⟨rfl, rfl⟩
      rw [if_neg k14] at hl
      by_cases k16 : x2 = 4
      · rw [if_pos k16] at hl
        refine tx_tableIn (off := 75) (tgt := 101) dX4_house_26 (by rw [k16]; decide) (by rw [k16]; decide) (by rw [k16]; rfl) (by decide) ?_
        refine tx_aload_n dX4_house_101 rfl rfl ?_
        refine tx_getA gF_X4_66 dX4_house_102 (by decide) ?_
        refine tx_bipush (v := 19) dX4_house_105 (by decide) ?_
        refine tx_iload_n dX4_house_107 rfl ?_
        refine tx_iadd dX4_house_108 ?_
        obtain ⟨v17, ev17, hl⟩ := xb hl
        refine tx_iald (by decide) dX4_house_109 ev17 ?_
        cases hl
        exact tx_iret dX4_house_110 rfl rfl ⟨rfl, rfl⟩
      rw [if_neg k16] at hl
      by_cases k18 : x2 = 5
      · rw [if_pos k18] at hl
        refine tx_tableIn (off := 85) (tgt := 111) dX4_house_26 (by rw [k18]; decide) (by rw [k18]; decide) (by rw [k18]; rfl) (by decide) ?_
        refine tx_aload_n dX4_house_111 rfl rfl ?_
        refine tx_getA gF_X4_66 dX4_house_112 (by decide) ?_
        refine tx_iconst (v := 1) dX4_house_115 rfl ?_
        obtain ⟨v19, ev19, hl⟩ := xb hl
        refine tx_iald (by decide) dX4_house_116 ev19 ?_
        refine tx_iload_n dX4_house_117 rfl ?_
        refine tx_ishr dX4_house_118 ?_
        refine tx_iconst (v := 1) dX4_house_119 rfl ?_
        refine tx_iand dX4_house_120 ?_
        cases hl
        exact tx_iret dX4_house_121 rfl rfl ⟨rfl, rfl⟩
      rw [if_neg k18] at hl
      by_cases k20 : x2 = 6
      · rw [if_pos k20] at hl
        refine tx_tableIn (off := 96) (tgt := 122) dX4_house_26 (by rw [k20]; decide) (by rw [k20]; decide) (by rw [k20]; rfl) (by decide) ?_
        refine tx_aload_n dX4_house_122 rfl rfl ?_
        refine tx_iload_n dX4_house_123 rfl ?_
        obtain ⟨r21, er21, hl⟩ := xb hl
        refine tx_callV (T_roomOf er21) lV_X4_373 C_X4_roomOf rfl dX4_house_124 rfl (by decide) (Nat.le_of_ble_eq_true rfl) ?_
        cases hl
        exact tx_iret dX4_house_127 rfl rfl ⟨rfl, rfl⟩
      rw [if_neg k20] at hl
      cases hl
    · rw [if_pos c5] at hl
      refine tx_iconst (v := 0) dX4_house_23 rfl ?_
      cases hl
      exact tx_iret dX4_house_24 rfl rfl ⟨rfl, rfl⟩
def f_isPerson (x1 : Int32) (S : TS) : Option (Int32 × TS) := if x1 < 0 then (f_right 0 1 S).bind fun r2 => (tz r2.1).bind fun z3 => some (z3, r2.2) else if x1 ≥ (S.1 2) then (f_right 0 1 S).bind fun r5 => (tz r5.1).bind fun z6 => some (z6, r5.2) else (f_right 1 1 S).bind fun r7 => (tz r7.1).bind fun z8 => some (z8, r7.2)
set_option maxHeartbeats 4000000 in
theorem T_isPerson {l : Launch} {E : XEnv} {m : Nat} {ad : Nat → Nat} {x1 : Int32} {S : TS} {r : Int32 × TS} (hl : f_isPerson x1 S = some r) : TM l E mX4_isPerson 2 m ad [.ref m, .int x1] S (some (.int r.1)) r.2 := by
  unfold f_isPerson at hl
  refine tm_of (by decide +kernel) rfl (Nat.le_of_ble_eq_true rfl) fun h0 => ?_
  refine tx_aload_n dX4_isPerson_0 rfl rfl ?_
  refine tx_iload_n dX4_isPerson_1 rfl ?_
  refine tx_if_lt (tgt := 17) dX4_isPerson_2 (by decide) (fun c1 => ?_) (fun c1 => ?_)
  · rw [if_pos c1] at hl
    refine tx_iconst (v := 0) dX4_isPerson_17 rfl ?_
    refine tx_iconst (v := 1) dX4_isPerson_18 rfl ?_
    obtain ⟨r2, er2, hl⟩ := xb hl
    refine tx_callV (T_right er2) lV_X4_268 C_X4_right rfl dX4_isPerson_19 rfl (by decide) (Nat.le_of_ble_eq_true rfl) ?_
    obtain ⟨z3, ez3, hl⟩ := xb hl
    refine tx_top (tz_eq ez3).1 ?_
    cases hl
    exact tx_iret dX4_isPerson_22 rfl (tz_eq ez3).2 ⟨rfl, rfl⟩
  · rw [if_neg c1] at hl
    refine tx_iload_n dX4_isPerson_5 rfl ?_
    refine tx_aload_n dX4_isPerson_6 rfl rfl ?_
    refine tx_getI gF_X4_278 dX4_isPerson_7 (by decide) ?_
    refine tx_icmp_ge (tgt := 17) dX4_isPerson_10 (by decide) (fun c4 => ?_) (fun c4 => ?_)
    · rw [if_pos c4] at hl
      refine tx_iconst (v := 0) dX4_isPerson_17 rfl ?_
      refine tx_iconst (v := 1) dX4_isPerson_18 rfl ?_
      obtain ⟨r5, er5, hl⟩ := xb hl
      refine tx_callV (T_right er5) lV_X4_268 C_X4_right rfl dX4_isPerson_19 rfl (by decide) (Nat.le_of_ble_eq_true rfl) ?_
      obtain ⟨z6, ez6, hl⟩ := xb hl
      refine tx_top (tz_eq ez6).1 ?_
      cases hl
      exact tx_iret dX4_isPerson_22 rfl (tz_eq ez6).2 ⟨rfl, rfl⟩
    · rw [if_neg c4] at hl
      refine tx_iconst (v := 1) dX4_isPerson_13 rfl ?_
      refine tx_goto (tgt := 18) dX4_isPerson_14 (by decide) ?_
      refine tx_iconst (v := 1) dX4_isPerson_18 rfl ?_
      obtain ⟨r7, er7, hl⟩ := xb hl
      refine tx_callV (T_right er7) lV_X4_268 C_X4_right rfl dX4_isPerson_19 rfl (by decide) (Nat.le_of_ble_eq_true rfl) ?_
      obtain ⟨z8, ez8, hl⟩ := xb hl
      refine tx_top (tz_eq ez8).1 ?_
      cases hl
      exact tx_iret dX4_isPerson_22 rfl (tz_eq ez8).2 ⟨rfl, rfl⟩
def f_person (n : Nat) (x1 : Int32) (x2 : Int32) (S : TS) : Option (Int32 × TS) := (some (tpF S 0 0)).bind fun S1 => (f_isPerson x1 S1).bind fun r2 => if r2.1 = 0 then some (0, r2.2) else (f_isWhat x2 4 r2.2).bind fun r4 => if r4.1 = 0 then some (0, r4.2) else if x2 = 0 then (trd r4.2 41 ((27 : Int32) + x1)).bind fun v14 => some (v14, r4.2) else if x2 = 1 then (trd r4.2 8 x1).bind fun v13 => some (v13, r4.2) else if x2 = 2 then (f_houseOf n 0 x1 r4.2).bind fun r12 => some (r12, r4.2) else if x2 = 3 then (trd r4.2 41 ((35 : Int32) + x1)).bind fun v11 => some (v11, r4.2) else (f_tightNow n x1 r4.2).bind fun r10 => some (r10, r4.2)
set_option maxHeartbeats 4000000 in
theorem T_person {l : Launch} {E : XEnv} {m : Nat} {ad : Nat → Nat} {n : Nat} {x1 : Int32} {x2 : Int32} {S : TS} {r : Int32 × TS} (hl : f_person n x1 x2 S = some r) : TM l E mX4_person 4 m ad [.ref m, .int x1, .int x2] S (some (.int r.1)) r.2 := by
  unfold f_person at hl
  refine tm_of (by decide +kernel) rfl (Nat.le_of_ble_eq_true rfl) fun h0 => ?_
  refine tx_aload_n dX4_person_0 rfl rfl ?_
  refine tx_iconst (v := 0) dX4_person_1 rfl ?_
  obtain ⟨S1, eS1, hl⟩ := xb hl
  refine tx_putI pF_X4_111 dX4_person_2 (by decide) rfl rfl (Option.some.inj eS1) ?_
  refine tx_aload_n dX4_person_5 rfl rfl ?_
  refine tx_iload_n dX4_person_6 rfl ?_
  obtain ⟨r2, er2, hl⟩ := xb hl
  refine tx_callV (T_isPerson er2) lV_X4_379 C_X4_isPerson rfl dX4_person_7 rfl (by decide) (Nat.le_of_ble_eq_true rfl) ?_
  refine tx_if_eq (tgt := 22) dX4_person_10 (by decide) (fun c3 => ?_) (fun c3 => ?_)
  · rw [if_pos c3] at hl
    refine tx_iconst (v := 0) dX4_person_22 rfl ?_
    cases hl
    exact tx_iret dX4_person_23 rfl rfl ⟨rfl, rfl⟩
  · rw [if_neg c3] at hl
    refine tx_aload_n dX4_person_13 rfl rfl ?_
    refine tx_iload_n dX4_person_14 rfl ?_
    refine tx_iconst (v := 4) dX4_person_15 rfl ?_
    obtain ⟨r4, er4, hl⟩ := xb hl
    refine tx_callV (T_isWhat er4) lV_X4_370 C_X4_isWhat rfl dX4_person_16 rfl (by decide) (Nat.le_of_ble_eq_true rfl) ?_
    refine tx_if_ne (tgt := 24) dX4_person_19 (by decide) (fun c5 => ?_) (fun c5 => ?_)
    · rw [if_neg c5] at hl
      refine tx_iload_n dX4_person_24 rfl ?_
      refine tx_if_ne (tgt := 40) dX4_person_25 (by decide) (fun c6 => ?_) (fun c6 => ?_)
      · rw [if_neg c6] at hl
        refine tx_iload_n dX4_person_40 rfl ?_
        refine tx_iconst (v := 1) dX4_person_41 rfl ?_
        refine tx_icmp_ne (tgt := 54) dX4_person_42 (by decide) (fun c7 => ?_) (fun c7 => ?_)
        · rw [if_neg c7] at hl
          refine tx_iload_n dX4_person_54 rfl ?_
          refine tx_iconst (v := 2) dX4_person_55 rfl ?_
          refine tx_icmp_ne (tgt := 68) dX4_person_56 (by decide) (fun c8 => ?_) (fun c8 => ?_)
          · rw [if_neg c8] at hl
            refine tx_iload_n dX4_person_68 rfl ?_
            refine tx_iconst (v := 3) dX4_person_69 rfl ?_
            refine tx_icmp_ne (tgt := 85) dX4_person_70 (by decide) (fun c9 => ?_) (fun c9 => ?_)
            · rw [if_neg c9] at hl
              refine tx_aload_n dX4_person_85 rfl rfl ?_
              refine tx_iload_n dX4_person_86 rfl ?_
              obtain ⟨r10, er10, hl⟩ := xb hl
              refine tx_callV (T_tightNow er10) lV_X4_342 C_X4_tightNow rfl dX4_person_87 rfl (by decide) (Nat.le_of_ble_eq_true rfl) ?_
              cases hl
              exact tx_iret dX4_person_90 rfl rfl ⟨rfl, rfl⟩
            · rw [if_pos c9] at hl
              refine tx_aload_n dX4_person_73 rfl rfl ?_
              refine tx_getA gF_X4_66 dX4_person_74 (by decide) ?_
              refine tx_bipush (v := 35) dX4_person_77 (by decide) ?_
              refine tx_iload_n dX4_person_79 rfl ?_
              refine tx_iadd dX4_person_80 ?_
              obtain ⟨v11, ev11, hl⟩ := xb hl
              refine tx_iald (by decide) dX4_person_81 ev11 ?_
              refine tx_goto (tgt := 90) dX4_person_82 (by decide) ?_
              cases hl
              exact tx_iret dX4_person_90 rfl rfl ⟨rfl, rfl⟩
          · rw [if_pos c8] at hl
            refine tx_aload_n dX4_person_59 rfl rfl ?_
            refine tx_iconst (v := 0) dX4_person_60 rfl ?_
            refine tx_iload_n dX4_person_61 rfl ?_
            obtain ⟨r12, er12, hl⟩ := xb hl
            refine tx_callV (T_houseOf er12) lV_X4_339 C_X4_houseOf rfl dX4_person_62 rfl (by decide) (Nat.le_of_ble_eq_true rfl) ?_
            refine tx_goto (tgt := 90) dX4_person_65 (by decide) ?_
            cases hl
            exact tx_iret dX4_person_90 rfl rfl ⟨rfl, rfl⟩
        · rw [if_pos c7] at hl
          refine tx_aload_n dX4_person_45 rfl rfl ?_
          refine tx_getA gF_X4_23 dX4_person_46 (by decide) ?_
          refine tx_iload_n dX4_person_49 rfl ?_
          obtain ⟨v13, ev13, hl⟩ := xb hl
          refine tx_iald (by decide) dX4_person_50 ev13 ?_
          refine tx_goto (tgt := 90) dX4_person_51 (by decide) ?_
          cases hl
          exact tx_iret dX4_person_90 rfl rfl ⟨rfl, rfl⟩
      · rw [if_pos c6] at hl
        refine tx_aload_n dX4_person_28 rfl rfl ?_
        refine tx_getA gF_X4_66 dX4_person_29 (by decide) ?_
        refine tx_bipush (v := 27) dX4_person_32 (by decide) ?_
        refine tx_iload_n dX4_person_34 rfl ?_
        refine tx_iadd dX4_person_35 ?_
        obtain ⟨v14, ev14, hl⟩ := xb hl
        refine tx_iald (by decide) dX4_person_36 ev14 ?_
        refine tx_goto (tgt := 90) dX4_person_37 (by decide) ?_
        cases hl
        exact tx_iret dX4_person_90 rfl rfl ⟨rfl, rfl⟩
    · rw [if_pos c5] at hl
      refine tx_iconst (v := 0) dX4_person_22 rfl ?_
      cases hl
      exact tx_iret dX4_person_23 rfl rfl ⟨rfl, rfl⟩
def f_eases (n : Nat) (x1 : Int32) (x2 : Int32) (S : TS) : Option (Int32 × TS) := (some (tpF S 0 0)).bind fun S1 => (f_isPerson x1 S1).bind fun r2 => if r2.1 = 0 then some (0, r2.2) else (f_isHouse x2 r2.2).bind fun r4 => if r4.1 = 0 then some (0, r4.2) else (f_easesOf n 0 x1 x2 r4.2).bind fun r6 => some (r6.1, r6.2)
set_option maxHeartbeats 4000000 in
theorem T_eases {l : Launch} {E : XEnv} {m : Nat} {ad : Nat → Nat} {n : Nat} {x1 : Int32} {x2 : Int32} {S : TS} {r : Int32 × TS} (hl : f_eases n x1 x2 S = some r) : TM l E mX4_eases 5 m ad [.ref m, .int x1, .int x2] S (some (.int r.1)) r.2 := by
  unfold f_eases at hl
  refine tm_of (by decide +kernel) rfl (Nat.le_of_ble_eq_true rfl) fun h0 => ?_
  refine tx_aload_n dX4_eases_0 rfl rfl ?_
  refine tx_iconst (v := 0) dX4_eases_1 rfl ?_
  obtain ⟨S1, eS1, hl⟩ := xb hl
  refine tx_putI pF_X4_111 dX4_eases_2 (by decide) rfl rfl (Option.some.inj eS1) ?_
  refine tx_aload_n dX4_eases_5 rfl rfl ?_
  refine tx_iload_n dX4_eases_6 rfl ?_
  obtain ⟨r2, er2, hl⟩ := xb hl
  refine tx_callV (T_isPerson er2) lV_X4_379 C_X4_isPerson rfl dX4_eases_7 rfl (by decide) (Nat.le_of_ble_eq_true rfl) ?_
  refine tx_if_eq (tgt := 31) dX4_eases_10 (by decide) (fun c3 => ?_) (fun c3 => ?_)
  · rw [if_pos c3] at hl
    refine tx_iconst (v := 0) dX4_eases_31 rfl ?_
    cases hl
    exact tx_iret dX4_eases_32 rfl rfl ⟨rfl, rfl⟩
  · rw [if_neg c3] at hl
    refine tx_aload_n dX4_eases_13 rfl rfl ?_
    refine tx_iload_n dX4_eases_14 rfl ?_
    obtain ⟨r4, er4, hl⟩ := xb hl
    refine tx_callV (T_isHouse er4) lV_X4_367 C_X4_isHouse rfl dX4_eases_15 rfl (by decide) (Nat.le_of_ble_eq_true rfl) ?_
    refine tx_if_eq (tgt := 31) dX4_eases_18 (by decide) (fun c5 => ?_) (fun c5 => ?_)
    · rw [if_pos c5] at hl
      refine tx_iconst (v := 0) dX4_eases_31 rfl ?_
      cases hl
      exact tx_iret dX4_eases_32 rfl rfl ⟨rfl, rfl⟩
    · rw [if_neg c5] at hl
      refine tx_aload_n dX4_eases_21 rfl rfl ?_
      refine tx_iconst (v := 0) dX4_eases_22 rfl ?_
      refine tx_iload_n dX4_eases_23 rfl ?_
      refine tx_iload_n dX4_eases_24 rfl ?_
      obtain ⟨r6, er6, hl⟩ := xb hl
      refine tx_callV (T_easesOf er6) lV_X4_326 C_X4_easesOf rfl dX4_eases_25 rfl (by decide) (Nat.le_of_ble_eq_true rfl) ?_
      refine tx_goto (tgt := 32) dX4_eases_28 (by decide) ?_
      cases hl
      exact tx_iret dX4_eases_32 rfl rfl ⟨rfl, rfl⟩
def f_refuses (x1 : Int32) (S : TS) : Option (Int32 × TS) := (trd S 15 x1).bind fun v1 => (twr S 15 x1 (v1 + 1)).bind fun S2 => some ((-1), S2)
set_option maxHeartbeats 4000000 in
theorem T_refuses {l : Launch} {E : XEnv} {m : Nat} {ad : Nat → Nat} {x1 : Int32} {S : TS} {r : Int32 × TS} (hl : f_refuses x1 S = some r) : TM l E mX4_refuses 1 m ad [.ref m, .int x1] S (some (.int r.1)) r.2 := by
  unfold f_refuses at hl
  refine tm_of (by decide +kernel) rfl (Nat.le_of_ble_eq_true rfl) fun h0 => ?_
  refine tx_aload_n dX4_refuses_0 rfl rfl ?_
  refine tx_getA gF_X4_38 dX4_refuses_1 (by decide) ?_
  refine tx_iload_n dX4_refuses_4 rfl ?_
  refine tx_dup2 dX4_refuses_5 rfl rfl ?_
  obtain ⟨v1, ev1, hl⟩ := xb hl
  refine tx_iald (by decide) dX4_refuses_6 ev1 ?_
  refine tx_iconst (v := 1) dX4_refuses_7 rfl ?_
  refine tx_iadd dX4_refuses_8 ?_
  obtain ⟨S2, eS2, hl⟩ := xb hl
  refine tx_iast (by decide) dX4_refuses_9 eS2 ?_
  refine tx_iconst (v := (-1)) dX4_refuses_10 rfl ?_
  cases hl
  exact tx_iret dX4_refuses_11 rfl rfl ⟨rfl, rfl⟩
def f_keeps_L52 (n : Nat) (x1 : Int32) (S : TS) : Option ((Int32 × TS) ⊕ ((TS))) := if x1 ≥ 43 then some (.inr S) else (trd S 41 x1).bind fun v3 => (twr S 42 (((43 : Int32) * (S.1 43)) + x1) v3).bind fun S4 => (some (x1 + 1)).bind fun w5 => some (.inl (w5, S4))
abbrev K_keeps_L52 (l : Launch) (E : XEnv) (m : Nat) (ad : Nat → Nat) (h0 : XH) (R : Option Value → TS → Prop) (S : TS)  (o : (TS)) : Prop := match o with
  | e => TX l E mX4_keeps 1 84 [(0, .ref m)] [] m ad h0 e R
def f_keeps_L12 (n : Nat) (x1 : Int32) (S : TS) : Option ((Int32 × TS) ⊕ ((TS))) := if x1 ≥ 1720 then some (.inr S) else (trd S 42 x1).bind fun v9 => (twr S 42 (x1 - 43) v9).bind fun S10 => (some (x1 + 1)).bind fun w11 => some (.inl (w11, S10))
abbrev K_keeps_L12 (l : Launch) (E : XEnv) (m : Nat) (ad : Nat → Nat) (h0 : XH) (R : Option Value → TS → Prop) (S : TS)  (o : (TS)) : Prop := match o with
  | e => TX l E mX4_keeps 1 40 [(0, .ref m)] [] m ad h0 e R
def f_keeps (n : Nat)  (S : TS) : Option (TS) := if (S.1 43) = 40 then (xloop (fun s => f_keeps_L12 n s.1 s.2) n (43, S)).bind fun o12 => (some (tpF o12 43 ((o12.1 43) - 1))).bind fun S13 => (xloop (fun s => f_keeps_L52 n s.1 s.2) n (0, S13)).bind fun o14 => (some (tpF o14 43 ((o14.1 43) + 1))).bind fun S15 => some S15 else (xloop (fun s => f_keeps_L52 n s.1 s.2) n (0, S)).bind fun o6 => (some (tpF o6 43 ((o6.1 43) + 1))).bind fun S7 => some S7
set_option maxHeartbeats 4000000 in
theorem f_keeps_L52_s {l : Launch} {E : XEnv} {m : Nat} {ad : Nat → Nat} {h0 : XH} {R : Option Value → TS → Prop} {n : Nat} {x1 : Int32} {S : TS} {o : (Int32 × TS) ⊕ ((TS))} (hl : f_keeps_L52 n x1 S = some o) (hK : (xk (fun s : Int32 × TS => TX l E mX4_keeps 1 52 [(0, .ref m), (1, .int s.1)] [] m ad h0 s.2 R) (fun r => K_keeps_L52 l E m ad h0 R S r) o)) : TX l E mX4_keeps 1 52 [(0, .ref m), (1, .int x1)] [] m ad h0 S R := by
  unfold f_keeps_L52 at hl
  refine tx_iload_n dX4_keeps_52 rfl ?_
  refine tx_bipush (v := 43) dX4_keeps_53 (by decide) ?_
  refine tx_icmp_ge (tgt := 84) dX4_keeps_55 (by decide) (fun c2 => ?_) (fun c2 => ?_)
  · rw [if_pos c2] at hl
    cases hl
    exact tx_lsK hK ⟨rfl, trivial⟩
  · rw [if_neg c2] at hl
    refine tx_aload_n dX4_keeps_58 rfl rfl ?_
    refine tx_getA gF_X4_69 dX4_keeps_59 (by decide) ?_
    refine tx_bipush (v := 43) dX4_keeps_62 (by decide) ?_
    refine tx_aload_n dX4_keeps_64 rfl rfl ?_
    refine tx_getI gF_X4_288 dX4_keeps_65 (by decide) ?_
    refine tx_imul dX4_keeps_68 ?_
    refine tx_iload_n dX4_keeps_69 rfl ?_
    refine tx_iadd dX4_keeps_70 ?_
    refine tx_aload_n dX4_keeps_71 rfl rfl ?_
    refine tx_getA gF_X4_66 dX4_keeps_72 (by decide) ?_
    refine tx_iload_n dX4_keeps_75 rfl ?_
    obtain ⟨v3, ev3, hl⟩ := xb hl
    refine tx_iald (by decide) dX4_keeps_76 ev3 ?_
    obtain ⟨S4, eS4, hl⟩ := xb hl
    refine tx_iast (by decide) dX4_keeps_77 eS4 ?_
    obtain ⟨w5, ew5, hl⟩ := xb hl
    refine tx_iinc dX4_keeps_78 rfl (by decide) (Option.some.inj ew5) ?_
    refine tx_goto (tgt := 52) dX4_keeps_81 (by decide) ?_
    cases hl
    exact tx_lsK hK ⟨rfl, rfl, trivial⟩
set_option maxHeartbeats 4000000 in
theorem f_keeps_L52_ok {l : Launch} {E : XEnv} {m : Nat} {ad : Nat → Nat} {h0 : XH} {R : Option Value → TS → Prop} {n : Nat}  {S : TS} {s : Int32 × TS} {o : (TS)} (hl : xloop (fun s => f_keeps_L52 n s.1 s.2) n s = some o) (hK : K_keeps_L52 l E m ad h0 R S o) : TX l E mX4_keeps 1 52 [(0, .ref m), (1, .int s.1)] [] m ad h0 s.2 R :=
  xloop_of (fun s : Int32 × TS => TX l E mX4_keeps 1 52 [(0, .ref m), (1, .int s.1)] [] m ad h0 s.2 R) (fun r => K_keeps_L52 l E m ad h0 R S r) (fun s o hl hk => f_keeps_L52_s (S := s.2) (o := o) hl hk) n s o hl hK
set_option maxHeartbeats 4000000 in
theorem f_keeps_L12_s {l : Launch} {E : XEnv} {m : Nat} {ad : Nat → Nat} {h0 : XH} {R : Option Value → TS → Prop} {n : Nat} {x1 : Int32} {S : TS} {o : (Int32 × TS) ⊕ ((TS))} (hl : f_keeps_L12 n x1 S = some o) (hK : (xk (fun s : Int32 × TS => TX l E mX4_keeps 1 12 [(0, .ref m), (1, .int s.1)] [] m ad h0 s.2 R) (fun r => K_keeps_L12 l E m ad h0 R S r) o)) : TX l E mX4_keeps 1 12 [(0, .ref m), (1, .int x1)] [] m ad h0 S R := by
  unfold f_keeps_L12 at hl
  refine tx_iload_n dX4_keeps_12 rfl ?_
  refine tx_sipush (v := 1720) dX4_keeps_13 (by decide) ?_
  refine tx_icmp_ge (tgt := 40) dX4_keeps_16 (by decide) (fun c8 => ?_) (fun c8 => ?_)
  · rw [if_pos c8] at hl
    cases hl
    exact tx_lsK hK ⟨rfl, trivial⟩
  · rw [if_neg c8] at hl
    refine tx_aload_n dX4_keeps_19 rfl rfl ?_
    refine tx_getA gF_X4_69 dX4_keeps_20 (by decide) ?_
    refine tx_iload_n dX4_keeps_23 rfl ?_
    refine tx_bipush (v := 43) dX4_keeps_24 (by decide) ?_
    refine tx_isub dX4_keeps_26 ?_
    refine tx_aload_n dX4_keeps_27 rfl rfl ?_
    refine tx_getA gF_X4_69 dX4_keeps_28 (by decide) ?_
    refine tx_iload_n dX4_keeps_31 rfl ?_
    obtain ⟨v9, ev9, hl⟩ := xb hl
    refine tx_iald (by decide) dX4_keeps_32 ev9 ?_
    obtain ⟨S10, eS10, hl⟩ := xb hl
    refine tx_iast (by decide) dX4_keeps_33 eS10 ?_
    obtain ⟨w11, ew11, hl⟩ := xb hl
    refine tx_iinc dX4_keeps_34 rfl (by decide) (Option.some.inj ew11) ?_
    refine tx_goto (tgt := 12) dX4_keeps_37 (by decide) ?_
    cases hl
    exact tx_lsK hK ⟨rfl, rfl, trivial⟩
set_option maxHeartbeats 4000000 in
theorem f_keeps_L12_ok {l : Launch} {E : XEnv} {m : Nat} {ad : Nat → Nat} {h0 : XH} {R : Option Value → TS → Prop} {n : Nat}  {S : TS} {s : Int32 × TS} {o : (TS)} (hl : xloop (fun s => f_keeps_L12 n s.1 s.2) n s = some o) (hK : K_keeps_L12 l E m ad h0 R S o) : TX l E mX4_keeps 1 12 [(0, .ref m), (1, .int s.1)] [] m ad h0 s.2 R :=
  xloop_of (fun s : Int32 × TS => TX l E mX4_keeps 1 12 [(0, .ref m), (1, .int s.1)] [] m ad h0 s.2 R) (fun r => K_keeps_L12 l E m ad h0 R S r) (fun s o hl hk => f_keeps_L12_s (S := s.2) (o := o) hl hk) n s o hl hK
set_option maxHeartbeats 4000000 in
theorem T_keeps {l : Launch} {E : XEnv} {m : Nat} {ad : Nat → Nat} {n : Nat}  {S : TS} {S' : TS} (hl : f_keeps n  S = some S') : TM l E mX4_keeps 1 m ad [.ref m] S none S' := by
  unfold f_keeps at hl
  refine tm_of (by decide +kernel) rfl (Nat.le_of_ble_eq_true rfl) fun h0 => ?_
  refine tx_aload_n dX4_keeps_0 rfl rfl ?_
  refine tx_getI gF_X4_288 dX4_keeps_1 (by decide) ?_
  refine tx_bipush (v := 40) dX4_keeps_4 (by decide) ?_
  refine tx_icmp_ne (tgt := 50) dX4_keeps_6 (by decide) (fun c1 => ?_) (fun c1 => ?_)
  · rw [if_neg c1] at hl
    refine tx_iconst (v := 0) dX4_keeps_50 rfl ?_
    refine tx_istore_n dX4_keeps_51 (by decide) ?_
    obtain ⟨o6, eo6, hl⟩ := xb hl
    refine tx_lsK (f_keeps_L52_ok (S := S) (s := (0, S)) eo6 ?_) ⟨rfl, rfl, trivial⟩
    refine tx_aload_n dX4_keeps_84 rfl rfl ?_
    refine tx_dup dX4_keeps_85 rfl ?_
    refine tx_getI gF_X4_288 dX4_keeps_86 (by decide) ?_
    refine tx_iconst (v := 1) dX4_keeps_89 rfl ?_
    refine tx_iadd dX4_keeps_90 ?_
    obtain ⟨S7, eS7, hl⟩ := xb hl
    refine tx_putI pF_X4_288 dX4_keeps_91 (by decide) rfl rfl (Option.some.inj eS7) ?_
    cases hl
    exact tx_vret dX4_keeps_94 rfl ⟨rfl, rfl⟩
  · rw [if_pos c1] at hl
    refine tx_bipush (v := 43) dX4_keeps_9 (by decide) ?_
    refine tx_istore_n dX4_keeps_11 (by decide) ?_
    obtain ⟨o12, eo12, hl⟩ := xb hl
    refine tx_lsK (f_keeps_L12_ok (S := S) (s := (43, S)) eo12 ?_) ⟨rfl, rfl, trivial⟩
    refine tx_aload_n dX4_keeps_40 rfl rfl ?_
    refine tx_dup dX4_keeps_41 rfl ?_
    refine tx_getI gF_X4_288 dX4_keeps_42 (by decide) ?_
    refine tx_iconst (v := 1) dX4_keeps_45 rfl ?_
    refine tx_isub dX4_keeps_46 ?_
    obtain ⟨S13, eS13, hl⟩ := xb hl
    refine tx_putI pF_X4_288 dX4_keeps_47 (by decide) rfl rfl (Option.some.inj eS13) ?_
    refine tx_iconst (v := 0) dX4_keeps_50 rfl ?_
    refine tx_istore_n dX4_keeps_51 (by decide) ?_
    obtain ⟨o14, eo14, hl⟩ := xb hl
    refine tx_lsK (f_keeps_L52_ok (S := S13) (s := (0, S13)) eo14 ?_) ⟨rfl, rfl, trivial⟩
    refine tx_aload_n dX4_keeps_84 rfl rfl ?_
    refine tx_dup dX4_keeps_85 rfl ?_
    refine tx_getI gF_X4_288 dX4_keeps_86 (by decide) ?_
    refine tx_iconst (v := 1) dX4_keeps_89 rfl ?_
    refine tx_iadd dX4_keeps_90 ?_
    obtain ⟨S15, eS15, hl⟩ := xb hl
    refine tx_putI pF_X4_288 dX4_keeps_91 (by decide) rfl rfl (Option.some.inj eS15) ?_
    cases hl
    exact tx_vret dX4_keeps_94 rfl ⟨rfl, rfl⟩
def f_wears_J131 (n : Nat) (x1 : Int32) (x2 : Int32) (y0 : Int32) (S : TS) : Option (TS) := if y0 = 0 then some S else (trd S 41 (x1 + 1)).bind fun v13 => (twr S 41 (x1 + 1) (v13 ||| ((1 : Int32) <<< ((x2 : Int32) &&& 31)))).bind fun S14 => (twr S14 41 ((x1 + 19) + x2) (-1)).bind fun S15 => some S15
def f_wears (n : Nat) (x1 : Int32) (x2 : Int32) (S : TS) : Option (TS) := (trd S 41 ((x1 + 19) + x2)).bind fun v1 => (f_tightOf x1 v1 x2 S).bind fun r2 => (trd S 41 ((x1 + 11) + x2)).bind fun v3 => (f_lesser 99 (v3 + r2)).bind fun r4 => (twr S 41 ((x1 + 11) + x2) r4).bind fun S5 => (trd S5 41 ((x1 + 35) + v1)).bind fun v6 => (f_lesser 999 (v6 + r2)).bind fun r7 => (twr S5 41 ((x1 + 35) + v1) r7).bind fun S8 => if (S8.1 5) = (-1) then (trd S8 6 x2).bind fun v16 => if r2 ≤ ((9 : Int32) + v16) then f_wears_J131 n x1 x2 0 S8 else f_wears_J131 n x1 x2 1 S8 else (f_asks n (S8.1 5) x1 v1 x2 S8).bind fun r10 => if r10.1 ≤ 0 then f_wears_J131 n x1 x2 0 r10.2 else f_wears_J131 n x1 x2 1 r10.2
set_option maxHeartbeats 4000000 in
theorem f_wears_J131_s {l : Launch} {E : XEnv} {m : Nat} {ad : Nat → Nat} {h0 : XH} {n : Nat} {x1 : Int32} {x2 : Int32} {y0 : Int32} {S : TS} {S' : TS} (hl : f_wears_J131 n x1 x2 y0 S = some S') : TX l E mX4_wears 4 131 [(0, .ref m), (1, .int x1), (2, .int x2)] [.int y0] m ad h0 S (fun v' S'' => v' = none ∧ S'' = S') := by
  unfold f_wears_J131 at hl
  refine tx_istore dX4_wears_131 (by decide) ?_
  refine tx_iload dX4_wears_133 rfl ?_
  refine tx_if_ne (tgt := 139) dX4_wears_135 (by decide) (fun c12 => ?_) (fun c12 => ?_)
  · rw [if_neg c12] at hl
    refine tx_aload_n dX4_wears_139 rfl rfl ?_
    refine tx_getA gF_X4_66 dX4_wears_140 (by decide) ?_
    refine tx_iload_n dX4_wears_143 rfl ?_
    refine tx_iconst (v := 1) dX4_wears_144 rfl ?_
    refine tx_iadd dX4_wears_145 ?_
    refine tx_dup2 dX4_wears_146 rfl rfl ?_
    obtain ⟨v13, ev13, hl⟩ := xb hl
    refine tx_iald (by decide) dX4_wears_147 ev13 ?_
    refine tx_iconst (v := 1) dX4_wears_148 rfl ?_
    refine tx_iload_n dX4_wears_149 rfl ?_
    refine tx_ishl dX4_wears_150 ?_
    refine tx_ior dX4_wears_151 ?_
    obtain ⟨S14, eS14, hl⟩ := xb hl
    refine tx_iast (by decide) dX4_wears_152 eS14 ?_
    refine tx_aload_n dX4_wears_153 rfl rfl ?_
    refine tx_getA gF_X4_66 dX4_wears_154 (by decide) ?_
    refine tx_iload_n dX4_wears_157 rfl ?_
    refine tx_bipush (v := 19) dX4_wears_158 (by decide) ?_
    refine tx_iadd dX4_wears_160 ?_
    refine tx_iload_n dX4_wears_161 rfl ?_
    refine tx_iadd dX4_wears_162 ?_
    refine tx_iconst (v := (-1)) dX4_wears_163 rfl ?_
    obtain ⟨S15, eS15, hl⟩ := xb hl
    refine tx_iast (by decide) dX4_wears_164 eS15 ?_
    cases hl
    exact tx_vret dX4_wears_165 rfl ⟨rfl, rfl⟩
  · rw [if_pos c12] at hl
    cases hl
    exact tx_vret dX4_wears_138 rfl ⟨rfl, rfl⟩
set_option maxHeartbeats 4000000 in
theorem T_wears {l : Launch} {E : XEnv} {m : Nat} {ad : Nat → Nat} {n : Nat} {x1 : Int32} {x2 : Int32} {S : TS} {S' : TS} (hl : f_wears n x1 x2 S = some S') : TM l E mX4_wears 4 m ad [.ref m, .int x1, .int x2] S none S' := by
  unfold f_wears at hl
  refine tm_of (by decide +kernel) rfl (Nat.le_of_ble_eq_true rfl) fun h0 => ?_
  refine tx_aload_n dX4_wears_0 rfl rfl ?_
  refine tx_getA gF_X4_66 dX4_wears_1 (by decide) ?_
  refine tx_iload_n dX4_wears_4 rfl ?_
  refine tx_bipush (v := 19) dX4_wears_5 (by decide) ?_
  refine tx_iadd dX4_wears_7 ?_
  refine tx_iload_n dX4_wears_8 rfl ?_
  refine tx_iadd dX4_wears_9 ?_
  obtain ⟨v1, ev1, hl⟩ := xb hl
  refine tx_iald (by decide) dX4_wears_10 ev1 ?_
  refine tx_istore_n dX4_wears_11 (by decide) ?_
  refine tx_aload_n dX4_wears_12 rfl rfl ?_
  refine tx_iload_n dX4_wears_13 rfl ?_
  refine tx_iload_n dX4_wears_14 rfl ?_
  refine tx_iload_n dX4_wears_15 rfl ?_
  obtain ⟨r2, er2, hl⟩ := xb hl
  refine tx_callV (T_tightOf er2) lV_X4_312 C_X4_tightOf rfl dX4_wears_16 rfl (by decide) (Nat.le_of_ble_eq_true rfl) ?_
  refine tx_istore dX4_wears_19 (by decide) ?_
  refine tx_aload_n dX4_wears_21 rfl rfl ?_
  refine tx_getA gF_X4_66 dX4_wears_22 (by decide) ?_
  refine tx_iload_n dX4_wears_25 rfl ?_
  refine tx_bipush (v := 11) dX4_wears_26 (by decide) ?_
  refine tx_iadd dX4_wears_28 ?_
  refine tx_iload_n dX4_wears_29 rfl ?_
  refine tx_iadd dX4_wears_30 ?_
  refine tx_bipush (v := 99) dX4_wears_31 (by decide) ?_
  refine tx_aload_n dX4_wears_33 rfl rfl ?_
  refine tx_getA gF_X4_66 dX4_wears_34 (by decide) ?_
  refine tx_iload_n dX4_wears_37 rfl ?_
  refine tx_bipush (v := 11) dX4_wears_38 (by decide) ?_
  refine tx_iadd dX4_wears_40 ?_
  refine tx_iload_n dX4_wears_41 rfl ?_
  refine tx_iadd dX4_wears_42 ?_
  obtain ⟨v3, ev3, hl⟩ := xb hl
  refine tx_iald (by decide) dX4_wears_43 ev3 ?_
  refine tx_iload dX4_wears_44 rfl ?_
  refine tx_iadd dX4_wears_46 ?_
  obtain ⟨r4, er4, hl⟩ := xb hl
  refine tx_callS (T_lesser er4) lS_X4_329 C_X4_lesser dX4_wears_47 rfl (by decide) (Nat.le_of_ble_eq_true rfl) ?_
  obtain ⟨S5, eS5, hl⟩ := xb hl
  refine tx_iast (by decide) dX4_wears_50 eS5 ?_
  refine tx_aload_n dX4_wears_51 rfl rfl ?_
  refine tx_getA gF_X4_66 dX4_wears_52 (by decide) ?_
  refine tx_iload_n dX4_wears_55 rfl ?_
  refine tx_bipush (v := 35) dX4_wears_56 (by decide) ?_
  refine tx_iadd dX4_wears_58 ?_
  refine tx_iload_n dX4_wears_59 rfl ?_
  refine tx_iadd dX4_wears_60 ?_
  refine tx_sipush (v := 999) dX4_wears_61 (by decide) ?_
  refine tx_aload_n dX4_wears_64 rfl rfl ?_
  refine tx_getA gF_X4_66 dX4_wears_65 (by decide) ?_
  refine tx_iload_n dX4_wears_68 rfl ?_
  refine tx_bipush (v := 35) dX4_wears_69 (by decide) ?_
  refine tx_iadd dX4_wears_71 ?_
  refine tx_iload_n dX4_wears_72 rfl ?_
  refine tx_iadd dX4_wears_73 ?_
  obtain ⟨v6, ev6, hl⟩ := xb hl
  refine tx_iald (by decide) dX4_wears_74 ev6 ?_
  refine tx_iload dX4_wears_75 rfl ?_
  refine tx_iadd dX4_wears_77 ?_
  obtain ⟨r7, er7, hl⟩ := xb hl
  refine tx_callS (T_lesser er7) lS_X4_329 C_X4_lesser dX4_wears_78 rfl (by decide) (Nat.le_of_ble_eq_true rfl) ?_
  obtain ⟨S8, eS8, hl⟩ := xb hl
  refine tx_iast (by decide) dX4_wears_81 eS8 ?_
  refine tx_aload_n dX4_wears_82 rfl rfl ?_
  refine tx_getI gF_X4_13 dX4_wears_83 (by decide) ?_
  refine tx_iconst (v := (-1)) dX4_wears_86 rfl ?_
  refine tx_icmp_ne (tgt := 112) dX4_wears_87 (by decide) (fun c9 => ?_) (fun c9 => ?_)
  · rw [if_neg c9] at hl
    refine tx_aload_n dX4_wears_112 rfl rfl ?_
    refine tx_aload_n dX4_wears_113 rfl rfl ?_
    refine tx_getI gF_X4_13 dX4_wears_114 (by decide) ?_
    refine tx_iload_n dX4_wears_117 rfl ?_
    refine tx_iload_n dX4_wears_118 rfl ?_
    refine tx_iload_n dX4_wears_119 rfl ?_
    obtain ⟨r10, er10, hl⟩ := xb hl
    refine tx_callV (T_asks er10) lV_X4_318 C_X4_asks rfl dX4_wears_120 rfl (by decide) (Nat.le_of_ble_eq_true rfl) ?_
    refine tx_if_le (tgt := 130) dX4_wears_123 (by decide) (fun c11 => ?_) (fun c11 => ?_)
    · rw [if_pos c11] at hl
      refine tx_iconst (v := 0) dX4_wears_130 rfl ?_
      exact tx_lsK (f_wears_J131_s hl) ⟨rfl, rfl, rfl, trivial⟩
    · rw [if_neg c11] at hl
      refine tx_iconst (v := 1) dX4_wears_126 rfl ?_
      refine tx_goto (tgt := 131) dX4_wears_127 (by decide) ?_
      exact tx_lsK (f_wears_J131_s hl) ⟨rfl, rfl, rfl, trivial⟩
  · rw [if_pos c9] at hl
    refine tx_iload dX4_wears_90 rfl ?_
    refine tx_bipush (v := 9) dX4_wears_92 (by decide) ?_
    refine tx_aload_n dX4_wears_94 rfl rfl ?_
    refine tx_getA gF_X4_16 dX4_wears_95 (by decide) ?_
    refine tx_iload_n dX4_wears_98 rfl ?_
    obtain ⟨v16, ev16, hl⟩ := xb hl
    refine tx_iald (by decide) dX4_wears_99 ev16 ?_
    refine tx_iadd dX4_wears_100 ?_
    refine tx_icmp_le (tgt := 108) dX4_wears_101 (by decide) (fun c17 => ?_) (fun c17 => ?_)
    · rw [if_pos c17] at hl
      refine tx_iconst (v := 0) dX4_wears_108 rfl ?_
      refine tx_goto (tgt := 131) dX4_wears_109 (by decide) ?_
      exact tx_lsK (f_wears_J131_s hl) ⟨rfl, rfl, rfl, trivial⟩
    · rw [if_neg c17] at hl
      refine tx_iconst (v := 1) dX4_wears_104 rfl ?_
      refine tx_goto (tgt := 131) dX4_wears_105 (by decide) ?_
      exact tx_lsK (f_wears_J131_s hl) ⟨rfl, rfl, rfl, trivial⟩
def f_dayGoes_L2 (n : Nat) (x1 : Int32) (x2 : Int32) (S : TS) : Option ((Int32 × TS) ⊕ ((TS))) := if x2 ≥ (S.1 1) then some (.inr S) else (trd S 41 ((x1 + 19) + x2)).bind fun v2 => if v2 = (-1) then (some (x2 + 1)).bind fun w4 => some (.inl (w4, S)) else (f_wears n x1 x2 S).bind fun r5 => (some (x2 + 1)).bind fun w6 => some (.inl (w6, r5))
abbrev K_dayGoes_L2 (l : Launch) (E : XEnv) (m : Nat) (ad : Nat → Nat) (h0 : XH) (R : Option Value → TS → Prop) (S : TS) (x1 : Int32) (o : (TS)) : Prop := match o with
  | e => TX l E mX4_dayGoes 5 37 [(0, .ref m), (1, .int x1)] [] m ad h0 e R
def f_dayGoes_L39 (n : Nat) (x1 : Int32) (x2 : Int32) (S : TS) : Option ((Int32 × TS) ⊕ ((TS))) := if x2 ≥ (S.1 2) then some (.inr S) else (trd S 41 ((x1 + 27) + x2)).bind fun v9 => (trd S 8 x2).bind fun v10 => (f_lesser 99 (v9 + v10)).bind fun r11 => (twr S 41 ((x1 + 27) + x2) r11).bind fun S12 => (some (x2 + 1)).bind fun w13 => some (.inl (w13, S12))
abbrev K_dayGoes_L39 (l : Launch) (E : XEnv) (m : Nat) (ad : Nat → Nat) (h0 : XH) (R : Option Value → TS → Prop) (S : TS) (x1 : Int32) (o : (TS)) : Prop := match o with
  | e => TX l E mX4_dayGoes 5 87 [(0, .ref m), (1, .int x1)] [] m ad h0 e R
def f_dayGoes (n : Nat) (x1 : Int32) (S : TS) : Option (TS) := (xloop (fun s => f_dayGoes_L2 n x1 s.1 s.2) n (0, S)).bind fun o7 => (xloop (fun s => f_dayGoes_L39 n x1 s.1 s.2) n (0, o7)).bind fun o14 => (trd o14 41 (x1 + 0)).bind fun v15 => (twr o14 41 (x1 + 0) (v15 + 1)).bind fun S16 => (twr S16 41 (x1 + 2) 0).bind fun S17 => some S17
set_option maxHeartbeats 4000000 in
theorem f_dayGoes_L2_s {l : Launch} {E : XEnv} {m : Nat} {ad : Nat → Nat} {h0 : XH} {R : Option Value → TS → Prop} {n : Nat} {x1 : Int32} {x2 : Int32} {S : TS} {o : (Int32 × TS) ⊕ ((TS))} (hl : f_dayGoes_L2 n x1 x2 S = some o) (hK : (xk (fun s : Int32 × TS => TX l E mX4_dayGoes 5 2 [(0, .ref m), (1, .int x1), (2, .int s.1)] [] m ad h0 s.2 R) (fun r => K_dayGoes_L2 l E m ad h0 R S x1 r) o)) : TX l E mX4_dayGoes 5 2 [(0, .ref m), (1, .int x1), (2, .int x2)] [] m ad h0 S R := by
  unfold f_dayGoes_L2 at hl
  refine tx_iload_n dX4_dayGoes_2 rfl ?_
  refine tx_aload_n dX4_dayGoes_3 rfl rfl ?_
  refine tx_getI gF_X4_275 dX4_dayGoes_4 (by decide) ?_
  refine tx_icmp_ge (tgt := 37) dX4_dayGoes_7 (by decide) (fun c1 => ?_) (fun c1 => ?_)
  · rw [if_pos c1] at hl
    cases hl
    exact tx_lsK hK ⟨rfl, rfl, trivial⟩
  · rw [if_neg c1] at hl
    refine tx_aload_n dX4_dayGoes_10 rfl rfl ?_
    refine tx_getA gF_X4_66 dX4_dayGoes_11 (by decide) ?_
    refine tx_iload_n dX4_dayGoes_14 rfl ?_
    refine tx_bipush (v := 19) dX4_dayGoes_15 (by decide) ?_
    refine tx_iadd dX4_dayGoes_17 ?_
    refine tx_iload_n dX4_dayGoes_18 rfl ?_
    refine tx_iadd dX4_dayGoes_19 ?_
    obtain ⟨v2, ev2, hl⟩ := xb hl
    refine tx_iald (by decide) dX4_dayGoes_20 ev2 ?_
    refine tx_iconst (v := (-1)) dX4_dayGoes_21 rfl ?_
    refine tx_icmp_eq (tgt := 31) dX4_dayGoes_22 (by decide) (fun c3 => ?_) (fun c3 => ?_)
    · rw [if_pos c3] at hl
      obtain ⟨w4, ew4, hl⟩ := xb hl
      refine tx_iinc dX4_dayGoes_31 rfl (by decide) (Option.some.inj ew4) ?_
      refine tx_goto (tgt := 2) dX4_dayGoes_34 (by decide) ?_
      cases hl
      exact tx_lsK hK ⟨rfl, rfl, rfl, trivial⟩
    · rw [if_neg c3] at hl
      refine tx_aload_n dX4_dayGoes_25 rfl rfl ?_
      refine tx_iload_n dX4_dayGoes_26 rfl ?_
      refine tx_iload_n dX4_dayGoes_27 rfl ?_
      obtain ⟨r5, er5, hl⟩ := xb hl
      refine tx_callV (T_wears er5) lV_X4_332 C_X4_wears rfl dX4_dayGoes_28 rfl (by decide) (Nat.le_of_ble_eq_true rfl) ?_
      obtain ⟨w6, ew6, hl⟩ := xb hl
      refine tx_iinc dX4_dayGoes_31 rfl (by decide) (Option.some.inj ew6) ?_
      refine tx_goto (tgt := 2) dX4_dayGoes_34 (by decide) ?_
      cases hl
      exact tx_lsK hK ⟨rfl, rfl, rfl, trivial⟩
set_option maxHeartbeats 4000000 in
theorem f_dayGoes_L2_ok {l : Launch} {E : XEnv} {m : Nat} {ad : Nat → Nat} {h0 : XH} {R : Option Value → TS → Prop} {n : Nat} {x1 : Int32} {S : TS} {s : Int32 × TS} {o : (TS)} (hl : xloop (fun s => f_dayGoes_L2 n x1 s.1 s.2) n s = some o) (hK : K_dayGoes_L2 l E m ad h0 R S x1 o) : TX l E mX4_dayGoes 5 2 [(0, .ref m), (1, .int x1), (2, .int s.1)] [] m ad h0 s.2 R :=
  xloop_of (fun s : Int32 × TS => TX l E mX4_dayGoes 5 2 [(0, .ref m), (1, .int x1), (2, .int s.1)] [] m ad h0 s.2 R) (fun r => K_dayGoes_L2 l E m ad h0 R S x1 r) (fun s o hl hk => f_dayGoes_L2_s (S := s.2) (o := o) hl hk) n s o hl hK
set_option maxHeartbeats 4000000 in
theorem f_dayGoes_L39_s {l : Launch} {E : XEnv} {m : Nat} {ad : Nat → Nat} {h0 : XH} {R : Option Value → TS → Prop} {n : Nat} {x1 : Int32} {x2 : Int32} {S : TS} {o : (Int32 × TS) ⊕ ((TS))} (hl : f_dayGoes_L39 n x1 x2 S = some o) (hK : (xk (fun s : Int32 × TS => TX l E mX4_dayGoes 5 39 [(0, .ref m), (1, .int x1), (2, .int s.1)] [] m ad h0 s.2 R) (fun r => K_dayGoes_L39 l E m ad h0 R S x1 r) o)) : TX l E mX4_dayGoes 5 39 [(0, .ref m), (1, .int x1), (2, .int x2)] [] m ad h0 S R := by
  unfold f_dayGoes_L39 at hl
  refine tx_iload_n dX4_dayGoes_39 rfl ?_
  refine tx_aload_n dX4_dayGoes_40 rfl rfl ?_
  refine tx_getI gF_X4_278 dX4_dayGoes_41 (by decide) ?_
  refine tx_icmp_ge (tgt := 87) dX4_dayGoes_44 (by decide) (fun c8 => ?_) (fun c8 => ?_)
  · rw [if_pos c8] at hl
    cases hl
    exact tx_lsK hK ⟨rfl, rfl, trivial⟩
  · rw [if_neg c8] at hl
    refine tx_aload_n dX4_dayGoes_47 rfl rfl ?_
    refine tx_getA gF_X4_66 dX4_dayGoes_48 (by decide) ?_
    refine tx_iload_n dX4_dayGoes_51 rfl ?_
    refine tx_bipush (v := 27) dX4_dayGoes_52 (by decide) ?_
    refine tx_iadd dX4_dayGoes_54 ?_
    refine tx_iload_n dX4_dayGoes_55 rfl ?_
    refine tx_iadd dX4_dayGoes_56 ?_
    refine tx_bipush (v := 99) dX4_dayGoes_57 (by decide) ?_
    refine tx_aload_n dX4_dayGoes_59 rfl rfl ?_
    refine tx_getA gF_X4_66 dX4_dayGoes_60 (by decide) ?_
    refine tx_iload_n dX4_dayGoes_63 rfl ?_
    refine tx_bipush (v := 27) dX4_dayGoes_64 (by decide) ?_
    refine tx_iadd dX4_dayGoes_66 ?_
    refine tx_iload_n dX4_dayGoes_67 rfl ?_
    refine tx_iadd dX4_dayGoes_68 ?_
    obtain ⟨v9, ev9, hl⟩ := xb hl
    refine tx_iald (by decide) dX4_dayGoes_69 ev9 ?_
    refine tx_aload_n dX4_dayGoes_70 rfl rfl ?_
    refine tx_getA gF_X4_23 dX4_dayGoes_71 (by decide) ?_
    refine tx_iload_n dX4_dayGoes_74 rfl ?_
    obtain ⟨v10, ev10, hl⟩ := xb hl
    refine tx_iald (by decide) dX4_dayGoes_75 ev10 ?_
    refine tx_iadd dX4_dayGoes_76 ?_
    obtain ⟨r11, er11, hl⟩ := xb hl
    refine tx_callS (T_lesser er11) lS_X4_329 C_X4_lesser dX4_dayGoes_77 rfl (by decide) (Nat.le_of_ble_eq_true rfl) ?_
    obtain ⟨S12, eS12, hl⟩ := xb hl
    refine tx_iast (by decide) dX4_dayGoes_80 eS12 ?_
    obtain ⟨w13, ew13, hl⟩ := xb hl
    refine tx_iinc dX4_dayGoes_81 rfl (by decide) (Option.some.inj ew13) ?_
    refine tx_goto (tgt := 39) dX4_dayGoes_84 (by decide) ?_
    cases hl
    exact tx_lsK hK ⟨rfl, rfl, rfl, trivial⟩
set_option maxHeartbeats 4000000 in
theorem f_dayGoes_L39_ok {l : Launch} {E : XEnv} {m : Nat} {ad : Nat → Nat} {h0 : XH} {R : Option Value → TS → Prop} {n : Nat} {x1 : Int32} {S : TS} {s : Int32 × TS} {o : (TS)} (hl : xloop (fun s => f_dayGoes_L39 n x1 s.1 s.2) n s = some o) (hK : K_dayGoes_L39 l E m ad h0 R S x1 o) : TX l E mX4_dayGoes 5 39 [(0, .ref m), (1, .int x1), (2, .int s.1)] [] m ad h0 s.2 R :=
  xloop_of (fun s : Int32 × TS => TX l E mX4_dayGoes 5 39 [(0, .ref m), (1, .int x1), (2, .int s.1)] [] m ad h0 s.2 R) (fun r => K_dayGoes_L39 l E m ad h0 R S x1 r) (fun s o hl hk => f_dayGoes_L39_s (S := s.2) (o := o) hl hk) n s o hl hK
set_option maxHeartbeats 4000000 in
theorem T_dayGoes {l : Launch} {E : XEnv} {m : Nat} {ad : Nat → Nat} {n : Nat} {x1 : Int32} {S : TS} {S' : TS} (hl : f_dayGoes n x1 S = some S') : TM l E mX4_dayGoes 5 m ad [.ref m, .int x1] S none S' := by
  unfold f_dayGoes at hl
  refine tm_of (by decide +kernel) rfl (Nat.le_of_ble_eq_true rfl) fun h0 => ?_
  refine tx_iconst (v := 0) dX4_dayGoes_0 rfl ?_
  refine tx_istore_n dX4_dayGoes_1 (by decide) ?_
  obtain ⟨o7, eo7, hl⟩ := xb hl
  refine tx_lsK (f_dayGoes_L2_ok (S := S) (s := (0, S)) eo7 ?_) ⟨rfl, rfl, rfl, trivial⟩
  refine tx_iconst (v := 0) dX4_dayGoes_37 rfl ?_
  refine tx_istore_n dX4_dayGoes_38 (by decide) ?_
  obtain ⟨o14, eo14, hl⟩ := xb hl
  refine tx_lsK (f_dayGoes_L39_ok (S := o7) (s := (0, o7)) eo14 ?_) ⟨rfl, rfl, rfl, trivial⟩
  refine tx_aload_n dX4_dayGoes_87 rfl rfl ?_
  refine tx_getA gF_X4_66 dX4_dayGoes_88 (by decide) ?_
  refine tx_iload_n dX4_dayGoes_91 rfl ?_
  refine tx_iconst (v := 0) dX4_dayGoes_92 rfl ?_
  refine tx_iadd dX4_dayGoes_93 ?_
  refine tx_dup2 dX4_dayGoes_94 rfl rfl ?_
  obtain ⟨v15, ev15, hl⟩ := xb hl
  refine tx_iald (by decide) dX4_dayGoes_95 ev15 ?_
  refine tx_iconst (v := 1) dX4_dayGoes_96 rfl ?_
  refine tx_iadd dX4_dayGoes_97 ?_
  obtain ⟨S16, eS16, hl⟩ := xb hl
  refine tx_iast (by decide) dX4_dayGoes_98 eS16 ?_
  refine tx_aload_n dX4_dayGoes_99 rfl rfl ?_
  refine tx_getA gF_X4_66 dX4_dayGoes_100 (by decide) ?_
  refine tx_iload_n dX4_dayGoes_103 rfl ?_
  refine tx_iconst (v := 2) dX4_dayGoes_104 rfl ?_
  refine tx_iadd dX4_dayGoes_105 ?_
  refine tx_iconst (v := 0) dX4_dayGoes_106 rfl ?_
  obtain ⟨S17, eS17, hl⟩ := xb hl
  refine tx_iast (by decide) dX4_dayGoes_107 eS17 ?_
  cases hl
  exact tx_vret dX4_dayGoes_108 rfl ⟨rfl, rfl⟩
def f_days_L41 (n : Nat) (x1 : Int32) (x2 : Int32) (S : TS) : Option ((Int32 × TS) ⊕ ((TS))) := if x2 ≥ x1 then some (.inr S) else (f_dayGoes n 0 S).bind fun r9 => (some (x2 + 1)).bind fun w10 => some (.inl (w10, r9))
abbrev K_days_L41 (l : Launch) (E : XEnv) (m : Nat) (ad : Nat → Nat) (h0 : XH) (R : Option Value → TS → Prop) (S : TS) (x1 : Int32) (o : (TS)) : Prop := match o with
  | e => TX l E mX4_days 6 57 [(0, .ref m)] [] m ad h0 e R
def f_days (n : Nat) (x1 : Int32) (S : TS) : Option (Int32 × TS) := (some (tpF S 0 0)).bind fun S1 => (f_within x1 1 20).bind fun r2 => if r2 = 0 then (f_refuses 1 S1).bind fun r4 => some (r4.1, r4.2) else (trd S1 41 0).bind fun v5 => if (v5 + x1) ≤ 999 then (f_keeps n S1).bind fun r7 => (xloop (fun s => f_days_L41 n x1 s.1 s.2) n (0, r7)).bind fun o11 => (trd o11 41 0).bind fun v12 => some (v12, o11) else (f_refuses 1 S1).bind fun r13 => some (r13.1, r13.2)
set_option maxHeartbeats 4000000 in
theorem f_days_L41_s {l : Launch} {E : XEnv} {m : Nat} {ad : Nat → Nat} {h0 : XH} {R : Option Value → TS → Prop} {n : Nat} {x1 : Int32} {x2 : Int32} {S : TS} {o : (Int32 × TS) ⊕ ((TS))} (hl : f_days_L41 n x1 x2 S = some o) (hK : (xk (fun s : Int32 × TS => TX l E mX4_days 6 41 [(0, .ref m), (1, .int x1), (2, .int s.1)] [] m ad h0 s.2 R) (fun r => K_days_L41 l E m ad h0 R S x1 r) o)) : TX l E mX4_days 6 41 [(0, .ref m), (1, .int x1), (2, .int x2)] [] m ad h0 S R := by
  unfold f_days_L41 at hl
  refine tx_iload_n dX4_days_41 rfl ?_
  refine tx_iload_n dX4_days_42 rfl ?_
  refine tx_icmp_ge (tgt := 57) dX4_days_43 (by decide) (fun c8 => ?_) (fun c8 => ?_)
  · rw [if_pos c8] at hl
    cases hl
    exact tx_lsK hK ⟨rfl, trivial⟩
  · rw [if_neg c8] at hl
    refine tx_aload_n dX4_days_46 rfl rfl ?_
    refine tx_iconst (v := 0) dX4_days_47 rfl ?_
    obtain ⟨r9, er9, hl⟩ := xb hl
    refine tx_callV (T_dayGoes er9) lV_X4_336 C_X4_dayGoes rfl dX4_days_48 rfl (by decide) (Nat.le_of_ble_eq_true rfl) ?_
    obtain ⟨w10, ew10, hl⟩ := xb hl
    refine tx_iinc dX4_days_51 rfl (by decide) (Option.some.inj ew10) ?_
    refine tx_goto (tgt := 41) dX4_days_54 (by decide) ?_
    cases hl
    exact tx_lsK hK ⟨rfl, rfl, rfl, trivial⟩
set_option maxHeartbeats 4000000 in
theorem f_days_L41_ok {l : Launch} {E : XEnv} {m : Nat} {ad : Nat → Nat} {h0 : XH} {R : Option Value → TS → Prop} {n : Nat} {x1 : Int32} {S : TS} {s : Int32 × TS} {o : (TS)} (hl : xloop (fun s => f_days_L41 n x1 s.1 s.2) n s = some o) (hK : K_days_L41 l E m ad h0 R S x1 o) : TX l E mX4_days 6 41 [(0, .ref m), (1, .int x1), (2, .int s.1)] [] m ad h0 s.2 R :=
  xloop_of (fun s : Int32 × TS => TX l E mX4_days 6 41 [(0, .ref m), (1, .int x1), (2, .int s.1)] [] m ad h0 s.2 R) (fun r => K_days_L41 l E m ad h0 R S x1 r) (fun s o hl hk => f_days_L41_s (S := s.2) (o := o) hl hk) n s o hl hK
set_option maxHeartbeats 4000000 in
theorem T_days {l : Launch} {E : XEnv} {m : Nat} {ad : Nat → Nat} {n : Nat} {x1 : Int32} {S : TS} {r : Int32 × TS} (hl : f_days n x1 S = some r) : TM l E mX4_days 6 m ad [.ref m, .int x1] S (some (.int r.1)) r.2 := by
  unfold f_days at hl
  refine tm_of (by decide +kernel) rfl (Nat.le_of_ble_eq_true rfl) fun h0 => ?_
  refine tx_aload_n dX4_days_0 rfl rfl ?_
  refine tx_iconst (v := 0) dX4_days_1 rfl ?_
  obtain ⟨S1, eS1, hl⟩ := xb hl
  refine tx_putI pF_X4_111 dX4_days_2 (by decide) rfl rfl (Option.some.inj eS1) ?_
  refine tx_iload_n dX4_days_5 rfl ?_
  refine tx_iconst (v := 1) dX4_days_6 rfl ?_
  refine tx_bipush (v := 20) dX4_days_7 (by decide) ?_
  obtain ⟨r2, er2, hl⟩ := xb hl
  refine tx_callS (T_within er2) lS_X4_345 C_X4_within dX4_days_9 rfl (by decide) (Nat.le_of_ble_eq_true rfl) ?_
  refine tx_if_eq (tgt := 29) dX4_days_12 (by decide) (fun c3 => ?_) (fun c3 => ?_)
  · rw [if_pos c3] at hl
    refine tx_aload_n dX4_days_29 rfl rfl ?_
    refine tx_iconst (v := 1) dX4_days_30 rfl ?_
    obtain ⟨r4, er4, hl⟩ := xb hl
    refine tx_callV (T_refuses er4) lV_X4_382 C_X4_refuses rfl dX4_days_31 rfl (by decide) (Nat.le_of_ble_eq_true rfl) ?_
    cases hl
    exact tx_iret dX4_days_34 rfl rfl ⟨rfl, rfl⟩
  · rw [if_neg c3] at hl
    refine tx_aload_n dX4_days_15 rfl rfl ?_
    refine tx_getA gF_X4_66 dX4_days_16 (by decide) ?_
    refine tx_iconst (v := 0) dX4_days_19 rfl ?_
    obtain ⟨v5, ev5, hl⟩ := xb hl
    refine tx_iald (by decide) dX4_days_20 ev5 ?_
    refine tx_iload_n dX4_days_21 rfl ?_
    refine tx_iadd dX4_days_22 ?_
    refine tx_sipush (v := 999) dX4_days_23 (by decide) ?_
    refine tx_icmp_le (tgt := 35) dX4_days_26 (by decide) (fun c6 => ?_) (fun c6 => ?_)
    · rw [if_pos c6] at hl
      refine tx_aload_n dX4_days_35 rfl rfl ?_
      obtain ⟨r7, er7, hl⟩ := xb hl
      refine tx_callV (T_keeps er7) lV_X4_385 C_X4_keeps rfl dX4_days_36 rfl (by decide) (Nat.le_of_ble_eq_true rfl) ?_
      refine tx_iconst (v := 0) dX4_days_39 rfl ?_
      refine tx_istore_n dX4_days_40 (by decide) ?_
      obtain ⟨o11, eo11, hl⟩ := xb hl
      refine tx_lsK (f_days_L41_ok (S := r7) (s := (0, r7)) eo11 ?_) ⟨rfl, rfl, rfl, trivial⟩
      refine tx_aload_n dX4_days_57 rfl rfl ?_
      refine tx_getA gF_X4_66 dX4_days_58 (by decide) ?_
      refine tx_iconst (v := 0) dX4_days_61 rfl ?_
      obtain ⟨v12, ev12, hl⟩ := xb hl
      refine tx_iald (by decide) dX4_days_62 ev12 ?_
      cases hl
      exact tx_iret dX4_days_63 rfl rfl ⟨rfl, rfl⟩
    · rw [if_neg c6] at hl
      refine tx_aload_n dX4_days_29 rfl rfl ?_
      refine tx_iconst (v := 1) dX4_days_30 rfl ?_
      obtain ⟨r13, er13, hl⟩ := xb hl
      refine tx_callV (T_refuses er13) lV_X4_382 C_X4_refuses rfl dX4_days_31 rfl (by decide) (Nat.le_of_ble_eq_true rfl) ?_
      cases hl
      exact tx_iret dX4_days_34 rfl rfl ⟨rfl, rfl⟩
def f_putIn (n : Nat) (x1 : Int32) (x2 : Int32) (S : TS) : Option (Int32 × TS) := (some (tpF S 0 0)).bind fun S1 => (f_isPerson x1 S1).bind fun r2 => if r2.1 = 0 then some (0, r2.2) else (f_isHouse x2 r2.2).bind fun r4 => if r4.1 = 0 then some (0, r4.2) else (f_houseOf n 0 x1 r4.2).bind fun r6 => if r6 = (-1) then (trd r4.2 41 ((19 : Int32) + x2)).bind fun v9 => if v9 = (-1) then (f_wouldGo n 0 x1 x2 r4.2).bind fun r12 => if r12.1 = 0 then (f_refuses 1 r12.2).bind fun r17 => some (r17.1, r17.2) else (f_keeps n r12.2).bind fun r14 => (twr r14 41 ((19 : Int32) + x2) x1).bind fun S15 => (f_tightOf 0 x1 x2 S15).bind fun r16 => some (r16, S15) else (f_refuses 1 r4.2).bind fun r11 => some (r11.1, r11.2) else (f_refuses 1 r4.2).bind fun r8 => some (r8.1, r8.2)
set_option maxHeartbeats 4000000 in
theorem T_putIn {l : Launch} {E : XEnv} {m : Nat} {ad : Nat → Nat} {n : Nat} {x1 : Int32} {x2 : Int32} {S : TS} {r : Int32 × TS} (hl : f_putIn n x1 x2 S = some r) : TM l E mX4_putIn 6 m ad [.ref m, .int x1, .int x2] S (some (.int r.1)) r.2 := by
  unfold f_putIn at hl
  refine tm_of (by decide +kernel) rfl (Nat.le_of_ble_eq_true rfl) fun h0 => ?_
  refine tx_aload_n dX4_putIn_0 rfl rfl ?_
  refine tx_iconst (v := 0) dX4_putIn_1 rfl ?_
  obtain ⟨S1, eS1, hl⟩ := xb hl
  refine tx_putI pF_X4_111 dX4_putIn_2 (by decide) rfl rfl (Option.some.inj eS1) ?_
  refine tx_aload_n dX4_putIn_5 rfl rfl ?_
  refine tx_iload_n dX4_putIn_6 rfl ?_
  obtain ⟨r2, er2, hl⟩ := xb hl
  refine tx_callV (T_isPerson er2) lV_X4_379 C_X4_isPerson rfl dX4_putIn_7 rfl (by decide) (Nat.le_of_ble_eq_true rfl) ?_
  refine tx_if_eq (tgt := 21) dX4_putIn_10 (by decide) (fun c3 => ?_) (fun c3 => ?_)
  · rw [if_pos c3] at hl
    refine tx_iconst (v := 0) dX4_putIn_21 rfl ?_
    cases hl
    exact tx_iret dX4_putIn_22 rfl rfl ⟨rfl, rfl⟩
  · rw [if_neg c3] at hl
    refine tx_aload_n dX4_putIn_13 rfl rfl ?_
    refine tx_iload_n dX4_putIn_14 rfl ?_
    obtain ⟨r4, er4, hl⟩ := xb hl
    refine tx_callV (T_isHouse er4) lV_X4_367 C_X4_isHouse rfl dX4_putIn_15 rfl (by decide) (Nat.le_of_ble_eq_true rfl) ?_
    refine tx_if_ne (tgt := 23) dX4_putIn_18 (by decide) (fun c5 => ?_) (fun c5 => ?_)
    · rw [if_neg c5] at hl
      refine tx_aload_n dX4_putIn_23 rfl rfl ?_
      refine tx_iconst (v := 0) dX4_putIn_24 rfl ?_
      refine tx_iload_n dX4_putIn_25 rfl ?_
      obtain ⟨r6, er6, hl⟩ := xb hl
      refine tx_callV (T_houseOf er6) lV_X4_339 C_X4_houseOf rfl dX4_putIn_26 rfl (by decide) (Nat.le_of_ble_eq_true rfl) ?_
      refine tx_iconst (v := (-1)) dX4_putIn_29 rfl ?_
      refine tx_icmp_ne (tgt := 56) dX4_putIn_30 (by decide) (fun c7 => ?_) (fun c7 => ?_)
      · rw [if_neg c7] at hl
        refine tx_aload_n dX4_putIn_56 rfl rfl ?_
        refine tx_iconst (v := 1) dX4_putIn_57 rfl ?_
        obtain ⟨r8, er8, hl⟩ := xb hl
        refine tx_callV (T_refuses er8) lV_X4_382 C_X4_refuses rfl dX4_putIn_58 rfl (by decide) (Nat.le_of_ble_eq_true rfl) ?_
        cases hl
        exact tx_iret dX4_putIn_61 rfl rfl ⟨rfl, rfl⟩
      · rw [if_pos c7] at hl
        refine tx_aload_n dX4_putIn_33 rfl rfl ?_
        refine tx_getA gF_X4_66 dX4_putIn_34 (by decide) ?_
        refine tx_bipush (v := 19) dX4_putIn_37 (by decide) ?_
        refine tx_iload_n dX4_putIn_39 rfl ?_
        refine tx_iadd dX4_putIn_40 ?_
        obtain ⟨v9, ev9, hl⟩ := xb hl
        refine tx_iald (by decide) dX4_putIn_41 ev9 ?_
        refine tx_iconst (v := (-1)) dX4_putIn_42 rfl ?_
        refine tx_icmp_ne (tgt := 56) dX4_putIn_43 (by decide) (fun c10 => ?_) (fun c10 => ?_)
        · rw [if_neg c10] at hl
          refine tx_aload_n dX4_putIn_56 rfl rfl ?_
          refine tx_iconst (v := 1) dX4_putIn_57 rfl ?_
          obtain ⟨r11, er11, hl⟩ := xb hl
          refine tx_callV (T_refuses er11) lV_X4_382 C_X4_refuses rfl dX4_putIn_58 rfl (by decide) (Nat.le_of_ble_eq_true rfl) ?_
          cases hl
          exact tx_iret dX4_putIn_61 rfl rfl ⟨rfl, rfl⟩
        · rw [if_pos c10] at hl
          refine tx_aload_n dX4_putIn_46 rfl rfl ?_
          refine tx_iconst (v := 0) dX4_putIn_47 rfl ?_
          refine tx_iload_n dX4_putIn_48 rfl ?_
          refine tx_iload_n dX4_putIn_49 rfl ?_
          obtain ⟨r12, er12, hl⟩ := xb hl
          refine tx_callV (T_wouldGo er12) lV_X4_388 C_X4_wouldGo rfl dX4_putIn_50 rfl (by decide) (Nat.le_of_ble_eq_true rfl) ?_
          refine tx_if_ne (tgt := 62) dX4_putIn_53 (by decide) (fun c13 => ?_) (fun c13 => ?_)
          · rw [if_neg c13] at hl
            refine tx_aload_n dX4_putIn_62 rfl rfl ?_
            obtain ⟨r14, er14, hl⟩ := xb hl
            refine tx_callV (T_keeps er14) lV_X4_385 C_X4_keeps rfl dX4_putIn_63 rfl (by decide) (Nat.le_of_ble_eq_true rfl) ?_
            refine tx_aload_n dX4_putIn_66 rfl rfl ?_
            refine tx_getA gF_X4_66 dX4_putIn_67 (by decide) ?_
            refine tx_bipush (v := 19) dX4_putIn_70 (by decide) ?_
            refine tx_iload_n dX4_putIn_72 rfl ?_
            refine tx_iadd dX4_putIn_73 ?_
            refine tx_iload_n dX4_putIn_74 rfl ?_
            obtain ⟨S15, eS15, hl⟩ := xb hl
            refine tx_iast (by decide) dX4_putIn_75 eS15 ?_
            refine tx_aload_n dX4_putIn_76 rfl rfl ?_
            refine tx_iconst (v := 0) dX4_putIn_77 rfl ?_
            refine tx_iload_n dX4_putIn_78 rfl ?_
            refine tx_iload_n dX4_putIn_79 rfl ?_
            obtain ⟨r16, er16, hl⟩ := xb hl
            refine tx_callV (T_tightOf er16) lV_X4_312 C_X4_tightOf rfl dX4_putIn_80 rfl (by decide) (Nat.le_of_ble_eq_true rfl) ?_
            cases hl
            exact tx_iret dX4_putIn_83 rfl rfl ⟨rfl, rfl⟩
          · rw [if_pos c13] at hl
            refine tx_aload_n dX4_putIn_56 rfl rfl ?_
            refine tx_iconst (v := 1) dX4_putIn_57 rfl ?_
            obtain ⟨r17, er17, hl⟩ := xb hl
            refine tx_callV (T_refuses er17) lV_X4_382 C_X4_refuses rfl dX4_putIn_58 rfl (by decide) (Nat.le_of_ble_eq_true rfl) ?_
            cases hl
            exact tx_iret dX4_putIn_61 rfl rfl ⟨rfl, rfl⟩
    · rw [if_pos c5] at hl
      refine tx_iconst (v := 0) dX4_putIn_21 rfl ?_
      cases hl
      exact tx_iret dX4_putIn_22 rfl rfl ⟨rfl, rfl⟩
def f_out (n : Nat) (x1 : Int32) (S : TS) : Option (Int32 × TS) := (some (tpF S 0 0)).bind fun S1 => (f_isPerson x1 S1).bind fun r2 => if r2.1 = 0 then some (0, r2.2) else (f_houseOf n 0 x1 r2.2).bind fun r4 => if r4 = (-1) then (f_refuses 1 r2.2).bind fun r8 => some (r8.1, r8.2) else (f_keeps n r2.2).bind fun r6 => (twr r6 41 ((19 : Int32) + r4) (-1)).bind fun S7 => some (r4, S7)
set_option maxHeartbeats 4000000 in
theorem T_out {l : Launch} {E : XEnv} {m : Nat} {ad : Nat → Nat} {n : Nat} {x1 : Int32} {S : TS} {r : Int32 × TS} (hl : f_out n x1 S = some r) : TM l E mX4_out 3 m ad [.ref m, .int x1] S (some (.int r.1)) r.2 := by
  unfold f_out at hl
  refine tm_of (by decide +kernel) rfl (Nat.le_of_ble_eq_true rfl) fun h0 => ?_
  refine tx_aload_n dX4_out_0 rfl rfl ?_
  refine tx_iconst (v := 0) dX4_out_1 rfl ?_
  obtain ⟨S1, eS1, hl⟩ := xb hl
  refine tx_putI pF_X4_111 dX4_out_2 (by decide) rfl rfl (Option.some.inj eS1) ?_
  refine tx_aload_n dX4_out_5 rfl rfl ?_
  refine tx_iload_n dX4_out_6 rfl ?_
  obtain ⟨r2, er2, hl⟩ := xb hl
  refine tx_callV (T_isPerson er2) lV_X4_379 C_X4_isPerson rfl dX4_out_7 rfl (by decide) (Nat.le_of_ble_eq_true rfl) ?_
  refine tx_if_ne (tgt := 15) dX4_out_10 (by decide) (fun c3 => ?_) (fun c3 => ?_)
  · rw [if_neg c3] at hl
    refine tx_aload_n dX4_out_15 rfl rfl ?_
    refine tx_iconst (v := 0) dX4_out_16 rfl ?_
    refine tx_iload_n dX4_out_17 rfl ?_
    obtain ⟨r4, er4, hl⟩ := xb hl
    refine tx_callV (T_houseOf er4) lV_X4_339 C_X4_houseOf rfl dX4_out_18 rfl (by decide) (Nat.le_of_ble_eq_true rfl) ?_
    refine tx_istore_n dX4_out_21 (by decide) ?_
    refine tx_iload_n dX4_out_22 rfl ?_
    refine tx_iconst (v := (-1)) dX4_out_23 rfl ?_
    refine tx_icmp_ne (tgt := 33) dX4_out_24 (by decide) (fun c5 => ?_) (fun c5 => ?_)
    · rw [if_neg c5] at hl
      refine tx_aload_n dX4_out_33 rfl rfl ?_
      obtain ⟨r6, er6, hl⟩ := xb hl
      refine tx_callV (T_keeps er6) lV_X4_385 C_X4_keeps rfl dX4_out_34 rfl (by decide) (Nat.le_of_ble_eq_true rfl) ?_
      refine tx_aload_n dX4_out_37 rfl rfl ?_
      refine tx_getA gF_X4_66 dX4_out_38 (by decide) ?_
      refine tx_bipush (v := 19) dX4_out_41 (by decide) ?_
      refine tx_iload_n dX4_out_43 rfl ?_
      refine tx_iadd dX4_out_44 ?_
      refine tx_iconst (v := (-1)) dX4_out_45 rfl ?_
      obtain ⟨S7, eS7, hl⟩ := xb hl
      refine tx_iast (by decide) dX4_out_46 eS7 ?_
      refine tx_iload_n dX4_out_47 rfl ?_
      cases hl
      exact tx_iret dX4_out_48 rfl rfl ⟨rfl, rfl⟩
    · rw [if_pos c5] at hl
      refine tx_aload_n dX4_out_27 rfl rfl ?_
      refine tx_iconst (v := 1) dX4_out_28 rfl ?_
      obtain ⟨r8, er8, hl⟩ := xb hl
      refine tx_callV (T_refuses er8) lV_X4_382 C_X4_refuses rfl dX4_out_29 rfl (by decide) (Nat.le_of_ble_eq_true rfl) ?_
      cases hl
      exact tx_iret dX4_out_32 rfl rfl ⟨rfl, rfl⟩
  · rw [if_pos c3] at hl
    refine tx_iconst (v := 0) dX4_out_13 rfl ?_
    cases hl
    exact tx_iret dX4_out_14 rfl rfl ⟨rfl, rfl⟩
def f_stuff (n : Nat) (x1 : Int32) (x2 : Int32) (S : TS) : Option (Int32 × TS) := (some (tpF S 0 0)).bind fun S1 => (f_isHouse x1 S1).bind fun r2 => if r2.1 = 0 then some (0, r2.2) else (trd r2.2 41 ((19 : Int32) + x1)).bind fun v4 => if v4 = (-1) then (f_within x2 1 20).bind fun r7 => if r7 = 0 then (f_refuses 1 r2.2).bind fun r14 => some (r14.1, r14.2) else (f_keeps n r2.2).bind fun r9 => (trd r9 41 ((3 : Int32) + x1)).bind fun v10 => (f_bounded (v10 - x2) 1 99999).bind fun r11 => (twr r9 41 ((3 : Int32) + x1) r11).bind fun S12 => (trd S12 41 ((3 : Int32) + x1)).bind fun v13 => some (v13, S12) else (f_refuses 1 r2.2).bind fun r6 => some (r6.1, r6.2)
set_option maxHeartbeats 4000000 in
theorem T_stuff {l : Launch} {E : XEnv} {m : Nat} {ad : Nat → Nat} {n : Nat} {x1 : Int32} {x2 : Int32} {S : TS} {r : Int32 × TS} (hl : f_stuff n x1 x2 S = some r) : TM l E mX4_stuff 3 m ad [.ref m, .int x1, .int x2] S (some (.int r.1)) r.2 := by
  unfold f_stuff at hl
  refine tm_of (by decide +kernel) rfl (Nat.le_of_ble_eq_true rfl) fun h0 => ?_
  refine tx_aload_n dX4_stuff_0 rfl rfl ?_
  refine tx_iconst (v := 0) dX4_stuff_1 rfl ?_
  obtain ⟨S1, eS1, hl⟩ := xb hl
  refine tx_putI pF_X4_111 dX4_stuff_2 (by decide) rfl rfl (Option.some.inj eS1) ?_
  refine tx_aload_n dX4_stuff_5 rfl rfl ?_
  refine tx_iload_n dX4_stuff_6 rfl ?_
  obtain ⟨r2, er2, hl⟩ := xb hl
  refine tx_callV (T_isHouse er2) lV_X4_367 C_X4_isHouse rfl dX4_stuff_7 rfl (by decide) (Nat.le_of_ble_eq_true rfl) ?_
  refine tx_if_ne (tgt := 15) dX4_stuff_10 (by decide) (fun c3 => ?_) (fun c3 => ?_)
  · rw [if_neg c3] at hl
    refine tx_aload_n dX4_stuff_15 rfl rfl ?_
    refine tx_getA gF_X4_66 dX4_stuff_16 (by decide) ?_
    refine tx_bipush (v := 19) dX4_stuff_19 (by decide) ?_
    refine tx_iload_n dX4_stuff_21 rfl ?_
    refine tx_iadd dX4_stuff_22 ?_
    obtain ⟨v4, ev4, hl⟩ := xb hl
    refine tx_iald (by decide) dX4_stuff_23 ev4 ?_
    refine tx_iconst (v := (-1)) dX4_stuff_24 rfl ?_
    refine tx_icmp_ne (tgt := 38) dX4_stuff_25 (by decide) (fun c5 => ?_) (fun c5 => ?_)
    · rw [if_neg c5] at hl
      refine tx_aload_n dX4_stuff_38 rfl rfl ?_
      refine tx_iconst (v := 1) dX4_stuff_39 rfl ?_
      obtain ⟨r6, er6, hl⟩ := xb hl
      refine tx_callV (T_refuses er6) lV_X4_382 C_X4_refuses rfl dX4_stuff_40 rfl (by decide) (Nat.le_of_ble_eq_true rfl) ?_
      cases hl
      exact tx_iret dX4_stuff_43 rfl rfl ⟨rfl, rfl⟩
    · rw [if_pos c5] at hl
      refine tx_iload_n dX4_stuff_28 rfl ?_
      refine tx_iconst (v := 1) dX4_stuff_29 rfl ?_
      refine tx_bipush (v := 20) dX4_stuff_30 (by decide) ?_
      obtain ⟨r7, er7, hl⟩ := xb hl
      refine tx_callS (T_within er7) lS_X4_345 C_X4_within dX4_stuff_32 rfl (by decide) (Nat.le_of_ble_eq_true rfl) ?_
      refine tx_if_ne (tgt := 44) dX4_stuff_35 (by decide) (fun c8 => ?_) (fun c8 => ?_)
      · rw [if_neg c8] at hl
        refine tx_aload_n dX4_stuff_44 rfl rfl ?_
        obtain ⟨r9, er9, hl⟩ := xb hl
        refine tx_callV (T_keeps er9) lV_X4_385 C_X4_keeps rfl dX4_stuff_45 rfl (by decide) (Nat.le_of_ble_eq_true rfl) ?_
        refine tx_aload_n dX4_stuff_48 rfl rfl ?_
        refine tx_getA gF_X4_66 dX4_stuff_49 (by decide) ?_
        refine tx_iconst (v := 3) dX4_stuff_52 rfl ?_
        refine tx_iload_n dX4_stuff_53 rfl ?_
        refine tx_iadd dX4_stuff_54 ?_
        refine tx_aload_n dX4_stuff_55 rfl rfl ?_
        refine tx_getA gF_X4_66 dX4_stuff_56 (by decide) ?_
        refine tx_iconst (v := 3) dX4_stuff_59 rfl ?_
        refine tx_iload_n dX4_stuff_60 rfl ?_
        refine tx_iadd dX4_stuff_61 ?_
        obtain ⟨v10, ev10, hl⟩ := xb hl
        refine tx_iald (by decide) dX4_stuff_62 ev10 ?_
        refine tx_iload_n dX4_stuff_63 rfl ?_
        refine tx_isub dX4_stuff_64 ?_
        refine tx_iconst (v := 1) dX4_stuff_65 rfl ?_
        refine tx_ldcw (v := 99999) q2000 dX4_stuff_66 ?_
        obtain ⟨r11, er11, hl⟩ := xb hl
        refine tx_callS (T_bounded er11) lS_X4_306 C_X4_bounded dX4_stuff_69 rfl (by decide) (Nat.le_of_ble_eq_true rfl) ?_
        obtain ⟨S12, eS12, hl⟩ := xb hl
        refine tx_iast (by decide) dX4_stuff_72 eS12 ?_
        refine tx_aload_n dX4_stuff_73 rfl rfl ?_
        refine tx_getA gF_X4_66 dX4_stuff_74 (by decide) ?_
        refine tx_iconst (v := 3) dX4_stuff_77 rfl ?_
        refine tx_iload_n dX4_stuff_78 rfl ?_
        refine tx_iadd dX4_stuff_79 ?_
        obtain ⟨v13, ev13, hl⟩ := xb hl
        refine tx_iald (by decide) dX4_stuff_80 ev13 ?_
        cases hl
        exact tx_iret dX4_stuff_81 rfl rfl ⟨rfl, rfl⟩
      · rw [if_pos c8] at hl
        refine tx_aload_n dX4_stuff_38 rfl rfl ?_
        refine tx_iconst (v := 1) dX4_stuff_39 rfl ?_
        obtain ⟨r14, er14, hl⟩ := xb hl
        refine tx_callV (T_refuses er14) lV_X4_382 C_X4_refuses rfl dX4_stuff_40 rfl (by decide) (Nat.le_of_ble_eq_true rfl) ?_
        cases hl
        exact tx_iret dX4_stuff_43 rfl rfl ⟨rfl, rfl⟩
  · rw [if_pos c3] at hl
    refine tx_iconst (v := 0) dX4_stuff_13 rfl ?_
    cases hl
    exact tx_iret dX4_stuff_14 rfl rfl ⟨rfl, rfl⟩
def f_change_J131 (n : Nat) (x1 : Int32) (x4 : Int32) (S : TS) : Option (Int32 × TS) := if x4 = (-1) then some (1, S) else (twr S 41 ((19 : Int32) + x4) x1).bind fun S13 => some (1, S13)
def f_change_J91 (n : Nat) (x1 : Int32) (x2 : Int32) (x3 : Int32) (x4 : Int32) (y0 : Int32) (S : TS) : Option (Int32 × TS) := if y0 = 0 then (f_refuses 1 S).bind fun r15 => if r15.1 ≤ 0 then some (0, r15.2) else some (1, r15.2) else (f_keeps n S).bind fun r10 => if x3 = (-1) then f_change_J131 n x1 x4 r10 else (twr r10 41 ((19 : Int32) + x3) x2).bind fun S14 => f_change_J131 n x1 x4 S14
def f_change_J90 (n : Nat) (x1 : Int32) (x2 : Int32) (x3 : Int32) (x4 : Int32) (S : TS) : Option (Int32 × TS) := f_change_J91 n x1 x2 x3 x4 0 S
def f_change_J71 (n : Nat) (x1 : Int32) (x2 : Int32) (x3 : Int32) (x4 : Int32) (S : TS) : Option (Int32 × TS) := if x3 = (-1) then f_change_J91 n x1 x2 x3 x4 1 S else (f_wouldGo n 0 x2 x3 S).bind fun r20 => if r20.1 = 0 then f_change_J90 n x1 x2 x3 x4 r20.2 else f_change_J91 n x1 x2 x3 x4 1 r20.2
def f_change_J54 (n : Nat) (x1 : Int32) (x2 : Int32) (x3 : Int32) (x4 : Int32) (S : TS) : Option (Int32 × TS) := if x4 = (-1) then f_change_J71 n x1 x2 x3 x4 S else (f_wouldGo n 0 x1 x4 S).bind fun r22 => if r22.1 = 0 then f_change_J90 n x1 x2 x3 x4 r22.2 else f_change_J71 n x1 x2 x3 x4 r22.2
def f_change (n : Nat) (x1 : Int32) (x2 : Int32) (S : TS) : Option (Int32 × TS) := (some (tpF S 0 0)).bind fun S1 => (f_isPerson x1 S1).bind fun r2 => if r2.1 = 0 then some (0, r2.2) else (f_isPerson x2 r2.2).bind fun r4 => if r4.1 = 0 then some (0, r4.2) else (f_houseOf n 0 x1 r4.2).bind fun r6 => (f_houseOf n 0 x2 r4.2).bind fun r7 => if x1 = x2 then f_change_J90 n x1 x2 r6 r7 r4.2 else if r6 = (-1) then if r7 = (-1) then f_change_J90 n x1 x2 r6 r7 r4.2 else f_change_J54 n x1 x2 r6 r7 r4.2 else f_change_J54 n x1 x2 r6 r7 r4.2
set_option maxHeartbeats 4000000 in
theorem f_change_J131_s {l : Launch} {E : XEnv} {m : Nat} {ad : Nat → Nat} {h0 : XH} {n : Nat} {x1 : Int32} {x4 : Int32} {S : TS} {r : Int32 × TS} (hl : f_change_J131 n x1 x4 S = some r) : TX l E mX4_change 6 131 [(0, .ref m), (1, .int x1), (4, .int x4)] [] m ad h0 S (fun v' S'' => v' = some (.int r.1) ∧ S'' = r.2) := by
  unfold f_change_J131 at hl
  refine tx_iload dX4_change_131 rfl ?_
  refine tx_iconst (v := (-1)) dX4_change_133 rfl ?_
  refine tx_icmp_eq (tgt := 148) dX4_change_134 (by decide) (fun c12 => ?_) (fun c12 => ?_)
  · rw [if_pos c12] at hl
    refine tx_iconst (v := 1) dX4_change_148 rfl ?_
    cases hl
    exact tx_iret dX4_change_149 rfl rfl ⟨rfl, rfl⟩
  · rw [if_neg c12] at hl
    refine tx_aload_n dX4_change_137 rfl rfl ?_
    refine tx_getA gF_X4_66 dX4_change_138 (by decide) ?_
    refine tx_bipush (v := 19) dX4_change_141 (by decide) ?_
    refine tx_iload dX4_change_143 rfl ?_
    refine tx_iadd dX4_change_145 ?_
    refine tx_iload_n dX4_change_146 rfl ?_
    obtain ⟨S13, eS13, hl⟩ := xb hl
    refine tx_iast (by decide) dX4_change_147 eS13 ?_
    refine tx_iconst (v := 1) dX4_change_148 rfl ?_
    cases hl
    exact tx_iret dX4_change_149 rfl rfl ⟨rfl, rfl⟩
set_option maxHeartbeats 4000000 in
theorem f_change_J91_s {l : Launch} {E : XEnv} {m : Nat} {ad : Nat → Nat} {h0 : XH} {n : Nat} {x1 : Int32} {x2 : Int32} {x3 : Int32} {x4 : Int32} {y0 : Int32} {S : TS} {r : Int32 × TS} (hl : f_change_J91 n x1 x2 x3 x4 y0 S = some r) : TX l E mX4_change 6 91 [(0, .ref m), (1, .int x1), (2, .int x2), (3, .int x3), (4, .int x4)] [.int y0] m ad h0 S (fun v' S'' => v' = some (.int r.1) ∧ S'' = r.2) := by
  unfold f_change_J91 at hl
  refine tx_istore dX4_change_91 (by decide) ?_
  refine tx_iload dX4_change_93 rfl ?_
  refine tx_if_ne (tgt := 112) dX4_change_95 (by decide) (fun c9 => ?_) (fun c9 => ?_)
  · rw [if_neg c9] at hl
    refine tx_aload_n dX4_change_112 rfl rfl ?_
    obtain ⟨r10, er10, hl⟩ := xb hl
    refine tx_callV (T_keeps er10) lV_X4_385 C_X4_keeps rfl dX4_change_113 rfl (by decide) (Nat.le_of_ble_eq_true rfl) ?_
    refine tx_iload_n dX4_change_116 rfl ?_
    refine tx_iconst (v := (-1)) dX4_change_117 rfl ?_
    refine tx_icmp_eq (tgt := 131) dX4_change_118 (by decide) (fun c11 => ?_) (fun c11 => ?_)
    · rw [if_pos c11] at hl
      exact tx_lsK (f_change_J131_s hl) ⟨rfl, rfl, rfl, trivial⟩
    · rw [if_neg c11] at hl
      refine tx_aload_n dX4_change_121 rfl rfl ?_
      refine tx_getA gF_X4_66 dX4_change_122 (by decide) ?_
      refine tx_bipush (v := 19) dX4_change_125 (by decide) ?_
      refine tx_iload_n dX4_change_127 rfl ?_
      refine tx_iadd dX4_change_128 ?_
      refine tx_iload_n dX4_change_129 rfl ?_
      obtain ⟨S14, eS14, hl⟩ := xb hl
      refine tx_iast (by decide) dX4_change_130 eS14 ?_
      exact tx_lsK (f_change_J131_s hl) ⟨rfl, rfl, rfl, trivial⟩
  · rw [if_pos c9] at hl
    refine tx_aload_n dX4_change_98 rfl rfl ?_
    refine tx_iconst (v := 1) dX4_change_99 rfl ?_
    obtain ⟨r15, er15, hl⟩ := xb hl
    refine tx_callV (T_refuses er15) lV_X4_382 C_X4_refuses rfl dX4_change_100 rfl (by decide) (Nat.le_of_ble_eq_true rfl) ?_
    refine tx_if_le (tgt := 110) dX4_change_103 (by decide) (fun c16 => ?_) (fun c16 => ?_)
    · rw [if_pos c16] at hl
      refine tx_iconst (v := 0) dX4_change_110 rfl ?_
      cases hl
      exact tx_iret dX4_change_111 rfl rfl ⟨rfl, rfl⟩
    · rw [if_neg c16] at hl
      refine tx_iconst (v := 1) dX4_change_106 rfl ?_
      refine tx_goto (tgt := 111) dX4_change_107 (by decide) ?_
      cases hl
      exact tx_iret dX4_change_111 rfl rfl ⟨rfl, rfl⟩
set_option maxHeartbeats 4000000 in
theorem f_change_J90_s {l : Launch} {E : XEnv} {m : Nat} {ad : Nat → Nat} {h0 : XH} {n : Nat} {x1 : Int32} {x2 : Int32} {x3 : Int32} {x4 : Int32} {S : TS} {r : Int32 × TS} (hl : f_change_J90 n x1 x2 x3 x4 S = some r) : TX l E mX4_change 6 90 [(0, .ref m), (1, .int x1), (2, .int x2), (3, .int x3), (4, .int x4)] [] m ad h0 S (fun v' S'' => v' = some (.int r.1) ∧ S'' = r.2) := by
  unfold f_change_J90 at hl
  refine tx_iconst (v := 0) dX4_change_90 rfl ?_
  exact tx_lsK (f_change_J91_s hl) ⟨rfl, rfl, rfl, rfl, rfl, trivial⟩
set_option maxHeartbeats 4000000 in
theorem f_change_J71_s {l : Launch} {E : XEnv} {m : Nat} {ad : Nat → Nat} {h0 : XH} {n : Nat} {x1 : Int32} {x2 : Int32} {x3 : Int32} {x4 : Int32} {S : TS} {r : Int32 × TS} (hl : f_change_J71 n x1 x2 x3 x4 S = some r) : TX l E mX4_change 6 71 [(0, .ref m), (1, .int x1), (2, .int x2), (3, .int x3), (4, .int x4)] [] m ad h0 S (fun v' S'' => v' = some (.int r.1) ∧ S'' = r.2) := by
  unfold f_change_J71 at hl
  refine tx_iload_n dX4_change_71 rfl ?_
  refine tx_iconst (v := (-1)) dX4_change_72 rfl ?_
  refine tx_icmp_eq (tgt := 86) dX4_change_73 (by decide) (fun c19 => ?_) (fun c19 => ?_)
  · rw [if_pos c19] at hl
    refine tx_iconst (v := 1) dX4_change_86 rfl ?_
    refine tx_goto (tgt := 91) dX4_change_87 (by decide) ?_
    exact tx_lsK (f_change_J91_s hl) ⟨rfl, rfl, rfl, rfl, rfl, trivial⟩
  · rw [if_neg c19] at hl
    refine tx_aload_n dX4_change_76 rfl rfl ?_
    refine tx_iconst (v := 0) dX4_change_77 rfl ?_
    refine tx_iload_n dX4_change_78 rfl ?_
    refine tx_iload_n dX4_change_79 rfl ?_
    obtain ⟨r20, er20, hl⟩ := xb hl
    refine tx_callV (T_wouldGo er20) lV_X4_388 C_X4_wouldGo rfl dX4_change_80 rfl (by decide) (Nat.le_of_ble_eq_true rfl) ?_
    refine tx_if_eq (tgt := 90) dX4_change_83 (by decide) (fun c21 => ?_) (fun c21 => ?_)
    · rw [if_pos c21] at hl
      exact tx_lsK (f_change_J90_s hl) ⟨rfl, rfl, rfl, rfl, rfl, trivial⟩
    · rw [if_neg c21] at hl
      refine tx_iconst (v := 1) dX4_change_86 rfl ?_
      refine tx_goto (tgt := 91) dX4_change_87 (by decide) ?_
      exact tx_lsK (f_change_J91_s hl) ⟨rfl, rfl, rfl, rfl, rfl, trivial⟩
set_option maxHeartbeats 4000000 in
theorem f_change_J54_s {l : Launch} {E : XEnv} {m : Nat} {ad : Nat → Nat} {h0 : XH} {n : Nat} {x1 : Int32} {x2 : Int32} {x3 : Int32} {x4 : Int32} {S : TS} {r : Int32 × TS} (hl : f_change_J54 n x1 x2 x3 x4 S = some r) : TX l E mX4_change 6 54 [(0, .ref m), (1, .int x1), (2, .int x2), (3, .int x3), (4, .int x4)] [] m ad h0 S (fun v' S'' => v' = some (.int r.1) ∧ S'' = r.2) := by
  unfold f_change_J54 at hl
  refine tx_iload dX4_change_54 rfl ?_
  refine tx_iconst (v := (-1)) dX4_change_56 rfl ?_
  refine tx_icmp_eq (tgt := 71) dX4_change_57 (by decide) (fun c18 => ?_) (fun c18 => ?_)
  · rw [if_pos c18] at hl
    exact tx_lsK (f_change_J71_s hl) ⟨rfl, rfl, rfl, rfl, rfl, trivial⟩
  · rw [if_neg c18] at hl
    refine tx_aload_n dX4_change_60 rfl rfl ?_
    refine tx_iconst (v := 0) dX4_change_61 rfl ?_
    refine tx_iload_n dX4_change_62 rfl ?_
    refine tx_iload dX4_change_63 rfl ?_
    obtain ⟨r22, er22, hl⟩ := xb hl
    refine tx_callV (T_wouldGo er22) lV_X4_388 C_X4_wouldGo rfl dX4_change_65 rfl (by decide) (Nat.le_of_ble_eq_true rfl) ?_
    refine tx_if_eq (tgt := 90) dX4_change_68 (by decide) (fun c23 => ?_) (fun c23 => ?_)
    · rw [if_pos c23] at hl
      exact tx_lsK (f_change_J90_s hl) ⟨rfl, rfl, rfl, rfl, rfl, trivial⟩
    · rw [if_neg c23] at hl
      exact tx_lsK (f_change_J71_s hl) ⟨rfl, rfl, rfl, rfl, rfl, trivial⟩
set_option maxHeartbeats 4000000 in
theorem T_change {l : Launch} {E : XEnv} {m : Nat} {ad : Nat → Nat} {n : Nat} {x1 : Int32} {x2 : Int32} {S : TS} {r : Int32 × TS} (hl : f_change n x1 x2 S = some r) : TM l E mX4_change 6 m ad [.ref m, .int x1, .int x2] S (some (.int r.1)) r.2 := by
  unfold f_change at hl
  refine tm_of (by decide +kernel) rfl (Nat.le_of_ble_eq_true rfl) fun h0 => ?_
  refine tx_aload_n dX4_change_0 rfl rfl ?_
  refine tx_iconst (v := 0) dX4_change_1 rfl ?_
  obtain ⟨S1, eS1, hl⟩ := xb hl
  refine tx_putI pF_X4_111 dX4_change_2 (by decide) rfl rfl (Option.some.inj eS1) ?_
  refine tx_aload_n dX4_change_5 rfl rfl ?_
  refine tx_iload_n dX4_change_6 rfl ?_
  obtain ⟨r2, er2, hl⟩ := xb hl
  refine tx_callV (T_isPerson er2) lV_X4_379 C_X4_isPerson rfl dX4_change_7 rfl (by decide) (Nat.le_of_ble_eq_true rfl) ?_
  refine tx_if_eq (tgt := 21) dX4_change_10 (by decide) (fun c3 => ?_) (fun c3 => ?_)
  · rw [if_pos c3] at hl
    refine tx_iconst (v := 0) dX4_change_21 rfl ?_
    cases hl
    exact tx_iret dX4_change_22 rfl rfl ⟨rfl, rfl⟩
  · rw [if_neg c3] at hl
    refine tx_aload_n dX4_change_13 rfl rfl ?_
    refine tx_iload_n dX4_change_14 rfl ?_
    obtain ⟨r4, er4, hl⟩ := xb hl
    refine tx_callV (T_isPerson er4) lV_X4_379 C_X4_isPerson rfl dX4_change_15 rfl (by decide) (Nat.le_of_ble_eq_true rfl) ?_
    refine tx_if_ne (tgt := 23) dX4_change_18 (by decide) (fun c5 => ?_) (fun c5 => ?_)
    · rw [if_neg c5] at hl
      refine tx_aload_n dX4_change_23 rfl rfl ?_
      refine tx_iconst (v := 0) dX4_change_24 rfl ?_
      refine tx_iload_n dX4_change_25 rfl ?_
      obtain ⟨r6, er6, hl⟩ := xb hl
      refine tx_callV (T_houseOf er6) lV_X4_339 C_X4_houseOf rfl dX4_change_26 rfl (by decide) (Nat.le_of_ble_eq_true rfl) ?_
      refine tx_istore_n dX4_change_29 (by decide) ?_
      refine tx_aload_n dX4_change_30 rfl rfl ?_
      refine tx_iconst (v := 0) dX4_change_31 rfl ?_
      refine tx_iload_n dX4_change_32 rfl ?_
      obtain ⟨r7, er7, hl⟩ := xb hl
      refine tx_callV (T_houseOf er7) lV_X4_339 C_X4_houseOf rfl dX4_change_33 rfl (by decide) (Nat.le_of_ble_eq_true rfl) ?_
      refine tx_istore dX4_change_36 (by decide) ?_
      refine tx_iload_n dX4_change_38 rfl ?_
      refine tx_iload_n dX4_change_39 rfl ?_
      refine tx_icmp_eq (tgt := 90) dX4_change_40 (by decide) (fun c8 => ?_) (fun c8 => ?_)
      · rw [if_pos c8] at hl
        exact tx_lsK (f_change_J90_s hl) ⟨rfl, rfl, rfl, rfl, rfl, trivial⟩
      · rw [if_neg c8] at hl
        refine tx_iload_n dX4_change_43 rfl ?_
        refine tx_iconst (v := (-1)) dX4_change_44 rfl ?_
        refine tx_icmp_ne (tgt := 54) dX4_change_45 (by decide) (fun c17 => ?_) (fun c17 => ?_)
        · rw [if_neg c17] at hl
          exact tx_lsK (f_change_J54_s hl) ⟨rfl, rfl, rfl, rfl, rfl, trivial⟩
        · rw [if_pos c17] at hl
          refine tx_iload dX4_change_48 rfl ?_
          refine tx_iconst (v := (-1)) dX4_change_50 rfl ?_
          refine tx_icmp_eq (tgt := 90) dX4_change_51 (by decide) (fun c24 => ?_) (fun c24 => ?_)
          · rw [if_pos c24] at hl
            exact tx_lsK (f_change_J90_s hl) ⟨rfl, rfl, rfl, rfl, rfl, trivial⟩
          · rw [if_neg c24] at hl
            exact tx_lsK (f_change_J54_s hl) ⟨rfl, rfl, rfl, rfl, rfl, trivial⟩
    · rw [if_pos c5] at hl
      refine tx_iconst (v := 0) dX4_change_21 rfl ?_
      cases hl
      exact tx_iret dX4_change_22 rfl rfl ⟨rfl, rfl⟩
def f_letIn (n : Nat)  (S : TS) : Option (Int32 × TS) := (some (tpF S 0 0)).bind fun S1 => (trd S1 41 2).bind fun v2 => if v2 = 1 then (f_refuses 1 S1).bind fun r7 => some (r7.1, r7.2) else (f_dampIn 0 S1).bind fun r4 => (f_keeps n S1).bind fun r5 => (twr r5 41 2 1).bind fun S6 => some (r4, S6)
set_option maxHeartbeats 4000000 in
theorem T_letIn {l : Launch} {E : XEnv} {m : Nat} {ad : Nat → Nat} {n : Nat}  {S : TS} {r : Int32 × TS} (hl : f_letIn n  S = some r) : TM l E mX4_letIn 3 m ad [.ref m] S (some (.int r.1)) r.2 := by
  unfold f_letIn at hl
  refine tm_of (by decide +kernel) rfl (Nat.le_of_ble_eq_true rfl) fun h0 => ?_
  refine tx_aload_n dX4_letIn_0 rfl rfl ?_
  refine tx_iconst (v := 0) dX4_letIn_1 rfl ?_
  obtain ⟨S1, eS1, hl⟩ := xb hl
  refine tx_putI pF_X4_111 dX4_letIn_2 (by decide) rfl rfl (Option.some.inj eS1) ?_
  refine tx_aload_n dX4_letIn_5 rfl rfl ?_
  refine tx_getA gF_X4_66 dX4_letIn_6 (by decide) ?_
  refine tx_iconst (v := 2) dX4_letIn_9 rfl ?_
  obtain ⟨v2, ev2, hl⟩ := xb hl
  refine tx_iald (by decide) dX4_letIn_10 ev2 ?_
  refine tx_iconst (v := 1) dX4_letIn_11 rfl ?_
  refine tx_icmp_ne (tgt := 21) dX4_letIn_12 (by decide) (fun c3 => ?_) (fun c3 => ?_)
  · rw [if_neg c3] at hl
    refine tx_aload_n dX4_letIn_21 rfl rfl ?_
    refine tx_iconst (v := 0) dX4_letIn_22 rfl ?_
    obtain ⟨r4, er4, hl⟩ := xb hl
    refine tx_callV (T_dampIn er4) lV_X4_309 C_X4_dampIn rfl dX4_letIn_23 rfl (by decide) (Nat.le_of_ble_eq_true rfl) ?_
    refine tx_istore_n dX4_letIn_26 (by decide) ?_
    refine tx_aload_n dX4_letIn_27 rfl rfl ?_
    obtain ⟨r5, er5, hl⟩ := xb hl
    refine tx_callV (T_keeps er5) lV_X4_385 C_X4_keeps rfl dX4_letIn_28 rfl (by decide) (Nat.le_of_ble_eq_true rfl) ?_
    refine tx_aload_n dX4_letIn_31 rfl rfl ?_
    refine tx_getA gF_X4_66 dX4_letIn_32 (by decide) ?_
    refine tx_iconst (v := 2) dX4_letIn_35 rfl ?_
    refine tx_iconst (v := 1) dX4_letIn_36 rfl ?_
    obtain ⟨S6, eS6, hl⟩ := xb hl
    refine tx_iast (by decide) dX4_letIn_37 eS6 ?_
    refine tx_iload_n dX4_letIn_38 rfl ?_
    cases hl
    exact tx_iret dX4_letIn_39 rfl rfl ⟨rfl, rfl⟩
  · rw [if_pos c3] at hl
    refine tx_aload_n dX4_letIn_15 rfl rfl ?_
    refine tx_iconst (v := 1) dX4_letIn_16 rfl ?_
    obtain ⟨r7, er7, hl⟩ := xb hl
    refine tx_callV (T_refuses er7) lV_X4_382 C_X4_refuses rfl dX4_letIn_17 rfl (by decide) (Nat.le_of_ble_eq_true rfl) ?_
    cases hl
    exact tx_iret dX4_letIn_20 rfl rfl ⟨rfl, rfl⟩
def f_isDays (x1 : Int32) (x2 : Int32) (x3 : Int32) (S : TS) : Option (Int32 × TS) := (f_within x1 x2 40).bind fun r1 => (f_right r1 x3 S).bind fun r2 => (tz r2.1).bind fun z3 => some (z3, r2.2)
set_option maxHeartbeats 4000000 in
theorem T_isDays {l : Launch} {E : XEnv} {m : Nat} {ad : Nat → Nat} {x1 : Int32} {x2 : Int32} {x3 : Int32} {S : TS} {r : Int32 × TS} (hl : f_isDays x1 x2 x3 S = some r) : TM l E mX4_isDays 2 m ad [.ref m, .int x1, .int x2, .int x3] S (some (.int r.1)) r.2 := by
  unfold f_isDays at hl
  refine tm_of (by decide +kernel) rfl (Nat.le_of_ble_eq_true rfl) fun h0 => ?_
  refine tx_aload_n dX4_isDays_0 rfl rfl ?_
  refine tx_iload_n dX4_isDays_1 rfl ?_
  refine tx_iload_n dX4_isDays_2 rfl ?_
  refine tx_bipush (v := 40) dX4_isDays_3 (by decide) ?_
  obtain ⟨r1, er1, hl⟩ := xb hl
  refine tx_callS (T_within er1) lS_X4_345 C_X4_within dX4_isDays_5 rfl (by decide) (Nat.le_of_ble_eq_true rfl) ?_
  refine tx_iload_n dX4_isDays_8 rfl ?_
  obtain ⟨r2, er2, hl⟩ := xb hl
  refine tx_callV (T_right er2) lV_X4_268 C_X4_right rfl dX4_isDays_9 rfl (by decide) (Nat.le_of_ble_eq_true rfl) ?_
  obtain ⟨z3, ez3, hl⟩ := xb hl
  refine tx_top (tz_eq ez3).1 ?_
  cases hl
  exact tx_iret dX4_isDays_12 rfl (tz_eq ez3).2 ⟨rfl, rfl⟩
def f_tries_L2 (n : Nat) (x1 : Int32) (S : TS) : Option ((Int32 × TS) ⊕ ((TS))) := if x1 ≥ 43 then some (.inr S) else (trd S 41 x1).bind fun v2 => (twr S 41 ((43 : Int32) + x1) v2).bind fun S3 => (some (x1 + 1)).bind fun w4 => some (.inl (w4, S3))
abbrev K_tries_L2 (l : Launch) (E : XEnv) (m : Nat) (ad : Nat → Nat) (h0 : XH) (R : Option Value → TS → Prop) (S : TS)  (o : (TS)) : Prop := match o with
  | e => TX l E mX4_tries 1 29 [(0, .ref m)] [] m ad h0 e R
def f_tries (n : Nat)  (S : TS) : Option (TS) := (xloop (fun s => f_tries_L2 n s.1 s.2) n (0, S)).bind fun o5 => some o5
set_option maxHeartbeats 4000000 in
theorem f_tries_L2_s {l : Launch} {E : XEnv} {m : Nat} {ad : Nat → Nat} {h0 : XH} {R : Option Value → TS → Prop} {n : Nat} {x1 : Int32} {S : TS} {o : (Int32 × TS) ⊕ ((TS))} (hl : f_tries_L2 n x1 S = some o) (hK : (xk (fun s : Int32 × TS => TX l E mX4_tries 1 2 [(0, .ref m), (1, .int s.1)] [] m ad h0 s.2 R) (fun r => K_tries_L2 l E m ad h0 R S r) o)) : TX l E mX4_tries 1 2 [(0, .ref m), (1, .int x1)] [] m ad h0 S R := by
  unfold f_tries_L2 at hl
  refine tx_iload_n dX4_tries_2 rfl ?_
  refine tx_bipush (v := 43) dX4_tries_3 (by decide) ?_
  refine tx_icmp_ge (tgt := 29) dX4_tries_5 (by decide) (fun c1 => ?_) (fun c1 => ?_)
  · rw [if_pos c1] at hl
    cases hl
    exact tx_lsK hK ⟨rfl, trivial⟩
  · rw [if_neg c1] at hl
    refine tx_aload_n dX4_tries_8 rfl rfl ?_
    refine tx_getA gF_X4_66 dX4_tries_9 (by decide) ?_
    refine tx_bipush (v := 43) dX4_tries_12 (by decide) ?_
    refine tx_iload_n dX4_tries_14 rfl ?_
    refine tx_iadd dX4_tries_15 ?_
    refine tx_aload_n dX4_tries_16 rfl rfl ?_
    refine tx_getA gF_X4_66 dX4_tries_17 (by decide) ?_
    refine tx_iload_n dX4_tries_20 rfl ?_
    obtain ⟨v2, ev2, hl⟩ := xb hl
    refine tx_iald (by decide) dX4_tries_21 ev2 ?_
    obtain ⟨S3, eS3, hl⟩ := xb hl
    refine tx_iast (by decide) dX4_tries_22 eS3 ?_
    obtain ⟨w4, ew4, hl⟩ := xb hl
    refine tx_iinc dX4_tries_23 rfl (by decide) (Option.some.inj ew4) ?_
    refine tx_goto (tgt := 2) dX4_tries_26 (by decide) ?_
    cases hl
    exact tx_lsK hK ⟨rfl, rfl, trivial⟩
set_option maxHeartbeats 4000000 in
theorem f_tries_L2_ok {l : Launch} {E : XEnv} {m : Nat} {ad : Nat → Nat} {h0 : XH} {R : Option Value → TS → Prop} {n : Nat}  {S : TS} {s : Int32 × TS} {o : (TS)} (hl : xloop (fun s => f_tries_L2 n s.1 s.2) n s = some o) (hK : K_tries_L2 l E m ad h0 R S o) : TX l E mX4_tries 1 2 [(0, .ref m), (1, .int s.1)] [] m ad h0 s.2 R :=
  xloop_of (fun s : Int32 × TS => TX l E mX4_tries 1 2 [(0, .ref m), (1, .int s.1)] [] m ad h0 s.2 R) (fun r => K_tries_L2 l E m ad h0 R S r) (fun s o hl hk => f_tries_L2_s (S := s.2) (o := o) hl hk) n s o hl hK
set_option maxHeartbeats 4000000 in
theorem T_tries {l : Launch} {E : XEnv} {m : Nat} {ad : Nat → Nat} {n : Nat}  {S : TS} {S' : TS} (hl : f_tries n  S = some S') : TM l E mX4_tries 1 m ad [.ref m] S none S' := by
  unfold f_tries at hl
  refine tm_of (by decide +kernel) rfl (Nat.le_of_ble_eq_true rfl) fun h0 => ?_
  refine tx_iconst (v := 0) dX4_tries_0 rfl ?_
  refine tx_istore_n dX4_tries_1 (by decide) ?_
  obtain ⟨o5, eo5, hl⟩ := xb hl
  refine tx_lsK (f_tries_L2_ok (S := S) (s := (0, S)) eo5 ?_) ⟨rfl, rfl, trivial⟩
  cases hl
  exact tx_vret dX4_tries_29 rfl ⟨rfl, rfl⟩
def f_daysGo_L2 (n : Nat) (x1 : Int32) (x2 : Int32) (S : TS) : Option ((Int32 × TS) ⊕ ((TS))) := if x2 ≥ x1 then some (.inr S) else (f_dayGoes n 43 S).bind fun r2 => (some (x2 + 1)).bind fun w3 => some (.inl (w3, r2))
abbrev K_daysGo_L2 (l : Launch) (E : XEnv) (m : Nat) (ad : Nat → Nat) (h0 : XH) (R : Option Value → TS → Prop) (S : TS) (x1 : Int32) (o : (TS)) : Prop := match o with
  | e => TX l E mX4_daysGo 6 19 [(0, .ref m)] [] m ad h0 e R
def f_daysGo (n : Nat) (x1 : Int32) (S : TS) : Option (TS) := (xloop (fun s => f_daysGo_L2 n x1 s.1 s.2) n (0, S)).bind fun o4 => some o4
set_option maxHeartbeats 4000000 in
theorem f_daysGo_L2_s {l : Launch} {E : XEnv} {m : Nat} {ad : Nat → Nat} {h0 : XH} {R : Option Value → TS → Prop} {n : Nat} {x1 : Int32} {x2 : Int32} {S : TS} {o : (Int32 × TS) ⊕ ((TS))} (hl : f_daysGo_L2 n x1 x2 S = some o) (hK : (xk (fun s : Int32 × TS => TX l E mX4_daysGo 6 2 [(0, .ref m), (1, .int x1), (2, .int s.1)] [] m ad h0 s.2 R) (fun r => K_daysGo_L2 l E m ad h0 R S x1 r) o)) : TX l E mX4_daysGo 6 2 [(0, .ref m), (1, .int x1), (2, .int x2)] [] m ad h0 S R := by
  unfold f_daysGo_L2 at hl
  refine tx_iload_n dX4_daysGo_2 rfl ?_
  refine tx_iload_n dX4_daysGo_3 rfl ?_
  refine tx_icmp_ge (tgt := 19) dX4_daysGo_4 (by decide) (fun c1 => ?_) (fun c1 => ?_)
  · rw [if_pos c1] at hl
    cases hl
    exact tx_lsK hK ⟨rfl, trivial⟩
  · rw [if_neg c1] at hl
    refine tx_aload_n dX4_daysGo_7 rfl rfl ?_
    refine tx_bipush (v := 43) dX4_daysGo_8 (by decide) ?_
    obtain ⟨r2, er2, hl⟩ := xb hl
    refine tx_callV (T_dayGoes er2) lV_X4_336 C_X4_dayGoes rfl dX4_daysGo_10 rfl (by decide) (Nat.le_of_ble_eq_true rfl) ?_
    obtain ⟨w3, ew3, hl⟩ := xb hl
    refine tx_iinc dX4_daysGo_13 rfl (by decide) (Option.some.inj ew3) ?_
    refine tx_goto (tgt := 2) dX4_daysGo_16 (by decide) ?_
    cases hl
    exact tx_lsK hK ⟨rfl, rfl, rfl, trivial⟩
set_option maxHeartbeats 4000000 in
theorem f_daysGo_L2_ok {l : Launch} {E : XEnv} {m : Nat} {ad : Nat → Nat} {h0 : XH} {R : Option Value → TS → Prop} {n : Nat} {x1 : Int32} {S : TS} {s : Int32 × TS} {o : (TS)} (hl : xloop (fun s => f_daysGo_L2 n x1 s.1 s.2) n s = some o) (hK : K_daysGo_L2 l E m ad h0 R S x1 o) : TX l E mX4_daysGo 6 2 [(0, .ref m), (1, .int x1), (2, .int s.1)] [] m ad h0 s.2 R :=
  xloop_of (fun s : Int32 × TS => TX l E mX4_daysGo 6 2 [(0, .ref m), (1, .int x1), (2, .int s.1)] [] m ad h0 s.2 R) (fun r => K_daysGo_L2 l E m ad h0 R S x1 r) (fun s o hl hk => f_daysGo_L2_s (S := s.2) (o := o) hl hk) n s o hl hK
set_option maxHeartbeats 4000000 in
theorem T_daysGo {l : Launch} {E : XEnv} {m : Nat} {ad : Nat → Nat} {n : Nat} {x1 : Int32} {S : TS} {S' : TS} (hl : f_daysGo n x1 S = some S') : TM l E mX4_daysGo 6 m ad [.ref m, .int x1] S none S' := by
  unfold f_daysGo at hl
  refine tm_of (by decide +kernel) rfl (Nat.le_of_ble_eq_true rfl) fun h0 => ?_
  refine tx_iconst (v := 0) dX4_daysGo_0 rfl ?_
  refine tx_istore_n dX4_daysGo_1 (by decide) ?_
  obtain ⟨o4, eo4, hl⟩ := xb hl
  refine tx_lsK (f_daysGo_L2_ok (S := S) (s := (0, S)) eo4 ?_) ⟨rfl, rfl, rfl, trivial⟩
  cases hl
  exact tx_vret dX4_daysGo_19 rfl ⟨rfl, rfl⟩
def f_goesTo (n : Nat) (x1 : Int32) (S : TS) : Option (TS) := (f_tries n S).bind fun r1 => (f_daysGo n x1 r1).bind fun r2 => some r2
set_option maxHeartbeats 4000000 in
theorem T_goesTo {l : Launch} {E : XEnv} {m : Nat} {ad : Nat → Nat} {n : Nat} {x1 : Int32} {S : TS} {S' : TS} (hl : f_goesTo n x1 S = some S') : TM l E mX4_goesTo 7 m ad [.ref m, .int x1] S none S' := by
  unfold f_goesTo at hl
  refine tm_of (by decide +kernel) rfl (Nat.le_of_ble_eq_true rfl) fun h0 => ?_
  refine tx_aload_n dX4_goesTo_0 rfl rfl ?_
  obtain ⟨r1, er1, hl⟩ := xb hl
  refine tx_callV (T_tries er1) lV_X4_391 C_X4_tries rfl dX4_goesTo_1 rfl (by decide) (Nat.le_of_ble_eq_true rfl) ?_
  refine tx_aload_n dX4_goesTo_4 rfl rfl ?_
  refine tx_iload_n dX4_goesTo_5 rfl ?_
  obtain ⟨r2, er2, hl⟩ := xb hl
  refine tx_callV (T_daysGo er2) lV_X4_394 C_X4_daysGo rfl dX4_goesTo_6 rfl (by decide) (Nat.le_of_ble_eq_true rfl) ?_
  cases hl
  exact tx_vret dX4_goesTo_9 rfl ⟨rfl, rfl⟩
def f_then (n : Nat) (x1 : Int32) (x2 : Int32) (x3 : Int32) (S : TS) : Option (Int32 × TS) := (some (tpF S 0 0)).bind fun S1 => (f_isPerson x1 S1).bind fun r2 => if r2.1 = 0 then some (0, r2.2) else (f_isWhat x3 2 r2.2).bind fun r4 => if r4.1 = 0 then some (0, r4.2) else (f_isDays x2 0 2 r4.2).bind fun r6 => if r6.1 = 0 then some (0, r6.2) else (f_goesTo n x2 r6.2).bind fun r8 => if x3 = 0 then (trd r8 41 ((70 : Int32) + x1)).bind fun v13 => some (v13, r8) else if x3 = 1 then (f_houseOf n 43 x1 r8).bind fun r12 => some (r12, r8) else (trd r8 41 ((78 : Int32) + x1)).bind fun v11 => some (v11, r8)
set_option maxHeartbeats 4000000 in
theorem T_then {l : Launch} {E : XEnv} {m : Nat} {ad : Nat → Nat} {n : Nat} {x1 : Int32} {x2 : Int32} {x3 : Int32} {S : TS} {r : Int32 × TS} (hl : f_then n x1 x2 x3 S = some r) : TM l E mX4_then 8 m ad [.ref m, .int x1, .int x2, .int x3] S (some (.int r.1)) r.2 := by
  unfold f_then at hl
  refine tm_of (by decide +kernel) rfl (Nat.le_of_ble_eq_true rfl) fun h0 => ?_
  refine tx_aload_n dX4_then_0 rfl rfl ?_
  refine tx_iconst (v := 0) dX4_then_1 rfl ?_
  obtain ⟨S1, eS1, hl⟩ := xb hl
  refine tx_putI pF_X4_111 dX4_then_2 (by decide) rfl rfl (Option.some.inj eS1) ?_
  refine tx_aload_n dX4_then_5 rfl rfl ?_
  refine tx_iload_n dX4_then_6 rfl ?_
  obtain ⟨r2, er2, hl⟩ := xb hl
  refine tx_callV (T_isPerson er2) lV_X4_379 C_X4_isPerson rfl dX4_then_7 rfl (by decide) (Nat.le_of_ble_eq_true rfl) ?_
  refine tx_if_eq (tgt := 32) dX4_then_10 (by decide) (fun c3 => ?_) (fun c3 => ?_)
  · rw [if_pos c3] at hl
    refine tx_iconst (v := 0) dX4_then_32 rfl ?_
    cases hl
    exact tx_iret dX4_then_33 rfl rfl ⟨rfl, rfl⟩
  · rw [if_neg c3] at hl
    refine tx_aload_n dX4_then_13 rfl rfl ?_
    refine tx_iload_n dX4_then_14 rfl ?_
    refine tx_iconst (v := 2) dX4_then_15 rfl ?_
    obtain ⟨r4, er4, hl⟩ := xb hl
    refine tx_callV (T_isWhat er4) lV_X4_370 C_X4_isWhat rfl dX4_then_16 rfl (by decide) (Nat.le_of_ble_eq_true rfl) ?_
    refine tx_if_eq (tgt := 32) dX4_then_19 (by decide) (fun c5 => ?_) (fun c5 => ?_)
    · rw [if_pos c5] at hl
      refine tx_iconst (v := 0) dX4_then_32 rfl ?_
      cases hl
      exact tx_iret dX4_then_33 rfl rfl ⟨rfl, rfl⟩
    · rw [if_neg c5] at hl
      refine tx_aload_n dX4_then_22 rfl rfl ?_
      refine tx_iload_n dX4_then_23 rfl ?_
      refine tx_iconst (v := 0) dX4_then_24 rfl ?_
      refine tx_iconst (v := 2) dX4_then_25 rfl ?_
      obtain ⟨r6, er6, hl⟩ := xb hl
      refine tx_callV (T_isDays er6) lV_X4_397 C_X4_isDays rfl dX4_then_26 rfl (by decide) (Nat.le_of_ble_eq_true rfl) ?_
      refine tx_if_ne (tgt := 34) dX4_then_29 (by decide) (fun c7 => ?_) (fun c7 => ?_)
      · rw [if_neg c7] at hl
        refine tx_aload_n dX4_then_34 rfl rfl ?_
        refine tx_iload_n dX4_then_35 rfl ?_
        obtain ⟨r8, er8, hl⟩ := xb hl
        refine tx_callV (T_goesTo er8) lV_X4_400 C_X4_goesTo rfl dX4_then_36 rfl (by decide) (Nat.le_of_ble_eq_true rfl) ?_
        refine tx_iload_n dX4_then_39 rfl ?_
        refine tx_if_ne (tgt := 55) dX4_then_40 (by decide) (fun c9 => ?_) (fun c9 => ?_)
        · rw [if_neg c9] at hl
          refine tx_iload_n dX4_then_55 rfl ?_
          refine tx_iconst (v := 1) dX4_then_56 rfl ?_
          refine tx_icmp_ne (tgt := 70) dX4_then_57 (by decide) (fun c10 => ?_) (fun c10 => ?_)
          · rw [if_neg c10] at hl
            refine tx_aload_n dX4_then_70 rfl rfl ?_
            refine tx_getA gF_X4_66 dX4_then_71 (by decide) ?_
            refine tx_bipush (v := 78) dX4_then_74 (by decide) ?_
            refine tx_iload_n dX4_then_76 rfl ?_
            refine tx_iadd dX4_then_77 ?_
            obtain ⟨v11, ev11, hl⟩ := xb hl
            refine tx_iald (by decide) dX4_then_78 ev11 ?_
            cases hl
            exact tx_iret dX4_then_79 rfl rfl ⟨rfl, rfl⟩
          · rw [if_pos c10] at hl
            refine tx_aload_n dX4_then_60 rfl rfl ?_
            refine tx_bipush (v := 43) dX4_then_61 (by decide) ?_
            refine tx_iload_n dX4_then_63 rfl ?_
            obtain ⟨r12, er12, hl⟩ := xb hl
            refine tx_callV (T_houseOf er12) lV_X4_339 C_X4_houseOf rfl dX4_then_64 rfl (by decide) (Nat.le_of_ble_eq_true rfl) ?_
            refine tx_goto (tgt := 79) dX4_then_67 (by decide) ?_
            cases hl
            exact tx_iret dX4_then_79 rfl rfl ⟨rfl, rfl⟩
        · rw [if_pos c9] at hl
          refine tx_aload_n dX4_then_43 rfl rfl ?_
          refine tx_getA gF_X4_66 dX4_then_44 (by decide) ?_
          refine tx_bipush (v := 70) dX4_then_47 (by decide) ?_
          refine tx_iload_n dX4_then_49 rfl ?_
          refine tx_iadd dX4_then_50 ?_
          obtain ⟨v13, ev13, hl⟩ := xb hl
          refine tx_iald (by decide) dX4_then_51 ev13 ?_
          refine tx_goto (tgt := 79) dX4_then_52 (by decide) ?_
          cases hl
          exact tx_iret dX4_then_79 rfl rfl ⟨rfl, rfl⟩
      · rw [if_pos c7] at hl
        refine tx_iconst (v := 0) dX4_then_32 rfl ?_
        cases hl
        exact tx_iret dX4_then_33 rfl rfl ⟨rfl, rfl⟩
def f_worn (n : Nat) (x1 : Int32) (x2 : Int32) (S : TS) : Option (Int32 × TS) := (some (tpF S 0 0)).bind fun S1 => (f_isHouse x1 S1).bind fun r2 => if r2.1 = 0 then some (0, r2.2) else (f_isDays x2 0 2 r2.2).bind fun r4 => if r4.1 = 0 then some (0, r4.2) else (f_goesTo n x2 r4.2).bind fun r6 => (trd r6 41 ((54 : Int32) + x1)).bind fun v7 => some (v7, r6)
set_option maxHeartbeats 4000000 in
theorem T_worn {l : Launch} {E : XEnv} {m : Nat} {ad : Nat → Nat} {n : Nat} {x1 : Int32} {x2 : Int32} {S : TS} {r : Int32 × TS} (hl : f_worn n x1 x2 S = some r) : TM l E mX4_worn 8 m ad [.ref m, .int x1, .int x2] S (some (.int r.1)) r.2 := by
  unfold f_worn at hl
  refine tm_of (by decide +kernel) rfl (Nat.le_of_ble_eq_true rfl) fun h0 => ?_
  refine tx_aload_n dX4_worn_0 rfl rfl ?_
  refine tx_iconst (v := 0) dX4_worn_1 rfl ?_
  obtain ⟨S1, eS1, hl⟩ := xb hl
  refine tx_putI pF_X4_111 dX4_worn_2 (by decide) rfl rfl (Option.some.inj eS1) ?_
  refine tx_aload_n dX4_worn_5 rfl rfl ?_
  refine tx_iload_n dX4_worn_6 rfl ?_
  obtain ⟨r2, er2, hl⟩ := xb hl
  refine tx_callV (T_isHouse er2) lV_X4_367 C_X4_isHouse rfl dX4_worn_7 rfl (by decide) (Nat.le_of_ble_eq_true rfl) ?_
  refine tx_if_eq (tgt := 23) dX4_worn_10 (by decide) (fun c3 => ?_) (fun c3 => ?_)
  · rw [if_pos c3] at hl
    refine tx_iconst (v := 0) dX4_worn_23 rfl ?_
    cases hl
    exact tx_iret dX4_worn_24 rfl rfl ⟨rfl, rfl⟩
  · rw [if_neg c3] at hl
    refine tx_aload_n dX4_worn_13 rfl rfl ?_
    refine tx_iload_n dX4_worn_14 rfl ?_
    refine tx_iconst (v := 0) dX4_worn_15 rfl ?_
    refine tx_iconst (v := 2) dX4_worn_16 rfl ?_
    obtain ⟨r4, er4, hl⟩ := xb hl
    refine tx_callV (T_isDays er4) lV_X4_397 C_X4_isDays rfl dX4_worn_17 rfl (by decide) (Nat.le_of_ble_eq_true rfl) ?_
    refine tx_if_ne (tgt := 25) dX4_worn_20 (by decide) (fun c5 => ?_) (fun c5 => ?_)
    · rw [if_neg c5] at hl
      refine tx_aload_n dX4_worn_25 rfl rfl ?_
      refine tx_iload_n dX4_worn_26 rfl ?_
      obtain ⟨r6, er6, hl⟩ := xb hl
      refine tx_callV (T_goesTo er6) lV_X4_400 C_X4_goesTo rfl dX4_worn_27 rfl (by decide) (Nat.le_of_ble_eq_true rfl) ?_
      refine tx_aload_n dX4_worn_30 rfl rfl ?_
      refine tx_getA gF_X4_66 dX4_worn_31 (by decide) ?_
      refine tx_bipush (v := 54) dX4_worn_34 (by decide) ?_
      refine tx_iload_n dX4_worn_36 rfl ?_
      refine tx_iadd dX4_worn_37 ?_
      obtain ⟨v7, ev7, hl⟩ := xb hl
      refine tx_iald (by decide) dX4_worn_38 ev7 ?_
      cases hl
      exact tx_iret dX4_worn_39 rfl rfl ⟨rfl, rfl⟩
    · rw [if_pos c5] at hl
      refine tx_iconst (v := 0) dX4_worn_23 rfl ?_
      cases hl
      exact tx_iret dX4_worn_24 rfl rfl ⟨rfl, rfl⟩
def f_burstsIn_L6 (n : Nat) (x1 : Int32) (x2 : Int32) (S : TS) : Option ((Int32 × TS) ⊕ ((TS) ⊕ (Int32 × TS))) := if x2 > 40 then some (.inr (.inl S)) else (f_isBurst 43 x1 S).bind fun r3 => if r3 = 0 then (f_dayGoes n 43 S).bind fun r5 => (some (x2 + 1)).bind fun w6 => some (.inl (w6, r5)) else some (.inr (.inr (x2, S)))
abbrev K_burstsIn_L6 (l : Launch) (E : XEnv) (m : Nat) (ad : Nat → Nat) (h0 : XH) (R : Option Value → TS → Prop) (S : TS) (x1 : Int32) (o : (TS) ⊕ (Int32 × TS)) : Prop := match o with
  | .inl e => TX l E mX4_burstsIn 6 36 [(0, .ref m)] [] m ad h0 e R
  | .inr e => TX l E mX4_burstsIn 6 22 [(0, .ref m), (2, .int e.1)] [] m ad h0 e.2 R
def f_burstsIn (n : Nat) (x1 : Int32) (S : TS) : Option (Int32 × TS) := (f_tries n S).bind fun r1 => (xloop (fun s => f_burstsIn_L6 n x1 s.1 s.2) n (0, r1)).bind fun o7 => match o7 with | .inl e8 => (some (99999, e8)) | .inr e9 => (some (e9.1, e9.2))
set_option maxHeartbeats 4000000 in
theorem f_burstsIn_L6_s {l : Launch} {E : XEnv} {m : Nat} {ad : Nat → Nat} {h0 : XH} {R : Option Value → TS → Prop} {n : Nat} {x1 : Int32} {x2 : Int32} {S : TS} {o : (Int32 × TS) ⊕ ((TS) ⊕ (Int32 × TS))} (hl : f_burstsIn_L6 n x1 x2 S = some o) (hK : (xk (fun s : Int32 × TS => TX l E mX4_burstsIn 6 6 [(0, .ref m), (1, .int x1), (2, .int s.1)] [] m ad h0 s.2 R) (fun r => K_burstsIn_L6 l E m ad h0 R S x1 r) o)) : TX l E mX4_burstsIn 6 6 [(0, .ref m), (1, .int x1), (2, .int x2)] [] m ad h0 S R := by
  unfold f_burstsIn_L6 at hl
  refine tx_iload_n dX4_burstsIn_6 rfl ?_
  refine tx_bipush (v := 40) dX4_burstsIn_7 (by decide) ?_
  refine tx_icmp_gt (tgt := 36) dX4_burstsIn_9 (by decide) (fun c2 => ?_) (fun c2 => ?_)
  · rw [if_pos c2] at hl
    cases hl
    exact tx_lsK hK ⟨rfl, trivial⟩
  · rw [if_neg c2] at hl
    refine tx_aload_n dX4_burstsIn_12 rfl rfl ?_
    refine tx_bipush (v := 43) dX4_burstsIn_13 (by decide) ?_
    refine tx_iload_n dX4_burstsIn_15 rfl ?_
    obtain ⟨r3, er3, hl⟩ := xb hl
    refine tx_callV (T_isBurst er3) lV_X4_322 C_X4_isBurst rfl dX4_burstsIn_16 rfl (by decide) (Nat.le_of_ble_eq_true rfl) ?_
    refine tx_if_eq (tgt := 24) dX4_burstsIn_19 (by decide) (fun c4 => ?_) (fun c4 => ?_)
    · rw [if_pos c4] at hl
      refine tx_aload_n dX4_burstsIn_24 rfl rfl ?_
      refine tx_bipush (v := 43) dX4_burstsIn_25 (by decide) ?_
      obtain ⟨r5, er5, hl⟩ := xb hl
      refine tx_callV (T_dayGoes er5) lV_X4_336 C_X4_dayGoes rfl dX4_burstsIn_27 rfl (by decide) (Nat.le_of_ble_eq_true rfl) ?_
      obtain ⟨w6, ew6, hl⟩ := xb hl
      refine tx_iinc dX4_burstsIn_30 rfl (by decide) (Option.some.inj ew6) ?_
      refine tx_goto (tgt := 6) dX4_burstsIn_33 (by decide) ?_
      cases hl
      exact tx_lsK hK ⟨rfl, rfl, rfl, trivial⟩
    · rw [if_neg c4] at hl
      cases hl
      exact tx_lsK hK ⟨rfl, rfl, trivial⟩
set_option maxHeartbeats 4000000 in
theorem f_burstsIn_L6_ok {l : Launch} {E : XEnv} {m : Nat} {ad : Nat → Nat} {h0 : XH} {R : Option Value → TS → Prop} {n : Nat} {x1 : Int32} {S : TS} {s : Int32 × TS} {o : (TS) ⊕ (Int32 × TS)} (hl : xloop (fun s => f_burstsIn_L6 n x1 s.1 s.2) n s = some o) (hK : K_burstsIn_L6 l E m ad h0 R S x1 o) : TX l E mX4_burstsIn 6 6 [(0, .ref m), (1, .int x1), (2, .int s.1)] [] m ad h0 s.2 R :=
  xloop_of (fun s : Int32 × TS => TX l E mX4_burstsIn 6 6 [(0, .ref m), (1, .int x1), (2, .int s.1)] [] m ad h0 s.2 R) (fun r => K_burstsIn_L6 l E m ad h0 R S x1 r) (fun s o hl hk => f_burstsIn_L6_s (S := s.2) (o := o) hl hk) n s o hl hK
set_option maxHeartbeats 4000000 in
theorem T_burstsIn {l : Launch} {E : XEnv} {m : Nat} {ad : Nat → Nat} {n : Nat} {x1 : Int32} {S : TS} {r : Int32 × TS} (hl : f_burstsIn n x1 S = some r) : TM l E mX4_burstsIn 6 m ad [.ref m, .int x1] S (some (.int r.1)) r.2 := by
  unfold f_burstsIn at hl
  refine tm_of (by decide +kernel) rfl (Nat.le_of_ble_eq_true rfl) fun h0 => ?_
  refine tx_aload_n dX4_burstsIn_0 rfl rfl ?_
  obtain ⟨r1, er1, hl⟩ := xb hl
  refine tx_callV (T_tries er1) lV_X4_391 C_X4_tries rfl dX4_burstsIn_1 rfl (by decide) (Nat.le_of_ble_eq_true rfl) ?_
  refine tx_iconst (v := 0) dX4_burstsIn_4 rfl ?_
  refine tx_istore_n dX4_burstsIn_5 (by decide) ?_
  obtain ⟨o7, eo7, hl⟩ := xb hl
  rcases o7 with e8 | e9
  · dsimp only at hl
    refine tx_lsK (f_burstsIn_L6_ok (S := r1) (s := (0, r1)) eo7 ?_) ⟨rfl, rfl, rfl, trivial⟩
    refine tx_ldcw (v := 99999) q2000 dX4_burstsIn_36 ?_
    cases hl
    exact tx_iret dX4_burstsIn_39 rfl rfl ⟨rfl, rfl⟩
  · dsimp only at hl
    refine tx_lsK (f_burstsIn_L6_ok (S := r1) (s := (0, r1)) eo7 ?_) ⟨rfl, rfl, rfl, trivial⟩
    refine tx_iload_n dX4_burstsIn_22 rfl ?_
    cases hl
    exact tx_iret dX4_burstsIn_23 rfl rfl ⟨rfl, rfl⟩
def f_burst (n : Nat) (x1 : Int32) (S : TS) : Option (Int32 × TS) := (some (tpF S 0 0)).bind fun S1 => (f_isHouse x1 S1).bind fun r2 => if r2.1 = 0 then some (0, r2.2) else (f_burstsIn n x1 r2.2).bind fun r4 => (some r4.1).bind fun w5 => if w5 = 99999 then some ((-1), r4.2) else some (w5, r4.2)
set_option maxHeartbeats 4000000 in
theorem T_burst {l : Launch} {E : XEnv} {m : Nat} {ad : Nat → Nat} {n : Nat} {x1 : Int32} {S : TS} {r : Int32 × TS} (hl : f_burst n x1 S = some r) : TM l E mX4_burst 7 m ad [.ref m, .int x1] S (some (.int r.1)) r.2 := by
  unfold f_burst at hl
  refine tm_of (by decide +kernel) rfl (Nat.le_of_ble_eq_true rfl) fun h0 => ?_
  refine tx_aload_n dX4_burst_0 rfl rfl ?_
  refine tx_iconst (v := 0) dX4_burst_1 rfl ?_
  obtain ⟨S1, eS1, hl⟩ := xb hl
  refine tx_putI pF_X4_111 dX4_burst_2 (by decide) rfl rfl (Option.some.inj eS1) ?_
  refine tx_aload_n dX4_burst_5 rfl rfl ?_
  refine tx_iload_n dX4_burst_6 rfl ?_
  obtain ⟨r2, er2, hl⟩ := xb hl
  refine tx_callV (T_isHouse er2) lV_X4_367 C_X4_isHouse rfl dX4_burst_7 rfl (by decide) (Nat.le_of_ble_eq_true rfl) ?_
  refine tx_if_ne (tgt := 15) dX4_burst_10 (by decide) (fun c3 => ?_) (fun c3 => ?_)
  · rw [if_neg c3] at hl
    refine tx_aload_n dX4_burst_15 rfl rfl ?_
    refine tx_iload_n dX4_burst_16 rfl ?_
    obtain ⟨r4, er4, hl⟩ := xb hl
    refine tx_callV (T_burstsIn er4) lV_X4_403 C_X4_burstsIn rfl dX4_burst_17 rfl (by decide) (Nat.le_of_ble_eq_true rfl) ?_
    obtain ⟨w5, ew5, hl⟩ := xb hl
    refine tx_top (Option.some.inj ew5) ?_
    refine tx_istore_n dX4_burst_20 (by decide) ?_
    refine tx_iload_n dX4_burst_21 rfl ?_
    refine tx_ldcw (v := 99999) q2000 dX4_burst_22 ?_
    refine tx_icmp_ne (tgt := 32) dX4_burst_25 (by decide) (fun c6 => ?_) (fun c6 => ?_)
    · rw [if_neg c6] at hl
      refine tx_iload_n dX4_burst_32 rfl ?_
      cases hl
      exact tx_iret dX4_burst_33 rfl rfl ⟨rfl, rfl⟩
    · rw [if_pos c6] at hl
      refine tx_iconst (v := (-1)) dX4_burst_28 rfl ?_
      refine tx_goto (tgt := 33) dX4_burst_29 (by decide) ?_
      cases hl
      exact tx_iret dX4_burst_33 rfl rfl ⟨rfl, rfl⟩
  · rw [if_pos c3] at hl
    refine tx_iconst (v := 0) dX4_burst_13 rfl ?_
    cases hl
    exact tx_iret dX4_burst_14 rfl rfl ⟨rfl, rfl⟩
def f_wriggles_L21 (n : Nat) (x1 : Int32) (x2 : Int32) (S : TS) : Option ((Int32 × TS) ⊕ ((TS) ⊕ (Int32 × TS))) := if x2 > 40 then some (.inr (.inl S)) else (f_dayGoes n 43 S).bind fun r6 => (trd r6 41 ((78 : Int32) + x1)).bind fun v7 => (trd r6 41 ((35 : Int32) + x1)).bind fun v8 => if v7 ≤ v8 then (some (x2 + 1)).bind fun w10 => some (.inl (w10, r6)) else some (.inr (.inr (x2, r6)))
abbrev K_wriggles_L21 (l : Launch) (E : XEnv) (m : Nat) (ad : Nat → Nat) (h0 : XH) (R : Option Value → TS → Prop) (S : TS) (x1 : Int32) (o : (TS) ⊕ (Int32 × TS)) : Prop := match o with
  | .inl e => TX l E mX4_wriggles 6 62 [(0, .ref m)] [] m ad h0 e R
  | .inr e => TX l E mX4_wriggles 6 54 [(0, .ref m), (2, .int e.1)] [] m ad h0 e.2 R
def f_wriggles (n : Nat) (x1 : Int32) (S : TS) : Option (Int32 × TS) := (some (tpF S 0 0)).bind fun S1 => (f_isPerson x1 S1).bind fun r2 => if r2.1 = 0 then some (0, r2.2) else (f_tries n r2.2).bind fun r4 => (xloop (fun s => f_wriggles_L21 n x1 s.1 s.2) n (1, r4)).bind fun o11 => match o11 with | .inl e12 => (some ((-1), e12)) | .inr e13 => (some (e13.1, e13.2))
set_option maxHeartbeats 4000000 in
theorem f_wriggles_L21_s {l : Launch} {E : XEnv} {m : Nat} {ad : Nat → Nat} {h0 : XH} {R : Option Value → TS → Prop} {n : Nat} {x1 : Int32} {x2 : Int32} {S : TS} {o : (Int32 × TS) ⊕ ((TS) ⊕ (Int32 × TS))} (hl : f_wriggles_L21 n x1 x2 S = some o) (hK : (xk (fun s : Int32 × TS => TX l E mX4_wriggles 6 21 [(0, .ref m), (1, .int x1), (2, .int s.1)] [] m ad h0 s.2 R) (fun r => K_wriggles_L21 l E m ad h0 R S x1 r) o)) : TX l E mX4_wriggles 6 21 [(0, .ref m), (1, .int x1), (2, .int x2)] [] m ad h0 S R := by
  unfold f_wriggles_L21 at hl
  refine tx_iload_n dX4_wriggles_21 rfl ?_
  refine tx_bipush (v := 40) dX4_wriggles_22 (by decide) ?_
  refine tx_icmp_gt (tgt := 62) dX4_wriggles_24 (by decide) (fun c5 => ?_) (fun c5 => ?_)
  · rw [if_pos c5] at hl
    cases hl
    exact tx_lsK hK ⟨rfl, trivial⟩
  · rw [if_neg c5] at hl
    refine tx_aload_n dX4_wriggles_27 rfl rfl ?_
    refine tx_bipush (v := 43) dX4_wriggles_28 (by decide) ?_
    obtain ⟨r6, er6, hl⟩ := xb hl
    refine tx_callV (T_dayGoes er6) lV_X4_336 C_X4_dayGoes rfl dX4_wriggles_30 rfl (by decide) (Nat.le_of_ble_eq_true rfl) ?_
    refine tx_aload_n dX4_wriggles_33 rfl rfl ?_
    refine tx_getA gF_X4_66 dX4_wriggles_34 (by decide) ?_
    refine tx_bipush (v := 78) dX4_wriggles_37 (by decide) ?_
    refine tx_iload_n dX4_wriggles_39 rfl ?_
    refine tx_iadd dX4_wriggles_40 ?_
    obtain ⟨v7, ev7, hl⟩ := xb hl
    refine tx_iald (by decide) dX4_wriggles_41 ev7 ?_
    refine tx_aload_n dX4_wriggles_42 rfl rfl ?_
    refine tx_getA gF_X4_66 dX4_wriggles_43 (by decide) ?_
    refine tx_bipush (v := 35) dX4_wriggles_46 (by decide) ?_
    refine tx_iload_n dX4_wriggles_48 rfl ?_
    refine tx_iadd dX4_wriggles_49 ?_
    obtain ⟨v8, ev8, hl⟩ := xb hl
    refine tx_iald (by decide) dX4_wriggles_50 ev8 ?_
    refine tx_icmp_le (tgt := 56) dX4_wriggles_51 (by decide) (fun c9 => ?_) (fun c9 => ?_)
    · rw [if_pos c9] at hl
      obtain ⟨w10, ew10, hl⟩ := xb hl
      refine tx_iinc dX4_wriggles_56 rfl (by decide) (Option.some.inj ew10) ?_
      refine tx_goto (tgt := 21) dX4_wriggles_59 (by decide) ?_
      cases hl
      exact tx_lsK hK ⟨rfl, rfl, rfl, trivial⟩
    · rw [if_neg c9] at hl
      cases hl
      exact tx_lsK hK ⟨rfl, rfl, trivial⟩
set_option maxHeartbeats 4000000 in
theorem f_wriggles_L21_ok {l : Launch} {E : XEnv} {m : Nat} {ad : Nat → Nat} {h0 : XH} {R : Option Value → TS → Prop} {n : Nat} {x1 : Int32} {S : TS} {s : Int32 × TS} {o : (TS) ⊕ (Int32 × TS)} (hl : xloop (fun s => f_wriggles_L21 n x1 s.1 s.2) n s = some o) (hK : K_wriggles_L21 l E m ad h0 R S x1 o) : TX l E mX4_wriggles 6 21 [(0, .ref m), (1, .int x1), (2, .int s.1)] [] m ad h0 s.2 R :=
  xloop_of (fun s : Int32 × TS => TX l E mX4_wriggles 6 21 [(0, .ref m), (1, .int x1), (2, .int s.1)] [] m ad h0 s.2 R) (fun r => K_wriggles_L21 l E m ad h0 R S x1 r) (fun s o hl hk => f_wriggles_L21_s (S := s.2) (o := o) hl hk) n s o hl hK
set_option maxHeartbeats 4000000 in
theorem T_wriggles {l : Launch} {E : XEnv} {m : Nat} {ad : Nat → Nat} {n : Nat} {x1 : Int32} {S : TS} {r : Int32 × TS} (hl : f_wriggles n x1 S = some r) : TM l E mX4_wriggles 6 m ad [.ref m, .int x1] S (some (.int r.1)) r.2 := by
  unfold f_wriggles at hl
  refine tm_of (by decide +kernel) rfl (Nat.le_of_ble_eq_true rfl) fun h0 => ?_
  refine tx_aload_n dX4_wriggles_0 rfl rfl ?_
  refine tx_iconst (v := 0) dX4_wriggles_1 rfl ?_
  obtain ⟨S1, eS1, hl⟩ := xb hl
  refine tx_putI pF_X4_111 dX4_wriggles_2 (by decide) rfl rfl (Option.some.inj eS1) ?_
  refine tx_aload_n dX4_wriggles_5 rfl rfl ?_
  refine tx_iload_n dX4_wriggles_6 rfl ?_
  obtain ⟨r2, er2, hl⟩ := xb hl
  refine tx_callV (T_isPerson er2) lV_X4_379 C_X4_isPerson rfl dX4_wriggles_7 rfl (by decide) (Nat.le_of_ble_eq_true rfl) ?_
  refine tx_if_ne (tgt := 15) dX4_wriggles_10 (by decide) (fun c3 => ?_) (fun c3 => ?_)
  · rw [if_neg c3] at hl
    refine tx_aload_n dX4_wriggles_15 rfl rfl ?_
    obtain ⟨r4, er4, hl⟩ := xb hl
    refine tx_callV (T_tries er4) lV_X4_391 C_X4_tries rfl dX4_wriggles_16 rfl (by decide) (Nat.le_of_ble_eq_true rfl) ?_
    refine tx_iconst (v := 1) dX4_wriggles_19 rfl ?_
    refine tx_istore_n dX4_wriggles_20 (by decide) ?_
    obtain ⟨o11, eo11, hl⟩ := xb hl
    rcases o11 with e12 | e13
    · dsimp only at hl
      refine tx_lsK (f_wriggles_L21_ok (S := r4) (s := (1, r4)) eo11 ?_) ⟨rfl, rfl, rfl, trivial⟩
      refine tx_iconst (v := (-1)) dX4_wriggles_62 rfl ?_
      cases hl
      exact tx_iret dX4_wriggles_63 rfl rfl ⟨rfl, rfl⟩
    · dsimp only at hl
      refine tx_lsK (f_wriggles_L21_ok (S := r4) (s := (1, r4)) eo11 ?_) ⟨rfl, rfl, rfl, trivial⟩
      refine tx_iload_n dX4_wriggles_54 rfl ?_
      cases hl
      exact tx_iret dX4_wriggles_55 rfl rfl ⟨rfl, rfl⟩
  · rw [if_pos c3] at hl
    refine tx_iconst (v := 0) dX4_wriggles_13 rfl ?_
    cases hl
    exact tx_iret dX4_wriggles_14 rfl rfl ⟨rfl, rfl⟩
def f_barefoot (n : Nat) (x1 : Int32) (S : TS) : Option (Int32 × TS) := (some (tpF S 0 0)).bind fun S1 => (f_isDays x1 0 1 S1).bind fun r2 => if r2.1 = 0 then some (0, r2.2) else (f_goesTo n x1 r2.2).bind fun r4 => (f_lodgersIn n 43 r4).bind fun r5 => some (r5, r4)
set_option maxHeartbeats 4000000 in
theorem T_barefoot {l : Launch} {E : XEnv} {m : Nat} {ad : Nat → Nat} {n : Nat} {x1 : Int32} {S : TS} {r : Int32 × TS} (hl : f_barefoot n x1 S = some r) : TM l E mX4_barefoot 8 m ad [.ref m, .int x1] S (some (.int r.1)) r.2 := by
  unfold f_barefoot at hl
  refine tm_of (by decide +kernel) rfl (Nat.le_of_ble_eq_true rfl) fun h0 => ?_
  refine tx_aload_n dX4_barefoot_0 rfl rfl ?_
  refine tx_iconst (v := 0) dX4_barefoot_1 rfl ?_
  obtain ⟨S1, eS1, hl⟩ := xb hl
  refine tx_putI pF_X4_111 dX4_barefoot_2 (by decide) rfl rfl (Option.some.inj eS1) ?_
  refine tx_aload_n dX4_barefoot_5 rfl rfl ?_
  refine tx_iload_n dX4_barefoot_6 rfl ?_
  refine tx_iconst (v := 0) dX4_barefoot_7 rfl ?_
  refine tx_iconst (v := 1) dX4_barefoot_8 rfl ?_
  obtain ⟨r2, er2, hl⟩ := xb hl
  refine tx_callV (T_isDays er2) lV_X4_397 C_X4_isDays rfl dX4_barefoot_9 rfl (by decide) (Nat.le_of_ble_eq_true rfl) ?_
  refine tx_if_ne (tgt := 17) dX4_barefoot_12 (by decide) (fun c3 => ?_) (fun c3 => ?_)
  · rw [if_neg c3] at hl
    refine tx_aload_n dX4_barefoot_17 rfl rfl ?_
    refine tx_iload_n dX4_barefoot_18 rfl ?_
    obtain ⟨r4, er4, hl⟩ := xb hl
    refine tx_callV (T_goesTo er4) lV_X4_400 C_X4_goesTo rfl dX4_barefoot_19 rfl (by decide) (Nat.le_of_ble_eq_true rfl) ?_
    refine tx_aload_n dX4_barefoot_22 rfl rfl ?_
    refine tx_bipush (v := 43) dX4_barefoot_23 (by decide) ?_
    obtain ⟨r5, er5, hl⟩ := xb hl
    refine tx_callV (T_lodgersIn er5) lV_X4_352 C_X4_lodgersIn rfl dX4_barefoot_25 rfl (by decide) (Nat.le_of_ble_eq_true rfl) ?_
    cases hl
    exact tx_iret dX4_barefoot_28 rfl rfl ⟨rfl, rfl⟩
  · rw [if_pos c3] at hl
    refine tx_iconst (v := 0) dX4_barefoot_15 rfl ?_
    cases hl
    exact tx_iret dX4_barefoot_16 rfl rfl ⟨rfl, rfl⟩
def f_last_L23 (n : Nat) (x1 : Int32) (x2 : Int32) (x3 : Int32) (x4 : Int32) (S : TS) : Option ((Int32 × Int32 × Int32 × TS) ⊕ ((Int32 × Int32 × TS))) := if x4 ≥ (S.1 1) then some (.inr (x2, x3, S)) else (trd S 41 ((19 : Int32) + x4)).bind fun v5 => if v5 = (-1) then (some (x4 + 1)).bind fun w12 => some (.inl (x2, x3, w12, S)) else (f_burstsIn n x4 S).bind fun r7 => (some r7.1).bind fun w8 => if w8 > x3 then (some (x4 + 1)).bind fun w10 => some (.inl (x4, w8, w10, r7.2)) else (some (x4 + 1)).bind fun w11 => some (.inl (x2, x3, w11, r7.2))
abbrev K_last_L23 (l : Launch) (E : XEnv) (m : Nat) (ad : Nat → Nat) (h0 : XH) (R : Option Value → TS → Prop) (S : TS) (x1 : Int32) (o : (Int32 × Int32 × TS)) : Prop := match o with
  | e => TX l E mX4_last 7 78 [(0, .ref m), (1, .int x1), (2, .int e.1), (3, .int e.2.1)] [] m ad h0 e.2.2 R
def f_last (n : Nat) (x1 : Int32) (S : TS) : Option (Int32 × TS) := (some (tpF S 0 0)).bind fun S1 => (f_isWhat x1 1 S1).bind fun r2 => if r2.1 = 0 then some (0, r2.2) else (xloop (fun s => f_last_L23 n x1 s.1 s.2.1 s.2.2.1 s.2.2.2) n ((-1), (-1), 0, r2.2)).bind fun o13 => if x1 = 0 then some (o13.1, o13.2.2) else if o13.2.1 = 99999 then some ((-1), o13.2.2) else some (o13.2.1, o13.2.2)
set_option maxHeartbeats 4000000 in
theorem f_last_L23_s {l : Launch} {E : XEnv} {m : Nat} {ad : Nat → Nat} {h0 : XH} {R : Option Value → TS → Prop} {n : Nat} {x1 : Int32} {x2 : Int32} {x3 : Int32} {x4 : Int32} {S : TS} {o : (Int32 × Int32 × Int32 × TS) ⊕ ((Int32 × Int32 × TS))} (hl : f_last_L23 n x1 x2 x3 x4 S = some o) (hK : (xk (fun s : Int32 × Int32 × Int32 × TS => TX l E mX4_last 7 23 [(0, .ref m), (1, .int x1), (2, .int s.1), (3, .int s.2.1), (4, .int s.2.2.1)] [] m ad h0 s.2.2.2 R) (fun r => K_last_L23 l E m ad h0 R S x1 r) o)) : TX l E mX4_last 7 23 [(0, .ref m), (1, .int x1), (2, .int x2), (3, .int x3), (4, .int x4)] [] m ad h0 S R := by
  unfold f_last_L23 at hl
  refine tx_iload dX4_last_23 rfl ?_
  refine tx_aload_n dX4_last_25 rfl rfl ?_
  refine tx_getI gF_X4_275 dX4_last_26 (by decide) ?_
  refine tx_icmp_ge (tgt := 78) dX4_last_29 (by decide) (fun c4 => ?_) (fun c4 => ?_)
  · rw [if_pos c4] at hl
    cases hl
    exact tx_lsK hK ⟨rfl, rfl, rfl, rfl, trivial⟩
  · rw [if_neg c4] at hl
    refine tx_aload_n dX4_last_32 rfl rfl ?_
    refine tx_getA gF_X4_66 dX4_last_33 (by decide) ?_
    refine tx_bipush (v := 19) dX4_last_36 (by decide) ?_
    refine tx_iload dX4_last_38 rfl ?_
    refine tx_iadd dX4_last_40 ?_
    obtain ⟨v5, ev5, hl⟩ := xb hl
    refine tx_iald (by decide) dX4_last_41 ev5 ?_
    refine tx_iconst (v := (-1)) dX4_last_42 rfl ?_
    refine tx_icmp_ne (tgt := 49) dX4_last_43 (by decide) (fun c6 => ?_) (fun c6 => ?_)
    · rw [if_neg c6] at hl
      refine tx_aload_n dX4_last_49 rfl rfl ?_
      refine tx_iload dX4_last_50 rfl ?_
      obtain ⟨r7, er7, hl⟩ := xb hl
      refine tx_callV (T_burstsIn er7) lV_X4_403 C_X4_burstsIn rfl dX4_last_52 rfl (by decide) (Nat.le_of_ble_eq_true rfl) ?_
      obtain ⟨w8, ew8, hl⟩ := xb hl
      refine tx_top (Option.some.inj ew8) ?_
      refine tx_istore dX4_last_55 (by decide) ?_
      refine tx_iload dX4_last_57 rfl ?_
      refine tx_iload_n dX4_last_59 rfl ?_
      refine tx_icmp_gt (tgt := 66) dX4_last_60 (by decide) (fun c9 => ?_) (fun c9 => ?_)
      · rw [if_pos c9] at hl
        refine tx_iload dX4_last_66 rfl ?_
        refine tx_istore_n dX4_last_68 (by decide) ?_
        refine tx_iload dX4_last_69 rfl ?_
        refine tx_istore_n dX4_last_71 (by decide) ?_
        obtain ⟨w10, ew10, hl⟩ := xb hl
        refine tx_iinc dX4_last_72 rfl (by decide) (Option.some.inj ew10) ?_
        refine tx_goto (tgt := 23) dX4_last_75 (by decide) ?_
        cases hl
        exact tx_lsK hK ⟨rfl, rfl, rfl, rfl, rfl, trivial⟩
      · rw [if_neg c9] at hl
        refine tx_goto (tgt := 72) dX4_last_63 (by decide) ?_
        obtain ⟨w11, ew11, hl⟩ := xb hl
        refine tx_iinc dX4_last_72 rfl (by decide) (Option.some.inj ew11) ?_
        refine tx_goto (tgt := 23) dX4_last_75 (by decide) ?_
        cases hl
        exact tx_lsK hK ⟨rfl, rfl, rfl, rfl, rfl, trivial⟩
    · rw [if_pos c6] at hl
      refine tx_goto (tgt := 72) dX4_last_46 (by decide) ?_
      obtain ⟨w12, ew12, hl⟩ := xb hl
      refine tx_iinc dX4_last_72 rfl (by decide) (Option.some.inj ew12) ?_
      refine tx_goto (tgt := 23) dX4_last_75 (by decide) ?_
      cases hl
      exact tx_lsK hK ⟨rfl, rfl, rfl, rfl, rfl, trivial⟩
set_option maxHeartbeats 4000000 in
theorem f_last_L23_ok {l : Launch} {E : XEnv} {m : Nat} {ad : Nat → Nat} {h0 : XH} {R : Option Value → TS → Prop} {n : Nat} {x1 : Int32} {S : TS} {s : Int32 × Int32 × Int32 × TS} {o : (Int32 × Int32 × TS)} (hl : xloop (fun s => f_last_L23 n x1 s.1 s.2.1 s.2.2.1 s.2.2.2) n s = some o) (hK : K_last_L23 l E m ad h0 R S x1 o) : TX l E mX4_last 7 23 [(0, .ref m), (1, .int x1), (2, .int s.1), (3, .int s.2.1), (4, .int s.2.2.1)] [] m ad h0 s.2.2.2 R :=
  xloop_of (fun s : Int32 × Int32 × Int32 × TS => TX l E mX4_last 7 23 [(0, .ref m), (1, .int x1), (2, .int s.1), (3, .int s.2.1), (4, .int s.2.2.1)] [] m ad h0 s.2.2.2 R) (fun r => K_last_L23 l E m ad h0 R S x1 r) (fun s o hl hk => f_last_L23_s (S := s.2.2.2) (o := o) hl hk) n s o hl hK
set_option maxHeartbeats 4000000 in
theorem T_last {l : Launch} {E : XEnv} {m : Nat} {ad : Nat → Nat} {n : Nat} {x1 : Int32} {S : TS} {r : Int32 × TS} (hl : f_last n x1 S = some r) : TM l E mX4_last 7 m ad [.ref m, .int x1] S (some (.int r.1)) r.2 := by
  unfold f_last at hl
  refine tm_of (by decide +kernel) rfl (Nat.le_of_ble_eq_true rfl) fun h0 => ?_
  refine tx_aload_n dX4_last_0 rfl rfl ?_
  refine tx_iconst (v := 0) dX4_last_1 rfl ?_
  obtain ⟨S1, eS1, hl⟩ := xb hl
  refine tx_putI pF_X4_111 dX4_last_2 (by decide) rfl rfl (Option.some.inj eS1) ?_
  refine tx_aload_n dX4_last_5 rfl rfl ?_
  refine tx_iload_n dX4_last_6 rfl ?_
  refine tx_iconst (v := 1) dX4_last_7 rfl ?_
  obtain ⟨r2, er2, hl⟩ := xb hl
  refine tx_callV (T_isWhat er2) lV_X4_370 C_X4_isWhat rfl dX4_last_8 rfl (by decide) (Nat.le_of_ble_eq_true rfl) ?_
  refine tx_if_ne (tgt := 16) dX4_last_11 (by decide) (fun c3 => ?_) (fun c3 => ?_)
  · rw [if_neg c3] at hl
    refine tx_iconst (v := (-1)) dX4_last_16 rfl ?_
    refine tx_istore_n dX4_last_17 (by decide) ?_
    refine tx_iconst (v := (-1)) dX4_last_18 rfl ?_
    refine tx_istore_n dX4_last_19 (by decide) ?_
    refine tx_iconst (v := 0) dX4_last_20 rfl ?_
    refine tx_istore dX4_last_21 (by decide) ?_
    obtain ⟨o13, eo13, hl⟩ := xb hl
    refine tx_lsK (f_last_L23_ok (S := r2.2) (s := ((-1), (-1), 0, r2.2)) eo13 ?_) ⟨rfl, rfl, rfl, rfl, rfl, trivial⟩
    refine tx_iload_n dX4_last_78 rfl ?_
    refine tx_if_ne (tgt := 86) dX4_last_79 (by decide) (fun c14 => ?_) (fun c14 => ?_)
    · rw [if_neg c14] at hl
      refine tx_iload_n dX4_last_86 rfl ?_
      refine tx_ldcw (v := 99999) q2000 dX4_last_87 ?_
      refine tx_icmp_ne (tgt := 97) dX4_last_90 (by decide) (fun c15 => ?_) (fun c15 => ?_)
      · rw [if_neg c15] at hl
        refine tx_iload_n dX4_last_97 rfl ?_
        cases hl
        exact tx_iret dX4_last_98 rfl rfl ⟨rfl, rfl⟩
      · rw [if_pos c15] at hl
        refine tx_iconst (v := (-1)) dX4_last_93 rfl ?_
        refine tx_goto (tgt := 98) dX4_last_94 (by decide) ?_
        cases hl
        exact tx_iret dX4_last_98 rfl rfl ⟨rfl, rfl⟩
    · rw [if_pos c14] at hl
      refine tx_iload_n dX4_last_82 rfl ?_
      refine tx_goto (tgt := 98) dX4_last_83 (by decide) ?_
      cases hl
      exact tx_iret dX4_last_98 rfl rfl ⟨rfl, rfl⟩
  · rw [if_pos c3] at hl
    refine tx_iconst (v := 0) dX4_last_14 rfl ?_
    cases hl
    exact tx_iret dX4_last_15 rfl rfl ⟨rfl, rfl⟩
def f_goes_L19 (n : Nat) (x1 : Int32) (x2 : Int32) (x3 : Int32) (S : TS) : Option ((Int32 × Int32 × TS) ⊕ ((Int32 × TS))) := if x3 ≥ (S.1 1) then some (.inr (x2, S)) else (f_wouldGo n 0 x1 x3 S).bind fun r5 => if r5.1 = 0 then (some (x2 ||| 0)).bind fun w7 => (some (x3 + 1)).bind fun w8 => some (.inl (w7, w8, r5.2)) else (some (x2 ||| ((1 : Int32) <<< ((x3 : Int32) &&& 31)))).bind fun w9 => (some (x3 + 1)).bind fun w10 => some (.inl (w9, w10, r5.2))
abbrev K_goes_L19 (l : Launch) (E : XEnv) (m : Nat) (ad : Nat → Nat) (h0 : XH) (R : Option Value → TS → Prop) (S : TS) (x1 : Int32) (o : (Int32 × TS)) : Prop := match o with
  | e => TX l E mX4_goes 6 53 [(0, .ref m), (2, .int e.1)] [] m ad h0 e.2 R
def f_goes (n : Nat) (x1 : Int32) (S : TS) : Option (Int32 × TS) := (some (tpF S 0 0)).bind fun S1 => (f_isPerson x1 S1).bind fun r2 => if r2.1 = 0 then some (0, r2.2) else (xloop (fun s => f_goes_L19 n x1 s.1 s.2.1 s.2.2) n (0, 0, r2.2)).bind fun o11 => some (o11.1, o11.2)
set_option maxHeartbeats 4000000 in
theorem f_goes_L19_s {l : Launch} {E : XEnv} {m : Nat} {ad : Nat → Nat} {h0 : XH} {R : Option Value → TS → Prop} {n : Nat} {x1 : Int32} {x2 : Int32} {x3 : Int32} {S : TS} {o : (Int32 × Int32 × TS) ⊕ ((Int32 × TS))} (hl : f_goes_L19 n x1 x2 x3 S = some o) (hK : (xk (fun s : Int32 × Int32 × TS => TX l E mX4_goes 6 19 [(0, .ref m), (1, .int x1), (2, .int s.1), (3, .int s.2.1)] [] m ad h0 s.2.2 R) (fun r => K_goes_L19 l E m ad h0 R S x1 r) o)) : TX l E mX4_goes 6 19 [(0, .ref m), (1, .int x1), (2, .int x2), (3, .int x3)] [] m ad h0 S R := by
  unfold f_goes_L19 at hl
  refine tx_iload_n dX4_goes_19 rfl ?_
  refine tx_aload_n dX4_goes_20 rfl rfl ?_
  refine tx_getI gF_X4_275 dX4_goes_21 (by decide) ?_
  refine tx_icmp_ge (tgt := 53) dX4_goes_24 (by decide) (fun c4 => ?_) (fun c4 => ?_)
  · rw [if_pos c4] at hl
    cases hl
    exact tx_lsK hK ⟨rfl, rfl, trivial⟩
  · rw [if_neg c4] at hl
    refine tx_iload_n dX4_goes_27 rfl ?_
    refine tx_aload_n dX4_goes_28 rfl rfl ?_
    refine tx_iconst (v := 0) dX4_goes_29 rfl ?_
    refine tx_iload_n dX4_goes_30 rfl ?_
    refine tx_iload_n dX4_goes_31 rfl ?_
    obtain ⟨r5, er5, hl⟩ := xb hl
    refine tx_callV (T_wouldGo er5) lV_X4_388 C_X4_wouldGo rfl dX4_goes_32 rfl (by decide) (Nat.le_of_ble_eq_true rfl) ?_
    refine tx_if_eq (tgt := 44) dX4_goes_35 (by decide) (fun c6 => ?_) (fun c6 => ?_)
    · rw [if_pos c6] at hl
      refine tx_iconst (v := 0) dX4_goes_44 rfl ?_
      refine tx_ior dX4_goes_45 ?_
      obtain ⟨w7, ew7, hl⟩ := xb hl
      refine tx_top (Option.some.inj ew7) ?_
      refine tx_istore_n dX4_goes_46 (by decide) ?_
      obtain ⟨w8, ew8, hl⟩ := xb hl
      refine tx_iinc dX4_goes_47 rfl (by decide) (Option.some.inj ew8) ?_
      refine tx_goto (tgt := 19) dX4_goes_50 (by decide) ?_
      cases hl
      exact tx_lsK hK ⟨rfl, rfl, rfl, rfl, trivial⟩
    · rw [if_neg c6] at hl
      refine tx_iconst (v := 1) dX4_goes_38 rfl ?_
      refine tx_iload_n dX4_goes_39 rfl ?_
      refine tx_ishl dX4_goes_40 ?_
      refine tx_goto (tgt := 45) dX4_goes_41 (by decide) ?_
      refine tx_ior dX4_goes_45 ?_
      obtain ⟨w9, ew9, hl⟩ := xb hl
      refine tx_top (Option.some.inj ew9) ?_
      refine tx_istore_n dX4_goes_46 (by decide) ?_
      obtain ⟨w10, ew10, hl⟩ := xb hl
      refine tx_iinc dX4_goes_47 rfl (by decide) (Option.some.inj ew10) ?_
      refine tx_goto (tgt := 19) dX4_goes_50 (by decide) ?_
      cases hl
      exact tx_lsK hK ⟨rfl, rfl, rfl, rfl, trivial⟩
set_option maxHeartbeats 4000000 in
theorem f_goes_L19_ok {l : Launch} {E : XEnv} {m : Nat} {ad : Nat → Nat} {h0 : XH} {R : Option Value → TS → Prop} {n : Nat} {x1 : Int32} {S : TS} {s : Int32 × Int32 × TS} {o : (Int32 × TS)} (hl : xloop (fun s => f_goes_L19 n x1 s.1 s.2.1 s.2.2) n s = some o) (hK : K_goes_L19 l E m ad h0 R S x1 o) : TX l E mX4_goes 6 19 [(0, .ref m), (1, .int x1), (2, .int s.1), (3, .int s.2.1)] [] m ad h0 s.2.2 R :=
  xloop_of (fun s : Int32 × Int32 × TS => TX l E mX4_goes 6 19 [(0, .ref m), (1, .int x1), (2, .int s.1), (3, .int s.2.1)] [] m ad h0 s.2.2 R) (fun r => K_goes_L19 l E m ad h0 R S x1 r) (fun s o hl hk => f_goes_L19_s (S := s.2.2) (o := o) hl hk) n s o hl hK
set_option maxHeartbeats 4000000 in
theorem T_goes {l : Launch} {E : XEnv} {m : Nat} {ad : Nat → Nat} {n : Nat} {x1 : Int32} {S : TS} {r : Int32 × TS} (hl : f_goes n x1 S = some r) : TM l E mX4_goes 6 m ad [.ref m, .int x1] S (some (.int r.1)) r.2 := by
  unfold f_goes at hl
  refine tm_of (by decide +kernel) rfl (Nat.le_of_ble_eq_true rfl) fun h0 => ?_
  refine tx_aload_n dX4_goes_0 rfl rfl ?_
  refine tx_iconst (v := 0) dX4_goes_1 rfl ?_
  obtain ⟨S1, eS1, hl⟩ := xb hl
  refine tx_putI pF_X4_111 dX4_goes_2 (by decide) rfl rfl (Option.some.inj eS1) ?_
  refine tx_aload_n dX4_goes_5 rfl rfl ?_
  refine tx_iload_n dX4_goes_6 rfl ?_
  obtain ⟨r2, er2, hl⟩ := xb hl
  refine tx_callV (T_isPerson er2) lV_X4_379 C_X4_isPerson rfl dX4_goes_7 rfl (by decide) (Nat.le_of_ble_eq_true rfl) ?_
  refine tx_if_ne (tgt := 15) dX4_goes_10 (by decide) (fun c3 => ?_) (fun c3 => ?_)
  · rw [if_neg c3] at hl
    refine tx_iconst (v := 0) dX4_goes_15 rfl ?_
    refine tx_istore_n dX4_goes_16 (by decide) ?_
    refine tx_iconst (v := 0) dX4_goes_17 rfl ?_
    refine tx_istore_n dX4_goes_18 (by decide) ?_
    obtain ⟨o11, eo11, hl⟩ := xb hl
    refine tx_lsK (f_goes_L19_ok (S := r2.2) (s := (0, 0, r2.2)) eo11 ?_) ⟨rfl, rfl, rfl, rfl, trivial⟩
    refine tx_iload_n dX4_goes_53 rfl ?_
    cases hl
    exact tx_iret dX4_goes_54 rfl rfl ⟨rfl, rfl⟩
  · rw [if_pos c3] at hl
    refine tx_iconst (v := 0) dX4_goes_13 rfl ?_
    cases hl
    exact tx_iret dX4_goes_14 rfl rfl ⟨rfl, rfl⟩
def f_heirs_L19 (n : Nat) (x1 : Int32) (x2 : Int32) (x3 : Int32) (S : TS) : Option ((Int32 × Int32 × TS) ⊕ ((Int32 × TS))) := if x3 ≥ (S.1 2) then some (.inr (x2, S)) else (f_wouldGo n 0 x3 x1 S).bind fun r5 => if r5.1 = 0 then (some (x2 ||| 0)).bind fun w7 => (some (x3 + 1)).bind fun w8 => some (.inl (w7, w8, r5.2)) else (some (x2 ||| ((1 : Int32) <<< ((x3 : Int32) &&& 31)))).bind fun w9 => (some (x3 + 1)).bind fun w10 => some (.inl (w9, w10, r5.2))
abbrev K_heirs_L19 (l : Launch) (E : XEnv) (m : Nat) (ad : Nat → Nat) (h0 : XH) (R : Option Value → TS → Prop) (S : TS) (x1 : Int32) (o : (Int32 × TS)) : Prop := match o with
  | e => TX l E mX4_heirs 6 53 [(0, .ref m), (2, .int e.1)] [] m ad h0 e.2 R
def f_heirs (n : Nat) (x1 : Int32) (S : TS) : Option (Int32 × TS) := (some (tpF S 0 0)).bind fun S1 => (f_isHouse x1 S1).bind fun r2 => if r2.1 = 0 then some (0, r2.2) else (xloop (fun s => f_heirs_L19 n x1 s.1 s.2.1 s.2.2) n (0, 0, r2.2)).bind fun o11 => some (o11.1, o11.2)
set_option maxHeartbeats 4000000 in
theorem f_heirs_L19_s {l : Launch} {E : XEnv} {m : Nat} {ad : Nat → Nat} {h0 : XH} {R : Option Value → TS → Prop} {n : Nat} {x1 : Int32} {x2 : Int32} {x3 : Int32} {S : TS} {o : (Int32 × Int32 × TS) ⊕ ((Int32 × TS))} (hl : f_heirs_L19 n x1 x2 x3 S = some o) (hK : (xk (fun s : Int32 × Int32 × TS => TX l E mX4_heirs 6 19 [(0, .ref m), (1, .int x1), (2, .int s.1), (3, .int s.2.1)] [] m ad h0 s.2.2 R) (fun r => K_heirs_L19 l E m ad h0 R S x1 r) o)) : TX l E mX4_heirs 6 19 [(0, .ref m), (1, .int x1), (2, .int x2), (3, .int x3)] [] m ad h0 S R := by
  unfold f_heirs_L19 at hl
  refine tx_iload_n dX4_heirs_19 rfl ?_
  refine tx_aload_n dX4_heirs_20 rfl rfl ?_
  refine tx_getI gF_X4_278 dX4_heirs_21 (by decide) ?_
  refine tx_icmp_ge (tgt := 53) dX4_heirs_24 (by decide) (fun c4 => ?_) (fun c4 => ?_)
  · rw [if_pos c4] at hl
    cases hl
    exact tx_lsK hK ⟨rfl, rfl, trivial⟩
  · rw [if_neg c4] at hl
    refine tx_iload_n dX4_heirs_27 rfl ?_
    refine tx_aload_n dX4_heirs_28 rfl rfl ?_
    refine tx_iconst (v := 0) dX4_heirs_29 rfl ?_
    refine tx_iload_n dX4_heirs_30 rfl ?_
    refine tx_iload_n dX4_heirs_31 rfl ?_
    obtain ⟨r5, er5, hl⟩ := xb hl
    refine tx_callV (T_wouldGo er5) lV_X4_388 C_X4_wouldGo rfl dX4_heirs_32 rfl (by decide) (Nat.le_of_ble_eq_true rfl) ?_
    refine tx_if_eq (tgt := 44) dX4_heirs_35 (by decide) (fun c6 => ?_) (fun c6 => ?_)
    · rw [if_pos c6] at hl
      refine tx_iconst (v := 0) dX4_heirs_44 rfl ?_
      refine tx_ior dX4_heirs_45 ?_
      obtain ⟨w7, ew7, hl⟩ := xb hl
      refine tx_top (Option.some.inj ew7) ?_
      refine tx_istore_n dX4_heirs_46 (by decide) ?_
      obtain ⟨w8, ew8, hl⟩ := xb hl
      refine tx_iinc dX4_heirs_47 rfl (by decide) (Option.some.inj ew8) ?_
      refine tx_goto (tgt := 19) dX4_heirs_50 (by decide) ?_
      cases hl
      exact tx_lsK hK ⟨rfl, rfl, rfl, rfl, trivial⟩
    · rw [if_neg c6] at hl
      refine tx_iconst (v := 1) dX4_heirs_38 rfl ?_
      refine tx_iload_n dX4_heirs_39 rfl ?_
      refine tx_ishl dX4_heirs_40 ?_
      refine tx_goto (tgt := 45) dX4_heirs_41 (by decide) ?_
      refine tx_ior dX4_heirs_45 ?_
      obtain ⟨w9, ew9, hl⟩ := xb hl
      refine tx_top (Option.some.inj ew9) ?_
      refine tx_istore_n dX4_heirs_46 (by decide) ?_
      obtain ⟨w10, ew10, hl⟩ := xb hl
      refine tx_iinc dX4_heirs_47 rfl (by decide) (Option.some.inj ew10) ?_
      refine tx_goto (tgt := 19) dX4_heirs_50 (by decide) ?_
      cases hl
      exact tx_lsK hK ⟨rfl, rfl, rfl, rfl, trivial⟩
set_option maxHeartbeats 4000000 in
theorem f_heirs_L19_ok {l : Launch} {E : XEnv} {m : Nat} {ad : Nat → Nat} {h0 : XH} {R : Option Value → TS → Prop} {n : Nat} {x1 : Int32} {S : TS} {s : Int32 × Int32 × TS} {o : (Int32 × TS)} (hl : xloop (fun s => f_heirs_L19 n x1 s.1 s.2.1 s.2.2) n s = some o) (hK : K_heirs_L19 l E m ad h0 R S x1 o) : TX l E mX4_heirs 6 19 [(0, .ref m), (1, .int x1), (2, .int s.1), (3, .int s.2.1)] [] m ad h0 s.2.2 R :=
  xloop_of (fun s : Int32 × Int32 × TS => TX l E mX4_heirs 6 19 [(0, .ref m), (1, .int x1), (2, .int s.1), (3, .int s.2.1)] [] m ad h0 s.2.2 R) (fun r => K_heirs_L19 l E m ad h0 R S x1 r) (fun s o hl hk => f_heirs_L19_s (S := s.2.2) (o := o) hl hk) n s o hl hK
set_option maxHeartbeats 4000000 in
theorem T_heirs {l : Launch} {E : XEnv} {m : Nat} {ad : Nat → Nat} {n : Nat} {x1 : Int32} {S : TS} {r : Int32 × TS} (hl : f_heirs n x1 S = some r) : TM l E mX4_heirs 6 m ad [.ref m, .int x1] S (some (.int r.1)) r.2 := by
  unfold f_heirs at hl
  refine tm_of (by decide +kernel) rfl (Nat.le_of_ble_eq_true rfl) fun h0 => ?_
  refine tx_aload_n dX4_heirs_0 rfl rfl ?_
  refine tx_iconst (v := 0) dX4_heirs_1 rfl ?_
  obtain ⟨S1, eS1, hl⟩ := xb hl
  refine tx_putI pF_X4_111 dX4_heirs_2 (by decide) rfl rfl (Option.some.inj eS1) ?_
  refine tx_aload_n dX4_heirs_5 rfl rfl ?_
  refine tx_iload_n dX4_heirs_6 rfl ?_
  obtain ⟨r2, er2, hl⟩ := xb hl
  refine tx_callV (T_isHouse er2) lV_X4_367 C_X4_isHouse rfl dX4_heirs_7 rfl (by decide) (Nat.le_of_ble_eq_true rfl) ?_
  refine tx_if_ne (tgt := 15) dX4_heirs_10 (by decide) (fun c3 => ?_) (fun c3 => ?_)
  · rw [if_neg c3] at hl
    refine tx_iconst (v := 0) dX4_heirs_15 rfl ?_
    refine tx_istore_n dX4_heirs_16 (by decide) ?_
    refine tx_iconst (v := 0) dX4_heirs_17 rfl ?_
    refine tx_istore_n dX4_heirs_18 (by decide) ?_
    obtain ⟨o11, eo11, hl⟩ := xb hl
    refine tx_lsK (f_heirs_L19_ok (S := r2.2) (s := (0, 0, r2.2)) eo11 ?_) ⟨rfl, rfl, rfl, rfl, trivial⟩
    refine tx_iload_n dX4_heirs_53 rfl ?_
    cases hl
    exact tx_iret dX4_heirs_54 rfl rfl ⟨rfl, rfl⟩
  · rw [if_pos c3] at hl
    refine tx_iconst (v := 0) dX4_heirs_13 rfl ?_
    cases hl
    exact tx_iret dX4_heirs_14 rfl rfl ⟨rfl, rfl⟩
def f_match (n : Nat) (x1 : Int32) (S : TS) : Option (Int32 × TS) := (some (tpF S 0 0)).bind fun S1 => (f_isWhat x1 1 S1).bind fun r2 => if r2.1 = 0 then some (0, r2.2) else (f_laysMatch n r2.2).bind fun r4 => (f_leastOf 0 0 r4).bind fun r5 => if x1 = 0 then some ((r5 / 10000), r4) else some ((r5 - r5 / 10000 * 10000), r4)
set_option maxHeartbeats 4000000 in
theorem T_match {l : Launch} {E : XEnv} {m : Nat} {ad : Nat → Nat} {n : Nat} {x1 : Int32} {S : TS} {r : Int32 × TS} (hl : f_match n x1 S = some r) : TM l E mX4_match 7 m ad [.ref m, .int x1] S (some (.int r.1)) r.2 := by
  unfold f_match at hl
  refine tm_of (by decide +kernel) rfl (Nat.le_of_ble_eq_true rfl) fun h0 => ?_
  refine tx_aload_n dX4_match_0 rfl rfl ?_
  refine tx_iconst (v := 0) dX4_match_1 rfl ?_
  obtain ⟨S1, eS1, hl⟩ := xb hl
  refine tx_putI pF_X4_111 dX4_match_2 (by decide) rfl rfl (Option.some.inj eS1) ?_
  refine tx_aload_n dX4_match_5 rfl rfl ?_
  refine tx_iload_n dX4_match_6 rfl ?_
  refine tx_iconst (v := 1) dX4_match_7 rfl ?_
  obtain ⟨r2, er2, hl⟩ := xb hl
  refine tx_callV (T_isWhat er2) lV_X4_370 C_X4_isWhat rfl dX4_match_8 rfl (by decide) (Nat.le_of_ble_eq_true rfl) ?_
  refine tx_if_ne (tgt := 16) dX4_match_11 (by decide) (fun c3 => ?_) (fun c3 => ?_)
  · rw [if_neg c3] at hl
    refine tx_aload_n dX4_match_16 rfl rfl ?_
    obtain ⟨r4, er4, hl⟩ := xb hl
    refine tx_callV (T_laysMatch er4) lV_X4_412 C_X4_laysMatch rfl dX4_match_17 rfl (by decide) (Nat.le_of_ble_eq_true rfl) ?_
    refine tx_aload_n dX4_match_20 rfl rfl ?_
    refine tx_iconst (v := 0) dX4_match_21 rfl ?_
    refine tx_iconst (v := 0) dX4_match_22 rfl ?_
    obtain ⟨r5, er5, hl⟩ := xb hl
    refine tx_callV (T_leastOf er5) lV_X4_406 C_X4_leastOf rfl dX4_match_23 rfl (by decide) (Nat.le_of_ble_eq_true rfl) ?_
    refine tx_istore_n dX4_match_26 (by decide) ?_
    refine tx_iload_n dX4_match_27 rfl ?_
    refine tx_if_ne (tgt := 39) dX4_match_28 (by decide) (fun c6 => ?_) (fun c6 => ?_)
    · rw [if_neg c6] at hl
      refine tx_iload_n dX4_match_39 rfl ?_
      refine tx_sipush (v := 10000) dX4_match_40 (by decide) ?_
      refine tx_irem dX4_match_43 (by decide) ?_
      cases hl
      exact tx_iret dX4_match_44 rfl rfl ⟨rfl, rfl⟩
    · rw [if_pos c6] at hl
      refine tx_iload_n dX4_match_31 rfl ?_
      refine tx_sipush (v := 10000) dX4_match_32 (by decide) ?_
      refine tx_idiv dX4_match_35 (by decide) ?_
      refine tx_goto (tgt := 44) dX4_match_36 (by decide) ?_
      cases hl
      exact tx_iret dX4_match_44 rfl rfl ⟨rfl, rfl⟩
  · rw [if_pos c3] at hl
    refine tx_iconst (v := 0) dX4_match_14 rfl ?_
    cases hl
    exact tx_iret dX4_match_15 rfl rfl ⟨rfl, rfl⟩
def f_matched_L42 (n : Nat) (x1 : Int32) (x2 : Int32) (x4 : Int32) (x3 : Int32) (x5 : Int32) (S : TS) : Option ((Int32 × Int32 × TS) ⊕ ((Int32 × TS))) := if x5 < 0 then some (.inr (x3, S)) else if ((x2 >>> ((x5 : Int32) &&& 31)) &&& 1) = 0 then (f_wouldGo n 0 x4 x5 S).bind fun r10 => if r10.1 = 0 then (some (x5 + (-1))).bind fun w12 => some (.inl (x3, w12, r10.2)) else (f_byHouse x4 x5 x2 r10.2).bind fun r13 => (f_leastOf x4 x2 r10.2).bind fun r14 => if r13 = r14 then (some (x5 + (-1))).bind fun w17 => some (.inl (x5, w17, r10.2)) else (some (x5 + (-1))).bind fun w16 => some (.inl (x3, w16, r10.2)) else (some (x5 + (-1))).bind fun w9 => some (.inl (x3, w9, S))
abbrev K_matched_L42 (l : Launch) (E : XEnv) (m : Nat) (ad : Nat → Nat) (h0 : XH) (R : Option Value → TS → Prop) (S : TS) (x1 : Int32) (x2 : Int32) (x4 : Int32) (o : (Int32 × TS)) : Prop := match o with
  | e => TX l E mX4_matched 7 96 [(0, .ref m), (1, .int x1), (2, .int x2), (3, .int e.1), (4, .int x4)] [] m ad h0 e.2 R
def f_matched_L26 (n : Nat) (x1 : Int32) (x2 : Int32) (x3 : Int32) (x4 : Int32) (S : TS) : Option ((Int32 × Int32 × Int32 × TS) ⊕ ((Int32 × TS))) := if x4 > x1 then some (.inr (x3, S)) else (some ((S.1 1) - 1)).bind fun w6 => (xloop (fun s => f_matched_L42 n x1 x2 x4 s.1 s.2.1 s.2.2) n ((-1), w6, S)).bind fun o18 => if o18.1 = (-1) then (some (x4 + 1)).bind fun w20 => some (.inl (x2, o18.1, w20, o18.2)) else (some (x2 ||| ((1 : Int32) <<< ((o18.1 : Int32) &&& 31)))).bind fun w21 => (some (x4 + 1)).bind fun w22 => some (.inl (w21, o18.1, w22, o18.2))
abbrev K_matched_L26 (l : Launch) (E : XEnv) (m : Nat) (ad : Nat → Nat) (h0 : XH) (R : Option Value → TS → Prop) (S : TS) (x1 : Int32) (o : (Int32 × TS)) : Prop := match o with
  | e => TX l E mX4_matched 7 113 [(0, .ref m), (3, .int e.1)] [] m ad h0 e.2 R
def f_matched (n : Nat) (x1 : Int32) (S : TS) : Option (Int32 × TS) := (some (tpF S 0 0)).bind fun S1 => (f_isPerson x1 S1).bind fun r2 => if r2.1 = 0 then some (0, r2.2) else (f_laysMatch n r2.2).bind fun r4 => (xloop (fun s => f_matched_L26 n x1 s.1 s.2.1 s.2.2.1 s.2.2.2) n (0, (-1), 0, r4)).bind fun o23 => some (o23.1, o23.2)
set_option maxHeartbeats 4000000 in
theorem f_matched_L42_s {l : Launch} {E : XEnv} {m : Nat} {ad : Nat → Nat} {h0 : XH} {R : Option Value → TS → Prop} {n : Nat} {x1 : Int32} {x2 : Int32} {x4 : Int32} {x3 : Int32} {x5 : Int32} {S : TS} {o : (Int32 × Int32 × TS) ⊕ ((Int32 × TS))} (hl : f_matched_L42 n x1 x2 x4 x3 x5 S = some o) (hK : (xk (fun s : Int32 × Int32 × TS => TX l E mX4_matched 7 42 [(0, .ref m), (1, .int x1), (2, .int x2), (3, .int s.1), (4, .int x4), (5, .int s.2.1)] [] m ad h0 s.2.2 R) (fun r => K_matched_L42 l E m ad h0 R S x1 x2 x4 r) o)) : TX l E mX4_matched 7 42 [(0, .ref m), (1, .int x1), (2, .int x2), (3, .int x3), (4, .int x4), (5, .int x5)] [] m ad h0 S R := by
  unfold f_matched_L42 at hl
  refine tx_iload dX4_matched_42 rfl ?_
  refine tx_if_lt (tgt := 96) dX4_matched_44 (by decide) (fun c7 => ?_) (fun c7 => ?_)
  · rw [if_pos c7] at hl
    cases hl
    exact tx_lsK hK ⟨rfl, rfl, rfl, rfl, rfl, trivial⟩
  · rw [if_neg c7] at hl
    refine tx_iload_n dX4_matched_47 rfl ?_
    refine tx_iload dX4_matched_48 rfl ?_
    refine tx_ishr dX4_matched_50 ?_
    refine tx_iconst (v := 1) dX4_matched_51 rfl ?_
    refine tx_iand dX4_matched_52 ?_
    refine tx_if_ne (tgt := 90) dX4_matched_53 (by decide) (fun c8 => ?_) (fun c8 => ?_)
    · rw [if_neg c8] at hl
      obtain ⟨w9, ew9, hl⟩ := xb hl
      refine tx_iinc dX4_matched_90 rfl (by decide) (Option.some.inj ew9) ?_
      refine tx_goto (tgt := 42) dX4_matched_93 (by decide) ?_
      cases hl
      exact tx_lsK hK ⟨rfl, rfl, rfl, rfl, rfl, rfl, trivial⟩
    · rw [if_pos c8] at hl
      refine tx_aload_n dX4_matched_56 rfl rfl ?_
      refine tx_iconst (v := 0) dX4_matched_57 rfl ?_
      refine tx_iload dX4_matched_58 rfl ?_
      refine tx_iload dX4_matched_60 rfl ?_
      obtain ⟨r10, er10, hl⟩ := xb hl
      refine tx_callV (T_wouldGo er10) lV_X4_388 C_X4_wouldGo rfl dX4_matched_62 rfl (by decide) (Nat.le_of_ble_eq_true rfl) ?_
      refine tx_if_eq (tgt := 90) dX4_matched_65 (by decide) (fun c11 => ?_) (fun c11 => ?_)
      · rw [if_pos c11] at hl
        obtain ⟨w12, ew12, hl⟩ := xb hl
        refine tx_iinc dX4_matched_90 rfl (by decide) (Option.some.inj ew12) ?_
        refine tx_goto (tgt := 42) dX4_matched_93 (by decide) ?_
        cases hl
        exact tx_lsK hK ⟨rfl, rfl, rfl, rfl, rfl, rfl, trivial⟩
      · rw [if_neg c11] at hl
        refine tx_aload_n dX4_matched_68 rfl rfl ?_
        refine tx_iload dX4_matched_69 rfl ?_
        refine tx_iload dX4_matched_71 rfl ?_
        refine tx_iload_n dX4_matched_73 rfl ?_
        obtain ⟨r13, er13, hl⟩ := xb hl
        refine tx_callV (T_byHouse er13) lV_X4_409 C_X4_byHouse rfl dX4_matched_74 rfl (by decide) (Nat.le_of_ble_eq_true rfl) ?_
        refine tx_aload_n dX4_matched_77 rfl rfl ?_
        refine tx_iload dX4_matched_78 rfl ?_
        refine tx_iload_n dX4_matched_80 rfl ?_
        obtain ⟨r14, er14, hl⟩ := xb hl
        refine tx_callV (T_leastOf er14) lV_X4_406 C_X4_leastOf rfl dX4_matched_81 rfl (by decide) (Nat.le_of_ble_eq_true rfl) ?_
        refine tx_icmp_ne (tgt := 90) dX4_matched_84 (by decide) (fun c15 => ?_) (fun c15 => ?_)
        · rw [if_neg c15] at hl
          obtain ⟨w16, ew16, hl⟩ := xb hl
          refine tx_iinc dX4_matched_90 rfl (by decide) (Option.some.inj ew16) ?_
          refine tx_goto (tgt := 42) dX4_matched_93 (by decide) ?_
          cases hl
          exact tx_lsK hK ⟨rfl, rfl, rfl, rfl, rfl, rfl, trivial⟩
        · rw [if_pos c15] at hl
          refine tx_iload dX4_matched_87 rfl ?_
          refine tx_istore_n dX4_matched_89 (by decide) ?_
          obtain ⟨w17, ew17, hl⟩ := xb hl
          refine tx_iinc dX4_matched_90 rfl (by decide) (Option.some.inj ew17) ?_
          refine tx_goto (tgt := 42) dX4_matched_93 (by decide) ?_
          cases hl
          exact tx_lsK hK ⟨rfl, rfl, rfl, rfl, rfl, rfl, trivial⟩
set_option maxHeartbeats 4000000 in
theorem f_matched_L42_ok {l : Launch} {E : XEnv} {m : Nat} {ad : Nat → Nat} {h0 : XH} {R : Option Value → TS → Prop} {n : Nat} {x1 : Int32} {x2 : Int32} {x4 : Int32} {S : TS} {s : Int32 × Int32 × TS} {o : (Int32 × TS)} (hl : xloop (fun s => f_matched_L42 n x1 x2 x4 s.1 s.2.1 s.2.2) n s = some o) (hK : K_matched_L42 l E m ad h0 R S x1 x2 x4 o) : TX l E mX4_matched 7 42 [(0, .ref m), (1, .int x1), (2, .int x2), (3, .int s.1), (4, .int x4), (5, .int s.2.1)] [] m ad h0 s.2.2 R :=
  xloop_of (fun s : Int32 × Int32 × TS => TX l E mX4_matched 7 42 [(0, .ref m), (1, .int x1), (2, .int x2), (3, .int s.1), (4, .int x4), (5, .int s.2.1)] [] m ad h0 s.2.2 R) (fun r => K_matched_L42 l E m ad h0 R S x1 x2 x4 r) (fun s o hl hk => f_matched_L42_s (S := s.2.2) (o := o) hl hk) n s o hl hK
set_option maxHeartbeats 4000000 in
theorem f_matched_L26_s {l : Launch} {E : XEnv} {m : Nat} {ad : Nat → Nat} {h0 : XH} {R : Option Value → TS → Prop} {n : Nat} {x1 : Int32} {x2 : Int32} {x3 : Int32} {x4 : Int32} {S : TS} {o : (Int32 × Int32 × Int32 × TS) ⊕ ((Int32 × TS))} (hl : f_matched_L26 n x1 x2 x3 x4 S = some o) (hK : (xk (fun s : Int32 × Int32 × Int32 × TS => TX l E mX4_matched 7 26 [(0, .ref m), (1, .int x1), (2, .int s.1), (3, .int s.2.1), (4, .int s.2.2.1)] [] m ad h0 s.2.2.2 R) (fun r => K_matched_L26 l E m ad h0 R S x1 r) o)) : TX l E mX4_matched 7 26 [(0, .ref m), (1, .int x1), (2, .int x2), (3, .int x3), (4, .int x4)] [] m ad h0 S R := by
  unfold f_matched_L26 at hl
  refine tx_iload dX4_matched_26 rfl ?_
  refine tx_iload_n dX4_matched_28 rfl ?_
  refine tx_icmp_gt (tgt := 113) dX4_matched_29 (by decide) (fun c5 => ?_) (fun c5 => ?_)
  · rw [if_pos c5] at hl
    cases hl
    exact tx_lsK hK ⟨rfl, rfl, trivial⟩
  · rw [if_neg c5] at hl
    refine tx_iconst (v := (-1)) dX4_matched_32 rfl ?_
    refine tx_istore_n dX4_matched_33 (by decide) ?_
    refine tx_aload_n dX4_matched_34 rfl rfl ?_
    refine tx_getI gF_X4_275 dX4_matched_35 (by decide) ?_
    refine tx_iconst (v := 1) dX4_matched_38 rfl ?_
    refine tx_isub dX4_matched_39 ?_
    obtain ⟨w6, ew6, hl⟩ := xb hl
    refine tx_top (Option.some.inj ew6) ?_
    refine tx_istore dX4_matched_40 (by decide) ?_
    obtain ⟨o18, eo18, hl⟩ := xb hl
    refine tx_lsK (f_matched_L42_ok (S := S) (s := ((-1), w6, S)) eo18 ?_) ⟨rfl, rfl, rfl, rfl, rfl, rfl, trivial⟩
    refine tx_iload_n dX4_matched_96 rfl ?_
    refine tx_iconst (v := (-1)) dX4_matched_97 rfl ?_
    refine tx_icmp_eq (tgt := 107) dX4_matched_98 (by decide) (fun c19 => ?_) (fun c19 => ?_)
    · rw [if_pos c19] at hl
      obtain ⟨w20, ew20, hl⟩ := xb hl
      refine tx_iinc dX4_matched_107 rfl (by decide) (Option.some.inj ew20) ?_
      refine tx_goto (tgt := 26) dX4_matched_110 (by decide) ?_
      cases hl
      exact tx_lsK hK ⟨rfl, rfl, rfl, rfl, rfl, trivial⟩
    · rw [if_neg c19] at hl
      refine tx_iload_n dX4_matched_101 rfl ?_
      refine tx_iconst (v := 1) dX4_matched_102 rfl ?_
      refine tx_iload_n dX4_matched_103 rfl ?_
      refine tx_ishl dX4_matched_104 ?_
      refine tx_ior dX4_matched_105 ?_
      obtain ⟨w21, ew21, hl⟩ := xb hl
      refine tx_top (Option.some.inj ew21) ?_
      refine tx_istore_n dX4_matched_106 (by decide) ?_
      obtain ⟨w22, ew22, hl⟩ := xb hl
      refine tx_iinc dX4_matched_107 rfl (by decide) (Option.some.inj ew22) ?_
      refine tx_goto (tgt := 26) dX4_matched_110 (by decide) ?_
      cases hl
      exact tx_lsK hK ⟨rfl, rfl, rfl, rfl, rfl, trivial⟩
set_option maxHeartbeats 4000000 in
theorem f_matched_L26_ok {l : Launch} {E : XEnv} {m : Nat} {ad : Nat → Nat} {h0 : XH} {R : Option Value → TS → Prop} {n : Nat} {x1 : Int32} {S : TS} {s : Int32 × Int32 × Int32 × TS} {o : (Int32 × TS)} (hl : xloop (fun s => f_matched_L26 n x1 s.1 s.2.1 s.2.2.1 s.2.2.2) n s = some o) (hK : K_matched_L26 l E m ad h0 R S x1 o) : TX l E mX4_matched 7 26 [(0, .ref m), (1, .int x1), (2, .int s.1), (3, .int s.2.1), (4, .int s.2.2.1)] [] m ad h0 s.2.2.2 R :=
  xloop_of (fun s : Int32 × Int32 × Int32 × TS => TX l E mX4_matched 7 26 [(0, .ref m), (1, .int x1), (2, .int s.1), (3, .int s.2.1), (4, .int s.2.2.1)] [] m ad h0 s.2.2.2 R) (fun r => K_matched_L26 l E m ad h0 R S x1 r) (fun s o hl hk => f_matched_L26_s (S := s.2.2.2) (o := o) hl hk) n s o hl hK
set_option maxHeartbeats 4000000 in
theorem T_matched {l : Launch} {E : XEnv} {m : Nat} {ad : Nat → Nat} {n : Nat} {x1 : Int32} {S : TS} {r : Int32 × TS} (hl : f_matched n x1 S = some r) : TM l E mX4_matched 7 m ad [.ref m, .int x1] S (some (.int r.1)) r.2 := by
  unfold f_matched at hl
  refine tm_of (by decide +kernel) rfl (Nat.le_of_ble_eq_true rfl) fun h0 => ?_
  refine tx_aload_n dX4_matched_0 rfl rfl ?_
  refine tx_iconst (v := 0) dX4_matched_1 rfl ?_
  obtain ⟨S1, eS1, hl⟩ := xb hl
  refine tx_putI pF_X4_111 dX4_matched_2 (by decide) rfl rfl (Option.some.inj eS1) ?_
  refine tx_aload_n dX4_matched_5 rfl rfl ?_
  refine tx_iload_n dX4_matched_6 rfl ?_
  obtain ⟨r2, er2, hl⟩ := xb hl
  refine tx_callV (T_isPerson er2) lV_X4_379 C_X4_isPerson rfl dX4_matched_7 rfl (by decide) (Nat.le_of_ble_eq_true rfl) ?_
  refine tx_if_ne (tgt := 15) dX4_matched_10 (by decide) (fun c3 => ?_) (fun c3 => ?_)
  · rw [if_neg c3] at hl
    refine tx_aload_n dX4_matched_15 rfl rfl ?_
    obtain ⟨r4, er4, hl⟩ := xb hl
    refine tx_callV (T_laysMatch er4) lV_X4_412 C_X4_laysMatch rfl dX4_matched_16 rfl (by decide) (Nat.le_of_ble_eq_true rfl) ?_
    refine tx_iconst (v := 0) dX4_matched_19 rfl ?_
    refine tx_istore_n dX4_matched_20 (by decide) ?_
    refine tx_iconst (v := (-1)) dX4_matched_21 rfl ?_
    refine tx_istore_n dX4_matched_22 (by decide) ?_
    refine tx_iconst (v := 0) dX4_matched_23 rfl ?_
    refine tx_istore dX4_matched_24 (by decide) ?_
    obtain ⟨o23, eo23, hl⟩ := xb hl
    refine tx_lsK (f_matched_L26_ok (S := r4) (s := (0, (-1), 0, r4)) eo23 ?_) ⟨rfl, rfl, rfl, rfl, rfl, trivial⟩
    refine tx_iload_n dX4_matched_113 rfl ?_
    cases hl
    exact tx_iret dX4_matched_114 rfl rfl ⟨rfl, rfl⟩
  · rw [if_pos c3] at hl
    refine tx_iconst (v := 0) dX4_matched_13 rfl ?_
    cases hl
    exact tx_iret dX4_matched_14 rfl rfl ⟨rfl, rfl⟩
def f_wantOf_L5 (n : Nat) (x1 : Int32) (x2 : Int32) (x3 : Int32) (x4 : Int32) (S : TS) : Option ((Int32 × Int32) ⊕ ((Int32))) := if x4 ≥ (S.1 1) then some (.inr x3) else if ((x2 >>> ((x4 : Int32) &&& 31)) &&& 1) = 0 then (some (x4 + 1)).bind fun w14 => some (.inl (x3, w14)) else if x3 = (-1) then (some (x4 + 1)).bind fun w4 => some (.inl (x4, w4)) else (trd S 41 ((3 : Int32) + x4)).bind fun v5 => (trd S 41 ((27 : Int32) + x1)).bind fun v6 => (f_off v5 v6).bind fun r7 => (trd S 41 ((3 : Int32) + x3)).bind fun v8 => (trd S 41 ((27 : Int32) + x1)).bind fun v9 => (f_off v8 v9).bind fun r10 => if r7 ≥ r10 then (some (x4 + 1)).bind fun w12 => some (.inl (x3, w12)) else (some (x4 + 1)).bind fun w13 => some (.inl (x4, w13))
abbrev K_wantOf_L5 (l : Launch) (E : XEnv) (m : Nat) (ad : Nat → Nat) (h0 : XH) (R : Option Value → TS → Prop) (S : TS) (x1 : Int32) (x2 : Int32) (o : (Int32)) : Prop := match o with
  | e => TX l E mX4_wantOf 2 84 [(0, .ref m), (3, .int e)] [] m ad h0 S R
def f_wantOf (n : Nat) (x1 : Int32) (x2 : Int32) (S : TS) : Option (Int32) := (xloop (fun s => f_wantOf_L5 n x1 x2 s.1 s.2 S) n ((-1), 0)).bind fun o15 => some o15
set_option maxHeartbeats 4000000 in
theorem f_wantOf_L5_s {l : Launch} {E : XEnv} {m : Nat} {ad : Nat → Nat} {h0 : XH} {R : Option Value → TS → Prop} {n : Nat} {x1 : Int32} {x2 : Int32} {x3 : Int32} {x4 : Int32} {S : TS} {o : (Int32 × Int32) ⊕ ((Int32))} (hl : f_wantOf_L5 n x1 x2 x3 x4 S = some o) (hK : (xk (fun s : Int32 × Int32 => TX l E mX4_wantOf 2 5 [(0, .ref m), (1, .int x1), (2, .int x2), (3, .int s.1), (4, .int s.2)] [] m ad h0 S R) (fun r => K_wantOf_L5 l E m ad h0 R S x1 x2 r) o)) : TX l E mX4_wantOf 2 5 [(0, .ref m), (1, .int x1), (2, .int x2), (3, .int x3), (4, .int x4)] [] m ad h0 S R := by
  unfold f_wantOf_L5 at hl
  refine tx_iload dX4_wantOf_5 rfl ?_
  refine tx_aload_n dX4_wantOf_7 rfl rfl ?_
  refine tx_getI gF_X4_275 dX4_wantOf_8 (by decide) ?_
  refine tx_icmp_ge (tgt := 84) dX4_wantOf_11 (by decide) (fun c1 => ?_) (fun c1 => ?_)
  · rw [if_pos c1] at hl
    cases hl
    exact tx_lsK hK ⟨rfl, rfl, trivial⟩
  · rw [if_neg c1] at hl
    refine tx_iload_n dX4_wantOf_14 rfl ?_
    refine tx_iload dX4_wantOf_15 rfl ?_
    refine tx_ishr dX4_wantOf_17 ?_
    refine tx_iconst (v := 1) dX4_wantOf_18 rfl ?_
    refine tx_iand dX4_wantOf_19 ?_
    refine tx_if_ne (tgt := 26) dX4_wantOf_20 (by decide) (fun c2 => ?_) (fun c2 => ?_)
    · rw [if_neg c2] at hl
      refine tx_iload_n dX4_wantOf_26 rfl ?_
      refine tx_iconst (v := (-1)) dX4_wantOf_27 rfl ?_
      refine tx_icmp_eq (tgt := 75) dX4_wantOf_28 (by decide) (fun c3 => ?_) (fun c3 => ?_)
      · rw [if_pos c3] at hl
        refine tx_iload dX4_wantOf_75 rfl ?_
        refine tx_istore_n dX4_wantOf_77 (by decide) ?_
        obtain ⟨w4, ew4, hl⟩ := xb hl
        refine tx_iinc dX4_wantOf_78 rfl (by decide) (Option.some.inj ew4) ?_
        refine tx_goto (tgt := 5) dX4_wantOf_81 (by decide) ?_
        cases hl
        exact tx_lsK hK ⟨rfl, rfl, rfl, rfl, rfl, trivial⟩
      · rw [if_neg c3] at hl
        refine tx_aload_n dX4_wantOf_31 rfl rfl ?_
        refine tx_getA gF_X4_66 dX4_wantOf_32 (by decide) ?_
        refine tx_iconst (v := 3) dX4_wantOf_35 rfl ?_
        refine tx_iload dX4_wantOf_36 rfl ?_
        refine tx_iadd dX4_wantOf_38 ?_
        obtain ⟨v5, ev5, hl⟩ := xb hl
        refine tx_iald (by decide) dX4_wantOf_39 ev5 ?_
        refine tx_aload_n dX4_wantOf_40 rfl rfl ?_
        refine tx_getA gF_X4_66 dX4_wantOf_41 (by decide) ?_
        refine tx_bipush (v := 27) dX4_wantOf_44 (by decide) ?_
        refine tx_iload_n dX4_wantOf_46 rfl ?_
        refine tx_iadd dX4_wantOf_47 ?_
        obtain ⟨v6, ev6, hl⟩ := xb hl
        refine tx_iald (by decide) dX4_wantOf_48 ev6 ?_
        obtain ⟨r7, er7, hl⟩ := xb hl
        refine tx_callS (T_off er7) lS_X4_364 C_X4_off dX4_wantOf_49 rfl (by decide) (Nat.le_of_ble_eq_true rfl) ?_
        refine tx_aload_n dX4_wantOf_52 rfl rfl ?_
        refine tx_getA gF_X4_66 dX4_wantOf_53 (by decide) ?_
        refine tx_iconst (v := 3) dX4_wantOf_56 rfl ?_
        refine tx_iload_n dX4_wantOf_57 rfl ?_
        refine tx_iadd dX4_wantOf_58 ?_
        obtain ⟨v8, ev8, hl⟩ := xb hl
        refine tx_iald (by decide) dX4_wantOf_59 ev8 ?_
        refine tx_aload_n dX4_wantOf_60 rfl rfl ?_
        refine tx_getA gF_X4_66 dX4_wantOf_61 (by decide) ?_
        refine tx_bipush (v := 27) dX4_wantOf_64 (by decide) ?_
        refine tx_iload_n dX4_wantOf_66 rfl ?_
        refine tx_iadd dX4_wantOf_67 ?_
        obtain ⟨v9, ev9, hl⟩ := xb hl
        refine tx_iald (by decide) dX4_wantOf_68 ev9 ?_
        obtain ⟨r10, er10, hl⟩ := xb hl
        refine tx_callS (T_off er10) lS_X4_364 C_X4_off dX4_wantOf_69 rfl (by decide) (Nat.le_of_ble_eq_true rfl) ?_
        refine tx_icmp_ge (tgt := 78) dX4_wantOf_72 (by decide) (fun c11 => ?_) (fun c11 => ?_)
        · rw [if_pos c11] at hl
          obtain ⟨w12, ew12, hl⟩ := xb hl
          refine tx_iinc dX4_wantOf_78 rfl (by decide) (Option.some.inj ew12) ?_
          refine tx_goto (tgt := 5) dX4_wantOf_81 (by decide) ?_
          cases hl
          exact tx_lsK hK ⟨rfl, rfl, rfl, rfl, rfl, trivial⟩
        · rw [if_neg c11] at hl
          refine tx_iload dX4_wantOf_75 rfl ?_
          refine tx_istore_n dX4_wantOf_77 (by decide) ?_
          obtain ⟨w13, ew13, hl⟩ := xb hl
          refine tx_iinc dX4_wantOf_78 rfl (by decide) (Option.some.inj ew13) ?_
          refine tx_goto (tgt := 5) dX4_wantOf_81 (by decide) ?_
          cases hl
          exact tx_lsK hK ⟨rfl, rfl, rfl, rfl, rfl, trivial⟩
    · rw [if_pos c2] at hl
      refine tx_goto (tgt := 78) dX4_wantOf_23 (by decide) ?_
      obtain ⟨w14, ew14, hl⟩ := xb hl
      refine tx_iinc dX4_wantOf_78 rfl (by decide) (Option.some.inj ew14) ?_
      refine tx_goto (tgt := 5) dX4_wantOf_81 (by decide) ?_
      cases hl
      exact tx_lsK hK ⟨rfl, rfl, rfl, rfl, rfl, trivial⟩
set_option maxHeartbeats 4000000 in
theorem f_wantOf_L5_ok {l : Launch} {E : XEnv} {m : Nat} {ad : Nat → Nat} {h0 : XH} {R : Option Value → TS → Prop} {n : Nat} {x1 : Int32} {x2 : Int32} {S : TS} {s : Int32 × Int32} {o : (Int32)} (hl : xloop (fun s => f_wantOf_L5 n x1 x2 s.1 s.2 S) n s = some o) (hK : K_wantOf_L5 l E m ad h0 R S x1 x2 o) : TX l E mX4_wantOf 2 5 [(0, .ref m), (1, .int x1), (2, .int x2), (3, .int s.1), (4, .int s.2)] [] m ad h0 S R :=
  xloop_of (fun s : Int32 × Int32 => TX l E mX4_wantOf 2 5 [(0, .ref m), (1, .int x1), (2, .int x2), (3, .int s.1), (4, .int s.2)] [] m ad h0 S R) (fun r => K_wantOf_L5 l E m ad h0 R S x1 x2 r) (fun s o hl hk => f_wantOf_L5_s (S := S) (o := o) hl hk) n s o hl hK
set_option maxHeartbeats 4000000 in
theorem T_wantOf {l : Launch} {E : XEnv} {m : Nat} {ad : Nat → Nat} {n : Nat} {x1 : Int32} {x2 : Int32} {S : TS} {r : Int32} (hl : f_wantOf n x1 x2 S = some r) : TM l E mX4_wantOf 2 m ad [.ref m, .int x1, .int x2] S (some (.int r)) S := by
  unfold f_wantOf at hl
  refine tm_of (by decide +kernel) rfl (Nat.le_of_ble_eq_true rfl) fun h0 => ?_
  refine tx_iconst (v := (-1)) dX4_wantOf_0 rfl ?_
  refine tx_istore_n dX4_wantOf_1 (by decide) ?_
  refine tx_iconst (v := 0) dX4_wantOf_2 rfl ?_
  refine tx_istore dX4_wantOf_3 (by decide) ?_
  obtain ⟨o15, eo15, hl⟩ := xb hl
  refine tx_lsK (f_wantOf_L5_ok (S := S) (s := ((-1), 0)) eo15 ?_) ⟨rfl, rfl, rfl, rfl, rfl, trivial⟩
  refine tx_iload_n dX4_wantOf_84 rfl ?_
  cases hl
  exact tx_iret dX4_wantOf_85 rfl rfl ⟨rfl, rfl⟩
def f_ringOf_L4 (n : Nat) (x1 : Int32) (x2 : Int32) (x3 : Int32) (S : TS) : Option ((Int32 × Int32) ⊕ ((Unit) ⊕ (Int32))) := if x3 > 8 then some (.inr (.inl ())) else (trd S 48 x2).bind fun v2 => (trd S 41 ((19 : Int32) + v2)).bind fun v3 => if v3 = x1 then some (.inr (.inr x3)) else (some (x3 + 1)).bind fun w5 => some (.inl (v3, w5))
abbrev K_ringOf_L4 (l : Launch) (E : XEnv) (m : Nat) (ad : Nat → Nat) (h0 : XH) (R : Option Value → TS → Prop) (S : TS) (x1 : Int32) (o : (Unit) ⊕ (Int32)) : Prop := match o with
  | .inl e => TX l E mX4_ringOf 1 38 [(0, .ref m)] [] m ad h0 S R
  | .inr e => TX l E mX4_ringOf 1 30 [(0, .ref m), (3, .int e)] [] m ad h0 S R
def f_ringOf (n : Nat) (x1 : Int32) (S : TS) : Option (Int32) := (xloop (fun s => f_ringOf_L4 n x1 s.1 s.2 S) n (x1, 1)).bind fun o6 => match o6 with | .inl e7 => (some 0) | .inr e8 => (some e8)
set_option maxHeartbeats 4000000 in
theorem f_ringOf_L4_s {l : Launch} {E : XEnv} {m : Nat} {ad : Nat → Nat} {h0 : XH} {R : Option Value → TS → Prop} {n : Nat} {x1 : Int32} {x2 : Int32} {x3 : Int32} {S : TS} {o : (Int32 × Int32) ⊕ ((Unit) ⊕ (Int32))} (hl : f_ringOf_L4 n x1 x2 x3 S = some o) (hK : (xk (fun s : Int32 × Int32 => TX l E mX4_ringOf 1 4 [(0, .ref m), (1, .int x1), (2, .int s.1), (3, .int s.2)] [] m ad h0 S R) (fun r => K_ringOf_L4 l E m ad h0 R S x1 r) o)) : TX l E mX4_ringOf 1 4 [(0, .ref m), (1, .int x1), (2, .int x2), (3, .int x3)] [] m ad h0 S R := by
  unfold f_ringOf_L4 at hl
  refine tx_iload_n dX4_ringOf_4 rfl ?_
  refine tx_bipush (v := 8) dX4_ringOf_5 (by decide) ?_
  refine tx_icmp_gt (tgt := 38) dX4_ringOf_7 (by decide) (fun c1 => ?_) (fun c1 => ?_)
  · rw [if_pos c1] at hl
    cases hl
    exact tx_lsK hK ⟨rfl, trivial⟩
  · rw [if_neg c1] at hl
    refine tx_aload_n dX4_ringOf_10 rfl rfl ?_
    refine tx_getA gF_X4_66 dX4_ringOf_11 (by decide) ?_
    refine tx_bipush (v := 19) dX4_ringOf_14 (by decide) ?_
    refine tx_aload_n dX4_ringOf_16 rfl rfl ?_
    refine tx_getA gF_X4_84 dX4_ringOf_17 (by decide) ?_
    refine tx_iload_n dX4_ringOf_20 rfl ?_
    obtain ⟨v2, ev2, hl⟩ := xb hl
    refine tx_iald (by decide) dX4_ringOf_21 ev2 ?_
    refine tx_iadd dX4_ringOf_22 ?_
    obtain ⟨v3, ev3, hl⟩ := xb hl
    refine tx_iald (by decide) dX4_ringOf_23 ev3 ?_
    refine tx_istore_n dX4_ringOf_24 (by decide) ?_
    refine tx_iload_n dX4_ringOf_25 rfl ?_
    refine tx_iload_n dX4_ringOf_26 rfl ?_
    refine tx_icmp_ne (tgt := 32) dX4_ringOf_27 (by decide) (fun c4 => ?_) (fun c4 => ?_)
    · rw [if_neg c4] at hl
      obtain ⟨w5, ew5, hl⟩ := xb hl
      refine tx_iinc dX4_ringOf_32 rfl (by decide) (Option.some.inj ew5) ?_
      refine tx_goto (tgt := 4) dX4_ringOf_35 (by decide) ?_
      cases hl
      exact tx_lsK hK ⟨rfl, rfl, rfl, rfl, trivial⟩
    · rw [if_pos c4] at hl
      cases hl
      exact tx_lsK hK ⟨rfl, rfl, trivial⟩
set_option maxHeartbeats 4000000 in
theorem f_ringOf_L4_ok {l : Launch} {E : XEnv} {m : Nat} {ad : Nat → Nat} {h0 : XH} {R : Option Value → TS → Prop} {n : Nat} {x1 : Int32} {S : TS} {s : Int32 × Int32} {o : (Unit) ⊕ (Int32)} (hl : xloop (fun s => f_ringOf_L4 n x1 s.1 s.2 S) n s = some o) (hK : K_ringOf_L4 l E m ad h0 R S x1 o) : TX l E mX4_ringOf 1 4 [(0, .ref m), (1, .int x1), (2, .int s.1), (3, .int s.2)] [] m ad h0 S R :=
  xloop_of (fun s : Int32 × Int32 => TX l E mX4_ringOf 1 4 [(0, .ref m), (1, .int x1), (2, .int s.1), (3, .int s.2)] [] m ad h0 S R) (fun r => K_ringOf_L4 l E m ad h0 R S x1 r) (fun s o hl hk => f_ringOf_L4_s (S := S) (o := o) hl hk) n s o hl hK
set_option maxHeartbeats 4000000 in
theorem T_ringOf {l : Launch} {E : XEnv} {m : Nat} {ad : Nat → Nat} {n : Nat} {x1 : Int32} {S : TS} {r : Int32} (hl : f_ringOf n x1 S = some r) : TM l E mX4_ringOf 1 m ad [.ref m, .int x1] S (some (.int r)) S := by
  unfold f_ringOf at hl
  refine tm_of (by decide +kernel) rfl (Nat.le_of_ble_eq_true rfl) fun h0 => ?_
  refine tx_iload_n dX4_ringOf_0 rfl ?_
  refine tx_istore_n dX4_ringOf_1 (by decide) ?_
  refine tx_iconst (v := 1) dX4_ringOf_2 rfl ?_
  refine tx_istore_n dX4_ringOf_3 (by decide) ?_
  obtain ⟨o6, eo6, hl⟩ := xb hl
  rcases o6 with e7 | e8
  · dsimp only at hl
    refine tx_lsK (f_ringOf_L4_ok (S := S) (s := (x1, 1)) eo6 ?_) ⟨rfl, rfl, rfl, rfl, trivial⟩
    refine tx_iconst (v := 0) dX4_ringOf_38 rfl ?_
    cases hl
    exact tx_iret dX4_ringOf_39 rfl rfl ⟨rfl, rfl⟩
  · dsimp only at hl
    refine tx_lsK (f_ringOf_L4_ok (S := S) (s := (x1, 1)) eo6 ?_) ⟨rfl, rfl, rfl, rfl, trivial⟩
    refine tx_iload_n dX4_ringOf_30 rfl ?_
    cases hl
    exact tx_iret dX4_ringOf_31 rfl rfl ⟨rfl, rfl⟩
def f_trades_L2 (n : Nat) (x1 : Int32) (S : TS) : Option ((Int32 × TS) ⊕ ((TS))) := if x1 ≥ 8 then some (.inr S) else (twr S 49 x1 (-1)).bind fun S2 => (twr S2 50 x1 0).bind fun S3 => (some (x1 + 1)).bind fun w4 => some (.inl (w4, S3))
abbrev K_trades_L2 (l : Launch) (E : XEnv) (m : Nat) (ad : Nat → Nat) (h0 : XH) (R : Option Value → TS → Prop) (S : TS)  (o : (TS)) : Prop := match o with
  | e => TX l E mX4_trades 3 28 [(0, .ref m)] [] m ad h0 e R
def f_trades_L41 (n : Nat) (x1 : Int32) (x2 : Int32) (x3 : Int32) (S : TS) : Option ((Int32 × TS) ⊕ ((TS))) := if x3 ≥ (S.1 2) then some (.inr S) else (f_wantOf n x3 x1 S).bind fun r9 => (twr S 48 x3 r9).bind fun S10 => (some (x3 + 1)).bind fun w11 => some (.inl (w11, S10))
abbrev K_trades_L41 (l : Launch) (E : XEnv) (m : Nat) (ad : Nat → Nat) (h0 : XH) (R : Option Value → TS → Prop) (S : TS) (x1 : Int32) (x2 : Int32) (o : (TS)) : Prop := match o with
  | e => TX l E mX4_trades 3 67 [(0, .ref m), (1, .int x1), (2, .int x2)] [] m ad h0 e R
def f_trades_L69 (n : Nat) (x1 : Int32) (x2 : Int32) (x3 : Int32) (S : TS) : Option ((Int32 × Int32 × TS) ⊕ ((Int32 × TS))) := if x3 ≥ (S.1 1) then some (.inr (x2, S)) else (trd S 41 ((19 : Int32) + x3)).bind fun v14 => if ((x1 >>> ((x3 : Int32) &&& 31)) &&& 1) = 0 then (some (x3 + 1)).bind fun w16 => some (.inl (x2, w16, S)) else (f_ringOf n v14 S).bind fun r17 => if r17 = 0 then (some (x3 + 1)).bind fun w25 => some (.inl (x2, w25, S)) else (trd S 48 v14).bind fun v19 => (twr S 49 v14 v19).bind fun S20 => (f_ringOf n v14 S20).bind fun r21 => (twr S20 50 v14 r21).bind fun S22 => (some (x2 ||| ((1 : Int32) <<< ((x3 : Int32) &&& 31)))).bind fun w23 => (some (x3 + 1)).bind fun w24 => some (.inl (w23, w24, S22))
abbrev K_trades_L69 (l : Launch) (E : XEnv) (m : Nat) (ad : Nat → Nat) (h0 : XH) (R : Option Value → TS → Prop) (S : TS) (x1 : Int32) (o : (Int32 × TS)) : Prop := match o with
  | e => TX l E mX4_trades 3 147 [(0, .ref m), (1, .int x1), (2, .int e.1)] [] m ad h0 e.2 R
def f_trades_L33 (n : Nat) (x1 : Int32) (S : TS) : Option ((Int32 × TS) ⊕ ((TS))) := if x1 = 0 then some (.inr S) else (xloop (fun s => f_trades_L41 n x1 0 s.1 s.2) n (0, S)).bind fun o12 => (xloop (fun s => f_trades_L69 n x1 s.1 s.2.1 s.2.2) n (0, 0, o12)).bind fun o26 => (some (x1 &&& (o26.1 ^^^ (-1)))).bind fun w27 => some (.inl (w27, o26.2))
abbrev K_trades_L33 (l : Launch) (E : XEnv) (m : Nat) (ad : Nat → Nat) (h0 : XH) (R : Option Value → TS → Prop) (S : TS)  (o : (TS)) : Prop := match o with
  | e => TX l E mX4_trades 3 156 [(0, .ref m)] [] m ad h0 e R
def f_trades (n : Nat)  (S : TS) : Option (TS) := (xloop (fun s => f_trades_L2 n s.1 s.2) n (0, S)).bind fun o5 => (f_taken n o5).bind fun r6 => (xloop (fun s => f_trades_L33 n s.1 s.2) n (r6, o5)).bind fun o28 => some o28
set_option maxHeartbeats 4000000 in
theorem f_trades_L2_s {l : Launch} {E : XEnv} {m : Nat} {ad : Nat → Nat} {h0 : XH} {R : Option Value → TS → Prop} {n : Nat} {x1 : Int32} {S : TS} {o : (Int32 × TS) ⊕ ((TS))} (hl : f_trades_L2 n x1 S = some o) (hK : (xk (fun s : Int32 × TS => TX l E mX4_trades 3 2 [(0, .ref m), (1, .int s.1)] [] m ad h0 s.2 R) (fun r => K_trades_L2 l E m ad h0 R S r) o)) : TX l E mX4_trades 3 2 [(0, .ref m), (1, .int x1)] [] m ad h0 S R := by
  unfold f_trades_L2 at hl
  refine tx_iload_n dX4_trades_2 rfl ?_
  refine tx_bipush (v := 8) dX4_trades_3 (by decide) ?_
  refine tx_icmp_ge (tgt := 28) dX4_trades_5 (by decide) (fun c1 => ?_) (fun c1 => ?_)
  · rw [if_pos c1] at hl
    cases hl
    exact tx_lsK hK ⟨rfl, trivial⟩
  · rw [if_neg c1] at hl
    refine tx_aload_n dX4_trades_8 rfl rfl ?_
    refine tx_getA gF_X4_87 dX4_trades_9 (by decide) ?_
    refine tx_iload_n dX4_trades_12 rfl ?_
    refine tx_iconst (v := (-1)) dX4_trades_13 rfl ?_
    obtain ⟨S2, eS2, hl⟩ := xb hl
    refine tx_iast (by decide) dX4_trades_14 eS2 ?_
    refine tx_aload_n dX4_trades_15 rfl rfl ?_
    refine tx_getA gF_X4_90 dX4_trades_16 (by decide) ?_
    refine tx_iload_n dX4_trades_19 rfl ?_
    refine tx_iconst (v := 0) dX4_trades_20 rfl ?_
    obtain ⟨S3, eS3, hl⟩ := xb hl
    refine tx_iast (by decide) dX4_trades_21 eS3 ?_
    obtain ⟨w4, ew4, hl⟩ := xb hl
    refine tx_iinc dX4_trades_22 rfl (by decide) (Option.some.inj ew4) ?_
    refine tx_goto (tgt := 2) dX4_trades_25 (by decide) ?_
    cases hl
    exact tx_lsK hK ⟨rfl, rfl, trivial⟩
set_option maxHeartbeats 4000000 in
theorem f_trades_L2_ok {l : Launch} {E : XEnv} {m : Nat} {ad : Nat → Nat} {h0 : XH} {R : Option Value → TS → Prop} {n : Nat}  {S : TS} {s : Int32 × TS} {o : (TS)} (hl : xloop (fun s => f_trades_L2 n s.1 s.2) n s = some o) (hK : K_trades_L2 l E m ad h0 R S o) : TX l E mX4_trades 3 2 [(0, .ref m), (1, .int s.1)] [] m ad h0 s.2 R :=
  xloop_of (fun s : Int32 × TS => TX l E mX4_trades 3 2 [(0, .ref m), (1, .int s.1)] [] m ad h0 s.2 R) (fun r => K_trades_L2 l E m ad h0 R S r) (fun s o hl hk => f_trades_L2_s (S := s.2) (o := o) hl hk) n s o hl hK
set_option maxHeartbeats 4000000 in
theorem f_trades_L41_s {l : Launch} {E : XEnv} {m : Nat} {ad : Nat → Nat} {h0 : XH} {R : Option Value → TS → Prop} {n : Nat} {x1 : Int32} {x2 : Int32} {x3 : Int32} {S : TS} {o : (Int32 × TS) ⊕ ((TS))} (hl : f_trades_L41 n x1 x2 x3 S = some o) (hK : (xk (fun s : Int32 × TS => TX l E mX4_trades 3 41 [(0, .ref m), (1, .int x1), (2, .int x2), (3, .int s.1)] [] m ad h0 s.2 R) (fun r => K_trades_L41 l E m ad h0 R S x1 x2 r) o)) : TX l E mX4_trades 3 41 [(0, .ref m), (1, .int x1), (2, .int x2), (3, .int x3)] [] m ad h0 S R := by
  unfold f_trades_L41 at hl
  refine tx_iload_n dX4_trades_41 rfl ?_
  refine tx_aload_n dX4_trades_42 rfl rfl ?_
  refine tx_getI gF_X4_278 dX4_trades_43 (by decide) ?_
  refine tx_icmp_ge (tgt := 67) dX4_trades_46 (by decide) (fun c8 => ?_) (fun c8 => ?_)
  · rw [if_pos c8] at hl
    cases hl
    exact tx_lsK hK ⟨rfl, rfl, rfl, trivial⟩
  · rw [if_neg c8] at hl
    refine tx_aload_n dX4_trades_49 rfl rfl ?_
    refine tx_getA gF_X4_84 dX4_trades_50 (by decide) ?_
    refine tx_iload_n dX4_trades_53 rfl ?_
    refine tx_aload_n dX4_trades_54 rfl rfl ?_
    refine tx_iload_n dX4_trades_55 rfl ?_
    refine tx_iload_n dX4_trades_56 rfl ?_
    obtain ⟨r9, er9, hl⟩ := xb hl
    refine tx_callV (T_wantOf er9) lV_X4_415 C_X4_wantOf rfl dX4_trades_57 rfl (by decide) (Nat.le_of_ble_eq_true rfl) ?_
    obtain ⟨S10, eS10, hl⟩ := xb hl
    refine tx_iast (by decide) dX4_trades_60 eS10 ?_
    obtain ⟨w11, ew11, hl⟩ := xb hl
    refine tx_iinc dX4_trades_61 rfl (by decide) (Option.some.inj ew11) ?_
    refine tx_goto (tgt := 41) dX4_trades_64 (by decide) ?_
    cases hl
    exact tx_lsK hK ⟨rfl, rfl, rfl, rfl, trivial⟩
set_option maxHeartbeats 4000000 in
theorem f_trades_L41_ok {l : Launch} {E : XEnv} {m : Nat} {ad : Nat → Nat} {h0 : XH} {R : Option Value → TS → Prop} {n : Nat} {x1 : Int32} {x2 : Int32} {S : TS} {s : Int32 × TS} {o : (TS)} (hl : xloop (fun s => f_trades_L41 n x1 x2 s.1 s.2) n s = some o) (hK : K_trades_L41 l E m ad h0 R S x1 x2 o) : TX l E mX4_trades 3 41 [(0, .ref m), (1, .int x1), (2, .int x2), (3, .int s.1)] [] m ad h0 s.2 R :=
  xloop_of (fun s : Int32 × TS => TX l E mX4_trades 3 41 [(0, .ref m), (1, .int x1), (2, .int x2), (3, .int s.1)] [] m ad h0 s.2 R) (fun r => K_trades_L41 l E m ad h0 R S x1 x2 r) (fun s o hl hk => f_trades_L41_s (S := s.2) (o := o) hl hk) n s o hl hK
set_option maxHeartbeats 4000000 in
theorem f_trades_L69_s {l : Launch} {E : XEnv} {m : Nat} {ad : Nat → Nat} {h0 : XH} {R : Option Value → TS → Prop} {n : Nat} {x1 : Int32} {x2 : Int32} {x3 : Int32} {S : TS} {o : (Int32 × Int32 × TS) ⊕ ((Int32 × TS))} (hl : f_trades_L69 n x1 x2 x3 S = some o) (hK : (xk (fun s : Int32 × Int32 × TS => TX l E mX4_trades 3 69 [(0, .ref m), (1, .int x1), (2, .int s.1), (3, .int s.2.1)] [] m ad h0 s.2.2 R) (fun r => K_trades_L69 l E m ad h0 R S x1 r) o)) : TX l E mX4_trades 3 69 [(0, .ref m), (1, .int x1), (2, .int x2), (3, .int x3)] [] m ad h0 S R := by
  unfold f_trades_L69 at hl
  refine tx_iload_n dX4_trades_69 rfl ?_
  refine tx_aload_n dX4_trades_70 rfl rfl ?_
  refine tx_getI gF_X4_275 dX4_trades_71 (by decide) ?_
  refine tx_icmp_ge (tgt := 147) dX4_trades_74 (by decide) (fun c13 => ?_) (fun c13 => ?_)
  · rw [if_pos c13] at hl
    cases hl
    exact tx_lsK hK ⟨rfl, rfl, rfl, trivial⟩
  · rw [if_neg c13] at hl
    refine tx_aload_n dX4_trades_77 rfl rfl ?_
    refine tx_getA gF_X4_66 dX4_trades_78 (by decide) ?_
    refine tx_bipush (v := 19) dX4_trades_81 (by decide) ?_
    refine tx_iload_n dX4_trades_83 rfl ?_
    refine tx_iadd dX4_trades_84 ?_
    obtain ⟨v14, ev14, hl⟩ := xb hl
    refine tx_iald (by decide) dX4_trades_85 ev14 ?_
    refine tx_istore dX4_trades_86 (by decide) ?_
    refine tx_iload_n dX4_trades_88 rfl ?_
    refine tx_iload_n dX4_trades_89 rfl ?_
    refine tx_ishr dX4_trades_90 ?_
    refine tx_iconst (v := 1) dX4_trades_91 rfl ?_
    refine tx_iand dX4_trades_92 ?_
    refine tx_if_eq (tgt := 141) dX4_trades_93 (by decide) (fun c15 => ?_) (fun c15 => ?_)
    · rw [if_pos c15] at hl
      obtain ⟨w16, ew16, hl⟩ := xb hl
      refine tx_iinc dX4_trades_141 rfl (by decide) (Option.some.inj ew16) ?_
      refine tx_goto (tgt := 69) dX4_trades_144 (by decide) ?_
      cases hl
      exact tx_lsK hK ⟨rfl, rfl, rfl, rfl, trivial⟩
    · rw [if_neg c15] at hl
      refine tx_aload_n dX4_trades_96 rfl rfl ?_
      refine tx_iload dX4_trades_97 rfl ?_
      obtain ⟨r17, er17, hl⟩ := xb hl
      refine tx_callV (T_ringOf er17) lV_X4_418 C_X4_ringOf rfl dX4_trades_99 rfl (by decide) (Nat.le_of_ble_eq_true rfl) ?_
      refine tx_if_ne (tgt := 108) dX4_trades_102 (by decide) (fun c18 => ?_) (fun c18 => ?_)
      · rw [if_neg c18] at hl
        refine tx_aload_n dX4_trades_108 rfl rfl ?_
        refine tx_getA gF_X4_87 dX4_trades_109 (by decide) ?_
        refine tx_iload dX4_trades_112 rfl ?_
        refine tx_aload_n dX4_trades_114 rfl rfl ?_
        refine tx_getA gF_X4_84 dX4_trades_115 (by decide) ?_
        refine tx_iload dX4_trades_118 rfl ?_
        obtain ⟨v19, ev19, hl⟩ := xb hl
        refine tx_iald (by decide) dX4_trades_120 ev19 ?_
        obtain ⟨S20, eS20, hl⟩ := xb hl
        refine tx_iast (by decide) dX4_trades_121 eS20 ?_
        refine tx_aload_n dX4_trades_122 rfl rfl ?_
        refine tx_getA gF_X4_90 dX4_trades_123 (by decide) ?_
        refine tx_iload dX4_trades_126 rfl ?_
        refine tx_aload_n dX4_trades_128 rfl rfl ?_
        refine tx_iload dX4_trades_129 rfl ?_
        obtain ⟨r21, er21, hl⟩ := xb hl
        refine tx_callV (T_ringOf er21) lV_X4_418 C_X4_ringOf rfl dX4_trades_131 rfl (by decide) (Nat.le_of_ble_eq_true rfl) ?_
        obtain ⟨S22, eS22, hl⟩ := xb hl
        refine tx_iast (by decide) dX4_trades_134 eS22 ?_
        refine tx_iload_n dX4_trades_135 rfl ?_
        refine tx_iconst (v := 1) dX4_trades_136 rfl ?_
        refine tx_iload_n dX4_trades_137 rfl ?_
        refine tx_ishl dX4_trades_138 ?_
        refine tx_ior dX4_trades_139 ?_
        obtain ⟨w23, ew23, hl⟩ := xb hl
        refine tx_top (Option.some.inj ew23) ?_
        refine tx_istore_n dX4_trades_140 (by decide) ?_
        obtain ⟨w24, ew24, hl⟩ := xb hl
        refine tx_iinc dX4_trades_141 rfl (by decide) (Option.some.inj ew24) ?_
        refine tx_goto (tgt := 69) dX4_trades_144 (by decide) ?_
        cases hl
        exact tx_lsK hK ⟨rfl, rfl, rfl, rfl, trivial⟩
      · rw [if_pos c18] at hl
        refine tx_goto (tgt := 141) dX4_trades_105 (by decide) ?_
        obtain ⟨w25, ew25, hl⟩ := xb hl
        refine tx_iinc dX4_trades_141 rfl (by decide) (Option.some.inj ew25) ?_
        refine tx_goto (tgt := 69) dX4_trades_144 (by decide) ?_
        cases hl
        exact tx_lsK hK ⟨rfl, rfl, rfl, rfl, trivial⟩
set_option maxHeartbeats 4000000 in
theorem f_trades_L69_ok {l : Launch} {E : XEnv} {m : Nat} {ad : Nat → Nat} {h0 : XH} {R : Option Value → TS → Prop} {n : Nat} {x1 : Int32} {S : TS} {s : Int32 × Int32 × TS} {o : (Int32 × TS)} (hl : xloop (fun s => f_trades_L69 n x1 s.1 s.2.1 s.2.2) n s = some o) (hK : K_trades_L69 l E m ad h0 R S x1 o) : TX l E mX4_trades 3 69 [(0, .ref m), (1, .int x1), (2, .int s.1), (3, .int s.2.1)] [] m ad h0 s.2.2 R :=
  xloop_of (fun s : Int32 × Int32 × TS => TX l E mX4_trades 3 69 [(0, .ref m), (1, .int x1), (2, .int s.1), (3, .int s.2.1)] [] m ad h0 s.2.2 R) (fun r => K_trades_L69 l E m ad h0 R S x1 r) (fun s o hl hk => f_trades_L69_s (S := s.2.2) (o := o) hl hk) n s o hl hK
set_option maxHeartbeats 4000000 in
theorem f_trades_L33_s {l : Launch} {E : XEnv} {m : Nat} {ad : Nat → Nat} {h0 : XH} {R : Option Value → TS → Prop} {n : Nat} {x1 : Int32} {S : TS} {o : (Int32 × TS) ⊕ ((TS))} (hl : f_trades_L33 n x1 S = some o) (hK : (xk (fun s : Int32 × TS => TX l E mX4_trades 3 33 [(0, .ref m), (1, .int s.1)] [] m ad h0 s.2 R) (fun r => K_trades_L33 l E m ad h0 R S r) o)) : TX l E mX4_trades 3 33 [(0, .ref m), (1, .int x1)] [] m ad h0 S R := by
  unfold f_trades_L33 at hl
  refine tx_iload_n dX4_trades_33 rfl ?_
  refine tx_if_eq (tgt := 156) dX4_trades_34 (by decide) (fun c7 => ?_) (fun c7 => ?_)
  · rw [if_pos c7] at hl
    cases hl
    exact tx_lsK hK ⟨rfl, trivial⟩
  · rw [if_neg c7] at hl
    refine tx_iconst (v := 0) dX4_trades_37 rfl ?_
    refine tx_istore_n dX4_trades_38 (by decide) ?_
    refine tx_iconst (v := 0) dX4_trades_39 rfl ?_
    refine tx_istore_n dX4_trades_40 (by decide) ?_
    obtain ⟨o12, eo12, hl⟩ := xb hl
    refine tx_lsK (f_trades_L41_ok (S := S) (s := (0, S)) eo12 ?_) ⟨rfl, rfl, rfl, rfl, trivial⟩
    refine tx_iconst (v := 0) dX4_trades_67 rfl ?_
    refine tx_istore_n dX4_trades_68 (by decide) ?_
    obtain ⟨o26, eo26, hl⟩ := xb hl
    refine tx_lsK (f_trades_L69_ok (S := o12) (s := (0, 0, o12)) eo26 ?_) ⟨rfl, rfl, rfl, rfl, trivial⟩
    refine tx_iload_n dX4_trades_147 rfl ?_
    refine tx_iload_n dX4_trades_148 rfl ?_
    refine tx_iconst (v := (-1)) dX4_trades_149 rfl ?_
    refine tx_ixor dX4_trades_150 ?_
    refine tx_iand dX4_trades_151 ?_
    obtain ⟨w27, ew27, hl⟩ := xb hl
    refine tx_top (Option.some.inj ew27) ?_
    refine tx_istore_n dX4_trades_152 (by decide) ?_
    refine tx_goto (tgt := 33) dX4_trades_153 (by decide) ?_
    cases hl
    exact tx_lsK hK ⟨rfl, rfl, trivial⟩
set_option maxHeartbeats 4000000 in
theorem f_trades_L33_ok {l : Launch} {E : XEnv} {m : Nat} {ad : Nat → Nat} {h0 : XH} {R : Option Value → TS → Prop} {n : Nat}  {S : TS} {s : Int32 × TS} {o : (TS)} (hl : xloop (fun s => f_trades_L33 n s.1 s.2) n s = some o) (hK : K_trades_L33 l E m ad h0 R S o) : TX l E mX4_trades 3 33 [(0, .ref m), (1, .int s.1)] [] m ad h0 s.2 R :=
  xloop_of (fun s : Int32 × TS => TX l E mX4_trades 3 33 [(0, .ref m), (1, .int s.1)] [] m ad h0 s.2 R) (fun r => K_trades_L33 l E m ad h0 R S r) (fun s o hl hk => f_trades_L33_s (S := s.2) (o := o) hl hk) n s o hl hK
set_option maxHeartbeats 4000000 in
theorem T_trades {l : Launch} {E : XEnv} {m : Nat} {ad : Nat → Nat} {n : Nat}  {S : TS} {S' : TS} (hl : f_trades n  S = some S') : TM l E mX4_trades 3 m ad [.ref m] S none S' := by
  unfold f_trades at hl
  refine tm_of (by decide +kernel) rfl (Nat.le_of_ble_eq_true rfl) fun h0 => ?_
  refine tx_iconst (v := 0) dX4_trades_0 rfl ?_
  refine tx_istore_n dX4_trades_1 (by decide) ?_
  obtain ⟨o5, eo5, hl⟩ := xb hl
  refine tx_lsK (f_trades_L2_ok (S := S) (s := (0, S)) eo5 ?_) ⟨rfl, rfl, trivial⟩
  refine tx_aload_n dX4_trades_28 rfl rfl ?_
  obtain ⟨r6, er6, hl⟩ := xb hl
  refine tx_callV (T_taken er6) lV_X4_349 C_X4_taken rfl dX4_trades_29 rfl (by decide) (Nat.le_of_ble_eq_true rfl) ?_
  refine tx_istore_n dX4_trades_32 (by decide) ?_
  obtain ⟨o28, eo28, hl⟩ := xb hl
  refine tx_lsK (f_trades_L33_ok (S := o5) (s := (r6, o5)) eo28 ?_) ⟨rfl, rfl, trivial⟩
  cases hl
  exact tx_vret dX4_trades_156 rfl ⟨rfl, rfl⟩
def f_trade (n : Nat) (x1 : Int32) (S : TS) : Option (Int32 × TS) := (some (tpF S 0 0)).bind fun S1 => (f_isPerson x1 S1).bind fun r2 => if r2.1 = 0 then some (0, r2.2) else (f_trades n r2.2).bind fun r4 => (trd r4 49 x1).bind fun v5 => some (v5, r4)
set_option maxHeartbeats 4000000 in
theorem T_trade {l : Launch} {E : XEnv} {m : Nat} {ad : Nat → Nat} {n : Nat} {x1 : Int32} {S : TS} {r : Int32 × TS} (hl : f_trade n x1 S = some r) : TM l E mX4_trade 4 m ad [.ref m, .int x1] S (some (.int r.1)) r.2 := by
  unfold f_trade at hl
  refine tm_of (by decide +kernel) rfl (Nat.le_of_ble_eq_true rfl) fun h0 => ?_
  refine tx_aload_n dX4_trade_0 rfl rfl ?_
  refine tx_iconst (v := 0) dX4_trade_1 rfl ?_
  obtain ⟨S1, eS1, hl⟩ := xb hl
  refine tx_putI pF_X4_111 dX4_trade_2 (by decide) rfl rfl (Option.some.inj eS1) ?_
  refine tx_aload_n dX4_trade_5 rfl rfl ?_
  refine tx_iload_n dX4_trade_6 rfl ?_
  obtain ⟨r2, er2, hl⟩ := xb hl
  refine tx_callV (T_isPerson er2) lV_X4_379 C_X4_isPerson rfl dX4_trade_7 rfl (by decide) (Nat.le_of_ble_eq_true rfl) ?_
  refine tx_if_ne (tgt := 15) dX4_trade_10 (by decide) (fun c3 => ?_) (fun c3 => ?_)
  · rw [if_neg c3] at hl
    refine tx_aload_n dX4_trade_15 rfl rfl ?_
    obtain ⟨r4, er4, hl⟩ := xb hl
    refine tx_callV (T_trades er4) lV_X4_421 C_X4_trades rfl dX4_trade_16 rfl (by decide) (Nat.le_of_ble_eq_true rfl) ?_
    refine tx_aload_n dX4_trade_19 rfl rfl ?_
    refine tx_getA gF_X4_87 dX4_trade_20 (by decide) ?_
    refine tx_iload_n dX4_trade_23 rfl ?_
    obtain ⟨v5, ev5, hl⟩ := xb hl
    refine tx_iald (by decide) dX4_trade_24 ev5 ?_
    cases hl
    exact tx_iret dX4_trade_25 rfl rfl ⟨rfl, rfl⟩
  · rw [if_pos c3] at hl
    refine tx_iconst (v := 0) dX4_trade_13 rfl ?_
    cases hl
    exact tx_iret dX4_trade_14 rfl rfl ⟨rfl, rfl⟩
def f_ringed (n : Nat) (x1 : Int32) (S : TS) : Option (Int32 × TS) := (some (tpF S 0 0)).bind fun S1 => (f_isPerson x1 S1).bind fun r2 => if r2.1 = 0 then some (0, r2.2) else (f_trades n r2.2).bind fun r4 => (trd r4 50 x1).bind fun v5 => some (v5, r4)
set_option maxHeartbeats 4000000 in
theorem T_ringed {l : Launch} {E : XEnv} {m : Nat} {ad : Nat → Nat} {n : Nat} {x1 : Int32} {S : TS} {r : Int32 × TS} (hl : f_ringed n x1 S = some r) : TM l E mX4_ringed 4 m ad [.ref m, .int x1] S (some (.int r.1)) r.2 := by
  unfold f_ringed at hl
  refine tm_of (by decide +kernel) rfl (Nat.le_of_ble_eq_true rfl) fun h0 => ?_
  refine tx_aload_n dX4_ringed_0 rfl rfl ?_
  refine tx_iconst (v := 0) dX4_ringed_1 rfl ?_
  obtain ⟨S1, eS1, hl⟩ := xb hl
  refine tx_putI pF_X4_111 dX4_ringed_2 (by decide) rfl rfl (Option.some.inj eS1) ?_
  refine tx_aload_n dX4_ringed_5 rfl rfl ?_
  refine tx_iload_n dX4_ringed_6 rfl ?_
  obtain ⟨r2, er2, hl⟩ := xb hl
  refine tx_callV (T_isPerson er2) lV_X4_379 C_X4_isPerson rfl dX4_ringed_7 rfl (by decide) (Nat.le_of_ble_eq_true rfl) ?_
  refine tx_if_ne (tgt := 15) dX4_ringed_10 (by decide) (fun c3 => ?_) (fun c3 => ?_)
  · rw [if_neg c3] at hl
    refine tx_aload_n dX4_ringed_15 rfl rfl ?_
    obtain ⟨r4, er4, hl⟩ := xb hl
    refine tx_callV (T_trades er4) lV_X4_421 C_X4_trades rfl dX4_ringed_16 rfl (by decide) (Nat.le_of_ble_eq_true rfl) ?_
    refine tx_aload_n dX4_ringed_19 rfl rfl ?_
    refine tx_getA gF_X4_90 dX4_ringed_20 (by decide) ?_
    refine tx_iload_n dX4_ringed_23 rfl ?_
    obtain ⟨v5, ev5, hl⟩ := xb hl
    refine tx_iald (by decide) dX4_ringed_24 ev5 ?_
    cases hl
    exact tx_iret dX4_ringed_25 rfl rfl ⟨rfl, rfl⟩
  · rw [if_pos c3] at hl
    refine tx_iconst (v := 0) dX4_ringed_13 rfl ?_
    cases hl
    exact tx_iret dX4_ringed_14 rfl rfl ⟨rfl, rfl⟩
def f_toStuff (x1 : Int32) (x2 : Int32) (S : TS) : Option (Int32 × TS) := (some (tpF S 0 0)).bind fun S1 => (f_isPerson x1 S1).bind fun r2 => if r2.1 = 0 then some (0, r2.2) else (f_isHouse x2 r2.2).bind fun r4 => if r4.1 = 0 then some (0, r4.2) else (trd r4.2 41 ((3 : Int32) + x2)).bind fun v6 => (trd r4.2 41 ((27 : Int32) + x1)).bind fun v7 => (f_bounded (v6 - v7) 0 99999).bind fun r8 => if r8 ≤ 20 then some (r8, r4.2) else some ((-1), r4.2)
set_option maxHeartbeats 4000000 in
theorem T_toStuff {l : Launch} {E : XEnv} {m : Nat} {ad : Nat → Nat} {x1 : Int32} {x2 : Int32} {S : TS} {r : Int32 × TS} (hl : f_toStuff x1 x2 S = some r) : TM l E mX4_toStuff 3 m ad [.ref m, .int x1, .int x2] S (some (.int r.1)) r.2 := by
  unfold f_toStuff at hl
  refine tm_of (by decide +kernel) rfl (Nat.le_of_ble_eq_true rfl) fun h0 => ?_
  refine tx_aload_n dX4_toStuff_0 rfl rfl ?_
  refine tx_iconst (v := 0) dX4_toStuff_1 rfl ?_
  obtain ⟨S1, eS1, hl⟩ := xb hl
  refine tx_putI pF_X4_111 dX4_toStuff_2 (by decide) rfl rfl (Option.some.inj eS1) ?_
  refine tx_aload_n dX4_toStuff_5 rfl rfl ?_
  refine tx_iload_n dX4_toStuff_6 rfl ?_
  obtain ⟨r2, er2, hl⟩ := xb hl
  refine tx_callV (T_isPerson er2) lV_X4_379 C_X4_isPerson rfl dX4_toStuff_7 rfl (by decide) (Nat.le_of_ble_eq_true rfl) ?_
  refine tx_if_eq (tgt := 21) dX4_toStuff_10 (by decide) (fun c3 => ?_) (fun c3 => ?_)
  · rw [if_pos c3] at hl
    refine tx_iconst (v := 0) dX4_toStuff_21 rfl ?_
    cases hl
    exact tx_iret dX4_toStuff_22 rfl rfl ⟨rfl, rfl⟩
  · rw [if_neg c3] at hl
    refine tx_aload_n dX4_toStuff_13 rfl rfl ?_
    refine tx_iload_n dX4_toStuff_14 rfl ?_
    obtain ⟨r4, er4, hl⟩ := xb hl
    refine tx_callV (T_isHouse er4) lV_X4_367 C_X4_isHouse rfl dX4_toStuff_15 rfl (by decide) (Nat.le_of_ble_eq_true rfl) ?_
    refine tx_if_ne (tgt := 23) dX4_toStuff_18 (by decide) (fun c5 => ?_) (fun c5 => ?_)
    · rw [if_neg c5] at hl
      refine tx_aload_n dX4_toStuff_23 rfl rfl ?_
      refine tx_getA gF_X4_66 dX4_toStuff_24 (by decide) ?_
      refine tx_iconst (v := 3) dX4_toStuff_27 rfl ?_
      refine tx_iload_n dX4_toStuff_28 rfl ?_
      refine tx_iadd dX4_toStuff_29 ?_
      obtain ⟨v6, ev6, hl⟩ := xb hl
      refine tx_iald (by decide) dX4_toStuff_30 ev6 ?_
      refine tx_aload_n dX4_toStuff_31 rfl rfl ?_
      refine tx_getA gF_X4_66 dX4_toStuff_32 (by decide) ?_
      refine tx_bipush (v := 27) dX4_toStuff_35 (by decide) ?_
      refine tx_iload_n dX4_toStuff_37 rfl ?_
      refine tx_iadd dX4_toStuff_38 ?_
      obtain ⟨v7, ev7, hl⟩ := xb hl
      refine tx_iald (by decide) dX4_toStuff_39 ev7 ?_
      refine tx_isub dX4_toStuff_40 ?_
      refine tx_iconst (v := 0) dX4_toStuff_41 rfl ?_
      refine tx_ldcw (v := 99999) q2000 dX4_toStuff_42 ?_
      obtain ⟨r8, er8, hl⟩ := xb hl
      refine tx_callS (T_bounded er8) lS_X4_306 C_X4_bounded dX4_toStuff_45 rfl (by decide) (Nat.le_of_ble_eq_true rfl) ?_
      refine tx_istore_n dX4_toStuff_48 (by decide) ?_
      refine tx_iload_n dX4_toStuff_49 rfl ?_
      refine tx_bipush (v := 20) dX4_toStuff_50 (by decide) ?_
      refine tx_icmp_le (tgt := 59) dX4_toStuff_52 (by decide) (fun c9 => ?_) (fun c9 => ?_)
      · rw [if_pos c9] at hl
        refine tx_iload_n dX4_toStuff_59 rfl ?_
        cases hl
        exact tx_iret dX4_toStuff_60 rfl rfl ⟨rfl, rfl⟩
      · rw [if_neg c9] at hl
        refine tx_iconst (v := (-1)) dX4_toStuff_55 rfl ?_
        refine tx_goto (tgt := 60) dX4_toStuff_56 (by decide) ?_
        cases hl
        exact tx_iret dX4_toStuff_60 rfl rfl ⟨rfl, rfl⟩
    · rw [if_pos c5] at hl
      refine tx_iconst (v := 0) dX4_toStuff_21 rfl ?_
      cases hl
      exact tx_iret dX4_toStuff_22 rfl rfl ⟨rfl, rfl⟩
def f_toWait_L29 (n : Nat) (x1 : Int32) (x2 : Int32) (x3 : Int32) (S : TS) : Option ((Int32 × TS) ⊕ ((TS) ⊕ (Int32 × TS))) := if x3 > 40 then some (.inr (.inl S)) else (f_wouldGo n 43 x1 x2 S).bind fun r8 => if r8.1 = 0 then (f_dayGoes n 43 r8.2).bind fun r10 => (some (x3 + 1)).bind fun w11 => some (.inl (w11, r10)) else some (.inr (.inr (x3, r8.2)))
abbrev K_toWait_L29 (l : Launch) (E : XEnv) (m : Nat) (ad : Nat → Nat) (h0 : XH) (R : Option Value → TS → Prop) (S : TS) (x1 : Int32) (x2 : Int32) (o : (TS) ⊕ (Int32 × TS)) : Prop := match o with
  | .inl e => TX l E mX4_toWait 6 60 [(0, .ref m)] [] m ad h0 e R
  | .inr e => TX l E mX4_toWait 6 46 [(0, .ref m), (3, .int e.1)] [] m ad h0 e.2 R
def f_toWait (n : Nat) (x1 : Int32) (x2 : Int32) (S : TS) : Option (Int32 × TS) := (some (tpF S 0 0)).bind fun S1 => (f_isPerson x1 S1).bind fun r2 => if r2.1 = 0 then some (0, r2.2) else (f_isHouse x2 r2.2).bind fun r4 => if r4.1 = 0 then some (0, r4.2) else (f_tries n r4.2).bind fun r6 => (xloop (fun s => f_toWait_L29 n x1 x2 s.1 s.2) n (0, r6)).bind fun o12 => match o12 with | .inl e13 => (some ((-1), e13)) | .inr e14 => (some (e14.1, e14.2))
set_option maxHeartbeats 4000000 in
theorem f_toWait_L29_s {l : Launch} {E : XEnv} {m : Nat} {ad : Nat → Nat} {h0 : XH} {R : Option Value → TS → Prop} {n : Nat} {x1 : Int32} {x2 : Int32} {x3 : Int32} {S : TS} {o : (Int32 × TS) ⊕ ((TS) ⊕ (Int32 × TS))} (hl : f_toWait_L29 n x1 x2 x3 S = some o) (hK : (xk (fun s : Int32 × TS => TX l E mX4_toWait 6 29 [(0, .ref m), (1, .int x1), (2, .int x2), (3, .int s.1)] [] m ad h0 s.2 R) (fun r => K_toWait_L29 l E m ad h0 R S x1 x2 r) o)) : TX l E mX4_toWait 6 29 [(0, .ref m), (1, .int x1), (2, .int x2), (3, .int x3)] [] m ad h0 S R := by
  unfold f_toWait_L29 at hl
  refine tx_iload_n dX4_toWait_29 rfl ?_
  refine tx_bipush (v := 40) dX4_toWait_30 (by decide) ?_
  refine tx_icmp_gt (tgt := 60) dX4_toWait_32 (by decide) (fun c7 => ?_) (fun c7 => ?_)
  · rw [if_pos c7] at hl
    cases hl
    exact tx_lsK hK ⟨rfl, trivial⟩
  · rw [if_neg c7] at hl
    refine tx_aload_n dX4_toWait_35 rfl rfl ?_
    refine tx_bipush (v := 43) dX4_toWait_36 (by decide) ?_
    refine tx_iload_n dX4_toWait_38 rfl ?_
    refine tx_iload_n dX4_toWait_39 rfl ?_
    obtain ⟨r8, er8, hl⟩ := xb hl
    refine tx_callV (T_wouldGo er8) lV_X4_388 C_X4_wouldGo rfl dX4_toWait_40 rfl (by decide) (Nat.le_of_ble_eq_true rfl) ?_
    refine tx_if_eq (tgt := 48) dX4_toWait_43 (by decide) (fun c9 => ?_) (fun c9 => ?_)
    · rw [if_pos c9] at hl
      refine tx_aload_n dX4_toWait_48 rfl rfl ?_
      refine tx_bipush (v := 43) dX4_toWait_49 (by decide) ?_
      obtain ⟨r10, er10, hl⟩ := xb hl
      refine tx_callV (T_dayGoes er10) lV_X4_336 C_X4_dayGoes rfl dX4_toWait_51 rfl (by decide) (Nat.le_of_ble_eq_true rfl) ?_
      obtain ⟨w11, ew11, hl⟩ := xb hl
      refine tx_iinc dX4_toWait_54 rfl (by decide) (Option.some.inj ew11) ?_
      refine tx_goto (tgt := 29) dX4_toWait_57 (by decide) ?_
      cases hl
      exact tx_lsK hK ⟨rfl, rfl, rfl, rfl, trivial⟩
    · rw [if_neg c9] at hl
      cases hl
      exact tx_lsK hK ⟨rfl, rfl, trivial⟩
set_option maxHeartbeats 4000000 in
theorem f_toWait_L29_ok {l : Launch} {E : XEnv} {m : Nat} {ad : Nat → Nat} {h0 : XH} {R : Option Value → TS → Prop} {n : Nat} {x1 : Int32} {x2 : Int32} {S : TS} {s : Int32 × TS} {o : (TS) ⊕ (Int32 × TS)} (hl : xloop (fun s => f_toWait_L29 n x1 x2 s.1 s.2) n s = some o) (hK : K_toWait_L29 l E m ad h0 R S x1 x2 o) : TX l E mX4_toWait 6 29 [(0, .ref m), (1, .int x1), (2, .int x2), (3, .int s.1)] [] m ad h0 s.2 R :=
  xloop_of (fun s : Int32 × TS => TX l E mX4_toWait 6 29 [(0, .ref m), (1, .int x1), (2, .int x2), (3, .int s.1)] [] m ad h0 s.2 R) (fun r => K_toWait_L29 l E m ad h0 R S x1 x2 r) (fun s o hl hk => f_toWait_L29_s (S := s.2) (o := o) hl hk) n s o hl hK
set_option maxHeartbeats 4000000 in
theorem T_toWait {l : Launch} {E : XEnv} {m : Nat} {ad : Nat → Nat} {n : Nat} {x1 : Int32} {x2 : Int32} {S : TS} {r : Int32 × TS} (hl : f_toWait n x1 x2 S = some r) : TM l E mX4_toWait 6 m ad [.ref m, .int x1, .int x2] S (some (.int r.1)) r.2 := by
  unfold f_toWait at hl
  refine tm_of (by decide +kernel) rfl (Nat.le_of_ble_eq_true rfl) fun h0 => ?_
  refine tx_aload_n dX4_toWait_0 rfl rfl ?_
  refine tx_iconst (v := 0) dX4_toWait_1 rfl ?_
  obtain ⟨S1, eS1, hl⟩ := xb hl
  refine tx_putI pF_X4_111 dX4_toWait_2 (by decide) rfl rfl (Option.some.inj eS1) ?_
  refine tx_aload_n dX4_toWait_5 rfl rfl ?_
  refine tx_iload_n dX4_toWait_6 rfl ?_
  obtain ⟨r2, er2, hl⟩ := xb hl
  refine tx_callV (T_isPerson er2) lV_X4_379 C_X4_isPerson rfl dX4_toWait_7 rfl (by decide) (Nat.le_of_ble_eq_true rfl) ?_
  refine tx_if_eq (tgt := 21) dX4_toWait_10 (by decide) (fun c3 => ?_) (fun c3 => ?_)
  · rw [if_pos c3] at hl
    refine tx_iconst (v := 0) dX4_toWait_21 rfl ?_
    cases hl
    exact tx_iret dX4_toWait_22 rfl rfl ⟨rfl, rfl⟩
  · rw [if_neg c3] at hl
    refine tx_aload_n dX4_toWait_13 rfl rfl ?_
    refine tx_iload_n dX4_toWait_14 rfl ?_
    obtain ⟨r4, er4, hl⟩ := xb hl
    refine tx_callV (T_isHouse er4) lV_X4_367 C_X4_isHouse rfl dX4_toWait_15 rfl (by decide) (Nat.le_of_ble_eq_true rfl) ?_
    refine tx_if_ne (tgt := 23) dX4_toWait_18 (by decide) (fun c5 => ?_) (fun c5 => ?_)
    · rw [if_neg c5] at hl
      refine tx_aload_n dX4_toWait_23 rfl rfl ?_
      obtain ⟨r6, er6, hl⟩ := xb hl
      refine tx_callV (T_tries er6) lV_X4_391 C_X4_tries rfl dX4_toWait_24 rfl (by decide) (Nat.le_of_ble_eq_true rfl) ?_
      refine tx_iconst (v := 0) dX4_toWait_27 rfl ?_
      refine tx_istore_n dX4_toWait_28 (by decide) ?_
      obtain ⟨o12, eo12, hl⟩ := xb hl
      rcases o12 with e13 | e14
      · dsimp only at hl
        refine tx_lsK (f_toWait_L29_ok (S := r6) (s := (0, r6)) eo12 ?_) ⟨rfl, rfl, rfl, rfl, trivial⟩
        refine tx_iconst (v := (-1)) dX4_toWait_60 rfl ?_
        cases hl
        exact tx_iret dX4_toWait_61 rfl rfl ⟨rfl, rfl⟩
      · dsimp only at hl
        refine tx_lsK (f_toWait_L29_ok (S := r6) (s := (0, r6)) eo12 ?_) ⟨rfl, rfl, rfl, rfl, trivial⟩
        refine tx_iload_n dX4_toWait_46 rfl ?_
        cases hl
        exact tx_iret dX4_toWait_47 rfl rfl ⟨rfl, rfl⟩
    · rw [if_pos c5] at hl
      refine tx_iconst (v := 0) dX4_toWait_21 rfl ?_
      cases hl
      exact tx_iret dX4_toWait_22 rfl rfl ⟨rfl, rfl⟩
def f_round_L31 (n : Nat) (x1 : Int32) (x2 : Int32) (x3 : Int32) (x4 : Int32) (S : TS) : Option ((Int32 × Int32 × Int32 × TS) ⊕ ((Int32 × Int32 × TS))) := if x4 ≥ (S.1 1) then some (.inr (x2, x3, S)) else (trd S 41 ((19 : Int32) + x4)).bind fun v6 => if v6 = (-1) then (some (x4 + 1)).bind fun w8 => some (.inl (x2, x3, w8, S)) else (f_tightOf 0 v6 x4 S).bind fun r9 => if r9 = 0 then (some (x4 + 1)).bind fun w18 => some (.inl (x2, x3, w18, S)) else (trd S 7 x4).bind fun v11 => (f_lesser x2 v11).bind fun r12 => (trd S 7 x4).bind fun v13 => if v13 ≤ x3 then (some (x4 + 1)).bind fun w15 => some (.inl (r12, x3, w15, S)) else (trd S 7 x4).bind fun v16 => (some (x4 + 1)).bind fun w17 => some (.inl (r12, v16, w17, S))
abbrev K_round_L31 (l : Launch) (E : XEnv) (m : Nat) (ad : Nat → Nat) (h0 : XH) (R : Option Value → TS → Prop) (S : TS) (x1 : Int32) (o : (Int32 × Int32 × TS)) : Prop := match o with
  | e => TX l E mX4_round 3 114 [(0, .ref m), (1, .int x1), (2, .int e.1), (3, .int e.2.1)] [] m ad h0 e.2.2 R
def f_round (n : Nat) (x1 : Int32) (S : TS) : Option (Int32 × TS) := (some (tpF S 0 0)).bind fun S1 => (f_within x1 0 30).bind fun r2 => (f_right r2 1 S1).bind fun r3 => if r3.1 = 0 then some (0, r3.2) else (xloop (fun s => f_round_L31 n x1 s.1 s.2.1 s.2.2.1 s.2.2.2) n (99999, (-1), 0, r3.2)).bind fun o19 => if o19.2.1 = (-1) then some (0, o19.2.2) else (f_off x1 o19.1).bind fun r21 => (f_off x1 o19.2.1).bind fun r22 => (f_lesser r21 r22).bind fun r23 => some (((o19.2.1 - o19.1) + r23), o19.2.2)
set_option maxHeartbeats 4000000 in
theorem f_round_L31_s {l : Launch} {E : XEnv} {m : Nat} {ad : Nat → Nat} {h0 : XH} {R : Option Value → TS → Prop} {n : Nat} {x1 : Int32} {x2 : Int32} {x3 : Int32} {x4 : Int32} {S : TS} {o : (Int32 × Int32 × Int32 × TS) ⊕ ((Int32 × Int32 × TS))} (hl : f_round_L31 n x1 x2 x3 x4 S = some o) (hK : (xk (fun s : Int32 × Int32 × Int32 × TS => TX l E mX4_round 3 31 [(0, .ref m), (1, .int x1), (2, .int s.1), (3, .int s.2.1), (4, .int s.2.2.1)] [] m ad h0 s.2.2.2 R) (fun r => K_round_L31 l E m ad h0 R S x1 r) o)) : TX l E mX4_round 3 31 [(0, .ref m), (1, .int x1), (2, .int x2), (3, .int x3), (4, .int x4)] [] m ad h0 S R := by
  unfold f_round_L31 at hl
  refine tx_iload dX4_round_31 rfl ?_
  refine tx_aload_n dX4_round_33 rfl rfl ?_
  refine tx_getI gF_X4_275 dX4_round_34 (by decide) ?_
  refine tx_icmp_ge (tgt := 114) dX4_round_37 (by decide) (fun c5 => ?_) (fun c5 => ?_)
  · rw [if_pos c5] at hl
    cases hl
    exact tx_lsK hK ⟨rfl, rfl, rfl, rfl, trivial⟩
  · rw [if_neg c5] at hl
    refine tx_aload_n dX4_round_40 rfl rfl ?_
    refine tx_getA gF_X4_66 dX4_round_41 (by decide) ?_
    refine tx_bipush (v := 19) dX4_round_44 (by decide) ?_
    refine tx_iload dX4_round_46 rfl ?_
    refine tx_iadd dX4_round_48 ?_
    obtain ⟨v6, ev6, hl⟩ := xb hl
    refine tx_iald (by decide) dX4_round_49 ev6 ?_
    refine tx_istore dX4_round_50 (by decide) ?_
    refine tx_iload dX4_round_52 rfl ?_
    refine tx_iconst (v := (-1)) dX4_round_54 rfl ?_
    refine tx_icmp_eq (tgt := 108) dX4_round_55 (by decide) (fun c7 => ?_) (fun c7 => ?_)
    · rw [if_pos c7] at hl
      obtain ⟨w8, ew8, hl⟩ := xb hl
      refine tx_iinc dX4_round_108 rfl (by decide) (Option.some.inj ew8) ?_
      refine tx_goto (tgt := 31) dX4_round_111 (by decide) ?_
      cases hl
      exact tx_lsK hK ⟨rfl, rfl, rfl, rfl, rfl, trivial⟩
    · rw [if_neg c7] at hl
      refine tx_aload_n dX4_round_58 rfl rfl ?_
      refine tx_iconst (v := 0) dX4_round_59 rfl ?_
      refine tx_iload dX4_round_60 rfl ?_
      refine tx_iload dX4_round_62 rfl ?_
      obtain ⟨r9, er9, hl⟩ := xb hl
      refine tx_callV (T_tightOf er9) lV_X4_312 C_X4_tightOf rfl dX4_round_64 rfl (by decide) (Nat.le_of_ble_eq_true rfl) ?_
      refine tx_if_ne (tgt := 73) dX4_round_67 (by decide) (fun c10 => ?_) (fun c10 => ?_)
      · rw [if_neg c10] at hl
        refine tx_iload_n dX4_round_73 rfl ?_
        refine tx_aload_n dX4_round_74 rfl rfl ?_
        refine tx_getA gF_X4_20 dX4_round_75 (by decide) ?_
        refine tx_iload dX4_round_78 rfl ?_
        obtain ⟨v11, ev11, hl⟩ := xb hl
        refine tx_iald (by decide) dX4_round_80 ev11 ?_
        obtain ⟨r12, er12, hl⟩ := xb hl
        refine tx_callS (T_lesser er12) lS_X4_329 C_X4_lesser dX4_round_81 rfl (by decide) (Nat.le_of_ble_eq_true rfl) ?_
        refine tx_istore_n dX4_round_84 (by decide) ?_
        refine tx_aload_n dX4_round_85 rfl rfl ?_
        refine tx_getA gF_X4_20 dX4_round_86 (by decide) ?_
        refine tx_iload dX4_round_89 rfl ?_
        obtain ⟨v13, ev13, hl⟩ := xb hl
        refine tx_iald (by decide) dX4_round_91 ev13 ?_
        refine tx_iload_n dX4_round_92 rfl ?_
        refine tx_icmp_le (tgt := 106) dX4_round_93 (by decide) (fun c14 => ?_) (fun c14 => ?_)
        · rw [if_pos c14] at hl
          refine tx_iload_n dX4_round_106 rfl ?_
          refine tx_istore_n dX4_round_107 (by decide) ?_
          obtain ⟨w15, ew15, hl⟩ := xb hl
          refine tx_iinc dX4_round_108 rfl (by decide) (Option.some.inj ew15) ?_
          refine tx_goto (tgt := 31) dX4_round_111 (by decide) ?_
          cases hl
          exact tx_lsK hK ⟨rfl, rfl, rfl, rfl, rfl, trivial⟩
        · rw [if_neg c14] at hl
          refine tx_aload_n dX4_round_96 rfl rfl ?_
          refine tx_getA gF_X4_20 dX4_round_97 (by decide) ?_
          refine tx_iload dX4_round_100 rfl ?_
          obtain ⟨v16, ev16, hl⟩ := xb hl
          refine tx_iald (by decide) dX4_round_102 ev16 ?_
          refine tx_goto (tgt := 107) dX4_round_103 (by decide) ?_
          refine tx_istore_n dX4_round_107 (by decide) ?_
          obtain ⟨w17, ew17, hl⟩ := xb hl
          refine tx_iinc dX4_round_108 rfl (by decide) (Option.some.inj ew17) ?_
          refine tx_goto (tgt := 31) dX4_round_111 (by decide) ?_
          cases hl
          exact tx_lsK hK ⟨rfl, rfl, rfl, rfl, rfl, trivial⟩
      · rw [if_pos c10] at hl
        refine tx_goto (tgt := 108) dX4_round_70 (by decide) ?_
        obtain ⟨w18, ew18, hl⟩ := xb hl
        refine tx_iinc dX4_round_108 rfl (by decide) (Option.some.inj ew18) ?_
        refine tx_goto (tgt := 31) dX4_round_111 (by decide) ?_
        cases hl
        exact tx_lsK hK ⟨rfl, rfl, rfl, rfl, rfl, trivial⟩
set_option maxHeartbeats 4000000 in
theorem f_round_L31_ok {l : Launch} {E : XEnv} {m : Nat} {ad : Nat → Nat} {h0 : XH} {R : Option Value → TS → Prop} {n : Nat} {x1 : Int32} {S : TS} {s : Int32 × Int32 × Int32 × TS} {o : (Int32 × Int32 × TS)} (hl : xloop (fun s => f_round_L31 n x1 s.1 s.2.1 s.2.2.1 s.2.2.2) n s = some o) (hK : K_round_L31 l E m ad h0 R S x1 o) : TX l E mX4_round 3 31 [(0, .ref m), (1, .int x1), (2, .int s.1), (3, .int s.2.1), (4, .int s.2.2.1)] [] m ad h0 s.2.2.2 R :=
  xloop_of (fun s : Int32 × Int32 × Int32 × TS => TX l E mX4_round 3 31 [(0, .ref m), (1, .int x1), (2, .int s.1), (3, .int s.2.1), (4, .int s.2.2.1)] [] m ad h0 s.2.2.2 R) (fun r => K_round_L31 l E m ad h0 R S x1 r) (fun s o hl hk => f_round_L31_s (S := s.2.2.2) (o := o) hl hk) n s o hl hK
set_option maxHeartbeats 4000000 in
theorem T_round {l : Launch} {E : XEnv} {m : Nat} {ad : Nat → Nat} {n : Nat} {x1 : Int32} {S : TS} {r : Int32 × TS} (hl : f_round n x1 S = some r) : TM l E mX4_round 3 m ad [.ref m, .int x1] S (some (.int r.1)) r.2 := by
  unfold f_round at hl
  refine tm_of (by decide +kernel) rfl (Nat.le_of_ble_eq_true rfl) fun h0 => ?_
  refine tx_aload_n dX4_round_0 rfl rfl ?_
  refine tx_iconst (v := 0) dX4_round_1 rfl ?_
  obtain ⟨S1, eS1, hl⟩ := xb hl
  refine tx_putI pF_X4_111 dX4_round_2 (by decide) rfl rfl (Option.some.inj eS1) ?_
  refine tx_aload_n dX4_round_5 rfl rfl ?_
  refine tx_iload_n dX4_round_6 rfl ?_
  refine tx_iconst (v := 0) dX4_round_7 rfl ?_
  refine tx_bipush (v := 30) dX4_round_8 (by decide) ?_
  obtain ⟨r2, er2, hl⟩ := xb hl
  refine tx_callS (T_within er2) lS_X4_345 C_X4_within dX4_round_10 rfl (by decide) (Nat.le_of_ble_eq_true rfl) ?_
  refine tx_iconst (v := 1) dX4_round_13 rfl ?_
  obtain ⟨r3, er3, hl⟩ := xb hl
  refine tx_callV (T_right er3) lV_X4_268 C_X4_right rfl dX4_round_14 rfl (by decide) (Nat.le_of_ble_eq_true rfl) ?_
  refine tx_if_ne (tgt := 22) dX4_round_17 (by decide) (fun c4 => ?_) (fun c4 => ?_)
  · rw [if_neg c4] at hl
    refine tx_ldcw (v := 99999) q2000 dX4_round_22 ?_
    refine tx_istore_n dX4_round_25 (by decide) ?_
    refine tx_iconst (v := (-1)) dX4_round_26 rfl ?_
    refine tx_istore_n dX4_round_27 (by decide) ?_
    refine tx_iconst (v := 0) dX4_round_28 rfl ?_
    refine tx_istore dX4_round_29 (by decide) ?_
    obtain ⟨o19, eo19, hl⟩ := xb hl
    refine tx_lsK (f_round_L31_ok (S := r3.2) (s := (99999, (-1), 0, r3.2)) eo19 ?_) ⟨rfl, rfl, rfl, rfl, rfl, trivial⟩
    refine tx_iload_n dX4_round_114 rfl ?_
    refine tx_iconst (v := (-1)) dX4_round_115 rfl ?_
    refine tx_icmp_ne (tgt := 123) dX4_round_116 (by decide) (fun c20 => ?_) (fun c20 => ?_)
    · rw [if_neg c20] at hl
      refine tx_iload_n dX4_round_123 rfl ?_
      refine tx_iload_n dX4_round_124 rfl ?_
      refine tx_isub dX4_round_125 ?_
      refine tx_iload_n dX4_round_126 rfl ?_
      refine tx_iload_n dX4_round_127 rfl ?_
      obtain ⟨r21, er21, hl⟩ := xb hl
      refine tx_callS (T_off er21) lS_X4_364 C_X4_off dX4_round_128 rfl (by decide) (Nat.le_of_ble_eq_true rfl) ?_
      refine tx_iload_n dX4_round_131 rfl ?_
      refine tx_iload_n dX4_round_132 rfl ?_
      obtain ⟨r22, er22, hl⟩ := xb hl
      refine tx_callS (T_off er22) lS_X4_364 C_X4_off dX4_round_133 rfl (by decide) (Nat.le_of_ble_eq_true rfl) ?_
      obtain ⟨r23, er23, hl⟩ := xb hl
      refine tx_callS (T_lesser er23) lS_X4_329 C_X4_lesser dX4_round_136 rfl (by decide) (Nat.le_of_ble_eq_true rfl) ?_
      refine tx_iadd dX4_round_139 ?_
      cases hl
      exact tx_iret dX4_round_140 rfl rfl ⟨rfl, rfl⟩
    · rw [if_pos c20] at hl
      refine tx_iconst (v := 0) dX4_round_119 rfl ?_
      refine tx_goto (tgt := 140) dX4_round_120 (by decide) ?_
      cases hl
      exact tx_iret dX4_round_140 rfl rfl ⟨rfl, rfl⟩
  · rw [if_pos c4] at hl
    refine tx_iconst (v := 0) dX4_round_20 rfl ?_
    cases hl
    exact tx_iret dX4_round_21 rfl rfl ⟨rfl, rfl⟩
def f_see (x1 : Int32) (x2 : Int32) (x3 : Int32) (S : TS) : Option (Int32 × TS) := (some (tpF S 0 0)).bind fun S1 => (f_isHouse x1 S1).bind fun r2 => if r2.1 = 0 then some (0, r2.2) else if (r2.2.1 51) = 8 then (f_refuses 2 r2.2).bind fun r5 => some (r5.1, r5.2) else (f_within x2 0 20).bind fun r6 => if r6 = 0 then (f_refuses 2 r2.2).bind fun r8 => some (r8.1, r8.2) else (f_within x3 0 99).bind fun r9 => if r9 = 0 then (f_refuses 2 r2.2).bind fun r15 => some (r15.1, r15.2) else (twr r2.2 52 ((3 : Int32) * (r2.2.1 51)) x1).bind fun S11 => (twr S11 52 (((3 : Int32) * (S11.1 51)) + 1) x2).bind fun S12 => (twr S12 52 (((3 : Int32) * (S12.1 51)) + 2) x3).bind fun S13 => (some (tpF S13 51 ((S13.1 51) + 1))).bind fun S14 => some ((S14.1 51), S14)
set_option maxHeartbeats 4000000 in
theorem T_see {l : Launch} {E : XEnv} {m : Nat} {ad : Nat → Nat} {x1 : Int32} {x2 : Int32} {x3 : Int32} {S : TS} {r : Int32 × TS} (hl : f_see x1 x2 x3 S = some r) : TM l E mX4_see 3 m ad [.ref m, .int x1, .int x2, .int x3] S (some (.int r.1)) r.2 := by
  unfold f_see at hl
  refine tm_of (by decide +kernel) rfl (Nat.le_of_ble_eq_true rfl) fun h0 => ?_
  refine tx_aload_n dX4_see_0 rfl rfl ?_
  refine tx_iconst (v := 0) dX4_see_1 rfl ?_
  obtain ⟨S1, eS1, hl⟩ := xb hl
  refine tx_putI pF_X4_111 dX4_see_2 (by decide) rfl rfl (Option.some.inj eS1) ?_
  refine tx_aload_n dX4_see_5 rfl rfl ?_
  refine tx_iload_n dX4_see_6 rfl ?_
  obtain ⟨r2, er2, hl⟩ := xb hl
  refine tx_callV (T_isHouse er2) lV_X4_367 C_X4_isHouse rfl dX4_see_7 rfl (by decide) (Nat.le_of_ble_eq_true rfl) ?_
  refine tx_if_ne (tgt := 15) dX4_see_10 (by decide) (fun c3 => ?_) (fun c3 => ?_)
  · rw [if_neg c3] at hl
    refine tx_aload_n dX4_see_15 rfl rfl ?_
    refine tx_getI gF_X4_291 dX4_see_16 (by decide) ?_
    refine tx_bipush (v := 8) dX4_see_19 (by decide) ?_
    refine tx_icmp_eq (tgt := 44) dX4_see_21 (by decide) (fun c4 => ?_) (fun c4 => ?_)
    · rw [if_pos c4] at hl
      refine tx_aload_n dX4_see_44 rfl rfl ?_
      refine tx_iconst (v := 2) dX4_see_45 rfl ?_
      obtain ⟨r5, er5, hl⟩ := xb hl
      refine tx_callV (T_refuses er5) lV_X4_382 C_X4_refuses rfl dX4_see_46 rfl (by decide) (Nat.le_of_ble_eq_true rfl) ?_
      cases hl
      exact tx_iret dX4_see_49 rfl rfl ⟨rfl, rfl⟩
    · rw [if_neg c4] at hl
      refine tx_iload_n dX4_see_24 rfl ?_
      refine tx_iconst (v := 0) dX4_see_25 rfl ?_
      refine tx_bipush (v := 20) dX4_see_26 (by decide) ?_
      obtain ⟨r6, er6, hl⟩ := xb hl
      refine tx_callS (T_within er6) lS_X4_345 C_X4_within dX4_see_28 rfl (by decide) (Nat.le_of_ble_eq_true rfl) ?_
      refine tx_if_eq (tgt := 44) dX4_see_31 (by decide) (fun c7 => ?_) (fun c7 => ?_)
      · rw [if_pos c7] at hl
        refine tx_aload_n dX4_see_44 rfl rfl ?_
        refine tx_iconst (v := 2) dX4_see_45 rfl ?_
        obtain ⟨r8, er8, hl⟩ := xb hl
        refine tx_callV (T_refuses er8) lV_X4_382 C_X4_refuses rfl dX4_see_46 rfl (by decide) (Nat.le_of_ble_eq_true rfl) ?_
        cases hl
        exact tx_iret dX4_see_49 rfl rfl ⟨rfl, rfl⟩
      · rw [if_neg c7] at hl
        refine tx_iload_n dX4_see_34 rfl ?_
        refine tx_iconst (v := 0) dX4_see_35 rfl ?_
        refine tx_bipush (v := 99) dX4_see_36 (by decide) ?_
        obtain ⟨r9, er9, hl⟩ := xb hl
        refine tx_callS (T_within er9) lS_X4_345 C_X4_within dX4_see_38 rfl (by decide) (Nat.le_of_ble_eq_true rfl) ?_
        refine tx_if_ne (tgt := 50) dX4_see_41 (by decide) (fun c10 => ?_) (fun c10 => ?_)
        · rw [if_neg c10] at hl
          refine tx_aload_n dX4_see_50 rfl rfl ?_
          refine tx_getA gF_X4_93 dX4_see_51 (by decide) ?_
          refine tx_iconst (v := 3) dX4_see_54 rfl ?_
          refine tx_aload_n dX4_see_55 rfl rfl ?_
          refine tx_getI gF_X4_291 dX4_see_56 (by decide) ?_
          refine tx_imul dX4_see_59 ?_
          refine tx_iload_n dX4_see_60 rfl ?_
          obtain ⟨S11, eS11, hl⟩ := xb hl
          refine tx_iast (by decide) dX4_see_61 eS11 ?_
          refine tx_aload_n dX4_see_62 rfl rfl ?_
          refine tx_getA gF_X4_93 dX4_see_63 (by decide) ?_
          refine tx_iconst (v := 3) dX4_see_66 rfl ?_
          refine tx_aload_n dX4_see_67 rfl rfl ?_
          refine tx_getI gF_X4_291 dX4_see_68 (by decide) ?_
          refine tx_imul dX4_see_71 ?_
          refine tx_iconst (v := 1) dX4_see_72 rfl ?_
          refine tx_iadd dX4_see_73 ?_
          refine tx_iload_n dX4_see_74 rfl ?_
          obtain ⟨S12, eS12, hl⟩ := xb hl
          refine tx_iast (by decide) dX4_see_75 eS12 ?_
          refine tx_aload_n dX4_see_76 rfl rfl ?_
          refine tx_getA gF_X4_93 dX4_see_77 (by decide) ?_
          refine tx_iconst (v := 3) dX4_see_80 rfl ?_
          refine tx_aload_n dX4_see_81 rfl rfl ?_
          refine tx_getI gF_X4_291 dX4_see_82 (by decide) ?_
          refine tx_imul dX4_see_85 ?_
          refine tx_iconst (v := 2) dX4_see_86 rfl ?_
          refine tx_iadd dX4_see_87 ?_
          refine tx_iload_n dX4_see_88 rfl ?_
          obtain ⟨S13, eS13, hl⟩ := xb hl
          refine tx_iast (by decide) dX4_see_89 eS13 ?_
          refine tx_aload_n dX4_see_90 rfl rfl ?_
          refine tx_dup dX4_see_91 rfl ?_
          refine tx_getI gF_X4_291 dX4_see_92 (by decide) ?_
          refine tx_iconst (v := 1) dX4_see_95 rfl ?_
          refine tx_iadd dX4_see_96 ?_
          obtain ⟨S14, eS14, hl⟩ := xb hl
          refine tx_putI pF_X4_291 dX4_see_97 (by decide) rfl rfl (Option.some.inj eS14) ?_
          refine tx_aload_n dX4_see_100 rfl rfl ?_
          refine tx_getI gF_X4_291 dX4_see_101 (by decide) ?_
          cases hl
          exact tx_iret dX4_see_104 rfl rfl ⟨rfl, rfl⟩
        · rw [if_pos c10] at hl
          refine tx_aload_n dX4_see_44 rfl rfl ?_
          refine tx_iconst (v := 2) dX4_see_45 rfl ?_
          obtain ⟨r15, er15, hl⟩ := xb hl
          refine tx_callV (T_refuses er15) lV_X4_382 C_X4_refuses rfl dX4_see_46 rfl (by decide) (Nat.le_of_ble_eq_true rfl) ?_
          cases hl
          exact tx_iret dX4_see_49 rfl rfl ⟨rfl, rfl⟩
  · rw [if_pos c3] at hl
    refine tx_iconst (v := 0) dX4_see_13 rfl ?_
    cases hl
    exact tx_iret dX4_see_14 rfl rfl ⟨rfl, rfl⟩
def f_forget  (S : TS) : Option (TS) := (some (tpF S 0 0)).bind fun S1 => (some (tpF S1 51 0)).bind fun S2 => some S2
set_option maxHeartbeats 4000000 in
theorem T_forget {l : Launch} {E : XEnv} {m : Nat} {ad : Nat → Nat}  {S : TS} {S' : TS} (hl : f_forget  S = some S') : TM l E mX4_forget 1 m ad [.ref m] S none S' := by
  unfold f_forget at hl
  refine tm_of (by decide +kernel) rfl (Nat.le_of_ble_eq_true rfl) fun h0 => ?_
  refine tx_aload_n dX4_forget_0 rfl rfl ?_
  refine tx_iconst (v := 0) dX4_forget_1 rfl ?_
  obtain ⟨S1, eS1, hl⟩ := xb hl
  refine tx_putI pF_X4_111 dX4_forget_2 (by decide) rfl rfl (Option.some.inj eS1) ?_
  refine tx_aload_n dX4_forget_5 rfl rfl ?_
  refine tx_iconst (v := 0) dX4_forget_6 rfl ?_
  obtain ⟨S2, eS2, hl⟩ := xb hl
  refine tx_putI pF_X4_291 dX4_forget_7 (by decide) rfl rfl (Option.some.inj eS2) ?_
  cases hl
  exact tx_vret dX4_forget_10 rfl ⟨rfl, rfl⟩
def f_isSeen_L10 (n : Nat) (x1 : Int32) (x2 : Int32) (S : TS) : Option ((Int32 × TS) ⊕ ((TS) ⊕ (TS))) := if x2 ≥ (S.1 51) then some (.inr (.inl S)) else (trd S 52 (((3 : Int32) * x2) + 1)).bind fun v3 => if v3 = x1 then (trd S 52 ((3 : Int32) * x2)).bind fun v6 => (trd S 41 ((54 : Int32) + v6)).bind fun v7 => (trd S 52 (((3 : Int32) * x2) + 2)).bind fun v8 => if v7 = v8 then (some (x2 + 1)).bind fun w10 => some (.inl (w10, S)) else some (.inr (.inr S)) else (some (x2 + 1)).bind fun w5 => some (.inl (w5, S))
abbrev K_isSeen_L10 (l : Launch) (E : XEnv) (m : Nat) (ad : Nat → Nat) (h0 : XH) (R : Option Value → TS → Prop) (S : TS) (x1 : Int32) (o : (TS) ⊕ (TS)) : Prop := match o with
  | .inl e => TX l E mX4_isSeen 6 69 [(0, .ref m), (1, .int x1)] [] m ad h0 e R
  | .inr e => TX l E mX4_isSeen 6 61 [(0, .ref m)] [] m ad h0 e R
def f_isSeen_L76 (n : Nat) (x1 : Int32) (x2 : Int32) (S : TS) : Option ((Int32 × TS) ⊕ ((TS))) := if x2 ≥ (S.1 1) then some (.inr S) else (trd S 41 ((54 : Int32) + x2)).bind fun v18 => (twr S 53 x2 v18).bind fun S19 => (some (x2 + 1)).bind fun w20 => some (.inl (w20, S19))
abbrev K_isSeen_L76 (l : Launch) (E : XEnv) (m : Nat) (ad : Nat → Nat) (h0 : XH) (R : Option Value → TS → Prop) (S : TS) (x1 : Int32) (o : (TS)) : Prop := match o with
  | e => TX l E mX4_isSeen 6 105 [(0, .ref m), (1, .int x1)] [] m ad h0 e R
def f_isSeen_L2 (n : Nat) (x1 : Int32) (S : TS) : Option ((Int32 × TS) ⊕ ((TS) ⊕ (TS))) := if x1 > 20 then some (.inr (.inl S)) else (xloop (fun s => f_isSeen_L10 n x1 s.1 s.2) n (0, S)).bind fun o11 => match o11 with | .inl e12 => (if x1 = 5 then (xloop (fun s => f_isSeen_L76 n x1 s.1 s.2) n (0, e12)).bind fun o21 => (f_dayGoes n 43 o21).bind fun r22 => (some (x1 + 1)).bind fun w23 => some (.inl (w23, r22)) else (f_dayGoes n 43 e12).bind fun r15 => (some (x1 + 1)).bind fun w16 => some (.inl (w16, r15))) | .inr e13 => (some (.inr (.inr e13)))
abbrev K_isSeen_L2 (l : Launch) (E : XEnv) (m : Nat) (ad : Nat → Nat) (h0 : XH) (R : Option Value → TS → Prop) (S : TS)  (o : (TS) ⊕ (TS)) : Prop := match o with
  | .inl e => TX l E mX4_isSeen 6 117 [(0, .ref m)] [] m ad h0 e R
  | .inr e => TX l E mX4_isSeen 6 61 [(0, .ref m)] [] m ad h0 e R
def f_isSeen (n : Nat)  (S : TS) : Option (Int32 × TS) := (xloop (fun s => f_isSeen_L2 n s.1 s.2) n (0, S)).bind fun o24 => match o24 with | .inl e25 => (some (1, e25)) | .inr e26 => (some (0, e26))
set_option maxHeartbeats 4000000 in
theorem f_isSeen_L10_s {l : Launch} {E : XEnv} {m : Nat} {ad : Nat → Nat} {h0 : XH} {R : Option Value → TS → Prop} {n : Nat} {x1 : Int32} {x2 : Int32} {S : TS} {o : (Int32 × TS) ⊕ ((TS) ⊕ (TS))} (hl : f_isSeen_L10 n x1 x2 S = some o) (hK : (xk (fun s : Int32 × TS => TX l E mX4_isSeen 6 10 [(0, .ref m), (1, .int x1), (2, .int s.1)] [] m ad h0 s.2 R) (fun r => K_isSeen_L10 l E m ad h0 R S x1 r) o)) : TX l E mX4_isSeen 6 10 [(0, .ref m), (1, .int x1), (2, .int x2)] [] m ad h0 S R := by
  unfold f_isSeen_L10 at hl
  refine tx_iload_n dX4_isSeen_10 rfl ?_
  refine tx_aload_n dX4_isSeen_11 rfl rfl ?_
  refine tx_getI gF_X4_291 dX4_isSeen_12 (by decide) ?_
  refine tx_icmp_ge (tgt := 69) dX4_isSeen_15 (by decide) (fun c2 => ?_) (fun c2 => ?_)
  · rw [if_pos c2] at hl
    cases hl
    exact tx_lsK hK ⟨rfl, rfl, trivial⟩
  · rw [if_neg c2] at hl
    refine tx_aload_n dX4_isSeen_18 rfl rfl ?_
    refine tx_getA gF_X4_93 dX4_isSeen_19 (by decide) ?_
    refine tx_iconst (v := 3) dX4_isSeen_22 rfl ?_
    refine tx_iload_n dX4_isSeen_23 rfl ?_
    refine tx_imul dX4_isSeen_24 ?_
    refine tx_iconst (v := 1) dX4_isSeen_25 rfl ?_
    refine tx_iadd dX4_isSeen_26 ?_
    obtain ⟨v3, ev3, hl⟩ := xb hl
    refine tx_iald (by decide) dX4_isSeen_27 ev3 ?_
    refine tx_iload_n dX4_isSeen_28 rfl ?_
    refine tx_icmp_ne (tgt := 63) dX4_isSeen_29 (by decide) (fun c4 => ?_) (fun c4 => ?_)
    · rw [if_neg c4] at hl
      obtain ⟨w5, ew5, hl⟩ := xb hl
      refine tx_iinc dX4_isSeen_63 rfl (by decide) (Option.some.inj ew5) ?_
      refine tx_goto (tgt := 10) dX4_isSeen_66 (by decide) ?_
      cases hl
      exact tx_lsK hK ⟨rfl, rfl, rfl, trivial⟩
    · rw [if_pos c4] at hl
      refine tx_aload_n dX4_isSeen_32 rfl rfl ?_
      refine tx_getA gF_X4_66 dX4_isSeen_33 (by decide) ?_
      refine tx_bipush (v := 54) dX4_isSeen_36 (by decide) ?_
      refine tx_aload_n dX4_isSeen_38 rfl rfl ?_
      refine tx_getA gF_X4_93 dX4_isSeen_39 (by decide) ?_
      refine tx_iconst (v := 3) dX4_isSeen_42 rfl ?_
      refine tx_iload_n dX4_isSeen_43 rfl ?_
      refine tx_imul dX4_isSeen_44 ?_
      obtain ⟨v6, ev6, hl⟩ := xb hl
      refine tx_iald (by decide) dX4_isSeen_45 ev6 ?_
      refine tx_iadd dX4_isSeen_46 ?_
      obtain ⟨v7, ev7, hl⟩ := xb hl
      refine tx_iald (by decide) dX4_isSeen_47 ev7 ?_
      refine tx_aload_n dX4_isSeen_48 rfl rfl ?_
      refine tx_getA gF_X4_93 dX4_isSeen_49 (by decide) ?_
      refine tx_iconst (v := 3) dX4_isSeen_52 rfl ?_
      refine tx_iload_n dX4_isSeen_53 rfl ?_
      refine tx_imul dX4_isSeen_54 ?_
      refine tx_iconst (v := 2) dX4_isSeen_55 rfl ?_
      refine tx_iadd dX4_isSeen_56 ?_
      obtain ⟨v8, ev8, hl⟩ := xb hl
      refine tx_iald (by decide) dX4_isSeen_57 ev8 ?_
      refine tx_icmp_eq (tgt := 63) dX4_isSeen_58 (by decide) (fun c9 => ?_) (fun c9 => ?_)
      · rw [if_pos c9] at hl
        obtain ⟨w10, ew10, hl⟩ := xb hl
        refine tx_iinc dX4_isSeen_63 rfl (by decide) (Option.some.inj ew10) ?_
        refine tx_goto (tgt := 10) dX4_isSeen_66 (by decide) ?_
        cases hl
        exact tx_lsK hK ⟨rfl, rfl, rfl, trivial⟩
      · rw [if_neg c9] at hl
        cases hl
        exact tx_lsK hK ⟨rfl, trivial⟩
set_option maxHeartbeats 4000000 in
theorem f_isSeen_L10_ok {l : Launch} {E : XEnv} {m : Nat} {ad : Nat → Nat} {h0 : XH} {R : Option Value → TS → Prop} {n : Nat} {x1 : Int32} {S : TS} {s : Int32 × TS} {o : (TS) ⊕ (TS)} (hl : xloop (fun s => f_isSeen_L10 n x1 s.1 s.2) n s = some o) (hK : K_isSeen_L10 l E m ad h0 R S x1 o) : TX l E mX4_isSeen 6 10 [(0, .ref m), (1, .int x1), (2, .int s.1)] [] m ad h0 s.2 R :=
  xloop_of (fun s : Int32 × TS => TX l E mX4_isSeen 6 10 [(0, .ref m), (1, .int x1), (2, .int s.1)] [] m ad h0 s.2 R) (fun r => K_isSeen_L10 l E m ad h0 R S x1 r) (fun s o hl hk => f_isSeen_L10_s (S := s.2) (o := o) hl hk) n s o hl hK
set_option maxHeartbeats 4000000 in
theorem f_isSeen_L76_s {l : Launch} {E : XEnv} {m : Nat} {ad : Nat → Nat} {h0 : XH} {R : Option Value → TS → Prop} {n : Nat} {x1 : Int32} {x2 : Int32} {S : TS} {o : (Int32 × TS) ⊕ ((TS))} (hl : f_isSeen_L76 n x1 x2 S = some o) (hK : (xk (fun s : Int32 × TS => TX l E mX4_isSeen 6 76 [(0, .ref m), (1, .int x1), (2, .int s.1)] [] m ad h0 s.2 R) (fun r => K_isSeen_L76 l E m ad h0 R S x1 r) o)) : TX l E mX4_isSeen 6 76 [(0, .ref m), (1, .int x1), (2, .int x2)] [] m ad h0 S R := by
  unfold f_isSeen_L76 at hl
  refine tx_iload_n dX4_isSeen_76 rfl ?_
  refine tx_aload_n dX4_isSeen_77 rfl rfl ?_
  refine tx_getI gF_X4_275 dX4_isSeen_78 (by decide) ?_
  refine tx_icmp_ge (tgt := 105) dX4_isSeen_81 (by decide) (fun c17 => ?_) (fun c17 => ?_)
  · rw [if_pos c17] at hl
    cases hl
    exact tx_lsK hK ⟨rfl, rfl, trivial⟩
  · rw [if_neg c17] at hl
    refine tx_aload_n dX4_isSeen_84 rfl rfl ?_
    refine tx_getA gF_X4_96 dX4_isSeen_85 (by decide) ?_
    refine tx_iload_n dX4_isSeen_88 rfl ?_
    refine tx_aload_n dX4_isSeen_89 rfl rfl ?_
    refine tx_getA gF_X4_66 dX4_isSeen_90 (by decide) ?_
    refine tx_bipush (v := 54) dX4_isSeen_93 (by decide) ?_
    refine tx_iload_n dX4_isSeen_95 rfl ?_
    refine tx_iadd dX4_isSeen_96 ?_
    obtain ⟨v18, ev18, hl⟩ := xb hl
    refine tx_iald (by decide) dX4_isSeen_97 ev18 ?_
    obtain ⟨S19, eS19, hl⟩ := xb hl
    refine tx_iast (by decide) dX4_isSeen_98 eS19 ?_
    obtain ⟨w20, ew20, hl⟩ := xb hl
    refine tx_iinc dX4_isSeen_99 rfl (by decide) (Option.some.inj ew20) ?_
    refine tx_goto (tgt := 76) dX4_isSeen_102 (by decide) ?_
    cases hl
    exact tx_lsK hK ⟨rfl, rfl, rfl, trivial⟩
set_option maxHeartbeats 4000000 in
theorem f_isSeen_L76_ok {l : Launch} {E : XEnv} {m : Nat} {ad : Nat → Nat} {h0 : XH} {R : Option Value → TS → Prop} {n : Nat} {x1 : Int32} {S : TS} {s : Int32 × TS} {o : (TS)} (hl : xloop (fun s => f_isSeen_L76 n x1 s.1 s.2) n s = some o) (hK : K_isSeen_L76 l E m ad h0 R S x1 o) : TX l E mX4_isSeen 6 76 [(0, .ref m), (1, .int x1), (2, .int s.1)] [] m ad h0 s.2 R :=
  xloop_of (fun s : Int32 × TS => TX l E mX4_isSeen 6 76 [(0, .ref m), (1, .int x1), (2, .int s.1)] [] m ad h0 s.2 R) (fun r => K_isSeen_L76 l E m ad h0 R S x1 r) (fun s o hl hk => f_isSeen_L76_s (S := s.2) (o := o) hl hk) n s o hl hK
set_option maxHeartbeats 4000000 in
theorem f_isSeen_L2_s {l : Launch} {E : XEnv} {m : Nat} {ad : Nat → Nat} {h0 : XH} {R : Option Value → TS → Prop} {n : Nat} {x1 : Int32} {S : TS} {o : (Int32 × TS) ⊕ ((TS) ⊕ (TS))} (hl : f_isSeen_L2 n x1 S = some o) (hK : (xk (fun s : Int32 × TS => TX l E mX4_isSeen 6 2 [(0, .ref m), (1, .int s.1)] [] m ad h0 s.2 R) (fun r => K_isSeen_L2 l E m ad h0 R S r) o)) : TX l E mX4_isSeen 6 2 [(0, .ref m), (1, .int x1)] [] m ad h0 S R := by
  unfold f_isSeen_L2 at hl
  refine tx_iload_n dX4_isSeen_2 rfl ?_
  refine tx_bipush (v := 20) dX4_isSeen_3 (by decide) ?_
  refine tx_icmp_gt (tgt := 117) dX4_isSeen_5 (by decide) (fun c1 => ?_) (fun c1 => ?_)
  · rw [if_pos c1] at hl
    cases hl
    exact tx_lsK hK ⟨rfl, trivial⟩
  · rw [if_neg c1] at hl
    refine tx_iconst (v := 0) dX4_isSeen_8 rfl ?_
    refine tx_istore_n dX4_isSeen_9 (by decide) ?_
    obtain ⟨o11, eo11, hl⟩ := xb hl
    rcases o11 with e12 | e13
    · dsimp only at hl
      refine tx_lsK (f_isSeen_L10_ok (S := S) (s := (0, S)) eo11 ?_) ⟨rfl, rfl, rfl, trivial⟩
      refine tx_iload_n dX4_isSeen_69 rfl ?_
      refine tx_iconst (v := 5) dX4_isSeen_70 rfl ?_
      refine tx_icmp_ne (tgt := 105) dX4_isSeen_71 (by decide) (fun c14 => ?_) (fun c14 => ?_)
      · rw [if_neg c14] at hl
        refine tx_aload_n dX4_isSeen_105 rfl rfl ?_
        refine tx_bipush (v := 43) dX4_isSeen_106 (by decide) ?_
        obtain ⟨r15, er15, hl⟩ := xb hl
        refine tx_callV (T_dayGoes er15) lV_X4_336 C_X4_dayGoes rfl dX4_isSeen_108 rfl (by decide) (Nat.le_of_ble_eq_true rfl) ?_
        obtain ⟨w16, ew16, hl⟩ := xb hl
        refine tx_iinc dX4_isSeen_111 rfl (by decide) (Option.some.inj ew16) ?_
        refine tx_goto (tgt := 2) dX4_isSeen_114 (by decide) ?_
        cases hl
        exact tx_lsK hK ⟨rfl, rfl, trivial⟩
      · rw [if_pos c14] at hl
        refine tx_iconst (v := 0) dX4_isSeen_74 rfl ?_
        refine tx_istore_n dX4_isSeen_75 (by decide) ?_
        obtain ⟨o21, eo21, hl⟩ := xb hl
        refine tx_lsK (f_isSeen_L76_ok (S := e12) (s := (0, e12)) eo21 ?_) ⟨rfl, rfl, rfl, trivial⟩
        refine tx_aload_n dX4_isSeen_105 rfl rfl ?_
        refine tx_bipush (v := 43) dX4_isSeen_106 (by decide) ?_
        obtain ⟨r22, er22, hl⟩ := xb hl
        refine tx_callV (T_dayGoes er22) lV_X4_336 C_X4_dayGoes rfl dX4_isSeen_108 rfl (by decide) (Nat.le_of_ble_eq_true rfl) ?_
        obtain ⟨w23, ew23, hl⟩ := xb hl
        refine tx_iinc dX4_isSeen_111 rfl (by decide) (Option.some.inj ew23) ?_
        refine tx_goto (tgt := 2) dX4_isSeen_114 (by decide) ?_
        cases hl
        exact tx_lsK hK ⟨rfl, rfl, trivial⟩
    · dsimp only at hl
      refine tx_lsK (f_isSeen_L10_ok (S := S) (s := (0, S)) eo11 ?_) ⟨rfl, rfl, rfl, trivial⟩
      cases hl
      exact tx_lsK hK ⟨rfl, trivial⟩
set_option maxHeartbeats 4000000 in
theorem f_isSeen_L2_ok {l : Launch} {E : XEnv} {m : Nat} {ad : Nat → Nat} {h0 : XH} {R : Option Value → TS → Prop} {n : Nat}  {S : TS} {s : Int32 × TS} {o : (TS) ⊕ (TS)} (hl : xloop (fun s => f_isSeen_L2 n s.1 s.2) n s = some o) (hK : K_isSeen_L2 l E m ad h0 R S o) : TX l E mX4_isSeen 6 2 [(0, .ref m), (1, .int s.1)] [] m ad h0 s.2 R :=
  xloop_of (fun s : Int32 × TS => TX l E mX4_isSeen 6 2 [(0, .ref m), (1, .int s.1)] [] m ad h0 s.2 R) (fun r => K_isSeen_L2 l E m ad h0 R S r) (fun s o hl hk => f_isSeen_L2_s (S := s.2) (o := o) hl hk) n s o hl hK
set_option maxHeartbeats 4000000 in
theorem T_isSeen {l : Launch} {E : XEnv} {m : Nat} {ad : Nat → Nat} {n : Nat}  {S : TS} {r : Int32 × TS} (hl : f_isSeen n  S = some r) : TM l E mX4_isSeen 6 m ad [.ref m] S (some (.int r.1)) r.2 := by
  unfold f_isSeen at hl
  refine tm_of (by decide +kernel) rfl (Nat.le_of_ble_eq_true rfl) fun h0 => ?_
  refine tx_iconst (v := 0) dX4_isSeen_0 rfl ?_
  refine tx_istore_n dX4_isSeen_1 (by decide) ?_
  obtain ⟨o24, eo24, hl⟩ := xb hl
  rcases o24 with e25 | e26
  · dsimp only at hl
    refine tx_lsK (f_isSeen_L2_ok (S := S) (s := (0, S)) eo24 ?_) ⟨rfl, rfl, trivial⟩
    refine tx_iconst (v := 1) dX4_isSeen_117 rfl ?_
    cases hl
    exact tx_iret dX4_isSeen_118 rfl rfl ⟨rfl, rfl⟩
  · dsimp only at hl
    refine tx_lsK (f_isSeen_L2_ok (S := S) (s := (0, S)) eo24 ?_) ⟨rfl, rfl, trivial⟩
    refine tx_iconst (v := 0) dX4_isSeen_61 rfl ?_
    cases hl
    exact tx_iret dX4_isSeen_62 rfl rfl ⟨rfl, rfl⟩
def f_isGuess (n : Nat) (x1 : Int32) (S : TS) : Option (Int32 × TS) := (some (x1 / 60)).bind fun w1 => (trd S 41 ((27 : Int32) + w1)).bind fun v2 => if v2 = ((x1 - x1 / 60 * 60) + 1) then some (0, S) else (f_tries n S).bind fun r4 => (twr r4 41 ((70 : Int32) + w1) ((x1 - x1 / 60 * 60) + 1)).bind fun S5 => (f_isSeen n S5).bind fun r6 => (tz r6.1).bind fun z7 => some (z7, r6.2)
set_option maxHeartbeats 4000000 in
theorem T_isGuess {l : Launch} {E : XEnv} {m : Nat} {ad : Nat → Nat} {n : Nat} {x1 : Int32} {S : TS} {r : Int32 × TS} (hl : f_isGuess n x1 S = some r) : TM l E mX4_isGuess 7 m ad [.ref m, .int x1] S (some (.int r.1)) r.2 := by
  unfold f_isGuess at hl
  refine tm_of (by decide +kernel) rfl (Nat.le_of_ble_eq_true rfl) fun h0 => ?_
  refine tx_iload_n dX4_isGuess_0 rfl ?_
  refine tx_bipush (v := 60) dX4_isGuess_1 (by decide) ?_
  refine tx_idiv dX4_isGuess_3 (by decide) ?_
  obtain ⟨w1, ew1, hl⟩ := xb hl
  refine tx_top (Option.some.inj ew1) ?_
  refine tx_istore_n dX4_isGuess_4 (by decide) ?_
  refine tx_aload_n dX4_isGuess_5 rfl rfl ?_
  refine tx_getA gF_X4_66 dX4_isGuess_6 (by decide) ?_
  refine tx_bipush (v := 27) dX4_isGuess_9 (by decide) ?_
  refine tx_iload_n dX4_isGuess_11 rfl ?_
  refine tx_iadd dX4_isGuess_12 ?_
  obtain ⟨v2, ev2, hl⟩ := xb hl
  refine tx_iald (by decide) dX4_isGuess_13 ev2 ?_
  refine tx_iload_n dX4_isGuess_14 rfl ?_
  refine tx_bipush (v := 60) dX4_isGuess_15 (by decide) ?_
  refine tx_irem dX4_isGuess_17 (by decide) ?_
  refine tx_iconst (v := 1) dX4_isGuess_18 rfl ?_
  refine tx_iadd dX4_isGuess_19 ?_
  refine tx_icmp_ne (tgt := 25) dX4_isGuess_20 (by decide) (fun c3 => ?_) (fun c3 => ?_)
  · rw [if_neg c3] at hl
    refine tx_aload_n dX4_isGuess_25 rfl rfl ?_
    obtain ⟨r4, er4, hl⟩ := xb hl
    refine tx_callV (T_tries er4) lV_X4_391 C_X4_tries rfl dX4_isGuess_26 rfl (by decide) (Nat.le_of_ble_eq_true rfl) ?_
    refine tx_aload_n dX4_isGuess_29 rfl rfl ?_
    refine tx_getA gF_X4_66 dX4_isGuess_30 (by decide) ?_
    refine tx_bipush (v := 70) dX4_isGuess_33 (by decide) ?_
    refine tx_iload_n dX4_isGuess_35 rfl ?_
    refine tx_iadd dX4_isGuess_36 ?_
    refine tx_iload_n dX4_isGuess_37 rfl ?_
    refine tx_bipush (v := 60) dX4_isGuess_38 (by decide) ?_
    refine tx_irem dX4_isGuess_40 (by decide) ?_
    refine tx_iconst (v := 1) dX4_isGuess_41 rfl ?_
    refine tx_iadd dX4_isGuess_42 ?_
    obtain ⟨S5, eS5, hl⟩ := xb hl
    refine tx_iast (by decide) dX4_isGuess_43 eS5 ?_
    refine tx_aload_n dX4_isGuess_44 rfl rfl ?_
    obtain ⟨r6, er6, hl⟩ := xb hl
    refine tx_callV (T_isSeen er6) lV_X4_424 C_X4_isSeen rfl dX4_isGuess_45 rfl (by decide) (Nat.le_of_ble_eq_true rfl) ?_
    obtain ⟨z7, ez7, hl⟩ := xb hl
    refine tx_top (tz_eq ez7).1 ?_
    cases hl
    exact tx_iret dX4_isGuess_48 rfl (tz_eq ez7).2 ⟨rfl, rfl⟩
  · rw [if_pos c3] at hl
    refine tx_iconst (v := 0) dX4_isGuess_23 rfl ?_
    cases hl
    exact tx_iret dX4_isGuess_24 rfl rfl ⟨rfl, rfl⟩
def f_large_L45 (n : Nat) (x1 : Int32) (x2 : Int32) (x3 : Int32) (x4 : Int32) (S : TS) : Option ((Int32 × Int32 × Int32 × TS) ⊕ ((Int32 × Int32 × TS))) := if x4 ≥ ((60 : Int32) * (S.1 2)) then some (.inr (x2, x3, S)) else (f_isGuess n x4 S).bind fun r6 => if r6.1 = 0 then (some (x4 + 1)).bind fun w13 => some (.inl (x2, x3, w13, r6.2)) else (some (x2 + 1)).bind fun w8 => if x3 = (-1) then (some ((((x4 / 60) * 100) + (x4 - x4 / 60 * 60)) + 1)).bind fun w11 => (some (x4 + 1)).bind fun w12 => some (.inl (w8, w11, w12, r6.2)) else (some (x4 + 1)).bind fun w10 => some (.inl (w8, x3, w10, r6.2))
abbrev K_large_L45 (l : Launch) (E : XEnv) (m : Nat) (ad : Nat → Nat) (h0 : XH) (R : Option Value → TS → Prop) (S : TS) (x1 : Int32) (o : (Int32 × Int32 × TS)) : Prop := match o with
  | e => TX l E mX4_large 8 100 [(0, .ref m), (1, .int x1), (2, .int e.1), (3, .int e.2.1)] [] m ad h0 e.2.2 R
def f_large (n : Nat) (x1 : Int32) (S : TS) : Option (Int32 × TS) := (some (tpF S 0 0)).bind fun S1 => (f_isWhat x1 2 S1).bind fun r2 => if r2.1 = 0 then some (0, r2.2) else if x1 = 2 then (f_tries n r2.2).bind fun r16 => (f_isSeen n r16).bind fun r17 => if r17.1 = 0 then some (0, r17.2) else some (1, r17.2) else (xloop (fun s => f_large_L45 n x1 s.1 s.2.1 s.2.2.1 s.2.2.2) n (0, (-1), 0, r2.2)).bind fun o14 => if x1 = 0 then some (o14.1, o14.2.2) else some (o14.2.1, o14.2.2)
set_option maxHeartbeats 4000000 in
theorem f_large_L45_s {l : Launch} {E : XEnv} {m : Nat} {ad : Nat → Nat} {h0 : XH} {R : Option Value → TS → Prop} {n : Nat} {x1 : Int32} {x2 : Int32} {x3 : Int32} {x4 : Int32} {S : TS} {o : (Int32 × Int32 × Int32 × TS) ⊕ ((Int32 × Int32 × TS))} (hl : f_large_L45 n x1 x2 x3 x4 S = some o) (hK : (xk (fun s : Int32 × Int32 × Int32 × TS => TX l E mX4_large 8 45 [(0, .ref m), (1, .int x1), (2, .int s.1), (3, .int s.2.1), (4, .int s.2.2.1)] [] m ad h0 s.2.2.2 R) (fun r => K_large_L45 l E m ad h0 R S x1 r) o)) : TX l E mX4_large 8 45 [(0, .ref m), (1, .int x1), (2, .int x2), (3, .int x3), (4, .int x4)] [] m ad h0 S R := by
  unfold f_large_L45 at hl
  refine tx_iload dX4_large_45 rfl ?_
  refine tx_bipush (v := 60) dX4_large_47 (by decide) ?_
  refine tx_aload_n dX4_large_49 rfl rfl ?_
  refine tx_getI gF_X4_278 dX4_large_50 (by decide) ?_
  refine tx_imul dX4_large_53 ?_
  refine tx_icmp_ge (tgt := 100) dX4_large_54 (by decide) (fun c5 => ?_) (fun c5 => ?_)
  · rw [if_pos c5] at hl
    cases hl
    exact tx_lsK hK ⟨rfl, rfl, rfl, rfl, trivial⟩
  · rw [if_neg c5] at hl
    refine tx_aload_n dX4_large_57 rfl rfl ?_
    refine tx_iload dX4_large_58 rfl ?_
    obtain ⟨r6, er6, hl⟩ := xb hl
    refine tx_callV (T_isGuess er6) lV_X4_427 C_X4_isGuess rfl dX4_large_60 rfl (by decide) (Nat.le_of_ble_eq_true rfl) ?_
    refine tx_if_ne (tgt := 69) dX4_large_63 (by decide) (fun c7 => ?_) (fun c7 => ?_)
    · rw [if_neg c7] at hl
      obtain ⟨w8, ew8, hl⟩ := xb hl
      refine tx_iinc dX4_large_69 rfl (by decide) (Option.some.inj ew8) ?_
      refine tx_iload_n dX4_large_72 rfl ?_
      refine tx_iconst (v := (-1)) dX4_large_73 rfl ?_
      refine tx_icmp_ne (tgt := 94) dX4_large_74 (by decide) (fun c9 => ?_) (fun c9 => ?_)
      · rw [if_neg c9] at hl
        obtain ⟨w10, ew10, hl⟩ := xb hl
        refine tx_iinc dX4_large_94 rfl (by decide) (Option.some.inj ew10) ?_
        refine tx_goto (tgt := 45) dX4_large_97 (by decide) ?_
        cases hl
        exact tx_lsK hK ⟨rfl, rfl, rfl, rfl, rfl, trivial⟩
      · rw [if_pos c9] at hl
        refine tx_iload dX4_large_77 rfl ?_
        refine tx_bipush (v := 60) dX4_large_79 (by decide) ?_
        refine tx_idiv dX4_large_81 (by decide) ?_
        refine tx_bipush (v := 100) dX4_large_82 (by decide) ?_
        refine tx_imul dX4_large_84 ?_
        refine tx_iload dX4_large_85 rfl ?_
        refine tx_bipush (v := 60) dX4_large_87 (by decide) ?_
        refine tx_irem dX4_large_89 (by decide) ?_
        refine tx_iadd dX4_large_90 ?_
        refine tx_iconst (v := 1) dX4_large_91 rfl ?_
        refine tx_iadd dX4_large_92 ?_
        obtain ⟨w11, ew11, hl⟩ := xb hl
        refine tx_top (Option.some.inj ew11) ?_
        refine tx_istore_n dX4_large_93 (by decide) ?_
        obtain ⟨w12, ew12, hl⟩ := xb hl
        refine tx_iinc dX4_large_94 rfl (by decide) (Option.some.inj ew12) ?_
        refine tx_goto (tgt := 45) dX4_large_97 (by decide) ?_
        cases hl
        exact tx_lsK hK ⟨rfl, rfl, rfl, rfl, rfl, trivial⟩
    · rw [if_pos c7] at hl
      refine tx_goto (tgt := 94) dX4_large_66 (by decide) ?_
      obtain ⟨w13, ew13, hl⟩ := xb hl
      refine tx_iinc dX4_large_94 rfl (by decide) (Option.some.inj ew13) ?_
      refine tx_goto (tgt := 45) dX4_large_97 (by decide) ?_
      cases hl
      exact tx_lsK hK ⟨rfl, rfl, rfl, rfl, rfl, trivial⟩
set_option maxHeartbeats 4000000 in
theorem f_large_L45_ok {l : Launch} {E : XEnv} {m : Nat} {ad : Nat → Nat} {h0 : XH} {R : Option Value → TS → Prop} {n : Nat} {x1 : Int32} {S : TS} {s : Int32 × Int32 × Int32 × TS} {o : (Int32 × Int32 × TS)} (hl : xloop (fun s => f_large_L45 n x1 s.1 s.2.1 s.2.2.1 s.2.2.2) n s = some o) (hK : K_large_L45 l E m ad h0 R S x1 o) : TX l E mX4_large 8 45 [(0, .ref m), (1, .int x1), (2, .int s.1), (3, .int s.2.1), (4, .int s.2.2.1)] [] m ad h0 s.2.2.2 R :=
  xloop_of (fun s : Int32 × Int32 × Int32 × TS => TX l E mX4_large 8 45 [(0, .ref m), (1, .int x1), (2, .int s.1), (3, .int s.2.1), (4, .int s.2.2.1)] [] m ad h0 s.2.2.2 R) (fun r => K_large_L45 l E m ad h0 R S x1 r) (fun s o hl hk => f_large_L45_s (S := s.2.2.2) (o := o) hl hk) n s o hl hK
set_option maxHeartbeats 4000000 in
theorem T_large {l : Launch} {E : XEnv} {m : Nat} {ad : Nat → Nat} {n : Nat} {x1 : Int32} {S : TS} {r : Int32 × TS} (hl : f_large n x1 S = some r) : TM l E mX4_large 8 m ad [.ref m, .int x1] S (some (.int r.1)) r.2 := by
  unfold f_large at hl
  refine tm_of (by decide +kernel) rfl (Nat.le_of_ble_eq_true rfl) fun h0 => ?_
  refine tx_aload_n dX4_large_0 rfl rfl ?_
  refine tx_iconst (v := 0) dX4_large_1 rfl ?_
  obtain ⟨S1, eS1, hl⟩ := xb hl
  refine tx_putI pF_X4_111 dX4_large_2 (by decide) rfl rfl (Option.some.inj eS1) ?_
  refine tx_aload_n dX4_large_5 rfl rfl ?_
  refine tx_iload_n dX4_large_6 rfl ?_
  refine tx_iconst (v := 2) dX4_large_7 rfl ?_
  obtain ⟨r2, er2, hl⟩ := xb hl
  refine tx_callV (T_isWhat er2) lV_X4_370 C_X4_isWhat rfl dX4_large_8 rfl (by decide) (Nat.le_of_ble_eq_true rfl) ?_
  refine tx_if_ne (tgt := 16) dX4_large_11 (by decide) (fun c3 => ?_) (fun c3 => ?_)
  · rw [if_neg c3] at hl
    refine tx_iload_n dX4_large_16 rfl ?_
    refine tx_iconst (v := 2) dX4_large_17 rfl ?_
    refine tx_icmp_ne (tgt := 38) dX4_large_18 (by decide) (fun c4 => ?_) (fun c4 => ?_)
    · rw [if_neg c4] at hl
      refine tx_iconst (v := 0) dX4_large_38 rfl ?_
      refine tx_istore_n dX4_large_39 (by decide) ?_
      refine tx_iconst (v := (-1)) dX4_large_40 rfl ?_
      refine tx_istore_n dX4_large_41 (by decide) ?_
      refine tx_iconst (v := 0) dX4_large_42 rfl ?_
      refine tx_istore dX4_large_43 (by decide) ?_
      obtain ⟨o14, eo14, hl⟩ := xb hl
      refine tx_lsK (f_large_L45_ok (S := r2.2) (s := (0, (-1), 0, r2.2)) eo14 ?_) ⟨rfl, rfl, rfl, rfl, rfl, trivial⟩
      refine tx_iload_n dX4_large_100 rfl ?_
      refine tx_if_ne (tgt := 108) dX4_large_101 (by decide) (fun c15 => ?_) (fun c15 => ?_)
      · rw [if_neg c15] at hl
        refine tx_iload_n dX4_large_108 rfl ?_
        cases hl
        exact tx_iret dX4_large_109 rfl rfl ⟨rfl, rfl⟩
      · rw [if_pos c15] at hl
        refine tx_iload_n dX4_large_104 rfl ?_
        refine tx_goto (tgt := 109) dX4_large_105 (by decide) ?_
        cases hl
        exact tx_iret dX4_large_109 rfl rfl ⟨rfl, rfl⟩
    · rw [if_pos c4] at hl
      refine tx_aload_n dX4_large_21 rfl rfl ?_
      obtain ⟨r16, er16, hl⟩ := xb hl
      refine tx_callV (T_tries er16) lV_X4_391 C_X4_tries rfl dX4_large_22 rfl (by decide) (Nat.le_of_ble_eq_true rfl) ?_
      refine tx_aload_n dX4_large_25 rfl rfl ?_
      obtain ⟨r17, er17, hl⟩ := xb hl
      refine tx_callV (T_isSeen er17) lV_X4_424 C_X4_isSeen rfl dX4_large_26 rfl (by decide) (Nat.le_of_ble_eq_true rfl) ?_
      refine tx_if_eq (tgt := 36) dX4_large_29 (by decide) (fun c18 => ?_) (fun c18 => ?_)
      · rw [if_pos c18] at hl
        refine tx_iconst (v := 0) dX4_large_36 rfl ?_
        cases hl
        exact tx_iret dX4_large_37 rfl rfl ⟨rfl, rfl⟩
      · rw [if_neg c18] at hl
        refine tx_iconst (v := 1) dX4_large_32 rfl ?_
        refine tx_goto (tgt := 37) dX4_large_33 (by decide) ?_
        cases hl
        exact tx_iret dX4_large_37 rfl rfl ⟨rfl, rfl⟩
  · rw [if_pos c3] at hl
    refine tx_iconst (v := 0) dX4_large_14 rfl ?_
    cases hl
    exact tx_iret dX4_large_15 rfl rfl ⟨rfl, rfl⟩
def f_next_L45 (n : Nat) (x1 : Int32) (x2 : Int32) (x3 : Int32) (x4 : Int32) (S : TS) : Option ((Int32 × TS) ⊕ ((TS))) := if x4 ≥ (S.1 1) then some (.inr S) else (trd S 53 x4).bind fun v8 => (twr S 54 (((8 : Int32) * x2) + x4) v8).bind fun S9 => (some (x4 + 1)).bind fun w10 => some (.inl (w10, S9))
abbrev K_next_L45 (l : Launch) (E : XEnv) (m : Nat) (ad : Nat → Nat) (h0 : XH) (R : Option Value → TS → Prop) (S : TS) (x1 : Int32) (x2 : Int32) (x3 : Int32) (o : (TS)) : Prop := match o with
  | e => TX l E mX4_next 8 79 [(0, .ref m), (1, .int x1), (2, .int x2), (3, .int x3)] [] m ad h0 e R
def f_next_L20 (n : Nat) (x1 : Int32) (x2 : Int32) (x3 : Int32) (S : TS) : Option ((Int32 × Int32 × TS) ⊕ ((Int32 × TS))) := if x3 ≥ ((60 : Int32) * (S.1 2)) then some (.inr (x2, S)) else (f_isGuess n x3 S).bind fun r5 => if r5.1 = 0 then (some (x3 + 1)).bind fun w14 => some (.inl (x2, w14, r5.2)) else (xloop (fun s => f_next_L45 n x1 x2 x3 s.1 s.2) n (0, r5.2)).bind fun o11 => (some (x2 + 1)).bind fun w12 => (some (x3 + 1)).bind fun w13 => some (.inl (w12, w13, o11))
abbrev K_next_L20 (l : Launch) (E : XEnv) (m : Nat) (ad : Nat → Nat) (h0 : XH) (R : Option Value → TS → Prop) (S : TS) (x1 : Int32) (o : (Int32 × TS)) : Prop := match o with
  | e => TX l E mX4_next 8 88 [(0, .ref m), (1, .int x1), (2, .int e.1)] [] m ad h0 e.2 R
def f_next_L123 (n : Nat) (x1 : Int32) (x2 : Int32) (x3 : Int32) (x4 : Int32) (x5 : Int32) (x6 : Int32) (x7 : Int32) (x8 : Int32) (x9 : Int32) (S : TS) : Option ((Int32 × Int32 × TS) ⊕ ((Int32 × TS))) := if x9 ≥ x7 then some (.inr (x8, S)) else if x8 = 0 then some (.inr (x8, S)) else (trd S 54 (((8 : Int32) * x7) + x5)).bind fun v20 => (trd S 54 (((8 : Int32) * x9) + x5)).bind fun v21 => if v20 = v21 then (some (x9 + 1)).bind fun w23 => some (.inl (0, w23, S)) else (some (x9 + 1)).bind fun w24 => some (.inl (1, w24, S))
abbrev K_next_L123 (l : Launch) (E : XEnv) (m : Nat) (ad : Nat → Nat) (h0 : XH) (R : Option Value → TS → Prop) (S : TS) (x1 : Int32) (x2 : Int32) (x3 : Int32) (x4 : Int32) (x5 : Int32) (x6 : Int32) (x7 : Int32) (o : (Int32 × TS)) : Prop := match o with
  | e => TX l E mX4_next 8 177 [(0, .ref m), (1, .int x1), (2, .int x2), (3, .int x3), (4, .int x4), (5, .int x5), (6, .int x6), (7, .int x7), (8, .int e.1)] [] m ad h0 e.2 R
def f_next_J177 (n : Nat) (x1 : Int32) (x2 : Int32) (x3 : Int32) (x4 : Int32) (x5 : Int32) (x6 : Int32) (x7 : Int32) (x8 : Int32) (S : TS) : Option ((Int32 × Int32 × TS) ⊕ ((Int32 × TS))) := if x8 = 0 then (some (x6 + 0)).bind fun w27 => (some (x7 + 1)).bind fun w28 => some (.inl (w27, w28, S)) else (some (x6 + 1)).bind fun w29 => (some (x7 + 1)).bind fun w30 => some (.inl (w29, w30, S))
def f_next_L111 (n : Nat) (x1 : Int32) (x2 : Int32) (x3 : Int32) (x4 : Int32) (x5 : Int32) (x6 : Int32) (x7 : Int32) (S : TS) : Option ((Int32 × Int32 × TS) ⊕ ((Int32 × TS))) := if x7 ≥ x2 then some (.inr (x6, S)) else (xloop (fun s => f_next_L123 n x1 x2 x3 x4 x5 x6 x7 s.1 s.2.1 s.2.2) n (1, 0, S)).bind fun o25 => f_next_J177 n x1 x2 x3 x4 x5 x6 x7 o25.1 o25.2
abbrev K_next_L111 (l : Launch) (E : XEnv) (m : Nat) (ad : Nat → Nat) (h0 : XH) (R : Option Value → TS → Prop) (S : TS) (x1 : Int32) (x2 : Int32) (x3 : Int32) (x4 : Int32) (x5 : Int32) (o : (Int32 × TS)) : Prop := match o with
  | e => TX l E mX4_next 8 198 [(0, .ref m), (1, .int x1), (2, .int x2), (3, .int x3), (4, .int x4), (5, .int x5), (6, .int e.1)] [] m ad h0 e.2 R
def f_next_L96 (n : Nat) (x1 : Int32) (x2 : Int32) (x3 : Int32) (x4 : Int32) (x5 : Int32) (S : TS) : Option ((Int32 × Int32 × Int32 × TS) ⊕ ((Int32 × Int32 × TS))) := if x5 ≥ (S.1 1) then some (.inr (x3, x4, S)) else (xloop (fun s => f_next_L111 n x1 x2 x3 x4 x5 s.1 s.2.1 s.2.2) n (0, 0, S)).bind fun o31 => if o31.1 > x4 then (some o31.1).bind fun w33 => (some (x5 + 1)).bind fun w34 => some (.inl (x5, w33, w34, o31.2)) else (some (x5 + 1)).bind fun w35 => some (.inl (x3, x4, w35, o31.2))
abbrev K_next_L96 (l : Launch) (E : XEnv) (m : Nat) (ad : Nat → Nat) (h0 : XH) (R : Option Value → TS → Prop) (S : TS) (x1 : Int32) (x2 : Int32) (o : (Int32 × Int32 × TS)) : Prop := match o with
  | e => TX l E mX4_next 8 221 [(0, .ref m), (1, .int x1), (3, .int e.1), (4, .int e.2.1)] [] m ad h0 e.2.2 R
def f_next (n : Nat) (x1 : Int32) (S : TS) : Option (Int32 × TS) := (some (tpF S 0 0)).bind fun S1 => (f_isWhat x1 1 S1).bind fun r2 => if r2.1 = 0 then some (0, r2.2) else (xloop (fun s => f_next_L20 n x1 s.1 s.2.1 s.2.2) n (0, 0, r2.2)).bind fun o15 => (xloop (fun s => f_next_L96 n x1 o15.1 s.1 s.2.1 s.2.2.1 s.2.2.2) n ((-1), 0, 0, o15.2)).bind fun o36 => if x1 = 0 then some (o36.1, o36.2.2) else some (o36.2.1, o36.2.2)
set_option maxHeartbeats 4000000 in
theorem f_next_L45_s {l : Launch} {E : XEnv} {m : Nat} {ad : Nat → Nat} {h0 : XH} {R : Option Value → TS → Prop} {n : Nat} {x1 : Int32} {x2 : Int32} {x3 : Int32} {x4 : Int32} {S : TS} {o : (Int32 × TS) ⊕ ((TS))} (hl : f_next_L45 n x1 x2 x3 x4 S = some o) (hK : (xk (fun s : Int32 × TS => TX l E mX4_next 8 45 [(0, .ref m), (1, .int x1), (2, .int x2), (3, .int x3), (4, .int s.1)] [] m ad h0 s.2 R) (fun r => K_next_L45 l E m ad h0 R S x1 x2 x3 r) o)) : TX l E mX4_next 8 45 [(0, .ref m), (1, .int x1), (2, .int x2), (3, .int x3), (4, .int x4)] [] m ad h0 S R := by
  unfold f_next_L45 at hl
  refine tx_iload dX4_next_45 rfl ?_
  refine tx_aload_n dX4_next_47 rfl rfl ?_
  refine tx_getI gF_X4_275 dX4_next_48 (by decide) ?_
  refine tx_icmp_ge (tgt := 79) dX4_next_51 (by decide) (fun c7 => ?_) (fun c7 => ?_)
  · rw [if_pos c7] at hl
    cases hl
    exact tx_lsK hK ⟨rfl, rfl, rfl, rfl, trivial⟩
  · rw [if_neg c7] at hl
    refine tx_aload_n dX4_next_54 rfl rfl ?_
    refine tx_getA gF_X4_99 dX4_next_55 (by decide) ?_
    refine tx_bipush (v := 8) dX4_next_58 (by decide) ?_
    refine tx_iload_n dX4_next_60 rfl ?_
    refine tx_imul dX4_next_61 ?_
    refine tx_iload dX4_next_62 rfl ?_
    refine tx_iadd dX4_next_64 ?_
    refine tx_aload_n dX4_next_65 rfl rfl ?_
    refine tx_getA gF_X4_96 dX4_next_66 (by decide) ?_
    refine tx_iload dX4_next_69 rfl ?_
    obtain ⟨v8, ev8, hl⟩ := xb hl
    refine tx_iald (by decide) dX4_next_71 ev8 ?_
    obtain ⟨S9, eS9, hl⟩ := xb hl
    refine tx_iast (by decide) dX4_next_72 eS9 ?_
    obtain ⟨w10, ew10, hl⟩ := xb hl
    refine tx_iinc dX4_next_73 rfl (by decide) (Option.some.inj ew10) ?_
    refine tx_goto (tgt := 45) dX4_next_76 (by decide) ?_
    cases hl
    exact tx_lsK hK ⟨rfl, rfl, rfl, rfl, rfl, trivial⟩
set_option maxHeartbeats 4000000 in
theorem f_next_L45_ok {l : Launch} {E : XEnv} {m : Nat} {ad : Nat → Nat} {h0 : XH} {R : Option Value → TS → Prop} {n : Nat} {x1 : Int32} {x2 : Int32} {x3 : Int32} {S : TS} {s : Int32 × TS} {o : (TS)} (hl : xloop (fun s => f_next_L45 n x1 x2 x3 s.1 s.2) n s = some o) (hK : K_next_L45 l E m ad h0 R S x1 x2 x3 o) : TX l E mX4_next 8 45 [(0, .ref m), (1, .int x1), (2, .int x2), (3, .int x3), (4, .int s.1)] [] m ad h0 s.2 R :=
  xloop_of (fun s : Int32 × TS => TX l E mX4_next 8 45 [(0, .ref m), (1, .int x1), (2, .int x2), (3, .int x3), (4, .int s.1)] [] m ad h0 s.2 R) (fun r => K_next_L45 l E m ad h0 R S x1 x2 x3 r) (fun s o hl hk => f_next_L45_s (S := s.2) (o := o) hl hk) n s o hl hK
set_option maxHeartbeats 4000000 in
theorem f_next_L20_s {l : Launch} {E : XEnv} {m : Nat} {ad : Nat → Nat} {h0 : XH} {R : Option Value → TS → Prop} {n : Nat} {x1 : Int32} {x2 : Int32} {x3 : Int32} {S : TS} {o : (Int32 × Int32 × TS) ⊕ ((Int32 × TS))} (hl : f_next_L20 n x1 x2 x3 S = some o) (hK : (xk (fun s : Int32 × Int32 × TS => TX l E mX4_next 8 20 [(0, .ref m), (1, .int x1), (2, .int s.1), (3, .int s.2.1)] [] m ad h0 s.2.2 R) (fun r => K_next_L20 l E m ad h0 R S x1 r) o)) : TX l E mX4_next 8 20 [(0, .ref m), (1, .int x1), (2, .int x2), (3, .int x3)] [] m ad h0 S R := by
  unfold f_next_L20 at hl
  refine tx_iload_n dX4_next_20 rfl ?_
  refine tx_bipush (v := 60) dX4_next_21 (by decide) ?_
  refine tx_aload_n dX4_next_23 rfl rfl ?_
  refine tx_getI gF_X4_278 dX4_next_24 (by decide) ?_
  refine tx_imul dX4_next_27 ?_
  refine tx_icmp_ge (tgt := 88) dX4_next_28 (by decide) (fun c4 => ?_) (fun c4 => ?_)
  · rw [if_pos c4] at hl
    cases hl
    exact tx_lsK hK ⟨rfl, rfl, rfl, trivial⟩
  · rw [if_neg c4] at hl
    refine tx_aload_n dX4_next_31 rfl rfl ?_
    refine tx_iload_n dX4_next_32 rfl ?_
    obtain ⟨r5, er5, hl⟩ := xb hl
    refine tx_callV (T_isGuess er5) lV_X4_427 C_X4_isGuess rfl dX4_next_33 rfl (by decide) (Nat.le_of_ble_eq_true rfl) ?_
    refine tx_if_ne (tgt := 42) dX4_next_36 (by decide) (fun c6 => ?_) (fun c6 => ?_)
    · rw [if_neg c6] at hl
      refine tx_iconst (v := 0) dX4_next_42 rfl ?_
      refine tx_istore dX4_next_43 (by decide) ?_
      obtain ⟨o11, eo11, hl⟩ := xb hl
      refine tx_lsK (f_next_L45_ok (S := r5.2) (s := (0, r5.2)) eo11 ?_) ⟨rfl, rfl, rfl, rfl, rfl, trivial⟩
      obtain ⟨w12, ew12, hl⟩ := xb hl
      refine tx_iinc dX4_next_79 rfl (by decide) (Option.some.inj ew12) ?_
      obtain ⟨w13, ew13, hl⟩ := xb hl
      refine tx_iinc dX4_next_82 rfl (by decide) (Option.some.inj ew13) ?_
      refine tx_goto (tgt := 20) dX4_next_85 (by decide) ?_
      cases hl
      exact tx_lsK hK ⟨rfl, rfl, rfl, rfl, trivial⟩
    · rw [if_pos c6] at hl
      refine tx_goto (tgt := 82) dX4_next_39 (by decide) ?_
      obtain ⟨w14, ew14, hl⟩ := xb hl
      refine tx_iinc dX4_next_82 rfl (by decide) (Option.some.inj ew14) ?_
      refine tx_goto (tgt := 20) dX4_next_85 (by decide) ?_
      cases hl
      exact tx_lsK hK ⟨rfl, rfl, rfl, rfl, trivial⟩
set_option maxHeartbeats 4000000 in
theorem f_next_L20_ok {l : Launch} {E : XEnv} {m : Nat} {ad : Nat → Nat} {h0 : XH} {R : Option Value → TS → Prop} {n : Nat} {x1 : Int32} {S : TS} {s : Int32 × Int32 × TS} {o : (Int32 × TS)} (hl : xloop (fun s => f_next_L20 n x1 s.1 s.2.1 s.2.2) n s = some o) (hK : K_next_L20 l E m ad h0 R S x1 o) : TX l E mX4_next 8 20 [(0, .ref m), (1, .int x1), (2, .int s.1), (3, .int s.2.1)] [] m ad h0 s.2.2 R :=
  xloop_of (fun s : Int32 × Int32 × TS => TX l E mX4_next 8 20 [(0, .ref m), (1, .int x1), (2, .int s.1), (3, .int s.2.1)] [] m ad h0 s.2.2 R) (fun r => K_next_L20 l E m ad h0 R S x1 r) (fun s o hl hk => f_next_L20_s (S := s.2.2) (o := o) hl hk) n s o hl hK
set_option maxHeartbeats 4000000 in
theorem f_next_L123_s {l : Launch} {E : XEnv} {m : Nat} {ad : Nat → Nat} {h0 : XH} {R : Option Value → TS → Prop} {n : Nat} {x1 : Int32} {x2 : Int32} {x3 : Int32} {x4 : Int32} {x5 : Int32} {x6 : Int32} {x7 : Int32} {x8 : Int32} {x9 : Int32} {S : TS} {o : (Int32 × Int32 × TS) ⊕ ((Int32 × TS))} (hl : f_next_L123 n x1 x2 x3 x4 x5 x6 x7 x8 x9 S = some o) (hK : (xk (fun s : Int32 × Int32 × TS => TX l E mX4_next 8 123 [(0, .ref m), (1, .int x1), (2, .int x2), (3, .int x3), (4, .int x4), (5, .int x5), (6, .int x6), (7, .int x7), (8, .int s.1), (9, .int s.2.1)] [] m ad h0 s.2.2 R) (fun r => K_next_L123 l E m ad h0 R S x1 x2 x3 x4 x5 x6 x7 r) o)) : TX l E mX4_next 8 123 [(0, .ref m), (1, .int x1), (2, .int x2), (3, .int x3), (4, .int x4), (5, .int x5), (6, .int x6), (7, .int x7), (8, .int x8), (9, .int x9)] [] m ad h0 S R := by
  unfold f_next_L123 at hl
  refine tx_iload dX4_next_123 rfl ?_
  refine tx_iload dX4_next_125 rfl ?_
  refine tx_icmp_ge (tgt := 177) dX4_next_127 (by decide) (fun c18 => ?_) (fun c18 => ?_)
  · rw [if_pos c18] at hl
    cases hl
    exact tx_lsK hK ⟨rfl, rfl, rfl, rfl, rfl, rfl, rfl, rfl, rfl, trivial⟩
  · rw [if_neg c18] at hl
    refine tx_iload dX4_next_130 rfl ?_
    refine tx_if_eq (tgt := 177) dX4_next_132 (by decide) (fun c19 => ?_) (fun c19 => ?_)
    · rw [if_pos c19] at hl
      cases hl
      exact tx_lsK hK ⟨rfl, rfl, rfl, rfl, rfl, rfl, rfl, rfl, rfl, trivial⟩
    · rw [if_neg c19] at hl
      refine tx_aload_n dX4_next_135 rfl rfl ?_
      refine tx_getA gF_X4_99 dX4_next_136 (by decide) ?_
      refine tx_bipush (v := 8) dX4_next_139 (by decide) ?_
      refine tx_iload dX4_next_141 rfl ?_
      refine tx_imul dX4_next_143 ?_
      refine tx_iload dX4_next_144 rfl ?_
      refine tx_iadd dX4_next_146 ?_
      obtain ⟨v20, ev20, hl⟩ := xb hl
      refine tx_iald (by decide) dX4_next_147 ev20 ?_
      refine tx_aload_n dX4_next_148 rfl rfl ?_
      refine tx_getA gF_X4_99 dX4_next_149 (by decide) ?_
      refine tx_bipush (v := 8) dX4_next_152 (by decide) ?_
      refine tx_iload dX4_next_154 rfl ?_
      refine tx_imul dX4_next_156 ?_
      refine tx_iload dX4_next_157 rfl ?_
      refine tx_iadd dX4_next_159 ?_
      obtain ⟨v21, ev21, hl⟩ := xb hl
      refine tx_iald (by decide) dX4_next_160 ev21 ?_
      refine tx_icmp_eq (tgt := 168) dX4_next_161 (by decide) (fun c22 => ?_) (fun c22 => ?_)
      · rw [if_pos c22] at hl
        refine tx_iconst (v := 0) dX4_next_168 rfl ?_
        refine tx_istore dX4_next_169 (by decide) ?_
        obtain ⟨w23, ew23, hl⟩ := xb hl
        refine tx_iinc dX4_next_171 rfl (by decide) (Option.some.inj ew23) ?_
        refine tx_goto (tgt := 123) dX4_next_174 (by decide) ?_
        cases hl
        exact tx_lsK hK ⟨rfl, rfl, rfl, rfl, rfl, rfl, rfl, rfl, rfl, rfl, trivial⟩
      · rw [if_neg c22] at hl
        refine tx_iconst (v := 1) dX4_next_164 rfl ?_
        refine tx_goto (tgt := 169) dX4_next_165 (by decide) ?_
        refine tx_istore dX4_next_169 (by decide) ?_
        obtain ⟨w24, ew24, hl⟩ := xb hl
        refine tx_iinc dX4_next_171 rfl (by decide) (Option.some.inj ew24) ?_
        refine tx_goto (tgt := 123) dX4_next_174 (by decide) ?_
        cases hl
        exact tx_lsK hK ⟨rfl, rfl, rfl, rfl, rfl, rfl, rfl, rfl, rfl, rfl, trivial⟩
set_option maxHeartbeats 4000000 in
theorem f_next_L123_ok {l : Launch} {E : XEnv} {m : Nat} {ad : Nat → Nat} {h0 : XH} {R : Option Value → TS → Prop} {n : Nat} {x1 : Int32} {x2 : Int32} {x3 : Int32} {x4 : Int32} {x5 : Int32} {x6 : Int32} {x7 : Int32} {S : TS} {s : Int32 × Int32 × TS} {o : (Int32 × TS)} (hl : xloop (fun s => f_next_L123 n x1 x2 x3 x4 x5 x6 x7 s.1 s.2.1 s.2.2) n s = some o) (hK : K_next_L123 l E m ad h0 R S x1 x2 x3 x4 x5 x6 x7 o) : TX l E mX4_next 8 123 [(0, .ref m), (1, .int x1), (2, .int x2), (3, .int x3), (4, .int x4), (5, .int x5), (6, .int x6), (7, .int x7), (8, .int s.1), (9, .int s.2.1)] [] m ad h0 s.2.2 R :=
  xloop_of (fun s : Int32 × Int32 × TS => TX l E mX4_next 8 123 [(0, .ref m), (1, .int x1), (2, .int x2), (3, .int x3), (4, .int x4), (5, .int x5), (6, .int x6), (7, .int x7), (8, .int s.1), (9, .int s.2.1)] [] m ad h0 s.2.2 R) (fun r => K_next_L123 l E m ad h0 R S x1 x2 x3 x4 x5 x6 x7 r) (fun s o hl hk => f_next_L123_s (S := s.2.2) (o := o) hl hk) n s o hl hK
set_option maxHeartbeats 4000000 in
theorem f_next_J177_s {l : Launch} {E : XEnv} {m : Nat} {ad : Nat → Nat} {h0 : XH} {R : Option Value → TS → Prop} {n : Nat} {x1 : Int32} {x2 : Int32} {x3 : Int32} {x4 : Int32} {x5 : Int32} {x6 : Int32} {x7 : Int32} {x8 : Int32} {S : TS} {o : (Int32 × Int32 × TS) ⊕ ((Int32 × TS))} (hl : f_next_J177 n x1 x2 x3 x4 x5 x6 x7 x8 S = some o) (hK : (xk (fun s : Int32 × Int32 × TS => TX l E mX4_next 8 111 [(0, .ref m), (1, .int x1), (2, .int x2), (3, .int x3), (4, .int x4), (5, .int x5), (6, .int s.1), (7, .int s.2.1)] [] m ad h0 s.2.2 R) (fun r => K_next_L111 l E m ad h0 R S x1 x2 x3 x4 x5 r) o)) : TX l E mX4_next 8 177 [(0, .ref m), (1, .int x1), (2, .int x2), (3, .int x3), (4, .int x4), (5, .int x5), (6, .int x6), (7, .int x7), (8, .int x8)] [] m ad h0 S R := by
  unfold f_next_J177 at hl
  refine tx_iload dX4_next_177 rfl ?_
  refine tx_iload dX4_next_179 rfl ?_
  refine tx_if_eq (tgt := 188) dX4_next_181 (by decide) (fun c26 => ?_) (fun c26 => ?_)
  · rw [if_pos c26] at hl
    refine tx_iconst (v := 0) dX4_next_188 rfl ?_
    refine tx_iadd dX4_next_189 ?_
    obtain ⟨w27, ew27, hl⟩ := xb hl
    refine tx_top (Option.some.inj ew27) ?_
    refine tx_istore dX4_next_190 (by decide) ?_
    obtain ⟨w28, ew28, hl⟩ := xb hl
    refine tx_iinc dX4_next_192 rfl (by decide) (Option.some.inj ew28) ?_
    refine tx_goto (tgt := 111) dX4_next_195 (by decide) ?_
    cases hl
    exact tx_lsK hK ⟨rfl, rfl, rfl, rfl, rfl, rfl, rfl, rfl, trivial⟩
  · rw [if_neg c26] at hl
    refine tx_iconst (v := 1) dX4_next_184 rfl ?_
    refine tx_goto (tgt := 189) dX4_next_185 (by decide) ?_
    refine tx_iadd dX4_next_189 ?_
    obtain ⟨w29, ew29, hl⟩ := xb hl
    refine tx_top (Option.some.inj ew29) ?_
    refine tx_istore dX4_next_190 (by decide) ?_
    obtain ⟨w30, ew30, hl⟩ := xb hl
    refine tx_iinc dX4_next_192 rfl (by decide) (Option.some.inj ew30) ?_
    refine tx_goto (tgt := 111) dX4_next_195 (by decide) ?_
    cases hl
    exact tx_lsK hK ⟨rfl, rfl, rfl, rfl, rfl, rfl, rfl, rfl, trivial⟩
set_option maxHeartbeats 4000000 in
theorem f_next_L111_s {l : Launch} {E : XEnv} {m : Nat} {ad : Nat → Nat} {h0 : XH} {R : Option Value → TS → Prop} {n : Nat} {x1 : Int32} {x2 : Int32} {x3 : Int32} {x4 : Int32} {x5 : Int32} {x6 : Int32} {x7 : Int32} {S : TS} {o : (Int32 × Int32 × TS) ⊕ ((Int32 × TS))} (hl : f_next_L111 n x1 x2 x3 x4 x5 x6 x7 S = some o) (hK : (xk (fun s : Int32 × Int32 × TS => TX l E mX4_next 8 111 [(0, .ref m), (1, .int x1), (2, .int x2), (3, .int x3), (4, .int x4), (5, .int x5), (6, .int s.1), (7, .int s.2.1)] [] m ad h0 s.2.2 R) (fun r => K_next_L111 l E m ad h0 R S x1 x2 x3 x4 x5 r) o)) : TX l E mX4_next 8 111 [(0, .ref m), (1, .int x1), (2, .int x2), (3, .int x3), (4, .int x4), (5, .int x5), (6, .int x6), (7, .int x7)] [] m ad h0 S R := by
  unfold f_next_L111 at hl
  refine tx_iload dX4_next_111 rfl ?_
  refine tx_iload_n dX4_next_113 rfl ?_
  refine tx_icmp_ge (tgt := 198) dX4_next_114 (by decide) (fun c17 => ?_) (fun c17 => ?_)
  · rw [if_pos c17] at hl
    cases hl
    exact tx_lsK hK ⟨rfl, rfl, rfl, rfl, rfl, rfl, rfl, trivial⟩
  · rw [if_neg c17] at hl
    refine tx_iconst (v := 1) dX4_next_117 rfl ?_
    refine tx_istore dX4_next_118 (by decide) ?_
    refine tx_iconst (v := 0) dX4_next_120 rfl ?_
    refine tx_istore dX4_next_121 (by decide) ?_
    obtain ⟨o25, eo25, hl⟩ := xb hl
    refine tx_lsK (f_next_L123_ok (S := S) (s := (1, 0, S)) eo25 ?_) ⟨rfl, rfl, rfl, rfl, rfl, rfl, rfl, rfl, rfl, rfl, trivial⟩
    exact tx_lsK (f_next_J177_s hl hK) ⟨rfl, rfl, rfl, rfl, rfl, rfl, rfl, rfl, rfl, trivial⟩
set_option maxHeartbeats 4000000 in
theorem f_next_L111_ok {l : Launch} {E : XEnv} {m : Nat} {ad : Nat → Nat} {h0 : XH} {R : Option Value → TS → Prop} {n : Nat} {x1 : Int32} {x2 : Int32} {x3 : Int32} {x4 : Int32} {x5 : Int32} {S : TS} {s : Int32 × Int32 × TS} {o : (Int32 × TS)} (hl : xloop (fun s => f_next_L111 n x1 x2 x3 x4 x5 s.1 s.2.1 s.2.2) n s = some o) (hK : K_next_L111 l E m ad h0 R S x1 x2 x3 x4 x5 o) : TX l E mX4_next 8 111 [(0, .ref m), (1, .int x1), (2, .int x2), (3, .int x3), (4, .int x4), (5, .int x5), (6, .int s.1), (7, .int s.2.1)] [] m ad h0 s.2.2 R :=
  xloop_of (fun s : Int32 × Int32 × TS => TX l E mX4_next 8 111 [(0, .ref m), (1, .int x1), (2, .int x2), (3, .int x3), (4, .int x4), (5, .int x5), (6, .int s.1), (7, .int s.2.1)] [] m ad h0 s.2.2 R) (fun r => K_next_L111 l E m ad h0 R S x1 x2 x3 x4 x5 r) (fun s o hl hk => f_next_L111_s (S := s.2.2) (o := o) hl hk) n s o hl hK
set_option maxHeartbeats 4000000 in
theorem f_next_L96_s {l : Launch} {E : XEnv} {m : Nat} {ad : Nat → Nat} {h0 : XH} {R : Option Value → TS → Prop} {n : Nat} {x1 : Int32} {x2 : Int32} {x3 : Int32} {x4 : Int32} {x5 : Int32} {S : TS} {o : (Int32 × Int32 × Int32 × TS) ⊕ ((Int32 × Int32 × TS))} (hl : f_next_L96 n x1 x2 x3 x4 x5 S = some o) (hK : (xk (fun s : Int32 × Int32 × Int32 × TS => TX l E mX4_next 8 96 [(0, .ref m), (1, .int x1), (2, .int x2), (3, .int s.1), (4, .int s.2.1), (5, .int s.2.2.1)] [] m ad h0 s.2.2.2 R) (fun r => K_next_L96 l E m ad h0 R S x1 x2 r) o)) : TX l E mX4_next 8 96 [(0, .ref m), (1, .int x1), (2, .int x2), (3, .int x3), (4, .int x4), (5, .int x5)] [] m ad h0 S R := by
  unfold f_next_L96 at hl
  refine tx_iload dX4_next_96 rfl ?_
  refine tx_aload_n dX4_next_98 rfl rfl ?_
  refine tx_getI gF_X4_275 dX4_next_99 (by decide) ?_
  refine tx_icmp_ge (tgt := 221) dX4_next_102 (by decide) (fun c16 => ?_) (fun c16 => ?_)
  · rw [if_pos c16] at hl
    cases hl
    exact tx_lsK hK ⟨rfl, rfl, rfl, rfl, trivial⟩
  · rw [if_neg c16] at hl
    refine tx_iconst (v := 0) dX4_next_105 rfl ?_
    refine tx_istore dX4_next_106 (by decide) ?_
    refine tx_iconst (v := 0) dX4_next_108 rfl ?_
    refine tx_istore dX4_next_109 (by decide) ?_
    obtain ⟨o31, eo31, hl⟩ := xb hl
    refine tx_lsK (f_next_L111_ok (S := S) (s := (0, 0, S)) eo31 ?_) ⟨rfl, rfl, rfl, rfl, rfl, rfl, rfl, rfl, trivial⟩
    refine tx_iload dX4_next_198 rfl ?_
    refine tx_iload dX4_next_200 rfl ?_
    refine tx_icmp_gt (tgt := 208) dX4_next_202 (by decide) (fun c32 => ?_) (fun c32 => ?_)
    · rw [if_pos c32] at hl
      refine tx_iload dX4_next_208 rfl ?_
      refine tx_istore_n dX4_next_210 (by decide) ?_
      refine tx_iload dX4_next_211 rfl ?_
      obtain ⟨w33, ew33, hl⟩ := xb hl
      refine tx_top (Option.some.inj ew33) ?_
      refine tx_istore dX4_next_213 (by decide) ?_
      obtain ⟨w34, ew34, hl⟩ := xb hl
      refine tx_iinc dX4_next_215 rfl (by decide) (Option.some.inj ew34) ?_
      refine tx_goto (tgt := 96) dX4_next_218 (by decide) ?_
      cases hl
      exact tx_lsK hK ⟨rfl, rfl, rfl, rfl, rfl, rfl, trivial⟩
    · rw [if_neg c32] at hl
      refine tx_goto (tgt := 215) dX4_next_205 (by decide) ?_
      obtain ⟨w35, ew35, hl⟩ := xb hl
      refine tx_iinc dX4_next_215 rfl (by decide) (Option.some.inj ew35) ?_
      refine tx_goto (tgt := 96) dX4_next_218 (by decide) ?_
      cases hl
      exact tx_lsK hK ⟨rfl, rfl, rfl, rfl, rfl, rfl, trivial⟩
set_option maxHeartbeats 4000000 in
theorem f_next_L96_ok {l : Launch} {E : XEnv} {m : Nat} {ad : Nat → Nat} {h0 : XH} {R : Option Value → TS → Prop} {n : Nat} {x1 : Int32} {x2 : Int32} {S : TS} {s : Int32 × Int32 × Int32 × TS} {o : (Int32 × Int32 × TS)} (hl : xloop (fun s => f_next_L96 n x1 x2 s.1 s.2.1 s.2.2.1 s.2.2.2) n s = some o) (hK : K_next_L96 l E m ad h0 R S x1 x2 o) : TX l E mX4_next 8 96 [(0, .ref m), (1, .int x1), (2, .int x2), (3, .int s.1), (4, .int s.2.1), (5, .int s.2.2.1)] [] m ad h0 s.2.2.2 R :=
  xloop_of (fun s : Int32 × Int32 × Int32 × TS => TX l E mX4_next 8 96 [(0, .ref m), (1, .int x1), (2, .int x2), (3, .int s.1), (4, .int s.2.1), (5, .int s.2.2.1)] [] m ad h0 s.2.2.2 R) (fun r => K_next_L96 l E m ad h0 R S x1 x2 r) (fun s o hl hk => f_next_L96_s (S := s.2.2.2) (o := o) hl hk) n s o hl hK
set_option maxHeartbeats 4000000 in
theorem T_next {l : Launch} {E : XEnv} {m : Nat} {ad : Nat → Nat} {n : Nat} {x1 : Int32} {S : TS} {r : Int32 × TS} (hl : f_next n x1 S = some r) : TM l E mX4_next 8 m ad [.ref m, .int x1] S (some (.int r.1)) r.2 := by
  unfold f_next at hl
  refine tm_of (by decide +kernel) rfl (Nat.le_of_ble_eq_true rfl) fun h0 => ?_
  refine tx_aload_n dX4_next_0 rfl rfl ?_
  refine tx_iconst (v := 0) dX4_next_1 rfl ?_
  obtain ⟨S1, eS1, hl⟩ := xb hl
  refine tx_putI pF_X4_111 dX4_next_2 (by decide) rfl rfl (Option.some.inj eS1) ?_
  refine tx_aload_n dX4_next_5 rfl rfl ?_
  refine tx_iload_n dX4_next_6 rfl ?_
  refine tx_iconst (v := 1) dX4_next_7 rfl ?_
  obtain ⟨r2, er2, hl⟩ := xb hl
  refine tx_callV (T_isWhat er2) lV_X4_370 C_X4_isWhat rfl dX4_next_8 rfl (by decide) (Nat.le_of_ble_eq_true rfl) ?_
  refine tx_if_ne (tgt := 16) dX4_next_11 (by decide) (fun c3 => ?_) (fun c3 => ?_)
  · rw [if_neg c3] at hl
    refine tx_iconst (v := 0) dX4_next_16 rfl ?_
    refine tx_istore_n dX4_next_17 (by decide) ?_
    refine tx_iconst (v := 0) dX4_next_18 rfl ?_
    refine tx_istore_n dX4_next_19 (by decide) ?_
    obtain ⟨o15, eo15, hl⟩ := xb hl
    refine tx_lsK (f_next_L20_ok (S := r2.2) (s := (0, 0, r2.2)) eo15 ?_) ⟨rfl, rfl, rfl, rfl, trivial⟩
    refine tx_iconst (v := (-1)) dX4_next_88 rfl ?_
    refine tx_istore_n dX4_next_89 (by decide) ?_
    refine tx_iconst (v := 0) dX4_next_90 rfl ?_
    refine tx_istore dX4_next_91 (by decide) ?_
    refine tx_iconst (v := 0) dX4_next_93 rfl ?_
    refine tx_istore dX4_next_94 (by decide) ?_
    obtain ⟨o36, eo36, hl⟩ := xb hl
    refine tx_lsK (f_next_L96_ok (S := o15.2) (s := ((-1), 0, 0, o15.2)) eo36 ?_) ⟨rfl, rfl, rfl, rfl, rfl, rfl, trivial⟩
    refine tx_iload_n dX4_next_221 rfl ?_
    refine tx_if_ne (tgt := 229) dX4_next_222 (by decide) (fun c37 => ?_) (fun c37 => ?_)
    · rw [if_neg c37] at hl
      refine tx_iload dX4_next_229 rfl ?_
      cases hl
      exact tx_iret dX4_next_231 rfl rfl ⟨rfl, rfl⟩
    · rw [if_pos c37] at hl
      refine tx_iload_n dX4_next_225 rfl ?_
      refine tx_goto (tgt := 231) dX4_next_226 (by decide) ?_
      cases hl
      exact tx_iret dX4_next_231 rfl rfl ⟨rfl, rfl⟩
  · rw [if_pos c3] at hl
    refine tx_iconst (v := 0) dX4_next_14 rfl ?_
    cases hl
    exact tx_iret dX4_next_15 rfl rfl ⟨rfl, rfl⟩
def f_byDamp_J110 (n : Nat) (x1 : Int32) (x2 : Int32) (x3 : Int32) (x4 : Int32) (x5 : Int32) (x7 : Int32) (x8 : Int32) (y0 : Int32) (y1 : Int32) (S : TS) : Option ((Int32 × Int32 × TS) ⊕ ((Int32 × TS))) := (some (y1 * y0)).bind fun w13 => if x8 = 0 then (some (tpF S 46 0)).bind fun S15 => (f_dayGoes n 43 S15).bind fun r16 => (some (x7 + 1)).bind fun w17 => some (.inl (w13, w17, r16)) else (some (tpF S 46 9)).bind fun S18 => (f_dayGoes n 43 S18).bind fun r19 => (some (x7 + 1)).bind fun w20 => some (.inl (w13, w20, r19))
def f_byDamp_J93 (n : Nat) (x1 : Int32) (x2 : Int32) (x3 : Int32) (x4 : Int32) (x5 : Int32) (x6 : Int32) (x7 : Int32) (y0 : Int32) (S : TS) : Option ((Int32 × Int32 × TS) ⊕ ((Int32 × TS))) := if y0 = 0 then f_byDamp_J110 n x1 x2 x3 x4 x5 x7 y0 ((10 : Int32) - x3) x6 S else f_byDamp_J110 n x1 x2 x3 x4 x5 x7 y0 x3 x6 S
def f_byDamp_L71 (n : Nat) (x1 : Int32) (x2 : Int32) (x3 : Int32) (x4 : Int32) (x5 : Int32) (x6 : Int32) (x7 : Int32) (S : TS) : Option ((Int32 × Int32 × TS) ⊕ ((Int32 × TS))) := if x7 ≥ x2 then some (.inr (x6, S)) else if ((x5 >>> ((x7 : Int32) &&& 31)) &&& 1) = 1 then f_byDamp_J93 n x1 x2 x3 x4 x5 x6 x7 1 S else f_byDamp_J93 n x1 x2 x3 x4 x5 x6 x7 0 S
abbrev K_byDamp_L71 (l : Launch) (E : XEnv) (m : Nat) (ad : Nat → Nat) (h0 : XH) (R : Option Value → TS → Prop) (S : TS) (x1 : Int32) (x2 : Int32) (x3 : Int32) (x4 : Int32) (x5 : Int32) (o : (Int32 × TS)) : Prop := match o with
  | e => TX l E mX4_byDamp 6 140 [(0, .ref m), (1, .int x1), (2, .int x2), (3, .int x3), (4, .int x4), (5, .int x5), (6, .int e.1)] [] m ad h0 e.2 R
def f_byDamp_L53 (n : Nat) (x1 : Int32) (x2 : Int32) (x3 : Int32) (x4 : Int32) (x5 : Int32) (S : TS) : Option ((Int32 × Int32 × TS) ⊕ ((Int32 × TS))) := if x5 ≥ ((1 : Int32) <<< ((x2 : Int32) &&& 31)) then some (.inr (x4, S)) else (f_tries n S).bind fun r9 => (xloop (fun s => f_byDamp_L71 n x1 x2 x3 x4 x5 s.1 s.2.1 s.2.2) n (1, 0, r9)).bind fun o21 => (f_isBurst 43 x1 o21.2).bind fun r22 => if r22 = 0 then (some (x4 + 0)).bind fun w24 => (some (x5 + 1)).bind fun w25 => some (.inl (w24, w25, o21.2)) else (some (x4 + o21.1)).bind fun w26 => (some (x5 + 1)).bind fun w27 => some (.inl (w26, w27, o21.2))
abbrev K_byDamp_L53 (l : Launch) (E : XEnv) (m : Nat) (ad : Nat → Nat) (h0 : XH) (R : Option Value → TS → Prop) (S : TS) (x1 : Int32) (x2 : Int32) (x3 : Int32) (o : (Int32 × TS)) : Prop := match o with
  | e => TX l E mX4_byDamp 6 167 [(0, .ref m), (4, .int e.1)] [] m ad h0 e.2 R
def f_byDamp_J38 (n : Nat) (x1 : Int32) (x2 : Int32) (x3 : Int32) (y0 : Int32) (S : TS) : Option (Int32 × TS) := (f_right y0 2 S).bind fun r6 => if r6.1 = 0 then some (0, r6.2) else (xloop (fun s => f_byDamp_L53 n x1 x2 x3 s.1 s.2.1 s.2.2) n (0, 0, r6.2)).bind fun o28 => (some (tpF o28.2 46 (-1))).bind fun S29 => some (o28.1, S29)
def f_byDamp_J37 (n : Nat) (x1 : Int32) (x2 : Int32) (x3 : Int32) (S : TS) : Option (Int32 × TS) := f_byDamp_J38 n x1 x2 x3 0 S
def f_byDamp (n : Nat) (x1 : Int32) (x2 : Int32) (x3 : Int32) (S : TS) : Option (Int32 × TS) := (some (tpF S 0 0)).bind fun S1 => (f_isHouse x1 S1).bind fun r2 => if r2.1 = 0 then some (0, r2.2) else (f_within x2 1 5).bind fun r4 => if r4 = 0 then f_byDamp_J37 n x1 x2 x3 r2.2 else (f_within x3 0 10).bind fun r30 => if r30 = 0 then f_byDamp_J37 n x1 x2 x3 r2.2 else f_byDamp_J38 n x1 x2 x3 1 r2.2
set_option maxHeartbeats 4000000 in
theorem f_byDamp_J110_s {l : Launch} {E : XEnv} {m : Nat} {ad : Nat → Nat} {h0 : XH} {R : Option Value → TS → Prop} {n : Nat} {x1 : Int32} {x2 : Int32} {x3 : Int32} {x4 : Int32} {x5 : Int32} {x7 : Int32} {x8 : Int32} {y0 : Int32} {y1 : Int32} {S : TS} {o : (Int32 × Int32 × TS) ⊕ ((Int32 × TS))} (hl : f_byDamp_J110 n x1 x2 x3 x4 x5 x7 x8 y0 y1 S = some o) (hK : (xk (fun s : Int32 × Int32 × TS => TX l E mX4_byDamp 6 71 [(0, .ref m), (1, .int x1), (2, .int x2), (3, .int x3), (4, .int x4), (5, .int x5), (6, .int s.1), (7, .int s.2.1)] [] m ad h0 s.2.2 R) (fun r => K_byDamp_L71 l E m ad h0 R S x1 x2 x3 x4 x5 r) o)) : TX l E mX4_byDamp 6 110 [(0, .ref m), (1, .int x1), (2, .int x2), (3, .int x3), (4, .int x4), (5, .int x5), (7, .int x7), (8, .int x8)] [.int y0, .int y1] m ad h0 S R := by
  unfold f_byDamp_J110 at hl
  refine tx_imul dX4_byDamp_110 ?_
  obtain ⟨w13, ew13, hl⟩ := xb hl
  refine tx_top (Option.some.inj ew13) ?_
  refine tx_istore dX4_byDamp_111 (by decide) ?_
  refine tx_aload_n dX4_byDamp_113 rfl rfl ?_
  refine tx_iload dX4_byDamp_114 rfl ?_
  refine tx_if_eq (tgt := 124) dX4_byDamp_116 (by decide) (fun c14 => ?_) (fun c14 => ?_)
  · rw [if_pos c14] at hl
    refine tx_iconst (v := 0) dX4_byDamp_124 rfl ?_
    obtain ⟨S15, eS15, hl⟩ := xb hl
    refine tx_putI pF_X4_78 dX4_byDamp_125 (by decide) rfl rfl (Option.some.inj eS15) ?_
    refine tx_aload_n dX4_byDamp_128 rfl rfl ?_
    refine tx_bipush (v := 43) dX4_byDamp_129 (by decide) ?_
    obtain ⟨r16, er16, hl⟩ := xb hl
    refine tx_callV (T_dayGoes er16) lV_X4_336 C_X4_dayGoes rfl dX4_byDamp_131 rfl (by decide) (Nat.le_of_ble_eq_true rfl) ?_
    obtain ⟨w17, ew17, hl⟩ := xb hl
    refine tx_iinc dX4_byDamp_134 rfl (by decide) (Option.some.inj ew17) ?_
    refine tx_goto (tgt := 71) dX4_byDamp_137 (by decide) ?_
    cases hl
    exact tx_lsK hK ⟨rfl, rfl, rfl, rfl, rfl, rfl, rfl, rfl, trivial⟩
  · rw [if_neg c14] at hl
    refine tx_bipush (v := 9) dX4_byDamp_119 (by decide) ?_
    refine tx_goto (tgt := 125) dX4_byDamp_121 (by decide) ?_
    obtain ⟨S18, eS18, hl⟩ := xb hl
    refine tx_putI pF_X4_78 dX4_byDamp_125 (by decide) rfl rfl (Option.some.inj eS18) ?_
    refine tx_aload_n dX4_byDamp_128 rfl rfl ?_
    refine tx_bipush (v := 43) dX4_byDamp_129 (by decide) ?_
    obtain ⟨r19, er19, hl⟩ := xb hl
    refine tx_callV (T_dayGoes er19) lV_X4_336 C_X4_dayGoes rfl dX4_byDamp_131 rfl (by decide) (Nat.le_of_ble_eq_true rfl) ?_
    obtain ⟨w20, ew20, hl⟩ := xb hl
    refine tx_iinc dX4_byDamp_134 rfl (by decide) (Option.some.inj ew20) ?_
    refine tx_goto (tgt := 71) dX4_byDamp_137 (by decide) ?_
    cases hl
    exact tx_lsK hK ⟨rfl, rfl, rfl, rfl, rfl, rfl, rfl, rfl, trivial⟩
set_option maxHeartbeats 4000000 in
theorem f_byDamp_J93_s {l : Launch} {E : XEnv} {m : Nat} {ad : Nat → Nat} {h0 : XH} {R : Option Value → TS → Prop} {n : Nat} {x1 : Int32} {x2 : Int32} {x3 : Int32} {x4 : Int32} {x5 : Int32} {x6 : Int32} {x7 : Int32} {y0 : Int32} {S : TS} {o : (Int32 × Int32 × TS) ⊕ ((Int32 × TS))} (hl : f_byDamp_J93 n x1 x2 x3 x4 x5 x6 x7 y0 S = some o) (hK : (xk (fun s : Int32 × Int32 × TS => TX l E mX4_byDamp 6 71 [(0, .ref m), (1, .int x1), (2, .int x2), (3, .int x3), (4, .int x4), (5, .int x5), (6, .int s.1), (7, .int s.2.1)] [] m ad h0 s.2.2 R) (fun r => K_byDamp_L71 l E m ad h0 R S x1 x2 x3 x4 x5 r) o)) : TX l E mX4_byDamp 6 93 [(0, .ref m), (1, .int x1), (2, .int x2), (3, .int x3), (4, .int x4), (5, .int x5), (6, .int x6), (7, .int x7)] [.int y0] m ad h0 S R := by
  unfold f_byDamp_J93 at hl
  refine tx_istore dX4_byDamp_93 (by decide) ?_
  refine tx_iload dX4_byDamp_95 rfl ?_
  refine tx_iload dX4_byDamp_97 rfl ?_
  refine tx_if_eq (tgt := 106) dX4_byDamp_99 (by decide) (fun c12 => ?_) (fun c12 => ?_)
  · rw [if_pos c12] at hl
    refine tx_bipush (v := 10) dX4_byDamp_106 (by decide) ?_
    refine tx_iload_n dX4_byDamp_108 rfl ?_
    refine tx_isub dX4_byDamp_109 ?_
    exact tx_lsK (f_byDamp_J110_s hl hK) ⟨rfl, rfl, rfl, rfl, rfl, rfl, rfl, rfl, trivial⟩
  · rw [if_neg c12] at hl
    refine tx_iload_n dX4_byDamp_102 rfl ?_
    refine tx_goto (tgt := 110) dX4_byDamp_103 (by decide) ?_
    exact tx_lsK (f_byDamp_J110_s hl hK) ⟨rfl, rfl, rfl, rfl, rfl, rfl, rfl, rfl, trivial⟩
set_option maxHeartbeats 4000000 in
theorem f_byDamp_L71_s {l : Launch} {E : XEnv} {m : Nat} {ad : Nat → Nat} {h0 : XH} {R : Option Value → TS → Prop} {n : Nat} {x1 : Int32} {x2 : Int32} {x3 : Int32} {x4 : Int32} {x5 : Int32} {x6 : Int32} {x7 : Int32} {S : TS} {o : (Int32 × Int32 × TS) ⊕ ((Int32 × TS))} (hl : f_byDamp_L71 n x1 x2 x3 x4 x5 x6 x7 S = some o) (hK : (xk (fun s : Int32 × Int32 × TS => TX l E mX4_byDamp 6 71 [(0, .ref m), (1, .int x1), (2, .int x2), (3, .int x3), (4, .int x4), (5, .int x5), (6, .int s.1), (7, .int s.2.1)] [] m ad h0 s.2.2 R) (fun r => K_byDamp_L71 l E m ad h0 R S x1 x2 x3 x4 x5 r) o)) : TX l E mX4_byDamp 6 71 [(0, .ref m), (1, .int x1), (2, .int x2), (3, .int x3), (4, .int x4), (5, .int x5), (6, .int x6), (7, .int x7)] [] m ad h0 S R := by
  unfold f_byDamp_L71 at hl
  refine tx_iload dX4_byDamp_71 rfl ?_
  refine tx_iload_n dX4_byDamp_73 rfl ?_
  refine tx_icmp_ge (tgt := 140) dX4_byDamp_74 (by decide) (fun c10 => ?_) (fun c10 => ?_)
  · rw [if_pos c10] at hl
    cases hl
    exact tx_lsK hK ⟨rfl, rfl, rfl, rfl, rfl, rfl, rfl, trivial⟩
  · rw [if_neg c10] at hl
    refine tx_iload dX4_byDamp_77 rfl ?_
    refine tx_iload dX4_byDamp_79 rfl ?_
    refine tx_ishr dX4_byDamp_81 ?_
    refine tx_iconst (v := 1) dX4_byDamp_82 rfl ?_
    refine tx_iand dX4_byDamp_83 ?_
    refine tx_iconst (v := 1) dX4_byDamp_84 rfl ?_
    refine tx_icmp_ne (tgt := 92) dX4_byDamp_85 (by decide) (fun c11 => ?_) (fun c11 => ?_)
    · rw [if_neg c11] at hl
      refine tx_iconst (v := 0) dX4_byDamp_92 rfl ?_
      exact tx_lsK (f_byDamp_J93_s hl hK) ⟨rfl, rfl, rfl, rfl, rfl, rfl, rfl, rfl, trivial⟩
    · rw [if_pos c11] at hl
      refine tx_iconst (v := 1) dX4_byDamp_88 rfl ?_
      refine tx_goto (tgt := 93) dX4_byDamp_89 (by decide) ?_
      exact tx_lsK (f_byDamp_J93_s hl hK) ⟨rfl, rfl, rfl, rfl, rfl, rfl, rfl, rfl, trivial⟩
set_option maxHeartbeats 4000000 in
theorem f_byDamp_L71_ok {l : Launch} {E : XEnv} {m : Nat} {ad : Nat → Nat} {h0 : XH} {R : Option Value → TS → Prop} {n : Nat} {x1 : Int32} {x2 : Int32} {x3 : Int32} {x4 : Int32} {x5 : Int32} {S : TS} {s : Int32 × Int32 × TS} {o : (Int32 × TS)} (hl : xloop (fun s => f_byDamp_L71 n x1 x2 x3 x4 x5 s.1 s.2.1 s.2.2) n s = some o) (hK : K_byDamp_L71 l E m ad h0 R S x1 x2 x3 x4 x5 o) : TX l E mX4_byDamp 6 71 [(0, .ref m), (1, .int x1), (2, .int x2), (3, .int x3), (4, .int x4), (5, .int x5), (6, .int s.1), (7, .int s.2.1)] [] m ad h0 s.2.2 R :=
  xloop_of (fun s : Int32 × Int32 × TS => TX l E mX4_byDamp 6 71 [(0, .ref m), (1, .int x1), (2, .int x2), (3, .int x3), (4, .int x4), (5, .int x5), (6, .int s.1), (7, .int s.2.1)] [] m ad h0 s.2.2 R) (fun r => K_byDamp_L71 l E m ad h0 R S x1 x2 x3 x4 x5 r) (fun s o hl hk => f_byDamp_L71_s (S := s.2.2) (o := o) hl hk) n s o hl hK
set_option maxHeartbeats 4000000 in
theorem f_byDamp_L53_s {l : Launch} {E : XEnv} {m : Nat} {ad : Nat → Nat} {h0 : XH} {R : Option Value → TS → Prop} {n : Nat} {x1 : Int32} {x2 : Int32} {x3 : Int32} {x4 : Int32} {x5 : Int32} {S : TS} {o : (Int32 × Int32 × TS) ⊕ ((Int32 × TS))} (hl : f_byDamp_L53 n x1 x2 x3 x4 x5 S = some o) (hK : (xk (fun s : Int32 × Int32 × TS => TX l E mX4_byDamp 6 53 [(0, .ref m), (1, .int x1), (2, .int x2), (3, .int x3), (4, .int s.1), (5, .int s.2.1)] [] m ad h0 s.2.2 R) (fun r => K_byDamp_L53 l E m ad h0 R S x1 x2 x3 r) o)) : TX l E mX4_byDamp 6 53 [(0, .ref m), (1, .int x1), (2, .int x2), (3, .int x3), (4, .int x4), (5, .int x5)] [] m ad h0 S R := by
  unfold f_byDamp_L53 at hl
  refine tx_iload dX4_byDamp_53 rfl ?_
  refine tx_iconst (v := 1) dX4_byDamp_55 rfl ?_
  refine tx_iload_n dX4_byDamp_56 rfl ?_
  refine tx_ishl dX4_byDamp_57 ?_
  refine tx_icmp_ge (tgt := 167) dX4_byDamp_58 (by decide) (fun c8 => ?_) (fun c8 => ?_)
  · rw [if_pos c8] at hl
    cases hl
    exact tx_lsK hK ⟨rfl, rfl, trivial⟩
  · rw [if_neg c8] at hl
    refine tx_iconst (v := 1) dX4_byDamp_61 rfl ?_
    refine tx_istore dX4_byDamp_62 (by decide) ?_
    refine tx_aload_n dX4_byDamp_64 rfl rfl ?_
    obtain ⟨r9, er9, hl⟩ := xb hl
    refine tx_callV (T_tries er9) lV_X4_391 C_X4_tries rfl dX4_byDamp_65 rfl (by decide) (Nat.le_of_ble_eq_true rfl) ?_
    refine tx_iconst (v := 0) dX4_byDamp_68 rfl ?_
    refine tx_istore dX4_byDamp_69 (by decide) ?_
    obtain ⟨o21, eo21, hl⟩ := xb hl
    refine tx_lsK (f_byDamp_L71_ok (S := r9) (s := (1, 0, r9)) eo21 ?_) ⟨rfl, rfl, rfl, rfl, rfl, rfl, rfl, rfl, trivial⟩
    refine tx_iload dX4_byDamp_140 rfl ?_
    refine tx_aload_n dX4_byDamp_142 rfl rfl ?_
    refine tx_bipush (v := 43) dX4_byDamp_143 (by decide) ?_
    refine tx_iload_n dX4_byDamp_145 rfl ?_
    obtain ⟨r22, er22, hl⟩ := xb hl
    refine tx_callV (T_isBurst er22) lV_X4_322 C_X4_isBurst rfl dX4_byDamp_146 rfl (by decide) (Nat.le_of_ble_eq_true rfl) ?_
    refine tx_if_eq (tgt := 157) dX4_byDamp_149 (by decide) (fun c23 => ?_) (fun c23 => ?_)
    · rw [if_pos c23] at hl
      refine tx_iconst (v := 0) dX4_byDamp_157 rfl ?_
      refine tx_iadd dX4_byDamp_158 ?_
      obtain ⟨w24, ew24, hl⟩ := xb hl
      refine tx_top (Option.some.inj ew24) ?_
      refine tx_istore dX4_byDamp_159 (by decide) ?_
      obtain ⟨w25, ew25, hl⟩ := xb hl
      refine tx_iinc dX4_byDamp_161 rfl (by decide) (Option.some.inj ew25) ?_
      refine tx_goto (tgt := 53) dX4_byDamp_164 (by decide) ?_
      cases hl
      exact tx_lsK hK ⟨rfl, rfl, rfl, rfl, rfl, rfl, trivial⟩
    · rw [if_neg c23] at hl
      refine tx_iload dX4_byDamp_152 rfl ?_
      refine tx_goto (tgt := 158) dX4_byDamp_154 (by decide) ?_
      refine tx_iadd dX4_byDamp_158 ?_
      obtain ⟨w26, ew26, hl⟩ := xb hl
      refine tx_top (Option.some.inj ew26) ?_
      refine tx_istore dX4_byDamp_159 (by decide) ?_
      obtain ⟨w27, ew27, hl⟩ := xb hl
      refine tx_iinc dX4_byDamp_161 rfl (by decide) (Option.some.inj ew27) ?_
      refine tx_goto (tgt := 53) dX4_byDamp_164 (by decide) ?_
      cases hl
      exact tx_lsK hK ⟨rfl, rfl, rfl, rfl, rfl, rfl, trivial⟩
set_option maxHeartbeats 4000000 in
theorem f_byDamp_L53_ok {l : Launch} {E : XEnv} {m : Nat} {ad : Nat → Nat} {h0 : XH} {R : Option Value → TS → Prop} {n : Nat} {x1 : Int32} {x2 : Int32} {x3 : Int32} {S : TS} {s : Int32 × Int32 × TS} {o : (Int32 × TS)} (hl : xloop (fun s => f_byDamp_L53 n x1 x2 x3 s.1 s.2.1 s.2.2) n s = some o) (hK : K_byDamp_L53 l E m ad h0 R S x1 x2 x3 o) : TX l E mX4_byDamp 6 53 [(0, .ref m), (1, .int x1), (2, .int x2), (3, .int x3), (4, .int s.1), (5, .int s.2.1)] [] m ad h0 s.2.2 R :=
  xloop_of (fun s : Int32 × Int32 × TS => TX l E mX4_byDamp 6 53 [(0, .ref m), (1, .int x1), (2, .int x2), (3, .int x3), (4, .int s.1), (5, .int s.2.1)] [] m ad h0 s.2.2 R) (fun r => K_byDamp_L53 l E m ad h0 R S x1 x2 x3 r) (fun s o hl hk => f_byDamp_L53_s (S := s.2.2) (o := o) hl hk) n s o hl hK
set_option maxHeartbeats 4000000 in
theorem f_byDamp_J38_s {l : Launch} {E : XEnv} {m : Nat} {ad : Nat → Nat} {h0 : XH} {n : Nat} {x1 : Int32} {x2 : Int32} {x3 : Int32} {y0 : Int32} {S : TS} {r : Int32 × TS} (hl : f_byDamp_J38 n x1 x2 x3 y0 S = some r) : TX l E mX4_byDamp 6 38 [(0, .ref m), (1, .int x1), (2, .int x2), (3, .int x3)] [.int y0, .ref m] m ad h0 S (fun v' S'' => v' = some (.int r.1) ∧ S'' = r.2) := by
  unfold f_byDamp_J38 at hl
  refine tx_iconst (v := 2) dX4_byDamp_38 rfl ?_
  obtain ⟨r6, er6, hl⟩ := xb hl
  refine tx_callV (T_right er6) lV_X4_268 C_X4_right rfl dX4_byDamp_39 rfl (by decide) (Nat.le_of_ble_eq_true rfl) ?_
  refine tx_if_ne (tgt := 47) dX4_byDamp_42 (by decide) (fun c7 => ?_) (fun c7 => ?_)
  · rw [if_neg c7] at hl
    refine tx_iconst (v := 0) dX4_byDamp_47 rfl ?_
    refine tx_istore dX4_byDamp_48 (by decide) ?_
    refine tx_iconst (v := 0) dX4_byDamp_50 rfl ?_
    refine tx_istore dX4_byDamp_51 (by decide) ?_
    obtain ⟨o28, eo28, hl⟩ := xb hl
    refine tx_lsK (f_byDamp_L53_ok (S := r6.2) (s := (0, 0, r6.2)) eo28 ?_) ⟨rfl, rfl, rfl, rfl, rfl, rfl, trivial⟩
    refine tx_aload_n dX4_byDamp_167 rfl rfl ?_
    refine tx_iconst (v := (-1)) dX4_byDamp_168 rfl ?_
    obtain ⟨S29, eS29, hl⟩ := xb hl
    refine tx_putI pF_X4_78 dX4_byDamp_169 (by decide) rfl rfl (Option.some.inj eS29) ?_
    refine tx_iload dX4_byDamp_172 rfl ?_
    cases hl
    exact tx_iret dX4_byDamp_174 rfl rfl ⟨rfl, rfl⟩
  · rw [if_pos c7] at hl
    refine tx_iconst (v := 0) dX4_byDamp_45 rfl ?_
    cases hl
    exact tx_iret dX4_byDamp_46 rfl rfl ⟨rfl, rfl⟩
set_option maxHeartbeats 4000000 in
theorem f_byDamp_J37_s {l : Launch} {E : XEnv} {m : Nat} {ad : Nat → Nat} {h0 : XH} {n : Nat} {x1 : Int32} {x2 : Int32} {x3 : Int32} {S : TS} {r : Int32 × TS} (hl : f_byDamp_J37 n x1 x2 x3 S = some r) : TX l E mX4_byDamp 6 37 [(0, .ref m), (1, .int x1), (2, .int x2), (3, .int x3)] [.ref m] m ad h0 S (fun v' S'' => v' = some (.int r.1) ∧ S'' = r.2) := by
  unfold f_byDamp_J37 at hl
  refine tx_iconst (v := 0) dX4_byDamp_37 rfl ?_
  exact tx_lsK (f_byDamp_J38_s hl) ⟨rfl, rfl, rfl, rfl, trivial⟩
set_option maxHeartbeats 4000000 in
theorem T_byDamp {l : Launch} {E : XEnv} {m : Nat} {ad : Nat → Nat} {n : Nat} {x1 : Int32} {x2 : Int32} {x3 : Int32} {S : TS} {r : Int32 × TS} (hl : f_byDamp n x1 x2 x3 S = some r) : TM l E mX4_byDamp 6 m ad [.ref m, .int x1, .int x2, .int x3] S (some (.int r.1)) r.2 := by
  unfold f_byDamp at hl
  refine tm_of (by decide +kernel) rfl (Nat.le_of_ble_eq_true rfl) fun h0 => ?_
  refine tx_aload_n dX4_byDamp_0 rfl rfl ?_
  refine tx_iconst (v := 0) dX4_byDamp_1 rfl ?_
  obtain ⟨S1, eS1, hl⟩ := xb hl
  refine tx_putI pF_X4_111 dX4_byDamp_2 (by decide) rfl rfl (Option.some.inj eS1) ?_
  refine tx_aload_n dX4_byDamp_5 rfl rfl ?_
  refine tx_iload_n dX4_byDamp_6 rfl ?_
  obtain ⟨r2, er2, hl⟩ := xb hl
  refine tx_callV (T_isHouse er2) lV_X4_367 C_X4_isHouse rfl dX4_byDamp_7 rfl (by decide) (Nat.le_of_ble_eq_true rfl) ?_
  refine tx_if_eq (tgt := 45) dX4_byDamp_10 (by decide) (fun c3 => ?_) (fun c3 => ?_)
  · rw [if_pos c3] at hl
    refine tx_iconst (v := 0) dX4_byDamp_45 rfl ?_
    cases hl
    exact tx_iret dX4_byDamp_46 rfl rfl ⟨rfl, rfl⟩
  · rw [if_neg c3] at hl
    refine tx_aload_n dX4_byDamp_13 rfl rfl ?_
    refine tx_iload_n dX4_byDamp_14 rfl ?_
    refine tx_iconst (v := 1) dX4_byDamp_15 rfl ?_
    refine tx_iconst (v := 5) dX4_byDamp_16 rfl ?_
    obtain ⟨r4, er4, hl⟩ := xb hl
    refine tx_callS (T_within er4) lS_X4_345 C_X4_within dX4_byDamp_17 rfl (by decide) (Nat.le_of_ble_eq_true rfl) ?_
    refine tx_if_eq (tgt := 37) dX4_byDamp_20 (by decide) (fun c5 => ?_) (fun c5 => ?_)
    · rw [if_pos c5] at hl
      exact tx_lsK (f_byDamp_J37_s hl) ⟨rfl, rfl, rfl, rfl, trivial⟩
    · rw [if_neg c5] at hl
      refine tx_iload_n dX4_byDamp_23 rfl ?_
      refine tx_iconst (v := 0) dX4_byDamp_24 rfl ?_
      refine tx_bipush (v := 10) dX4_byDamp_25 (by decide) ?_
      obtain ⟨r30, er30, hl⟩ := xb hl
      refine tx_callS (T_within er30) lS_X4_345 C_X4_within dX4_byDamp_27 rfl (by decide) (Nat.le_of_ble_eq_true rfl) ?_
      refine tx_if_eq (tgt := 37) dX4_byDamp_30 (by decide) (fun c31 => ?_) (fun c31 => ?_)
      · rw [if_pos c31] at hl
        exact tx_lsK (f_byDamp_J37_s hl) ⟨rfl, rfl, rfl, rfl, trivial⟩
      · rw [if_neg c31] at hl
        refine tx_iconst (v := 1) dX4_byDamp_33 rfl ?_
        refine tx_goto (tgt := 38) dX4_byDamp_34 (by decide) ?_
        exact tx_lsK (f_byDamp_J38_s hl) ⟨rfl, rfl, rfl, rfl, trivial⟩
def f_gains_J53 (n : Nat) (x1 : Int32) (x3 : Int32) (x6 : Int32) (S : TS) : Option (Int32 × TS) := (f_wouldGo n 0 x1 x3 S).bind fun r5 => if r5.1 = 0 then some ((-3), r5.2) else some (((20 : Int32) - ((2 : Int32) * x6)), r5.2)
def f_gains (n : Nat) (x1 : Int32) (x2 : Int32) (x3 : Int32) (x4 : Int32) (x5 : Int32) (S : TS) : Option (Int32 × TS) := if x4 = 0 then some (2, S) else (f_tightOf 0 x1 x3 S).bind fun r2 => (f_tightOf 0 x2 x3 S).bind fun r3 => if x5 = 1 then if r3 < r2 then some ((-5), S) else if r3 = r2 then if x2 ≥ x1 then f_gains_J53 n x1 x3 r2 S else some ((-5), S) else f_gains_J53 n x1 x3 r2 S else f_gains_J53 n x1 x3 r2 S
set_option maxHeartbeats 4000000 in
theorem f_gains_J53_s {l : Launch} {E : XEnv} {m : Nat} {ad : Nat → Nat} {h0 : XH} {n : Nat} {x1 : Int32} {x3 : Int32} {x6 : Int32} {S : TS} {r : Int32 × TS} (hl : f_gains_J53 n x1 x3 x6 S = some r) : TX l E mX4_gains 6 53 [(0, .ref m), (1, .int x1), (3, .int x3), (6, .int x6)] [] m ad h0 S (fun v' S'' => v' = some (.int r.1) ∧ S'' = r.2) := by
  unfold f_gains_J53 at hl
  refine tx_aload_n dX4_gains_53 rfl rfl ?_
  refine tx_iconst (v := 0) dX4_gains_54 rfl ?_
  refine tx_iload_n dX4_gains_55 rfl ?_
  refine tx_iload_n dX4_gains_56 rfl ?_
  obtain ⟨r5, er5, hl⟩ := xb hl
  refine tx_callV (T_wouldGo er5) lV_X4_388 C_X4_wouldGo rfl dX4_gains_57 rfl (by decide) (Nat.le_of_ble_eq_true rfl) ?_
  refine tx_if_eq (tgt := 73) dX4_gains_60 (by decide) (fun c6 => ?_) (fun c6 => ?_)
  · rw [if_pos c6] at hl
    refine tx_bipush (v := (-3)) dX4_gains_73 (by decide) ?_
    cases hl
    exact tx_iret dX4_gains_75 rfl rfl ⟨rfl, rfl⟩
  · rw [if_neg c6] at hl
    refine tx_bipush (v := 20) dX4_gains_63 (by decide) ?_
    refine tx_iconst (v := 2) dX4_gains_65 rfl ?_
    refine tx_iload dX4_gains_66 rfl ?_
    refine tx_imul dX4_gains_68 ?_
    refine tx_isub dX4_gains_69 ?_
    refine tx_goto (tgt := 75) dX4_gains_70 (by decide) ?_
    cases hl
    exact tx_iret dX4_gains_75 rfl rfl ⟨rfl, rfl⟩
set_option maxHeartbeats 4000000 in
theorem T_gains {l : Launch} {E : XEnv} {m : Nat} {ad : Nat → Nat} {n : Nat} {x1 : Int32} {x2 : Int32} {x3 : Int32} {x4 : Int32} {x5 : Int32} {S : TS} {r : Int32 × TS} (hl : f_gains n x1 x2 x3 x4 x5 S = some r) : TM l E mX4_gains 6 m ad [.ref m, .int x1, .int x2, .int x3, .int x4, .int x5] S (some (.int r.1)) r.2 := by
  unfold f_gains at hl
  refine tm_of (by decide +kernel) rfl (Nat.le_of_ble_eq_true rfl) fun h0 => ?_
  refine tx_iload dX4_gains_0 rfl ?_
  refine tx_if_ne (tgt := 7) dX4_gains_2 (by decide) (fun c1 => ?_) (fun c1 => ?_)
  · rw [if_neg c1] at hl
    refine tx_aload_n dX4_gains_7 rfl rfl ?_
    refine tx_iconst (v := 0) dX4_gains_8 rfl ?_
    refine tx_iload_n dX4_gains_9 rfl ?_
    refine tx_iload_n dX4_gains_10 rfl ?_
    obtain ⟨r2, er2, hl⟩ := xb hl
    refine tx_callV (T_tightOf er2) lV_X4_312 C_X4_tightOf rfl dX4_gains_11 rfl (by decide) (Nat.le_of_ble_eq_true rfl) ?_
    refine tx_istore dX4_gains_14 (by decide) ?_
    refine tx_aload_n dX4_gains_16 rfl rfl ?_
    refine tx_iconst (v := 0) dX4_gains_17 rfl ?_
    refine tx_iload_n dX4_gains_18 rfl ?_
    refine tx_iload_n dX4_gains_19 rfl ?_
    obtain ⟨r3, er3, hl⟩ := xb hl
    refine tx_callV (T_tightOf er3) lV_X4_312 C_X4_tightOf rfl dX4_gains_20 rfl (by decide) (Nat.le_of_ble_eq_true rfl) ?_
    refine tx_istore dX4_gains_23 (by decide) ?_
    refine tx_iload dX4_gains_25 rfl ?_
    refine tx_iconst (v := 1) dX4_gains_27 rfl ?_
    refine tx_icmp_ne (tgt := 53) dX4_gains_28 (by decide) (fun c4 => ?_) (fun c4 => ?_)
    · rw [if_neg c4] at hl
      exact tx_lsK (f_gains_J53_s hl) ⟨rfl, rfl, rfl, rfl, trivial⟩
    · rw [if_pos c4] at hl
      refine tx_iload dX4_gains_31 rfl ?_
      refine tx_iload dX4_gains_33 rfl ?_
      refine tx_icmp_lt (tgt := 50) dX4_gains_35 (by decide) (fun c7 => ?_) (fun c7 => ?_)
      · rw [if_pos c7] at hl
        refine tx_bipush (v := (-5)) dX4_gains_50 (by decide) ?_
        cases hl
        exact tx_iret dX4_gains_52 rfl rfl ⟨rfl, rfl⟩
      · rw [if_neg c7] at hl
        refine tx_iload dX4_gains_38 rfl ?_
        refine tx_iload dX4_gains_40 rfl ?_
        refine tx_icmp_ne (tgt := 53) dX4_gains_42 (by decide) (fun c8 => ?_) (fun c8 => ?_)
        · rw [if_neg c8] at hl
          exact tx_lsK (f_gains_J53_s hl) ⟨rfl, rfl, rfl, rfl, trivial⟩
        · rw [if_pos c8] at hl
          refine tx_iload_n dX4_gains_45 rfl ?_
          refine tx_iload_n dX4_gains_46 rfl ?_
          refine tx_icmp_ge (tgt := 53) dX4_gains_47 (by decide) (fun c9 => ?_) (fun c9 => ?_)
          · rw [if_pos c9] at hl
            exact tx_lsK (f_gains_J53_s hl) ⟨rfl, rfl, rfl, rfl, trivial⟩
          · rw [if_neg c9] at hl
            refine tx_bipush (v := (-5)) dX4_gains_50 (by decide) ?_
            cases hl
            exact tx_iret dX4_gains_52 rfl rfl ⟨rfl, rfl⟩
  · rw [if_pos c1] at hl
    refine tx_iconst (v := 2) dX4_gains_5 rfl ?_
    cases hl
    exact tx_iret dX4_gains_6 rfl rfl ⟨rfl, rfl⟩
def f_game_L68 (n : Nat) (x1 : Int32) (x2 : Int32) (x3 : Int32) (x4 : Int32) (x5 : Int32) (x6 : Int32) (x7 : Int32) (S : TS) : Option ((Int32 × Int32 × Int32 × TS) ⊕ ((Int32 × Int32 × TS))) := if x7 ≥ 4 then some (.inr (x5, x6, S)) else (some (x7 / 2)).bind fun w14 => (some (x7 - x7 / 2 * 2)).bind fun w15 => (f_gains n x1 x2 x3 ((1 : Int32) - w14) w15 S).bind fun r16 => (f_gains n x1 x2 x3 w14 w15 r16.2).bind fun r17 => if r16.1 > r17.1 then (some (x7 + 1)).bind fun w19 => some (.inl (x5, x6, w19, r17.2)) else (f_gains n x2 x1 x3 ((1 : Int32) - w15) w14 r17.2).bind fun r20 => (f_gains n x2 x1 x3 w15 w14 r20.2).bind fun r21 => if r20.1 ≤ r21.1 then (some (x5 + 1)).bind fun w23 => if x6 = (-1) then (some (((10 : Int32) * w14) + w15)).bind fun w26 => (some (x7 + 1)).bind fun w27 => some (.inl (w23, w26, w27, r21.2)) else (some (x7 + 1)).bind fun w25 => some (.inl (w23, x6, w25, r21.2)) else (some (x7 + 1)).bind fun w28 => some (.inl (x5, x6, w28, r21.2))
abbrev K_game_L68 (l : Launch) (E : XEnv) (m : Nat) (ad : Nat → Nat) (h0 : XH) (R : Option Value → TS → Prop) (S : TS) (x1 : Int32) (x2 : Int32) (x3 : Int32) (x4 : Int32) (o : (Int32 × Int32 × TS)) : Prop := match o with
  | e => TX l E mX4_game 7 168 [(0, .ref m), (4, .int x4), (5, .int e.1), (6, .int e.2.1)] [] m ad h0 e.2.2 R
def f_game_J50 (n : Nat) (x1 : Int32) (x2 : Int32) (x3 : Int32) (x4 : Int32) (y0 : Int32) (S : TS) : Option (Int32 × TS) := (f_right y0 2 S).bind fun r11 => if r11.1 = 0 then some (0, r11.2) else (xloop (fun s => f_game_L68 n x1 x2 x3 x4 s.1 s.2.1 s.2.2.1 s.2.2.2) n (0, (-1), 0, r11.2)).bind fun o29 => if x4 = 0 then some (o29.1, o29.2.2) else some (o29.2.1, o29.2.2)
def f_game (n : Nat) (x1 : Int32) (x2 : Int32) (x3 : Int32) (x4 : Int32) (S : TS) : Option (Int32 × TS) := (some (tpF S 0 0)).bind fun S1 => (f_isPerson x1 S1).bind fun r2 => if r2.1 = 0 then some (0, r2.2) else (f_isPerson x2 r2.2).bind fun r4 => if r4.1 = 0 then some (0, r4.2) else (f_isHouse x3 r4.2).bind fun r6 => if r6.1 = 0 then some (0, r6.2) else (f_isWhat x4 1 r6.2).bind fun r8 => if r8.1 = 0 then some (0, r8.2) else if x1 = x2 then f_game_J50 n x1 x2 x3 x4 0 r8.2 else f_game_J50 n x1 x2 x3 x4 1 r8.2
set_option maxHeartbeats 4000000 in
theorem f_game_L68_s {l : Launch} {E : XEnv} {m : Nat} {ad : Nat → Nat} {h0 : XH} {R : Option Value → TS → Prop} {n : Nat} {x1 : Int32} {x2 : Int32} {x3 : Int32} {x4 : Int32} {x5 : Int32} {x6 : Int32} {x7 : Int32} {S : TS} {o : (Int32 × Int32 × Int32 × TS) ⊕ ((Int32 × Int32 × TS))} (hl : f_game_L68 n x1 x2 x3 x4 x5 x6 x7 S = some o) (hK : (xk (fun s : Int32 × Int32 × Int32 × TS => TX l E mX4_game 7 68 [(0, .ref m), (1, .int x1), (2, .int x2), (3, .int x3), (4, .int x4), (5, .int s.1), (6, .int s.2.1), (7, .int s.2.2.1)] [] m ad h0 s.2.2.2 R) (fun r => K_game_L68 l E m ad h0 R S x1 x2 x3 x4 r) o)) : TX l E mX4_game 7 68 [(0, .ref m), (1, .int x1), (2, .int x2), (3, .int x3), (4, .int x4), (5, .int x5), (6, .int x6), (7, .int x7)] [] m ad h0 S R := by
  unfold f_game_L68 at hl
  refine tx_iload dX4_game_68 rfl ?_
  refine tx_iconst (v := 4) dX4_game_70 rfl ?_
  refine tx_icmp_ge (tgt := 168) dX4_game_71 (by decide) (fun c13 => ?_) (fun c13 => ?_)
  · rw [if_pos c13] at hl
    cases hl
    exact tx_lsK hK ⟨rfl, rfl, rfl, rfl, trivial⟩
  · rw [if_neg c13] at hl
    refine tx_iload dX4_game_74 rfl ?_
    refine tx_iconst (v := 2) dX4_game_76 rfl ?_
    refine tx_idiv dX4_game_77 (by decide) ?_
    obtain ⟨w14, ew14, hl⟩ := xb hl
    refine tx_top (Option.some.inj ew14) ?_
    refine tx_istore dX4_game_78 (by decide) ?_
    refine tx_iload dX4_game_80 rfl ?_
    refine tx_iconst (v := 2) dX4_game_82 rfl ?_
    refine tx_irem dX4_game_83 (by decide) ?_
    obtain ⟨w15, ew15, hl⟩ := xb hl
    refine tx_top (Option.some.inj ew15) ?_
    refine tx_istore dX4_game_84 (by decide) ?_
    refine tx_aload_n dX4_game_86 rfl rfl ?_
    refine tx_iload_n dX4_game_87 rfl ?_
    refine tx_iload_n dX4_game_88 rfl ?_
    refine tx_iload_n dX4_game_89 rfl ?_
    refine tx_iconst (v := 1) dX4_game_90 rfl ?_
    refine tx_iload dX4_game_91 rfl ?_
    refine tx_isub dX4_game_93 ?_
    refine tx_iload dX4_game_94 rfl ?_
    obtain ⟨r16, er16, hl⟩ := xb hl
    refine tx_callV (T_gains er16) lV_X4_430 C_X4_gains rfl dX4_game_96 rfl (by decide) (Nat.le_of_ble_eq_true rfl) ?_
    refine tx_aload_n dX4_game_99 rfl rfl ?_
    refine tx_iload_n dX4_game_100 rfl ?_
    refine tx_iload_n dX4_game_101 rfl ?_
    refine tx_iload_n dX4_game_102 rfl ?_
    refine tx_iload dX4_game_103 rfl ?_
    refine tx_iload dX4_game_105 rfl ?_
    obtain ⟨r17, er17, hl⟩ := xb hl
    refine tx_callV (T_gains er17) lV_X4_430 C_X4_gains rfl dX4_game_107 rfl (by decide) (Nat.le_of_ble_eq_true rfl) ?_
    refine tx_icmp_gt (tgt := 162) dX4_game_110 (by decide) (fun c18 => ?_) (fun c18 => ?_)
    · rw [if_pos c18] at hl
      obtain ⟨w19, ew19, hl⟩ := xb hl
      refine tx_iinc dX4_game_162 rfl (by decide) (Option.some.inj ew19) ?_
      refine tx_goto (tgt := 68) dX4_game_165 (by decide) ?_
      cases hl
      exact tx_lsK hK ⟨rfl, rfl, rfl, rfl, rfl, rfl, rfl, rfl, trivial⟩
    · rw [if_neg c18] at hl
      refine tx_aload_n dX4_game_113 rfl rfl ?_
      refine tx_iload_n dX4_game_114 rfl ?_
      refine tx_iload_n dX4_game_115 rfl ?_
      refine tx_iload_n dX4_game_116 rfl ?_
      refine tx_iconst (v := 1) dX4_game_117 rfl ?_
      refine tx_iload dX4_game_118 rfl ?_
      refine tx_isub dX4_game_120 ?_
      refine tx_iload dX4_game_121 rfl ?_
      obtain ⟨r20, er20, hl⟩ := xb hl
      refine tx_callV (T_gains er20) lV_X4_430 C_X4_gains rfl dX4_game_123 rfl (by decide) (Nat.le_of_ble_eq_true rfl) ?_
      refine tx_aload_n dX4_game_126 rfl rfl ?_
      refine tx_iload_n dX4_game_127 rfl ?_
      refine tx_iload_n dX4_game_128 rfl ?_
      refine tx_iload_n dX4_game_129 rfl ?_
      refine tx_iload dX4_game_130 rfl ?_
      refine tx_iload dX4_game_132 rfl ?_
      obtain ⟨r21, er21, hl⟩ := xb hl
      refine tx_callV (T_gains er21) lV_X4_430 C_X4_gains rfl dX4_game_134 rfl (by decide) (Nat.le_of_ble_eq_true rfl) ?_
      refine tx_icmp_le (tgt := 143) dX4_game_137 (by decide) (fun c22 => ?_) (fun c22 => ?_)
      · rw [if_pos c22] at hl
        obtain ⟨w23, ew23, hl⟩ := xb hl
        refine tx_iinc dX4_game_143 rfl (by decide) (Option.some.inj ew23) ?_
        refine tx_iload dX4_game_146 rfl ?_
        refine tx_iconst (v := (-1)) dX4_game_148 rfl ?_
        refine tx_icmp_ne (tgt := 162) dX4_game_149 (by decide) (fun c24 => ?_) (fun c24 => ?_)
        · rw [if_neg c24] at hl
          obtain ⟨w25, ew25, hl⟩ := xb hl
          refine tx_iinc dX4_game_162 rfl (by decide) (Option.some.inj ew25) ?_
          refine tx_goto (tgt := 68) dX4_game_165 (by decide) ?_
          cases hl
          exact tx_lsK hK ⟨rfl, rfl, rfl, rfl, rfl, rfl, rfl, rfl, trivial⟩
        · rw [if_pos c24] at hl
          refine tx_bipush (v := 10) dX4_game_152 (by decide) ?_
          refine tx_iload dX4_game_154 rfl ?_
          refine tx_imul dX4_game_156 ?_
          refine tx_iload dX4_game_157 rfl ?_
          refine tx_iadd dX4_game_159 ?_
          obtain ⟨w26, ew26, hl⟩ := xb hl
          refine tx_top (Option.some.inj ew26) ?_
          refine tx_istore dX4_game_160 (by decide) ?_
          obtain ⟨w27, ew27, hl⟩ := xb hl
          refine tx_iinc dX4_game_162 rfl (by decide) (Option.some.inj ew27) ?_
          refine tx_goto (tgt := 68) dX4_game_165 (by decide) ?_
          cases hl
          exact tx_lsK hK ⟨rfl, rfl, rfl, rfl, rfl, rfl, rfl, rfl, trivial⟩
      · rw [if_neg c22] at hl
        refine tx_goto (tgt := 162) dX4_game_140 (by decide) ?_
        obtain ⟨w28, ew28, hl⟩ := xb hl
        refine tx_iinc dX4_game_162 rfl (by decide) (Option.some.inj ew28) ?_
        refine tx_goto (tgt := 68) dX4_game_165 (by decide) ?_
        cases hl
        exact tx_lsK hK ⟨rfl, rfl, rfl, rfl, rfl, rfl, rfl, rfl, trivial⟩
set_option maxHeartbeats 4000000 in
theorem f_game_L68_ok {l : Launch} {E : XEnv} {m : Nat} {ad : Nat → Nat} {h0 : XH} {R : Option Value → TS → Prop} {n : Nat} {x1 : Int32} {x2 : Int32} {x3 : Int32} {x4 : Int32} {S : TS} {s : Int32 × Int32 × Int32 × TS} {o : (Int32 × Int32 × TS)} (hl : xloop (fun s => f_game_L68 n x1 x2 x3 x4 s.1 s.2.1 s.2.2.1 s.2.2.2) n s = some o) (hK : K_game_L68 l E m ad h0 R S x1 x2 x3 x4 o) : TX l E mX4_game 7 68 [(0, .ref m), (1, .int x1), (2, .int x2), (3, .int x3), (4, .int x4), (5, .int s.1), (6, .int s.2.1), (7, .int s.2.2.1)] [] m ad h0 s.2.2.2 R :=
  xloop_of (fun s : Int32 × Int32 × Int32 × TS => TX l E mX4_game 7 68 [(0, .ref m), (1, .int x1), (2, .int x2), (3, .int x3), (4, .int x4), (5, .int s.1), (6, .int s.2.1), (7, .int s.2.2.1)] [] m ad h0 s.2.2.2 R) (fun r => K_game_L68 l E m ad h0 R S x1 x2 x3 x4 r) (fun s o hl hk => f_game_L68_s (S := s.2.2.2) (o := o) hl hk) n s o hl hK
set_option maxHeartbeats 4000000 in
theorem f_game_J50_s {l : Launch} {E : XEnv} {m : Nat} {ad : Nat → Nat} {h0 : XH} {n : Nat} {x1 : Int32} {x2 : Int32} {x3 : Int32} {x4 : Int32} {y0 : Int32} {S : TS} {r : Int32 × TS} (hl : f_game_J50 n x1 x2 x3 x4 y0 S = some r) : TX l E mX4_game 7 50 [(0, .ref m), (1, .int x1), (2, .int x2), (3, .int x3), (4, .int x4)] [.int y0, .ref m] m ad h0 S (fun v' S'' => v' = some (.int r.1) ∧ S'' = r.2) := by
  unfold f_game_J50 at hl
  refine tx_iconst (v := 2) dX4_game_50 rfl ?_
  obtain ⟨r11, er11, hl⟩ := xb hl
  refine tx_callV (T_right er11) lV_X4_268 C_X4_right rfl dX4_game_51 rfl (by decide) (Nat.le_of_ble_eq_true rfl) ?_
  refine tx_if_ne (tgt := 59) dX4_game_54 (by decide) (fun c12 => ?_) (fun c12 => ?_)
  · rw [if_neg c12] at hl
    refine tx_iconst (v := 0) dX4_game_59 rfl ?_
    refine tx_istore dX4_game_60 (by decide) ?_
    refine tx_iconst (v := (-1)) dX4_game_62 rfl ?_
    refine tx_istore dX4_game_63 (by decide) ?_
    refine tx_iconst (v := 0) dX4_game_65 rfl ?_
    refine tx_istore dX4_game_66 (by decide) ?_
    obtain ⟨o29, eo29, hl⟩ := xb hl
    refine tx_lsK (f_game_L68_ok (S := r11.2) (s := (0, (-1), 0, r11.2)) eo29 ?_) ⟨rfl, rfl, rfl, rfl, rfl, rfl, rfl, rfl, trivial⟩
    refine tx_iload dX4_game_168 rfl ?_
    refine tx_if_ne (tgt := 178) dX4_game_170 (by decide) (fun c30 => ?_) (fun c30 => ?_)
    · rw [if_neg c30] at hl
      refine tx_iload dX4_game_178 rfl ?_
      cases hl
      exact tx_iret dX4_game_180 rfl rfl ⟨rfl, rfl⟩
    · rw [if_pos c30] at hl
      refine tx_iload dX4_game_173 rfl ?_
      refine tx_goto (tgt := 180) dX4_game_175 (by decide) ?_
      cases hl
      exact tx_iret dX4_game_180 rfl rfl ⟨rfl, rfl⟩
  · rw [if_pos c12] at hl
    refine tx_iconst (v := 0) dX4_game_57 rfl ?_
    cases hl
    exact tx_iret dX4_game_58 rfl rfl ⟨rfl, rfl⟩
set_option maxHeartbeats 4000000 in
theorem T_game {l : Launch} {E : XEnv} {m : Nat} {ad : Nat → Nat} {n : Nat} {x1 : Int32} {x2 : Int32} {x3 : Int32} {x4 : Int32} {S : TS} {r : Int32 × TS} (hl : f_game n x1 x2 x3 x4 S = some r) : TM l E mX4_game 7 m ad [.ref m, .int x1, .int x2, .int x3, .int x4] S (some (.int r.1)) r.2 := by
  unfold f_game at hl
  refine tm_of (by decide +kernel) rfl (Nat.le_of_ble_eq_true rfl) fun h0 => ?_
  refine tx_aload_n dX4_game_0 rfl rfl ?_
  refine tx_iconst (v := 0) dX4_game_1 rfl ?_
  obtain ⟨S1, eS1, hl⟩ := xb hl
  refine tx_putI pF_X4_111 dX4_game_2 (by decide) rfl rfl (Option.some.inj eS1) ?_
  refine tx_aload_n dX4_game_5 rfl rfl ?_
  refine tx_iload_n dX4_game_6 rfl ?_
  obtain ⟨r2, er2, hl⟩ := xb hl
  refine tx_callV (T_isPerson er2) lV_X4_379 C_X4_isPerson rfl dX4_game_7 rfl (by decide) (Nat.le_of_ble_eq_true rfl) ?_
  refine tx_if_eq (tgt := 57) dX4_game_10 (by decide) (fun c3 => ?_) (fun c3 => ?_)
  · rw [if_pos c3] at hl
    refine tx_iconst (v := 0) dX4_game_57 rfl ?_
    cases hl
    exact tx_iret dX4_game_58 rfl rfl ⟨rfl, rfl⟩
  · rw [if_neg c3] at hl
    refine tx_aload_n dX4_game_13 rfl rfl ?_
    refine tx_iload_n dX4_game_14 rfl ?_
    obtain ⟨r4, er4, hl⟩ := xb hl
    refine tx_callV (T_isPerson er4) lV_X4_379 C_X4_isPerson rfl dX4_game_15 rfl (by decide) (Nat.le_of_ble_eq_true rfl) ?_
    refine tx_if_eq (tgt := 57) dX4_game_18 (by decide) (fun c5 => ?_) (fun c5 => ?_)
    · rw [if_pos c5] at hl
      refine tx_iconst (v := 0) dX4_game_57 rfl ?_
      cases hl
      exact tx_iret dX4_game_58 rfl rfl ⟨rfl, rfl⟩
    · rw [if_neg c5] at hl
      refine tx_aload_n dX4_game_21 rfl rfl ?_
      refine tx_iload_n dX4_game_22 rfl ?_
      obtain ⟨r6, er6, hl⟩ := xb hl
      refine tx_callV (T_isHouse er6) lV_X4_367 C_X4_isHouse rfl dX4_game_23 rfl (by decide) (Nat.le_of_ble_eq_true rfl) ?_
      refine tx_if_eq (tgt := 57) dX4_game_26 (by decide) (fun c7 => ?_) (fun c7 => ?_)
      · rw [if_pos c7] at hl
        refine tx_iconst (v := 0) dX4_game_57 rfl ?_
        cases hl
        exact tx_iret dX4_game_58 rfl rfl ⟨rfl, rfl⟩
      · rw [if_neg c7] at hl
        refine tx_aload_n dX4_game_29 rfl rfl ?_
        refine tx_iload dX4_game_30 rfl ?_
        refine tx_iconst (v := 1) dX4_game_32 rfl ?_
        obtain ⟨r8, er8, hl⟩ := xb hl
        refine tx_callV (T_isWhat er8) lV_X4_370 C_X4_isWhat rfl dX4_game_33 rfl (by decide) (Nat.le_of_ble_eq_true rfl) ?_
        refine tx_if_eq (tgt := 57) dX4_game_36 (by decide) (fun c9 => ?_) (fun c9 => ?_)
        · rw [if_pos c9] at hl
          refine tx_iconst (v := 0) dX4_game_57 rfl ?_
          cases hl
          exact tx_iret dX4_game_58 rfl rfl ⟨rfl, rfl⟩
        · rw [if_neg c9] at hl
          refine tx_aload_n dX4_game_39 rfl rfl ?_
          refine tx_iload_n dX4_game_40 rfl ?_
          refine tx_iload_n dX4_game_41 rfl ?_
          refine tx_icmp_eq (tgt := 49) dX4_game_42 (by decide) (fun c10 => ?_) (fun c10 => ?_)
          · rw [if_pos c10] at hl
            refine tx_iconst (v := 0) dX4_game_49 rfl ?_
            exact tx_lsK (f_game_J50_s hl) ⟨rfl, rfl, rfl, rfl, rfl, trivial⟩
          · rw [if_neg c10] at hl
            refine tx_iconst (v := 1) dX4_game_45 rfl ?_
            refine tx_goto (tgt := 50) dX4_game_46 (by decide) ?_
            exact tx_lsK (f_game_J50_s hl) ⟨rfl, rfl, rfl, rfl, rfl, trivial⟩
def f_draw (x1 : Int32) (S : TS) : Option (Int32 × TS) := (some (tpF S 55 (((S.1 55) * 1103515245) + 12345))).bind fun S1 => if x1 = 0 then none else some (((((S1.1 55) >>> ((16 : Int32) &&& 31)) &&& 32767) - (((S1.1 55) >>> ((16 : Int32) &&& 31)) &&& 32767) / x1 * x1), S1)
set_option maxHeartbeats 4000000 in
theorem T_draw {l : Launch} {E : XEnv} {m : Nat} {ad : Nat → Nat} {x1 : Int32} {S : TS} {r : Int32 × TS} (hl : f_draw x1 S = some r) : TM l E mX4_draw 1 m ad [.ref m, .int x1] S (some (.int r.1)) r.2 := by
  unfold f_draw at hl
  refine tm_of (by decide +kernel) rfl (Nat.le_of_ble_eq_true rfl) fun h0 => ?_
  refine tx_aload_n dX4_draw_0 rfl rfl ?_
  refine tx_aload_n dX4_draw_1 rfl rfl ?_
  refine tx_getI gF_X4_434 dX4_draw_2 (by decide) ?_
  refine tx_ldcw (v := 1103515245) q2257 dX4_draw_5 ?_
  refine tx_imul dX4_draw_8 ?_
  refine tx_sipush (v := 12345) dX4_draw_9 (by decide) ?_
  refine tx_iadd dX4_draw_12 ?_
  obtain ⟨S1, eS1, hl⟩ := xb hl
  refine tx_putI pF_X4_434 dX4_draw_13 (by decide) rfl rfl (Option.some.inj eS1) ?_
  refine tx_aload_n dX4_draw_16 rfl rfl ?_
  refine tx_getI gF_X4_434 dX4_draw_17 (by decide) ?_
  refine tx_bipush (v := 16) dX4_draw_20 (by decide) ?_
  refine tx_ishr dX4_draw_22 ?_
  refine tx_sipush (v := 32767) dX4_draw_23 (by decide) ?_
  refine tx_iand dX4_draw_26 ?_
  refine tx_iload_n dX4_draw_27 rfl ?_
  by_cases z2 : x1 = 0
  · rw [if_pos z2] at hl; cases hl
  rw [if_neg z2] at hl
  refine tx_irem dX4_draw_28 z2 ?_
  cases hl
  exact tx_iret dX4_draw_29 rfl rfl ⟨rfl, rfl⟩
def f_happens (n : Nat)  (S : TS) : Option (TS) := (f_draw (S.1 2) S).bind fun r1 => (some r1.1).bind fun w2 => (f_draw (r1.2.1 1) r1.2).bind fun r3 => (some r3.1).bind fun w4 => (f_houseOf n 43 w2 r3.2).bind fun r5 => if r5 = (-1) then (trd r3.2 41 ((62 : Int32) + w4)).bind fun v7 => if v7 = (-1) then (f_wouldGo n 43 w2 w4 r3.2).bind fun r9 => if r9.1 = 0 then some r9.2 else (twr r9.2 41 ((62 : Int32) + w4) w2).bind fun S11 => some S11 else some r3.2 else some r3.2
set_option maxHeartbeats 4000000 in
theorem T_happens {l : Launch} {E : XEnv} {m : Nat} {ad : Nat → Nat} {n : Nat}  {S : TS} {S' : TS} (hl : f_happens n  S = some S') : TM l E mX4_happens 6 m ad [.ref m] S none S' := by
  unfold f_happens at hl
  refine tm_of (by decide +kernel) rfl (Nat.le_of_ble_eq_true rfl) fun h0 => ?_
  refine tx_aload_n dX4_happens_0 rfl rfl ?_
  refine tx_aload_n dX4_happens_1 rfl rfl ?_
  refine tx_getI gF_X4_278 dX4_happens_2 (by decide) ?_
  obtain ⟨r1, er1, hl⟩ := xb hl
  refine tx_callV (T_draw er1) lV_X4_438 C_X4_draw rfl dX4_happens_5 rfl (by decide) (Nat.le_of_ble_eq_true rfl) ?_
  obtain ⟨w2, ew2, hl⟩ := xb hl
  refine tx_top (Option.some.inj ew2) ?_
  refine tx_istore_n dX4_happens_8 (by decide) ?_
  refine tx_aload_n dX4_happens_9 rfl rfl ?_
  refine tx_aload_n dX4_happens_10 rfl rfl ?_
  refine tx_getI gF_X4_275 dX4_happens_11 (by decide) ?_
  obtain ⟨r3, er3, hl⟩ := xb hl
  refine tx_callV (T_draw er3) lV_X4_438 C_X4_draw rfl dX4_happens_14 rfl (by decide) (Nat.le_of_ble_eq_true rfl) ?_
  obtain ⟨w4, ew4, hl⟩ := xb hl
  refine tx_top (Option.some.inj ew4) ?_
  refine tx_istore_n dX4_happens_17 (by decide) ?_
  refine tx_aload_n dX4_happens_18 rfl rfl ?_
  refine tx_bipush (v := 43) dX4_happens_19 (by decide) ?_
  refine tx_iload_n dX4_happens_21 rfl ?_
  obtain ⟨r5, er5, hl⟩ := xb hl
  refine tx_callV (T_houseOf er5) lV_X4_339 C_X4_houseOf rfl dX4_happens_22 rfl (by decide) (Nat.le_of_ble_eq_true rfl) ?_
  refine tx_iconst (v := (-1)) dX4_happens_25 rfl ?_
  refine tx_icmp_ne (tgt := 63) dX4_happens_26 (by decide) (fun c6 => ?_) (fun c6 => ?_)
  · rw [if_neg c6] at hl
    cases hl
    exact tx_vret dX4_happens_63 rfl ⟨rfl, rfl⟩
  · rw [if_pos c6] at hl
    refine tx_aload_n dX4_happens_29 rfl rfl ?_
    refine tx_getA gF_X4_66 dX4_happens_30 (by decide) ?_
    refine tx_bipush (v := 62) dX4_happens_33 (by decide) ?_
    refine tx_iload_n dX4_happens_35 rfl ?_
    refine tx_iadd dX4_happens_36 ?_
    obtain ⟨v7, ev7, hl⟩ := xb hl
    refine tx_iald (by decide) dX4_happens_37 ev7 ?_
    refine tx_iconst (v := (-1)) dX4_happens_38 rfl ?_
    refine tx_icmp_ne (tgt := 63) dX4_happens_39 (by decide) (fun c8 => ?_) (fun c8 => ?_)
    · rw [if_neg c8] at hl
      cases hl
      exact tx_vret dX4_happens_63 rfl ⟨rfl, rfl⟩
    · rw [if_pos c8] at hl
      refine tx_aload_n dX4_happens_42 rfl rfl ?_
      refine tx_bipush (v := 43) dX4_happens_43 (by decide) ?_
      refine tx_iload_n dX4_happens_45 rfl ?_
      refine tx_iload_n dX4_happens_46 rfl ?_
      obtain ⟨r9, er9, hl⟩ := xb hl
      refine tx_callV (T_wouldGo er9) lV_X4_388 C_X4_wouldGo rfl dX4_happens_47 rfl (by decide) (Nat.le_of_ble_eq_true rfl) ?_
      refine tx_if_eq (tgt := 63) dX4_happens_50 (by decide) (fun c10 => ?_) (fun c10 => ?_)
      · rw [if_pos c10] at hl
        cases hl
        exact tx_vret dX4_happens_63 rfl ⟨rfl, rfl⟩
      · rw [if_neg c10] at hl
        refine tx_aload_n dX4_happens_53 rfl rfl ?_
        refine tx_getA gF_X4_66 dX4_happens_54 (by decide) ?_
        refine tx_bipush (v := 62) dX4_happens_57 (by decide) ?_
        refine tx_iload_n dX4_happens_59 rfl ?_
        refine tx_iadd dX4_happens_60 ?_
        refine tx_iload_n dX4_happens_61 rfl ?_
        obtain ⟨S11, eS11, hl⟩ := xb hl
        refine tx_iast (by decide) dX4_happens_62 eS11 ?_
        cases hl
        exact tx_vret dX4_happens_63 rfl ⟨rfl, rfl⟩
def f_bits_L4 (n : Nat) (x0 : Int32) (x1 : Int32) (x2 : Int32) : Option ((Int32 × Int32) ⊕ ((Int32))) := if x2 ≥ 8 then some (.inr x1) else (some (x1 + ((x0 >>> ((x2 : Int32) &&& 31)) &&& 1))).bind fun w2 => (some (x2 + 1)).bind fun w3 => some (.inl (w2, w3))
abbrev K_bits_L4 (l : Launch) (E : XEnv) (m : Nat) (ad : Nat → Nat) (h0 : XH) (R : Option Value → TS → Prop) (S : TS) (x0 : Int32) (o : (Int32)) : Prop := match o with
  | e => TX l E mX4_bits 1 24 [(1, .int e)] [] m ad h0 S R
def f_bits (n : Nat) (x0 : Int32) : Option (Int32) := (xloop (fun s => f_bits_L4 n x0 s.1 s.2) n (0, 0)).bind fun o4 => some o4
set_option maxHeartbeats 4000000 in
theorem f_bits_L4_s {l : Launch} {E : XEnv} {m : Nat} {ad : Nat → Nat} {h0 : XH} {R : Option Value → TS → Prop} {n : Nat} {x0 : Int32} {x1 : Int32} {x2 : Int32} {S : TS} {o : (Int32 × Int32) ⊕ ((Int32))} (hl : f_bits_L4 n x0 x1 x2 = some o) (hK : (xk (fun s : Int32 × Int32 => TX l E mX4_bits 1 4 [(0, .int x0), (1, .int s.1), (2, .int s.2)] [] m ad h0 S R) (fun r => K_bits_L4 l E m ad h0 R S x0 r) o)) : TX l E mX4_bits 1 4 [(0, .int x0), (1, .int x1), (2, .int x2)] [] m ad h0 S R := by
  unfold f_bits_L4 at hl
  refine tx_iload_n dX4_bits_4 rfl ?_
  refine tx_bipush (v := 8) dX4_bits_5 (by decide) ?_
  refine tx_icmp_ge (tgt := 24) dX4_bits_7 (by decide) (fun c1 => ?_) (fun c1 => ?_)
  · rw [if_pos c1] at hl
    cases hl
    exact tx_lsK hK ⟨rfl, trivial⟩
  · rw [if_neg c1] at hl
    refine tx_iload_n dX4_bits_10 rfl ?_
    refine tx_iload_n dX4_bits_11 rfl ?_
    refine tx_iload_n dX4_bits_12 rfl ?_
    refine tx_ishr dX4_bits_13 ?_
    refine tx_iconst (v := 1) dX4_bits_14 rfl ?_
    refine tx_iand dX4_bits_15 ?_
    refine tx_iadd dX4_bits_16 ?_
    obtain ⟨w2, ew2, hl⟩ := xb hl
    refine tx_top (Option.some.inj ew2) ?_
    refine tx_istore_n dX4_bits_17 (by decide) ?_
    obtain ⟨w3, ew3, hl⟩ := xb hl
    refine tx_iinc dX4_bits_18 rfl (by decide) (Option.some.inj ew3) ?_
    refine tx_goto (tgt := 4) dX4_bits_21 (by decide) ?_
    cases hl
    exact tx_lsK hK ⟨rfl, rfl, rfl, trivial⟩
set_option maxHeartbeats 4000000 in
theorem f_bits_L4_ok {l : Launch} {E : XEnv} {m : Nat} {ad : Nat → Nat} {h0 : XH} {R : Option Value → TS → Prop} {n : Nat} {x0 : Int32} {S : TS} {s : Int32 × Int32} {o : (Int32)} (hl : xloop (fun s => f_bits_L4 n x0 s.1 s.2) n s = some o) (hK : K_bits_L4 l E m ad h0 R S x0 o) : TX l E mX4_bits 1 4 [(0, .int x0), (1, .int s.1), (2, .int s.2)] [] m ad h0 S R :=
  xloop_of (fun s : Int32 × Int32 => TX l E mX4_bits 1 4 [(0, .int x0), (1, .int s.1), (2, .int s.2)] [] m ad h0 S R) (fun r => K_bits_L4 l E m ad h0 R S x0 r) (fun s o hl hk => f_bits_L4_s (S := S) (o := o) hl hk) n s o hl hK
set_option maxHeartbeats 4000000 in
theorem T_bits {l : Launch} {E : XEnv} {m : Nat} {ad : Nat → Nat} {n : Nat} {x0 : Int32} {S : TS} {r : Int32} (hl : f_bits n x0 = some r) : TM l E mX4_bits 1 m ad [.int x0] S (some (.int r)) S := by
  unfold f_bits at hl
  refine tm_of (by decide +kernel) rfl (Nat.le_of_ble_eq_true rfl) fun h0 => ?_
  refine tx_iconst (v := 0) dX4_bits_0 rfl ?_
  refine tx_istore_n dX4_bits_1 (by decide) ?_
  refine tx_iconst (v := 0) dX4_bits_2 rfl ?_
  refine tx_istore_n dX4_bits_3 (by decide) ?_
  obtain ⟨o4, eo4, hl⟩ := xb hl
  refine tx_lsK (f_bits_L4_ok (S := S) (s := (0, 0)) eo4 ?_) ⟨rfl, rfl, rfl, trivial⟩
  refine tx_iload_n dX4_bits_24 rfl ?_
  cases hl
  exact tx_iret dX4_bits_25 rfl rfl ⟨rfl, rfl⟩
def f_years_L38 (n : Nat) (x2 : Int32) (x3 : Int32) (x4 : Int32) (S : TS) : Option ((Int32 × TS) ⊕ ((TS))) := if x4 ≥ x2 then some (.inr S) else (f_draw 10 S).bind fun r9 => (some (tpF r9.2 46 r9.1)).bind fun S10 => if (S10.1 2) ≤ 0 then (f_dayGoes n 43 S10).bind fun r12 => (some (x4 + 1)).bind fun w13 => some (.inl (w13, r12)) else if (S10.1 1) ≤ 0 then (f_dayGoes n 43 S10).bind fun r15 => (some (x4 + 1)).bind fun w16 => some (.inl (w16, r15)) else (f_happens n S10).bind fun r17 => (f_dayGoes n 43 r17).bind fun r18 => (some (x4 + 1)).bind fun w19 => some (.inl (w19, r18))
abbrev K_years_L38 (l : Launch) (E : XEnv) (m : Nat) (ad : Nat → Nat) (h0 : XH) (R : Option Value → TS → Prop) (S : TS) (x2 : Int32) (x3 : Int32) (o : (TS)) : Prop := match o with
  | e => TX l E mX4_years 7 84 [(0, .ref m), (3, .int x3)] [] m ad h0 e R
def f_years (n : Nat) (x1 : Int32) (x2 : Int32) (x3 : Int32) (S : TS) : Option (Int32 × TS) := (some (tpF S 0 0)).bind fun S1 => (f_isWhat x3 2 S1).bind fun r2 => if r2.1 = 0 then some (0, r2.2) else (f_isDays x2 0 2 r2.2).bind fun r4 => if r4.1 = 0 then some (0, r4.2) else (f_tries n r4.2).bind fun r6 => (some (tpF r6 55 x1)).bind fun S7 => (xloop (fun s => f_years_L38 n x2 x3 s.1 s.2) n (0, S7)).bind fun o20 => (some (tpF o20 46 (-1))).bind fun S21 => if x3 = 0 then (trd S21 41 44).bind fun v27 => (f_bits n v27).bind fun r28 => some (r28, S21) else if x3 = 1 then (f_soreIn n 43 S21).bind fun r26 => some (r26, S21) else (f_lodgersIn n 43 S21).bind fun r24 => (f_bits n r24).bind fun r25 => some (r25, S21)
set_option maxHeartbeats 4000000 in
theorem f_years_L38_s {l : Launch} {E : XEnv} {m : Nat} {ad : Nat → Nat} {h0 : XH} {R : Option Value → TS → Prop} {n : Nat} {x2 : Int32} {x3 : Int32} {x4 : Int32} {S : TS} {o : (Int32 × TS) ⊕ ((TS))} (hl : f_years_L38 n x2 x3 x4 S = some o) (hK : (xk (fun s : Int32 × TS => TX l E mX4_years 7 38 [(0, .ref m), (2, .int x2), (3, .int x3), (4, .int s.1)] [] m ad h0 s.2 R) (fun r => K_years_L38 l E m ad h0 R S x2 x3 r) o)) : TX l E mX4_years 7 38 [(0, .ref m), (2, .int x2), (3, .int x3), (4, .int x4)] [] m ad h0 S R := by
  unfold f_years_L38 at hl
  refine tx_iload dX4_years_38 rfl ?_
  refine tx_iload_n dX4_years_40 rfl ?_
  refine tx_icmp_ge (tgt := 84) dX4_years_41 (by decide) (fun c8 => ?_) (fun c8 => ?_)
  · rw [if_pos c8] at hl
    cases hl
    exact tx_lsK hK ⟨rfl, rfl, trivial⟩
  · rw [if_neg c8] at hl
    refine tx_aload_n dX4_years_44 rfl rfl ?_
    refine tx_aload_n dX4_years_45 rfl rfl ?_
    refine tx_bipush (v := 10) dX4_years_46 (by decide) ?_
    obtain ⟨r9, er9, hl⟩ := xb hl
    refine tx_callV (T_draw er9) lV_X4_438 C_X4_draw rfl dX4_years_48 rfl (by decide) (Nat.le_of_ble_eq_true rfl) ?_
    obtain ⟨S10, eS10, hl⟩ := xb hl
    refine tx_putI pF_X4_78 dX4_years_51 (by decide) rfl rfl (Option.some.inj eS10) ?_
    refine tx_aload_n dX4_years_54 rfl rfl ?_
    refine tx_getI gF_X4_278 dX4_years_55 (by decide) ?_
    refine tx_if_le (tgt := 72) dX4_years_58 (by decide) (fun c11 => ?_) (fun c11 => ?_)
    · rw [if_pos c11] at hl
      refine tx_aload_n dX4_years_72 rfl rfl ?_
      refine tx_bipush (v := 43) dX4_years_73 (by decide) ?_
      obtain ⟨r12, er12, hl⟩ := xb hl
      refine tx_callV (T_dayGoes er12) lV_X4_336 C_X4_dayGoes rfl dX4_years_75 rfl (by decide) (Nat.le_of_ble_eq_true rfl) ?_
      obtain ⟨w13, ew13, hl⟩ := xb hl
      refine tx_iinc dX4_years_78 rfl (by decide) (Option.some.inj ew13) ?_
      refine tx_goto (tgt := 38) dX4_years_81 (by decide) ?_
      cases hl
      exact tx_lsK hK ⟨rfl, rfl, rfl, rfl, trivial⟩
    · rw [if_neg c11] at hl
      refine tx_aload_n dX4_years_61 rfl rfl ?_
      refine tx_getI gF_X4_275 dX4_years_62 (by decide) ?_
      refine tx_if_le (tgt := 72) dX4_years_65 (by decide) (fun c14 => ?_) (fun c14 => ?_)
      · rw [if_pos c14] at hl
        refine tx_aload_n dX4_years_72 rfl rfl ?_
        refine tx_bipush (v := 43) dX4_years_73 (by decide) ?_
        obtain ⟨r15, er15, hl⟩ := xb hl
        refine tx_callV (T_dayGoes er15) lV_X4_336 C_X4_dayGoes rfl dX4_years_75 rfl (by decide) (Nat.le_of_ble_eq_true rfl) ?_
        obtain ⟨w16, ew16, hl⟩ := xb hl
        refine tx_iinc dX4_years_78 rfl (by decide) (Option.some.inj ew16) ?_
        refine tx_goto (tgt := 38) dX4_years_81 (by decide) ?_
        cases hl
        exact tx_lsK hK ⟨rfl, rfl, rfl, rfl, trivial⟩
      · rw [if_neg c14] at hl
        refine tx_aload_n dX4_years_68 rfl rfl ?_
        obtain ⟨r17, er17, hl⟩ := xb hl
        refine tx_callV (T_happens er17) lV_X4_441 C_X4_happens rfl dX4_years_69 rfl (by decide) (Nat.le_of_ble_eq_true rfl) ?_
        refine tx_aload_n dX4_years_72 rfl rfl ?_
        refine tx_bipush (v := 43) dX4_years_73 (by decide) ?_
        obtain ⟨r18, er18, hl⟩ := xb hl
        refine tx_callV (T_dayGoes er18) lV_X4_336 C_X4_dayGoes rfl dX4_years_75 rfl (by decide) (Nat.le_of_ble_eq_true rfl) ?_
        obtain ⟨w19, ew19, hl⟩ := xb hl
        refine tx_iinc dX4_years_78 rfl (by decide) (Option.some.inj ew19) ?_
        refine tx_goto (tgt := 38) dX4_years_81 (by decide) ?_
        cases hl
        exact tx_lsK hK ⟨rfl, rfl, rfl, rfl, trivial⟩
set_option maxHeartbeats 4000000 in
theorem f_years_L38_ok {l : Launch} {E : XEnv} {m : Nat} {ad : Nat → Nat} {h0 : XH} {R : Option Value → TS → Prop} {n : Nat} {x2 : Int32} {x3 : Int32} {S : TS} {s : Int32 × TS} {o : (TS)} (hl : xloop (fun s => f_years_L38 n x2 x3 s.1 s.2) n s = some o) (hK : K_years_L38 l E m ad h0 R S x2 x3 o) : TX l E mX4_years 7 38 [(0, .ref m), (2, .int x2), (3, .int x3), (4, .int s.1)] [] m ad h0 s.2 R :=
  xloop_of (fun s : Int32 × TS => TX l E mX4_years 7 38 [(0, .ref m), (2, .int x2), (3, .int x3), (4, .int s.1)] [] m ad h0 s.2 R) (fun r => K_years_L38 l E m ad h0 R S x2 x3 r) (fun s o hl hk => f_years_L38_s (S := s.2) (o := o) hl hk) n s o hl hK
set_option maxHeartbeats 4000000 in
theorem T_years {l : Launch} {E : XEnv} {m : Nat} {ad : Nat → Nat} {n : Nat} {x1 : Int32} {x2 : Int32} {x3 : Int32} {S : TS} {r : Int32 × TS} (hl : f_years n x1 x2 x3 S = some r) : TM l E mX4_years 7 m ad [.ref m, .int x1, .int x2, .int x3] S (some (.int r.1)) r.2 := by
  unfold f_years at hl
  refine tm_of (by decide +kernel) rfl (Nat.le_of_ble_eq_true rfl) fun h0 => ?_
  refine tx_aload_n dX4_years_0 rfl rfl ?_
  refine tx_iconst (v := 0) dX4_years_1 rfl ?_
  obtain ⟨S1, eS1, hl⟩ := xb hl
  refine tx_putI pF_X4_111 dX4_years_2 (by decide) rfl rfl (Option.some.inj eS1) ?_
  refine tx_aload_n dX4_years_5 rfl rfl ?_
  refine tx_iload_n dX4_years_6 rfl ?_
  refine tx_iconst (v := 2) dX4_years_7 rfl ?_
  obtain ⟨r2, er2, hl⟩ := xb hl
  refine tx_callV (T_isWhat er2) lV_X4_370 C_X4_isWhat rfl dX4_years_8 rfl (by decide) (Nat.le_of_ble_eq_true rfl) ?_
  refine tx_if_eq (tgt := 24) dX4_years_11 (by decide) (fun c3 => ?_) (fun c3 => ?_)
  · rw [if_pos c3] at hl
    refine tx_iconst (v := 0) dX4_years_24 rfl ?_
    cases hl
    exact tx_iret dX4_years_25 rfl rfl ⟨rfl, rfl⟩
  · rw [if_neg c3] at hl
    refine tx_aload_n dX4_years_14 rfl rfl ?_
    refine tx_iload_n dX4_years_15 rfl ?_
    refine tx_iconst (v := 0) dX4_years_16 rfl ?_
    refine tx_iconst (v := 2) dX4_years_17 rfl ?_
    obtain ⟨r4, er4, hl⟩ := xb hl
    refine tx_callV (T_isDays er4) lV_X4_397 C_X4_isDays rfl dX4_years_18 rfl (by decide) (Nat.le_of_ble_eq_true rfl) ?_
    refine tx_if_ne (tgt := 26) dX4_years_21 (by decide) (fun c5 => ?_) (fun c5 => ?_)
    · rw [if_neg c5] at hl
      refine tx_aload_n dX4_years_26 rfl rfl ?_
      obtain ⟨r6, er6, hl⟩ := xb hl
      refine tx_callV (T_tries er6) lV_X4_391 C_X4_tries rfl dX4_years_27 rfl (by decide) (Nat.le_of_ble_eq_true rfl) ?_
      refine tx_aload_n dX4_years_30 rfl rfl ?_
      refine tx_iload_n dX4_years_31 rfl ?_
      obtain ⟨S7, eS7, hl⟩ := xb hl
      refine tx_putI pF_X4_434 dX4_years_32 (by decide) rfl rfl (Option.some.inj eS7) ?_
      refine tx_iconst (v := 0) dX4_years_35 rfl ?_
      refine tx_istore dX4_years_36 (by decide) ?_
      obtain ⟨o20, eo20, hl⟩ := xb hl
      refine tx_lsK (f_years_L38_ok (S := S7) (s := (0, S7)) eo20 ?_) ⟨rfl, rfl, rfl, rfl, trivial⟩
      refine tx_aload_n dX4_years_84 rfl rfl ?_
      refine tx_iconst (v := (-1)) dX4_years_85 rfl ?_
      obtain ⟨S21, eS21, hl⟩ := xb hl
      refine tx_putI pF_X4_78 dX4_years_86 (by decide) rfl rfl (Option.some.inj eS21) ?_
      refine tx_iload_n dX4_years_89 rfl ?_
      refine tx_if_ne (tgt := 106) dX4_years_90 (by decide) (fun c22 => ?_) (fun c22 => ?_)
      · rw [if_neg c22] at hl
        refine tx_iload_n dX4_years_106 rfl ?_
        refine tx_iconst (v := 1) dX4_years_107 rfl ?_
        refine tx_icmp_ne (tgt := 120) dX4_years_108 (by decide) (fun c23 => ?_) (fun c23 => ?_)
        · rw [if_neg c23] at hl
          refine tx_aload_n dX4_years_120 rfl rfl ?_
          refine tx_bipush (v := 43) dX4_years_121 (by decide) ?_
          obtain ⟨r24, er24, hl⟩ := xb hl
          refine tx_callV (T_lodgersIn er24) lV_X4_352 C_X4_lodgersIn rfl dX4_years_123 rfl (by decide) (Nat.le_of_ble_eq_true rfl) ?_
          obtain ⟨r25, er25, hl⟩ := xb hl
          refine tx_callS (T_bits er25) lS_X4_444 C_X4_bits dX4_years_126 rfl (by decide) (Nat.le_of_ble_eq_true rfl) ?_
          cases hl
          exact tx_iret dX4_years_129 rfl rfl ⟨rfl, rfl⟩
        · rw [if_pos c23] at hl
          refine tx_aload_n dX4_years_111 rfl rfl ?_
          refine tx_bipush (v := 43) dX4_years_112 (by decide) ?_
          obtain ⟨r26, er26, hl⟩ := xb hl
          refine tx_callV (T_soreIn er26) lV_X4_355 C_X4_soreIn rfl dX4_years_114 rfl (by decide) (Nat.le_of_ble_eq_true rfl) ?_
          refine tx_goto (tgt := 129) dX4_years_117 (by decide) ?_
          cases hl
          exact tx_iret dX4_years_129 rfl rfl ⟨rfl, rfl⟩
      · rw [if_pos c22] at hl
        refine tx_aload_n dX4_years_93 rfl rfl ?_
        refine tx_getA gF_X4_66 dX4_years_94 (by decide) ?_
        refine tx_bipush (v := 44) dX4_years_97 (by decide) ?_
        obtain ⟨v27, ev27, hl⟩ := xb hl
        refine tx_iald (by decide) dX4_years_99 ev27 ?_
        obtain ⟨r28, er28, hl⟩ := xb hl
        refine tx_callS (T_bits er28) lS_X4_444 C_X4_bits dX4_years_100 rfl (by decide) (Nat.le_of_ble_eq_true rfl) ?_
        refine tx_goto (tgt := 129) dX4_years_103 (by decide) ?_
        cases hl
        exact tx_iret dX4_years_129 rfl rfl ⟨rfl, rfl⟩
    · rw [if_pos c5] at hl
      refine tx_iconst (v := 0) dX4_years_24 rfl ?_
      cases hl
      exact tx_iret dX4_years_25 rfl rfl ⟨rfl, rfl⟩
def f_toGrow_L29 (n : Nat) (x1 : Int32) (x2 : Int32) (x3 : Int32) (S : TS) : Option ((Int32 × TS) ⊕ ((TS) ⊕ (Int32 × TS))) := if x3 > 40 then some (.inr (.inl S)) else (trd S 41 ((70 : Int32) + x1)).bind fun v8 => (trd S 41 ((3 : Int32) + x2)).bind fun v9 => if v8 < v9 then (f_dayGoes n 43 S).bind fun r11 => (some (x3 + 1)).bind fun w12 => some (.inl (w12, r11)) else some (.inr (.inr (x3, S)))
abbrev K_toGrow_L29 (l : Launch) (E : XEnv) (m : Nat) (ad : Nat → Nat) (h0 : XH) (R : Option Value → TS → Prop) (S : TS) (x1 : Int32) (x2 : Int32) (o : (TS) ⊕ (Int32 × TS)) : Prop := match o with
  | .inl e => TX l E mX4_toGrow 6 69 [(0, .ref m)] [] m ad h0 e R
  | .inr e => TX l E mX4_toGrow 6 55 [(0, .ref m), (3, .int e.1)] [] m ad h0 e.2 R
def f_toGrow (n : Nat) (x1 : Int32) (x2 : Int32) (S : TS) : Option (Int32 × TS) := (some (tpF S 0 0)).bind fun S1 => (f_isPerson x1 S1).bind fun r2 => if r2.1 = 0 then some (0, r2.2) else (f_isHouse x2 r2.2).bind fun r4 => if r4.1 = 0 then some (0, r4.2) else (f_tries n r4.2).bind fun r6 => (xloop (fun s => f_toGrow_L29 n x1 x2 s.1 s.2) n (0, r6)).bind fun o13 => match o13 with | .inl e14 => (some ((-1), e14)) | .inr e15 => (some (e15.1, e15.2))
set_option maxHeartbeats 4000000 in
theorem f_toGrow_L29_s {l : Launch} {E : XEnv} {m : Nat} {ad : Nat → Nat} {h0 : XH} {R : Option Value → TS → Prop} {n : Nat} {x1 : Int32} {x2 : Int32} {x3 : Int32} {S : TS} {o : (Int32 × TS) ⊕ ((TS) ⊕ (Int32 × TS))} (hl : f_toGrow_L29 n x1 x2 x3 S = some o) (hK : (xk (fun s : Int32 × TS => TX l E mX4_toGrow 6 29 [(0, .ref m), (1, .int x1), (2, .int x2), (3, .int s.1)] [] m ad h0 s.2 R) (fun r => K_toGrow_L29 l E m ad h0 R S x1 x2 r) o)) : TX l E mX4_toGrow 6 29 [(0, .ref m), (1, .int x1), (2, .int x2), (3, .int x3)] [] m ad h0 S R := by
  unfold f_toGrow_L29 at hl
  refine tx_iload_n dX4_toGrow_29 rfl ?_
  refine tx_bipush (v := 40) dX4_toGrow_30 (by decide) ?_
  refine tx_icmp_gt (tgt := 69) dX4_toGrow_32 (by decide) (fun c7 => ?_) (fun c7 => ?_)
  · rw [if_pos c7] at hl
    cases hl
    exact tx_lsK hK ⟨rfl, trivial⟩
  · rw [if_neg c7] at hl
    refine tx_aload_n dX4_toGrow_35 rfl rfl ?_
    refine tx_getA gF_X4_66 dX4_toGrow_36 (by decide) ?_
    refine tx_bipush (v := 70) dX4_toGrow_39 (by decide) ?_
    refine tx_iload_n dX4_toGrow_41 rfl ?_
    refine tx_iadd dX4_toGrow_42 ?_
    obtain ⟨v8, ev8, hl⟩ := xb hl
    refine tx_iald (by decide) dX4_toGrow_43 ev8 ?_
    refine tx_aload_n dX4_toGrow_44 rfl rfl ?_
    refine tx_getA gF_X4_66 dX4_toGrow_45 (by decide) ?_
    refine tx_iconst (v := 3) dX4_toGrow_48 rfl ?_
    refine tx_iload_n dX4_toGrow_49 rfl ?_
    refine tx_iadd dX4_toGrow_50 ?_
    obtain ⟨v9, ev9, hl⟩ := xb hl
    refine tx_iald (by decide) dX4_toGrow_51 ev9 ?_
    refine tx_icmp_lt (tgt := 57) dX4_toGrow_52 (by decide) (fun c10 => ?_) (fun c10 => ?_)
    · rw [if_pos c10] at hl
      refine tx_aload_n dX4_toGrow_57 rfl rfl ?_
      refine tx_bipush (v := 43) dX4_toGrow_58 (by decide) ?_
      obtain ⟨r11, er11, hl⟩ := xb hl
      refine tx_callV (T_dayGoes er11) lV_X4_336 C_X4_dayGoes rfl dX4_toGrow_60 rfl (by decide) (Nat.le_of_ble_eq_true rfl) ?_
      obtain ⟨w12, ew12, hl⟩ := xb hl
      refine tx_iinc dX4_toGrow_63 rfl (by decide) (Option.some.inj ew12) ?_
      refine tx_goto (tgt := 29) dX4_toGrow_66 (by decide) ?_
      cases hl
      exact tx_lsK hK ⟨rfl, rfl, rfl, rfl, trivial⟩
    · rw [if_neg c10] at hl
      cases hl
      exact tx_lsK hK ⟨rfl, rfl, trivial⟩
set_option maxHeartbeats 4000000 in
theorem f_toGrow_L29_ok {l : Launch} {E : XEnv} {m : Nat} {ad : Nat → Nat} {h0 : XH} {R : Option Value → TS → Prop} {n : Nat} {x1 : Int32} {x2 : Int32} {S : TS} {s : Int32 × TS} {o : (TS) ⊕ (Int32 × TS)} (hl : xloop (fun s => f_toGrow_L29 n x1 x2 s.1 s.2) n s = some o) (hK : K_toGrow_L29 l E m ad h0 R S x1 x2 o) : TX l E mX4_toGrow 6 29 [(0, .ref m), (1, .int x1), (2, .int x2), (3, .int s.1)] [] m ad h0 s.2 R :=
  xloop_of (fun s : Int32 × TS => TX l E mX4_toGrow 6 29 [(0, .ref m), (1, .int x1), (2, .int x2), (3, .int s.1)] [] m ad h0 s.2 R) (fun r => K_toGrow_L29 l E m ad h0 R S x1 x2 r) (fun s o hl hk => f_toGrow_L29_s (S := s.2) (o := o) hl hk) n s o hl hK
set_option maxHeartbeats 4000000 in
theorem T_toGrow {l : Launch} {E : XEnv} {m : Nat} {ad : Nat → Nat} {n : Nat} {x1 : Int32} {x2 : Int32} {S : TS} {r : Int32 × TS} (hl : f_toGrow n x1 x2 S = some r) : TM l E mX4_toGrow 6 m ad [.ref m, .int x1, .int x2] S (some (.int r.1)) r.2 := by
  unfold f_toGrow at hl
  refine tm_of (by decide +kernel) rfl (Nat.le_of_ble_eq_true rfl) fun h0 => ?_
  refine tx_aload_n dX4_toGrow_0 rfl rfl ?_
  refine tx_iconst (v := 0) dX4_toGrow_1 rfl ?_
  obtain ⟨S1, eS1, hl⟩ := xb hl
  refine tx_putI pF_X4_111 dX4_toGrow_2 (by decide) rfl rfl (Option.some.inj eS1) ?_
  refine tx_aload_n dX4_toGrow_5 rfl rfl ?_
  refine tx_iload_n dX4_toGrow_6 rfl ?_
  obtain ⟨r2, er2, hl⟩ := xb hl
  refine tx_callV (T_isPerson er2) lV_X4_379 C_X4_isPerson rfl dX4_toGrow_7 rfl (by decide) (Nat.le_of_ble_eq_true rfl) ?_
  refine tx_if_eq (tgt := 21) dX4_toGrow_10 (by decide) (fun c3 => ?_) (fun c3 => ?_)
  · rw [if_pos c3] at hl
    refine tx_iconst (v := 0) dX4_toGrow_21 rfl ?_
    cases hl
    exact tx_iret dX4_toGrow_22 rfl rfl ⟨rfl, rfl⟩
  · rw [if_neg c3] at hl
    refine tx_aload_n dX4_toGrow_13 rfl rfl ?_
    refine tx_iload_n dX4_toGrow_14 rfl ?_
    obtain ⟨r4, er4, hl⟩ := xb hl
    refine tx_callV (T_isHouse er4) lV_X4_367 C_X4_isHouse rfl dX4_toGrow_15 rfl (by decide) (Nat.le_of_ble_eq_true rfl) ?_
    refine tx_if_ne (tgt := 23) dX4_toGrow_18 (by decide) (fun c5 => ?_) (fun c5 => ?_)
    · rw [if_neg c5] at hl
      refine tx_aload_n dX4_toGrow_23 rfl rfl ?_
      obtain ⟨r6, er6, hl⟩ := xb hl
      refine tx_callV (T_tries er6) lV_X4_391 C_X4_tries rfl dX4_toGrow_24 rfl (by decide) (Nat.le_of_ble_eq_true rfl) ?_
      refine tx_iconst (v := 0) dX4_toGrow_27 rfl ?_
      refine tx_istore_n dX4_toGrow_28 (by decide) ?_
      obtain ⟨o13, eo13, hl⟩ := xb hl
      rcases o13 with e14 | e15
      · dsimp only at hl
        refine tx_lsK (f_toGrow_L29_ok (S := r6) (s := (0, r6)) eo13 ?_) ⟨rfl, rfl, rfl, rfl, trivial⟩
        refine tx_iconst (v := (-1)) dX4_toGrow_69 rfl ?_
        cases hl
        exact tx_iret dX4_toGrow_70 rfl rfl ⟨rfl, rfl⟩
      · dsimp only at hl
        refine tx_lsK (f_toGrow_L29_ok (S := r6) (s := (0, r6)) eo13 ?_) ⟨rfl, rfl, rfl, rfl, trivial⟩
        refine tx_iload_n dX4_toGrow_55 rfl ?_
        cases hl
        exact tx_iret dX4_toGrow_56 rfl rfl ⟨rfl, rfl⟩
    · rw [if_pos c5] at hl
      refine tx_iconst (v := 0) dX4_toGrow_21 rfl ?_
      cases hl
      exact tx_iret dX4_toGrow_22 rfl rfl ⟨rfl, rfl⟩
def f_paid (n : Nat) (x1 : Int32) (S : TS) : Option (Int32 × TS) := (some (tpF S 0 0)).bind fun S1 => (f_isDays x1 0 1 S1).bind fun r2 => if r2.1 = 0 then some (0, r2.2) else (f_goesTo n x1 r2.2).bind fun r4 => (f_soreIn n 43 r4).bind fun r5 => (f_soreIn n 0 r4).bind fun r6 => some ((r5 - r6), r4)
set_option maxHeartbeats 4000000 in
theorem T_paid {l : Launch} {E : XEnv} {m : Nat} {ad : Nat → Nat} {n : Nat} {x1 : Int32} {S : TS} {r : Int32 × TS} (hl : f_paid n x1 S = some r) : TM l E mX4_paid 8 m ad [.ref m, .int x1] S (some (.int r.1)) r.2 := by
  unfold f_paid at hl
  refine tm_of (by decide +kernel) rfl (Nat.le_of_ble_eq_true rfl) fun h0 => ?_
  refine tx_aload_n dX4_paid_0 rfl rfl ?_
  refine tx_iconst (v := 0) dX4_paid_1 rfl ?_
  obtain ⟨S1, eS1, hl⟩ := xb hl
  refine tx_putI pF_X4_111 dX4_paid_2 (by decide) rfl rfl (Option.some.inj eS1) ?_
  refine tx_aload_n dX4_paid_5 rfl rfl ?_
  refine tx_iload_n dX4_paid_6 rfl ?_
  refine tx_iconst (v := 0) dX4_paid_7 rfl ?_
  refine tx_iconst (v := 1) dX4_paid_8 rfl ?_
  obtain ⟨r2, er2, hl⟩ := xb hl
  refine tx_callV (T_isDays er2) lV_X4_397 C_X4_isDays rfl dX4_paid_9 rfl (by decide) (Nat.le_of_ble_eq_true rfl) ?_
  refine tx_if_ne (tgt := 17) dX4_paid_12 (by decide) (fun c3 => ?_) (fun c3 => ?_)
  · rw [if_neg c3] at hl
    refine tx_aload_n dX4_paid_17 rfl rfl ?_
    refine tx_iload_n dX4_paid_18 rfl ?_
    obtain ⟨r4, er4, hl⟩ := xb hl
    refine tx_callV (T_goesTo er4) lV_X4_400 C_X4_goesTo rfl dX4_paid_19 rfl (by decide) (Nat.le_of_ble_eq_true rfl) ?_
    refine tx_aload_n dX4_paid_22 rfl rfl ?_
    refine tx_bipush (v := 43) dX4_paid_23 (by decide) ?_
    obtain ⟨r5, er5, hl⟩ := xb hl
    refine tx_callV (T_soreIn er5) lV_X4_355 C_X4_soreIn rfl dX4_paid_25 rfl (by decide) (Nat.le_of_ble_eq_true rfl) ?_
    refine tx_aload_n dX4_paid_28 rfl rfl ?_
    refine tx_iconst (v := 0) dX4_paid_29 rfl ?_
    obtain ⟨r6, er6, hl⟩ := xb hl
    refine tx_callV (T_soreIn er6) lV_X4_355 C_X4_soreIn rfl dX4_paid_30 rfl (by decide) (Nat.le_of_ble_eq_true rfl) ?_
    refine tx_isub dX4_paid_33 ?_
    cases hl
    exact tx_iret dX4_paid_34 rfl rfl ⟨rfl, rfl⟩
  · rw [if_pos c3] at hl
    refine tx_iconst (v := 0) dX4_paid_15 rfl ?_
    cases hl
    exact tx_iret dX4_paid_16 rfl rfl ⟨rfl, rfl⟩
def f_wornest_L26 (n : Nat) (x2 : Int32) (x3 : Int32) (S : TS) : Option ((Int32 × Int32 × TS) ⊕ ((Int32 × TS))) := if x3 ≥ (S.1 1) then some (.inr (x2, S)) else if x2 = (-1) then (some (x3 + 1)).bind fun w7 => some (.inl (x3, w7, S)) else (trd S 41 ((54 : Int32) + x3)).bind fun v8 => (trd S 41 ((54 : Int32) + x2)).bind fun v9 => if v8 ≤ v9 then (some (x3 + 1)).bind fun w11 => some (.inl (x2, w11, S)) else (some (x3 + 1)).bind fun w12 => some (.inl (x3, w12, S))
abbrev K_wornest_L26 (l : Launch) (E : XEnv) (m : Nat) (ad : Nat → Nat) (h0 : XH) (R : Option Value → TS → Prop) (S : TS)  (o : (Int32 × TS)) : Prop := match o with
  | e => TX l E mX4_wornest 8 68 [(0, .ref m), (2, .int e.1)] [] m ad h0 e.2 R
def f_wornest (n : Nat) (x1 : Int32) (S : TS) : Option (Int32 × TS) := (some (tpF S 0 0)).bind fun S1 => (f_isDays x1 0 1 S1).bind fun r2 => if r2.1 = 0 then some (0, r2.2) else (f_goesTo n x1 r2.2).bind fun r4 => (xloop (fun s => f_wornest_L26 n s.1 s.2.1 s.2.2) n ((-1), 0, r4)).bind fun o13 => some (o13.1, o13.2)
set_option maxHeartbeats 4000000 in
theorem f_wornest_L26_s {l : Launch} {E : XEnv} {m : Nat} {ad : Nat → Nat} {h0 : XH} {R : Option Value → TS → Prop} {n : Nat} {x2 : Int32} {x3 : Int32} {S : TS} {o : (Int32 × Int32 × TS) ⊕ ((Int32 × TS))} (hl : f_wornest_L26 n x2 x3 S = some o) (hK : (xk (fun s : Int32 × Int32 × TS => TX l E mX4_wornest 8 26 [(0, .ref m), (2, .int s.1), (3, .int s.2.1)] [] m ad h0 s.2.2 R) (fun r => K_wornest_L26 l E m ad h0 R S r) o)) : TX l E mX4_wornest 8 26 [(0, .ref m), (2, .int x2), (3, .int x3)] [] m ad h0 S R := by
  unfold f_wornest_L26 at hl
  refine tx_iload_n dX4_wornest_26 rfl ?_
  refine tx_aload_n dX4_wornest_27 rfl rfl ?_
  refine tx_getI gF_X4_275 dX4_wornest_28 (by decide) ?_
  refine tx_icmp_ge (tgt := 68) dX4_wornest_31 (by decide) (fun c5 => ?_) (fun c5 => ?_)
  · rw [if_pos c5] at hl
    cases hl
    exact tx_lsK hK ⟨rfl, rfl, trivial⟩
  · rw [if_neg c5] at hl
    refine tx_iload_n dX4_wornest_34 rfl ?_
    refine tx_iconst (v := (-1)) dX4_wornest_35 rfl ?_
    refine tx_icmp_eq (tgt := 60) dX4_wornest_36 (by decide) (fun c6 => ?_) (fun c6 => ?_)
    · rw [if_pos c6] at hl
      refine tx_iload_n dX4_wornest_60 rfl ?_
      refine tx_istore_n dX4_wornest_61 (by decide) ?_
      obtain ⟨w7, ew7, hl⟩ := xb hl
      refine tx_iinc dX4_wornest_62 rfl (by decide) (Option.some.inj ew7) ?_
      refine tx_goto (tgt := 26) dX4_wornest_65 (by decide) ?_
      cases hl
      exact tx_lsK hK ⟨rfl, rfl, rfl, trivial⟩
    · rw [if_neg c6] at hl
      refine tx_aload_n dX4_wornest_39 rfl rfl ?_
      refine tx_getA gF_X4_66 dX4_wornest_40 (by decide) ?_
      refine tx_bipush (v := 54) dX4_wornest_43 (by decide) ?_
      refine tx_iload_n dX4_wornest_45 rfl ?_
      refine tx_iadd dX4_wornest_46 ?_
      obtain ⟨v8, ev8, hl⟩ := xb hl
      refine tx_iald (by decide) dX4_wornest_47 ev8 ?_
      refine tx_aload_n dX4_wornest_48 rfl rfl ?_
      refine tx_getA gF_X4_66 dX4_wornest_49 (by decide) ?_
      refine tx_bipush (v := 54) dX4_wornest_52 (by decide) ?_
      refine tx_iload_n dX4_wornest_54 rfl ?_
      refine tx_iadd dX4_wornest_55 ?_
      obtain ⟨v9, ev9, hl⟩ := xb hl
      refine tx_iald (by decide) dX4_wornest_56 ev9 ?_
      refine tx_icmp_le (tgt := 62) dX4_wornest_57 (by decide) (fun c10 => ?_) (fun c10 => ?_)
      · rw [if_pos c10] at hl
        obtain ⟨w11, ew11, hl⟩ := xb hl
        refine tx_iinc dX4_wornest_62 rfl (by decide) (Option.some.inj ew11) ?_
        refine tx_goto (tgt := 26) dX4_wornest_65 (by decide) ?_
        cases hl
        exact tx_lsK hK ⟨rfl, rfl, rfl, trivial⟩
      · rw [if_neg c10] at hl
        refine tx_iload_n dX4_wornest_60 rfl ?_
        refine tx_istore_n dX4_wornest_61 (by decide) ?_
        obtain ⟨w12, ew12, hl⟩ := xb hl
        refine tx_iinc dX4_wornest_62 rfl (by decide) (Option.some.inj ew12) ?_
        refine tx_goto (tgt := 26) dX4_wornest_65 (by decide) ?_
        cases hl
        exact tx_lsK hK ⟨rfl, rfl, rfl, trivial⟩
set_option maxHeartbeats 4000000 in
theorem f_wornest_L26_ok {l : Launch} {E : XEnv} {m : Nat} {ad : Nat → Nat} {h0 : XH} {R : Option Value → TS → Prop} {n : Nat}  {S : TS} {s : Int32 × Int32 × TS} {o : (Int32 × TS)} (hl : xloop (fun s => f_wornest_L26 n s.1 s.2.1 s.2.2) n s = some o) (hK : K_wornest_L26 l E m ad h0 R S o) : TX l E mX4_wornest 8 26 [(0, .ref m), (2, .int s.1), (3, .int s.2.1)] [] m ad h0 s.2.2 R :=
  xloop_of (fun s : Int32 × Int32 × TS => TX l E mX4_wornest 8 26 [(0, .ref m), (2, .int s.1), (3, .int s.2.1)] [] m ad h0 s.2.2 R) (fun r => K_wornest_L26 l E m ad h0 R S r) (fun s o hl hk => f_wornest_L26_s (S := s.2.2) (o := o) hl hk) n s o hl hK
set_option maxHeartbeats 4000000 in
theorem T_wornest {l : Launch} {E : XEnv} {m : Nat} {ad : Nat → Nat} {n : Nat} {x1 : Int32} {S : TS} {r : Int32 × TS} (hl : f_wornest n x1 S = some r) : TM l E mX4_wornest 8 m ad [.ref m, .int x1] S (some (.int r.1)) r.2 := by
  unfold f_wornest at hl
  refine tm_of (by decide +kernel) rfl (Nat.le_of_ble_eq_true rfl) fun h0 => ?_
  refine tx_aload_n dX4_wornest_0 rfl rfl ?_
  refine tx_iconst (v := 0) dX4_wornest_1 rfl ?_
  obtain ⟨S1, eS1, hl⟩ := xb hl
  refine tx_putI pF_X4_111 dX4_wornest_2 (by decide) rfl rfl (Option.some.inj eS1) ?_
  refine tx_aload_n dX4_wornest_5 rfl rfl ?_
  refine tx_iload_n dX4_wornest_6 rfl ?_
  refine tx_iconst (v := 0) dX4_wornest_7 rfl ?_
  refine tx_iconst (v := 1) dX4_wornest_8 rfl ?_
  obtain ⟨r2, er2, hl⟩ := xb hl
  refine tx_callV (T_isDays er2) lV_X4_397 C_X4_isDays rfl dX4_wornest_9 rfl (by decide) (Nat.le_of_ble_eq_true rfl) ?_
  refine tx_if_ne (tgt := 17) dX4_wornest_12 (by decide) (fun c3 => ?_) (fun c3 => ?_)
  · rw [if_neg c3] at hl
    refine tx_aload_n dX4_wornest_17 rfl rfl ?_
    refine tx_iload_n dX4_wornest_18 rfl ?_
    obtain ⟨r4, er4, hl⟩ := xb hl
    refine tx_callV (T_goesTo er4) lV_X4_400 C_X4_goesTo rfl dX4_wornest_19 rfl (by decide) (Nat.le_of_ble_eq_true rfl) ?_
    refine tx_iconst (v := (-1)) dX4_wornest_22 rfl ?_
    refine tx_istore_n dX4_wornest_23 (by decide) ?_
    refine tx_iconst (v := 0) dX4_wornest_24 rfl ?_
    refine tx_istore_n dX4_wornest_25 (by decide) ?_
    obtain ⟨o13, eo13, hl⟩ := xb hl
    refine tx_lsK (f_wornest_L26_ok (S := r4) (s := ((-1), 0, r4)) eo13 ?_) ⟨rfl, rfl, rfl, trivial⟩
    refine tx_iload_n dX4_wornest_68 rfl ?_
    cases hl
    exact tx_iret dX4_wornest_69 rfl rfl ⟨rfl, rfl⟩
  · rw [if_pos c3] at hl
    refine tx_iconst (v := 0) dX4_wornest_15 rfl ?_
    cases hl
    exact tx_iret dX4_wornest_16 rfl rfl ⟨rfl, rfl⟩
def f_dampest_L28 (n : Nat) (x1 : Int32) (x2 : Int32) (x3 : Int32) (x4 : Int32) (S : TS) : Option ((Int32 × Int32 × Int32 × TS) ⊕ ((Int32 × TS))) := if x4 ≥ x1 then some (.inr (x2, S)) else (trd S 41 0).bind fun v6 => (f_toldDamp (v6 + x4) S).bind fun r7 => if r7 > x3 then (some (x4 + 1)).bind fun w9 => some (.inl (x4, r7, w9, S)) else (some (x4 + 1)).bind fun w10 => some (.inl (x2, x3, w10, S))
abbrev K_dampest_L28 (l : Launch) (E : XEnv) (m : Nat) (ad : Nat → Nat) (h0 : XH) (R : Option Value → TS → Prop) (S : TS) (x1 : Int32) (o : (Int32 × TS)) : Prop := match o with
  | e => TX l E mX4_dampest 3 70 [(0, .ref m), (2, .int e.1)] [] m ad h0 e.2 R
def f_dampest (n : Nat) (x1 : Int32) (S : TS) : Option (Int32 × TS) := (some (tpF S 0 0)).bind fun S1 => (f_isDays x1 1 1 S1).bind fun r2 => if r2.1 = 0 then some (0, r2.2) else (f_dampIn 0 r2.2).bind fun r4 => (xloop (fun s => f_dampest_L28 n x1 s.1 s.2.1 s.2.2.1 s.2.2.2) n (0, r4, 1, r2.2)).bind fun o11 => some (o11.1, o11.2)
set_option maxHeartbeats 4000000 in
theorem f_dampest_L28_s {l : Launch} {E : XEnv} {m : Nat} {ad : Nat → Nat} {h0 : XH} {R : Option Value → TS → Prop} {n : Nat} {x1 : Int32} {x2 : Int32} {x3 : Int32} {x4 : Int32} {S : TS} {o : (Int32 × Int32 × Int32 × TS) ⊕ ((Int32 × TS))} (hl : f_dampest_L28 n x1 x2 x3 x4 S = some o) (hK : (xk (fun s : Int32 × Int32 × Int32 × TS => TX l E mX4_dampest 3 28 [(0, .ref m), (1, .int x1), (2, .int s.1), (3, .int s.2.1), (4, .int s.2.2.1)] [] m ad h0 s.2.2.2 R) (fun r => K_dampest_L28 l E m ad h0 R S x1 r) o)) : TX l E mX4_dampest 3 28 [(0, .ref m), (1, .int x1), (2, .int x2), (3, .int x3), (4, .int x4)] [] m ad h0 S R := by
  unfold f_dampest_L28 at hl
  refine tx_iload dX4_dampest_28 rfl ?_
  refine tx_iload_n dX4_dampest_30 rfl ?_
  refine tx_icmp_ge (tgt := 70) dX4_dampest_31 (by decide) (fun c5 => ?_) (fun c5 => ?_)
  · rw [if_pos c5] at hl
    cases hl
    exact tx_lsK hK ⟨rfl, rfl, trivial⟩
  · rw [if_neg c5] at hl
    refine tx_aload_n dX4_dampest_34 rfl rfl ?_
    refine tx_aload_n dX4_dampest_35 rfl rfl ?_
    refine tx_getA gF_X4_66 dX4_dampest_36 (by decide) ?_
    refine tx_iconst (v := 0) dX4_dampest_39 rfl ?_
    obtain ⟨v6, ev6, hl⟩ := xb hl
    refine tx_iald (by decide) dX4_dampest_40 ev6 ?_
    refine tx_iload dX4_dampest_41 rfl ?_
    refine tx_iadd dX4_dampest_43 ?_
    obtain ⟨r7, er7, hl⟩ := xb hl
    refine tx_callV (T_toldDamp er7) lV_X4_302 C_X4_toldDamp rfl dX4_dampest_44 rfl (by decide) (Nat.le_of_ble_eq_true rfl) ?_
    refine tx_istore dX4_dampest_47 (by decide) ?_
    refine tx_iload dX4_dampest_49 rfl ?_
    refine tx_iload_n dX4_dampest_51 rfl ?_
    refine tx_icmp_gt (tgt := 58) dX4_dampest_52 (by decide) (fun c8 => ?_) (fun c8 => ?_)
    · rw [if_pos c8] at hl
      refine tx_iload dX4_dampest_58 rfl ?_
      refine tx_istore_n dX4_dampest_60 (by decide) ?_
      refine tx_iload dX4_dampest_61 rfl ?_
      refine tx_istore_n dX4_dampest_63 (by decide) ?_
      obtain ⟨w9, ew9, hl⟩ := xb hl
      refine tx_iinc dX4_dampest_64 rfl (by decide) (Option.some.inj ew9) ?_
      refine tx_goto (tgt := 28) dX4_dampest_67 (by decide) ?_
      cases hl
      exact tx_lsK hK ⟨rfl, rfl, rfl, rfl, rfl, trivial⟩
    · rw [if_neg c8] at hl
      refine tx_goto (tgt := 64) dX4_dampest_55 (by decide) ?_
      obtain ⟨w10, ew10, hl⟩ := xb hl
      refine tx_iinc dX4_dampest_64 rfl (by decide) (Option.some.inj ew10) ?_
      refine tx_goto (tgt := 28) dX4_dampest_67 (by decide) ?_
      cases hl
      exact tx_lsK hK ⟨rfl, rfl, rfl, rfl, rfl, trivial⟩
set_option maxHeartbeats 4000000 in
theorem f_dampest_L28_ok {l : Launch} {E : XEnv} {m : Nat} {ad : Nat → Nat} {h0 : XH} {R : Option Value → TS → Prop} {n : Nat} {x1 : Int32} {S : TS} {s : Int32 × Int32 × Int32 × TS} {o : (Int32 × TS)} (hl : xloop (fun s => f_dampest_L28 n x1 s.1 s.2.1 s.2.2.1 s.2.2.2) n s = some o) (hK : K_dampest_L28 l E m ad h0 R S x1 o) : TX l E mX4_dampest 3 28 [(0, .ref m), (1, .int x1), (2, .int s.1), (3, .int s.2.1), (4, .int s.2.2.1)] [] m ad h0 s.2.2.2 R :=
  xloop_of (fun s : Int32 × Int32 × Int32 × TS => TX l E mX4_dampest 3 28 [(0, .ref m), (1, .int x1), (2, .int s.1), (3, .int s.2.1), (4, .int s.2.2.1)] [] m ad h0 s.2.2.2 R) (fun r => K_dampest_L28 l E m ad h0 R S x1 r) (fun s o hl hk => f_dampest_L28_s (S := s.2.2.2) (o := o) hl hk) n s o hl hK
set_option maxHeartbeats 4000000 in
theorem T_dampest {l : Launch} {E : XEnv} {m : Nat} {ad : Nat → Nat} {n : Nat} {x1 : Int32} {S : TS} {r : Int32 × TS} (hl : f_dampest n x1 S = some r) : TM l E mX4_dampest 3 m ad [.ref m, .int x1] S (some (.int r.1)) r.2 := by
  unfold f_dampest at hl
  refine tm_of (by decide +kernel) rfl (Nat.le_of_ble_eq_true rfl) fun h0 => ?_
  refine tx_aload_n dX4_dampest_0 rfl rfl ?_
  refine tx_iconst (v := 0) dX4_dampest_1 rfl ?_
  obtain ⟨S1, eS1, hl⟩ := xb hl
  refine tx_putI pF_X4_111 dX4_dampest_2 (by decide) rfl rfl (Option.some.inj eS1) ?_
  refine tx_aload_n dX4_dampest_5 rfl rfl ?_
  refine tx_iload_n dX4_dampest_6 rfl ?_
  refine tx_iconst (v := 1) dX4_dampest_7 rfl ?_
  refine tx_iconst (v := 1) dX4_dampest_8 rfl ?_
  obtain ⟨r2, er2, hl⟩ := xb hl
  refine tx_callV (T_isDays er2) lV_X4_397 C_X4_isDays rfl dX4_dampest_9 rfl (by decide) (Nat.le_of_ble_eq_true rfl) ?_
  refine tx_if_ne (tgt := 17) dX4_dampest_12 (by decide) (fun c3 => ?_) (fun c3 => ?_)
  · rw [if_neg c3] at hl
    refine tx_iconst (v := 0) dX4_dampest_17 rfl ?_
    refine tx_istore_n dX4_dampest_18 (by decide) ?_
    refine tx_aload_n dX4_dampest_19 rfl rfl ?_
    refine tx_iconst (v := 0) dX4_dampest_20 rfl ?_
    obtain ⟨r4, er4, hl⟩ := xb hl
    refine tx_callV (T_dampIn er4) lV_X4_309 C_X4_dampIn rfl dX4_dampest_21 rfl (by decide) (Nat.le_of_ble_eq_true rfl) ?_
    refine tx_istore_n dX4_dampest_24 (by decide) ?_
    refine tx_iconst (v := 1) dX4_dampest_25 rfl ?_
    refine tx_istore dX4_dampest_26 (by decide) ?_
    obtain ⟨o11, eo11, hl⟩ := xb hl
    refine tx_lsK (f_dampest_L28_ok (S := r2.2) (s := (0, r4, 1, r2.2)) eo11 ?_) ⟨rfl, rfl, rfl, rfl, rfl, trivial⟩
    refine tx_iload_n dX4_dampest_70 rfl ?_
    cases hl
    exact tx_iret dX4_dampest_71 rfl rfl ⟨rfl, rfl⟩
  · rw [if_pos c3] at hl
    refine tx_iconst (v := 0) dX4_dampest_15 rfl ?_
    cases hl
    exact tx_iret dX4_dampest_16 rfl rfl ⟨rfl, rfl⟩
def f_kept_L26 (n : Nat) (x2 : Int32) (x3 : Int32) (S : TS) : Option ((Int32 × Int32 × TS) ⊕ ((Int32 × TS))) := if x3 ≥ (S.1 1) then some (.inr (x2, S)) else (trd S 41 ((19 : Int32) + x3)).bind fun v6 => if v6 = (-1) then (some (x2 ||| 0)).bind fun w8 => (some (x3 + 1)).bind fun w9 => some (.inl (w8, w9, S)) else (trd S 41 ((62 : Int32) + x3)).bind fun v10 => (trd S 41 ((19 : Int32) + x3)).bind fun v11 => if v10 = v11 then (trd S 41 ((19 : Int32) + x3)).bind fun v15 => (some (x2 ||| ((1 : Int32) <<< ((v15 : Int32) &&& 31)))).bind fun w16 => (some (x3 + 1)).bind fun w17 => some (.inl (w16, w17, S)) else (some (x2 ||| 0)).bind fun w13 => (some (x3 + 1)).bind fun w14 => some (.inl (w13, w14, S))
abbrev K_kept_L26 (l : Launch) (E : XEnv) (m : Nat) (ad : Nat → Nat) (h0 : XH) (R : Option Value → TS → Prop) (S : TS)  (o : (Int32 × TS)) : Prop := match o with
  | e => TX l E mX4_kept 8 92 [(0, .ref m), (2, .int e.1)] [] m ad h0 e.2 R
def f_kept (n : Nat) (x1 : Int32) (S : TS) : Option (Int32 × TS) := (some (tpF S 0 0)).bind fun S1 => (f_isDays x1 0 1 S1).bind fun r2 => if r2.1 = 0 then some (0, r2.2) else (f_goesTo n x1 r2.2).bind fun r4 => (xloop (fun s => f_kept_L26 n s.1 s.2.1 s.2.2) n (0, 0, r4)).bind fun o18 => some (o18.1, o18.2)
set_option maxHeartbeats 4000000 in
theorem f_kept_L26_s {l : Launch} {E : XEnv} {m : Nat} {ad : Nat → Nat} {h0 : XH} {R : Option Value → TS → Prop} {n : Nat} {x2 : Int32} {x3 : Int32} {S : TS} {o : (Int32 × Int32 × TS) ⊕ ((Int32 × TS))} (hl : f_kept_L26 n x2 x3 S = some o) (hK : (xk (fun s : Int32 × Int32 × TS => TX l E mX4_kept 8 26 [(0, .ref m), (2, .int s.1), (3, .int s.2.1)] [] m ad h0 s.2.2 R) (fun r => K_kept_L26 l E m ad h0 R S r) o)) : TX l E mX4_kept 8 26 [(0, .ref m), (2, .int x2), (3, .int x3)] [] m ad h0 S R := by
  unfold f_kept_L26 at hl
  refine tx_iload_n dX4_kept_26 rfl ?_
  refine tx_aload_n dX4_kept_27 rfl rfl ?_
  refine tx_getI gF_X4_275 dX4_kept_28 (by decide) ?_
  refine tx_icmp_ge (tgt := 92) dX4_kept_31 (by decide) (fun c5 => ?_) (fun c5 => ?_)
  · rw [if_pos c5] at hl
    cases hl
    exact tx_lsK hK ⟨rfl, rfl, trivial⟩
  · rw [if_neg c5] at hl
    refine tx_iload_n dX4_kept_34 rfl ?_
    refine tx_aload_n dX4_kept_35 rfl rfl ?_
    refine tx_getA gF_X4_66 dX4_kept_36 (by decide) ?_
    refine tx_bipush (v := 19) dX4_kept_39 (by decide) ?_
    refine tx_iload_n dX4_kept_41 rfl ?_
    refine tx_iadd dX4_kept_42 ?_
    obtain ⟨v6, ev6, hl⟩ := xb hl
    refine tx_iald (by decide) dX4_kept_43 ev6 ?_
    refine tx_iconst (v := (-1)) dX4_kept_44 rfl ?_
    refine tx_icmp_eq (tgt := 83) dX4_kept_45 (by decide) (fun c7 => ?_) (fun c7 => ?_)
    · rw [if_pos c7] at hl
      refine tx_iconst (v := 0) dX4_kept_83 rfl ?_
      refine tx_ior dX4_kept_84 ?_
      obtain ⟨w8, ew8, hl⟩ := xb hl
      refine tx_top (Option.some.inj ew8) ?_
      refine tx_istore_n dX4_kept_85 (by decide) ?_
      obtain ⟨w9, ew9, hl⟩ := xb hl
      refine tx_iinc dX4_kept_86 rfl (by decide) (Option.some.inj ew9) ?_
      refine tx_goto (tgt := 26) dX4_kept_89 (by decide) ?_
      cases hl
      exact tx_lsK hK ⟨rfl, rfl, rfl, trivial⟩
    · rw [if_neg c7] at hl
      refine tx_aload_n dX4_kept_48 rfl rfl ?_
      refine tx_getA gF_X4_66 dX4_kept_49 (by decide) ?_
      refine tx_bipush (v := 62) dX4_kept_52 (by decide) ?_
      refine tx_iload_n dX4_kept_54 rfl ?_
      refine tx_iadd dX4_kept_55 ?_
      obtain ⟨v10, ev10, hl⟩ := xb hl
      refine tx_iald (by decide) dX4_kept_56 ev10 ?_
      refine tx_aload_n dX4_kept_57 rfl rfl ?_
      refine tx_getA gF_X4_66 dX4_kept_58 (by decide) ?_
      refine tx_bipush (v := 19) dX4_kept_61 (by decide) ?_
      refine tx_iload_n dX4_kept_63 rfl ?_
      refine tx_iadd dX4_kept_64 ?_
      obtain ⟨v11, ev11, hl⟩ := xb hl
      refine tx_iald (by decide) dX4_kept_65 ev11 ?_
      refine tx_icmp_ne (tgt := 83) dX4_kept_66 (by decide) (fun c12 => ?_) (fun c12 => ?_)
      · rw [if_neg c12] at hl
        refine tx_iconst (v := 0) dX4_kept_83 rfl ?_
        refine tx_ior dX4_kept_84 ?_
        obtain ⟨w13, ew13, hl⟩ := xb hl
        refine tx_top (Option.some.inj ew13) ?_
        refine tx_istore_n dX4_kept_85 (by decide) ?_
        obtain ⟨w14, ew14, hl⟩ := xb hl
        refine tx_iinc dX4_kept_86 rfl (by decide) (Option.some.inj ew14) ?_
        refine tx_goto (tgt := 26) dX4_kept_89 (by decide) ?_
        cases hl
        exact tx_lsK hK ⟨rfl, rfl, rfl, trivial⟩
      · rw [if_pos c12] at hl
        refine tx_iconst (v := 1) dX4_kept_69 rfl ?_
        refine tx_aload_n dX4_kept_70 rfl rfl ?_
        refine tx_getA gF_X4_66 dX4_kept_71 (by decide) ?_
        refine tx_bipush (v := 19) dX4_kept_74 (by decide) ?_
        refine tx_iload_n dX4_kept_76 rfl ?_
        refine tx_iadd dX4_kept_77 ?_
        obtain ⟨v15, ev15, hl⟩ := xb hl
        refine tx_iald (by decide) dX4_kept_78 ev15 ?_
        refine tx_ishl dX4_kept_79 ?_
        refine tx_goto (tgt := 84) dX4_kept_80 (by decide) ?_
        refine tx_ior dX4_kept_84 ?_
        obtain ⟨w16, ew16, hl⟩ := xb hl
        refine tx_top (Option.some.inj ew16) ?_
        refine tx_istore_n dX4_kept_85 (by decide) ?_
        obtain ⟨w17, ew17, hl⟩ := xb hl
        refine tx_iinc dX4_kept_86 rfl (by decide) (Option.some.inj ew17) ?_
        refine tx_goto (tgt := 26) dX4_kept_89 (by decide) ?_
        cases hl
        exact tx_lsK hK ⟨rfl, rfl, rfl, trivial⟩
set_option maxHeartbeats 4000000 in
theorem f_kept_L26_ok {l : Launch} {E : XEnv} {m : Nat} {ad : Nat → Nat} {h0 : XH} {R : Option Value → TS → Prop} {n : Nat}  {S : TS} {s : Int32 × Int32 × TS} {o : (Int32 × TS)} (hl : xloop (fun s => f_kept_L26 n s.1 s.2.1 s.2.2) n s = some o) (hK : K_kept_L26 l E m ad h0 R S o) : TX l E mX4_kept 8 26 [(0, .ref m), (2, .int s.1), (3, .int s.2.1)] [] m ad h0 s.2.2 R :=
  xloop_of (fun s : Int32 × Int32 × TS => TX l E mX4_kept 8 26 [(0, .ref m), (2, .int s.1), (3, .int s.2.1)] [] m ad h0 s.2.2 R) (fun r => K_kept_L26 l E m ad h0 R S r) (fun s o hl hk => f_kept_L26_s (S := s.2.2) (o := o) hl hk) n s o hl hK
set_option maxHeartbeats 4000000 in
theorem T_kept {l : Launch} {E : XEnv} {m : Nat} {ad : Nat → Nat} {n : Nat} {x1 : Int32} {S : TS} {r : Int32 × TS} (hl : f_kept n x1 S = some r) : TM l E mX4_kept 8 m ad [.ref m, .int x1] S (some (.int r.1)) r.2 := by
  unfold f_kept at hl
  refine tm_of (by decide +kernel) rfl (Nat.le_of_ble_eq_true rfl) fun h0 => ?_
  refine tx_aload_n dX4_kept_0 rfl rfl ?_
  refine tx_iconst (v := 0) dX4_kept_1 rfl ?_
  obtain ⟨S1, eS1, hl⟩ := xb hl
  refine tx_putI pF_X4_111 dX4_kept_2 (by decide) rfl rfl (Option.some.inj eS1) ?_
  refine tx_aload_n dX4_kept_5 rfl rfl ?_
  refine tx_iload_n dX4_kept_6 rfl ?_
  refine tx_iconst (v := 0) dX4_kept_7 rfl ?_
  refine tx_iconst (v := 1) dX4_kept_8 rfl ?_
  obtain ⟨r2, er2, hl⟩ := xb hl
  refine tx_callV (T_isDays er2) lV_X4_397 C_X4_isDays rfl dX4_kept_9 rfl (by decide) (Nat.le_of_ble_eq_true rfl) ?_
  refine tx_if_ne (tgt := 17) dX4_kept_12 (by decide) (fun c3 => ?_) (fun c3 => ?_)
  · rw [if_neg c3] at hl
    refine tx_aload_n dX4_kept_17 rfl rfl ?_
    refine tx_iload_n dX4_kept_18 rfl ?_
    obtain ⟨r4, er4, hl⟩ := xb hl
    refine tx_callV (T_goesTo er4) lV_X4_400 C_X4_goesTo rfl dX4_kept_19 rfl (by decide) (Nat.le_of_ble_eq_true rfl) ?_
    refine tx_iconst (v := 0) dX4_kept_22 rfl ?_
    refine tx_istore_n dX4_kept_23 (by decide) ?_
    refine tx_iconst (v := 0) dX4_kept_24 rfl ?_
    refine tx_istore_n dX4_kept_25 (by decide) ?_
    obtain ⟨o18, eo18, hl⟩ := xb hl
    refine tx_lsK (f_kept_L26_ok (S := r4) (s := (0, 0, r4)) eo18 ?_) ⟨rfl, rfl, rfl, trivial⟩
    refine tx_iload_n dX4_kept_92 rfl ?_
    cases hl
    exact tx_iret dX4_kept_93 rfl rfl ⟨rfl, rfl⟩
  · rw [if_pos c3] at hl
    refine tx_iconst (v := 0) dX4_kept_15 rfl ?_
    cases hl
    exact tx_iret dX4_kept_16 rfl rfl ⟨rfl, rfl⟩
def f_sorest_L26 (n : Nat) (x2 : Int32) (x3 : Int32) (S : TS) : Option ((Int32 × Int32 × TS) ⊕ ((Int32 × TS))) := if x3 ≥ (S.1 2) then some (.inr (x2, S)) else if x2 = (-1) then (some (x3 + 1)).bind fun w7 => some (.inl (x3, w7, S)) else (trd S 41 ((78 : Int32) + x3)).bind fun v8 => (trd S 41 ((78 : Int32) + x2)).bind fun v9 => if v8 ≤ v9 then (some (x3 + 1)).bind fun w11 => some (.inl (x2, w11, S)) else (some (x3 + 1)).bind fun w12 => some (.inl (x3, w12, S))
abbrev K_sorest_L26 (l : Launch) (E : XEnv) (m : Nat) (ad : Nat → Nat) (h0 : XH) (R : Option Value → TS → Prop) (S : TS)  (o : (Int32 × TS)) : Prop := match o with
  | e => TX l E mX4_sorest 8 68 [(0, .ref m), (2, .int e.1)] [] m ad h0 e.2 R
def f_sorest (n : Nat) (x1 : Int32) (S : TS) : Option (Int32 × TS) := (some (tpF S 0 0)).bind fun S1 => (f_isDays x1 0 1 S1).bind fun r2 => if r2.1 = 0 then some (0, r2.2) else (f_goesTo n x1 r2.2).bind fun r4 => (xloop (fun s => f_sorest_L26 n s.1 s.2.1 s.2.2) n ((-1), 0, r4)).bind fun o13 => some (o13.1, o13.2)
set_option maxHeartbeats 4000000 in
theorem f_sorest_L26_s {l : Launch} {E : XEnv} {m : Nat} {ad : Nat → Nat} {h0 : XH} {R : Option Value → TS → Prop} {n : Nat} {x2 : Int32} {x3 : Int32} {S : TS} {o : (Int32 × Int32 × TS) ⊕ ((Int32 × TS))} (hl : f_sorest_L26 n x2 x3 S = some o) (hK : (xk (fun s : Int32 × Int32 × TS => TX l E mX4_sorest 8 26 [(0, .ref m), (2, .int s.1), (3, .int s.2.1)] [] m ad h0 s.2.2 R) (fun r => K_sorest_L26 l E m ad h0 R S r) o)) : TX l E mX4_sorest 8 26 [(0, .ref m), (2, .int x2), (3, .int x3)] [] m ad h0 S R := by
  unfold f_sorest_L26 at hl
  refine tx_iload_n dX4_sorest_26 rfl ?_
  refine tx_aload_n dX4_sorest_27 rfl rfl ?_
  refine tx_getI gF_X4_278 dX4_sorest_28 (by decide) ?_
  refine tx_icmp_ge (tgt := 68) dX4_sorest_31 (by decide) (fun c5 => ?_) (fun c5 => ?_)
  · rw [if_pos c5] at hl
    cases hl
    exact tx_lsK hK ⟨rfl, rfl, trivial⟩
  · rw [if_neg c5] at hl
    refine tx_iload_n dX4_sorest_34 rfl ?_
    refine tx_iconst (v := (-1)) dX4_sorest_35 rfl ?_
    refine tx_icmp_eq (tgt := 60) dX4_sorest_36 (by decide) (fun c6 => ?_) (fun c6 => ?_)
    · rw [if_pos c6] at hl
      refine tx_iload_n dX4_sorest_60 rfl ?_
      refine tx_istore_n dX4_sorest_61 (by decide) ?_
      obtain ⟨w7, ew7, hl⟩ := xb hl
      refine tx_iinc dX4_sorest_62 rfl (by decide) (Option.some.inj ew7) ?_
      refine tx_goto (tgt := 26) dX4_sorest_65 (by decide) ?_
      cases hl
      exact tx_lsK hK ⟨rfl, rfl, rfl, trivial⟩
    · rw [if_neg c6] at hl
      refine tx_aload_n dX4_sorest_39 rfl rfl ?_
      refine tx_getA gF_X4_66 dX4_sorest_40 (by decide) ?_
      refine tx_bipush (v := 78) dX4_sorest_43 (by decide) ?_
      refine tx_iload_n dX4_sorest_45 rfl ?_
      refine tx_iadd dX4_sorest_46 ?_
      obtain ⟨v8, ev8, hl⟩ := xb hl
      refine tx_iald (by decide) dX4_sorest_47 ev8 ?_
      refine tx_aload_n dX4_sorest_48 rfl rfl ?_
      refine tx_getA gF_X4_66 dX4_sorest_49 (by decide) ?_
      refine tx_bipush (v := 78) dX4_sorest_52 (by decide) ?_
      refine tx_iload_n dX4_sorest_54 rfl ?_
      refine tx_iadd dX4_sorest_55 ?_
      obtain ⟨v9, ev9, hl⟩ := xb hl
      refine tx_iald (by decide) dX4_sorest_56 ev9 ?_
      refine tx_icmp_le (tgt := 62) dX4_sorest_57 (by decide) (fun c10 => ?_) (fun c10 => ?_)
      · rw [if_pos c10] at hl
        obtain ⟨w11, ew11, hl⟩ := xb hl
        refine tx_iinc dX4_sorest_62 rfl (by decide) (Option.some.inj ew11) ?_
        refine tx_goto (tgt := 26) dX4_sorest_65 (by decide) ?_
        cases hl
        exact tx_lsK hK ⟨rfl, rfl, rfl, trivial⟩
      · rw [if_neg c10] at hl
        refine tx_iload_n dX4_sorest_60 rfl ?_
        refine tx_istore_n dX4_sorest_61 (by decide) ?_
        obtain ⟨w12, ew12, hl⟩ := xb hl
        refine tx_iinc dX4_sorest_62 rfl (by decide) (Option.some.inj ew12) ?_
        refine tx_goto (tgt := 26) dX4_sorest_65 (by decide) ?_
        cases hl
        exact tx_lsK hK ⟨rfl, rfl, rfl, trivial⟩
set_option maxHeartbeats 4000000 in
theorem f_sorest_L26_ok {l : Launch} {E : XEnv} {m : Nat} {ad : Nat → Nat} {h0 : XH} {R : Option Value → TS → Prop} {n : Nat}  {S : TS} {s : Int32 × Int32 × TS} {o : (Int32 × TS)} (hl : xloop (fun s => f_sorest_L26 n s.1 s.2.1 s.2.2) n s = some o) (hK : K_sorest_L26 l E m ad h0 R S o) : TX l E mX4_sorest 8 26 [(0, .ref m), (2, .int s.1), (3, .int s.2.1)] [] m ad h0 s.2.2 R :=
  xloop_of (fun s : Int32 × Int32 × TS => TX l E mX4_sorest 8 26 [(0, .ref m), (2, .int s.1), (3, .int s.2.1)] [] m ad h0 s.2.2 R) (fun r => K_sorest_L26 l E m ad h0 R S r) (fun s o hl hk => f_sorest_L26_s (S := s.2.2) (o := o) hl hk) n s o hl hK
set_option maxHeartbeats 4000000 in
theorem T_sorest {l : Launch} {E : XEnv} {m : Nat} {ad : Nat → Nat} {n : Nat} {x1 : Int32} {S : TS} {r : Int32 × TS} (hl : f_sorest n x1 S = some r) : TM l E mX4_sorest 8 m ad [.ref m, .int x1] S (some (.int r.1)) r.2 := by
  unfold f_sorest at hl
  refine tm_of (by decide +kernel) rfl (Nat.le_of_ble_eq_true rfl) fun h0 => ?_
  refine tx_aload_n dX4_sorest_0 rfl rfl ?_
  refine tx_iconst (v := 0) dX4_sorest_1 rfl ?_
  obtain ⟨S1, eS1, hl⟩ := xb hl
  refine tx_putI pF_X4_111 dX4_sorest_2 (by decide) rfl rfl (Option.some.inj eS1) ?_
  refine tx_aload_n dX4_sorest_5 rfl rfl ?_
  refine tx_iload_n dX4_sorest_6 rfl ?_
  refine tx_iconst (v := 0) dX4_sorest_7 rfl ?_
  refine tx_iconst (v := 1) dX4_sorest_8 rfl ?_
  obtain ⟨r2, er2, hl⟩ := xb hl
  refine tx_callV (T_isDays er2) lV_X4_397 C_X4_isDays rfl dX4_sorest_9 rfl (by decide) (Nat.le_of_ble_eq_true rfl) ?_
  refine tx_if_ne (tgt := 17) dX4_sorest_12 (by decide) (fun c3 => ?_) (fun c3 => ?_)
  · rw [if_neg c3] at hl
    refine tx_aload_n dX4_sorest_17 rfl rfl ?_
    refine tx_iload_n dX4_sorest_18 rfl ?_
    obtain ⟨r4, er4, hl⟩ := xb hl
    refine tx_callV (T_goesTo er4) lV_X4_400 C_X4_goesTo rfl dX4_sorest_19 rfl (by decide) (Nat.le_of_ble_eq_true rfl) ?_
    refine tx_iconst (v := (-1)) dX4_sorest_22 rfl ?_
    refine tx_istore_n dX4_sorest_23 (by decide) ?_
    refine tx_iconst (v := 0) dX4_sorest_24 rfl ?_
    refine tx_istore_n dX4_sorest_25 (by decide) ?_
    obtain ⟨o13, eo13, hl⟩ := xb hl
    refine tx_lsK (f_sorest_L26_ok (S := r4) (s := ((-1), 0, r4)) eo13 ?_) ⟨rfl, rfl, rfl, trivial⟩
    refine tx_iload_n dX4_sorest_68 rfl ?_
    cases hl
    exact tx_iret dX4_sorest_69 rfl rfl ⟨rfl, rfl⟩
  · rw [if_pos c3] at hl
    refine tx_iconst (v := 0) dX4_sorest_15 rfl ?_
    cases hl
    exact tx_iret dX4_sorest_16 rfl rfl ⟨rfl, rfl⟩
def f_eased_L46 (n : Nat) (x1 : Int32) (x2 : Int32) (x3 : Int32) (x4 : Int32) (x5 : Int32) (x6 : Int32) (S : TS) : Option ((Int32 × Int32 × Int32 × TS) ⊕ ((Int32 × TS))) := if x6 ≥ x3 then some (.inr (x4, S)) else (f_easesOf n 43 x1 x2 S).bind fun r10 => (some r10.1).bind fun w11 => if w11 ≤ x5 then (f_dayGoes n 43 r10.2).bind fun r13 => (some (x6 + 1)).bind fun w14 => some (.inl (x4, x5, w14, r13)) else (f_dayGoes n 43 r10.2).bind fun r15 => (some (x6 + 1)).bind fun w16 => some (.inl (x6, w11, w16, r15))
abbrev K_eased_L46 (l : Launch) (E : XEnv) (m : Nat) (ad : Nat → Nat) (h0 : XH) (R : Option Value → TS → Prop) (S : TS) (x1 : Int32) (x2 : Int32) (x3 : Int32) (o : (Int32 × TS)) : Prop := match o with
  | e => TX l E mX4_eased 6 89 [(0, .ref m), (4, .int e.1)] [] m ad h0 e.2 R
def f_eased (n : Nat) (x1 : Int32) (x2 : Int32) (x3 : Int32) (S : TS) : Option (Int32 × TS) := (some (tpF S 0 0)).bind fun S1 => (f_isPerson x1 S1).bind fun r2 => if r2.1 = 0 then some (0, r2.2) else (f_isHouse x2 r2.2).bind fun r4 => if r4.1 = 0 then some (0, r4.2) else (f_isDays x3 1 2 r4.2).bind fun r6 => if r6.1 = 0 then some (0, r6.2) else (f_tries n r6.2).bind fun r8 => (xloop (fun s => f_eased_L46 n x1 x2 x3 s.1 s.2.1 s.2.2.1 s.2.2.2) n ((-1), (-1), 0, r8)).bind fun o17 => some (o17.1, o17.2)
set_option maxHeartbeats 4000000 in
theorem f_eased_L46_s {l : Launch} {E : XEnv} {m : Nat} {ad : Nat → Nat} {h0 : XH} {R : Option Value → TS → Prop} {n : Nat} {x1 : Int32} {x2 : Int32} {x3 : Int32} {x4 : Int32} {x5 : Int32} {x6 : Int32} {S : TS} {o : (Int32 × Int32 × Int32 × TS) ⊕ ((Int32 × TS))} (hl : f_eased_L46 n x1 x2 x3 x4 x5 x6 S = some o) (hK : (xk (fun s : Int32 × Int32 × Int32 × TS => TX l E mX4_eased 6 46 [(0, .ref m), (1, .int x1), (2, .int x2), (3, .int x3), (4, .int s.1), (5, .int s.2.1), (6, .int s.2.2.1)] [] m ad h0 s.2.2.2 R) (fun r => K_eased_L46 l E m ad h0 R S x1 x2 x3 r) o)) : TX l E mX4_eased 6 46 [(0, .ref m), (1, .int x1), (2, .int x2), (3, .int x3), (4, .int x4), (5, .int x5), (6, .int x6)] [] m ad h0 S R := by
  unfold f_eased_L46 at hl
  refine tx_iload dX4_eased_46 rfl ?_
  refine tx_iload_n dX4_eased_48 rfl ?_
  refine tx_icmp_ge (tgt := 89) dX4_eased_49 (by decide) (fun c9 => ?_) (fun c9 => ?_)
  · rw [if_pos c9] at hl
    cases hl
    exact tx_lsK hK ⟨rfl, rfl, trivial⟩
  · rw [if_neg c9] at hl
    refine tx_aload_n dX4_eased_52 rfl rfl ?_
    refine tx_bipush (v := 43) dX4_eased_53 (by decide) ?_
    refine tx_iload_n dX4_eased_55 rfl ?_
    refine tx_iload_n dX4_eased_56 rfl ?_
    obtain ⟨r10, er10, hl⟩ := xb hl
    refine tx_callV (T_easesOf er10) lV_X4_326 C_X4_easesOf rfl dX4_eased_57 rfl (by decide) (Nat.le_of_ble_eq_true rfl) ?_
    obtain ⟨w11, ew11, hl⟩ := xb hl
    refine tx_top (Option.some.inj ew11) ?_
    refine tx_istore dX4_eased_60 (by decide) ?_
    refine tx_iload dX4_eased_62 rfl ?_
    refine tx_iload dX4_eased_64 rfl ?_
    refine tx_icmp_le (tgt := 77) dX4_eased_66 (by decide) (fun c12 => ?_) (fun c12 => ?_)
    · rw [if_pos c12] at hl
      refine tx_aload_n dX4_eased_77 rfl rfl ?_
      refine tx_bipush (v := 43) dX4_eased_78 (by decide) ?_
      obtain ⟨r13, er13, hl⟩ := xb hl
      refine tx_callV (T_dayGoes er13) lV_X4_336 C_X4_dayGoes rfl dX4_eased_80 rfl (by decide) (Nat.le_of_ble_eq_true rfl) ?_
      obtain ⟨w14, ew14, hl⟩ := xb hl
      refine tx_iinc dX4_eased_83 rfl (by decide) (Option.some.inj ew14) ?_
      refine tx_goto (tgt := 46) dX4_eased_86 (by decide) ?_
      cases hl
      exact tx_lsK hK ⟨rfl, rfl, rfl, rfl, rfl, rfl, rfl, trivial⟩
    · rw [if_neg c12] at hl
      refine tx_iload dX4_eased_69 rfl ?_
      refine tx_istore dX4_eased_71 (by decide) ?_
      refine tx_iload dX4_eased_73 rfl ?_
      refine tx_istore dX4_eased_75 (by decide) ?_
      refine tx_aload_n dX4_eased_77 rfl rfl ?_
      refine tx_bipush (v := 43) dX4_eased_78 (by decide) ?_
      obtain ⟨r15, er15, hl⟩ := xb hl
      refine tx_callV (T_dayGoes er15) lV_X4_336 C_X4_dayGoes rfl dX4_eased_80 rfl (by decide) (Nat.le_of_ble_eq_true rfl) ?_
      obtain ⟨w16, ew16, hl⟩ := xb hl
      refine tx_iinc dX4_eased_83 rfl (by decide) (Option.some.inj ew16) ?_
      refine tx_goto (tgt := 46) dX4_eased_86 (by decide) ?_
      cases hl
      exact tx_lsK hK ⟨rfl, rfl, rfl, rfl, rfl, rfl, rfl, trivial⟩
set_option maxHeartbeats 4000000 in
theorem f_eased_L46_ok {l : Launch} {E : XEnv} {m : Nat} {ad : Nat → Nat} {h0 : XH} {R : Option Value → TS → Prop} {n : Nat} {x1 : Int32} {x2 : Int32} {x3 : Int32} {S : TS} {s : Int32 × Int32 × Int32 × TS} {o : (Int32 × TS)} (hl : xloop (fun s => f_eased_L46 n x1 x2 x3 s.1 s.2.1 s.2.2.1 s.2.2.2) n s = some o) (hK : K_eased_L46 l E m ad h0 R S x1 x2 x3 o) : TX l E mX4_eased 6 46 [(0, .ref m), (1, .int x1), (2, .int x2), (3, .int x3), (4, .int s.1), (5, .int s.2.1), (6, .int s.2.2.1)] [] m ad h0 s.2.2.2 R :=
  xloop_of (fun s : Int32 × Int32 × Int32 × TS => TX l E mX4_eased 6 46 [(0, .ref m), (1, .int x1), (2, .int x2), (3, .int x3), (4, .int s.1), (5, .int s.2.1), (6, .int s.2.2.1)] [] m ad h0 s.2.2.2 R) (fun r => K_eased_L46 l E m ad h0 R S x1 x2 x3 r) (fun s o hl hk => f_eased_L46_s (S := s.2.2.2) (o := o) hl hk) n s o hl hK
set_option maxHeartbeats 4000000 in
theorem T_eased {l : Launch} {E : XEnv} {m : Nat} {ad : Nat → Nat} {n : Nat} {x1 : Int32} {x2 : Int32} {x3 : Int32} {S : TS} {r : Int32 × TS} (hl : f_eased n x1 x2 x3 S = some r) : TM l E mX4_eased 6 m ad [.ref m, .int x1, .int x2, .int x3] S (some (.int r.1)) r.2 := by
  unfold f_eased at hl
  refine tm_of (by decide +kernel) rfl (Nat.le_of_ble_eq_true rfl) fun h0 => ?_
  refine tx_aload_n dX4_eased_0 rfl rfl ?_
  refine tx_iconst (v := 0) dX4_eased_1 rfl ?_
  obtain ⟨S1, eS1, hl⟩ := xb hl
  refine tx_putI pF_X4_111 dX4_eased_2 (by decide) rfl rfl (Option.some.inj eS1) ?_
  refine tx_aload_n dX4_eased_5 rfl rfl ?_
  refine tx_iload_n dX4_eased_6 rfl ?_
  obtain ⟨r2, er2, hl⟩ := xb hl
  refine tx_callV (T_isPerson er2) lV_X4_379 C_X4_isPerson rfl dX4_eased_7 rfl (by decide) (Nat.le_of_ble_eq_true rfl) ?_
  refine tx_if_eq (tgt := 31) dX4_eased_10 (by decide) (fun c3 => ?_) (fun c3 => ?_)
  · rw [if_pos c3] at hl
    refine tx_iconst (v := 0) dX4_eased_31 rfl ?_
    cases hl
    exact tx_iret dX4_eased_32 rfl rfl ⟨rfl, rfl⟩
  · rw [if_neg c3] at hl
    refine tx_aload_n dX4_eased_13 rfl rfl ?_
    refine tx_iload_n dX4_eased_14 rfl ?_
    obtain ⟨r4, er4, hl⟩ := xb hl
    refine tx_callV (T_isHouse er4) lV_X4_367 C_X4_isHouse rfl dX4_eased_15 rfl (by decide) (Nat.le_of_ble_eq_true rfl) ?_
    refine tx_if_eq (tgt := 31) dX4_eased_18 (by decide) (fun c5 => ?_) (fun c5 => ?_)
    · rw [if_pos c5] at hl
      refine tx_iconst (v := 0) dX4_eased_31 rfl ?_
      cases hl
      exact tx_iret dX4_eased_32 rfl rfl ⟨rfl, rfl⟩
    · rw [if_neg c5] at hl
      refine tx_aload_n dX4_eased_21 rfl rfl ?_
      refine tx_iload_n dX4_eased_22 rfl ?_
      refine tx_iconst (v := 1) dX4_eased_23 rfl ?_
      refine tx_iconst (v := 2) dX4_eased_24 rfl ?_
      obtain ⟨r6, er6, hl⟩ := xb hl
      refine tx_callV (T_isDays er6) lV_X4_397 C_X4_isDays rfl dX4_eased_25 rfl (by decide) (Nat.le_of_ble_eq_true rfl) ?_
      refine tx_if_ne (tgt := 33) dX4_eased_28 (by decide) (fun c7 => ?_) (fun c7 => ?_)
      · rw [if_neg c7] at hl
        refine tx_iconst (v := (-1)) dX4_eased_33 rfl ?_
        refine tx_istore dX4_eased_34 (by decide) ?_
        refine tx_iconst (v := (-1)) dX4_eased_36 rfl ?_
        refine tx_istore dX4_eased_37 (by decide) ?_
        refine tx_aload_n dX4_eased_39 rfl rfl ?_
        obtain ⟨r8, er8, hl⟩ := xb hl
        refine tx_callV (T_tries er8) lV_X4_391 C_X4_tries rfl dX4_eased_40 rfl (by decide) (Nat.le_of_ble_eq_true rfl) ?_
        refine tx_iconst (v := 0) dX4_eased_43 rfl ?_
        refine tx_istore dX4_eased_44 (by decide) ?_
        obtain ⟨o17, eo17, hl⟩ := xb hl
        refine tx_lsK (f_eased_L46_ok (S := r8) (s := ((-1), (-1), 0, r8)) eo17 ?_) ⟨rfl, rfl, rfl, rfl, rfl, rfl, rfl, trivial⟩
        refine tx_iload dX4_eased_89 rfl ?_
        cases hl
        exact tx_iret dX4_eased_91 rfl rfl ⟨rfl, rfl⟩
      · rw [if_pos c7] at hl
        refine tx_iconst (v := 0) dX4_eased_31 rfl ?_
        cases hl
        exact tx_iret dX4_eased_32 rfl rfl ⟨rfl, rfl⟩
def f_free_L19 (n : Nat) (x1 : Int32) (x2 : Int32) (x3 : Int32) (S : TS) : Option ((Int32 × Int32 × TS) ⊕ ((Int32 × TS))) := if x3 ≥ (S.1 1) then some (.inr (x2, S)) else (trd S 41 ((19 : Int32) + x3)).bind fun v5 => if v5 = (-1) then (f_wouldGo n 0 x1 x3 S).bind fun r8 => if r8.1 = 0 then (some (x3 + 1)).bind fun w10 => some (.inl (x2, w10, r8.2)) else if x2 = (-1) then (some (x3 + 1)).bind fun w12 => some (.inl (x3, w12, r8.2)) else (f_tightOf 0 x1 x3 r8.2).bind fun r13 => (f_tightOf 0 x1 x2 r8.2).bind fun r14 => if r13 ≥ r14 then (some (x3 + 1)).bind fun w16 => some (.inl (x2, w16, r8.2)) else (some (x3 + 1)).bind fun w17 => some (.inl (x3, w17, r8.2)) else (some (x3 + 1)).bind fun w7 => some (.inl (x2, w7, S))
abbrev K_free_L19 (l : Launch) (E : XEnv) (m : Nat) (ad : Nat → Nat) (h0 : XH) (R : Option Value → TS → Prop) (S : TS) (x1 : Int32) (o : (Int32 × TS)) : Prop := match o with
  | e => TX l E mX4_free 6 80 [(0, .ref m), (2, .int e.1)] [] m ad h0 e.2 R
def f_free (n : Nat) (x1 : Int32) (S : TS) : Option (Int32 × TS) := (some (tpF S 0 0)).bind fun S1 => (f_isPerson x1 S1).bind fun r2 => if r2.1 = 0 then some (0, r2.2) else (xloop (fun s => f_free_L19 n x1 s.1 s.2.1 s.2.2) n ((-1), 0, r2.2)).bind fun o18 => some (o18.1, o18.2)
set_option maxHeartbeats 4000000 in
theorem f_free_L19_s {l : Launch} {E : XEnv} {m : Nat} {ad : Nat → Nat} {h0 : XH} {R : Option Value → TS → Prop} {n : Nat} {x1 : Int32} {x2 : Int32} {x3 : Int32} {S : TS} {o : (Int32 × Int32 × TS) ⊕ ((Int32 × TS))} (hl : f_free_L19 n x1 x2 x3 S = some o) (hK : (xk (fun s : Int32 × Int32 × TS => TX l E mX4_free 6 19 [(0, .ref m), (1, .int x1), (2, .int s.1), (3, .int s.2.1)] [] m ad h0 s.2.2 R) (fun r => K_free_L19 l E m ad h0 R S x1 r) o)) : TX l E mX4_free 6 19 [(0, .ref m), (1, .int x1), (2, .int x2), (3, .int x3)] [] m ad h0 S R := by
  unfold f_free_L19 at hl
  refine tx_iload_n dX4_free_19 rfl ?_
  refine tx_aload_n dX4_free_20 rfl rfl ?_
  refine tx_getI gF_X4_275 dX4_free_21 (by decide) ?_
  refine tx_icmp_ge (tgt := 80) dX4_free_24 (by decide) (fun c4 => ?_) (fun c4 => ?_)
  · rw [if_pos c4] at hl
    cases hl
    exact tx_lsK hK ⟨rfl, rfl, trivial⟩
  · rw [if_neg c4] at hl
    refine tx_aload_n dX4_free_27 rfl rfl ?_
    refine tx_getA gF_X4_66 dX4_free_28 (by decide) ?_
    refine tx_bipush (v := 19) dX4_free_31 (by decide) ?_
    refine tx_iload_n dX4_free_33 rfl ?_
    refine tx_iadd dX4_free_34 ?_
    obtain ⟨v5, ev5, hl⟩ := xb hl
    refine tx_iald (by decide) dX4_free_35 ev5 ?_
    refine tx_iconst (v := (-1)) dX4_free_36 rfl ?_
    refine tx_icmp_ne (tgt := 74) dX4_free_37 (by decide) (fun c6 => ?_) (fun c6 => ?_)
    · rw [if_neg c6] at hl
      obtain ⟨w7, ew7, hl⟩ := xb hl
      refine tx_iinc dX4_free_74 rfl (by decide) (Option.some.inj ew7) ?_
      refine tx_goto (tgt := 19) dX4_free_77 (by decide) ?_
      cases hl
      exact tx_lsK hK ⟨rfl, rfl, rfl, rfl, trivial⟩
    · rw [if_pos c6] at hl
      refine tx_aload_n dX4_free_40 rfl rfl ?_
      refine tx_iconst (v := 0) dX4_free_41 rfl ?_
      refine tx_iload_n dX4_free_42 rfl ?_
      refine tx_iload_n dX4_free_43 rfl ?_
      obtain ⟨r8, er8, hl⟩ := xb hl
      refine tx_callV (T_wouldGo er8) lV_X4_388 C_X4_wouldGo rfl dX4_free_44 rfl (by decide) (Nat.le_of_ble_eq_true rfl) ?_
      refine tx_if_eq (tgt := 74) dX4_free_47 (by decide) (fun c9 => ?_) (fun c9 => ?_)
      · rw [if_pos c9] at hl
        obtain ⟨w10, ew10, hl⟩ := xb hl
        refine tx_iinc dX4_free_74 rfl (by decide) (Option.some.inj ew10) ?_
        refine tx_goto (tgt := 19) dX4_free_77 (by decide) ?_
        cases hl
        exact tx_lsK hK ⟨rfl, rfl, rfl, rfl, trivial⟩
      · rw [if_neg c9] at hl
        refine tx_iload_n dX4_free_50 rfl ?_
        refine tx_iconst (v := (-1)) dX4_free_51 rfl ?_
        refine tx_icmp_eq (tgt := 72) dX4_free_52 (by decide) (fun c11 => ?_) (fun c11 => ?_)
        · rw [if_pos c11] at hl
          refine tx_iload_n dX4_free_72 rfl ?_
          refine tx_istore_n dX4_free_73 (by decide) ?_
          obtain ⟨w12, ew12, hl⟩ := xb hl
          refine tx_iinc dX4_free_74 rfl (by decide) (Option.some.inj ew12) ?_
          refine tx_goto (tgt := 19) dX4_free_77 (by decide) ?_
          cases hl
          exact tx_lsK hK ⟨rfl, rfl, rfl, rfl, trivial⟩
        · rw [if_neg c11] at hl
          refine tx_aload_n dX4_free_55 rfl rfl ?_
          refine tx_iconst (v := 0) dX4_free_56 rfl ?_
          refine tx_iload_n dX4_free_57 rfl ?_
          refine tx_iload_n dX4_free_58 rfl ?_
          obtain ⟨r13, er13, hl⟩ := xb hl
          refine tx_callV (T_tightOf er13) lV_X4_312 C_X4_tightOf rfl dX4_free_59 rfl (by decide) (Nat.le_of_ble_eq_true rfl) ?_
          refine tx_aload_n dX4_free_62 rfl rfl ?_
          refine tx_iconst (v := 0) dX4_free_63 rfl ?_
          refine tx_iload_n dX4_free_64 rfl ?_
          refine tx_iload_n dX4_free_65 rfl ?_
          obtain ⟨r14, er14, hl⟩ := xb hl
          refine tx_callV (T_tightOf er14) lV_X4_312 C_X4_tightOf rfl dX4_free_66 rfl (by decide) (Nat.le_of_ble_eq_true rfl) ?_
          refine tx_icmp_ge (tgt := 74) dX4_free_69 (by decide) (fun c15 => ?_) (fun c15 => ?_)
          · rw [if_pos c15] at hl
            obtain ⟨w16, ew16, hl⟩ := xb hl
            refine tx_iinc dX4_free_74 rfl (by decide) (Option.some.inj ew16) ?_
            refine tx_goto (tgt := 19) dX4_free_77 (by decide) ?_
            cases hl
            exact tx_lsK hK ⟨rfl, rfl, rfl, rfl, trivial⟩
          · rw [if_neg c15] at hl
            refine tx_iload_n dX4_free_72 rfl ?_
            refine tx_istore_n dX4_free_73 (by decide) ?_
            obtain ⟨w17, ew17, hl⟩ := xb hl
            refine tx_iinc dX4_free_74 rfl (by decide) (Option.some.inj ew17) ?_
            refine tx_goto (tgt := 19) dX4_free_77 (by decide) ?_
            cases hl
            exact tx_lsK hK ⟨rfl, rfl, rfl, rfl, trivial⟩
set_option maxHeartbeats 4000000 in
theorem f_free_L19_ok {l : Launch} {E : XEnv} {m : Nat} {ad : Nat → Nat} {h0 : XH} {R : Option Value → TS → Prop} {n : Nat} {x1 : Int32} {S : TS} {s : Int32 × Int32 × TS} {o : (Int32 × TS)} (hl : xloop (fun s => f_free_L19 n x1 s.1 s.2.1 s.2.2) n s = some o) (hK : K_free_L19 l E m ad h0 R S x1 o) : TX l E mX4_free 6 19 [(0, .ref m), (1, .int x1), (2, .int s.1), (3, .int s.2.1)] [] m ad h0 s.2.2 R :=
  xloop_of (fun s : Int32 × Int32 × TS => TX l E mX4_free 6 19 [(0, .ref m), (1, .int x1), (2, .int s.1), (3, .int s.2.1)] [] m ad h0 s.2.2 R) (fun r => K_free_L19 l E m ad h0 R S x1 r) (fun s o hl hk => f_free_L19_s (S := s.2.2) (o := o) hl hk) n s o hl hK
set_option maxHeartbeats 4000000 in
theorem T_free {l : Launch} {E : XEnv} {m : Nat} {ad : Nat → Nat} {n : Nat} {x1 : Int32} {S : TS} {r : Int32 × TS} (hl : f_free n x1 S = some r) : TM l E mX4_free 6 m ad [.ref m, .int x1] S (some (.int r.1)) r.2 := by
  unfold f_free at hl
  refine tm_of (by decide +kernel) rfl (Nat.le_of_ble_eq_true rfl) fun h0 => ?_
  refine tx_aload_n dX4_free_0 rfl rfl ?_
  refine tx_iconst (v := 0) dX4_free_1 rfl ?_
  obtain ⟨S1, eS1, hl⟩ := xb hl
  refine tx_putI pF_X4_111 dX4_free_2 (by decide) rfl rfl (Option.some.inj eS1) ?_
  refine tx_aload_n dX4_free_5 rfl rfl ?_
  refine tx_iload_n dX4_free_6 rfl ?_
  obtain ⟨r2, er2, hl⟩ := xb hl
  refine tx_callV (T_isPerson er2) lV_X4_379 C_X4_isPerson rfl dX4_free_7 rfl (by decide) (Nat.le_of_ble_eq_true rfl) ?_
  refine tx_if_ne (tgt := 15) dX4_free_10 (by decide) (fun c3 => ?_) (fun c3 => ?_)
  · rw [if_neg c3] at hl
    refine tx_iconst (v := (-1)) dX4_free_15 rfl ?_
    refine tx_istore_n dX4_free_16 (by decide) ?_
    refine tx_iconst (v := 0) dX4_free_17 rfl ?_
    refine tx_istore_n dX4_free_18 (by decide) ?_
    obtain ⟨o18, eo18, hl⟩ := xb hl
    refine tx_lsK (f_free_L19_ok (S := r2.2) (s := ((-1), 0, r2.2)) eo18 ?_) ⟨rfl, rfl, rfl, rfl, trivial⟩
    refine tx_iload_n dX4_free_80 rfl ?_
    cases hl
    exact tx_iret dX4_free_81 rfl rfl ⟨rfl, rfl⟩
  · rw [if_pos c3] at hl
    refine tx_iconst (v := 0) dX4_free_13 rfl ?_
    cases hl
    exact tx_iret dX4_free_14 rfl rfl ⟨rfl, rfl⟩
def f_larger_L19 (n : Nat) (x1 : Int32) (x2 : Int32) (x3 : Int32) (S : TS) : Option ((Int32 × Int32 × TS) ⊕ ((Int32 × TS))) := if x3 ≥ (S.1 2) then some (.inr (x2, S)) else (trd S 41 ((27 : Int32) + x3)).bind fun v5 => (trd S 41 ((27 : Int32) + x1)).bind fun v6 => if v5 ≤ v6 then (some (x2 + 0)).bind fun w8 => (some (x3 + 1)).bind fun w9 => some (.inl (w8, w9, S)) else (some (x2 + 1)).bind fun w10 => (some (x3 + 1)).bind fun w11 => some (.inl (w10, w11, S))
abbrev K_larger_L19 (l : Launch) (E : XEnv) (m : Nat) (ad : Nat → Nat) (h0 : XH) (R : Option Value → TS → Prop) (S : TS) (x1 : Int32) (o : (Int32 × TS)) : Prop := match o with
  | e => TX l E mX4_larger 3 62 [(0, .ref m), (2, .int e.1)] [] m ad h0 e.2 R
def f_larger (n : Nat) (x1 : Int32) (S : TS) : Option (Int32 × TS) := (some (tpF S 0 0)).bind fun S1 => (f_isPerson x1 S1).bind fun r2 => if r2.1 = 0 then some (0, r2.2) else (xloop (fun s => f_larger_L19 n x1 s.1 s.2.1 s.2.2) n (0, 0, r2.2)).bind fun o12 => some (o12.1, o12.2)
set_option maxHeartbeats 4000000 in
theorem f_larger_L19_s {l : Launch} {E : XEnv} {m : Nat} {ad : Nat → Nat} {h0 : XH} {R : Option Value → TS → Prop} {n : Nat} {x1 : Int32} {x2 : Int32} {x3 : Int32} {S : TS} {o : (Int32 × Int32 × TS) ⊕ ((Int32 × TS))} (hl : f_larger_L19 n x1 x2 x3 S = some o) (hK : (xk (fun s : Int32 × Int32 × TS => TX l E mX4_larger 3 19 [(0, .ref m), (1, .int x1), (2, .int s.1), (3, .int s.2.1)] [] m ad h0 s.2.2 R) (fun r => K_larger_L19 l E m ad h0 R S x1 r) o)) : TX l E mX4_larger 3 19 [(0, .ref m), (1, .int x1), (2, .int x2), (3, .int x3)] [] m ad h0 S R := by
  unfold f_larger_L19 at hl
  refine tx_iload_n dX4_larger_19 rfl ?_
  refine tx_aload_n dX4_larger_20 rfl rfl ?_
  refine tx_getI gF_X4_278 dX4_larger_21 (by decide) ?_
  refine tx_icmp_ge (tgt := 62) dX4_larger_24 (by decide) (fun c4 => ?_) (fun c4 => ?_)
  · rw [if_pos c4] at hl
    cases hl
    exact tx_lsK hK ⟨rfl, rfl, trivial⟩
  · rw [if_neg c4] at hl
    refine tx_iload_n dX4_larger_27 rfl ?_
    refine tx_aload_n dX4_larger_28 rfl rfl ?_
    refine tx_getA gF_X4_66 dX4_larger_29 (by decide) ?_
    refine tx_bipush (v := 27) dX4_larger_32 (by decide) ?_
    refine tx_iload_n dX4_larger_34 rfl ?_
    refine tx_iadd dX4_larger_35 ?_
    obtain ⟨v5, ev5, hl⟩ := xb hl
    refine tx_iald (by decide) dX4_larger_36 ev5 ?_
    refine tx_aload_n dX4_larger_37 rfl rfl ?_
    refine tx_getA gF_X4_66 dX4_larger_38 (by decide) ?_
    refine tx_bipush (v := 27) dX4_larger_41 (by decide) ?_
    refine tx_iload_n dX4_larger_43 rfl ?_
    refine tx_iadd dX4_larger_44 ?_
    obtain ⟨v6, ev6, hl⟩ := xb hl
    refine tx_iald (by decide) dX4_larger_45 ev6 ?_
    refine tx_icmp_le (tgt := 53) dX4_larger_46 (by decide) (fun c7 => ?_) (fun c7 => ?_)
    · rw [if_pos c7] at hl
      refine tx_iconst (v := 0) dX4_larger_53 rfl ?_
      refine tx_iadd dX4_larger_54 ?_
      obtain ⟨w8, ew8, hl⟩ := xb hl
      refine tx_top (Option.some.inj ew8) ?_
      refine tx_istore_n dX4_larger_55 (by decide) ?_
      obtain ⟨w9, ew9, hl⟩ := xb hl
      refine tx_iinc dX4_larger_56 rfl (by decide) (Option.some.inj ew9) ?_
      refine tx_goto (tgt := 19) dX4_larger_59 (by decide) ?_
      cases hl
      exact tx_lsK hK ⟨rfl, rfl, rfl, rfl, trivial⟩
    · rw [if_neg c7] at hl
      refine tx_iconst (v := 1) dX4_larger_49 rfl ?_
      refine tx_goto (tgt := 54) dX4_larger_50 (by decide) ?_
      refine tx_iadd dX4_larger_54 ?_
      obtain ⟨w10, ew10, hl⟩ := xb hl
      refine tx_top (Option.some.inj ew10) ?_
      refine tx_istore_n dX4_larger_55 (by decide) ?_
      obtain ⟨w11, ew11, hl⟩ := xb hl
      refine tx_iinc dX4_larger_56 rfl (by decide) (Option.some.inj ew11) ?_
      refine tx_goto (tgt := 19) dX4_larger_59 (by decide) ?_
      cases hl
      exact tx_lsK hK ⟨rfl, rfl, rfl, rfl, trivial⟩
set_option maxHeartbeats 4000000 in
theorem f_larger_L19_ok {l : Launch} {E : XEnv} {m : Nat} {ad : Nat → Nat} {h0 : XH} {R : Option Value → TS → Prop} {n : Nat} {x1 : Int32} {S : TS} {s : Int32 × Int32 × TS} {o : (Int32 × TS)} (hl : xloop (fun s => f_larger_L19 n x1 s.1 s.2.1 s.2.2) n s = some o) (hK : K_larger_L19 l E m ad h0 R S x1 o) : TX l E mX4_larger 3 19 [(0, .ref m), (1, .int x1), (2, .int s.1), (3, .int s.2.1)] [] m ad h0 s.2.2 R :=
  xloop_of (fun s : Int32 × Int32 × TS => TX l E mX4_larger 3 19 [(0, .ref m), (1, .int x1), (2, .int s.1), (3, .int s.2.1)] [] m ad h0 s.2.2 R) (fun r => K_larger_L19 l E m ad h0 R S x1 r) (fun s o hl hk => f_larger_L19_s (S := s.2.2) (o := o) hl hk) n s o hl hK
set_option maxHeartbeats 4000000 in
theorem T_larger {l : Launch} {E : XEnv} {m : Nat} {ad : Nat → Nat} {n : Nat} {x1 : Int32} {S : TS} {r : Int32 × TS} (hl : f_larger n x1 S = some r) : TM l E mX4_larger 3 m ad [.ref m, .int x1] S (some (.int r.1)) r.2 := by
  unfold f_larger at hl
  refine tm_of (by decide +kernel) rfl (Nat.le_of_ble_eq_true rfl) fun h0 => ?_
  refine tx_aload_n dX4_larger_0 rfl rfl ?_
  refine tx_iconst (v := 0) dX4_larger_1 rfl ?_
  obtain ⟨S1, eS1, hl⟩ := xb hl
  refine tx_putI pF_X4_111 dX4_larger_2 (by decide) rfl rfl (Option.some.inj eS1) ?_
  refine tx_aload_n dX4_larger_5 rfl rfl ?_
  refine tx_iload_n dX4_larger_6 rfl ?_
  obtain ⟨r2, er2, hl⟩ := xb hl
  refine tx_callV (T_isPerson er2) lV_X4_379 C_X4_isPerson rfl dX4_larger_7 rfl (by decide) (Nat.le_of_ble_eq_true rfl) ?_
  refine tx_if_ne (tgt := 15) dX4_larger_10 (by decide) (fun c3 => ?_) (fun c3 => ?_)
  · rw [if_neg c3] at hl
    refine tx_iconst (v := 0) dX4_larger_15 rfl ?_
    refine tx_istore_n dX4_larger_16 (by decide) ?_
    refine tx_iconst (v := 0) dX4_larger_17 rfl ?_
    refine tx_istore_n dX4_larger_18 (by decide) ?_
    obtain ⟨o12, eo12, hl⟩ := xb hl
    refine tx_lsK (f_larger_L19_ok (S := r2.2) (s := (0, 0, r2.2)) eo12 ?_) ⟨rfl, rfl, rfl, rfl, trivial⟩
    refine tx_iload_n dX4_larger_62 rfl ?_
    cases hl
    exact tx_iret dX4_larger_63 rfl rfl ⟨rfl, rfl⟩
  · rw [if_pos c3] at hl
    refine tx_iconst (v := 0) dX4_larger_13 rfl ?_
    cases hl
    exact tx_iret dX4_larger_14 rfl rfl ⟨rfl, rfl⟩
def f_wide_L26 (n : Nat) (x1 : Int32) (x2 : Int32) (x3 : Int32) (S : TS) : Option ((Int32 × Int32 × TS) ⊕ ((Int32 × TS))) := if x3 ≥ (S.1 1) then some (.inr (x2, S)) else (f_isBurst 0 x3 S).bind fun r6 => if r6 = 0 then (trd S 41 ((3 : Int32) + x3)).bind fun v10 => if v10 < x1 then (some (x2 ||| 0)).bind fun w12 => (some (x3 + 1)).bind fun w13 => some (.inl (w12, w13, S)) else (some (x2 ||| ((1 : Int32) <<< ((x3 : Int32) &&& 31)))).bind fun w14 => (some (x3 + 1)).bind fun w15 => some (.inl (w14, w15, S)) else (some (x2 ||| 0)).bind fun w8 => (some (x3 + 1)).bind fun w9 => some (.inl (w8, w9, S))
abbrev K_wide_L26 (l : Launch) (E : XEnv) (m : Nat) (ad : Nat → Nat) (h0 : XH) (R : Option Value → TS → Prop) (S : TS) (x1 : Int32) (o : (Int32 × TS)) : Prop := match o with
  | e => TX l E mX4_wide 2 71 [(0, .ref m), (2, .int e.1)] [] m ad h0 e.2 R
def f_wide (n : Nat) (x1 : Int32) (S : TS) : Option (Int32 × TS) := (some (tpF S 0 0)).bind fun S1 => (f_within x1 1 60).bind fun r2 => (f_right r2 1 S1).bind fun r3 => if r3.1 = 0 then some (0, r3.2) else (xloop (fun s => f_wide_L26 n x1 s.1 s.2.1 s.2.2) n (0, 0, r3.2)).bind fun o16 => some (o16.1, o16.2)
set_option maxHeartbeats 4000000 in
theorem f_wide_L26_s {l : Launch} {E : XEnv} {m : Nat} {ad : Nat → Nat} {h0 : XH} {R : Option Value → TS → Prop} {n : Nat} {x1 : Int32} {x2 : Int32} {x3 : Int32} {S : TS} {o : (Int32 × Int32 × TS) ⊕ ((Int32 × TS))} (hl : f_wide_L26 n x1 x2 x3 S = some o) (hK : (xk (fun s : Int32 × Int32 × TS => TX l E mX4_wide 2 26 [(0, .ref m), (1, .int x1), (2, .int s.1), (3, .int s.2.1)] [] m ad h0 s.2.2 R) (fun r => K_wide_L26 l E m ad h0 R S x1 r) o)) : TX l E mX4_wide 2 26 [(0, .ref m), (1, .int x1), (2, .int x2), (3, .int x3)] [] m ad h0 S R := by
  unfold f_wide_L26 at hl
  refine tx_iload_n dX4_wide_26 rfl ?_
  refine tx_aload_n dX4_wide_27 rfl rfl ?_
  refine tx_getI gF_X4_275 dX4_wide_28 (by decide) ?_
  refine tx_icmp_ge (tgt := 71) dX4_wide_31 (by decide) (fun c5 => ?_) (fun c5 => ?_)
  · rw [if_pos c5] at hl
    cases hl
    exact tx_lsK hK ⟨rfl, rfl, trivial⟩
  · rw [if_neg c5] at hl
    refine tx_iload_n dX4_wide_34 rfl ?_
    refine tx_aload_n dX4_wide_35 rfl rfl ?_
    refine tx_iconst (v := 0) dX4_wide_36 rfl ?_
    refine tx_iload_n dX4_wide_37 rfl ?_
    obtain ⟨r6, er6, hl⟩ := xb hl
    refine tx_callV (T_isBurst er6) lV_X4_322 C_X4_isBurst rfl dX4_wide_38 rfl (by decide) (Nat.le_of_ble_eq_true rfl) ?_
    refine tx_if_ne (tgt := 62) dX4_wide_41 (by decide) (fun c7 => ?_) (fun c7 => ?_)
    · rw [if_neg c7] at hl
      refine tx_iconst (v := 0) dX4_wide_62 rfl ?_
      refine tx_ior dX4_wide_63 ?_
      obtain ⟨w8, ew8, hl⟩ := xb hl
      refine tx_top (Option.some.inj ew8) ?_
      refine tx_istore_n dX4_wide_64 (by decide) ?_
      obtain ⟨w9, ew9, hl⟩ := xb hl
      refine tx_iinc dX4_wide_65 rfl (by decide) (Option.some.inj ew9) ?_
      refine tx_goto (tgt := 26) dX4_wide_68 (by decide) ?_
      cases hl
      exact tx_lsK hK ⟨rfl, rfl, rfl, rfl, trivial⟩
    · rw [if_pos c7] at hl
      refine tx_aload_n dX4_wide_44 rfl rfl ?_
      refine tx_getA gF_X4_66 dX4_wide_45 (by decide) ?_
      refine tx_iconst (v := 3) dX4_wide_48 rfl ?_
      refine tx_iload_n dX4_wide_49 rfl ?_
      refine tx_iadd dX4_wide_50 ?_
      obtain ⟨v10, ev10, hl⟩ := xb hl
      refine tx_iald (by decide) dX4_wide_51 ev10 ?_
      refine tx_iload_n dX4_wide_52 rfl ?_
      refine tx_icmp_lt (tgt := 62) dX4_wide_53 (by decide) (fun c11 => ?_) (fun c11 => ?_)
      · rw [if_pos c11] at hl
        refine tx_iconst (v := 0) dX4_wide_62 rfl ?_
        refine tx_ior dX4_wide_63 ?_
        obtain ⟨w12, ew12, hl⟩ := xb hl
        refine tx_top (Option.some.inj ew12) ?_
        refine tx_istore_n dX4_wide_64 (by decide) ?_
        obtain ⟨w13, ew13, hl⟩ := xb hl
        refine tx_iinc dX4_wide_65 rfl (by decide) (Option.some.inj ew13) ?_
        refine tx_goto (tgt := 26) dX4_wide_68 (by decide) ?_
        cases hl
        exact tx_lsK hK ⟨rfl, rfl, rfl, rfl, trivial⟩
      · rw [if_neg c11] at hl
        refine tx_iconst (v := 1) dX4_wide_56 rfl ?_
        refine tx_iload_n dX4_wide_57 rfl ?_
        refine tx_ishl dX4_wide_58 ?_
        refine tx_goto (tgt := 63) dX4_wide_59 (by decide) ?_
        refine tx_ior dX4_wide_63 ?_
        obtain ⟨w14, ew14, hl⟩ := xb hl
        refine tx_top (Option.some.inj ew14) ?_
        refine tx_istore_n dX4_wide_64 (by decide) ?_
        obtain ⟨w15, ew15, hl⟩ := xb hl
        refine tx_iinc dX4_wide_65 rfl (by decide) (Option.some.inj ew15) ?_
        refine tx_goto (tgt := 26) dX4_wide_68 (by decide) ?_
        cases hl
        exact tx_lsK hK ⟨rfl, rfl, rfl, rfl, trivial⟩
set_option maxHeartbeats 4000000 in
theorem f_wide_L26_ok {l : Launch} {E : XEnv} {m : Nat} {ad : Nat → Nat} {h0 : XH} {R : Option Value → TS → Prop} {n : Nat} {x1 : Int32} {S : TS} {s : Int32 × Int32 × TS} {o : (Int32 × TS)} (hl : xloop (fun s => f_wide_L26 n x1 s.1 s.2.1 s.2.2) n s = some o) (hK : K_wide_L26 l E m ad h0 R S x1 o) : TX l E mX4_wide 2 26 [(0, .ref m), (1, .int x1), (2, .int s.1), (3, .int s.2.1)] [] m ad h0 s.2.2 R :=
  xloop_of (fun s : Int32 × Int32 × TS => TX l E mX4_wide 2 26 [(0, .ref m), (1, .int x1), (2, .int s.1), (3, .int s.2.1)] [] m ad h0 s.2.2 R) (fun r => K_wide_L26 l E m ad h0 R S x1 r) (fun s o hl hk => f_wide_L26_s (S := s.2.2) (o := o) hl hk) n s o hl hK
set_option maxHeartbeats 4000000 in
theorem T_wide {l : Launch} {E : XEnv} {m : Nat} {ad : Nat → Nat} {n : Nat} {x1 : Int32} {S : TS} {r : Int32 × TS} (hl : f_wide n x1 S = some r) : TM l E mX4_wide 2 m ad [.ref m, .int x1] S (some (.int r.1)) r.2 := by
  unfold f_wide at hl
  refine tm_of (by decide +kernel) rfl (Nat.le_of_ble_eq_true rfl) fun h0 => ?_
  refine tx_aload_n dX4_wide_0 rfl rfl ?_
  refine tx_iconst (v := 0) dX4_wide_1 rfl ?_
  obtain ⟨S1, eS1, hl⟩ := xb hl
  refine tx_putI pF_X4_111 dX4_wide_2 (by decide) rfl rfl (Option.some.inj eS1) ?_
  refine tx_aload_n dX4_wide_5 rfl rfl ?_
  refine tx_iload_n dX4_wide_6 rfl ?_
  refine tx_iconst (v := 1) dX4_wide_7 rfl ?_
  refine tx_bipush (v := 60) dX4_wide_8 (by decide) ?_
  obtain ⟨r2, er2, hl⟩ := xb hl
  refine tx_callS (T_within er2) lS_X4_345 C_X4_within dX4_wide_10 rfl (by decide) (Nat.le_of_ble_eq_true rfl) ?_
  refine tx_iconst (v := 1) dX4_wide_13 rfl ?_
  obtain ⟨r3, er3, hl⟩ := xb hl
  refine tx_callV (T_right er3) lV_X4_268 C_X4_right rfl dX4_wide_14 rfl (by decide) (Nat.le_of_ble_eq_true rfl) ?_
  refine tx_if_ne (tgt := 22) dX4_wide_17 (by decide) (fun c4 => ?_) (fun c4 => ?_)
  · rw [if_neg c4] at hl
    refine tx_iconst (v := 0) dX4_wide_22 rfl ?_
    refine tx_istore_n dX4_wide_23 (by decide) ?_
    refine tx_iconst (v := 0) dX4_wide_24 rfl ?_
    refine tx_istore_n dX4_wide_25 (by decide) ?_
    obtain ⟨o16, eo16, hl⟩ := xb hl
    refine tx_lsK (f_wide_L26_ok (S := r3.2) (s := (0, 0, r3.2)) eo16 ?_) ⟨rfl, rfl, rfl, rfl, trivial⟩
    refine tx_iload_n dX4_wide_71 rfl ?_
    cases hl
    exact tx_iret dX4_wide_72 rfl rfl ⟨rfl, rfl⟩
  · rw [if_pos c4] at hl
    refine tx_iconst (v := 0) dX4_wide_20 rfl ?_
    cases hl
    exact tx_iret dX4_wide_21 rfl rfl ⟨rfl, rfl⟩
def f_endures_L73 (n : Nat) (x2 : Int32) (x4 : Int32) (S : TS) : Option ((Int32 × TS) ⊕ ((TS) ⊕ (Int32 × TS))) := if x4 > 40 then some (.inr (.inl S)) else (f_dayGoes n 43 S).bind fun r13 => (f_isBurst 43 x2 r13).bind fun r14 => if r14 = 0 then (some (x4 + 1)).bind fun w16 => some (.inl (w16, r13)) else some (.inr (.inr (x4, r13)))
abbrev K_endures_L73 (l : Launch) (E : XEnv) (m : Nat) (ad : Nat → Nat) (h0 : XH) (R : Option Value → TS → Prop) (S : TS) (x2 : Int32) (o : (TS) ⊕ (Int32 × TS)) : Prop := match o with
  | .inl e => TX l E mX4_endures 6 105 [(0, .ref m)] [] m ad h0 e R
  | .inr e => TX l E mX4_endures 6 96 [(0, .ref m), (4, .int e.1)] [] m ad h0 e.2 R
def f_endures_J60 (n : Nat) (x1 : Int32) (x2 : Int32) (S : TS) : Option (Int32 × TS) := (twr S 41 ((62 : Int32) + x2) x1).bind fun S11 => (xloop (fun s => f_endures_L73 n x2 s.1 s.2) n (1, S11)).bind fun o17 => match o17 with | .inl e18 => (some ((-1), e18)) | .inr e19 => (some (e19.1, e19.2))
def f_endures (n : Nat) (x1 : Int32) (x2 : Int32) (S : TS) : Option (Int32 × TS) := (some (tpF S 0 0)).bind fun S1 => (f_isPerson x1 S1).bind fun r2 => if r2.1 = 0 then some (0, r2.2) else (f_isHouse x2 r2.2).bind fun r4 => if r4.1 = 0 then some (0, r4.2) else (f_isBurst 0 x2 r4.2).bind fun r6 => if r6 = 0 then (f_tries n r4.2).bind fun r8 => (f_houseOf n 0 x1 r8).bind fun r9 => if r9 = (-1) then f_endures_J60 n x1 x2 r8 else (twr r8 41 ((62 : Int32) + r9) (-1)).bind fun S20 => f_endures_J60 n x1 x2 S20 else some ((-1), r4.2)
set_option maxHeartbeats 4000000 in
theorem f_endures_L73_s {l : Launch} {E : XEnv} {m : Nat} {ad : Nat → Nat} {h0 : XH} {R : Option Value → TS → Prop} {n : Nat} {x2 : Int32} {x4 : Int32} {S : TS} {o : (Int32 × TS) ⊕ ((TS) ⊕ (Int32 × TS))} (hl : f_endures_L73 n x2 x4 S = some o) (hK : (xk (fun s : Int32 × TS => TX l E mX4_endures 6 73 [(0, .ref m), (2, .int x2), (4, .int s.1)] [] m ad h0 s.2 R) (fun r => K_endures_L73 l E m ad h0 R S x2 r) o)) : TX l E mX4_endures 6 73 [(0, .ref m), (2, .int x2), (4, .int x4)] [] m ad h0 S R := by
  unfold f_endures_L73 at hl
  refine tx_iload dX4_endures_73 rfl ?_
  refine tx_bipush (v := 40) dX4_endures_75 (by decide) ?_
  refine tx_icmp_gt (tgt := 105) dX4_endures_77 (by decide) (fun c12 => ?_) (fun c12 => ?_)
  · rw [if_pos c12] at hl
    cases hl
    exact tx_lsK hK ⟨rfl, trivial⟩
  · rw [if_neg c12] at hl
    refine tx_aload_n dX4_endures_80 rfl rfl ?_
    refine tx_bipush (v := 43) dX4_endures_81 (by decide) ?_
    obtain ⟨r13, er13, hl⟩ := xb hl
    refine tx_callV (T_dayGoes er13) lV_X4_336 C_X4_dayGoes rfl dX4_endures_83 rfl (by decide) (Nat.le_of_ble_eq_true rfl) ?_
    refine tx_aload_n dX4_endures_86 rfl rfl ?_
    refine tx_bipush (v := 43) dX4_endures_87 (by decide) ?_
    refine tx_iload_n dX4_endures_89 rfl ?_
    obtain ⟨r14, er14, hl⟩ := xb hl
    refine tx_callV (T_isBurst er14) lV_X4_322 C_X4_isBurst rfl dX4_endures_90 rfl (by decide) (Nat.le_of_ble_eq_true rfl) ?_
    refine tx_if_eq (tgt := 99) dX4_endures_93 (by decide) (fun c15 => ?_) (fun c15 => ?_)
    · rw [if_pos c15] at hl
      obtain ⟨w16, ew16, hl⟩ := xb hl
      refine tx_iinc dX4_endures_99 rfl (by decide) (Option.some.inj ew16) ?_
      refine tx_goto (tgt := 73) dX4_endures_102 (by decide) ?_
      cases hl
      exact tx_lsK hK ⟨rfl, rfl, rfl, trivial⟩
    · rw [if_neg c15] at hl
      cases hl
      exact tx_lsK hK ⟨rfl, rfl, trivial⟩
set_option maxHeartbeats 4000000 in
theorem f_endures_L73_ok {l : Launch} {E : XEnv} {m : Nat} {ad : Nat → Nat} {h0 : XH} {R : Option Value → TS → Prop} {n : Nat} {x2 : Int32} {S : TS} {s : Int32 × TS} {o : (TS) ⊕ (Int32 × TS)} (hl : xloop (fun s => f_endures_L73 n x2 s.1 s.2) n s = some o) (hK : K_endures_L73 l E m ad h0 R S x2 o) : TX l E mX4_endures 6 73 [(0, .ref m), (2, .int x2), (4, .int s.1)] [] m ad h0 s.2 R :=
  xloop_of (fun s : Int32 × TS => TX l E mX4_endures 6 73 [(0, .ref m), (2, .int x2), (4, .int s.1)] [] m ad h0 s.2 R) (fun r => K_endures_L73 l E m ad h0 R S x2 r) (fun s o hl hk => f_endures_L73_s (S := s.2) (o := o) hl hk) n s o hl hK
set_option maxHeartbeats 4000000 in
theorem f_endures_J60_s {l : Launch} {E : XEnv} {m : Nat} {ad : Nat → Nat} {h0 : XH} {n : Nat} {x1 : Int32} {x2 : Int32} {S : TS} {r : Int32 × TS} (hl : f_endures_J60 n x1 x2 S = some r) : TX l E mX4_endures 6 60 [(0, .ref m), (1, .int x1), (2, .int x2)] [] m ad h0 S (fun v' S'' => v' = some (.int r.1) ∧ S'' = r.2) := by
  unfold f_endures_J60 at hl
  refine tx_aload_n dX4_endures_60 rfl rfl ?_
  refine tx_getA gF_X4_66 dX4_endures_61 (by decide) ?_
  refine tx_bipush (v := 62) dX4_endures_64 (by decide) ?_
  refine tx_iload_n dX4_endures_66 rfl ?_
  refine tx_iadd dX4_endures_67 ?_
  refine tx_iload_n dX4_endures_68 rfl ?_
  obtain ⟨S11, eS11, hl⟩ := xb hl
  refine tx_iast (by decide) dX4_endures_69 eS11 ?_
  refine tx_iconst (v := 1) dX4_endures_70 rfl ?_
  refine tx_istore dX4_endures_71 (by decide) ?_
  obtain ⟨o17, eo17, hl⟩ := xb hl
  rcases o17 with e18 | e19
  · dsimp only at hl
    refine tx_lsK (f_endures_L73_ok (S := S11) (s := (1, S11)) eo17 ?_) ⟨rfl, rfl, rfl, trivial⟩
    refine tx_iconst (v := (-1)) dX4_endures_105 rfl ?_
    cases hl
    exact tx_iret dX4_endures_106 rfl rfl ⟨rfl, rfl⟩
  · dsimp only at hl
    refine tx_lsK (f_endures_L73_ok (S := S11) (s := (1, S11)) eo17 ?_) ⟨rfl, rfl, rfl, trivial⟩
    refine tx_iload dX4_endures_96 rfl ?_
    cases hl
    exact tx_iret dX4_endures_98 rfl rfl ⟨rfl, rfl⟩
set_option maxHeartbeats 4000000 in
theorem T_endures {l : Launch} {E : XEnv} {m : Nat} {ad : Nat → Nat} {n : Nat} {x1 : Int32} {x2 : Int32} {S : TS} {r : Int32 × TS} (hl : f_endures n x1 x2 S = some r) : TM l E mX4_endures 6 m ad [.ref m, .int x1, .int x2] S (some (.int r.1)) r.2 := by
  unfold f_endures at hl
  refine tm_of (by decide +kernel) rfl (Nat.le_of_ble_eq_true rfl) fun h0 => ?_
  refine tx_aload_n dX4_endures_0 rfl rfl ?_
  refine tx_iconst (v := 0) dX4_endures_1 rfl ?_
  obtain ⟨S1, eS1, hl⟩ := xb hl
  refine tx_putI pF_X4_111 dX4_endures_2 (by decide) rfl rfl (Option.some.inj eS1) ?_
  refine tx_aload_n dX4_endures_5 rfl rfl ?_
  refine tx_iload_n dX4_endures_6 rfl ?_
  obtain ⟨r2, er2, hl⟩ := xb hl
  refine tx_callV (T_isPerson er2) lV_X4_379 C_X4_isPerson rfl dX4_endures_7 rfl (by decide) (Nat.le_of_ble_eq_true rfl) ?_
  refine tx_if_eq (tgt := 21) dX4_endures_10 (by decide) (fun c3 => ?_) (fun c3 => ?_)
  · rw [if_pos c3] at hl
    refine tx_iconst (v := 0) dX4_endures_21 rfl ?_
    cases hl
    exact tx_iret dX4_endures_22 rfl rfl ⟨rfl, rfl⟩
  · rw [if_neg c3] at hl
    refine tx_aload_n dX4_endures_13 rfl rfl ?_
    refine tx_iload_n dX4_endures_14 rfl ?_
    obtain ⟨r4, er4, hl⟩ := xb hl
    refine tx_callV (T_isHouse er4) lV_X4_367 C_X4_isHouse rfl dX4_endures_15 rfl (by decide) (Nat.le_of_ble_eq_true rfl) ?_
    refine tx_if_ne (tgt := 23) dX4_endures_18 (by decide) (fun c5 => ?_) (fun c5 => ?_)
    · rw [if_neg c5] at hl
      refine tx_aload_n dX4_endures_23 rfl rfl ?_
      refine tx_iconst (v := 0) dX4_endures_24 rfl ?_
      refine tx_iload_n dX4_endures_25 rfl ?_
      obtain ⟨r6, er6, hl⟩ := xb hl
      refine tx_callV (T_isBurst er6) lV_X4_322 C_X4_isBurst rfl dX4_endures_26 rfl (by decide) (Nat.le_of_ble_eq_true rfl) ?_
      refine tx_if_eq (tgt := 34) dX4_endures_29 (by decide) (fun c7 => ?_) (fun c7 => ?_)
      · rw [if_pos c7] at hl
        refine tx_aload_n dX4_endures_34 rfl rfl ?_
        obtain ⟨r8, er8, hl⟩ := xb hl
        refine tx_callV (T_tries er8) lV_X4_391 C_X4_tries rfl dX4_endures_35 rfl (by decide) (Nat.le_of_ble_eq_true rfl) ?_
        refine tx_aload_n dX4_endures_38 rfl rfl ?_
        refine tx_iconst (v := 0) dX4_endures_39 rfl ?_
        refine tx_iload_n dX4_endures_40 rfl ?_
        obtain ⟨r9, er9, hl⟩ := xb hl
        refine tx_callV (T_houseOf er9) lV_X4_339 C_X4_houseOf rfl dX4_endures_41 rfl (by decide) (Nat.le_of_ble_eq_true rfl) ?_
        refine tx_istore_n dX4_endures_44 (by decide) ?_
        refine tx_iload_n dX4_endures_45 rfl ?_
        refine tx_iconst (v := (-1)) dX4_endures_46 rfl ?_
        refine tx_icmp_eq (tgt := 60) dX4_endures_47 (by decide) (fun c10 => ?_) (fun c10 => ?_)
        · rw [if_pos c10] at hl
          exact tx_lsK (f_endures_J60_s hl) ⟨rfl, rfl, rfl, trivial⟩
        · rw [if_neg c10] at hl
          refine tx_aload_n dX4_endures_50 rfl rfl ?_
          refine tx_getA gF_X4_66 dX4_endures_51 (by decide) ?_
          refine tx_bipush (v := 62) dX4_endures_54 (by decide) ?_
          refine tx_iload_n dX4_endures_56 rfl ?_
          refine tx_iadd dX4_endures_57 ?_
          refine tx_iconst (v := (-1)) dX4_endures_58 rfl ?_
          obtain ⟨S20, eS20, hl⟩ := xb hl
          refine tx_iast (by decide) dX4_endures_59 eS20 ?_
          exact tx_lsK (f_endures_J60_s hl) ⟨rfl, rfl, rfl, trivial⟩
      · rw [if_neg c7] at hl
        refine tx_iconst (v := (-1)) dX4_endures_32 rfl ?_
        cases hl
        exact tx_iret dX4_endures_33 rfl rfl ⟨rfl, rfl⟩
    · rw [if_pos c5] at hl
      refine tx_iconst (v := 0) dX4_endures_21 rfl ?_
      cases hl
      exact tx_iret dX4_endures_22 rfl rfl ⟨rfl, rfl⟩
def f_image_L28 (n : Nat) (x1 : Int32) (S : TS) : Option ((Int32 × TS) ⊕ ((TS))) := if x1 ≥ 43 then some (.inr S) else (trd S 41 x1).bind fun v6 => (twr S 59 x1 v6).bind fun S7 => (some (x1 + 1)).bind fun w8 => some (.inl (w8, S7))
abbrev K_image_L28 (l : Launch) (E : XEnv) (m : Nat) (ad : Nat → Nat) (h0 : XH) (R : Option Value → TS → Prop) (S : TS)  (o : (TS)) : Prop := match o with
  | e => TX l E mX4_image 2 52 [(0, .ref m)] [] m ad h0 e R
def f_image (n : Nat)  (S : TS) : Option (TS) := (some (tpF S 0 0)).bind fun S1 => (some (tpF S1 56 1)).bind fun S2 => (some (tpF S2 57 (S2.1 43))).bind fun S3 => (some (tpF S3 58 (S3.1 51))).bind fun S4 => (xloop (fun s => f_image_L28 n s.1 s.2) n (0, S4)).bind fun o9 => (f_copies n 42 60 o9).bind fun r10 => (f_copies n 52 61 r10).bind fun r11 => some r11
set_option maxHeartbeats 4000000 in
theorem f_image_L28_s {l : Launch} {E : XEnv} {m : Nat} {ad : Nat → Nat} {h0 : XH} {R : Option Value → TS → Prop} {n : Nat} {x1 : Int32} {S : TS} {o : (Int32 × TS) ⊕ ((TS))} (hl : f_image_L28 n x1 S = some o) (hK : (xk (fun s : Int32 × TS => TX l E mX4_image 2 28 [(0, .ref m), (1, .int s.1)] [] m ad h0 s.2 R) (fun r => K_image_L28 l E m ad h0 R S r) o)) : TX l E mX4_image 2 28 [(0, .ref m), (1, .int x1)] [] m ad h0 S R := by
  unfold f_image_L28 at hl
  refine tx_iload_n dX4_image_28 rfl ?_
  refine tx_bipush (v := 43) dX4_image_29 (by decide) ?_
  refine tx_icmp_ge (tgt := 52) dX4_image_31 (by decide) (fun c5 => ?_) (fun c5 => ?_)
  · rw [if_pos c5] at hl
    cases hl
    exact tx_lsK hK ⟨rfl, trivial⟩
  · rw [if_neg c5] at hl
    refine tx_aload_n dX4_image_34 rfl rfl ?_
    refine tx_getA gF_X4_102 dX4_image_35 (by decide) ?_
    refine tx_iload_n dX4_image_38 rfl ?_
    refine tx_aload_n dX4_image_39 rfl rfl ?_
    refine tx_getA gF_X4_66 dX4_image_40 (by decide) ?_
    refine tx_iload_n dX4_image_43 rfl ?_
    obtain ⟨v6, ev6, hl⟩ := xb hl
    refine tx_iald (by decide) dX4_image_44 ev6 ?_
    obtain ⟨S7, eS7, hl⟩ := xb hl
    refine tx_iast (by decide) dX4_image_45 eS7 ?_
    obtain ⟨w8, ew8, hl⟩ := xb hl
    refine tx_iinc dX4_image_46 rfl (by decide) (Option.some.inj ew8) ?_
    refine tx_goto (tgt := 28) dX4_image_49 (by decide) ?_
    cases hl
    exact tx_lsK hK ⟨rfl, rfl, trivial⟩
set_option maxHeartbeats 4000000 in
theorem f_image_L28_ok {l : Launch} {E : XEnv} {m : Nat} {ad : Nat → Nat} {h0 : XH} {R : Option Value → TS → Prop} {n : Nat}  {S : TS} {s : Int32 × TS} {o : (TS)} (hl : xloop (fun s => f_image_L28 n s.1 s.2) n s = some o) (hK : K_image_L28 l E m ad h0 R S o) : TX l E mX4_image 2 28 [(0, .ref m), (1, .int s.1)] [] m ad h0 s.2 R :=
  xloop_of (fun s : Int32 × TS => TX l E mX4_image 2 28 [(0, .ref m), (1, .int s.1)] [] m ad h0 s.2 R) (fun r => K_image_L28 l E m ad h0 R S r) (fun s o hl hk => f_image_L28_s (S := s.2) (o := o) hl hk) n s o hl hK
set_option maxHeartbeats 4000000 in
theorem T_image {l : Launch} {E : XEnv} {m : Nat} {ad : Nat → Nat} {n : Nat}  {S : TS} {S' : TS} (hl : f_image n  S = some S') : TM l E mX4_image 2 m ad [.ref m] S none S' := by
  unfold f_image at hl
  refine tm_of (by decide +kernel) rfl (Nat.le_of_ble_eq_true rfl) fun h0 => ?_
  refine tx_aload_n dX4_image_0 rfl rfl ?_
  refine tx_iconst (v := 0) dX4_image_1 rfl ?_
  obtain ⟨S1, eS1, hl⟩ := xb hl
  refine tx_putI pF_X4_111 dX4_image_2 (by decide) rfl rfl (Option.some.inj eS1) ?_
  refine tx_aload_n dX4_image_5 rfl rfl ?_
  refine tx_iconst (v := 1) dX4_image_6 rfl ?_
  obtain ⟨S2, eS2, hl⟩ := xb hl
  refine tx_putI pF_X4_294 dX4_image_7 (by decide) rfl rfl (Option.some.inj eS2) ?_
  refine tx_aload_n dX4_image_10 rfl rfl ?_
  refine tx_aload_n dX4_image_11 rfl rfl ?_
  refine tx_getI gF_X4_288 dX4_image_12 (by decide) ?_
  obtain ⟨S3, eS3, hl⟩ := xb hl
  refine tx_putI pF_X4_447 dX4_image_15 (by decide) rfl rfl (Option.some.inj eS3) ?_
  refine tx_aload_n dX4_image_18 rfl rfl ?_
  refine tx_aload_n dX4_image_19 rfl rfl ?_
  refine tx_getI gF_X4_291 dX4_image_20 (by decide) ?_
  obtain ⟨S4, eS4, hl⟩ := xb hl
  refine tx_putI pF_X4_450 dX4_image_23 (by decide) rfl rfl (Option.some.inj eS4) ?_
  refine tx_iconst (v := 0) dX4_image_26 rfl ?_
  refine tx_istore_n dX4_image_27 (by decide) ?_
  obtain ⟨o9, eo9, hl⟩ := xb hl
  refine tx_lsK (f_image_L28_ok (S := S4) (s := (0, S4)) eo9 ?_) ⟨rfl, rfl, trivial⟩
  refine tx_aload_n dX4_image_52 rfl rfl ?_
  refine tx_aload_n dX4_image_53 rfl rfl ?_
  refine tx_getA gF_X4_69 dX4_image_54 (by decide) ?_
  refine tx_aload_n dX4_image_57 rfl rfl ?_
  refine tx_getA gF_X4_105 dX4_image_58 (by decide) ?_
  obtain ⟨r10, er10, hl⟩ := xb hl
  refine tx_callV (T_copies (by decide) (by decide) er10) lV_X4_284 C_X4_copies rfl dX4_image_61 rfl (by decide) (Nat.le_of_ble_eq_true rfl) ?_
  refine tx_aload_n dX4_image_64 rfl rfl ?_
  refine tx_aload_n dX4_image_65 rfl rfl ?_
  refine tx_getA gF_X4_93 dX4_image_66 (by decide) ?_
  refine tx_aload_n dX4_image_69 rfl rfl ?_
  refine tx_getA gF_X4_108 dX4_image_70 (by decide) ?_
  obtain ⟨r11, er11, hl⟩ := xb hl
  refine tx_callV (T_copies (by decide) (by decide) er11) lV_X4_284 C_X4_copies rfl dX4_image_73 rfl (by decide) (Nat.le_of_ble_eq_true rfl) ?_
  cases hl
  exact tx_vret dX4_image_76 rfl ⟨rfl, rfl⟩
def f_restore_L32 (n : Nat) (x1 : Int32) (S : TS) : Option ((Int32 × TS) ⊕ ((TS))) := if x1 ≥ 43 then some (.inr S) else (trd S 59 x1).bind fun v6 => (twr S 41 x1 v6).bind fun S7 => (some (x1 + 1)).bind fun w8 => some (.inl (w8, S7))
abbrev K_restore_L32 (l : Launch) (E : XEnv) (m : Nat) (ad : Nat → Nat) (h0 : XH) (R : Option Value → TS → Prop) (S : TS)  (o : (TS)) : Prop := match o with
  | e => TX l E mX4_restore 2 56 [(0, .ref m)] [] m ad h0 e R
def f_restore (n : Nat)  (S : TS) : Option (Int32 × TS) := (some (tpF S 0 0)).bind fun S1 => if (S1.1 56) = 0 then some (0, S1) else (some (tpF S1 43 (S1.1 57))).bind fun S3 => (some (tpF S3 51 (S3.1 58))).bind fun S4 => (xloop (fun s => f_restore_L32 n s.1 s.2) n (0, S4)).bind fun o9 => (f_copies n 60 42 o9).bind fun r10 => (f_copies n 61 52 r10).bind fun r11 => some (1, r11)
set_option maxHeartbeats 4000000 in
theorem f_restore_L32_s {l : Launch} {E : XEnv} {m : Nat} {ad : Nat → Nat} {h0 : XH} {R : Option Value → TS → Prop} {n : Nat} {x1 : Int32} {S : TS} {o : (Int32 × TS) ⊕ ((TS))} (hl : f_restore_L32 n x1 S = some o) (hK : (xk (fun s : Int32 × TS => TX l E mX4_restore 2 32 [(0, .ref m), (1, .int s.1)] [] m ad h0 s.2 R) (fun r => K_restore_L32 l E m ad h0 R S r) o)) : TX l E mX4_restore 2 32 [(0, .ref m), (1, .int x1)] [] m ad h0 S R := by
  unfold f_restore_L32 at hl
  refine tx_iload_n dX4_restore_32 rfl ?_
  refine tx_bipush (v := 43) dX4_restore_33 (by decide) ?_
  refine tx_icmp_ge (tgt := 56) dX4_restore_35 (by decide) (fun c5 => ?_) (fun c5 => ?_)
  · rw [if_pos c5] at hl
    cases hl
    exact tx_lsK hK ⟨rfl, trivial⟩
  · rw [if_neg c5] at hl
    refine tx_aload_n dX4_restore_38 rfl rfl ?_
    refine tx_getA gF_X4_66 dX4_restore_39 (by decide) ?_
    refine tx_iload_n dX4_restore_42 rfl ?_
    refine tx_aload_n dX4_restore_43 rfl rfl ?_
    refine tx_getA gF_X4_102 dX4_restore_44 (by decide) ?_
    refine tx_iload_n dX4_restore_47 rfl ?_
    obtain ⟨v6, ev6, hl⟩ := xb hl
    refine tx_iald (by decide) dX4_restore_48 ev6 ?_
    obtain ⟨S7, eS7, hl⟩ := xb hl
    refine tx_iast (by decide) dX4_restore_49 eS7 ?_
    obtain ⟨w8, ew8, hl⟩ := xb hl
    refine tx_iinc dX4_restore_50 rfl (by decide) (Option.some.inj ew8) ?_
    refine tx_goto (tgt := 32) dX4_restore_53 (by decide) ?_
    cases hl
    exact tx_lsK hK ⟨rfl, rfl, trivial⟩
set_option maxHeartbeats 4000000 in
theorem f_restore_L32_ok {l : Launch} {E : XEnv} {m : Nat} {ad : Nat → Nat} {h0 : XH} {R : Option Value → TS → Prop} {n : Nat}  {S : TS} {s : Int32 × TS} {o : (TS)} (hl : xloop (fun s => f_restore_L32 n s.1 s.2) n s = some o) (hK : K_restore_L32 l E m ad h0 R S o) : TX l E mX4_restore 2 32 [(0, .ref m), (1, .int s.1)] [] m ad h0 s.2 R :=
  xloop_of (fun s : Int32 × TS => TX l E mX4_restore 2 32 [(0, .ref m), (1, .int s.1)] [] m ad h0 s.2 R) (fun r => K_restore_L32 l E m ad h0 R S r) (fun s o hl hk => f_restore_L32_s (S := s.2) (o := o) hl hk) n s o hl hK
set_option maxHeartbeats 4000000 in
theorem T_restore {l : Launch} {E : XEnv} {m : Nat} {ad : Nat → Nat} {n : Nat}  {S : TS} {r : Int32 × TS} (hl : f_restore n  S = some r) : TM l E mX4_restore 2 m ad [.ref m] S (some (.int r.1)) r.2 := by
  unfold f_restore at hl
  refine tm_of (by decide +kernel) rfl (Nat.le_of_ble_eq_true rfl) fun h0 => ?_
  refine tx_aload_n dX4_restore_0 rfl rfl ?_
  refine tx_iconst (v := 0) dX4_restore_1 rfl ?_
  obtain ⟨S1, eS1, hl⟩ := xb hl
  refine tx_putI pF_X4_111 dX4_restore_2 (by decide) rfl rfl (Option.some.inj eS1) ?_
  refine tx_aload_n dX4_restore_5 rfl rfl ?_
  refine tx_getI gF_X4_294 dX4_restore_6 (by decide) ?_
  refine tx_if_ne (tgt := 14) dX4_restore_9 (by decide) (fun c2 => ?_) (fun c2 => ?_)
  · rw [if_neg c2] at hl
    refine tx_aload_n dX4_restore_14 rfl rfl ?_
    refine tx_aload_n dX4_restore_15 rfl rfl ?_
    refine tx_getI gF_X4_447 dX4_restore_16 (by decide) ?_
    obtain ⟨S3, eS3, hl⟩ := xb hl
    refine tx_putI pF_X4_288 dX4_restore_19 (by decide) rfl rfl (Option.some.inj eS3) ?_
    refine tx_aload_n dX4_restore_22 rfl rfl ?_
    refine tx_aload_n dX4_restore_23 rfl rfl ?_
    refine tx_getI gF_X4_450 dX4_restore_24 (by decide) ?_
    obtain ⟨S4, eS4, hl⟩ := xb hl
    refine tx_putI pF_X4_291 dX4_restore_27 (by decide) rfl rfl (Option.some.inj eS4) ?_
    refine tx_iconst (v := 0) dX4_restore_30 rfl ?_
    refine tx_istore_n dX4_restore_31 (by decide) ?_
    obtain ⟨o9, eo9, hl⟩ := xb hl
    refine tx_lsK (f_restore_L32_ok (S := S4) (s := (0, S4)) eo9 ?_) ⟨rfl, rfl, trivial⟩
    refine tx_aload_n dX4_restore_56 rfl rfl ?_
    refine tx_aload_n dX4_restore_57 rfl rfl ?_
    refine tx_getA gF_X4_105 dX4_restore_58 (by decide) ?_
    refine tx_aload_n dX4_restore_61 rfl rfl ?_
    refine tx_getA gF_X4_69 dX4_restore_62 (by decide) ?_
    obtain ⟨r10, er10, hl⟩ := xb hl
    refine tx_callV (T_copies (by decide) (by decide) er10) lV_X4_284 C_X4_copies rfl dX4_restore_65 rfl (by decide) (Nat.le_of_ble_eq_true rfl) ?_
    refine tx_aload_n dX4_restore_68 rfl rfl ?_
    refine tx_aload_n dX4_restore_69 rfl rfl ?_
    refine tx_getA gF_X4_108 dX4_restore_70 (by decide) ?_
    refine tx_aload_n dX4_restore_73 rfl rfl ?_
    refine tx_getA gF_X4_93 dX4_restore_74 (by decide) ?_
    obtain ⟨r11, er11, hl⟩ := xb hl
    refine tx_callV (T_copies (by decide) (by decide) er11) lV_X4_284 C_X4_copies rfl dX4_restore_77 rfl (by decide) (Nat.le_of_ble_eq_true rfl) ?_
    refine tx_iconst (v := 1) dX4_restore_80 rfl ?_
    cases hl
    exact tx_iret dX4_restore_81 rfl rfl ⟨rfl, rfl⟩
  · rw [if_pos c2] at hl
    refine tx_iconst (v := 0) dX4_restore_12 rfl ?_
    cases hl
    exact tx_iret dX4_restore_13 rfl rfl ⟨rfl, rfl⟩
