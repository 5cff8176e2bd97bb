/-! streets made, copied -/
set_option maxRecDepth 100000
/-- a street's frame: its arrays, its owner -/
def SHp (x : Nat) (h : XH) (s : Nat) : Prop := h.1 s = some (2, 10, 1) ∧ (∀ i, i < 5 → h.2.1 s i = .ref (s + 1 + i) ∧ h.1 (s + 1 + i) = some (100, 8, 2000 + 8 * s + i)) ∧ h.2.1 s 9 = .ref x
theorem SV.shp {x : Nat} {T : Tn} {h : XH} {s : Nat} {w : Nat → Int32} (hS : SV x T h s w) : SHp x h s := ⟨hS.1, fun i hi => ⟨(hS.2.1 i hi).1, (hS.2.1 i hi).2.1⟩, hS.2.2.1.2.2.2.2⟩
/-- only what lies at a -/
def Wat (a : Nat) : FW := fun b _ _ => b = a
section MAKE
variable {x a : Nat} {h h0 : XH}
theorem cna_is {t tag n : Nat} {N : Int32} (hN : N = iv n) (hn : n ≤ 60000000) : cna h t tag N = some (xnew h (100 + t) n tag n (fun _ => defaultValue (xty t))) := by
  subst hN
  unfold cna
  rw [iv_nat (by omega), if_neg]
  rintro (z | z)
  · exact iv_nneg (by omega) z
  · omega
/-- the street at a, i arrays made -/
def IK (x a i : Nat) (h0 h : XH) : Prop := h.1 a = some (2, 10, 1) ∧ h.2.2.1 = a + 1 + i ∧ h.2.2.2 = h0.2.2.2 + 8 * i ∧ Fr (Wat a) h0 h ∧ HW h ∧ (∀ k, k < i → h.2.1 a k = .ref (a + 1 + k) ∧ h.1 (a + 1 + k) = some (100, 8, 2000 + 8 * a + k) ∧ ∀ j, h.2.1 (a + 1 + k) j = .int 0) ∧ (∀ k, 5 ≤ k → k < 9 → h.2.1 a k = h0.2.1 a k) ∧ h.2.1 a 9 = .ref x
theorem IK.step {i : Nat} (hK : IK x a i h0 h) (hi : i < 5) : ∃ h1 h2, cna h 0 (2000 + 8 * a + i) 8 = some h1 ∧ cpu h1 a 2 i (.ref h.2.2.1) = some h2 ∧ IK x a (i + 1) h0 h2 := by
  obtain ⟨q1, q2, q3, q4, q5, q6, q7, q8⟩ := hK
  have e1 : cna h 0 (2000 + 8 * a + i) 8 = some (xnew h 100 8 (2000 + 8 * a + i) 8 (fun _ => .int 0)) := cna_is (n := 8) rfl (by decide)
  have f1 : Fr (Wat a) h (xnew h 100 8 (2000 + 8 * a + i) 8 (fun _ => .int 0)) := xnew_fr q5
  have w1 := xnew_hw (k := 100) (n := 8) (t := 2000 + 8 * a + i) (N := 8) (f := fun _ => .int 0) q5
  have n1 : (xnew h 100 8 (2000 + 8 * a + i) 8 (fun _ => .int 0)).2.2 = (h.2.2.1 + 1, h.2.2.2 + 8) := rfl
  have d1 : (xnew h 100 8 (2000 + 8 * a + i) 8 (fun _ => .int 0)).1 (a + 1 + i) = some (100, 8, 2000 + 8 * a + i) := by rw [← q2]; exact xnew_hd
  have c1 : ∀ j, (xnew h 100 8 (2000 + 8 * a + i) 8 (fun _ => .int 0)).2.1 (a + 1 + i) j = .int 0 := by intro j; rw [← q2]; exact xnew_ct
  have o1 : ∀ b, b ≠ a + 1 + i → (xnew h 100 8 (2000 + 8 * a + i) 8 (fun _ => .int 0)).2.1 b = h.2.1 b := by
    intro b hb
    funext j
    show (if b = h.2.2.1 then _ else h.2.1 b j) = _
    rw [if_neg (by omega)]
  generalize xnew h 100 8 (2000 + 8 * a + i) 8 (fun _ => .int 0) = h1 at *
  have qa := (f1 a _ _ _ q1).1
  refine ⟨h1, xup h1 a i (.ref h.2.2.1), e1, cpu_is qa (by decide), qa, ?_, ?_, ?_, ?_, ?_, ?_, ?_⟩
  · show h1.2.2.1 = _
    rw [n1]
    show h.2.2.1 + 1 = _
    omega
  · show h1.2.2.2 = _
    rw [n1]
    show h.2.2.2 + 8 = _
    omega
  · refine q4.trans (f1.trans ?_)
    intro b k n t e
    exact ⟨e, fun hb => xup_nea (fun z => hb z)⟩
  · exact w1
  · intro k hk
    by_cases z : k = i
    · subst z
      exact ⟨by rw [xup_eq, q2], d1, fun j => by rw [xup_nea (by omega)]; exact c1 j⟩
    · obtain ⟨y1, y2, y3⟩ := q6 k (by omega)
      refine ⟨?_, (f1 _ _ _ _ y2).1, fun j => ?_⟩
      · rw [xup_ne (fun y => z y.2), o1 _ (by omega)]; exact y1
      · rw [xup_nea (by omega), o1 _ (by omega)]; exact y3 j
  · intro k k1 k2
    rw [xup_ne (by omega), o1 _ (by omega)]
    exact q7 k k1 k2
  · rw [xup_ne (by omega), o1 _ (by omega)]; exact q8
theorem init3_is (hh : HW h) (ha : h.1 a = some (2, 10, 1)) (hn : h.2.2.1 = a + 1) : ∃ h', k_X3_init a x h = some h' ∧ SHp x h' a ∧ h'.2.2.1 = a + 6 ∧ h'.2.2.2 = h.2.2.2 + 40 ∧ Fr (Wat a) h h' ∧ HW h' ∧ (∀ i, i < 5 → ∀ j, h'.2.1 (a + 1 + i) j = .int 0) ∧ (∀ k, 5 ≤ k → k < 8 → h'.2.1 a k = h.2.1 a k) ∧ h'.2.1 a 8 = .int (-1) := by
  have e0 : cpu h a 2 9 (.ref x) = some (xup h a 9 (.ref x)) := cpu_is ha (by decide)
  have K0 : IK x a 0 h (xup h a 9 (.ref x)) := by
    refine ⟨ha, hn, rfl, ?_, hh, fun k hk => by omega, fun k k1 k2 => xup_ne (by omega), xup_eq⟩
    intro b k n t e
    exact ⟨e, fun hb => xup_nea (fun z => hb z)⟩
  obtain ⟨h1, h2, e1, e2, K1⟩ := K0.step (by decide)
  obtain ⟨h3, h4, e3, e4, K2⟩ := K1.step (by decide)
  obtain ⟨h5, h6, e5, e6, K3⟩ := K2.step (by decide)
  obtain ⟨h7, h8, e7, e8, K4⟩ := K3.step (by decide)
  obtain ⟨h9, h10, e9, e10, K5⟩ := K4.step (by decide)
  obtain ⟨q1, q2, q3, q4, q5, q6, q7, q8⟩ := K5
  have e11 : cpu h10 a 2 8 (.int (-1)) = some (xup h10 a 8 (.int (-1))) := cpu_is q1 (by decide)
  refine ⟨xup h10 a 8 (.int (-1)), ?_, ⟨q1, fun i hi => ⟨?_, (q6 i hi).2.1⟩, ?_⟩, q2, q3, ?_, q5, ?_, ?_, xup_eq⟩
  · refine ok_eq ?_
    unfold k_X3_init
    repeat (with_reducible first | refine ok_sb ?_ | refine ok_b (by assumption) ?_ | refine ok_pos (by assumption) ?_ | refine ok_neg (by assumption) ?_)
    exact ok_s rfl
  · rw [xup_ne (by omega)]; exact (q6 i hi).1
  · rw [xup_ne (by omega)]; exact q8
  · refine q4.trans ?_
    intro b k n t e
    exact ⟨e, fun hb => xup_nea (fun z => hb z)⟩
  · intro i hi j
    rw [xup_nea (by omega)]; exact (q6 i hi).2.2 j
  · intro k k1 k2
    rw [xup_ne (by omega)]; exact q7 k k1 (by omega)
end MAKE
section BE
variable {x n s r : Nat} {T : Tn} {h : XH} {w : Nat → Int32}
/-- the first k places of the target's arrays lo .. hi are the source's -/
def BK (s r lo up k : Nat) (h h1 : XH) : Prop := h1.1 = h.1 ∧ h1.2.2 = h.2.2 ∧ (∀ b, (∀ i, lo ≤ i → i < up → b ≠ r + 1 + i) → h1.2.1 b = h.2.1 b) ∧ ∀ i j, lo ≤ i → i < up → h1.2.1 (r + 1 + i) j = if j < k then h.2.1 (s + 1 + i) j else h.2.1 (r + 1 + i) j
/-- one array's k-th place copied -/
theorem be_cp {i k : Nat} {h1 : XH} (hr : SHp x h1 r) (hi : i < 5) (hk : k < 8) (hs : h1.1 (s + 1 + i) = some (100, 8, 2000 + 8 * s + i)) {v : Int32} (hv : h1.2.1 (s + 1 + i) k = .int v) : caI h1 (s + 1 + i) 100 (iv k) = some v ∧ csu h1 (r + 1 + i) 100 (iv k) (.int v) = some (xup h1 (r + 1 + i) k (.int v)) :=
  ⟨caI_is hs (by decide) hk hv, csu_is (hr.2.1 i hi).2 (by omega) (by decide) hk⟩
theorem be_is (hw : WT T) (hr : SHp x h r) (hS : SV x T h s w) (hne : s ≠ r) (hd : w 43 = (-1)) (hd2 : w 2 = 0 ∨ w 2 = 1) (hn : 10 < n) : ∃ h', k_X3_be n r s h = some (r, h') ∧ Fq (Wst r) h h' ∧ SV x T h' r w := by
  have h8 := hw.1
  have p8 := hw.2.1
  obtain ⟨s1, s2, s3, s4, s5⟩ := hS
  obtain ⟨r1, r2, r3⟩ := hr
  have far : ∀ i j, i < 5 → j < 5 → s + 1 + i ≠ r + 1 + j := by
    intro i j hi hj z
    have e1 := (s2 i hi).2.1
    rw [z, (r2 j hj).2] at e1
    have e2 : 2000 + 8 * r + j = 2000 + 8 * s + i := congrArg (fun q : Nat × Nat × Nat => q.2.2) (Option.some.inj e1)
    omega
  have fs : ∀ j, j < 5 → s ≠ r + 1 + j := by
    intro j hj z
    have e1 := s1
    rw [z, (r2 j hj).2] at e1
    have e2 : (100 : Nat) = 2 := congrArg (fun q : Nat × Nat × Nat => q.1) (Option.some.inj e1)
    omega
  have fr : ∀ j, j < 5 → r ≠ r + 1 + j := fun j _ => by omega
  have a0 : ∀ h1 : XH, h1.1 = h.1 → h1.2.1 r = h.2.1 r → h1.2.1 s = h.2.1 s → ∀ i, i < 5 → cgR h1 r 2 i = some (r + 1 + i) ∧ cgR h1 s 2 i = some (s + 1 + i) ∧ SHp x h1 r ∧ h1.1 (s + 1 + i) = some (100, 8, 2000 + 8 * s + i) := by
    intro h1 e1 e2 e3 i hi
    exact ⟨cgR_is (by rw [e1]; exact r1) (by rw [e2]; exact (r2 i hi).1), cgR_is (by rw [e1]; exact s1) (by rw [e3]; exact (s2 i hi).1), ⟨by rw [e1]; exact r1, fun i hi => ⟨by rw [e2]; exact (r2 i hi).1, by rw [e1]; exact (r2 i hi).2⟩, by rw [e2]; exact r3⟩, by rw [e1]; exact (s2 i hi).2.1⟩
  have key : Ok (k_X3_be n r s h) (fun o => o.1 = r ∧ Fq (Wst r) h o.2 ∧ SV x T o.2 r w) := by
    unfold k_X3_be
    refine ok_c (Q := fun h1 => BK s r 0 2 8 h h1) ?_ (fun h1 q1 => ?_)
    · refine ok_loop 8 (fun k st => st.1 = iv k ∧ BK s r 0 2 k h st.2) ⟨rfl, rfl, rfl, fun _ _ => rfl, fun i j _ _ => by rw [if_neg (by omega)]⟩ ?_ ?_ (by omega)
      · rintro k ⟨i, h1⟩ hk ⟨i1, b1, b2, b3, b4⟩
        dsimp only at i1 b1 b2 b3 b4 ⊢
        subst i1
        have er : h1.2.1 r = h.2.1 r := b3 r (fun i _ hi => fr i (by omega))
        have es : h1.2.1 s = h.2.1 s := b3 s (fun i _ hi => fs i (by omega))
        obtain ⟨v0, hv0⟩ := (s2 0 (by decide)).2.2 k hk
        obtain ⟨v1, hv1⟩ := (s2 1 (by decide)).2.2 k hk
        have c0 : h1.2.1 (s + 1 + 0) k = .int v0 := by rw [b3 _ (fun i _ hi => far 0 i (by decide) (by omega))]; exact hv0
        have c1 : h1.2.1 (s + 1 + 1) k = .int v1 := by rw [b3 _ (fun i _ hi => far 1 i (by decide) (by omega))]; exact hv1
        obtain ⟨f1, f2, f3, f4⟩ := a0 h1 b1 er es 0 (by decide)
        obtain ⟨g1, g2⟩ := be_cp f3 (by decide) hk f4 c0
        have er2 : (xup h1 (r + 1 + 0) k (.int v0)).2.1 r = h.2.1 r := by rw [xup_nea (fr 0 (by decide))]; exact er
        have es2 : (xup h1 (r + 1 + 0) k (.int v0)).2.1 s = h.2.1 s := by rw [xup_nea (fs 0 (by decide))]; exact es
        obtain ⟨k1, k2, k3, k4⟩ := a0 (xup h1 (r + 1 + 0) k (.int v0)) b1 er2 es2 1 (by decide)
        obtain ⟨m1, m2⟩ := be_cp (v := v1) k3 (by decide) hk k4 (by rw [xup_nea (far 1 0 (by decide) (by decide))]; exact c1)
        have z1 : ¬ iv k ≥ 8 := iv_stop (N := 8) hk (by decide)
        unfold k_X3_be_L2
        repeat (with_reducible first | refine ok_sb ?_ | refine ok_b (by assumption) ?_ | refine ok_pos (by assumption) ?_ | refine ok_neg (by assumption) ?_)
        refine ok_s ⟨iv_succ k, b1, b2, fun b hb => ?_, fun i j i1 i2 => ?_⟩
        · show (xup (xup h1 (r + 1 + 0) k (.int v0)) (r + 1 + 1) k (.int v1)).2.1 b = _
          rw [xup_nea (hb 1 (by decide) (by decide)), xup_nea (hb 0 (by decide) (by decide))]
          exact b3 b hb
        · show (xup (xup h1 (r + 1 + 0) k (.int v0)) (r + 1 + 1) k (.int v1)).2.1 (r + 1 + i) j = _
          have hc : i = 0 ∨ i = 1 := by omega
          rcases hc with rfl | rfl
          · rw [xup_nea (by omega)]
            by_cases z : j = k
            · subst z
              rw [xup_eq, if_pos (by omega), hv0]
            · rw [xup_ne (fun y => z y.2), b4 0 j i1 i2]
              by_cases y : j < k
              · rw [if_pos y, if_pos (by omega)]
              · rw [if_neg y, if_neg (by omega)]
          · by_cases z : j = k
            · subst z
              rw [xup_eq, if_pos (by omega), hv1]
            · rw [xup_ne (fun y => z y.2), xup_nea (by omega), b4 1 j i1 i2]
              by_cases y : j < k
              · rw [if_pos y, if_pos (by omega)]
              · rw [if_neg y, if_neg (by omega)]
      · rintro ⟨i, h1⟩ ⟨i1, b⟩
        dsimp only at i1 b ⊢
        subst i1
        have z1 : iv 8 ≥ 8 := iv_end (N := 8) (by decide)
        unfold k_X3_be_L2
        repeat (with_reducible first | refine ok_sb ?_ | refine ok_b (by assumption) ?_ | refine ok_pos (by assumption) ?_ | refine ok_neg (by assumption) ?_)
        exact ok_s b
    · obtain ⟨p1, p2, p3, p4⟩ := q1
      have er : h1.2.1 r = h.2.1 r := p3 r (fun i _ hi => fr i (by omega))
      have es : h1.2.1 s = h.2.1 s := p3 s (fun i _ hi => fs i (by omega))
      refine ok_c (Q := fun h2 => BK s r 2 5 8 h1 h2) ?_ (fun h2 q2 => ?_)
      · refine ok_loop 8 (fun k st => st.1 = iv k ∧ BK s r 2 5 k h1 st.2) ⟨rfl, rfl, rfl, fun _ _ => rfl, fun i j _ _ => by rw [if_neg (by omega)]⟩ ?_ ?_ (by omega)
        · rintro k ⟨i, h2⟩ hk ⟨i1, b1, b2, b3, b4⟩
          dsimp only at i1 b1 b2 b3 b4 ⊢
          subst i1
          have er2 : h2.2.1 r = h.2.1 r := by rw [b3 r (fun i _ hi => fr i (by omega))]; exact er
          have es2 : h2.2.1 s = h.2.1 s := by rw [b3 s (fun i _ hi => fs i (by omega))]; exact es
          have ss : ∀ i, i < 5 → h1.2.1 (s + 1 + i) = h.2.1 (s + 1 + i) := fun i hi => p3 _ (fun j _ hj => far i j hi (by omega))
          obtain ⟨v2, hv2⟩ := (s2 2 (by decide)).2.2 k hk
          obtain ⟨v3, hv3⟩ := (s2 3 (by decide)).2.2 k hk
          obtain ⟨v4, hv4⟩ := (s2 4 (by decide)).2.2 k hk
          rw [← ss 2 (by decide)] at hv2
          rw [← ss 3 (by decide)] at hv3
          rw [← ss 4 (by decide)] at hv4
          have c2 : h2.2.1 (s + 1 + 2) k = .int v2 := by rw [b3 _ (fun i _ hi => far 2 i (by decide) (by omega))]; exact hv2
          have c3 : h2.2.1 (s + 1 + 3) k = .int v3 := by rw [b3 _ (fun i _ hi => far 3 i (by decide) (by omega))]; exact hv3
          have c4 : h2.2.1 (s + 1 + 4) k = .int v4 := by rw [b3 _ (fun i _ hi => far 4 i (by decide) (by omega))]; exact hv4
          have hb1 : h2.1 = h.1 := b1.trans p1
          obtain ⟨f1, f2, f3, f4⟩ := a0 h2 hb1 er2 es2 2 (by decide)
          obtain ⟨g1, g2⟩ := be_cp f3 (by decide) hk f4 c2
          have er3 : (xup h2 (r + 1 + 2) k (.int v2)).2.1 r = h.2.1 r := by rw [xup_nea (fr 2 (by decide))]; exact er2
          have es3 : (xup h2 (r + 1 + 2) k (.int v2)).2.1 s = h.2.1 s := by rw [xup_nea (fs 2 (by decide))]; exact es2
          obtain ⟨k1, k2, k3, k4⟩ := a0 (xup h2 (r + 1 + 2) k (.int v2)) hb1 er3 es3 3 (by decide)
          obtain ⟨m1, m2⟩ := be_cp (v := v3) k3 (by decide) hk k4 (by rw [xup_nea (far 3 2 (by decide) (by decide))]; exact c3)
          have er4 : (xup (xup h2 (r + 1 + 2) k (.int v2)) (r + 1 + 3) k (.int v3)).2.1 r = h.2.1 r := by rw [xup_nea (fr 3 (by decide))]; exact er3
          have es4 : (xup (xup h2 (r + 1 + 2) k (.int v2)) (r + 1 + 3) k (.int v3)).2.1 s = h.2.1 s := by rw [xup_nea (fs 3 (by decide))]; exact es3
          obtain ⟨u1, u2, u3, u4⟩ := a0 (xup (xup h2 (r + 1 + 2) k (.int v2)) (r + 1 + 3) k (.int v3)) hb1 er4 es4 4 (by decide)
          obtain ⟨w1, w2⟩ := be_cp (v := v4) u3 (by decide) hk u4 (by rw [xup_nea (far 4 3 (by decide) (by decide)), xup_nea (far 4 2 (by decide) (by decide))]; exact c4)
          have z1 : ¬ iv k ≥ 8 := iv_stop (N := 8) hk (by decide)
          unfold k_X3_be_L40
          repeat (with_reducible first | refine ok_sb ?_ | refine ok_b (by assumption) ?_ | refine ok_pos (by assumption) ?_ | refine ok_neg (by assumption) ?_)
          refine ok_s ⟨iv_succ k, b1, b2, fun b hb => ?_, fun i j i1 i2 => ?_⟩
          · show (xup (xup (xup h2 (r + 1 + 2) k (.int v2)) (r + 1 + 3) k (.int v3)) (r + 1 + 4) k (.int v4)).2.1 b = _
            rw [xup_nea (hb 4 (by decide) (by decide)), xup_nea (hb 3 (by decide) (by decide)), xup_nea (hb 2 (by decide) (by decide))]
            exact b3 b hb
          · show (xup (xup (xup h2 (r + 1 + 2) k (.int v2)) (r + 1 + 3) k (.int v3)) (r + 1 + 4) k (.int v4)).2.1 (r + 1 + i) j = _
            have hc : i = 2 ∨ i = 3 ∨ i = 4 := by omega
            have fin : j ≠ k → (if j < k then h1.2.1 (s + 1 + i) j else h1.2.1 (r + 1 + i) j) = (if j < k + 1 then h1.2.1 (s + 1 + i) j else h1.2.1 (r + 1 + i) j) := by
              intro z
              by_cases y : j < k
              · rw [if_pos y, if_pos (by omega)]
              · rw [if_neg y, if_neg (by omega)]
            rcases hc with rfl | rfl | rfl
            · rw [xup_nea (by omega), xup_nea (by omega)]
              by_cases z : j = k
              · subst z
                rw [xup_eq, if_pos (by omega), hv2]
              · rw [xup_ne (fun y => z y.2), b4 2 j i1 i2]
                exact fin z
            · rw [xup_nea (by omega)]
              by_cases z : j = k
              · subst z
                rw [xup_eq, if_pos (by omega), hv3]
              · rw [xup_ne (fun y => z y.2), xup_nea (by omega), b4 3 j i1 i2]
                exact fin z
            · by_cases z : j = k
              · subst z
                rw [xup_eq, if_pos (by omega), hv4]
              · rw [xup_ne (fun y => z y.2), xup_nea (by omega), xup_nea (by omega), b4 4 j i1 i2]
                exact fin z
        · rintro ⟨i, h2⟩ ⟨i1, b⟩
          dsimp only at i1 b ⊢
          subst i1
          have z1 : iv 8 ≥ 8 := iv_end (N := 8) (by decide)
          unfold k_X3_be_L40
          repeat (with_reducible first | refine ok_sb ?_ | refine ok_b (by assumption) ?_ | refine ok_pos (by assumption) ?_ | refine ok_neg (by assumption) ?_)
          exact ok_s b
      · obtain ⟨t1, t2, t3, t4⟩ := q2
        have er2 : h2.2.1 r = h.2.1 r := by rw [t3 r (fun i _ hi => fr i (by omega))]; exact er
        have es2 : h2.2.1 s = h.2.1 s := by rw [t3 s (fun i _ hi => fs i (by omega))]; exact es
        have hb : h2.1 = h.1 := t1.trans p1
        have hr2 : h2.1 r = some (2, 10, 1) := by rw [hb]; exact r1
        have hs2 : h2.1 s = some (2, 10, 1) := by rw [hb]; exact s1
        have ss : ∀ i, i < 5 → h1.2.1 (s + 1 + i) = h.2.1 (s + 1 + i) := fun i hi => p3 _ (fun j _ hj => far i j hi (by omega))
        have cells : ∀ i j, i < 5 → j < 8 → h2.2.1 (r + 1 + i) j = h.2.1 (s + 1 + i) j := by
          intro i j hi hj
          by_cases z : i < 2
          · rw [t3 _ (fun k k1 k2 => by omega), p4 i j (Nat.zero_le _) z, if_pos hj]
          · rw [t4 i j (by omega) hi, if_pos hj, ss i hi]
        have f0 : cgI h2 s 2 5 = some (w 0) := cgI_is hs2 (by rw [es2]; exact s3.1)
        have f1 : cpu h2 r 2 5 (.int (w 0)) = some (xup h2 r 5 (.int (w 0))) := cpu_is hr2 (by decide)
        have f2 : cgI (xup h2 r 5 (.int (w 0))) s 2 6 = some (w 1) := cgI_is hs2 (by rw [xup_nea hne, es2]; exact s3.2.1)
        have f3 : cpu (xup h2 r 5 (.int (w 0))) r 2 6 (.int (w 1)) = some (xup (xup h2 r 5 (.int (w 0))) r 6 (.int (w 1))) := cpu_is hr2 (by decide)
        have f4 : cgI (xup (xup h2 r 5 (.int (w 0))) r 6 (.int (w 1))) s 2 7 = some (w 2) := cgI_is hs2 (by rw [xup_nea hne, xup_nea hne, es2]; exact s3.2.2.1)
        have f5 : cpZ (xup (xup h2 r 5 (.int (w 0))) r 6 (.int (w 1))) r 2 7 (w 2) = some (xup (xup (xup h2 r 5 (.int (w 0))) r 6 (.int (w 1))) r 7 (.int (w 2))) := cpZ_is hr2 (by decide) hd2
        have f6 : cpu (xup (xup (xup h2 r 5 (.int (w 0))) r 6 (.int (w 1))) r 7 (.int (w 2))) r 2 8 (.int (-1)) = some (xup (xup (xup (xup h2 r 5 (.int (w 0))) r 6 (.int (w 1))) r 7 (.int (w 2))) r 8 (.int (-1))) := cpu_is hr2 (by decide)
        repeat (with_reducible first | refine ok_sb ?_ | refine ok_b (by assumption) ?_ | refine ok_pos (by assumption) ?_ | refine ok_neg (by assumption) ?_)
        refine ok_s ⟨rfl, ?_, ?_⟩
        · have q1 : Fq (Wst r) h h2 := by
            refine ⟨hb, t2.trans p2, fun b k n t e hn => ?_⟩
            have nb : ∀ i, i < 5 → b ≠ r + 1 + i := by
              intro i hi z
              subst z
              rw [(r2 i hi).2] at e
              cases e
              exact hn (Or.inr (Or.inl ⟨rfl, by omega, by omega⟩))
            rw [t3 b (fun i _ hi => nb i hi), p3 b (fun i _ hi => nb i (by omega))]
          have hp : Wst r r 2 1 := Or.inl ⟨rfl, rfl, rfl⟩
          exact q1.trans ((Fq.put hr2 hp).trans ((Fq.put (h := xup h2 r 5 (.int (w 0))) hr2 hp).trans ((Fq.put (h := xup (xup h2 r 5 (.int (w 0))) r 6 (.int (w 1))) hr2 hp).trans (Fq.put (h := xup (xup (xup h2 r 5 (.int (w 0))) r 6 (.int (w 1))) r 7 (.int (w 2))) hr2 hp))))
        · have low : ∀ b, b ≠ r → (xup (xup (xup (xup h2 r 5 (.int (w 0))) r 6 (.int (w 1))) r 7 (.int (w 2))) r 8 (.int (-1))).2.1 b = h2.2.1 b := fun b hb => by rw [xup_nea hb, xup_nea hb, xup_nea hb, xup_nea hb]
          refine ⟨hr2, fun i hi => ⟨?_, ?_, fun j hj => ?_⟩, ⟨?_, ?_, ?_, ?_, ?_⟩, fun j hj => ⟨?_, ?_⟩, fun j hj => ⟨?_, ?_, ?_⟩⟩
          · rw [xup_ne (by omega), xup_ne (by omega), xup_ne (by omega), xup_ne (by omega), er2]
            exact (r2 i hi).1
          · show h2.1 (r + 1 + i) = _
            rw [hb]; exact (r2 i hi).2
          · rw [low _ (by omega), cells i j hi hj]
            exact (s2 i hi).2.2 j hj
          · rw [xup_ne (by omega), xup_ne (by omega), xup_ne (by omega), xup_eq]
          · rw [xup_ne (by omega), xup_ne (by omega), xup_eq]
          · rw [xup_ne (by omega), xup_eq]
          · rw [xup_eq, hd]
          · rw [xup_ne (by omega), xup_ne (by omega), xup_ne (by omega), xup_ne (by omega), er2]
            exact r3
          · rw [low _ (by omega)]; exact (cells 0 j (by decide) (by omega)).trans (s4 j hj).1
          · rw [low _ (by omega)]; exact (cells 1 j (by decide) (by omega)).trans (s4 j hj).2
          · rw [low _ (by omega)]; exact (cells 2 j (by decide) (by omega)).trans (s5 j hj).1
          · rw [low _ (by omega)]; exact (cells 3 j (by decide) (by omega)).trans (s5 j hj).2.1
          · rw [low _ (by omega)]; exact (cells 4 j (by decide) (by omega)).trans (s5 j hj).2.2
  obtain ⟨⟨a, h'⟩, e, q1, q2, q3⟩ := key
  dsimp only at q1 q2 q3
  subst q1
  exact ⟨h', e, q2, q3⟩
end BE
