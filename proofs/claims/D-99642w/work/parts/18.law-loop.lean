set_option maxRecDepth 100000
def LOps (E : XEnv) (n g b L : Nat) (xs : Nat → Int32) (x m o : Nat) (ad : Nat → Nat) (LI : XH → TS → Prop) : Prop := LOp_0 E n g b L xs x m o ad LI ∧ LOp_1 E n g b L xs x m o ad LI ∧ LOp_2 E n g b L xs x m o ad LI ∧ LOp_3 E n g b L xs x m o ad LI ∧ LOp_4 E n g b L xs x m o ad LI ∧ LOp_5 E n g b L xs x m o ad LI ∧ LOp_6 E n g b L xs x m o ad LI ∧ LOp_7 E n g b L xs x m o ad LI ∧ LOp_8 E n g b L xs x m o ad LI ∧ LOp_9 E n g b L xs x m o ad LI ∧ LOp_10 E n g b L xs x m o ad LI ∧ LOp_11 E n g b L xs x m o ad LI ∧ LOp_12 E n g b L xs x m o ad LI ∧ LOp_13 E n g b L xs x m o ad LI ∧ LOp_14 E n g b L xs x m o ad LI ∧ LOp_15 E n g b L xs x m o ad LI ∧ LOp_16 E n g b L xs x m o ad LI ∧ LOp_17 E n g b L xs x m o ad LI ∧ LOp_18 E n g b L xs x m o ad LI ∧ LOp_19 E n g b L xs x m o ad LI ∧ LOp_20 E n g b L xs x m o ad LI ∧ LOp_21 E n g b L xs x m o ad LI ∧ LOp_22 E n g b L xs x m o ad LI ∧ LOp_23 E n g b L xs x m o ad LI ∧ LOp_24 E n g b L xs x m o ad LI ∧ LOp_25 E n g b L xs x m o ad LI ∧ LOp_26 E n g b L xs x m o ad LI ∧ LOp_27 E n g b L xs x m o ad LI ∧ LOp_28 E n g b L xs x m o ad LI ∧ LOp_29 E n g b L xs x m o ad LI ∧ LOp_30 E n g b L xs x m o ad LI ∧ LOp_31 E n g b L xs x m o ad LI ∧ LOp_32 E n g b L xs x m o ad LI ∧ LOp_33 E n g b L xs x m o ad LI ∧ LOp_34 E n g b L xs x m o ad LI ∧ LOp_35 E n g b L xs x m o ad LI ∧ LOp_36 E n g b L xs x m o ad LI ∧ LOp_37 E n g b L xs x m o ad LI ∧ LOp_38 E n g b L xs x m o ad LI ∧ LOp_39 E n g b L xs x m o ad LI ∧ LOp_40 E n g b L xs x m o ad LI ∧ LOp_41 E n g b L xs x m o ad LI ∧ LOp_42 E n g b L xs x m o ad LI ∧ LOp_43 E n g b L xs x m o ad LI ∧ LOp_44 E n g b L xs x m o ad LI ∧ LOp_45 E n g b L xs x m o ad LI ∧ LOp_46 E n g b L xs x m o ad LI ∧ LOp_47 E n g b L xs x m o ad LI ∧ LOp_48 E n g b L xs x m o ad LI
theorem lx_t49 {t : Nat} (h : t < 49) : t = 0 ∨ t = 1 ∨ t = 2 ∨ t = 3 ∨ t = 4 ∨ t = 5 ∨ t = 6 ∨ t = 7 ∨ t = 8 ∨ t = 9 ∨ t = 10 ∨ t = 11 ∨ t = 12 ∨ t = 13 ∨ t = 14 ∨ t = 15 ∨ t = 16 ∨ t = 17 ∨ t = 18 ∨ t = 19 ∨ t = 20 ∨ t = 21 ∨ t = 22 ∨ t = 23 ∨ t = 24 ∨ t = 25 ∨ t = 26 ∨ t = 27 ∨ t = 28 ∨ t = 29 ∨ t = 30 ∨ t = 31 ∨ t = 32 ∨ t = 33 ∨ t = 34 ∨ t = 35 ∨ t = 36 ∨ t = 37 ∨ t = 38 ∨ t = 39 ∨ t = 40 ∨ t = 41 ∨ t = 42 ∨ t = 43 ∨ t = 44 ∨ t = 45 ∨ t = 46 ∨ t = 47 ∨ t = 48 := by omega
theorem lx_and63 (x : Int32) : True := trivial
theorem law_head {l : Launch} {E : XEnv} {b L : Nat} {xs : Nat → Int32} {x m o : Nat} {ad : Nat → Nat} {LI : XH → TS → Prop} (hLE : ∀ h S, LI h S → LE b L xs x m o ad h S) {d k n i : Nat} {h : XH} {S : TS} {Q : XO → XH → Prop} (hL : L ≤ 384) (hQ : ∀ h, Q (.inl (some (.int 1))) h) (hi : i ≤ 384) (hI : LI h S) (kk : i + 5 < L → XW l E mL_law d k n 33 [(0, .ref b), (1, .ref x), (2, .ref m), (3, .ref o), (4, .int (Int32.ofNat i))] [] h Q) : XW l E mL_law d k n 23 [(0, .ref b), (1, .ref x), (2, .ref m), (3, .ref o), (4, .int (Int32.ofNat i))] [] h Q := by
  have hE := hLE h S hI
  refine xw_iload dL_law_23 rfl ?_
  refine xw_aload_n dL_law_25 rfl rfl ?_
  refine xw_alen (t := 0) (by decide) dL_law_26 hE.1 ?_
  refine xw_bipush (v := 6) dL_law_27 (by decide) ?_
  refine xw_isub dL_law_29 ?_
  have e1 : (Int32.ofNat i).toInt = (i : Int) := Int32.toInt_ofNat_of_lt (by omega)
  have e2 : (Int32.ofNat L - 6).toInt = (L : Int) - 6 := by
    have e3 : (Int32.ofNat L).toInt = (L : Int) := Int32.toInt_ofNat_of_lt (by omega)
    rw [Int32.toInt_sub, e3]
    show ((L : Int) - 6).bmod (2 ^ 32) = _
    exact Int.bmod_eq_of_le (by omega) (by omega)
  refine xw_icmp_gt (tgt := 3021) dL_law_30 (by decide) (fun z => ?_) (fun z => ?_)
  · refine xw_iconst (v := 1) dL_law_3021 rfl ?_
    exact xw_iret dL_law_3022 rfl rfl (hQ h)
  · refine kk ?_
    have z2 : ¬ (Int32.ofNat L - 6 < Int32.ofNat i) := z
    rw [Int32.lt_iff_toInt_lt, e1, e2] at z2
    omega
set_option maxHeartbeats 8000000 in
theorem law_loop {l : Launch} {E : XEnv} {n g b L : Nat} {xs : Nat → Int32} {x m o : Nat} {ad : Nat → Nat} {LI : XH → TS → Prop} (hops : LOps E n g b L xs x m o ad LI) (hLE : ∀ h S, LI h S → LE b L xs x m o ad h S) (hN : va_Nc "java/lang/IllegalArgumentException" "java/util/NoSuchElementException" E.1) {d kM nM : Nat} {Q : XO → XH → Prop} (hg : g ≤ 100) (hd : 2000 ≤ d) (hL : L ≤ 384) (hQ : ∀ h, Q (.inl (some (.int 1))) h) : ∀ (R i : Nat) (h : XH) (S : TS), i + 6 * R = 384 → LI h S → h.2.2.1 + 14000 * R ≤ kM → h.2.2.2 + 98000 * R ≤ nM → XW l E mL_law d (kM - h.2.2.1) (nM - h.2.2.2) 23 [(0, .ref b), (1, .ref x), (2, .ref m), (3, .ref o), (4, .int (Int32.ofNat i))] [] h Q := by
  obtain ⟨o0, o1, o2, o3, o4, o5, o6, o7, o8, o9, o10, o11, o12, o13, o14, o15, o16, o17, o18, o19, o20, o21, o22, o23, o24, o25, o26, o27, o28, o29, o30, o31, o32, o33, o34, o35, o36, o37, o38, o39, o40, o41, o42, o43, o44, o45, o46, o47, o48⟩ := hops
  intro R
  induction R with
  | zero =>
    intro i h S hi hI hk hn
    exact law_head hLE hL hQ (by omega) hI (fun z => absurd z (by omega))
  | succ R ih =>
    intro i h S hi hI hk hn
    rw [Nat.mul_succ] at hk hn
    have hk1 : h.2.2.1 + 14000 ≤ kM := Nat.le_trans (Nat.add_le_add_left (Nat.le_add_left _ _) _) hk
    have hn1 : h.2.2.2 + 98000 ≤ nM := Nat.le_trans (Nat.add_le_add_left (Nat.le_add_left _ _) _) hn
    have hi9 : i + 6 ≤ 384 := by
      clear hn hn1 hk hk1
      omega
    refine law_head hLE hL hQ (by omega) hI (fun hiL => ?_)
    have nx : ∀ h2 S2, LI h2 S2 → h2.2.2.1 ≤ h.2.2.1 + 14000 → h2.2.2.2 ≤ h.2.2.2 + 98000 → XW l E mL_law d (kM - h2.2.2.1) (nM - h2.2.2.2) 3015 [(0, .ref b), (1, .ref x), (2, .ref m), (3, .ref o), (4, .int (Int32.ofNat i))] [] h2 Q := by
      intro h2 S2 hI2 q1 q2
      refine xw_iinc (v := Int32.ofNat (i + 6)) dL_law_3015 rfl (by decide) (by rw [Int32.ofNat_add]; rfl) ?_
      refine xw_goto (tgt := 23) dL_law_3018 (by decide) ?_
      exact lx_lsK (ih (i + 6) h2 S2 (by clear hn hn1 hk hk1 q1 q2; omega) hI2 (Nat.le_trans (Nat.add_le_add_right q1 _) (by rw [Nat.add_assoc, Nat.add_comm 14000]; exact hk)) (Nat.le_trans (Nat.add_le_add_right q2 _) (by rw [Nat.add_assoc, Nat.add_comm 98000]; exact hn))) ⟨rfl, rfl, rfl, rfl, rfl, trivial⟩
    have hE := hLE h S hI
    refine xw_aload_n dL_law_33 rfl rfl ?_
    refine xw_iload dL_law_34 rfl ?_
    have e0 : Int32.ofNat i = Int32.ofNat i + 0 := by simp
    rw [e0]
    refine lx_rd 0 rfl hE (by omega) hL dL_law_36 ?_
    rw [← e0]
    refine xw_bipush (v := 63) dL_law_37 (by decide) ?_
    refine xw_iand dL_law_39 ?_
    have ra := lx_and63 (xs (i + 0))
    generalize xs (i + 0) &&& 63 = y at ra ⊢
    by_cases hy : y.toInt < 0 ∨ 48 < y.toInt
    · refine xw_tableOut (tgt := 3015) dL_law_40 hy (by decide) ?_
      exact nx h S hI (Nat.le_add_right _ _) (Nat.le_add_right _ _)
    · have g1 : ¬ y.toInt < 0 := fun z => hy (Or.inl z)
      have g2 : ¬ 48 < y.toInt := fun z => hy (Or.inr z)
      have ht : y.toInt = (y.toInt.toNat : Int) := by omega
      generalize y.toInt.toNat = t at ht
      have ht9 : t < 49 := by omega
      rcases lx_t49 ht9 with rfl | rfl | rfl | rfl | rfl | rfl | rfl | rfl | rfl | rfl | rfl | rfl | rfl | rfl | rfl | rfl | rfl | rfl | rfl | rfl | rfl | rfl | rfl | rfl | rfl | rfl | rfl | rfl | rfl | rfl | rfl | rfl | rfl | rfl | rfl | rfl | rfl | rfl | rfl | rfl | rfl | rfl | rfl | rfl | rfl | rfl | rfl | rfl | rfl
      · exact xw_tableIn (off := 212) (tgt := 252) dL_law_40 g1 g2 (by rw [ht]; rfl) (by decide) (law_c0 o0 hLE hN hI hg hd (by omega) hL hk1 hn1 nx)
      · exact xw_tableIn (off := 285) (tgt := 325) dL_law_40 g1 g2 (by rw [ht]; rfl) (by decide) (law_c1 o1 hLE hN hI hg hd (by omega) hL hk1 hn1 nx)
      · exact xw_tableIn (off := 341) (tgt := 381) dL_law_40 g1 g2 (by rw [ht]; rfl) (by decide) (law_c2 o2 hLE hN hI hg hd (by omega) hL hk1 hn1 nx)
      · exact xw_tableIn (off := 354) (tgt := 394) dL_law_40 g1 g2 (by rw [ht]; rfl) (by decide) (law_c3 o3 hLE hN hI hg hd (by omega) hL hk1 hn1 nx)
      · exact xw_tableIn (off := 410) (tgt := 450) dL_law_40 g1 g2 (by rw [ht]; rfl) (by decide) (law_c4 o4 hLE hN hI hg hd (by omega) hL hk1 hn1 nx)
      · exact xw_tableIn (off := 478) (tgt := 518) dL_law_40 g1 g2 (by rw [ht]; rfl) (by decide) (law_c5 o5 hLE hN hI hg hd (by omega) hL hk1 hn1 nx)
      · exact xw_tableIn (off := 546) (tgt := 586) dL_law_40 g1 g2 (by rw [ht]; rfl) (by decide) (law_c6 o6 hLE hN hI hg hd (by omega) hL hk1 hn1 nx)
      · exact xw_tableIn (off := 614) (tgt := 654) dL_law_40 g1 g2 (by rw [ht]; rfl) (by decide) (law_c7 o7 hLE hN hI hg hd (by omega) hL hk1 hn1 nx)
      · exact xw_tableIn (off := 639) (tgt := 679) dL_law_40 g1 g2 (by rw [ht]; rfl) (by decide) (law_c8 o8 hLE hN hI hg hd (by omega) hL hk1 hn1 nx)
      · exact xw_tableIn (off := 707) (tgt := 747) dL_law_40 g1 g2 (by rw [ht]; rfl) (by decide) (law_c9 o9 hLE hN hI hg hd (by omega) hL hk1 hn1 nx)
      · exact xw_tableIn (off := 763) (tgt := 803) dL_law_40 g1 g2 (by rw [ht]; rfl) (by decide) (law_c10 o10 hLE hN hI hg hd (by omega) hL hk1 hn1 nx)
      · exact xw_tableIn (off := 831) (tgt := 871) dL_law_40 g1 g2 (by rw [ht]; rfl) (by decide) (law_c11 o11 hLE hN hI hg hd (by omega) hL hk1 hn1 nx)
      · exact xw_tableIn (off := 906) (tgt := 946) dL_law_40 g1 g2 (by rw [ht]; rfl) (by decide) (law_c12 o12 hLE hN hI hg hd (by omega) hL hk1 hn1 nx)
      · exact xw_tableIn (off := 919) (tgt := 959) dL_law_40 g1 g2 (by rw [ht]; rfl) (by decide) (law_c13 o13 hLE hN hI hg hd (by omega) hL hk1 hn1 nx)
      · exact xw_tableIn (off := 932) (tgt := 972) dL_law_40 g1 g2 (by rw [ht]; rfl) (by decide) (law_c14 o14 hLE hN hI hg hd (by omega) hL hk1 hn1 nx)
      · exact xw_tableIn (off := 1012) (tgt := 1052) dL_law_40 g1 g2 (by rw [ht]; rfl) (by decide) (law_c15 o15 hLE hN hI hg hd (by omega) hL hk1 hn1 nx)
      · exact xw_tableIn (off := 1080) (tgt := 1120) dL_law_40 g1 g2 (by rw [ht]; rfl) (by decide) (law_c16 o16 hLE hN hI hg hd (by omega) hL hk1 hn1 nx)
      · exact xw_tableIn (off := 1136) (tgt := 1176) dL_law_40 g1 g2 (by rw [ht]; rfl) (by decide) (law_c17 o17 hLE hN hI hg hd (by omega) hL hk1 hn1 nx)
      · exact xw_tableIn (off := 1192) (tgt := 1232) dL_law_40 g1 g2 (by rw [ht]; rfl) (by decide) (law_c18 o18 hLE hN hI hg hd (by omega) hL hk1 hn1 nx)
      · exact xw_tableIn (off := 1248) (tgt := 1288) dL_law_40 g1 g2 (by rw [ht]; rfl) (by decide) (law_c19 o19 hLE hN hI hg hd (by omega) hL hk1 hn1 nx)
      · exact xw_tableIn (off := 1304) (tgt := 1344) dL_law_40 g1 g2 (by rw [ht]; rfl) (by decide) (law_c20 o20 hLE hN hI hg hd (by omega) hL hk1 hn1 nx)
      · exact xw_tableIn (off := 1360) (tgt := 1400) dL_law_40 g1 g2 (by rw [ht]; rfl) (by decide) (law_c21 o21 hLE hN hI hg hd (by omega) hL hk1 hn1 nx)
      · exact xw_tableIn (off := 1416) (tgt := 1456) dL_law_40 g1 g2 (by rw [ht]; rfl) (by decide) (law_c22 o22 hLE hN hI hg hd (by omega) hL hk1 hn1 nx)
      · exact xw_tableIn (off := 1472) (tgt := 1512) dL_law_40 g1 g2 (by rw [ht]; rfl) (by decide) (law_c23 o23 hLE hN hI hg hd (by omega) hL hk1 hn1 nx)
      · exact xw_tableIn (off := 1528) (tgt := 1568) dL_law_40 g1 g2 (by rw [ht]; rfl) (by decide) (law_c24 o24 hLE hN hI hg hd (by omega) hL hk1 hn1 nx)
      · exact xw_tableIn (off := 1596) (tgt := 1636) dL_law_40 g1 g2 (by rw [ht]; rfl) (by decide) (law_c25 o25 hLE hN hI hg hd (by omega) hL hk1 hn1 nx)
      · exact xw_tableIn (off := 1664) (tgt := 1704) dL_law_40 g1 g2 (by rw [ht]; rfl) (by decide) (law_c26 o26 hLE hN hI hg hd (by omega) hL hk1 hn1 nx)
      · exact xw_tableIn (off := 1720) (tgt := 1760) dL_law_40 g1 g2 (by rw [ht]; rfl) (by decide) (law_c27 o27 hLE hN hI hg hd (by omega) hL hk1 hn1 nx)
      · exact xw_tableIn (off := 1800) (tgt := 1840) dL_law_40 g1 g2 (by rw [ht]; rfl) (by decide) (law_c28 o28 hLE hN hI hg hd (by omega) hL hk1 hn1 nx)
      · exact xw_tableIn (off := 1811) (tgt := 1851) dL_law_40 g1 g2 (by rw [ht]; rfl) (by decide) (law_c29 o29 hLE hN hI hg hd (by omega) hL hk1 hn1 nx)
      · exact xw_tableIn (off := 1867) (tgt := 1907) dL_law_40 g1 g2 (by rw [ht]; rfl) (by decide) (law_c30 o30 hLE hN hI hg hd (by omega) hL hk1 hn1 nx)
      · exact xw_tableIn (off := 1923) (tgt := 1963) dL_law_40 g1 g2 (by rw [ht]; rfl) (by decide) (law_c31 o31 hLE hN hI hg hd (by omega) hL hk1 hn1 nx)
      · exact xw_tableIn (off := 2003) (tgt := 2043) dL_law_40 g1 g2 (by rw [ht]; rfl) (by decide) (law_c32 o32 hLE hN hI hg hd (by omega) hL hk1 hn1 nx)
      · exact xw_tableIn (off := 2095) (tgt := 2135) dL_law_40 g1 g2 (by rw [ht]; rfl) (by decide) (law_c33 o33 hLE hN hI hg hd (by omega) hL hk1 hn1 nx)
      · exact xw_tableIn (off := 2175) (tgt := 2215) dL_law_40 g1 g2 (by rw [ht]; rfl) (by decide) (law_c34 o34 hLE hN hI hg hd (by omega) hL hk1 hn1 nx)
      · exact xw_tableIn (off := 2231) (tgt := 2271) dL_law_40 g1 g2 (by rw [ht]; rfl) (by decide) (law_c35 o35 hLE hN hI hg hd (by omega) hL hk1 hn1 nx)
      · exact xw_tableIn (off := 2299) (tgt := 2339) dL_law_40 g1 g2 (by rw [ht]; rfl) (by decide) (law_c36 o36 hLE hN hI hg hd (by omega) hL hk1 hn1 nx)
      · exact xw_tableIn (off := 2355) (tgt := 2395) dL_law_40 g1 g2 (by rw [ht]; rfl) (by decide) (law_c37 o37 hLE hN hI hg hd (by omega) hL hk1 hn1 nx)
      · exact xw_tableIn (off := 2411) (tgt := 2451) dL_law_40 g1 g2 (by rw [ht]; rfl) (by decide) (law_c38 o38 hLE hN hI hg hd (by omega) hL hk1 hn1 nx)
      · exact xw_tableIn (off := 2467) (tgt := 2507) dL_law_40 g1 g2 (by rw [ht]; rfl) (by decide) (law_c39 o39 hLE hN hI hg hd (by omega) hL hk1 hn1 nx)
      · exact xw_tableIn (off := 2523) (tgt := 2563) dL_law_40 g1 g2 (by rw [ht]; rfl) (by decide) (law_c40 o40 hLE hN hI hg hd (by omega) hL hk1 hn1 nx)
      · exact xw_tableIn (off := 2579) (tgt := 2619) dL_law_40 g1 g2 (by rw [ht]; rfl) (by decide) (law_c41 o41 hLE hN hI hg hd (by omega) hL hk1 hn1 nx)
      · exact xw_tableIn (off := 2659) (tgt := 2699) dL_law_40 g1 g2 (by rw [ht]; rfl) (by decide) (law_c42 o42 hLE hN hI hg hd (by omega) hL hk1 hn1 nx)
      · exact xw_tableIn (off := 2715) (tgt := 2755) dL_law_40 g1 g2 (by rw [ht]; rfl) (by decide) (law_c43 o43 hLE hN hI hg hd (by omega) hL hk1 hn1 nx)
      · exact xw_tableIn (off := 2771) (tgt := 2811) dL_law_40 g1 g2 (by rw [ht]; rfl) (by decide) (law_c44 o44 hLE hN hI hg hd (by omega) hL hk1 hn1 nx)
      · exact xw_tableIn (off := 2827) (tgt := 2867) dL_law_40 g1 g2 (by rw [ht]; rfl) (by decide) (law_c45 o45 hLE hN hI hg hd (by omega) hL hk1 hn1 nx)
      · exact xw_tableIn (off := 2895) (tgt := 2935) dL_law_40 g1 g2 (by rw [ht]; rfl) (by decide) (law_c46 o46 hLE hN hI hg hd (by omega) hL hk1 hn1 nx)
      · exact xw_tableIn (off := 2951) (tgt := 2991) dL_law_40 g1 g2 (by rw [ht]; rfl) (by decide) (law_c47 o47 hLE hN hI hg hd (by omega) hL hk1 hn1 nx)
      · exact xw_tableIn (off := 2962) (tgt := 3002) dL_law_40 g1 g2 (by rw [ht]; rfl) (by decide) (law_c48 o48 hLE hN hI hg hd (by omega) hL hk1 hn1 nx)
