set_option maxRecDepth 100000
def imax (x y : Int32) : Int32 := if x < y then y else x
def imin (x y : Int32) : Int32 := if y < x then y else x
def iabs (x : Int32) : Int32 := if 0 ≤ x then x else 0 - x
section XMATH
variable {l : Launch} {E : XEnv} {M : XMeth} {d k n pc idx : Nat} {ls : List (Nat × Value)} {st : List Value} {h hf : XH} {res : XO} {Q : XO → XH → Prop} {x y : Int32}
theorem xw_mmax (hlk : Cond.methodLink M.1.cls idx Lib.Math.max.name ∈ lw_all) (hd : decode M.2.1 pc = .ok (.invokestatic idx, 3)) (hdd : 1 ≤ d) (hst : (st.map fun v => v.category).sum ≤ 8) (kk : XW l E M d k n (pc + 3) ls (.int (imax x y) :: st) h Q) : XW l E M d k n pc ls (.int y :: .int x :: st) h Q := by
  intro p e R s m args below meth c H locs cells slots kc ks Z la hC h1 h2 h3 h4 hR hS hl hG
  have hd1 := xc_d hC
  have hd2 := xc_dl hC
  exact va_mmax (xc_exec hC) (xc_code hC) (by rw [xc_ml hC]; exact hl.1.symm) (xc_own hC) (xc_w hC _ hlk) (xc_w hC _ q383) (xc_w hC _ q134) (xc_w hC _ q384) (by omega) (by omega) (by omega) (by omega) hd (kk p e R s m args below meth c H locs cells slots kc ks Z la hC h1 h2 h3 h4 hR hS hl hG)
theorem cx_mmax (hlk : Cond.methodLink M.1.cls idx Lib.Math.max.name ∈ lw_all) (hd : decode M.2.1 pc = .ok (.invokestatic idx, 3)) (hdd : 1 ≤ d) (hst : (st.map fun v => v.category).sum ≤ 8) (kk : CX l E M d (pc + 3) ls (.int (imax x y) :: st) h hf res) : CX l E M d pc ls (.int y :: .int x :: st) h hf res := ⟨kk.1, xw_mmax hlk hd hdd hst kk.2⟩
theorem xw_mmin (hlk : Cond.methodLink M.1.cls idx Lib.Math.min.name ∈ lw_all) (hd : decode M.2.1 pc = .ok (.invokestatic idx, 3)) (hdd : 1 ≤ d) (hst : (st.map fun v => v.category).sum ≤ 8) (kk : XW l E M d k n (pc + 3) ls (.int (imin x y) :: st) h Q) : XW l E M d k n pc ls (.int y :: .int x :: st) h Q := by
  intro p e R s m args below meth c H locs cells slots kc ks Z la hC h1 h2 h3 h4 hR hS hl hG
  have hd1 := xc_d hC
  have hd2 := xc_dl hC
  exact va_mmin (xc_exec hC) (xc_code hC) (by rw [xc_ml hC]; exact hl.1.symm) (xc_own hC) (xc_w hC _ hlk) (xc_w hC _ q418) (xc_w hC _ q134) (xc_w hC _ q419) (by omega) (by omega) (by omega) (by omega) hd (kk p e R s m args below meth c H locs cells slots kc ks Z la hC h1 h2 h3 h4 hR hS hl hG)
theorem cx_mmin (hlk : Cond.methodLink M.1.cls idx Lib.Math.min.name ∈ lw_all) (hd : decode M.2.1 pc = .ok (.invokestatic idx, 3)) (hdd : 1 ≤ d) (hst : (st.map fun v => v.category).sum ≤ 8) (kk : CX l E M d (pc + 3) ls (.int (imin x y) :: st) h hf res) : CX l E M d pc ls (.int y :: .int x :: st) h hf res := ⟨kk.1, xw_mmin hlk hd hdd hst kk.2⟩
theorem xw_mabs (hlk : Cond.methodLink M.1.cls idx Lib.Math.abs.name ∈ lw_all) (hd : decode M.2.1 pc = .ok (.invokestatic idx, 3)) (hdd : 1 ≤ d) (hst : (st.map fun v => v.category).sum ≤ 8) (kk : XW l E M d k n (pc + 3) ls (.int (iabs x) :: st) h Q) : XW l E M d k n pc ls (.int x :: st) h Q := by
  intro p e R s m args below meth c H locs cells slots kc ks Z la hC h1 h2 h3 h4 hR hS hl hG
  have hd1 := xc_d hC
  have hd2 := xc_dl hC
  exact va_mabs (xc_exec hC) (xc_code hC) (by rw [xc_ml hC]; exact hl.1.symm) (xc_own hC) (xc_w hC _ hlk) (xc_w hC _ q1287) (xc_w hC _ q134) (xc_w hC _ q1288) (by omega) (by omega) (by omega) (by omega) hd (kk p e R s m args below meth c H locs cells slots kc ks Z la hC h1 h2 h3 h4 hR hS hl hG)
theorem cx_mabs (hlk : Cond.methodLink M.1.cls idx Lib.Math.abs.name ∈ lw_all) (hd : decode M.2.1 pc = .ok (.invokestatic idx, 3)) (hdd : 1 ≤ d) (hst : (st.map fun v => v.category).sum ≤ 8) (kk : CX l E M d (pc + 3) ls (.int (iabs x) :: st) h hf res) : CX l E M d pc ls (.int x :: st) h hf res := ⟨kk.1, xw_mabs hlk hd hdd hst kk.2⟩
theorem xw_ldcwS {i a : Nat} {tx : String} (hi : xstr[i]? = some (M.1.cls, idx, tx)) (ha : E.2.2.2 i = .ref a) (hd : decode M.2.1 pc = .ok (.ldc_w idx, 3)) (kk : XW l E M d k n (pc + 3) ls (.ref a :: st) h Q) : XW l E M d k n pc ls st h Q := by
  intro p e R s m args below meth c H locs cells slots kc ks Z la hC h1 h2 h3 h4 hR hS hl hG
  obtain ⟨a', e1, e2⟩ := (xc_ok hC).2.2.2.2.1 i _ hi
  cases ha.symm.trans e1
  have hZ := vk_R.warm (xc_warm hC) e2
  have hkk := kk p e R s m args below meth c H locs cells slots kc ks Z la hC h1 h2 h3 h4 hR hS hl hG
  intro T hT X
  obtain ⟨t, a1, b1⟩ := hkk T hT X
  exact ⟨t, X.ldcStringW (xc_exec hC) (xc_own hC) (text := tx) (a := a) hZ.1 hZ.2 (g := F0 m pc la st) rfl (by rw [xc_code hC]; exact hd) t a1, b1⟩
theorem cx_ldcwS {i a : Nat} {tx : String} (hi : xstr[i]? = some (M.1.cls, idx, tx)) (hd : decode M.2.1 pc = .ok (.ldc_w idx, 3)) (he : vR (E.2.2.2 i) = some a) (kk : CX l E M d (pc + 3) ls (.ref a :: st) h hf res) : CX l E M d pc ls st h hf res := ⟨kk.1, xw_ldcwS hi (vR_spec he) hd kk.2⟩
end XMATH
theorem at_J6 : ∀ w ∈ vx_at0 "HornHouses" 9 "java/lang/IllegalArgumentException" ["java/lang/RuntimeException", "java/lang/Exception"], w ∈ lw_all ∨ (w ∈ lw_tbl ∧ xwarm w = true) := xat_of [129, 681, 690, 694, 697, 699, 682, 683, 161, 162, 684, 689, 695, 712, 671, 713, 673, 714, 675, 685, 687, 677, 701, 702, 703, 704, 662, 704, 705, 706, 707, 664, 707, 708, 709, 682, 666, 700, 660, 661, 668, 669, 670, 672, 674, 676, 680, 679, 678] (by decide +kernel) (by decide +kernel)
theorem mk_X1_4_X1_right {l : Launch} {E : XEnv} {d : Nat} {ls : List (Nat × Value)} {h h2 hf : XH} {res : XO} (he : cmk h 14 5 = h2) (hdd : 6 ≤ d) (kk : CX l E mX1_right d 11 ls [.ref h.2.2.1] h2 hf res) : CX l E mX1_right d 4 ls [] h hf res :=
  cx_make0 (names := ["java/lang/RuntimeException", "java/lang/Exception"]) (ik := 7) (ic := 9) (ci := 14) (T0 := TJ6) 5 (by decide) rfl (by decide +kernel) (by decide +kernel) q659 q132 at_J6 (by decide +kernel) dX1_right_4 dX1_right_7 dX1_right_8 hdd (Nat.le_of_ble_eq_true rfl) (by decide) he kk
theorem at_J20 : ∀ w ∈ vx_at0 "HornHouses" 3 "java/util/NoSuchElementException" ["java/lang/RuntimeException", "java/lang/Exception"], w ∈ lw_all ∨ (w ∈ lw_tbl ∧ xwarm w = true) := xat_of [129, 681, 690, 694, 697, 699, 682, 683, 161, 162, 684, 689, 695, 712, 671, 713, 673, 714, 675, 685, 687, 677, 1253, 1254, 1255, 704, 662, 704, 705, 706, 707, 664, 707, 708, 709, 682, 666, 1252, 1244, 1245, 1246, 693, 1247, 1248, 1249, 1250, 680, 679, 1251] (by decide +kernel) (by decide +kernel)
theorem mk_X1_4_X1_found {l : Launch} {E : XEnv} {d : Nat} {ls : List (Nat × Value)} {h h2 hf : XH} {res : XO} (he : cmk h 13 5 = h2) (hdd : 6 ≤ d) (kk : CX l E mX1_found d 11 ls [.ref h.2.2.1] h2 hf res) : CX l E mX1_found d 4 ls [] h hf res :=
  cx_make0 (names := ["java/lang/RuntimeException", "java/lang/Exception"]) (ik := 1) (ic := 3) (ci := 13) (T0 := TJ20) 5 (by decide) rfl (by decide +kernel) (by decide +kernel) q1243 q154 at_J20 (by decide +kernel) dX1_found_4 dX1_found_7 dX1_found_8 hdd (Nat.le_of_ble_eq_true rfl) (by decide) he kk
