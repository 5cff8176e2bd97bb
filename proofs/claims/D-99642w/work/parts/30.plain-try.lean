/-! days tried: both sides' second street -/
set_option maxRecDepth 100000
section TRY
variable {x t hi : Nat} {T : Tn} {s r la ls : Nat} {c : Nat → Value} {h h1 : XH} {S S1 : TS} {n g N : Nat} {w : Nat → Int32}
theorem CIx.xc (hC : CIx x t hi T s r la ls c h S) : XC x t T hi h := hC.1.2.2.1
theorem CIx.is0 (hC : CIx x t hi T s r la ls c h S) : ckd h x 0 = some () := hC.xc.is0
theorem CIx.f2 (hC : CIx x t hi T s r la ls c h S) : cgR h x 0 2 = some s := cgR_is hC.xc.1 hC.1.2.2.2.1.1
theorem CIx.f3 (hC : CIx x t hi T s r la ls c h S) : cgR h x 0 3 = some r := cgR_is hC.xc.1 hC.1.2.2.2.1.2.1
theorem CIx.sr (hC : CIx x t hi T s r la ls c h S) : s ≠ r := hC.1.2.2.2.1.2.2
theorem CIx.sv (hC : CIx x t hi T s r la ls c h S) : SV x T h s (trow S 0) := hC.1.2.2.2.2.1
theorem CIx.tt (hC : CIx x t hi T s r la ls c h S) : TT S T := hC.1.2.2.2.2.2.2.1
theorem CIx.wt (hC : CIx x t hi T s r la ls c h S) : WT T := hC.1.2.2.2.2.2.2.2.1
theorem CIx.wf (hC : CIx x t hi T s r la ls c h S) : WF 999 T (trow S 0) := hC.1.2.2.2.2.2.2.2.2.1
theorem CIx.od (hC : CIx x t hi T s r la ls c h S) : S.1 46 = (-1) := hC.1.2.2.2.2.2.2.2.2.2
theorem CIx.hc (hC : CIx x t hi T s r la ls c h S) : ∃ vv, vV (c 25) = some vv := hC.1.2.1.1.2.2
theorem CIx.tl (hC : CIx x t hi T s r la ls c h S) (hT : TL S S1) : CIx x t hi T s r la ls c h S1 := by
  obtain ⟨w, hw⟩ := hC.1.2.2.2.2.2.1
  exact hC.tried Fr.rfl hC.1.1 ⟨w, hw⟩ hT
/-- both second streets are at w -/
def Tr (x r : Nat) (T : Tn) (h : XH) (S : TS) (w : Nat → Int32) (h1 : XH) (S1 : TS) : Prop := Fq (Wst r) h h1 ∧ SV x T h1 r w ∧ trow S1 43 = w ∧ trest 43 S S1
theorem Tr.xc (hR : Tr x r T h S w h1 S1) (hC : CIx x t hi T s r la ls c h S) : XC x t T hi h1 := hC.xc.kst hR.1.fr
theorem Tr.sv (hR : Tr x r T h S w h1 S1) (hC : CIx x t hi T s r la ls c h S) : SV x T h1 s (trow S 0) := hC.sv.apart hR.1.fr hC.sr
theorem Tr.x2 (hR : Tr x r T h S w h1 S1) (hC : CIx x t hi T s r la ls c h S) : h1.2.1 x = h.2.1 x := hR.1.2.2 _ _ _ _ hC.xc.1 (by unfold Wst; omega)
theorem Tr.f2 (hR : Tr x r T h S w h1 S1) (hC : CIx x t hi T s r la ls c h S) : cgR h1 x 0 2 = some s := cgR_is (hR.xc hC).1 (by rw [hR.x2 hC]; exact hC.1.2.2.2.1.1)
theorem Tr.f3 (hR : Tr x r T h S w h1 S1) (hC : CIx x t hi T s r la ls c h S) : cgR h1 x 0 3 = some r := cgR_is (hR.xc hC).1 (by rw [hR.x2 hC]; exact hC.1.2.2.2.1.2.1)
theorem Tr.tt (hR : Tr x r T h S w h1 S1) (hC : CIx x t hi T s r la ls c h S) : TT S1 T := hR.2.2.2.tt hC.tt
theorem Tr.row0 (hR : Tr x r T h S w h1 S1) : trow S1 0 = trow S 0 := hR.2.2.2.other (by omega)
theorem op_tr {cd : String → Int32 → Prop} {v u : Int32} (hC : CIx x t hi T s r la ls c h S) (hR : Tr x r T h S w h1 S1) (h0 : S.1 0 = 0) (hv : u = v) : OP cd x c h (.inl v, h1) (u, S1) := op_try hC hR.1 hR.2.1 hR.2.2.2.tl (by rw [hR.2.2.2.1]; exact h0) hv
theorem tries_is (hn : 50 < n) : Ok (f_tries n S) (fun S1 => trow S1 43 = trow S 0 ∧ trest 43 S S1) := by
  unfold f_tries
  refine ok_c (Q := fun S1 => trow S1 43 = trow S 0 ∧ trest 43 S S1) ?_ (fun S1 q => ok_s q)
  refine ok_loop 43 (fun k st => st.1 = iv k ∧ trest 43 S st.2 ∧ ∀ j, j < k → st.2.2.2 41 (43 + j) = S.2.2 41 j) ⟨rfl, trest.rfl, fun j hj => by omega⟩ ?_ ?_ (by omega)
  · rintro k ⟨i, S1⟩ hk ⟨i1, i2, i3⟩
    dsimp only at i1 i2 i3 ⊢
    subst i1
    have z1 : ¬ iv k ≥ 43 := iv_stop (N := 43) hk (by decide)
    have e1 : trd S1 41 (iv k) = some (S.2.2 41 k) := by rw [trd_nat (i := 41) (show k < 86 by omega), i2.2.2.2 k (by omega)]
    have e2 : twr S1 41 ((43 : Int32) + iv k) (S.2.2 41 k) = some (tpA S1 41 (43 + k) (S.2.2 41 k)) := by
      rw [show (43 : Int32) = iv 43 from rfl, iv_add]
      exact twr_nat (i := 41) (show 43 + k < 86 by omega)
    unfold f_tries_L2
    repeat (with_reducible first | refine ok_sb ?_ | refine ok_b (by assumption) ?_ | refine ok_pos (by assumption) ?_ | refine ok_neg (by assumption) ?_)
    refine ok_s ⟨iv_succ k, i2.trans (trest.put hk), fun j hj => ?_⟩
    show (if 41 = 41 ∧ 43 + j = 43 + k then _ else _) = _
    by_cases z : j = k
    · subst z
      rw [if_pos ⟨rfl, rfl⟩]
    · rw [if_neg (by omega)]
      exact i3 j (by omega)
  · rintro ⟨i, S1⟩ ⟨i1, i2, i3⟩
    dsimp only at i1 i2 i3 ⊢
    subst i1
    have z1 : iv 43 ≥ 43 := iv_end (N := 43) (by decide)
    unfold f_tries_L2
    repeat (with_reducible first | refine ok_sb ?_ | refine ok_b (by assumption) ?_ | refine ok_pos (by assumption) ?_ | refine ok_neg (by assumption) ?_)
    refine ok_s ⟨?_, i2⟩
    funext k
    unfold trow
    by_cases q : k < 43
    · rw [if_pos q, if_pos q, i3 k q, Nat.zero_add]
    · rw [if_neg q, if_neg q, i2.1]
theorem CIx.be (hC : CIx x t hi T s r la ls c h S) (hn : 50 < n) : ∃ h1 S1, k_X3_be n r s h = some (r, h1) ∧ f_tries n S = some S1 ∧ Tr x r T h S (trow S 0) h1 S1 := by
  obtain ⟨w, hw⟩ := hC.1.2.2.2.2.2.1
  obtain ⟨h1, e1, q1, q2⟩ := be_is (n := n) hC.wt hw.shp hC.sv hC.sr hC.od hC.wf.2.2.1 (by omega)
  obtain ⟨S1, e2, q3, q4⟩ := tries_is (S := S) hn
  exact ⟨h1, S1, e1, e2, q1, q2, q3, q4⟩
theorem Tr.pass {D : Nat} (hR : Tr x r T h S w h1 S1) (hC : CIx x t hi T s r la ls c h S) (hW : WF D T w) (hD : D < 4900) (hn : 4000 < n) (hg : g = 90) : ∃ h2 S2, k_X3_pass n g c r h1 = some (r, h2) ∧ f_dayGoes n 43 S1 = some S2 ∧ Tr x r T h S (m_day T w) h2 S2 := by
  obtain ⟨vv, hc⟩ := hC.hc
  obtain ⟨h2, e1, q1, q2⟩ := pass_is (n := n) (g := g) hc (hR.xc hC) hR.2.1 hW (by omega) hC.wt (by omega) hg
  obtain ⟨S2, e2, q3, q4⟩ := dayGoes_is (n := n) (b := 43) (hR.tt hC) hC.wt (by decide) (by rw [hR.2.2.1]; exact hW) (by omega) (by omega)
  rw [hR.2.2.1] at q3
  exact ⟨h2, S2, e1, e2, hR.1.trans q1, q2, q3, hR.2.2.2.trans q4⟩
theorem Tr.goes {D p hh : Nat} (hR : Tr x r T h S w h1 S1) (hC : CIx x t hi T s r la ls c h S) (hW : WF D T w) (hD : D < 4900) (hp : p < T.1.2.1) (hh8 : hh < T.1.1) (hn : 4000 < n) (hg : g = 90) : ∃ h2 S2, k_X3_goesIn n g c r (iv p) (iv hh) h1 = some (m_goes T w p hh, h2) ∧ f_wouldGo n 43 (iv p) (iv hh) S1 = some (m_goes T w p hh, S2) ∧ Tr x r T h S w h2 S2 := by
  obtain ⟨vv, hc⟩ := hC.hc
  obtain ⟨h2, e1, q1⟩ := goesIn_is (n := n) (g := g) hc (hR.xc hC) hR.2.1 hW (by omega) hC.wt hp hh8 (by omega) hg
  obtain ⟨S2, e2, q2⟩ := wouldGo_is (n := n) (b := 43) (hR.tt hC) hC.wt (by decide) (by rw [hR.2.2.1]; exact hW) (by omega) hp hh8 (by omega)
  rw [hR.2.2.1] at e2
  exact ⟨h2, S2, e1, e2, hR.1.trans (q1.mono Wva_st), hR.2.1.kva q1.fr, by rw [q2.row]; exact hR.2.2.1, hR.2.2.2.trans (q2.rest 43)⟩
theorem Tr.eases {D p hh : Nat} (hR : Tr x r T h S w h1 S1) (hC : CIx x t hi T s r la ls c h S) (hW : WF D T w) (hD : D < 4900) (hp : p < T.1.2.1) (hh8 : hh < T.1.1) (hn : 4000 < n) (hg : g = 90) : ∃ h2 S2, k_X3_eases n g c r (iv p) (iv hh) h1 = some (m_eases T w p hh, h2) ∧ f_easesOf n 43 (iv p) (iv hh) S1 = some (m_eases T w p hh, S2) ∧ Tr x r T h S w h2 S2 := by
  obtain ⟨vv, hc⟩ := hC.hc
  obtain ⟨h2, e1, q1⟩ := eases_is (n := n) (g := g) hc (hR.xc hC) hR.2.1 hW (by omega) hC.wt hp hh8 (by omega) hg
  obtain ⟨S2, e2, q2⟩ := easesOf_is (n := n) (b := 43) (hR.tt hC) hC.wt (by decide) (by rw [hR.2.2.1]; exact hW) (by omega) hp hh8 (by omega)
  rw [hR.2.2.1] at e2
  exact ⟨h2, S2, e1, e2, hR.1.trans (q1.mono Wva_st), hR.2.1.kva q1.fr, by rw [q2.row]; exact hR.2.2.1, hR.2.2.2.trans (q2.rest 43)⟩
/-- the second row read by the twin: 43 + place + number -/
theorem Tr.rd {a k : Nat} {I : Int32} (hR : Tr x r T h S w h1 S1) (hI : I = iv (43 + a)) (hk : a + k < 43) : trd S1 41 (I + iv k) = some (w (a + k)) := by
  subst hI
  rw [iv_add, show 43 + a + k = 43 + (a + k) from by omega, trow_rd (by decide) hk, hR.2.2.1]
/-- the first row read by the twin -/
theorem row0_rd {a k : Nat} {I : Int32} (hI : I = iv a) (hk : a + k < 43) : trd S 41 (I + iv k) = some (trow S 0 (a + k)) := by
  subst hI
  rw [iv_add, show a + k = 0 + (a + k) from by omega, trow_rd (by decide) hk, Nat.zero_add]
theorem CIx.later (hC : CIx x t hi T s r la ls c h S) (hN : N ≤ 40) (hn : 4000 < n) (hg : g = 90) : ∃ h1 S1, k_X1_later n g c x (iv N) h = some (r, h1) ∧ f_goesTo n (iv N) S = some S1 ∧ Tr x r T h S (m_days T N (trow S 0)) h1 S1 := by
  obtain ⟨vv, hc⟩ := hC.hc
  obtain ⟨h1, S1, e1, e2, hR⟩ := hC.be (n := n) (by omega)
  have f2 := hC.f2
  have f3 := hC.f3
  have k1 : ckd h r 2 = some () := by
    obtain ⟨w, hw⟩ := hC.1.2.2.2.2.2.1
    exact ckd_is hw.1
  have k2 := hR.2.1.is2
  obtain ⟨h2, e3, q3, q4⟩ := after_is (n := n) (g := g) (N := N) hc (hR.xc hC) hR.2.1 hC.wf (by omega) hC.wt (by omega) (by omega) hg
  have key : Ok (f_daysGo n (iv N) S1) (fun S2 => trow S2 43 = m_days T N (trow S 0) ∧ trest 43 S1 S2) := by
    unfold f_daysGo
    refine ok_c (Q := fun S2 => trow S2 43 = m_days T N (trow S 0) ∧ trest 43 S1 S2) ?_ (fun S2 q => ok_s q)
    refine ok_loop N (fun k st => st.1 = iv k ∧ trow st.2 43 = m_days T k (trow S 0) ∧ trest 43 S1 st.2) ⟨rfl, hR.2.2.1, trest.rfl⟩ ?_ ?_ (by omega)
    · rintro k ⟨i, S2⟩ hk ⟨i1, i2, i3⟩
      dsimp only at i1 i2 i3 ⊢
      subst i1
      have z1 := iv_stop hk (by omega)
      unfold f_daysGo_L2
      repeat (with_reducible first | refine ok_sb ?_ | refine ok_b (by assumption) ?_ | refine ok_pos (by assumption) ?_ | refine ok_neg (by assumption) ?_)
      refine ok_c (Q := fun S3 => trow S3 43 = m_days T (k + 1) (trow S 0) ∧ trest 43 S1 S3) ?_ (fun S3 q => ?_)
      · have hWk := WF_mdays (k := k) hC.wf hC.wt
        refine ok_mono (dayGoes_is (n := n) (b := 43) (i3.tt (hR.tt hC)) hC.wt (by decide) (by rw [i2]; exact hWk) (by omega) (by omega)) (fun S3 q => ⟨?_, i3.trans q.2⟩)
        rw [q.1, i2]
        rfl
      · repeat (with_reducible first | refine ok_sb ?_ | refine ok_b (by assumption) ?_ | refine ok_pos (by assumption) ?_ | refine ok_neg (by assumption) ?_)
        exact ok_s ⟨iv_succ k, q⟩
    · rintro ⟨i, S2⟩ ⟨i1, i2⟩
      dsimp only at i1 i2 ⊢
      subst i1
      have z1 := iv_end (N := N) (by omega)
      unfold f_daysGo_L2
      repeat (with_reducible first | refine ok_sb ?_ | refine ok_b (by assumption) ?_ | refine ok_pos (by assumption) ?_ | refine ok_neg (by assumption) ?_)
      exact ok_s i2
  obtain ⟨S2, e4, q5, q6⟩ := key
  refine ⟨h2, S2, ?_, ?_, hR.1.trans q3, q4, q5, hR.2.2.2.trans q6⟩
  · refine ok_eq ?_
    unfold k_X1_later
    repeat (with_reducible first | refine ok_sb ?_ | refine ok_b (by assumption) ?_ | refine ok_pos (by assumption) ?_ | refine ok_neg (by assumption) ?_)
    exact ok_s rfl
  · refine ok_eq ?_
    unfold f_goesTo
    repeat (with_reducible first | refine ok_sb ?_ | refine ok_b (by assumption) ?_ | refine ok_pos (by assumption) ?_ | refine ok_neg (by assumption) ?_)
    exact ok_s rfl
end TRY
