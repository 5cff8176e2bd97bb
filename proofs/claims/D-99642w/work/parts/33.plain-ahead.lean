/-! turns that go through days to come -/
set_option maxRecDepth 100000
section AHEAD
variable {x t hi : Nat} {T : Tn} {s r la ls : Nat} {c : Nat → Value} {h h1 : XH} {S S1 : TS} {n g N : Nat} {w : Nat → Int32}
theorem op_wornest (hC : CIx x t hi T s r la ls c h S) (hn : 4000 < n) (hg : g = 90) (a1 : Int32) : Both (k_X1_wornest n g c x a1 h) (f_wornest n a1 S) (OP cdI x c h) := by
  have hC0 := hC.tl (TL.thr (v := 0))
  have h0 : (tpF S 0 0).1 0 = 0 := rfl
  unfold k_X1_wornest f_wornest
  refine bb_rs ?_
  generalize tpF S 0 0 = S0 at hC0 h0 ⊢
  have h8 := hC0.wt.1
  refine g_days (lo := 0) rfl (by decide) (by decide) h0 (fun _ _ => rfl) (fun _ => if_pos rfl) (op_exc hC0 ⟨rfl, rfl⟩) (fun N hN1 hN e => ?_)
  subst e
  dsimp only
  refine bb_rn i10 ?_
  obtain ⟨h1, S1, e1, e2, hR⟩ := hC0.later hN hn hg
  have f1 := hC0.is0
  repeat (with_reducible first | refine bb_ls ?_ | refine bb_rs ?_ | refine bb_l (by assumption) ?_ | refine bb_r (by assumption) ?_ | refine bb_lp (by assumption) ?_ | refine bb_ln (by assumption) ?_ | refine bb_rp (by assumption) ?_ | refine bb_rn (by assumption) ?_)
  refine bb_c (Q := fun o o' => o'.1 = o.1 ∧ o.2 = h1 ∧ o'.2 = S1) ?_ ?_
  · refine bb_loop T.1.1 (fun k st st' => (st'.1 = st.1 ∧ (st.1 = (-1) ∨ ∃ q, q < T.1.1 ∧ st.1 = iv q)) ∧ st.2.1 = iv k ∧ st'.2.1 = iv k ∧ st.2.2 = h1 ∧ st'.2.2 = S1) ⟨⟨rfl, Or.inl rfl⟩, rfl, rfl, rfl, rfl⟩ ?_ ?_ (by omega) (by omega)
    · rintro k ⟨v, i, h2⟩ ⟨v', i', S2⟩ hk ⟨⟨i1, i6⟩, i2, i3, i4, i5⟩
      dsimp only at i1 i2 i3 i4 i5 i6 ⊢
      subst i1 i2 i3 i4 i5
      have z1 := iv_stop hk (by omega)
      have z2 : ¬ iv k ≥ S2.1 1 := by rw [(hR.tt hC0).1]; exact z1
      have f1 := (hR.xc hC0).town
      have f2 := (hR.xc hC0).tv.is1
      have f3 := (hR.xc hC0).tv.houses
      have f4 := hR.f3 hC0
      have f5 := hR.2.1.a1
      have f6 := hR.2.1.worn hC0.wt hk
      have f8 : trd S2 41 ((54 : Int32) + iv k) = some _ := hR.rd (a := 11) rfl (by omega)
      unfold k_X1_wornest_L20 f_wornest_L26
      repeat (with_reducible first | refine bb_ls ?_ | refine bb_rs ?_ | refine bb_l (by assumption) ?_ | refine bb_r (by assumption) ?_ | refine bb_lp (by assumption) ?_ | refine bb_ln (by assumption) ?_ | refine bb_rp (by assumption) ?_ | refine bb_rn (by assumption) ?_)
      refine bb_if2 Iff.rfl (fun z _ => ?_) (fun z _ => ?_)
      · repeat (with_reducible first | refine bb_ls ?_ | refine bb_rs ?_ | refine bb_l (by assumption) ?_ | refine bb_r (by assumption) ?_ | refine bb_lp (by assumption) ?_ | refine bb_ln (by assumption) ?_ | refine bb_rp (by assumption) ?_ | refine bb_rn (by assumption) ?_)
        exact bb_s ⟨⟨rfl, Or.inr ⟨k, hk, rfl⟩⟩, iv_succ k, iv_succ k, rfl, rfl⟩
      · rcases i6 with i6 | ⟨b, b1, b2⟩
        · exact absurd i6 z
        · subst b2
          have f7 := hR.2.1.worn hC0.wt b1
          have f9 : trd S2 41 ((54 : Int32) + iv b) = some _ := hR.rd (a := 11) rfl (by omega)
          repeat (with_reducible first | refine bb_ls ?_ | refine bb_rs ?_ | refine bb_l (by assumption) ?_ | refine bb_r (by assumption) ?_ | refine bb_lp (by assumption) ?_ | refine bb_ln (by assumption) ?_ | refine bb_rp (by assumption) ?_ | refine bb_rn (by assumption) ?_)
          refine bb_if2 Iff.rfl (fun z _ => ?_) (fun z _ => ?_)
          · repeat (with_reducible first | refine bb_ls ?_ | refine bb_rs ?_ | refine bb_l (by assumption) ?_ | refine bb_r (by assumption) ?_ | refine bb_lp (by assumption) ?_ | refine bb_ln (by assumption) ?_ | refine bb_rp (by assumption) ?_ | refine bb_rn (by assumption) ?_)
            exact bb_s ⟨⟨rfl, Or.inr ⟨b, b1, rfl⟩⟩, iv_succ k, iv_succ k, rfl, rfl⟩
          · repeat (with_reducible first | refine bb_ls ?_ | refine bb_rs ?_ | refine bb_l (by assumption) ?_ | refine bb_r (by assumption) ?_ | refine bb_lp (by assumption) ?_ | refine bb_ln (by assumption) ?_ | refine bb_rp (by assumption) ?_ | refine bb_rn (by assumption) ?_)
            exact bb_s ⟨⟨rfl, Or.inr ⟨k, hk, rfl⟩⟩, iv_succ k, iv_succ k, rfl, rfl⟩
    · rintro ⟨v, i, h2⟩ ⟨v', i', S2⟩ ⟨⟨i1, i6⟩, i2, i3, i4, i5⟩
      dsimp only at i1 i2 i3 i4 i5 i6 ⊢
      subst i1 i2 i3 i4 i5
      have z1 := iv_end (N := T.1.1) (by omega)
      have z2 : iv T.1.1 ≥ S2.1 1 := by rw [(hR.tt hC0).1]; exact z1
      have f1 := (hR.xc hC0).town
      have f2 := (hR.xc hC0).tv.is1
      have f3 := (hR.xc hC0).tv.houses
      unfold k_X1_wornest_L20 f_wornest_L26
      repeat (with_reducible first | refine bb_ls ?_ | refine bb_rs ?_ | refine bb_l (by assumption) ?_ | refine bb_r (by assumption) ?_ | refine bb_lp (by assumption) ?_ | refine bb_ln (by assumption) ?_ | refine bb_rp (by assumption) ?_ | refine bb_rn (by assumption) ?_)
      exact bb_s ⟨rfl, rfl, rfl⟩
  · rintro ⟨v, h2⟩ ⟨v', S2⟩ ⟨q1, q2, q3⟩
    dsimp only at q1 q2 q3 ⊢
    subst q2 q3
    exact bb_s (op_tr hC0 hR h0 q1)
theorem op_sorest (hC : CIx x t hi T s r la ls c h S) (hn : 4000 < n) (hg : g = 90) (a1 : Int32) : Both (k_X1_sorest n g c x a1 h) (f_sorest n a1 S) (OP cdI x c h) := by
  have hC0 := hC.tl (TL.thr (v := 0))
  have h0 : (tpF S 0 0).1 0 = 0 := rfl
  unfold k_X1_sorest f_sorest
  refine bb_rs ?_
  generalize tpF S 0 0 = S0 at hC0 h0 ⊢
  have p8 := hC0.wt.2.1
  refine g_days (lo := 0) rfl (by decide) (by decide) h0 (fun _ _ => rfl) (fun _ => if_pos rfl) (op_exc hC0 ⟨rfl, rfl⟩) (fun N hN1 hN e => ?_)
  subst e
  dsimp only
  refine bb_rn i10 ?_
  obtain ⟨h1, S1, e1, e2, hR⟩ := hC0.later hN hn hg
  have f1 := hC0.is0
  repeat (with_reducible first | refine bb_ls ?_ | refine bb_rs ?_ | refine bb_l (by assumption) ?_ | refine bb_r (by assumption) ?_ | refine bb_lp (by assumption) ?_ | refine bb_ln (by assumption) ?_ | refine bb_rp (by assumption) ?_ | refine bb_rn (by assumption) ?_)
  refine bb_c (Q := fun o o' => o'.1 = o.1 ∧ o.2 = h1 ∧ o'.2 = S1) ?_ ?_
  · refine bb_loop T.1.2.1 (fun k st st' => (st'.1 = st.1 ∧ (st.1 = (-1) ∨ ∃ q, q < T.1.2.1 ∧ st.1 = iv q)) ∧ st.2.1 = iv k ∧ st'.2.1 = iv k ∧ st.2.2 = h1 ∧ st'.2.2 = S1) ⟨⟨rfl, Or.inl rfl⟩, rfl, rfl, rfl, rfl⟩ ?_ ?_ (by omega) (by omega)
    · rintro k ⟨v, i, h2⟩ ⟨v', i', S2⟩ hk ⟨⟨i1, i6⟩, i2, i3, i4, i5⟩
      dsimp only at i1 i2 i3 i4 i5 i6 ⊢
      subst i1 i2 i3 i4 i5
      have z1 := iv_stop hk (by omega)
      have z2 : ¬ iv k ≥ S2.1 2 := by rw [(hR.tt hC0).2.1]; exact z1
      have f1 := (hR.xc hC0).town
      have f2 := (hR.xc hC0).tv.is1
      have f3 := (hR.xc hC0).tv.people
      have f4 := hR.f3 hC0
      have f5 := hR.2.1.a4
      have f6 := hR.2.1.sore hC0.wt hk
      have f8 : trd S2 41 ((78 : Int32) + iv k) = some _ := hR.rd (a := 35) rfl (by omega)
      unfold k_X1_sorest_L20 f_sorest_L26
      repeat (with_reducible first | refine bb_ls ?_ | refine bb_rs ?_ | refine bb_l (by assumption) ?_ | refine bb_r (by assumption) ?_ | refine bb_lp (by assumption) ?_ | refine bb_ln (by assumption) ?_ | refine bb_rp (by assumption) ?_ | refine bb_rn (by assumption) ?_)
      refine bb_if2 Iff.rfl (fun z _ => ?_) (fun z _ => ?_)
      · repeat (with_reducible first | refine bb_ls ?_ | refine bb_rs ?_ | refine bb_l (by assumption) ?_ | refine bb_r (by assumption) ?_ | refine bb_lp (by assumption) ?_ | refine bb_ln (by assumption) ?_ | refine bb_rp (by assumption) ?_ | refine bb_rn (by assumption) ?_)
        exact bb_s ⟨⟨rfl, Or.inr ⟨k, hk, rfl⟩⟩, iv_succ k, iv_succ k, rfl, rfl⟩
      · rcases i6 with i6 | ⟨b, b1, b2⟩
        · exact absurd i6 z
        · subst b2
          have f7 := hR.2.1.sore hC0.wt b1
          have f9 : trd S2 41 ((78 : Int32) + iv b) = some _ := hR.rd (a := 35) rfl (by omega)
          repeat (with_reducible first | refine bb_ls ?_ | refine bb_rs ?_ | refine bb_l (by assumption) ?_ | refine bb_r (by assumption) ?_ | refine bb_lp (by assumption) ?_ | refine bb_ln (by assumption) ?_ | refine bb_rp (by assumption) ?_ | refine bb_rn (by assumption) ?_)
          refine bb_if2 Iff.rfl (fun z _ => ?_) (fun z _ => ?_)
          · repeat (with_reducible first | refine bb_ls ?_ | refine bb_rs ?_ | refine bb_l (by assumption) ?_ | refine bb_r (by assumption) ?_ | refine bb_lp (by assumption) ?_ | refine bb_ln (by assumption) ?_ | refine bb_rp (by assumption) ?_ | refine bb_rn (by assumption) ?_)
            exact bb_s ⟨⟨rfl, Or.inr ⟨b, b1, rfl⟩⟩, iv_succ k, iv_succ k, rfl, rfl⟩
          · repeat (with_reducible first | refine bb_ls ?_ | refine bb_rs ?_ | refine bb_l (by assumption) ?_ | refine bb_r (by assumption) ?_ | refine bb_lp (by assumption) ?_ | refine bb_ln (by assumption) ?_ | refine bb_rp (by assumption) ?_ | refine bb_rn (by assumption) ?_)
            exact bb_s ⟨⟨rfl, Or.inr ⟨k, hk, rfl⟩⟩, iv_succ k, iv_succ k, rfl, rfl⟩
    · rintro ⟨v, i, h2⟩ ⟨v', i', S2⟩ ⟨⟨i1, i6⟩, i2, i3, i4, i5⟩
      dsimp only at i1 i2 i3 i4 i5 i6 ⊢
      subst i1 i2 i3 i4 i5
      have z1 := iv_end (N := T.1.2.1) (by omega)
      have z2 : iv T.1.2.1 ≥ S2.1 2 := by rw [(hR.tt hC0).2.1]; exact z1
      have f1 := (hR.xc hC0).town
      have f2 := (hR.xc hC0).tv.is1
      have f3 := (hR.xc hC0).tv.people
      unfold k_X1_sorest_L20 f_sorest_L26
      repeat (with_reducible first | refine bb_ls ?_ | refine bb_rs ?_ | refine bb_l (by assumption) ?_ | refine bb_r (by assumption) ?_ | refine bb_lp (by assumption) ?_ | refine bb_ln (by assumption) ?_ | refine bb_rp (by assumption) ?_ | refine bb_rn (by assumption) ?_)
      exact bb_s ⟨rfl, rfl, rfl⟩
  · rintro ⟨v, h2⟩ ⟨v', S2⟩ ⟨q1, q2, q3⟩
    dsimp only at q1 q2 q3 ⊢
    subst q2 q3
    exact bb_s (op_tr hC0 hR h0 q1)
/-- loops over 41 days: the counter -/
theorem day_in {k : Nat} (hk : k < 41) : ¬ iv k > 40 := by
  show ¬ iv 40 < iv k
  rw [iv_lt (by omega) (by omega)]
  omega
theorem day_out : iv 41 > 40 := by decide
theorem Tr.cix (hR : Tr x r T h S w h1 S1) (hC : CIx x t hi T s r la ls c h S) : CIx x t hi T s r la ls c h1 S1 := hC.tried hR.1.fr (hR.1.hw hC.1.1) ⟨w, hR.2.1⟩ hR.2.2.2.tl
theorem Tr.trans {w' : Nat → Int32} {h2 : XH} {S2 : TS} (hR : Tr x r T h S w h1 S1) (hR2 : Tr x r T h1 S1 w' h2 S2) : Tr x r T h S w' h2 S2 := ⟨hR.1.trans hR2.1, hR2.2.1, hR2.2.2.1, hR.2.2.2.trans hR2.2.2.2⟩
theorem CIx.isr (hC : CIx x t hi T s r la ls c h S) : ckd h r 2 = some () := by
  obtain ⟨w, hw⟩ := hC.1.2.2.2.2.2.1
  exact ckd_is hw.1
theorem burstIn_is (hC : CIx x t hi T s r la ls c h S) (hn : 4000 < n) (hg : g = 90) {hh : Nat} (hh8 : hh < T.1.1) : Both (k_X1_burstIn n g c x (iv hh) h) (f_burstsIn n (iv hh) S) (fun o o' => (∃ w, Tr x r T h S w o.2 o'.2) ∧ ((o.1 = (-1) ∧ o'.1 = 99999) ∨ ∃ k, k ≤ 40 ∧ o.1 = iv k ∧ o'.1 = iv k)) := by
  obtain ⟨h1, S1, e1, e2, hR⟩ := hC.be (n := n) (by omega)
  have f2 := hC.f2
  have f3 := hC.f3
  have f4 := hC.isr
  unfold k_X1_burstIn f_burstsIn
  repeat (with_reducible first | refine bb_ls ?_ | refine bb_rs ?_ | refine bb_l (by assumption) ?_ | refine bb_r (by assumption) ?_ | refine bb_lp (by assumption) ?_ | refine bb_ln (by assumption) ?_ | refine bb_rp (by assumption) ?_ | refine bb_rn (by assumption) ?_)
  refine bb_c (Q := bstep (fun h' S' => ∃ w, Tr x r T h S w h' S') (fun o o' => (∃ w, Tr x r T h S w o.2 o'.2) ∧ ∃ k, k ≤ 40 ∧ o.1 = iv k ∧ o'.1 = iv k)) ?_ ?_
  · refine bb_loop 41 (fun k (st : Int32 × XH) (st' : Int32 × TS) => st.1 = iv k ∧ st'.1 = iv k ∧ Tr x r T h S (m_days T k (trow S 0)) st.2 st'.2) ⟨rfl, rfl, hR⟩ ?_ ?_ (by omega) (by omega)
    · rintro k ⟨i, h2⟩ ⟨i', S2⟩ hk ⟨i1, i2, i3⟩
      dsimp only at i1 i2 i3 ⊢
      subst i1 i2
      have z1 := day_in hk
      have hWk := WF_mdays (k := k) hC.wf hC.wt
      obtain ⟨h3, S3, e3, e4, hR3⟩ := i3.pass hC hWk (by omega) hn hg
      have g1 := i3.f3 hC
      have g2 := i3.2.1.burst
      have g3 := isOf_is (w := m_days T k (trow S 0)) (h := h2) (k := hh)
      have g4 := i3.2.1.is2
      have g5 : f_isBurst 43 (iv hh) S2 = some (m_isb (m_days T k (trow S 0)) hh) := by
        rw [← i3.2.2.1]
        exact isBurst_is (r := 43) (by decide)
      unfold k_X1_burstIn_L14 f_burstsIn_L6
      repeat (with_reducible first | refine bb_ls ?_ | refine bb_rs ?_ | refine bb_l (by assumption) ?_ | refine bb_r (by assumption) ?_ | refine bb_lp (by assumption) ?_ | refine bb_ln (by assumption) ?_ | refine bb_rp (by assumption) ?_ | refine bb_rn (by assumption) ?_)
      refine bb_if2 Iff.rfl (fun z _ => ?_) (fun z _ => ?_)
      · repeat (with_reducible first | refine bb_ls ?_ | refine bb_rs ?_ | refine bb_l (by assumption) ?_ | refine bb_r (by assumption) ?_ | refine bb_lp (by assumption) ?_ | refine bb_ln (by assumption) ?_ | refine bb_rp (by assumption) ?_ | refine bb_rn (by assumption) ?_)
        exact bb_s ⟨iv_succ k, iv_succ k, hR3⟩
      · exact bb_s ⟨⟨_, i3⟩, k, by omega, rfl, rfl⟩
    · rintro ⟨i, h2⟩ ⟨i', S2⟩ ⟨i1, i2, i3⟩
      dsimp only at i1 i2 i3 ⊢
      subst i1 i2
      have z1 := day_out
      unfold k_X1_burstIn_L14 f_burstsIn_L6
      repeat (with_reducible first | refine bb_ls ?_ | refine bb_rs ?_ | refine bb_l (by assumption) ?_ | refine bb_r (by assumption) ?_ | refine bb_lp (by assumption) ?_ | refine bb_ln (by assumption) ?_ | refine bb_rp (by assumption) ?_ | refine bb_rn (by assumption) ?_)
      exact bb_s ⟨_, i3⟩
  · intro o o' q
    cases o <;> cases o'
    · exact bb_s ⟨q, Or.inl ⟨rfl, rfl⟩⟩
    · exact q.elim
    · exact q.elim
    · exact bb_s ⟨q.1, Or.inr q.2⟩
theorem op_burst (hC : CIx x t hi T s r la ls c h S) (hn : 4000 < n) (hg : g = 90) (a1 : Int32) : Both (k_X1_burst n g c x a1 h) (f_burst n a1 S) (OP cdN x c h) := by
  have hC0 := hC.tl (TL.thr (v := 0))
  have h0 : (tpF S 0 0).1 0 = 0 := rfl
  unfold k_X1_burst f_burst
  refine bb_l hC.is0 (bb_rs ?_)
  generalize tpF S 0 0 = S0 at hC0 h0 ⊢
  refine g_house hC0.xc hC0.tt hC0.wt h0 (fun _ _ => rfl) (fun _ => if_pos rfl) (op_exc hC0 ⟨rfl, rfl⟩) (fun hh hh8 e => ?_)
  subst e
  dsimp only
  refine bb_l hC0.is0 (bb_rn i10 ?_)
  refine bb_c (burstIn_is hC0 hn hg hh8) ?_
  rintro ⟨v, h2⟩ ⟨v', S2⟩ ⟨⟨w, hR⟩, q⟩
  dsimp only at hR q ⊢
  refine bb_rs ?_
  rcases q with ⟨q1, q2⟩ | ⟨k, k1, q1, q2⟩
  · subst q1 q2
    refine bb_rp rfl ?_
    exact bb_s (op_tr hC0 hR h0 rfl)
  · subst q1 q2
    refine bb_rn (fun z => ?_) ?_
    · have := (iv_inj (b := 99999) (by omega) (by omega)).mp z
      omega
    · exact bb_s (op_tr hC0 hR h0 rfl)
theorem op_wriggles (hC : CIx x t hi T s r la ls c h S) (hn : 4000 < n) (hg : g = 90) (a1 : Int32) : Both (k_X1_wriggles n g c x a1 h) (f_wriggles n a1 S) (OP cdN x c h) := by
  have hC0 := hC.tl (TL.thr (v := 0))
  have h0 : (tpF S 0 0).1 0 = 0 := rfl
  unfold k_X1_wriggles f_wriggles
  refine bb_l hC.is0 (bb_rs ?_)
  generalize tpF S 0 0 = S0 at hC0 h0 ⊢
  have p8 := hC0.wt.2.1
  refine g_pers hC0.xc hC0.tt hC0.wt h0 (fun _ _ => rfl) (fun _ => if_pos rfl) (op_exc hC0 ⟨rfl, rfl⟩) (fun p hp e => ?_)
  subst e
  dsimp only
  refine bb_rn i10 ?_
  obtain ⟨h1, S1, e1, e2, hR⟩ := hC0.be (n := n) (by omega)
  have f2 := hC0.f2
  have f3 := hC0.f3
  have f4 := hC0.isr
  repeat (with_reducible first | refine bb_ls ?_ | refine bb_rs ?_ | refine bb_l (by assumption) ?_ | refine bb_r (by assumption) ?_ | refine bb_lp (by assumption) ?_ | refine bb_ln (by assumption) ?_ | refine bb_rp (by assumption) ?_ | refine bb_rn (by assumption) ?_)
  refine bb_c (Q := bstep (fun h' S' => ∃ w, Tr x r T h S0 w h' S') (fun o o' => (∃ w, Tr x r T h S0 w o.2 o'.2) ∧ o'.1 = o.1)) ?_ ?_
  · refine bb_loop 40 (fun k (st : Int32 × XH) (st' : Int32 × TS) => st.1 = iv (k + 1) ∧ st'.1 = iv (k + 1) ∧ Tr x r T h S0 (m_days T k (trow S0 0)) st.2 st'.2) ⟨rfl, rfl, hR⟩ ?_ ?_ (by omega) (by omega)
    · rintro k ⟨i, h2⟩ ⟨i', S2⟩ hk ⟨i1, i2, i3⟩
      dsimp only at i1 i2 i3 ⊢
      subst i1 i2
      have z1 := day_in (k := k + 1) (by omega)
      have hWk := WF_mdays (k := k) hC0.wf hC0.wt
      obtain ⟨h3, S3, e3, e4, hR3⟩ := i3.pass hC0 hWk (by omega) hn hg
      have g1 := i3.f3 hC0
      have g4 := i3.2.1.is2
      have g2 := hR3.2.1.a4
      have g3 := hR3.2.1.sore hC0.wt hp
      have g5 := hR3.f2 hC0
      have g6 := (hR3.sv hC0).a4
      have g7 := (hR3.sv hC0).sore hC0.wt hp
      have g8 : trd S3 41 ((78 : Int32) + iv p) = some _ := hR3.rd (a := 35) rfl (by omega)
      have g9 : trd S3 41 ((35 : Int32) + iv p) = some (trow S0 0 (35 + p)) := by rw [← hR3.row0]; exact row0_rd rfl (by omega)
      unfold k_X1_wriggles_L19 f_wriggles_L21
      repeat (with_reducible first | refine bb_ls ?_ | refine bb_rs ?_ | refine bb_l (by assumption) ?_ | refine bb_r (by assumption) ?_ | refine bb_lp (by assumption) ?_ | refine bb_ln (by assumption) ?_ | refine bb_rp (by assumption) ?_ | refine bb_rn (by assumption) ?_)
      refine bb_if2 Iff.rfl (fun z _ => ?_) (fun z _ => ?_)
      · repeat (with_reducible first | refine bb_ls ?_ | refine bb_rs ?_ | refine bb_l (by assumption) ?_ | refine bb_r (by assumption) ?_ | refine bb_lp (by assumption) ?_ | refine bb_ln (by assumption) ?_ | refine bb_rp (by assumption) ?_ | refine bb_rn (by assumption) ?_)
        exact bb_s ⟨iv_succ _, iv_succ _, hR3⟩
      · exact bb_s ⟨⟨_, hR3⟩, rfl⟩
    · rintro ⟨i, h2⟩ ⟨i', S2⟩ ⟨i1, i2, i3⟩
      dsimp only at i1 i2 i3 ⊢
      subst i1 i2
      have z1 : iv (40 + 1) > 40 := day_out
      unfold k_X1_wriggles_L19 f_wriggles_L21
      repeat (with_reducible first | refine bb_ls ?_ | refine bb_rs ?_ | refine bb_l (by assumption) ?_ | refine bb_r (by assumption) ?_ | refine bb_lp (by assumption) ?_ | refine bb_ln (by assumption) ?_ | refine bb_rp (by assumption) ?_ | refine bb_rn (by assumption) ?_)
      exact bb_s ⟨_, i3⟩
  · intro o o' q
    cases o <;> cases o'
    · obtain ⟨w, q⟩ := q
      exact bb_s (op_tr hC0 q h0 rfl)
    · exact q.elim
    · exact q.elim
    · obtain ⟨⟨w, q⟩, q2⟩ := q
      exact bb_s (op_tr hC0 q h0 q2)
theorem op_toWait (hC : CIx x t hi T s r la ls c h S) (hn : 4000 < n) (hg : g = 90) (a1 a2 : Int32) : Both (k_X1_toWait n g c x a1 a2 h) (f_toWait n a1 a2 S) (OP cdN x c h) := by
  have hC0 := hC.tl (TL.thr (v := 0))
  have h0 : (tpF S 0 0).1 0 = 0 := rfl
  unfold k_X1_toWait f_toWait
  refine bb_l hC.is0 (bb_rs ?_)
  generalize tpF S 0 0 = S0 at hC0 h0 ⊢
  refine g_pers hC0.xc hC0.tt hC0.wt h0 (fun _ _ => rfl) (fun _ => if_pos rfl) (op_exc hC0 ⟨rfl, rfl⟩) (fun p hp e => ?_)
  subst e
  dsimp only
  refine bb_l hC0.is0 (bb_rn i10 ?_)
  refine g_house hC0.xc hC0.tt hC0.wt h0 (fun _ _ => rfl) (fun _ => if_pos rfl) (op_exc hC0 ⟨rfl, rfl⟩) (fun hh hh8 e => ?_)
  subst e
  dsimp only
  refine bb_rn i10 ?_
  obtain ⟨h1, S1, e1, e2, hR⟩ := hC0.be (n := n) (by omega)
  have f2 := hC0.f2
  have f3 := hC0.f3
  have f4 := hC0.isr
  repeat (with_reducible first | refine bb_ls ?_ | refine bb_rs ?_ | refine bb_l (by assumption) ?_ | refine bb_r (by assumption) ?_ | refine bb_lp (by assumption) ?_ | refine bb_ln (by assumption) ?_ | refine bb_rp (by assumption) ?_ | refine bb_rn (by assumption) ?_)
  refine bb_c (Q := bstep (fun h' S' => ∃ w, Tr x r T h S0 w h' S') (fun o o' => (∃ w, Tr x r T h S0 w o.2 o'.2) ∧ o'.1 = o.1)) ?_ ?_
  · refine bb_loop 41 (fun k (st : Int32 × XH) (st' : Int32 × TS) => st.1 = iv k ∧ st'.1 = iv k ∧ Tr x r T h S0 (m_days T k (trow S0 0)) st.2 st'.2) ⟨rfl, rfl, hR⟩ ?_ ?_ (by omega) (by omega)
    · rintro k ⟨i, h2⟩ ⟨i', S2⟩ hk ⟨i1, i2, i3⟩
      dsimp only at i1 i2 i3 ⊢
      subst i1 i2
      have z1 := day_in hk
      have hWk := WF_mdays (k := k) hC0.wf hC0.wt
      obtain ⟨h4, S4, e5, e6, hR4⟩ := i3.goes hC0 hWk (by omega) hp hh8 hn hg
      obtain ⟨h3, S3, e3, e4, hR3⟩ := hR4.pass hC0 hWk (by omega) hn hg
      have g1 := i3.f3 hC0
      have g4 := i3.2.1.is2
      have g2 := hR4.f3 hC0
      have g3 := hR4.2.1.is2
      unfold k_X1_toWait_L24 f_toWait_L29
      repeat (with_reducible first | refine bb_ls ?_ | refine bb_rs ?_ | refine bb_l (by assumption) ?_ | refine bb_r (by assumption) ?_ | refine bb_lp (by assumption) ?_ | refine bb_ln (by assumption) ?_ | refine bb_rp (by assumption) ?_ | refine bb_rn (by assumption) ?_)
      refine bb_if2 Iff.rfl (fun z _ => ?_) (fun z _ => ?_)
      · repeat (with_reducible first | refine bb_ls ?_ | refine bb_rs ?_ | refine bb_l (by assumption) ?_ | refine bb_r (by assumption) ?_ | refine bb_lp (by assumption) ?_ | refine bb_ln (by assumption) ?_ | refine bb_rp (by assumption) ?_ | refine bb_rn (by assumption) ?_)
        exact bb_s ⟨iv_succ _, iv_succ _, hR3⟩
      · exact bb_s ⟨⟨_, hR4⟩, rfl⟩
    · rintro ⟨i, h2⟩ ⟨i', S2⟩ ⟨i1, i2, i3⟩
      dsimp only at i1 i2 i3 ⊢
      subst i1 i2
      have z1 := day_out
      unfold k_X1_toWait_L24 f_toWait_L29
      repeat (with_reducible first | refine bb_ls ?_ | refine bb_rs ?_ | refine bb_l (by assumption) ?_ | refine bb_r (by assumption) ?_ | refine bb_lp (by assumption) ?_ | refine bb_ln (by assumption) ?_ | refine bb_rp (by assumption) ?_ | refine bb_rn (by assumption) ?_)
      exact bb_s ⟨_, i3⟩
  · intro o o' q
    cases o <;> cases o'
    · obtain ⟨w, q⟩ := q
      exact bb_s (op_tr hC0 q h0 rfl)
    · exact q.elim
    · exact q.elim
    · obtain ⟨⟨w, q⟩, q2⟩ := q
      exact bb_s (op_tr hC0 q h0 q2)
theorem size_keeps {D : Nat} (hW : WF D T w) (hT : WT T) {hh : Nat} (hh8 : hh < T.1.1) : ∀ {k : Nat}, m_days T k w (3 + hh) = w (3 + hh) := by
  have h8 := hT.1
  intro k
  induction k with
  | zero => rfl
  | succ k ih =>
    show m_day T (m_days T k w) (3 + hh) = _
    unfold m_day
    rw [pup_ne (by omega), pup_ne (by omega), grow_keeps (by omega) hT.2.1, wears_keeps (WF_mdays hW hT) hT (by omega) (Nat.le_refl _)]
    exact ih
theorem op_toGrow (hC : CIx x t hi T s r la ls c h S) (hn : 4000 < n) (hg : g = 90) (a1 a2 : Int32) : Both (k_X1_toGrow n g c x a1 a2 h) (f_toGrow n a1 a2 S) (OP cdN x c h) := by
  have hC0 := hC.tl (TL.thr (v := 0))
  have h0 : (tpF S 0 0).1 0 = 0 := rfl
  unfold k_X1_toGrow f_toGrow
  refine bb_l hC.is0 (bb_rs ?_)
  generalize tpF S 0 0 = S0 at hC0 h0 ⊢
  have h8 := hC0.wt.1
  have p8 := hC0.wt.2.1
  refine g_pers hC0.xc hC0.tt hC0.wt h0 (fun _ _ => rfl) (fun _ => if_pos rfl) (op_exc hC0 ⟨rfl, rfl⟩) (fun p hp e => ?_)
  subst e
  dsimp only
  refine bb_l hC0.is0 (bb_rn i10 ?_)
  refine g_house hC0.xc hC0.tt hC0.wt h0 (fun _ _ => rfl) (fun _ => if_pos rfl) (op_exc hC0 ⟨rfl, rfl⟩) (fun hh hh8 e => ?_)
  subst e
  dsimp only
  refine bb_rn i10 ?_
  obtain ⟨h1, S1, e1, e2, hR⟩ := hC0.be (n := n) (by omega)
  have f2 := hC0.f2
  have f3 := hC0.f3
  have f4 := hC0.isr
  repeat (with_reducible first | refine bb_ls ?_ | refine bb_rs ?_ | refine bb_l (by assumption) ?_ | refine bb_r (by assumption) ?_ | refine bb_lp (by assumption) ?_ | refine bb_ln (by assumption) ?_ | refine bb_rp (by assumption) ?_ | refine bb_rn (by assumption) ?_)
  refine bb_c (Q := bstep (fun h' S' => ∃ w, Tr x r T h S0 w h' S') (fun o o' => (∃ w, Tr x r T h S0 w o.2 o'.2) ∧ o'.1 = o.1)) ?_ ?_
  · refine bb_loop 41 (fun k (st : Int32 × XH) (st' : Int32 × TS) => st.1 = iv k ∧ st'.1 = iv k ∧ Tr x r T h S0 (m_days T k (trow S0 0)) st.2 st'.2) ⟨rfl, rfl, hR⟩ ?_ ?_ (by omega) (by omega)
    · rintro k ⟨i, h2⟩ ⟨i', S2⟩ hk ⟨i1, i2, i3⟩
      dsimp only at i1 i2 i3 ⊢
      subst i1 i2
      have z1 := day_in hk
      have hWk := WF_mdays (k := k) hC0.wf hC0.wt
      obtain ⟨h3, S3, e3, e4, hR3⟩ := i3.pass hC0 hWk (by omega) hn hg
      have g1 := i3.f3 hC0
      have g4 := i3.2.1.is2
      have g2 := i3.2.1.a2
      have g3 := i3.2.1.heel hC0.wt hp
      have g5 := i3.2.1.a0
      have g6 : caI h2 (r + 1) 100 (iv hh) = some (trow S0 0 (3 + hh)) := by
        rw [← size_keeps hC0.wf hC0.wt hh8 (k := k)]
        exact i3.2.1.size hC0.wt hh8
      have g8 : trd S2 41 ((70 : Int32) + iv p) = some _ := i3.rd (a := 27) rfl (by omega)
      have g9 : trd S2 41 ((3 : Int32) + iv hh) = some (trow S0 0 (3 + hh)) := by rw [← i3.row0]; exact row0_rd rfl (by omega)
      unfold k_X1_toGrow_L24 f_toGrow_L29
      repeat (with_reducible first | refine bb_ls ?_ | refine bb_rs ?_ | refine bb_l (by assumption) ?_ | refine bb_r (by assumption) ?_ | refine bb_lp (by assumption) ?_ | refine bb_ln (by assumption) ?_ | refine bb_rp (by assumption) ?_ | refine bb_rn (by assumption) ?_)
      refine bb_if2 Iff.rfl (fun z _ => ?_) (fun z _ => ?_)
      · repeat (with_reducible first | refine bb_ls ?_ | refine bb_rs ?_ | refine bb_l (by assumption) ?_ | refine bb_r (by assumption) ?_ | refine bb_lp (by assumption) ?_ | refine bb_ln (by assumption) ?_ | refine bb_rp (by assumption) ?_ | refine bb_rn (by assumption) ?_)
        exact bb_s ⟨iv_succ _, iv_succ _, hR3⟩
      · exact bb_s ⟨⟨_, i3⟩, rfl⟩
    · rintro ⟨i, h2⟩ ⟨i', S2⟩ ⟨i1, i2, i3⟩
      dsimp only at i1 i2 i3 ⊢
      subst i1 i2
      have z1 := day_out
      unfold k_X1_toGrow_L24 f_toGrow_L29
      repeat (with_reducible first | refine bb_ls ?_ | refine bb_rs ?_ | refine bb_l (by assumption) ?_ | refine bb_r (by assumption) ?_ | refine bb_lp (by assumption) ?_ | refine bb_ln (by assumption) ?_ | refine bb_rp (by assumption) ?_ | refine bb_rn (by assumption) ?_)
      exact bb_s ⟨_, i3⟩
  · intro o o' q
    cases o <;> cases o'
    · obtain ⟨w, q⟩ := q
      exact bb_s (op_tr hC0 q h0 rfl)
    · exact q.elim
    · exact q.elim
    · obtain ⟨⟨w, q⟩, q2⟩ := q
      exact bb_s (op_tr hC0 q h0 q2)
/-- the latest so far: the component's 100000 is the twin's 99999 -/
def far2 (a b : Int32) : Prop := (a = b ∧ -1 ≤ a.toInt ∧ a.toInt ≤ 40) ∨ (a = 100000 ∧ b = 99999)
theorem far2_gt {a b a' b' : Int32} (h1 : far2 a b) (h2 : far2 a' b') : a > a' ↔ b > b' := by
  have e1 : (100000 : Int32).toInt = 100000 := by decide
  have e2 : (99999 : Int32).toInt = 99999 := by decide
  show a' < a ↔ b' < b
  rw [Int32.lt_iff_toInt_lt, Int32.lt_iff_toInt_lt]
  rcases h1 with ⟨rfl, p1, p2⟩ | ⟨rfl, rfl⟩ <;> rcases h2 with ⟨rfl, q1, q2⟩ | ⟨rfl, rfl⟩
  · exact Iff.rfl
  · rw [e1, e2]; omega
  · rw [e1, e2]; omega
  · rw [e1, e2]; omega
theorem op_last (hC : CIx x t hi T s r la ls c h S) (hn : 4000 < n) (hg : g = 90) (a1 : Int32) : Both (k_X1_last n g c x a1 h) (f_last n a1 S) (OP cdN x c h) := by
  have hC0 := hC.tl (TL.thr (v := 0))
  have h0 : (tpF S 0 0).1 0 = 0 := rfl
  unfold k_X1_last f_last
  refine bb_rs ?_
  generalize tpF S 0 0 = S0 at hC0 h0 ⊢
  have h8 := hC0.wt.1
  refine g_what (N := 1) rfl (by decide) h0 (fun _ _ => rfl) (fun _ => if_pos rfl) (op_exc hC0 ⟨rfl, rfl⟩) (fun q hq e => ?_)
  dsimp only
  refine bb_rn i10 ?_
  refine bb_c (Q := fun o o' => o'.1 = o.1 ∧ far2 o.2.1 o'.2.1 ∧ ((o.2.2 = h ∧ o'.2.2 = S0) ∨ ∃ w, Tr x r T h S0 w o.2.2 o'.2.2)) ?_ ?_
  · refine bb_loop T.1.1 (fun k st st' => st'.1 = st.1 ∧ far2 st.2.1 st'.2.1 ∧ st.2.2.1 = iv k ∧ st'.2.2.1 = iv k ∧ ((st.2.2.2 = h ∧ st'.2.2.2 = S0) ∨ ∃ w, Tr x r T h S0 w st.2.2.2 st'.2.2.2)) ⟨rfl, (show far2 (-1) (-1) from Or.inl ⟨rfl, by decide, by decide⟩), rfl, rfl, Or.inl ⟨rfl, rfl⟩⟩ ?_ ?_ (by omega) (by omega)
    · rintro k ⟨v, u, i, h2⟩ ⟨v', u', i', S2⟩ hk ⟨i1, i2, i3, i4, i5⟩
      dsimp only at i1 i2 i3 i4 i5 ⊢
      subst i1 i3 i4
      have hC2 : CIx x t hi T s r la ls c h2 S2 := by
        rcases i5 with ⟨rfl, rfl⟩ | ⟨w, hR⟩
        · exact hC0
        · exact hR.cix hC0
      have row : trow S2 0 = trow S0 0 := by
        rcases i5 with ⟨rfl, rfl⟩ | ⟨w, hR⟩
        · rfl
        · exact hR.row0
      have z1 := iv_stop hk (by omega)
      have z2 : ¬ iv k ≥ S2.1 1 := by rw [hC2.tt.1]; exact z1
      have f1 := hC2.xc.town
      have f2 := hC2.xc.tv.is1
      have f3 := hC2.xc.tv.houses
      have f4 := hC2.f2
      have f5 := hC2.sv.is2
      have f6 := in_is (n := n) hC2.xc hC2.sv hC2.wf.2.2.2.2.2.2.2 hC2.wt hk (by omega)
      have f7 : trd S2 41 ((19 : Int32) + iv k) = some _ := row0_rd (a := 19) rfl (by omega)
      have f8 := hC2.is0
      unfold k_X1_last_L12 f_last_L23
      repeat (with_reducible first | refine bb_ls ?_ | refine bb_rs ?_ | refine bb_l (by assumption) ?_ | refine bb_r (by assumption) ?_ | refine bb_lp (by assumption) ?_ | refine bb_ln (by assumption) ?_ | refine bb_rp (by assumption) ?_ | refine bb_rn (by assumption) ?_)
      refine bb_if2 Iff.rfl (fun z _ => ?_) (fun z _ => ?_)
      · repeat (with_reducible first | refine bb_ls ?_ | refine bb_rs ?_ | refine bb_l (by assumption) ?_ | refine bb_r (by assumption) ?_ | refine bb_lp (by assumption) ?_ | refine bb_ln (by assumption) ?_ | refine bb_rp (by assumption) ?_ | refine bb_rn (by assumption) ?_)
        exact bb_s ⟨rfl, i2, iv_succ k, iv_succ k, i5⟩
      · repeat (with_reducible first | refine bb_ls ?_ | refine bb_rs ?_ | refine bb_l (by assumption) ?_ | refine bb_r (by assumption) ?_ | refine bb_lp (by assumption) ?_ | refine bb_ln (by assumption) ?_ | refine bb_rp (by assumption) ?_ | refine bb_rn (by assumption) ?_)
        refine bb_c (burstIn_is hC2 hn hg hk) ?_
        rintro ⟨y, h3⟩ ⟨y', S3⟩ ⟨⟨w, hR3⟩, q3⟩
        dsimp only at hR3 q3 ⊢
        have hR4 : Tr x r T h S0 w h3 S3 := by
          rcases i5 with ⟨rfl, rfl⟩ | ⟨w', hR⟩
          · exact hR3
          · exact hR.trans hR3
        refine bb_rs ?_
        rcases q3 with ⟨q1, q2⟩ | ⟨d, d1, q1, q2⟩
        · subst q1 q2
          have fr : far2 100000 99999 := Or.inr ⟨rfl, rfl⟩
          refine bb_lp rfl ?_
          unfold k_X1_last_J62
          refine bb_if2 (far2_gt fr i2) (fun _ _ => ?_) (fun _ _ => ?_)
          · repeat (with_reducible first | refine bb_ls ?_ | refine bb_rs ?_ | refine bb_l (by assumption) ?_ | refine bb_r (by assumption) ?_ | refine bb_lp (by assumption) ?_ | refine bb_ln (by assumption) ?_ | refine bb_rp (by assumption) ?_ | refine bb_rn (by assumption) ?_)
            exact bb_s ⟨rfl, fr, iv_succ k, iv_succ k, Or.inr ⟨w, hR4⟩⟩
          · repeat (with_reducible first | refine bb_ls ?_ | refine bb_rs ?_ | refine bb_l (by assumption) ?_ | refine bb_r (by assumption) ?_ | refine bb_lp (by assumption) ?_ | refine bb_ln (by assumption) ?_ | refine bb_rp (by assumption) ?_ | refine bb_rn (by assumption) ?_)
            exact bb_s ⟨rfl, i2, iv_succ k, iv_succ k, Or.inr ⟨w, hR4⟩⟩
        · subst q1 q2
          have fr : far2 (iv d) (iv d) := Or.inl ⟨rfl, by rw [iv_int (by omega)]; omega, by rw [iv_int (by omega)]; omega⟩
          refine bb_ln (iv_ne_neg (by omega)) ?_
          unfold k_X1_last_J62
          refine bb_if2 (far2_gt fr i2) (fun _ _ => ?_) (fun _ _ => ?_)
          · repeat (with_reducible first | refine bb_ls ?_ | refine bb_rs ?_ | refine bb_l (by assumption) ?_ | refine bb_r (by assumption) ?_ | refine bb_lp (by assumption) ?_ | refine bb_ln (by assumption) ?_ | refine bb_rp (by assumption) ?_ | refine bb_rn (by assumption) ?_)
            exact bb_s ⟨rfl, fr, iv_succ k, iv_succ k, Or.inr ⟨w, hR4⟩⟩
          · repeat (with_reducible first | refine bb_ls ?_ | refine bb_rs ?_ | refine bb_l (by assumption) ?_ | refine bb_r (by assumption) ?_ | refine bb_lp (by assumption) ?_ | refine bb_ln (by assumption) ?_ | refine bb_rp (by assumption) ?_ | refine bb_rn (by assumption) ?_)
            exact bb_s ⟨rfl, i2, iv_succ k, iv_succ k, Or.inr ⟨w, hR4⟩⟩
    · rintro ⟨v, u, i, h2⟩ ⟨v', u', i', S2⟩ ⟨i1, i2, i3, i4, i5⟩
      dsimp only at i1 i2 i3 i4 i5 ⊢
      subst i1 i3 i4
      have hC2 : CIx x t hi T s r la ls c h2 S2 := by
        rcases i5 with ⟨rfl, rfl⟩ | ⟨w, hR⟩
        · exact hC0
        · exact hR.cix hC0
      have z1 := iv_end (N := T.1.1) (by omega)
      have z2 : iv T.1.1 ≥ S2.1 1 := by rw [hC2.tt.1]; exact z1
      have f1 := hC2.xc.town
      have f2 := hC2.xc.tv.is1
      have f3 := hC2.xc.tv.houses
      unfold k_X1_last_L12 f_last_L23
      repeat (with_reducible first | refine bb_ls ?_ | refine bb_rs ?_ | refine bb_l (by assumption) ?_ | refine bb_r (by assumption) ?_ | refine bb_lp (by assumption) ?_ | refine bb_ln (by assumption) ?_ | refine bb_rp (by assumption) ?_ | refine bb_rn (by assumption) ?_)
      exact bb_s ⟨rfl, i2, i5⟩
  · rintro ⟨v, u, h2⟩ ⟨v', u', S2⟩ ⟨q1, q2, q3⟩
    dsimp only at q1 q2 q3 ⊢
    have fin : ∀ a b, b = a → OP cdN x c h (.inl a, h2) (b, S2) := by
      intro a b e
      rcases q3 with ⟨rfl, rfl⟩ | ⟨w, hR⟩
      · exact op_vr hC0 Vr.rfl h0 e
      · exact op_tr hC0 hR h0 e
    refine bb_if2 Iff.rfl (fun _ _ => bb_s (fin _ _ q1)) (fun _ _ => ?_)
    rcases q2 with ⟨rfl, p1, p2⟩ | ⟨rfl, rfl⟩
    · have e1 : (100000 : Int32).toInt = 100000 := by decide
      have e2 : (99999 : Int32).toInt = 99999 := by decide
      refine bb_ln (fun z => ?_) (bb_rn (fun z => ?_) (bb_s (fin _ _ rfl)))
      · rw [z, e1] at p2; omega
      · rw [z, e2] at p2; omega
    · exact bb_lp rfl (bb_rp rfl (bb_s (fin _ _ rfl)))
end AHEAD
