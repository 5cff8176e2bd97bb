/-! turns on days to come -/
set_option maxRecDepth 100000
section DAYS
variable {x t hi : Nat} {T : Tn} {s r la ls : Nat} {c : Nat → Value} {h h1 : XH} {S S1 : TS} {n g N : Nat} {w : Nat → Int32}
theorem op_worn (hC : CIx x t hi T s r la ls c h S) (hn : 4000 < n) (hg : g = 90) (a1 a2 : Int32) : Both (k_X1_worn n g c x a1 a2 h) (f_worn n a1 a2 S) (OP cdB x c h) := by
  have hC0 := hC.tl (TL.thr (v := 0))
  have h0 : (tpF S 0 0).1 0 = 0 := rfl
  unfold k_X1_worn f_worn
  refine bb_l hC.is0 (bb_rs ?_)
  generalize tpF S 0 0 = S0 at hC0 h0 ⊢
  have h8 := hC0.wt.1
  refine g_house hC0.xc hC0.tt hC0.wt h0 (fun _ _ => rfl) (fun _ => if_pos rfl) (op_exc hC0 (Or.inl ⟨rfl, rfl⟩)) (fun p hp e => ?_)
  subst e
  dsimp only
  refine bb_rn i10 ?_
  refine g_days (lo := 0) rfl (by decide) (by decide) h0 (fun _ _ => rfl) (fun _ => if_pos rfl) (op_exc hC0 (Or.inr ⟨rfl, rfl⟩)) (fun N hN1 hN e => ?_)
  subst e
  dsimp only
  refine bb_rn i10 ?_
  obtain ⟨h1, S1, e1, e2, hR⟩ := hC0.later hN hn hg
  have f1 := hC0.is0
  have f2 := hR.2.1.a1
  have f3 := hR.2.1.worn hC0.wt hp
  have f4 : trd S1 41 ((54 : Int32) + iv p) = some _ := hR.rd (a := 11) rfl (by omega)
  repeat (with_reducible first | refine bb_ls ?_ | refine bb_rs ?_ | refine bb_l (by assumption) ?_ | refine bb_r (by assumption) ?_ | refine bb_lp (by assumption) ?_ | refine bb_ln (by assumption) ?_ | refine bb_rp (by assumption) ?_ | refine bb_rn (by assumption) ?_)
  exact bb_s (op_tr hC0 hR h0 rfl)
theorem op_then (hC : CIx x t hi T s r la ls c h S) (hn : 4000 < n) (hg : g = 90) (a1 a2 a3 : Int32) : Both (k_X1_then n g c x a1 a2 a3 h) (f_then n a1 a2 a3 S) (OP cdB x c h) := by
  have hC0 := hC.tl (TL.thr (v := 0))
  have h0 : (tpF S 0 0).1 0 = 0 := rfl
  unfold k_X1_then f_then
  refine bb_l hC.is0 (bb_rs ?_)
  generalize tpF S 0 0 = S0 at hC0 h0 ⊢
  have p8 := hC0.wt.2.1
  have h8 := hC0.wt.1
  refine g_pers hC0.xc hC0.tt hC0.wt h0 (fun _ _ => rfl) (fun _ => if_pos rfl) (op_exc hC0 (Or.inl ⟨rfl, rfl⟩)) (fun p hp e => ?_)
  subst e
  dsimp only
  refine bb_rn i10 ?_
  refine g_what (N := 2) rfl (by decide) h0 (fun _ _ => rfl) (fun _ => if_pos rfl) (op_exc hC0 (Or.inl ⟨rfl, rfl⟩)) (fun q hq e => ?_)
  subst e
  dsimp only
  refine bb_rn i10 ?_
  refine g_days (lo := 0) rfl (by decide) (by decide) h0 (fun _ _ => rfl) (fun _ => if_pos rfl) (op_exc hC0 (Or.inr ⟨rfl, rfl⟩)) (fun N hN1 hN e => ?_)
  subst e
  dsimp only
  refine bb_rn i10 ?_
  obtain ⟨h1, S1, e1, e2, hR⟩ := hC0.later hN hn hg
  have f1 := hC0.is0
  have f2 := hR.2.1.a2
  have f3 := hR.2.1.a3
  have f4 := hR.2.1.a4
  have f5 := hR.2.1.heel hC0.wt hp
  have f6 := hR.2.1.home hC0.wt hp
  have f7 := hR.2.1.sore hC0.wt hp
  have f8 := hR.f3 hC0
  have f9 : trd S1 41 ((70 : Int32) + iv p) = some _ := hR.rd (a := 27) rfl (by omega)
  have f10 : trd S1 41 ((78 : Int32) + iv p) = some _ := hR.rd (a := 35) rfl (by omega)
  have f11 : f_houseOf n 43 (iv p) S1 = some (m_home T (m_days T N (trow S0 0)) p) := by
    rw [← hR.2.2.1]
    exact houseOf_is (r := 43) (by decide) (hR.tt hC0).1 h8 (by omega)
  repeat (with_reducible first | refine bb_ls ?_ | refine bb_rs ?_ | refine bb_l (by assumption) ?_ | refine bb_r (by assumption) ?_ | refine bb_lp (by assumption) ?_ | refine bb_ln (by assumption) ?_ | refine bb_rp (by assumption) ?_ | refine bb_rn (by assumption) ?_)
  refine bb_if2 Iff.rfl (fun z _ => ?_) (fun z _ => ?_)
  · repeat (with_reducible first | refine bb_ls ?_ | refine bb_rs ?_ | refine bb_l (by assumption) ?_ | refine bb_r (by assumption) ?_ | refine bb_lp (by assumption) ?_ | refine bb_ln (by assumption) ?_ | refine bb_rp (by assumption) ?_ | refine bb_rn (by assumption) ?_)
    exact bb_s (op_tr hC0 hR h0 rfl)
  · refine bb_if2 Iff.rfl (fun z _ => ?_) (fun z _ => ?_)
    · repeat (with_reducible first | refine bb_ls ?_ | refine bb_rs ?_ | refine bb_l (by assumption) ?_ | refine bb_r (by assumption) ?_ | refine bb_lp (by assumption) ?_ | refine bb_ln (by assumption) ?_ | refine bb_rp (by assumption) ?_ | refine bb_rn (by assumption) ?_)
      exact bb_s (op_tr hC0 hR h0 rfl)
    · repeat (with_reducible first | refine bb_ls ?_ | refine bb_rs ?_ | refine bb_l (by assumption) ?_ | refine bb_r (by assumption) ?_ | refine bb_lp (by assumption) ?_ | refine bb_ln (by assumption) ?_ | refine bb_rp (by assumption) ?_ | refine bb_rn (by assumption) ?_)
      exact bb_s (op_tr hC0 hR h0 rfl)
/-- who lodges -/
theorem lodging_is (hX : XC x t T hi h) (hS : SV x T h s w) (hw : WT T) (hn : 10 < n) : k_X3_lodging n s h = some (m_lodgers w T.1.1 T.1.2.1) := by
  have p8 := hw.2.1
  have f1 := hS.own
  have f2 := hX.town
  have f3 := hX.tv.is1
  have f4 := hX.tv.people
  have f5 := hS.a3
  refine ok_eq ?_
  unfold k_X3_lodging
  refine ok_c (Q := fun o => o = m_lodgers w T.1.1 T.1.2.1) ?_ (fun o q => ok_s q)
  refine ok_loop T.1.2.1 (fun k st => st.1 = m_lodgers w T.1.1 k ∧ st.2 = iv k) ⟨rfl, rfl⟩ ?_ ?_ (by omega)
  · rintro k ⟨v, i⟩ hk ⟨i1, i2⟩
    dsimp only at i1 i2 ⊢
    subst i1 i2
    have z1 := iv_stop hk (by omega)
    have z2 := hS.home hw hk
    unfold k_X3_lodging_L4
    repeat (with_reducible first | refine ok_sb ?_ | refine ok_b (by assumption) ?_ | refine ok_pos (by assumption) ?_ | refine ok_neg (by assumption) ?_)
    refine ok_if (fun q => ?_) (fun q => ?_)
    · repeat (with_reducible first | refine ok_sb ?_ | refine ok_b (by assumption) ?_ | refine ok_pos (by assumption) ?_ | refine ok_neg (by assumption) ?_)
      refine ok_s ⟨?_, iv_succ k⟩
      show _ = (m_lodgers w T.1.1 k ||| if m_houseOf w (iv k) T.1.1 0 = (-1) then ibit k else 0)
      rw [if_pos q]
      rfl
    · repeat (with_reducible first | refine ok_sb ?_ | refine ok_b (by assumption) ?_ | refine ok_pos (by assumption) ?_ | refine ok_neg (by assumption) ?_)
      refine ok_s ⟨?_, iv_succ k⟩
      show _ = (m_lodgers w T.1.1 k ||| if m_houseOf w (iv k) T.1.1 0 = (-1) then ibit k else 0)
      rw [if_neg q, Int32.or_zero]
  · rintro ⟨v, i⟩ ⟨i1, i2⟩
    dsimp only at i1 i2 ⊢
    subst i1 i2
    have z1 := iv_end (N := T.1.2.1) (by omega)
    unfold k_X3_lodging_L4
    repeat (with_reducible first | refine ok_sb ?_ | refine ok_b (by assumption) ?_ | refine ok_pos (by assumption) ?_ | refine ok_neg (by assumption) ?_)
    exact ok_s rfl
theorem allSore_is (hX : XC x t T hi h) (hS : SV x T h s w) (hw : WT T) (hn : 10 < n) : k_X3_allBlisters n s h = some (m_sore w T.1.2.1) := by
  have p8 := hw.2.1
  have f1 := hS.own
  have f2 := hX.town
  have f3 := hX.tv.is1
  have f4 := hX.tv.people
  have f5 := hS.a4
  refine ok_eq ?_
  unfold k_X3_allBlisters
  refine ok_c (Q := fun o => o = m_sore w T.1.2.1) ?_ (fun o q => ok_s q)
  refine ok_loop T.1.2.1 (fun k st => st.1 = m_sore w k ∧ st.2 = iv k) ⟨rfl, rfl⟩ ?_ ?_ (by omega)
  · rintro k ⟨v, i⟩ hk ⟨i1, i2⟩
    dsimp only at i1 i2 ⊢
    subst i1 i2
    have z1 := iv_stop hk (by omega)
    have z2 := hS.sore hw hk
    unfold k_X3_allBlisters_L4
    repeat (with_reducible first | refine ok_sb ?_ | refine ok_b (by assumption) ?_ | refine ok_pos (by assumption) ?_ | refine ok_neg (by assumption) ?_)
    exact ok_s ⟨rfl, iv_succ k⟩
  · rintro ⟨v, i⟩ ⟨i1, i2⟩
    dsimp only at i1 i2 ⊢
    subst i1 i2
    have z1 := iv_end (N := T.1.2.1) (by omega)
    unfold k_X3_allBlisters_L4
    repeat (with_reducible first | refine ok_sb ?_ | refine ok_b (by assumption) ?_ | refine ok_pos (by assumption) ?_ | refine ok_neg (by assumption) ?_)
    exact ok_s rfl
theorem op_barefoot (hC : CIx x t hi T s r la ls c h S) (hn : 4000 < n) (hg : g = 90) (a1 : Int32) : Both (k_X1_barefoot n g c x a1 h) (f_barefoot n a1 S) (OP cdI x c h) := by
  have hC0 := hC.tl (TL.thr (v := 0))
  have h0 : (tpF S 0 0).1 0 = 0 := rfl
  unfold k_X1_barefoot f_barefoot
  refine bb_rs ?_
  generalize tpF S 0 0 = S0 at hC0 h0 ⊢
  have h8 := hC0.wt.1
  have p8 := hC0.wt.2.1
  refine g_days (lo := 0) rfl (by decide) (by decide) h0 (fun _ _ => rfl) (fun _ => if_pos rfl) (op_exc hC0 ⟨rfl, rfl⟩) (fun N hN1 hN e => ?_)
  subst e
  dsimp only
  refine bb_rn i10 ?_
  obtain ⟨h1, S1, e1, e2, hR⟩ := hC0.later hN hn hg
  have f1 := hC0.is0
  have f2 := hR.2.1.is2
  have f3 := lodging_is (n := n) (hR.xc hC0) hR.2.1 hC0.wt (by omega)
  have f4 : f_lodgersIn n 43 S1 = some (m_lodgers (m_days T N (trow S0 0)) T.1.1 T.1.2.1) := by
    rw [← hR.2.2.1]
    exact lodgersIn_is (r := 43) (by decide) (hR.tt hC0).1 (hR.tt hC0).2.1 h8 p8 (by omega)
  repeat (with_reducible first | refine bb_ls ?_ | refine bb_rs ?_ | refine bb_l (by assumption) ?_ | refine bb_r (by assumption) ?_ | refine bb_lp (by assumption) ?_ | refine bb_ln (by assumption) ?_ | refine bb_rp (by assumption) ?_ | refine bb_rn (by assumption) ?_)
  exact bb_s (op_tr hC0 hR h0 rfl)
theorem op_paid (hC : CIx x t hi T s r la ls c h S) (hn : 4000 < n) (hg : g = 90) (a1 : Int32) : Both (k_X1_paid n g c x a1 h) (f_paid n a1 S) (OP cdI x c h) := by
  have hC0 := hC.tl (TL.thr (v := 0))
  have h0 : (tpF S 0 0).1 0 = 0 := rfl
  unfold k_X1_paid f_paid
  refine bb_rs ?_
  generalize tpF S 0 0 = S0 at hC0 h0 ⊢
  have h8 := hC0.wt.1
  have p8 := hC0.wt.2.1
  refine g_days (lo := 0) rfl (by decide) (by decide) h0 (fun _ _ => rfl) (fun _ => if_pos rfl) (op_exc hC0 ⟨rfl, rfl⟩) (fun N hN1 hN e => ?_)
  subst e
  dsimp only
  refine bb_rn i10 ?_
  obtain ⟨h1, S1, e1, e2, hR⟩ := hC0.later hN hn hg
  have f1 := hC0.is0
  have f2 := hR.2.1.is2
  have f3 := allSore_is (n := n) (hR.xc hC0) hR.2.1 hC0.wt (by omega)
  have f5 := hR.f2 hC0
  have f6 := (hR.sv hC0).is2
  have f7 := allSore_is (n := n) (hR.xc hC0) (hR.sv hC0) hC0.wt (by omega)
  have f4 : f_soreIn n 43 S1 = some (m_sore (m_days T N (trow S0 0)) T.1.2.1) := by
    rw [← hR.2.2.1]
    exact soreIn_is (r := 43) (by decide) (hR.tt hC0).2.1 p8 (by omega)
  have f8 : f_soreIn n 0 S1 = some (m_sore (trow S0 0) T.1.2.1) := by
    rw [← hR.row0]
    exact soreIn_is (r := 0) (by decide) (hR.tt hC0).2.1 p8 (by omega)
  repeat (with_reducible first | refine bb_ls ?_ | refine bb_rs ?_ | refine bb_l (by assumption) ?_ | refine bb_r (by assumption) ?_ | refine bb_lp (by assumption) ?_ | refine bb_ln (by assumption) ?_ | refine bb_rp (by assumption) ?_ | refine bb_rn (by assumption) ?_)
  exact bb_s (op_tr hC0 hR h0 rfl)
end DAYS
