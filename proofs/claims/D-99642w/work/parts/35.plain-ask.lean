/-! turns that ask of houses, people, the round -/
set_option maxRecDepth 100000
section ASK
variable {x t hi : Nat} {T : Tn} {s r la ls : Nat} {c : Nat → Value} {h h1 : XH} {S S1 : TS} {n g N : Nat} {w : Nat → Int32}
/-- how tight it is for p where p is -/
def m_tnow (T : Tn) (w : Nat → Int32) (p : Nat) : Int32 := if m_home T w p = (-1) then 0 else m_tight w p (m_home T w p).toNatClampNeg
theorem tnow_iv {D p : Nat} (hW : WF D T w) (hT : WT T) (hp : p < T.1.2.1) : ∃ a, m_tnow T w p = iv a ∧ a ≤ 99 := by
  have := hT.1
  have := hT.2.1
  unfold m_tnow
  rcases home_cases (T := T) (w := w) p with ⟨k, k1, k2, k3⟩ | ⟨k1, k2⟩
  · rw [k3, if_neg (iv_ne_neg (by omega)), iv_nat (by omega)]
    obtain ⟨a, b, e1, a1, e2, b1, b2, e3, -⟩ := tight_iv hW hp k1
    exact ⟨a - b, e3, by omega⟩
  · rw [k2, if_pos rfl]
    exact ⟨0, rfl, by omega⟩
theorem tightOf_k {p : Nat} (hC : CIx x t hi T s r la ls c h S) (hp : p < T.1.2.1) : k_X1_tightOf x (iv p) h = some (m_tnow T (trow S 0) p) := by
  have := hC.wt.1
  have f1 := hC.f2
  have f2 := hC.sv.a3
  have f3 := hC.sv.home hC.wt hp
  have f4 := hC.sv.is2
  refine ok_eq ?_
  unfold k_X1_tightOf m_tnow
  rcases home_cases (T := T) (w := trow S 0) p with ⟨k, k1, k2, k3⟩ | ⟨k1, k2⟩
  · rw [k3] at f3
    rw [k3, iv_nat (by omega)]
    have z := iv_ne_neg (a := k) (by omega)
    have f5 := tight_is hC.sv hC.wf hC.wt hp k1
    repeat (with_reducible first | refine ok_sb ?_ | refine ok_b (by assumption) ?_ | refine ok_pos (by assumption) ?_ | refine ok_neg (by assumption) ?_)
    exact ok_s (if_neg z).symm
  · rw [k2] at f3
    rw [k2]
    have z : (-1 : Int32) = (-1) := rfl
    repeat (with_reducible first | refine ok_sb ?_ | refine ok_b (by assumption) ?_ | refine ok_pos (by assumption) ?_ | refine ok_neg (by assumption) ?_)
    exact ok_s (if_pos rfl).symm
theorem tightNow_f {p : Nat} (hT : TT S T) (hw : WT T) (hn : 10 < n) (hp : p < T.1.2.1) : f_tightNow n (iv p) S = some (m_tnow T (trow S 0) p) := by
  have h8 := hw.1
  have := hw.2.1
  have f1 : f_houseOf n 0 (iv p) S = some (m_home T (trow S 0) p) := houseOf_is (r := 0) (by decide) hT.1 h8 (by omega)
  refine ok_eq ?_
  unfold f_tightNow m_tnow
  rcases home_cases (T := T) (w := trow S 0) p with ⟨k, k1, k2, k3⟩ | ⟨k1, k2⟩
  · rw [k3] at f1
    rw [k3, iv_nat (by omega)]
    have z := iv_ne_neg (a := k) (by omega)
    have f5 : f_tightOf 0 (iv p) (iv k) S = some (m_tight (trow S 0) p k) := tightOf_is (r := 0) (by decide) (by omega) (by omega)
    repeat (with_reducible first | refine ok_sb ?_ | refine ok_b (by assumption) ?_ | refine ok_pos (by assumption) ?_ | refine ok_neg (by assumption) ?_)
    exact ok_s (if_neg z).symm
  · rw [k2] at f1
    rw [k2]
    have z : (-1 : Int32) = (-1) := rfl
    repeat (with_reducible first | refine ok_sb ?_ | refine ok_b (by assumption) ?_ | refine ok_pos (by assumption) ?_ | refine ok_neg (by assumption) ?_)
    exact ok_s (if_pos rfl).symm
theorem taken_k (hC : CIx x t hi T s r la ls c h S) (hn : 4000 < n) : k_X1_taken n x h = some (m_taken (trow S 0) T.1.1) := by
  have h8 := hC.wt.1
  have f1 := hC.xc.town
  have f2 := hC.xc.tv.is1
  have f3 := hC.xc.tv.houses
  have f4 := hC.f2
  have f5 := hC.sv.is2
  refine ok_eq ?_
  unfold k_X1_taken
  refine ok_c (Q := fun o => o = m_taken (trow S 0) T.1.1) ?_ (fun o q => ok_s q)
  refine ok_loop T.1.1 (fun k st => st.1 = m_taken (trow S 0) k ∧ st.2 = iv k) ⟨rfl, rfl⟩ ?_ ?_ (by omega)
  · rintro k ⟨v, i⟩ hk ⟨i1, i2⟩
    dsimp only at i1 i2 ⊢
    subst i1 i2
    have z1 := iv_stop hk (by omega)
    have f6 := in_is (n := n) hC.xc hC.sv hC.wf.2.2.2.2.2.2.2 hC.wt hk (by omega)
    unfold k_X1_taken_L4
    repeat (with_reducible first | refine ok_sb ?_ | refine ok_b (by assumption) ?_ | refine ok_pos (by assumption) ?_ | refine ok_neg (by assumption) ?_)
    refine ok_if (fun q => ?_) (fun q => ?_)
    · repeat (with_reducible first | refine ok_sb ?_ | refine ok_b (by assumption) ?_ | refine ok_pos (by assumption) ?_ | refine ok_neg (by assumption) ?_)
      refine ok_s ⟨?_, iv_succ k⟩
      show _ = (m_taken (trow S 0) k ||| if trow S 0 (19 + k) = (-1) then 0 else ibit k)
      rw [if_pos q, Int32.or_zero]
    · repeat (with_reducible first | refine ok_sb ?_ | refine ok_b (by assumption) ?_ | refine ok_pos (by assumption) ?_ | refine ok_neg (by assumption) ?_)
      refine ok_s ⟨?_, iv_succ k⟩
      show _ = (m_taken (trow S 0) k ||| if trow S 0 (19 + k) = (-1) then 0 else ibit k)
      rw [if_neg q]
      rfl
  · rintro ⟨v, i⟩ ⟨i1, i2⟩
    dsimp only at i1 i2 ⊢
    subst i1 i2
    have z1 := iv_end (N := T.1.1) (by omega)
    unfold k_X1_taken_L4
    repeat (with_reducible first | refine ok_sb ?_ | refine ok_b (by assumption) ?_ | refine ok_pos (by assumption) ?_ | refine ok_neg (by assumption) ?_)
    exact ok_s rfl
theorem tightest_is (hC : CIx x t hi T s r la ls c h S) (hn : 4000 < n) : Both (k_X1_tightest n x h) (f_tightest n S) (fun a b => b = a) := by
  have p8 := hC.wt.2.1
  have f1 := hC.xc.town
  have f2 := hC.xc.tv.is1
  have f3 := hC.xc.tv.people
  have f4 := hC.is0
  have f5 : S.1 2 = iv T.1.2.1 := hC.tt.2.1
  unfold k_X1_tightest f_tightest
  refine bb_c (Q := fun a b => b = a) ?_ (fun a b q => bb_s q)
  refine bb_loop T.1.2.1 (fun k (st : Int32 × Int32) (st' : Int32 × Int32) => (st'.1 = st.1 ∧ (st.1 = (-1) ∨ ∃ b a, b < T.1.2.1 ∧ st.1 = iv b ∧ m_tnow T (trow S 0) b = iv a ∧ 0 < a ∧ a ≤ 99)) ∧ st.2 = iv k ∧ st'.2 = iv k) ⟨⟨rfl, Or.inl rfl⟩, rfl, rfl⟩ ?_ ?_ (by omega) (by omega)
  · rintro k ⟨v, i⟩ ⟨v', i'⟩ hk ⟨⟨i1, i4⟩, i2, i3⟩
    dsimp only at i1 i2 i3 i4 ⊢
    subst i1 i2 i3
    have z1 := iv_stop hk (by omega)
    have z2 : ¬ iv k ≥ S.1 2 := by rw [f5]; exact z1
    have g1 := tightOf_k hC hk
    have g2 := tightNow_f (n := n) hC.tt hC.wt (by omega) hk
    obtain ⟨a, a1, a2⟩ := tnow_iv hC.wf hC.wt hk
    unfold k_X1_tightest_L4 f_tightest_L4
    repeat (with_reducible first | refine bb_ls ?_ | refine bb_rs ?_ | refine bb_l (by assumption) ?_ | refine bb_r (by assumption) ?_ | refine bb_lp (by assumption) ?_ | refine bb_ln (by assumption) ?_ | refine bb_rp (by assumption) ?_ | refine bb_rn (by assumption) ?_)
    rw [a1]
    by_cases u : iv a ≤ 0
    · have ua : a = 0 := by
        have := (iv_le (b := 0) (by omega) (by omega)).mp u
        omega
      subst ua
      refine bb_lp u ?_
      repeat (with_reducible first | refine bb_ls ?_ | refine bb_rs ?_ | refine bb_l (by assumption) ?_ | refine bb_r (by assumption) ?_ | refine bb_lp (by assumption) ?_ | refine bb_ln (by assumption) ?_ | refine bb_rp (by assumption) ?_ | refine bb_rn (by assumption) ?_)
      rcases i4 with i4 | ⟨b, d, b1, b2, b3, b4, b5⟩
      · refine bb_rp i4 ?_
        unfold f_tightest_J31
        refine bb_rp u ?_
        repeat (with_reducible first | refine bb_ls ?_ | refine bb_rs ?_ | refine bb_l (by assumption) ?_ | refine bb_r (by assumption) ?_ | refine bb_lp (by assumption) ?_ | refine bb_ln (by assumption) ?_ | refine bb_rp (by assumption) ?_ | refine bb_rn (by assumption) ?_)
        exact bb_s ⟨⟨rfl, Or.inl i4⟩, iv_succ k, iv_succ k⟩
      · have g3 := tightNow_f (n := n) hC.tt hC.wt (by omega) b1
        subst b2
        refine bb_rn (iv_ne_neg (by omega)) ?_
        refine bb_r g3 ?_
        unfold f_tightest_J31
        rw [b3]
        refine bb_rp ((iv_le (by omega) (by omega)).mpr (by omega)) ?_
        repeat (with_reducible first | refine bb_ls ?_ | refine bb_rs ?_ | refine bb_l (by assumption) ?_ | refine bb_r (by assumption) ?_ | refine bb_lp (by assumption) ?_ | refine bb_ln (by assumption) ?_ | refine bb_rp (by assumption) ?_ | refine bb_rn (by assumption) ?_)
        exact bb_s ⟨⟨rfl, Or.inr ⟨b, d, b1, rfl, b3, b4, b5⟩⟩, iv_succ k, iv_succ k⟩
    · have ua : 0 < a := by
        by_cases z : a = 0
        · subst z; exact absurd (Int32.le_refl _) u
        · omega
      refine bb_ln u ?_
      rcases i4 with i4 | ⟨b, d, b1, b2, b3, b4, b5⟩
      · refine bb_lp i4 (bb_rp i4 ?_)
        unfold f_tightest_J31
        refine bb_rn u ?_
        repeat (with_reducible first | refine bb_ls ?_ | refine bb_rs ?_ | refine bb_l (by assumption) ?_ | refine bb_r (by assumption) ?_ | refine bb_lp (by assumption) ?_ | refine bb_ln (by assumption) ?_ | refine bb_rp (by assumption) ?_ | refine bb_rn (by assumption) ?_)
        exact bb_s ⟨⟨rfl, Or.inr ⟨k, a, hk, rfl, a1, ua, a2⟩⟩, iv_succ k, iv_succ k⟩
      · have g3 := tightNow_f (n := n) hC.tt hC.wt (by omega) b1
        have g4 := tightOf_k hC b1
        subst b2
        have nb := iv_ne_neg (a := b) (by omega)
        refine bb_ln nb (bb_rn nb ?_)
        refine bb_r g3 ?_
        repeat (with_reducible first | refine bb_ls ?_ | refine bb_rs ?_ | refine bb_l (by assumption) ?_ | refine bb_r (by assumption) ?_ | refine bb_lp (by assumption) ?_ | refine bb_ln (by assumption) ?_ | refine bb_rp (by assumption) ?_ | refine bb_rn (by assumption) ?_)
        unfold f_tightest_J31
        rw [a1, b3]
        refine bb_if2 Iff.rfl (fun y _ => ?_) (fun y _ => ?_)
        · repeat (with_reducible first | refine bb_ls ?_ | refine bb_rs ?_ | refine bb_l (by assumption) ?_ | refine bb_r (by assumption) ?_ | refine bb_lp (by assumption) ?_ | refine bb_ln (by assumption) ?_ | refine bb_rp (by assumption) ?_ | refine bb_rn (by assumption) ?_)
          exact bb_s ⟨⟨rfl, Or.inr ⟨b, d, b1, rfl, b3, b4, b5⟩⟩, iv_succ k, iv_succ k⟩
        · repeat (with_reducible first | refine bb_ls ?_ | refine bb_rs ?_ | refine bb_l (by assumption) ?_ | refine bb_r (by assumption) ?_ | refine bb_lp (by assumption) ?_ | refine bb_ln (by assumption) ?_ | refine bb_rp (by assumption) ?_ | refine bb_rn (by assumption) ?_)
          exact bb_s ⟨⟨rfl, Or.inr ⟨k, a, hk, rfl, a1, ua, a2⟩⟩, iv_succ k, iv_succ k⟩
  · rintro ⟨v, i⟩ ⟨v', i'⟩ ⟨⟨i1, i4⟩, i2, i3⟩
    dsimp only at i1 i2 i3 i4 ⊢
    subst i1 i2 i3
    have z1 := iv_end (N := T.1.2.1) (by omega)
    have z2 : iv T.1.2.1 ≥ S.1 2 := by rw [f5]; exact z1
    unfold k_X1_tightest_L4 f_tightest_L4
    repeat (with_reducible first | refine bb_ls ?_ | refine bb_rs ?_ | refine bb_l (by assumption) ?_ | refine bb_r (by assumption) ?_ | refine bb_lp (by assumption) ?_ | refine bb_ln (by assumption) ?_ | refine bb_rp (by assumption) ?_ | refine bb_rn (by assumption) ?_)
    exact bb_s rfl
theorem op_person (hC : CIx x t hi T s r la ls c h S) (hn : 4000 < n) (a1 a2 : Int32) : Both (k_X1_person x a1 a2 h) (f_person n a1 a2 S) (OP cdN x c h) := by
  have hC0 := hC.tl (TL.thr (v := 0))
  have h0 : (tpF S 0 0).1 0 = 0 := rfl
  unfold k_X1_person f_person
  refine bb_l hC.is0 (bb_rs ?_)
  generalize tpF S 0 0 = S0 at hC0 h0 ⊢
  have h8 := hC0.wt.1
  have p8 := hC0.wt.2.1
  refine g_pers hC0.xc hC0.tt hC0.wt h0 (fun _ _ => rfl) (fun _ => if_pos rfl) (op_exc hC0 ⟨rfl, rfl⟩) (fun p hp e => ?_)
  subst e
  dsimp only
  refine bb_rn i10 ?_
  refine g_what (N := 4) rfl (by decide) h0 (fun _ _ => rfl) (fun _ => if_pos rfl) (op_exc hC0 ⟨rfl, rfl⟩) (fun q hq e => ?_)
  dsimp only
  refine bb_rn i10 ?_
  have f1 := hC0.f2
  have f2 := hC0.sv.a2
  have f3 := hC0.sv.a3
  have f4 := hC0.sv.a4
  have f5 := hC0.sv.heel hC0.wt hp
  have f6 := hC0.sv.home hC0.wt hp
  have f7 := hC0.sv.sore hC0.wt hp
  have f8 := hC0.xc.town
  have f9 := hC0.xc.tv.l2
  have f10 := hC0.xc.tv.grows.is10
  obtain ⟨b, b1, b2, b3⟩ := hC0.xc.tv.grows.get hp
  have f11 := hC0.is0
  have f12 := tightOf_k hC0 hp
  have g1 : trd S0 41 ((27 : Int32) + iv p) = some _ := row0_rd (a := 27) rfl (by omega)
  have g2 : trd S0 41 ((35 : Int32) + iv p) = some _ := row0_rd (a := 35) rfl (by omega)
  have g3 : trd S0 8 (iv p) = some (T.2.1 2 p) := by rw [trd_nat (i := 8) (show p < 8 by omega), hC0.tt.2.2.2.2.2.1]
  have g4 : f_houseOf n 0 (iv p) S0 = some (m_home T (trow S0 0) p) := houseOf_is (r := 0) (by decide) hC0.tt.1 h8 (by omega)
  have g5 := tightNow_f (n := n) hC0.tt hC0.wt (by omega) hp
  have fin : ∀ v, OP cdN x c h (.inl v, h) (v, S0) := fun v => op_vr hC0 Vr.rfl h0 rfl
  refine bb_if2 Iff.rfl (fun _ _ => ?_) (fun _ _ => ?_)
  · repeat (with_reducible first | refine bb_ls ?_ | refine bb_rs ?_ | refine bb_l (by assumption) ?_ | refine bb_r (by assumption) ?_ | refine bb_lp (by assumption) ?_ | refine bb_ln (by assumption) ?_ | refine bb_rp (by assumption) ?_ | refine bb_rn (by assumption) ?_)
    exact bb_s (fin _)
  · refine bb_if2 Iff.rfl (fun _ _ => ?_) (fun _ _ => ?_)
    · repeat (with_reducible first | refine bb_ls ?_ | refine bb_rs ?_ | refine bb_l (by assumption) ?_ | refine bb_r (by assumption) ?_ | refine bb_lp (by assumption) ?_ | refine bb_ln (by assumption) ?_ | refine bb_rp (by assumption) ?_ | refine bb_rn (by assumption) ?_)
      exact bb_s (fin _)
    · refine bb_if2 Iff.rfl (fun _ _ => ?_) (fun _ _ => ?_)
      · repeat (with_reducible first | refine bb_ls ?_ | refine bb_rs ?_ | refine bb_l (by assumption) ?_ | refine bb_r (by assumption) ?_ | refine bb_lp (by assumption) ?_ | refine bb_ln (by assumption) ?_ | refine bb_rp (by assumption) ?_ | refine bb_rn (by assumption) ?_)
        exact bb_s (fin _)
      · refine bb_if2 Iff.rfl (fun _ _ => ?_) (fun _ _ => ?_)
        · repeat (with_reducible first | refine bb_ls ?_ | refine bb_rs ?_ | refine bb_l (by assumption) ?_ | refine bb_r (by assumption) ?_ | refine bb_lp (by assumption) ?_ | refine bb_ln (by assumption) ?_ | refine bb_rp (by assumption) ?_ | refine bb_rn (by assumption) ?_)
          exact bb_s (fin _)
        · repeat (with_reducible first | refine bb_ls ?_ | refine bb_rs ?_ | refine bb_l (by assumption) ?_ | refine bb_r (by assumption) ?_ | refine bb_lp (by assumption) ?_ | refine bb_ln (by assumption) ?_ | refine bb_rp (by assumption) ?_ | refine bb_rn (by assumption) ?_)
          exact bb_s (fin _)
theorem op_toStuff (hC : CIx x t hi T s r la ls c h S) (a1 a2 : Int32) : Both (k_X1_toStuff x a1 a2 h) (f_toStuff a1 a2 S) (OP cdN x c h) := by
  have hC0 := hC.tl (TL.thr (v := 0))
  have h0 : (tpF S 0 0).1 0 = 0 := rfl
  unfold k_X1_toStuff f_toStuff
  refine bb_l hC.is0 (bb_rs ?_)
  generalize tpF S 0 0 = S0 at hC0 h0 ⊢
  have h8 := hC0.wt.1
  have p8 := hC0.wt.2.1
  refine g_pers hC0.xc hC0.tt hC0.wt h0 (fun _ _ => rfl) (fun _ => if_pos rfl) (op_exc hC0 ⟨rfl, rfl⟩) (fun p hp e => ?_)
  subst e
  dsimp only
  refine bb_l hC0.is0 (bb_rn i10 ?_)
  refine g_house hC0.xc hC0.tt hC0.wt h0 (fun _ _ => rfl) (fun _ => if_pos rfl) (op_exc hC0 ⟨rfl, rfl⟩) (fun hh hh8 e => ?_)
  subst e
  dsimp only
  refine bb_rn i10 ?_
  have f1 := hC0.f2
  have f2 := hC0.sv.a0
  have f3 := hC0.sv.a2
  have f4 := hC0.sv.size hC0.wt hh8
  have f5 := hC0.sv.heel hC0.wt hp
  have g1 : trd S0 41 ((27 : Int32) + iv p) = some _ := row0_rd (a := 27) rfl (by omega)
  have g2 : trd S0 41 ((3 : Int32) + iv hh) = some _ := row0_rd (a := 3) rfl (by omega)
  obtain ⟨a, b, e1, a1, e2, b1, b2, -⟩ := tight_iv hC0.wf hp hh8
  have g3 : f_bounded (trow S0 0 (3 + hh) - trow S0 0 (27 + p)) 0 99999 = some (iv (b - a)) := by rw [bounded_is, e1, e2, ibnd_sub (by omega) (by omega)]
  have g4 : imax 0 (trow S0 0 (3 + hh) - trow S0 0 (27 + p)) = iv (b - a) := by rw [e1, e2, imax_sub (by omega) (by omega)]
  repeat (with_reducible first | refine bb_ls ?_ | refine bb_rs ?_ | refine bb_l (by assumption) ?_ | refine bb_r (by assumption) ?_ | refine bb_lp (by assumption) ?_ | refine bb_ln (by assumption) ?_ | refine bb_rp (by assumption) ?_ | refine bb_rn (by assumption) ?_)
  rw [g4]
  by_cases z : iv (b - a) > 20
  · refine bb_lp z (bb_rn (fun y => Int32.not_lt.mpr y z) ?_)
    exact bb_s (op_vr hC0 Vr.rfl h0 rfl)
  · refine bb_ln z (bb_rp (Int32.not_lt.mp z) ?_)
    exact bb_s (op_vr hC0 Vr.rfl h0 rfl)
theorem off_iv {a b : Nat} (ha : a < 2 ^ 30) (hb : b < 2 ^ 30) : f_off (iv a) (iv b) = some (iv (max a b - min a b)) := by
  unfold f_off
  by_cases c : b ≤ a
  · rw [if_pos ((iv_ge (by omega) (by omega)).mpr c), iv_sub c, show max a b - min a b = a - b by omega]
  · rw [if_neg (fun z => c ((iv_ge (by omega) (by omega)).mp z)), iv_sub (by omega), show max a b - min a b = b - a by omega]
theorem iabs_iv {a b : Nat} (ha : a < 2 ^ 30) (hb : b < 2 ^ 30) : iabs (iv a - iv b) = iv (max a b - min a b) := by
  unfold iabs
  have e := iv_sub_int ha hb
  have e0 : (0 : Int32).toInt = 0 := by decide
  by_cases c : b ≤ a
  · rw [if_pos (by rw [Int32.le_iff_toInt_le, e, e0]; omega), iv_sub c, show max a b - min a b = a - b by omega]
  · rw [if_neg (by rw [Int32.le_iff_toInt_le, e, e0]; omega), Int32.zero_sub, Int32.neg_sub, iv_sub (by omega), show max a b - min a b = b - a by omega]
theorem far_is {a b : Nat} (hC : CIx x t hi T s r la ls c h S) (ha : a < T.1.1) (hb : b < T.1.1) : ∃ A B, T.2.1 1 a = iv A ∧ T.2.1 1 b = iv B ∧ A ≤ 30 ∧ B ≤ 30 ∧ k_X1_far x (iv a) (iv b) h = some (iv (max A B - min A B)) := by
  obtain ⟨A, A1, A2⟩ := hC.wt.2.2.2.2.1 a ha
  obtain ⟨B, B1, B2⟩ := hC.wt.2.2.2.2.1 b hb
  refine ⟨A, B, A1, B1, A2, B2, ?_⟩
  have f1 := hC.xc.town
  have f2 := hC.xc.tv.l1
  have f3 := hC.xc.tv.places.is10
  obtain ⟨u, u1, u2, u3⟩ := hC.xc.tv.places.get ha
  obtain ⟨v, v1, v2, v3⟩ := hC.xc.tv.places.get hb
  refine ok_eq ?_
  unfold k_X1_far
  repeat (with_reducible first | refine ok_sb ?_ | refine ok_b (by assumption) ?_ | refine ok_pos (by assumption) ?_ | refine ok_neg (by assumption) ?_)
  refine ok_s ?_
  rw [A1, B1, iabs_iv (by omega) (by omega)]
theorem nextDoor_is (hC : CIx x t hi T s r la ls c h S) (hn : 4000 < n) {hh : Nat} (hh8 : hh < T.1.1) : Both (k_X1_nextDoor n x (iv hh) h) (f_nextDoor n (iv hh) S) (fun a b => b = a) := by
  have h8 := hC.wt.1
  have f1 := hC.xc.town
  have f2 := hC.xc.tv.is1
  have f3 := hC.xc.tv.houses
  have f4 := hC.is0
  have f5 : S.1 1 = iv T.1.1 := hC.tt.1
  have pl : ∀ k, k < T.1.1 → trd S 7 (iv k) = some (T.2.1 1 k) := fun k hk => by rw [trd_nat (i := 7) (show k < 8 by omega), hC.tt.2.2.2.2.1]
  unfold k_X1_nextDoor f_nextDoor
  refine bb_c (Q := fun a b => b = a) ?_ (fun a b q => bb_s q)
  refine bb_loop T.1.1 (fun k (st : Int32 × Int32) (st' : Int32 × Int32) => (st'.1 = st.1 ∧ (st.1 = (-1) ∨ ∃ b, b < T.1.1 ∧ st.1 = iv b)) ∧ st.2 = iv k ∧ st'.2 = iv k) ⟨⟨rfl, Or.inl rfl⟩, rfl, rfl⟩ ?_ ?_ (by omega) (by omega)
  · rintro k ⟨v, i⟩ ⟨v', i'⟩ hk ⟨⟨i1, i4⟩, i2, i3⟩
    dsimp only at i1 i2 i3 i4 ⊢
    subst i1 i2 i3
    have z1 := iv_stop hk (by omega)
    have z2 : ¬ iv k ≥ S.1 1 := by rw [f5]; exact z1
    have g1 := pl k hk
    have g2 := pl hh hh8
    unfold k_X1_nextDoor_L4 f_nextDoor_L4
    repeat (with_reducible first | refine bb_ls ?_ | refine bb_rs ?_ | refine bb_l (by assumption) ?_ | refine bb_r (by assumption) ?_ | refine bb_lp (by assumption) ?_ | refine bb_ln (by assumption) ?_ | refine bb_rp (by assumption) ?_ | refine bb_rn (by assumption) ?_)
    refine bb_if2 Iff.rfl (fun _ _ => ?_) (fun _ _ => ?_)
    · repeat (with_reducible first | refine bb_ls ?_ | refine bb_rs ?_ | refine bb_l (by assumption) ?_ | refine bb_r (by assumption) ?_ | refine bb_lp (by assumption) ?_ | refine bb_ln (by assumption) ?_ | refine bb_rp (by assumption) ?_ | refine bb_rn (by assumption) ?_)
      exact bb_s ⟨⟨rfl, i4⟩, iv_succ k, iv_succ k⟩
    · refine bb_if2 Iff.rfl (fun _ _ => ?_) (fun y _ => ?_)
      · repeat (with_reducible first | refine bb_ls ?_ | refine bb_rs ?_ | refine bb_l (by assumption) ?_ | refine bb_r (by assumption) ?_ | refine bb_lp (by assumption) ?_ | refine bb_ln (by assumption) ?_ | refine bb_rp (by assumption) ?_ | refine bb_rn (by assumption) ?_)
        exact bb_s ⟨⟨rfl, Or.inr ⟨k, hk, rfl⟩⟩, iv_succ k, iv_succ k⟩
      · rcases i4 with i4 | ⟨b, b1, b2⟩
        · exact absurd i4 y
        · subst b2
          have g3 := pl b b1
          obtain ⟨A, B, A1, B1, A2, B2, g4⟩ := far_is hC hk hh8
          obtain ⟨A', B', A1', B1', A2', B2', g5⟩ := far_is hC b1 hh8
          have g6 : f_off (T.2.1 1 k) (T.2.1 1 hh) = some (iv (max A B - min A B)) := by rw [A1, B1]; exact off_iv (by omega) (by omega)
          have g7 : f_off (T.2.1 1 b) (T.2.1 1 hh) = some (iv (max A' B' - min A' B')) := by rw [A1', B1']; exact off_iv (by omega) (by omega)
          repeat (with_reducible first | refine bb_ls ?_ | refine bb_rs ?_ | refine bb_l (by assumption) ?_ | refine bb_r (by assumption) ?_ | refine bb_lp (by assumption) ?_ | refine bb_ln (by assumption) ?_ | refine bb_rp (by assumption) ?_ | refine bb_rn (by assumption) ?_)
          refine bb_if2 Iff.rfl (fun _ _ => ?_) (fun _ _ => ?_)
          · repeat (with_reducible first | refine bb_ls ?_ | refine bb_rs ?_ | refine bb_l (by assumption) ?_ | refine bb_r (by assumption) ?_ | refine bb_lp (by assumption) ?_ | refine bb_ln (by assumption) ?_ | refine bb_rp (by assumption) ?_ | refine bb_rn (by assumption) ?_)
            exact bb_s ⟨⟨rfl, Or.inr ⟨b, b1, rfl⟩⟩, iv_succ k, iv_succ k⟩
          · repeat (with_reducible first | refine bb_ls ?_ | refine bb_rs ?_ | refine bb_l (by assumption) ?_ | refine bb_r (by assumption) ?_ | refine bb_lp (by assumption) ?_ | refine bb_ln (by assumption) ?_ | refine bb_rp (by assumption) ?_ | refine bb_rn (by assumption) ?_)
            exact bb_s ⟨⟨rfl, Or.inr ⟨k, hk, rfl⟩⟩, iv_succ k, iv_succ k⟩
  · rintro ⟨v, i⟩ ⟨v', i'⟩ ⟨⟨i1, i4⟩, i2, i3⟩
    dsimp only at i1 i2 i3 i4 ⊢
    subst i1 i2 i3
    have z1 := iv_end (N := T.1.1) (by omega)
    have z2 : iv T.1.1 ≥ S.1 1 := by rw [f5]; exact z1
    unfold k_X1_nextDoor_L4 f_nextDoor_L4
    repeat (with_reducible first | refine bb_ls ?_ | refine bb_rs ?_ | refine bb_l (by assumption) ?_ | refine bb_r (by assumption) ?_ | refine bb_lp (by assumption) ?_ | refine bb_ln (by assumption) ?_ | refine bb_rp (by assumption) ?_ | refine bb_rn (by assumption) ?_)
    exact bb_s rfl
theorem room_is (hC : CIx x t hi T s r la ls c h S) (hn : 4000 < n) {hh : Nat} (hh8 : hh < T.1.1) : Both (k_X1_room n x (iv hh) h) (f_roomOf (iv hh) S) (fun a b => b = a) := by
  have h8 := hC.wt.1
  have p8 := hC.wt.2.1
  have f1 := hC.f2
  have f2 := hC.sv.is2
  have f3 := in_is (n := n) hC.xc hC.sv hC.wf.2.2.2.2.2.2.2 hC.wt hh8 (by omega)
  have f4 := hC.sv.a0
  have f5 := hC.sv.a2
  have f6 := hC.sv.size hC.wt hh8
  have g1 : trd S 41 ((19 : Int32) + iv hh) = some _ := row0_rd (a := 19) rfl (by omega)
  have g2 : trd S 41 ((3 : Int32) + iv hh) = some _ := row0_rd (a := 3) rfl (by omega)
  unfold k_X1_room f_roomOf
  repeat (with_reducible first | refine bb_ls ?_ | refine bb_rs ?_ | refine bb_l (by assumption) ?_ | refine bb_r (by assumption) ?_ | refine bb_lp (by assumption) ?_ | refine bb_ln (by assumption) ?_ | refine bb_rp (by assumption) ?_ | refine bb_rn (by assumption) ?_)
  rcases hC.wf.2.2.2.2.2.2.2.1 hh hh8 with z | ⟨p, hp, z⟩
  · refine bb_lp z (bb_rp z ?_)
    exact bb_s rfl
  · have nz : ¬ trow S 0 (19 + hh) = (-1) := by rw [z]; exact iv_ne_neg (by omega)
    refine bb_ln nz (bb_rn nz ?_)
    rw [z]
    have f7 := hC.sv.heel hC.wt hp
    have g3 : trd S 41 ((27 : Int32) + iv p) = some _ := row0_rd (a := 27) rfl (by omega)
    obtain ⟨a, b, e1, a1, e2, b1, b2, -⟩ := tight_iv hC.wf hp hh8
    have g4 : f_bounded (trow S 0 (3 + hh) - trow S 0 (27 + p)) 0 99999 = some (iv (b - a)) := by rw [bounded_is, e1, e2, ibnd_sub (by omega) (by omega)]
    have g5 : imax 0 (trow S 0 (3 + hh) - trow S 0 (27 + p)) = iv (b - a) := by rw [e1, e2, imax_sub (by omega) (by omega)]
    repeat (with_reducible first | refine bb_ls ?_ | refine bb_rs ?_ | refine bb_l (by assumption) ?_ | refine bb_r (by assumption) ?_ | refine bb_lp (by assumption) ?_ | refine bb_ln (by assumption) ?_ | refine bb_rp (by assumption) ?_ | refine bb_rn (by assumption) ?_)
    exact bb_s g5.symm
theorem isb_bit (w : Nat → Int32) (hh : Nat) (hh8 : hh < 8) {a : Nat} (ha : w 1 = iv a) (ha8 : a < 256) : (w 1 >>> (iv hh &&& 31)) &&& 1 = m_isb w hh := by
  unfold m_isb
  have key : ∀ b : BitVec 32, (b &&& 1#32) = 0#32 ∨ (b &&& 1#32) = 1#32 := by
    intro b
    have : (b &&& 1#32).toNat = b.toNat % 2 := by
      rw [BitVec.toNat_and]
      exact Nat.and_one_is_mod _
    rcases Nat.mod_two_eq_zero_or_one b.toNat with z | z
    · left; apply BitVec.eq_of_toNat_eq; rw [this, z]; rfl
    · right; apply BitVec.eq_of_toNat_eq; rw [this, z]; rfl
  rcases key (w 1 >>> (iv hh &&& 31)).toBitVec with z | z
  · have e : (w 1 >>> (iv hh &&& 31)) &&& 1 = 0 := Int32.toBitVec_inj.mp z
    rw [e, if_neg (by decide)]
  · have e : (w 1 >>> (iv hh &&& 31)) &&& 1 = 1 := Int32.toBitVec_inj.mp z
    rw [e, if_pos rfl]
theorem lit_out {k lo up : Nat} {L U : Int32} (hL : L.toInt = lo) (hU : U.toInt = up) (hk : k < 2 ^ 31) : (iv k).toInt < lo ∨ (up : Int) < (iv k).toInt ↔ (k < lo ∨ up < k) := by
  rw [iv_int hk]
  omega
theorem op_house (hC : CIx x t hi T s r la ls c h S) (hn : 4000 < n) (a1 a2 : Int32) : Both (k_X1_house n x a1 a2 h) (f_house n a1 a2 S) (OP cdN x c h) := by
  have hC0 := hC.tl (TL.thr (v := 0))
  have h0 : (tpF S 0 0).1 0 = 0 := rfl
  unfold k_X1_house f_house
  refine bb_l hC.is0 (bb_rs ?_)
  generalize tpF S 0 0 = S0 at hC0 h0 ⊢
  have h8 := hC0.wt.1
  have p8 := hC0.wt.2.1
  refine g_house hC0.xc hC0.tt hC0.wt h0 (fun _ _ => rfl) (fun _ => if_pos rfl) (op_exc hC0 ⟨rfl, rfl⟩) (fun hh hh8 e => ?_)
  subst e
  dsimp only
  refine bb_rn i10 ?_
  have fin : ∀ v u, u = v → OP cdN x c h (.inl v, h) (u, S0) := fun v u e => op_vr hC0 Vr.rfl h0 e
  -- what the twin's guard says
  have g1 := in_f (x := a2) (a := 0) (b := 7)
  rcases in_01 a2 0 7 with z | z
  · -- refused by both
    have g2 : f_isWhat a2 7 S0 = some (0, tpF S0 0 1) := by
      rw [z] at g1
      have f7 := right_bad (S := S0) (w := 1) h0 i10
      have f8 := tz0
      refine ok_eq ?_
      unfold f_isWhat
      repeat (with_reducible first | refine ok_sb ?_ | refine ok_b (by assumption) ?_ | refine ok_pos (by assumption) ?_ | refine ok_neg (by assumption) ?_)
      exact ok_s rfl
    have z7 : ¬ a2 = 7 := by intro y; rw [y] at z; exact absurd z (by decide)
    have zo : a2.toInt < 0 ∨ 6 < a2.toInt := by
      unfold m_in at z
      by_cases y : a2 < 0
      · left
        rw [Int32.lt_iff_toInt_lt, show (0 : Int32).toInt = 0 by decide] at y
        exact y
      · rw [if_neg y] at z
        by_cases u : a2 > 7
        · right
          have u2 : (7 : Int32) < a2 := u
          rw [Int32.lt_iff_toInt_lt, show (7 : Int32).toInt = 7 by decide] at u2
          omega
        · rw [if_neg u] at z
          exact absurd z (by decide)
    have f5 := found_bad (h := h)
    refine bb_r g2 (bb_rp rfl (bb_lp zo (bb_ln z7 (bb_l f5 ?_))))
    exact bb_s (op_exc hC0 ⟨rfl, rfl⟩)
  · obtain ⟨k, k1, -, k2⟩ := in_iv (a := 0) (b := 7) (by decide) (by decide) z
    have g2 : f_isWhat a2 7 S0 = some (1, S0) := by
      rw [z] at g1
      have f7 := right_good (S := S0) (w := 1) h0
      have f8 := tz1
      refine ok_eq ?_
      unfold f_isWhat
      repeat (with_reducible first | refine ok_sb ?_ | refine ok_b (by assumption) ?_ | refine ok_pos (by assumption) ?_ | refine ok_neg (by assumption) ?_)
      exact ok_s rfl
    refine bb_r g2 (bb_rn i10 ?_)
    subst k1
    dsimp only
    have f1 := hC0.f2
    have f2 := hC0.sv.a0
    have f3 := hC0.sv.a1
    have f4 := hC0.sv.is2
    have f5 := hC0.sv.size hC0.wt hh8
    have f6 := hC0.sv.worn hC0.wt hh8
    have f7 := in_is (n := n) hC0.xc hC0.sv hC0.wf.2.2.2.2.2.2.2 hC0.wt hh8 (by omega)
    have f8 := hC0.xc.town
    have f9 := hC0.xc.tv.l0
    have f10 := hC0.xc.tv.gives.is10
    have f11 := hC0.xc.tv.l1
    have f12 := hC0.xc.tv.places.is10
    obtain ⟨b, b1, b2, b3⟩ := hC0.xc.tv.gives.get hh8
    obtain ⟨d, d1, d2, d3⟩ := hC0.xc.tv.places.get hh8
    have f13 := hC0.is0
    have f14 := hC0.sv.burst
    have f15 := isOf_is (w := trow S0 0) (h := h) (k := hh)
    have t1 : trd S0 41 ((3 : Int32) + iv hh) = some _ := row0_rd (a := 3) rfl (by omega)
    have t2 : trd S0 41 ((11 : Int32) + iv hh) = some _ := row0_rd (a := 11) rfl (by omega)
    have t3 : trd S0 41 ((19 : Int32) + iv hh) = some _ := row0_rd (a := 19) rfl (by omega)
    have t4 : trd S0 6 (iv hh) = some (T.2.1 0 hh) := by rw [trd_nat (i := 6) (show hh < 8 by omega), hC0.tt.2.2.2.1]
    have t5 : trd S0 7 (iv hh) = some (T.2.1 1 hh) := by rw [trd_nat (i := 7) (show hh < 8 by omega), hC0.tt.2.2.2.2.1]
    have t6 : trd S0 41 1 = some (trow S0 0 1) := trow_rd (r := 0) (k := 1) (by decide) (by decide)
    obtain ⟨ba, ba1, ba2⟩ := hC0.wf.2.1
    have hc : k = 0 ∨ k = 1 ∨ k = 2 ∨ k = 3 ∨ k = 4 ∨ k = 5 ∨ k = 6 ∨ k = 7 := by omega
    rcases hc with rfl | rfl | rfl | rfl | rfl | rfl | rfl | rfl
    · refine bb_ln (by decide) (bb_lp rfl (bb_rn (by decide) (bb_rp rfl ?_)))
      repeat (with_reducible first | refine bb_ls ?_ | refine bb_rs ?_ | refine bb_l (by assumption) ?_ | refine bb_r (by assumption) ?_ | refine bb_lp (by assumption) ?_ | refine bb_ln (by assumption) ?_ | refine bb_rp (by assumption) ?_ | refine bb_rn (by assumption) ?_)
      exact bb_s (fin _ _ rfl)
    · refine bb_ln (by decide) (bb_ln (by decide) (bb_lp rfl (bb_rn (by decide) (bb_rn (by decide) (bb_rp rfl ?_)))))
      repeat (with_reducible first | refine bb_ls ?_ | refine bb_rs ?_ | refine bb_l (by assumption) ?_ | refine bb_r (by assumption) ?_ | refine bb_lp (by assumption) ?_ | refine bb_ln (by assumption) ?_ | refine bb_rp (by assumption) ?_ | refine bb_rn (by assumption) ?_)
      exact bb_s (fin _ _ rfl)
    · refine bb_ln (by decide) (bb_ln (by decide) (bb_ln (by decide) (bb_lp rfl (bb_rn (by decide) (bb_rn (by decide) (bb_rn (by decide) (bb_rp rfl ?_)))))))
      repeat (with_reducible first | refine bb_ls ?_ | refine bb_rs ?_ | refine bb_l (by assumption) ?_ | refine bb_r (by assumption) ?_ | refine bb_lp (by assumption) ?_ | refine bb_ln (by assumption) ?_ | refine bb_rp (by assumption) ?_ | refine bb_rn (by assumption) ?_)
      exact bb_s (fin _ _ rfl)
    · refine bb_ln (by decide) (bb_ln (by decide) (bb_ln (by decide) (bb_ln (by decide) (bb_lp rfl (bb_rn (by decide) (bb_rn (by decide) (bb_rn (by decide) (bb_rn (by decide) (bb_rp rfl ?_)))))))))
      repeat (with_reducible first | refine bb_ls ?_ | refine bb_rs ?_ | refine bb_l (by assumption) ?_ | refine bb_r (by assumption) ?_ | refine bb_lp (by assumption) ?_ | refine bb_ln (by assumption) ?_ | refine bb_rp (by assumption) ?_ | refine bb_rn (by assumption) ?_)
      exact bb_s (fin _ _ rfl)
    · refine bb_ln (by decide) (bb_ln (by decide) (bb_ln (by decide) (bb_ln (by decide) (bb_ln (by decide) (bb_lp rfl (bb_rn (by decide) (bb_rn (by decide) (bb_rn (by decide) (bb_rn (by decide) (bb_rn (by decide) (bb_rp rfl ?_)))))))))))
      repeat (with_reducible first | refine bb_ls ?_ | refine bb_rs ?_ | refine bb_l (by assumption) ?_ | refine bb_r (by assumption) ?_ | refine bb_lp (by assumption) ?_ | refine bb_ln (by assumption) ?_ | refine bb_rp (by assumption) ?_ | refine bb_rn (by assumption) ?_)
      exact bb_s (fin _ _ rfl)
    · refine bb_ln (by decide) (bb_ln (by decide) (bb_ln (by decide) (bb_ln (by decide) (bb_ln (by decide) (bb_ln (by decide) (bb_lp rfl (bb_rn (by decide) (bb_rn (by decide) (bb_rn (by decide) (bb_rn (by decide) (bb_rn (by decide) (bb_rn (by decide) (bb_rp rfl ?_)))))))))))))
      repeat (with_reducible first | refine bb_ls ?_ | refine bb_rs ?_ | refine bb_l (by assumption) ?_ | refine bb_r (by assumption) ?_ | refine bb_lp (by assumption) ?_ | refine bb_ln (by assumption) ?_ | refine bb_rp (by assumption) ?_ | refine bb_rn (by assumption) ?_)
      rw [isb_bit (trow S0 0) hh (by omega) ba1 ba2]
      unfold m_isb
      by_cases y : ((trow S0 0 1 >>> (iv hh &&& 31)) &&& 1) = 1
      · rw [if_pos y]
        exact bb_ln i10 (bb_s (fin _ _ rfl))
      · rw [if_neg y]
        exact bb_lp rfl (bb_s (fin _ _ rfl))
    · refine bb_ln (by decide) (bb_ln (by decide) (bb_ln (by decide) (bb_ln (by decide) (bb_ln (by decide) (bb_ln (by decide) (bb_ln (by decide) (bb_lp rfl (bb_rn (by decide) (bb_rn (by decide) (bb_rn (by decide) (bb_rn (by decide) (bb_rn (by decide) (bb_rn (by decide) (bb_rn (by decide) (bb_rp rfl ?_)))))))))))))))
      refine bb_l f13 ?_
      exact bb_c (room_is hC0 hn hh8) (fun a b e => bb_s (fin _ _ e))
    · have f16 := found_good (h := h)
      refine bb_lp (by decide) (bb_lp rfl (bb_l f16 (bb_rp (by decide) ?_)))
      dsimp only
      refine bb_l f13 ?_
      exact bb_c (nextDoor_is hC0 hn hh8) (fun a b e => bb_s (fin _ _ e))
end ASK
