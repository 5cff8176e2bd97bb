/-! a street's cells written; a day passes -/
set_option maxRecDepth 100000
section SVWR
variable {x t hi D n g s r p hh : Nat} {T : Tn} {c : Nat → Value} {h : XH} {w w' : Nat → Int32} {vv : Value}
theorem SV.wr {i j0 : Nat} {v : Int32} (hS : SV x T h s w) (hw : WT T) (hi : i < 5) (hj : j0 < 8) (k0 : w' 0 = w 0 ∧ w' 1 = w 1 ∧ w' 2 = w 2 ∧ w' 43 = w 43) (g0 : ∀ j, j < T.1.1 → w' (3 + j) = if 0 = i ∧ j = j0 then v else w (3 + j)) (g1 : ∀ j, j < T.1.1 → w' (11 + j) = if 1 = i ∧ j = j0 then v else w (11 + j)) (g2 : ∀ j, j < T.1.2.1 → w' (27 + j) = if 2 = i ∧ j = j0 then v else w (27 + j)) (g3 : ∀ j, j < T.1.2.1 → m_home T w' j = if 3 = i ∧ j = j0 then v else m_home T w j) (g4 : ∀ j, j < T.1.2.1 → w' (35 + j) = if 4 = i ∧ j = j0 then v else w (35 + j)) : ∃ h', csu h (s + 1 + i) 100 (iv j0) (.int v) = some h' ∧ Fq (Wst s) h h' ∧ SV x T h' s w' := by
  obtain ⟨q1, q2, q3, q4, q5⟩ := hS
  have e := (q2 i hi).2.1
  have cell : ∀ k j, (xup h (s + 1 + i) j0 (.int v)).2.1 (s + 1 + k) j = if k = i ∧ j = j0 then .int v else h.2.1 (s + 1 + k) j := by
    intro k j
    by_cases z : k = i ∧ j = j0
    · obtain ⟨rfl, rfl⟩ := z
      rw [if_pos ⟨rfl, rfl⟩]
      exact xup_eq
    · rw [if_neg z]
      exact xup_ne (fun y => z ⟨by omega, y.2⟩)
  have top : (xup h (s + 1 + i) j0 (.int v)).2.1 s = h.2.1 s := xup_nea (by omega)
  have vint : ∀ (P : Prop) [Decidable P] (a b : Int32), (if P then Value.int a else Value.int b) = Value.int (if P then a else b) := by
    intro P _ a b
    by_cases z : P
    · rw [if_pos z, if_pos z]
    · rw [if_neg z, if_neg z]
  refine ⟨_, csu_is e (by omega) (by decide) hj, Fq.put e (Or.inr (Or.inl ⟨rfl, by omega⟩)), q1, fun k hk => ⟨by rw [top]; exact (q2 k hk).1, (q2 k hk).2.1, fun j hj => ?_⟩, ?_, fun j hj => ⟨?_, ?_⟩, fun j hj => ⟨?_, ?_, ?_⟩⟩
  · rw [cell]
    by_cases z : k = i ∧ j = j0
    · rw [if_pos z]; exact ⟨v, rfl⟩
    · rw [if_neg z]; exact (q2 k hk).2.2 j hj
  · rw [top, k0.1, k0.2.1, k0.2.2.1, k0.2.2.2]; exact q3
  · have := cell 0 j
    rw [show s + 1 = s + 1 + 0 from rfl, cell, (q4 j hj).1, vint, ← g0 j hj]
  · rw [show s + 2 = s + 1 + 1 from rfl, cell, show s + 1 + 1 = s + 2 from rfl, (q4 j hj).2, vint, ← g1 j hj]
  · rw [show s + 3 = s + 1 + 2 from rfl, cell, show s + 1 + 2 = s + 3 from rfl, (q5 j hj).1, vint, ← g2 j hj]
  · rw [show s + 4 = s + 1 + 3 from rfl, cell, show s + 1 + 3 = s + 4 from rfl, (q5 j hj).2.1, vint, ← g3 j hj]
  · rw [show s + 5 = s + 1 + 4 from rfl, cell, show s + 1 + 4 = s + 5 from rfl, (q5 j hj).2.2, vint, ← g4 j hj]
theorem pup_if {k a : Nat} {v : Int32} {P : Prop} [Decidable P] (hP : P ↔ a = k) : pup w k v a = if P then v else w a := by
  unfold pup
  by_cases z : a = k
  · rw [if_pos z, if_pos (hP.mpr z)]
  · rw [if_neg z, if_neg (fun y => z (hP.mp y))]
theorem SV.wsize (hS : SV x T h s w) (hw : WT T) (hh8 : hh < T.1.1) (v : Int32) : ∃ h', csu h (s + 1) 100 (iv hh) (.int v) = some h' ∧ Fq (Wst s) h h' ∧ SV x T h' s (pup w (3 + hh) v) := by
  have h8 := hw.1
  have p8 := hw.2.1
  refine hS.wr (i := 0) hw (by decide) (by omega) ⟨pup_ne (by omega), pup_ne (by omega), pup_ne (by omega), pup_ne (by omega)⟩ (fun j hj => pup_if (by omega)) (fun j hj => pup_if (by omega)) (fun j hj => pup_if (by omega)) (fun j hj => ?_) (fun j hj => pup_if (by omega))
  rw [home_pup (by omega) h8, if_neg (by omega)]
theorem SV.wworn (hS : SV x T h s w) (hw : WT T) (hh8 : hh < T.1.1) (v : Int32) : ∃ h', csu h (s + 2) 100 (iv hh) (.int v) = some h' ∧ Fq (Wst s) h h' ∧ SV x T h' s (pup w (11 + hh) v) := by
  have h8 := hw.1
  have p8 := hw.2.1
  refine hS.wr (i := 1) hw (by decide) (by omega) ⟨pup_ne (by omega), pup_ne (by omega), pup_ne (by omega), pup_ne (by omega)⟩ (fun j hj => pup_if (by omega)) (fun j hj => pup_if (by omega)) (fun j hj => pup_if (by omega)) (fun j hj => ?_) (fun j hj => pup_if (by omega))
  rw [home_pup (by omega) h8, if_neg (by omega)]
theorem SV.wheel (hS : SV x T h s w) (hw : WT T) (hp : p < T.1.2.1) (v : Int32) : ∃ h', csu h (s + 3) 100 (iv p) (.int v) = some h' ∧ Fq (Wst s) h h' ∧ SV x T h' s (pup w (27 + p) v) := by
  have h8 := hw.1
  have p8 := hw.2.1
  refine hS.wr (i := 2) hw (by decide) (by omega) ⟨pup_ne (by omega), pup_ne (by omega), pup_ne (by omega), pup_ne (by omega)⟩ (fun j hj => pup_if (by omega)) (fun j hj => pup_if (by omega)) (fun j hj => pup_if (by omega)) (fun j hj => ?_) (fun j hj => pup_if (by omega))
  rw [home_pup (by omega) h8, if_neg (by omega)]
theorem SV.wsore (hS : SV x T h s w) (hw : WT T) (hp : p < T.1.2.1) (v : Int32) : ∃ h', csu h (s + 5) 100 (iv p) (.int v) = some h' ∧ Fq (Wst s) h h' ∧ SV x T h' s (pup w (35 + p) v) := by
  have h8 := hw.1
  have p8 := hw.2.1
  refine hS.wr (i := 4) hw (by decide) (by omega) ⟨pup_ne (by omega), pup_ne (by omega), pup_ne (by omega), pup_ne (by omega)⟩ (fun j hj => pup_if (by omega)) (fun j hj => pup_if (by omega)) (fun j hj => pup_if (by omega)) (fun j hj => ?_) (fun j hj => pup_if (by omega))
  rw [home_pup (by omega) h8, if_neg (by omega)]
/-- who is where, written: homes as w' says -/
theorem SV.whome (hS : SV x T h s w) (hw : WT T) (hp : p < T.1.2.1) (v : Int32) (hk : ∀ j, (j < 19 ∨ 27 ≤ j) → w' j = w j) (hm : ∀ j, j < T.1.2.1 → m_home T w' j = if j = p then v else m_home T w j) : ∃ h', csu h (s + 4) 100 (iv p) (.int v) = some h' ∧ Fq (Wst s) h h' ∧ SV x T h' s w' := by
  have h8 := hw.1
  have p8 := hw.2.1
  refine hS.wr (i := 3) hw (by decide) (by omega) ⟨hk _ (by omega), hk _ (by omega), hk _ (by omega), hk _ (by omega)⟩ (fun j hj => ?_) (fun j hj => ?_) (fun j hj => ?_) (fun j hj => ?_) (fun j hj => ?_)
  · rw [if_neg (by omega)]; exact hk _ (by omega)
  · rw [if_neg (by omega)]; exact hk _ (by omega)
  · rw [if_neg (by omega)]; exact hk _ (by omega)
  · rw [hm j hj]
    by_cases z : j = p
    · rw [if_pos z, if_pos ⟨rfl, z⟩]
    · rw [if_neg z, if_neg (fun y => z y.2)]
  · rw [if_neg (by omega)]; exact hk _ (by omega)
/-- p leaves house hh -/
theorem SV.wout (hS : SV x T h s w) (hw : WT T) (hW : WH T w) (hp : p < T.1.2.1) (hh8 : hh < T.1.1) (e : w (19 + hh) = iv p) : ∃ h', csu h (s + 4) 100 (iv p) (.int (-1)) = some h' ∧ Fq (Wst s) h h' ∧ SV x T h' s (pup w (19 + hh) (-1)) := by
  have h8 := hw.1
  have p8 := hw.2.1
  refine hS.whome hw hp (-1) (fun j hj => pup_ne (by omega)) (fun j hj => ?_)
  by_cases z : j = p
  · subst z
    rw [if_pos rfl]
    exact home_out hW (by omega) hh8 e
  · rw [if_neg z]
    exact home_put (fun y => iv_ne_neg (by omega) y.symm) (by rw [e]; intro y; exact z ((iv_inj (by omega) (by omega)).mp y).symm)
/-- p, who lodges, goes into house hh, where nobody is -/
theorem SV.win (hS : SV x T h s w) (hw : WT T) (hp : p < T.1.2.1) (hh8 : hh < T.1.1) (e : w (19 + hh) = (-1)) (hn : ∀ k, k < T.1.1 → w (19 + k) ≠ iv p) : ∃ h', csu h (s + 4) 100 (iv p) (.int (iv hh)) = some h' ∧ Fq (Wst s) h h' ∧ SV x T h' s (pup w (19 + hh) (iv p)) := by
  have h8 := hw.1
  have p8 := hw.2.1
  refine hS.whome hw hp (iv hh) (fun j hj => pup_ne (by omega)) (fun j hj => ?_)
  by_cases z : j = p
  · subst z
    rw [if_pos rfl]
    exact home_in hh8 hn
  · rw [if_neg z]
    exact home_put (fun y => z ((iv_inj (by omega) (by omega)).mp y).symm) (by rw [e]; exact fun y => iv_ne_neg (by omega) y.symm)
/-- a field of the street written -/
theorem SV.wf {f : Nat} {v : Int32} (hS : SV x T h s w) (hf : 5 ≤ f ∧ f ≤ 8) (h5 : w' 0 = if f = 5 then v else w 0) (h6 : w' 1 = if f = 6 then v else w 1) (h7 : w' 2 = if f = 7 then v else w 2) (h8 : w' 43 = if f = 8 then v else w 43) (hk : ∀ j, 3 ≤ j → j < 43 → w' j = w j) (t8 : T.1.1 ≤ 8) (p8 : T.1.2.1 ≤ 8) : Fq (Wst s) h (xup h s f (.int v)) ∧ SV x T (xup h s f (.int v)) s w' := by
  obtain ⟨q1, q2, q3, q4, q5⟩ := hS
  have low : ∀ b, b ≠ s → (xup h s f (.int v)).2.1 b = h.2.1 b := fun b hb => xup_nea hb
  have cell : ∀ j, (xup h s f (.int v)).2.1 s j = if j = f then .int v else h.2.1 s j := by
    intro j
    by_cases z : j = f
    · subst z; rw [if_pos rfl]; exact xup_eq
    · rw [if_neg z]; exact xup_ne (fun y => z y.2)
  have vint : ∀ (P : Prop) [Decidable P] (a b : Int32), (if P then Value.int a else Value.int b) = Value.int (if P then a else b) := by
    intro P _ a b
    by_cases z : P
    · rw [if_pos z, if_pos z]
    · rw [if_neg z, if_neg z]
  refine ⟨Fq.put q1 (Or.inl ⟨rfl, rfl, rfl⟩), q1, fun i hi => ⟨?_, (q2 i hi).2.1, ?_⟩, ⟨?_, ?_, ?_, ?_, ?_⟩, fun j hj => ?_, fun j hj => ?_⟩
  · rw [cell, if_neg (by omega)]; exact (q2 i hi).1
  · rw [low _ (by omega)]; exact (q2 i hi).2.2
  · rw [cell, q3.1, vint, h5]
    congr 2
    exact propext ⟨fun z => z.symm, fun z => z.symm⟩
  · rw [cell, q3.2.1, vint, h6]
    congr 2
    exact propext ⟨fun z => z.symm, fun z => z.symm⟩
  · rw [cell, q3.2.2.1, vint, h7]
    congr 2
    exact propext ⟨fun z => z.symm, fun z => z.symm⟩
  · rw [cell, q3.2.2.2.1, vint, h8]
    congr 2
    exact propext ⟨fun z => z.symm, fun z => z.symm⟩
  · rw [cell, if_neg (by omega)]; exact q3.2.2.2.2
  · rw [low _ (by omega), low _ (by omega), hk _ (by omega) (by omega), hk _ (by omega) (by omega)]; exact q4 j hj
  · rw [low _ (by omega), low _ (by omega), low _ (by omega), hk _ (by omega) (by omega), hk _ (by omega) (by omega)]
    have : m_home T w' j = m_home T w j := houseOf_cong (fun k _ hk2 => by rw [hk _ (by omega) (by omega)])
    rw [this]
    exact q5 j hj
theorem SV.wday (hS : SV x T h s w) (hw : WT T) (v : Int32) : ∃ h', cpu h s 2 5 (.int v) = some h' ∧ Fq (Wst s) h h' ∧ SV x T h' s (pup w 0 v) :=
  ⟨_, cpu_is hS.1 (by decide), hS.wf (by decide) (pup_if (by decide)) (pup_if (by decide)) (pup_if (by decide)) (pup_if (by decide)) (fun j _ _ => pup_ne (by omega)) hw.1 hw.2.1⟩
theorem SV.wburst (hS : SV x T h s w) (hw : WT T) (v : Int32) : ∃ h', cpu h s 2 6 (.int v) = some h' ∧ Fq (Wst s) h h' ∧ SV x T h' s (pup w 1 v) :=
  ⟨_, cpu_is hS.1 (by decide), hS.wf (by decide) (pup_if (by decide)) (pup_if (by decide)) (pup_if (by decide)) (pup_if (by decide)) (fun j _ _ => pup_ne (by omega)) hw.1 hw.2.1⟩
theorem SV.wwet (hS : SV x T h s w) (hw : WT T) (v : Int32) (hv : v = 0 ∨ v = 1) : ∃ h', cpZ h s 2 7 v = some h' ∧ Fq (Wst s) h h' ∧ SV x T h' s (pup w 2 v) :=
  ⟨_, cpZ_is hS.1 (by decide) hv, hS.wf (by decide) (pup_if (by decide)) (pup_if (by decide)) (pup_if (by decide)) (pup_if (by decide)) (fun j _ _ => pup_ne (by omega)) hw.1 hw.2.1⟩
theorem SV.wdamp (hS : SV x T h s w) (hw : WT T) (v : Int32) : ∃ h', cpu h s 2 8 (.int v) = some h' ∧ Fq (Wst s) h h' ∧ SV x T h' s (pup w 43 v) :=
  ⟨_, cpu_is hS.1 (by decide), hS.wf (by decide) (pup_if (by decide)) (pup_if (by decide)) (pup_if (by decide)) (pup_if (by decide)) (fun j _ _ => pup_ne (by omega)) hw.1 hw.2.1⟩
theorem wear_is (hc : vV (c 25) = some vv) (hX : XC x t T hi h) (hS : SV x T h s w) (hW : WF D T w) (hD : D < 5000) (hw : WT T) (hp : p < T.1.2.1) (hh8 : hh < T.1.1) (hwho : w (19 + hh) = iv p) (hn : 1001 < n) (hg : g = 90) : ∃ h', k_X3_wear n g c s (iv p) (iv hh) h = some h' ∧ Fq (Wst s) h h' ∧ SV x T h' s (m_wear T w p hh) := by
  have h8 := hw.1
  have p8 := hw.2.1
  have a0 := hS.a1
  have b0 := hS.worn hw hh8
  have k0 := hS.is2
  have m0 := tight_is hS hW hw hp hh8
  obtain ⟨h6, e6, q6, S6⟩ := hS.wworn hw hh8 (imin 99 (w (11 + hh) + m_tight w p hh))
  have hW6 : WF D T (pup w (11 + hh) (imin 99 (w (11 + hh) + m_tight w p hh))) := by
    obtain ⟨a, b, e1, a1, e2, b1, b2, e3, -⟩ := tight_iv hW hp hh8
    obtain ⟨c, f1, c1⟩ := hW.2.2.2.2.1 hh hh8
    rw [e3, f1, iv_add, show (99 : Int32) = iv 99 from rfl, imin_iv (by omega) (by omega)]
    exact WF_worn (Nat.min_le_left _ _) (by omega) hW h8
  have a6 := S6.a4
  have b6 : caI h6 (s + 5) 100 (iv p) = some (w (35 + p)) := by
    have := S6.sore hw hp
    rw [pup_ne (by omega)] at this
    exact this
  have k6 := S6.is2
  have m6 : k_X3_tight s (iv p) (iv hh) h6 = some (m_tight w p hh) := by
    have := tight_is S6 hW6 hw hp hh8
    unfold m_tight at this
    rw [pup_ne (by omega), pup_ne (by omega)] at this
    exact this
  obtain ⟨h12, e12, q12, S12⟩ := S6.wsore hw hp (imin 999 (w (35 + p) + m_tight w p hh))
  have w12 : pup (pup w (11 + hh) (imin 99 (w (11 + hh) + m_tight w p hh))) (35 + p) (imin 999 (w (35 + p) + m_tight w p hh)) = m_wear1 w p hh := by
    unfold m_wear1
    rw [ilow_imin, ilow_imin]
  rw [w12] at S12
  have k12 := S12.is2
  have q012 := q6.trans q12
  have hW12 := WF_wear1 hW hw hp hh8
  obtain ⟨h13, e13, q13⟩ := bursts_is (n := n) (g := g) hc (hX.kst q012.fr) S12 hW12 hD hw hp hh8 hn hg
  have S13 := S12.kva q13.fr
  have q013 := q012.trans (q13.mono Wva_st)
  unfold m_wear
  by_cases z : m_bu T (m_wear1 w p hh) p hh = 0
  · refine ⟨h13, ?_, q013, by rw [if_pos z]; exact S13⟩
    refine ok_eq ?_
    unfold k_X3_wear
    repeat (with_reducible first | refine ok_sb ?_ | refine ok_b (by assumption) ?_ | refine ok_pos (by assumption) ?_ | refine ok_neg (by assumption) ?_)
    exact ok_s rfl
  · rw [if_neg z]
    have b13 := S13.burst
    obtain ⟨h17, e17, q17, S17⟩ := S13.wburst hw (m_wear1 w p hh 1 ||| ((1 : Int32) <<< (iv hh &&& 31)))
    have a17 := S17.a3
    have who17 : pup (m_wear1 w p hh) 1 (m_wear1 w p hh 1 ||| ((1 : Int32) <<< (iv hh &&& 31))) (19 + hh) = iv p := by
      rw [pup_ne (by omega)]
      unfold m_wear1
      rw [pup_ne (by omega), pup_ne (by omega)]
      exact hwho
    have hW17 : WH T (pup (m_wear1 w p hh) 1 (m_wear1 w p hh 1 ||| ((1 : Int32) <<< (iv hh &&& 31)))) := WH_pup hW12.2.2.2.2.2.2.2 h8 (by omega)
    obtain ⟨h19, e19, q19, S19⟩ := S17.wout hw hW17 hp hh8 who17
    refine ⟨h19, ?_, q013.trans (q17.trans q19), S19⟩
    refine ok_eq ?_
    unfold k_X3_wear
    repeat (with_reducible first | refine ok_sb ?_ | refine ok_b (by assumption) ?_ | refine ok_pos (by assumption) ?_ | refine ok_neg (by assumption) ?_)
    exact ok_s rfl
theorem pass_is (hc : vV (c 25) = some vv) (hX : XC x t T hi h) (hS : SV x T h s w) (hW : WF D T w) (hD : D < 5000) (hw : WT T) (hn : 1001 < n) (hg : g = 90) : ∃ h', k_X3_pass n g c s h = some (s, h') ∧ Fq (Wst s) h h' ∧ SV x T h' s (m_day T w) := by
  have h8 := hw.1
  have p8 := hw.2.1
  have key : Ok (k_X3_pass n g c s h) (fun o => o.1 = s ∧ Fq (Wst s) h o.2 ∧ SV x T o.2 s (m_day T w)) := by
    unfold k_X3_pass
    refine ok_c (Q := fun h1 => Fq (Wst s) h h1 ∧ SV x T h1 s (m_wears T T.1.1 w)) ?_ (fun h1 q1 => ?_)
    · refine ok_loop T.1.1 (fun k st => st.1 = iv k ∧ Fq (Wst s) h st.2 ∧ SV x T st.2 s (m_wears T k w)) ⟨rfl, Fq.rfl, hS⟩ ?_ ?_ (by omega)
      · rintro k ⟨i, h1⟩ hk ⟨i1, i2, i3⟩
        dsimp only at i1 i2 i3 ⊢
        subst i1
        have X1 := hX.kst i2.fr
        have hW1 := WF_wears hW hw (show k ≤ T.1.1 by omega)
        have o1 := i3.own
        have t1 := X1.town
        have c1 := X1.tv.is1
        have n1 := X1.tv.houses
        have z1 := iv_stop hk (by omega)
        have k1 := i3.is2
        have w1 := in_is (n := n) X1 i3 hW1.2.2.2.2.2.2.2 hw hk (by omega)
        unfold k_X3_pass_L2
        repeat (with_reducible first | refine ok_sb ?_ | refine ok_b (by assumption) ?_ | refine ok_pos (by assumption) ?_ | refine ok_neg (by assumption) ?_)
        refine ok_if (fun z => ?_) (fun z => ?_)
        · repeat (with_reducible first | refine ok_sb ?_ | refine ok_b (by assumption) ?_ | refine ok_pos (by assumption) ?_ | refine ok_neg (by assumption) ?_)
          refine ok_s ⟨iv_succ k, i2, ?_⟩
          show SV x T h1 s (if m_wears T k w (19 + k) = (-1) then _ else _)
          rw [if_pos z]
          exact i3
        · rcases hW1.2.2.2.2.2.2.2.1 k hk with y | ⟨p, hp, y⟩
          · exact absurd y z
          · obtain ⟨h2, e2, q2, S2⟩ := wear_is (n := n) (g := g) hc X1 i3 hW1 hD hw hp hk y hn hg
            rw [← y] at e2
            repeat (with_reducible first | refine ok_sb ?_ | refine ok_b (by assumption) ?_ | refine ok_pos (by assumption) ?_ | refine ok_neg (by assumption) ?_)
            refine ok_s ⟨iv_succ k, i2.trans q2, ?_⟩
            show SV x T h2 s (if m_wears T k w (19 + k) = (-1) then _ else _)
            rw [if_neg z, y, iv_nat (by omega)]
            exact S2
      · rintro ⟨i, h1⟩ ⟨i1, i2, i3⟩
        dsimp only at i1 i2 i3 ⊢
        subst i1
        have X1 := hX.kst i2.fr
        have o1 := i3.own
        have t1 := X1.town
        have c1 := X1.tv.is1
        have n1 := X1.tv.houses
        have z1 := iv_end (N := T.1.1) (by omega)
        unfold k_X3_pass_L2
        repeat (with_reducible first | refine ok_sb ?_ | refine ok_b (by assumption) ?_ | refine ok_pos (by assumption) ?_ | refine ok_neg (by assumption) ?_)
        exact ok_s ⟨i2, i3⟩
    · refine ok_c (Q := fun h2 => Fq (Wst s) h h2 ∧ SV x T h2 s (m_grow T T.1.2.1 (m_wears T T.1.1 w))) ?_ (fun h2 q2 => ?_)
      · refine ok_loop T.1.2.1 (fun k st => st.1 = iv k ∧ Fq (Wst s) h st.2 ∧ SV x T st.2 s (m_grow T k (m_wears T T.1.1 w))) ⟨rfl, q1.1, q1.2⟩ ?_ ?_ (by omega)
        · rintro k ⟨i, h2⟩ hk ⟨i1, i2, i3⟩
          dsimp only at i1 i2 i3 ⊢
          subst i1
          have X1 := hX.kst i2.fr
          have o1 := i3.own
          have t1 := X1.town
          have c1 := X1.tv.is1
          have n1 := X1.tv.people
          have z1 := iv_stop hk (by omega)
          have a1 := i3.a2
          have b1 := i3.heel hw hk
          have l1 := X1.tv.l2
          have y1 := X1.tv.grows.is10
          obtain ⟨bx, bx1, bx2, bx3⟩ := X1.tv.grows.get hk
          obtain ⟨h3, e3, q3, S3⟩ := i3.wheel hw hk (imin 99 (m_grow T k (m_wears T T.1.1 w) (27 + k) + T.2.1 2 k))
          unfold k_X3_pass_L43
          repeat (with_reducible first | refine ok_sb ?_ | refine ok_b (by assumption) ?_ | refine ok_pos (by assumption) ?_ | refine ok_neg (by assumption) ?_)
          refine ok_s ⟨iv_succ k, i2.trans q3, ?_⟩
          show SV x T h3 s (pup (m_grow T k (m_wears T T.1.1 w)) (27 + k) (ilow 99 (m_grow T k (m_wears T T.1.1 w) (27 + k) + T.2.1 2 k)))
          rw [ilow_imin]
          exact S3
        · rintro ⟨i, h2⟩ ⟨i1, i2, i3⟩
          dsimp only at i1 i2 i3 ⊢
          subst i1
          have X1 := hX.kst i2.fr
          have o1 := i3.own
          have t1 := X1.town
          have c1 := X1.tv.is1
          have n1 := X1.tv.people
          have z1 := iv_end (N := T.1.2.1) (by omega)
          unfold k_X3_pass_L43
          repeat (with_reducible first | refine ok_sb ?_ | refine ok_b (by assumption) ?_ | refine ok_pos (by assumption) ?_ | refine ok_neg (by assumption) ?_)
          exact ok_s ⟨i2, i3⟩
      · obtain ⟨h3, e3, q3, S3⟩ := q2.2.wwet hw 0 (Or.inl rfl)
        have d3 : cgI h3 s 2 5 = some (m_grow T T.1.2.1 (m_wears T T.1.1 w) 0) := by
          have := S3.day
          rw [pup_ne (by decide)] at this
          exact this
        obtain ⟨h4, e4, q4, S4⟩ := S3.wday hw (m_grow T T.1.2.1 (m_wears T T.1.1 w) 0 + 1)
        repeat (with_reducible first | refine ok_sb ?_ | refine ok_b (by assumption) ?_ | refine ok_pos (by assumption) ?_ | refine ok_neg (by assumption) ?_)
        refine ok_s ⟨rfl, q2.1.trans (q3.trans q4), ?_⟩
        have : pup (pup (m_grow T T.1.2.1 (m_wears T T.1.1 w)) 2 0) 0 (m_grow T T.1.2.1 (m_wears T T.1.1 w) 0 + 1) = m_day T w := by
          unfold m_day
          funext j
          unfold pup
          by_cases z0 : j = 0
          · subst z0
            rw [if_pos rfl, if_neg (by decide), if_pos rfl]
          · by_cases z2 : j = 2
            · subst z2
              rw [if_neg (by decide), if_pos rfl, if_pos rfl]
            · rw [if_neg z0, if_neg z2, if_neg z2, if_neg z0]
        rw [this] at S4
        exact S4
  obtain ⟨⟨a, h'⟩, e, q1, q2, q3⟩ := key
  dsimp only at q1 q2 q3
  subst q1
  exact ⟨h', e, q2, q3⟩
theorem after_is {N : Nat} (hc : vV (c 25) = some vv) (hX : XC x t T hi h) (hS : SV x T h s w) (hW : WF D T w) (hD : D + N < 5000) (hw : WT T) (hn : 1001 < n) (hN : N < n) (hg : g = 90) : ∃ h', k_X3_after n g c s (iv N) h = some (s, h') ∧ Fq (Wst s) h h' ∧ SV x T h' s (m_days T N w) := by
  have key : Ok (k_X3_after n g c s (iv N) h) (fun o => o.1 = s ∧ Fq (Wst s) h o.2 ∧ SV x T o.2 s (m_days T N w)) := by
    unfold k_X3_after
    refine ok_c (Q := fun h1 => Fq (Wst s) h h1 ∧ SV x T h1 s (m_days T N w)) ?_ (fun h1 q1 => ok_s ⟨rfl, q1⟩)
    refine ok_loop N (fun k st => st.1 = iv k ∧ Fq (Wst s) h st.2 ∧ SV x T st.2 s (m_days T k w)) ⟨rfl, Fq.rfl, hS⟩ ?_ ?_ hN
    · rintro k ⟨i, h1⟩ hk ⟨i1, i2, i3⟩
      dsimp only at i1 i2 i3 ⊢
      subst i1
      obtain ⟨h2, e2, q2, S2⟩ := pass_is (n := n) (g := g) hc (hX.kst i2.fr) i3 (WF_mdays hW hw) (by omega) hw hn hg
      have z1 := iv_stop hk (by omega)
      have k1 := i3.is2
      unfold k_X3_after_L2
      repeat (with_reducible first | refine ok_sb ?_ | refine ok_b (by assumption) ?_ | refine ok_pos (by assumption) ?_ | refine ok_neg (by assumption) ?_)
      exact ok_s ⟨iv_succ k, i2.trans q2, S2⟩
    · rintro ⟨i, h1⟩ ⟨i1, i2, i3⟩
      dsimp only at i1 i2 i3 ⊢
      subst i1
      have z1 := iv_end (N := N) (by omega)
      unfold k_X3_after_L2
      repeat (with_reducible first | refine ok_sb ?_ | refine ok_b (by assumption) ?_ | refine ok_pos (by assumption) ?_ | refine ok_neg (by assumption) ?_)
      exact ok_s ⟨i2, i3⟩
  obtain ⟨⟨a, h'⟩, e, q1, q2, q3⟩ := key
  dsimp only at q1 q2 q3
  subst q1
  exact ⟨h', e, q2, q3⟩
end SVWR
