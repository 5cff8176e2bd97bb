/-! more turns on days to come: kept, dampest, eased, endures -/
set_option maxRecDepth 100000
/-- v is the set of the numbers below 8 that c holds of -/
def bset (v : Int32) (c : Nat → Prop) : Prop := ∃ b, v = iv b ∧ b < 256 ∧ ∀ j, b.testBit j = true ↔ c j
theorem bset_nil {c : Nat → Prop} (h : ∀ j, ¬ c j) : bset 0 c := ⟨0, rfl, by decide, fun j => by rw [Nat.zero_testBit]; exact ⟨fun z => Bool.noConfusion z, fun z => absurd z (h j)⟩⟩
theorem bset_add {v : Int32} {c c' : Nat → Prop} {k : Nat} (hk : k < 8) (hb : bset v c) (h : ∀ j, c' j ↔ c j ∨ j = k) : bset (v ||| ((1 : Int32) <<< (iv k &&& 31))) c' := by
  obtain ⟨b, rfl, b1, b2⟩ := hb
  have h2 : 2 ^ k < 256 := Nat.pow_lt_pow_right (by decide) (show k < 8 from hk)
  refine ⟨b ||| 2 ^ k, ?_, Nat.or_lt_two_pow (n := 8) b1 h2, fun j => ?_⟩
  · have := ibit_iv hk
    unfold ibit at this
    rw [this, iv_or (by omega) (by omega)]
  · rw [Nat.testBit_or, Nat.testBit_two_pow, Bool.or_eq_true, decide_eq_true_iff, b2 j, h j]
    exact ⟨fun z => z.elim Or.inl (fun y => Or.inr y.symm), fun z => z.elim Or.inl (fun y => Or.inr y.symm)⟩
theorem bset_same {v : Int32} {c c' : Nat → Prop} (hb : bset v c) (h : ∀ j, c' j ↔ c j) : bset v c' := by
  obtain ⟨b, e, b1, b2⟩ := hb
  exact ⟨b, e, b1, fun j => (b2 j).trans (h j).symm⟩
theorem bset_eq {v v' : Int32} {c : Nat → Prop} (h1 : bset v c) (h2 : bset v' c) : v = v' := by
  obtain ⟨b, rfl, b1, b2⟩ := h1
  obtain ⟨b', rfl, b1', b2'⟩ := h2
  have : b = b' := by
    apply Nat.eq_of_testBit_eq
    intro j
    have e := (b2 j).trans (b2' j).symm
    cases z : b.testBit j <;> cases z' : b'.testBit j
    · rfl
    · exact absurd (e.mpr z') (by rw [z]; decide)
    · exact absurd (e.mp z) (by rw [z']; decide)
    · rfl
  rw [this]
section MORE
variable {x t hi : Nat} {T : Tn} {s r la ls : Nat} {c : Nat → Value} {h h1 : XH} {S S1 : TS} {n g N : Nat} {w : Nat → Int32}
theorem op_kept (hC : CIx x t hi T s r la ls c h S) (hn : 4000 < n) (hg : g = 90) (a1 : Int32) : Both (k_X1_kept n g c x a1 h) (f_kept n a1 S) (OP cdI x c h) := by
  have hC0 := hC.tl (TL.thr (v := 0))
  have h0 : (tpF S 0 0).1 0 = 0 := rfl
  unfold k_X1_kept f_kept
  refine bb_rs ?_
  generalize tpF S 0 0 = S0 at hC0 h0 ⊢
  have h8 := hC0.wt.1
  have p8 := hC0.wt.2.1
  refine g_days (lo := 0) rfl (by decide) (by decide) h0 (fun _ _ => rfl) (fun _ => if_pos rfl) (op_exc hC0 ⟨rfl, rfl⟩) (fun N hN1 hN e => ?_)
  subst e
  dsimp only
  refine bb_rn i10 ?_
  obtain ⟨h1, S1, e1, e2, hR⟩ := hC0.later hN hn hg
  have f1 := hC0.is0
  have hWN := WF_mdays (k := N) hC0.wf hC0.wt
  repeat (with_reducible first | refine bb_ls ?_ | refine bb_rs ?_ | refine bb_l (by assumption) ?_ | refine bb_r (by assumption) ?_ | refine bb_lp (by assumption) ?_ | refine bb_ln (by assumption) ?_ | refine bb_rp (by assumption) ?_ | refine bb_rn (by assumption) ?_)
  refine bb_lc (Q := fun o => bset o.1 (fun p => p < T.1.2.1 ∧ m_home T (trow S0 0) p ≠ (-1) ∧ m_home T (m_days T N (trow S0 0)) p = m_home T (trow S0 0) p) ∧ o.2 = h1) ?_ ?_
  · refine ok_loop T.1.2.1 (fun k st => bset st.1 (fun p => p < k ∧ m_home T (trow S0 0) p ≠ (-1) ∧ m_home T (m_days T N (trow S0 0)) p = m_home T (trow S0 0) p) ∧ st.2.1 = iv k ∧ st.2.2 = h1) ⟨bset_nil (fun j z => by have := z.1; omega), rfl, rfl⟩ ?_ ?_ (by omega)
    · rintro k ⟨v, i, h2⟩ hk ⟨i1, i2, i3⟩
      dsimp only at i1 i2 i3 ⊢
      subst i2 i3
      have z1 := iv_stop hk (by omega)
      have f1 := (hR.xc hC0).town
      have f2 := (hR.xc hC0).tv.is1
      have f3 := (hR.xc hC0).tv.people
      have f4 := hR.f3 hC0
      have f5 := hR.2.1.a3
      have f6 := hR.2.1.home hC0.wt hk
      have f7 := hR.f2 hC0
      have f8 := (hR.sv hC0).a3
      have f9 := (hR.sv hC0).home hC0.wt hk
      unfold k_X1_kept_L20
      repeat (with_reducible first | refine ok_sb ?_ | refine ok_b (by assumption) ?_ | refine ok_pos (by assumption) ?_ | refine ok_neg (by assumption) ?_)
      refine ok_if (fun z => ?_) (fun z => ?_)
      · repeat (with_reducible first | refine ok_sb ?_ | refine ok_b (by assumption) ?_ | refine ok_pos (by assumption) ?_ | refine ok_neg (by assumption) ?_)
        refine ok_s ⟨bset_same i1 (fun j => ⟨fun y => ⟨?_, y.2⟩, fun y => ⟨by have := y.1; omega, y.2⟩⟩), iv_succ k, rfl⟩
        by_cases q : j = k
        · rw [q] at y; exact absurd z y.2.1
        · have := y.1; omega
      · repeat (with_reducible first | refine ok_sb ?_ | refine ok_b (by assumption) ?_ | refine ok_pos (by assumption) ?_ | refine ok_neg (by assumption) ?_)
        refine ok_if (fun u => ?_) (fun u => ?_)
        · repeat (with_reducible first | refine ok_sb ?_ | refine ok_b (by assumption) ?_ | refine ok_pos (by assumption) ?_ | refine ok_neg (by assumption) ?_)
          refine ok_s ⟨bset_add (by omega) i1 (fun j => ⟨fun y => ?_, fun y => ?_⟩), iv_succ k, rfl⟩
          · by_cases q : j = k
            · exact Or.inr q
            · exact Or.inl ⟨by have := y.1; omega, y.2⟩
          · rcases y with y | rfl
            · exact ⟨by have := y.1; omega, y.2⟩
            · exact ⟨by omega, z, u⟩
        · repeat (with_reducible first | refine ok_sb ?_ | refine ok_b (by assumption) ?_ | refine ok_pos (by assumption) ?_ | refine ok_neg (by assumption) ?_)
          refine ok_s ⟨bset_same i1 (fun j => ⟨fun y => ⟨?_, y.2⟩, fun y => ⟨by have := y.1; omega, y.2⟩⟩), iv_succ k, rfl⟩
          by_cases q : j = k
          · rw [q] at y; exact absurd y.2.2 u
          · have := y.1; omega
    · rintro ⟨v, i, h2⟩ ⟨i1, i2, i3⟩
      dsimp only at i1 i2 i3 ⊢
      subst i2 i3
      have z1 := iv_end (N := T.1.2.1) (by omega)
      have f1 := (hR.xc hC0).town
      have f2 := (hR.xc hC0).tv.is1
      have f3 := (hR.xc hC0).tv.people
      unfold k_X1_kept_L20
      repeat (with_reducible first | refine ok_sb ?_ | refine ok_b (by assumption) ?_ | refine ok_pos (by assumption) ?_ | refine ok_neg (by assumption) ?_)
      exact ok_s ⟨i1, rfl⟩
  · rintro ⟨v, h2⟩ ⟨q1, q2⟩
    dsimp only at q1 q2 ⊢
    subst q2
    refine bb_rc (Q := fun o => bset o.1 (fun p => ∃ k, k < T.1.1 ∧ trow S0 0 (19 + k) ≠ (-1) ∧ m_days T N (trow S0 0) (19 + k) = trow S0 0 (19 + k) ∧ trow S0 0 (19 + k) = iv p ∧ p < T.1.2.1) ∧ o.2 = S1) ?_ ?_
    · refine ok_loop T.1.1 (fun k st => bset st.1 (fun p => ∃ j, j < k ∧ trow S0 0 (19 + j) ≠ (-1) ∧ m_days T N (trow S0 0) (19 + j) = trow S0 0 (19 + j) ∧ trow S0 0 (19 + j) = iv p ∧ p < T.1.2.1) ∧ st.2.1 = iv k ∧ st.2.2 = S1) ⟨bset_nil (fun j z => by obtain ⟨q, z, _⟩ := z; omega), rfl, rfl⟩ ?_ ?_ (by omega)
      · rintro k ⟨v, i, S2⟩ hk ⟨i1, i2, i3⟩
        dsimp only at i1 i2 i3 ⊢
        subst i2 i3
        have z2 : ¬ iv k ≥ S2.1 1 := by rw [(hR.tt hC0).1]; exact iv_stop hk (by omega)
        have f1 : trd S2 41 ((19 : Int32) + iv k) = some (trow S0 0 (19 + k)) := by rw [← hR.row0]; exact row0_rd rfl (by omega)
        have f2 : trd S2 41 ((62 : Int32) + iv k) = some _ := hR.rd (a := 19) rfl (by omega)
        unfold f_kept_L26
        repeat (with_reducible first | refine ok_sb ?_ | refine ok_b (by assumption) ?_ | refine ok_pos (by assumption) ?_ | refine ok_neg (by assumption) ?_)
        refine ok_if (fun z => ?_) (fun z => ?_)
        · repeat (with_reducible first | refine ok_sb ?_ | refine ok_b (by assumption) ?_ | refine ok_pos (by assumption) ?_ | refine ok_neg (by assumption) ?_)
          rw [Int32.or_zero]
          refine ok_s ⟨bset_same i1 (fun p => ⟨fun y => ?_, fun y => ?_⟩), iv_succ k, rfl⟩
          · obtain ⟨j, y1, y2⟩ := y
            refine ⟨j, ?_, y2⟩
            by_cases q : j = k
            · subst q; exact absurd z y2.1
            · omega
          · obtain ⟨j, y1, y2⟩ := y
            exact ⟨j, by omega, y2⟩
        · repeat (with_reducible first | refine ok_sb ?_ | refine ok_b (by assumption) ?_ | refine ok_pos (by assumption) ?_ | refine ok_neg (by assumption) ?_)
          refine ok_if (fun u => ?_) (fun u => ?_)
          · repeat (with_reducible first | refine ok_sb ?_ | refine ok_b (by assumption) ?_ | refine ok_pos (by assumption) ?_ | refine ok_neg (by assumption) ?_)
            rcases hC0.wf.2.2.2.2.2.2.2.1 k hk with y | ⟨p, hp, y⟩
            · exact absurd y z
            · rw [y]
              refine ok_s ⟨bset_add (by omega) i1 (fun q => ⟨fun a => ?_, fun a => ?_⟩), iv_succ k, rfl⟩
              · obtain ⟨j, a1, a2, a3, a4, a5⟩ := a
                by_cases e : j = k
                · subst e
                  rw [y] at a4
                  exact Or.inr ((iv_inj (by omega) (by omega)).mp a4).symm
                · exact Or.inl ⟨j, by omega, a2, a3, a4, a5⟩
              · rcases a with ⟨j, a1, a2⟩ | rfl
                · exact ⟨j, by omega, a2⟩
                · exact ⟨k, by omega, z, u, y, hp⟩
          · repeat (with_reducible first | refine ok_sb ?_ | refine ok_b (by assumption) ?_ | refine ok_pos (by assumption) ?_ | refine ok_neg (by assumption) ?_)
            rw [Int32.or_zero]
            refine ok_s ⟨bset_same i1 (fun p => ⟨fun y => ?_, fun y => ?_⟩), iv_succ k, rfl⟩
            · obtain ⟨j, y1, y2⟩ := y
              refine ⟨j, ?_, y2⟩
              by_cases q : j = k
              · subst q; exact absurd y2.2.1 u
              · omega
            · obtain ⟨j, y1, y2⟩ := y
              exact ⟨j, by omega, y2⟩
      · rintro ⟨v, i, S2⟩ ⟨i1, i2, i3⟩
        dsimp only at i1 i2 i3 ⊢
        subst i2 i3
        have z2 : iv T.1.1 ≥ S2.1 1 := by rw [(hR.tt hC0).1]; exact iv_end (by omega)
        unfold f_kept_L26
        repeat (with_reducible first | refine ok_sb ?_ | refine ok_b (by assumption) ?_ | refine ok_pos (by assumption) ?_ | refine ok_neg (by assumption) ?_)
        exact ok_s ⟨i1, rfl⟩
    · rintro ⟨v', S2⟩ ⟨p1, p2⟩
      dsimp only at p1 p2 ⊢
      subst p2
      refine bb_s (op_tr hC0 hR h0 (bset_eq p1 (bset_same q1 (fun p => ⟨fun y => ?_, fun y => ?_⟩))))
      · obtain ⟨k, k1, k2, k3, k4, k5⟩ := y
        have e1 := home_of hC0.wf.2.2.2.2.2.2.2 (p := p) (by omega) k1 k4
        have e2 := home_of hWN.2.2.2.2.2.2.2 (p := p) (by omega) k1 (by rw [k3]; exact k4)
        exact ⟨k5, by rw [e1]; exact iv_ne_neg (by omega), by rw [e1, e2]⟩
      · obtain ⟨y1, y2, y3⟩ := y
        rcases home_cases (T := T) (w := trow S0 0) p with ⟨k, k1, k2, k3⟩ | ⟨k1, k2⟩
        · rcases home_cases (T := T) (w := m_days T N (trow S0 0)) p with ⟨j, j1, j2, j3⟩ | ⟨j1, j2⟩
          · rw [y3, k3] at j3
            have := (iv_inj (by omega) (by omega)).mp j3
            subst this
            exact ⟨k, k1, by rw [k2]; exact iv_ne_neg (by omega), by rw [j2, k2], k2, y1⟩
          · rw [y3, k3] at j2
            exact absurd j2 (iv_ne_neg (by omega))
        · exact absurd k2 y2
theorem day_next {D : Nat} (hW : WF D T w) (hT : WT T) : m_day T w 0 = w 0 + 1 := by
  unfold m_day
  rw [pup_ne (by decide), pup_eq, grow_keeps (by omega) hT.2.1, wears_keeps hW hT (by omega) (Nat.le_refl _)]
theorem days_day {D : Nat} (hW : WF D T w) (hT : WT T) : ∀ {k : Nat}, m_days T k w 0 = w 0 + iv k := by
  intro k
  induction k with
  | zero => exact (Int32.add_zero _).symm
  | succ k ih =>
    show m_day T (m_days T k w) 0 = _
    rw [day_next (WF_mdays hW hT) hT, ih, Int32.add_assoc, iv_succ]
theorem damp_ahead {D : Nat} (hW : WF D T w) (hT : WT T) (hD : D < 5000) (ho : w 43 = (-1)) {k : Nat} (hk : k < 100) : m_damp T (m_days T (k + 1) w) = m_told T.1.2.2 (T.2.1 3) (w 0 + iv (k + 1)).toNatClampNeg := by
  unfold m_damp
  rw [days_damp hW hT, if_pos ho]
  have e : m_days T (k + 1) w 2 = 0 := by
    show m_day T (m_days T k w) 2 = 0
    unfold m_day
    rw [pup_eq]
  rw [e, if_neg (by decide), days_day hW hT]
theorem told_nneg {d : Nat} (hT : WT T) : ∃ a, m_told T.1.2.2 (T.2.1 3) d = iv a ∧ a ≤ 9 := by
  unfold m_told
  by_cases z : T.1.2.2 = 0
  · rw [if_pos z]; exact ⟨3, rfl, by decide⟩
  · rw [if_neg z]
    exact hT.2.2.2.2.2.2 _ (Nat.mod_lt _ (by omega))
theorem damp_nneg (hT : WT T) (ho : w 43 = (-1)) : ∃ a, m_damp T w = iv a ∧ a ≤ 9 := by
  unfold m_damp
  rw [if_pos ho]
  by_cases z : w 2 = 1
  · rw [if_pos z]; exact ⟨9, rfl, by decide⟩
  · rw [if_neg z]; exact told_nneg hT
theorem iv_gt_neg {a : Nat} (ha : a < 2 ^ 31) : ¬ iv a ≤ (-1) := by
  rw [Int32.le_iff_toInt_le, iv_int ha, show (-1 : Int32).toInt = -1 by decide]
  omega
theorem op_dampest (hC : CIx x t hi T s r la ls c h S) (hn : 4000 < n) (hg : g = 90) (a1 : Int32) : Both (k_X1_dampest n g c x a1 h) (f_dampest n a1 S) (OP cdI x c h) := by
  have hC0 := hC.tl (TL.thr (v := 0))
  have h0 : (tpF S 0 0).1 0 = 0 := rfl
  unfold k_X1_dampest f_dampest
  refine bb_rs ?_
  generalize tpF S 0 0 = S0 at hC0 h0 ⊢
  refine g_days (lo := 1) rfl (by decide) (by decide) h0 (fun _ _ => rfl) (fun _ => if_pos rfl) (op_exc hC0 ⟨rfl, rfl⟩) (fun N hN1 hN e => ?_)
  subst e
  dsimp only
  refine bb_rn i10 ?_
  obtain ⟨h1, S1, e1, e2, hR⟩ := hC0.be (n := n) (by omega)
  have f2 := hC0.f2
  have f3 := hC0.f3
  have f4 := hC0.isr
  have f5 : f_dampIn 0 S0 = some (m_damp T (trow S0 0)) := dampIn_is (b := 0) hC0.tt hC0.wt (by decide) hC0.wf (by decide)
  have g1 := hR.f3 hC0
  have g2 := hR.2.1.is2
  have g3 := damp_is (hR.xc hC0) hR.2.1 hC0.wf (by decide) hC0.wt
  obtain ⟨h2, S2, e3, e4, hR2⟩ := hR.pass hC0 hC0.wf (by decide) hn hg
  obtain ⟨d, d1, d2⟩ := hC0.wf.1
  obtain ⟨v0, v1, v2⟩ := damp_nneg (w := trow S0 0) hC0.wt hC0.od
  have first : k_X1_dampest_L29 n g c x (iv N) 0 (-1) 0 h1 = some (.inl (0, m_damp T (trow S0 0), 1, h2)) := by
    have z1 : ¬ (0 : Int32) ≥ iv N := iv_stop (k := 0) (by omega) (by omega)
    have z2 : ¬ m_damp T (trow S0 0) ≤ -1 := by rw [v1]; exact iv_gt_neg (by omega)
    refine ok_eq ?_
    unfold k_X1_dampest_L29
    repeat (with_reducible first | refine ok_sb ?_ | refine ok_b (by assumption) ?_ | refine ok_pos (by assumption) ?_ | refine ok_neg (by assumption) ?_)
    exact ok_s rfl
  repeat (with_reducible first | refine bb_ls ?_ | refine bb_rs ?_ | refine bb_l (by assumption) ?_ | refine bb_r (by assumption) ?_ | refine bb_lp (by assumption) ?_ | refine bb_ln (by assumption) ?_ | refine bb_rp (by assumption) ?_ | refine bb_rn (by assumption) ?_)
  obtain ⟨m, hm⟩ : ∃ m, n = m + 1 := ⟨n - 1, by omega⟩
  have second : xloop (fun q => k_X1_dampest_L29 n g c x (iv N) q.1 q.2.1 q.2.2.1 q.2.2.2) n (0, (-1), 0, h1) = xloop (fun q => k_X1_dampest_L29 n g c x (iv N) q.1 q.2.1 q.2.2.1 q.2.2.2) m (0, m_damp T (trow S0 0), 1, h2) := by
    have : ∀ (f : Int32 × Int32 × Int32 × XH → Option ((Int32 × Int32 × Int32 × XH) ⊕ (Int32 × XH))), f (0, (-1), 0, h1) = some (.inl (0, m_damp T (trow S0 0), 1, h2)) → xloop f n (0, (-1), 0, h1) = xloop f m (0, m_damp T (trow S0 0), 1, h2) := by
      intro f hf
      rw [hm, xloop_succ, hf]
      rfl
    exact this _ first
  dsimp only
  rw [second]
  refine bb_c (Q := fun o o' => o'.1 = o.1 ∧ (∃ w, Fq (Wst r) h o.2 ∧ SV x T o.2 r w) ∧ o'.2 = S0) ?_ ?_
  · refine bb_loop (N - 1) (fun k (st : Int32 × Int32 × Int32 × XH) (st' : Int32 × Int32 × Int32 × TS) => st'.1 = st.1 ∧ st'.2.1 = st.2.1 ∧ st.2.2.1 = iv (k + 1) ∧ st'.2.2.1 = iv (k + 1) ∧ (Fq (Wst r) h st.2.2.2 ∧ SV x T st.2.2.2 r (m_days T (k + 1) (trow S0 0))) ∧ st'.2.2.2 = S0) ⟨rfl, rfl, rfl, rfl, ⟨hR2.1, hR2.2.1⟩, rfl⟩ ?_ ?_ (by omega) (by omega)
    · rintro k ⟨v, u, i, h3⟩ ⟨v', u', i', S3⟩ hk ⟨i1, i2, i3, i4, ⟨i5, i6⟩, i7⟩
      dsimp only at i1 i2 i3 i4 i5 i6 i7 ⊢
      subst i1 i2 i3 i4 i7
      obtain ⟨vv, hc⟩ := hC0.hc
      have hWk := WF_mdays (k := k + 1) hC0.wf hC0.wt
      have X3 := hC0.xc.kst i5.fr
      have z1 : ¬ iv (k + 1) ≥ iv N := iv_stop (by omega) (by omega)
      have q1 : cgR h3 x 0 3 = some r := cgR_is X3.1 (by rw [i5.2.2 _ _ _ _ hC0.xc.1 (by unfold Wst; omega)]; exact hC0.1.2.2.2.1.2.1)
      have q2 := i6.is2
      have q3 := damp_is X3 i6 hWk (by omega) hC0.wt
      rw [damp_ahead hC0.wf hC0.wt (by decide) hC0.od (by omega)] at q3
      obtain ⟨h4, e5, q5, q6⟩ := pass_is (n := n) (g := g) hc X3 i6 hWk (by omega) hC0.wt (by omega) hg
      have q7 : trd S3 41 0 = some (trow S3 0 0) := trow_rd (r := 0) (k := 0) (by decide) (by decide)
      have q8 : f_toldDamp (trow S3 0 0 + iv (k + 1)) S3 = some (m_told T.1.2.2 (T.2.1 3) (trow S3 0 0 + iv (k + 1)).toNatClampNeg) := by
        rw [d1, iv_add, iv_nat (by omega)]
        exact toldDamp_is hC0.tt hC0.wt (by omega)
      unfold k_X1_dampest_L29 f_dampest_L28
      repeat (with_reducible first | refine bb_ls ?_ | refine bb_rs ?_ | refine bb_l (by assumption) ?_ | refine bb_r (by assumption) ?_ | refine bb_lp (by assumption) ?_ | refine bb_ln (by assumption) ?_ | refine bb_rp (by assumption) ?_ | refine bb_rn (by assumption) ?_)
      by_cases z : m_told T.1.2.2 (T.2.1 3) (trow S3 0 0 + iv (k + 1)).toNatClampNeg ≤ u'
      · refine bb_lp z (bb_rn (fun y => Int32.not_lt.mpr z y) ?_)
        repeat (with_reducible first | refine bb_ls ?_ | refine bb_rs ?_ | refine bb_l (by assumption) ?_ | refine bb_r (by assumption) ?_ | refine bb_lp (by assumption) ?_ | refine bb_ln (by assumption) ?_ | refine bb_rp (by assumption) ?_ | refine bb_rn (by assumption) ?_)
        exact bb_s ⟨rfl, rfl, iv_succ _, iv_succ _, ⟨i5.trans q5, q6⟩, rfl⟩
      · refine bb_ln z (bb_rp (Int32.not_le.mp z) ?_)
        repeat (with_reducible first | refine bb_ls ?_ | refine bb_rs ?_ | refine bb_l (by assumption) ?_ | refine bb_r (by assumption) ?_ | refine bb_lp (by assumption) ?_ | refine bb_ln (by assumption) ?_ | refine bb_rp (by assumption) ?_ | refine bb_rn (by assumption) ?_)
        exact bb_s ⟨rfl, rfl, iv_succ _, iv_succ _, ⟨i5.trans q5, q6⟩, rfl⟩
    · rintro ⟨v, u, i, h3⟩ ⟨v', u', i', S3⟩ ⟨i1, i2, i3, i4, ⟨i5, i6⟩, i7⟩
      dsimp only at i1 i2 i3 i4 i5 i6 i7 ⊢
      subst i1 i2 i3 i4 i7
      have z1 : iv (N - 1 + 1) ≥ iv N := by rw [show N - 1 + 1 = N from by omega]; exact iv_end (by omega)
      unfold k_X1_dampest_L29 f_dampest_L28
      repeat (with_reducible first | refine bb_ls ?_ | refine bb_rs ?_ | refine bb_l (by assumption) ?_ | refine bb_r (by assumption) ?_ | refine bb_lp (by assumption) ?_ | refine bb_ln (by assumption) ?_ | refine bb_rp (by assumption) ?_ | refine bb_rn (by assumption) ?_)
      exact bb_s ⟨rfl, ⟨_, i5, i6⟩, rfl⟩
  · rintro ⟨v, h3⟩ ⟨v', S3⟩ ⟨q1, ⟨w, q2, q3⟩, q4⟩
    dsimp only at q1 q2 q3 q4 ⊢
    subst q4
    exact bb_s (op_try hC0 q2 q3 TL.rfl h0 q1)
theorem ibnd_gt (y : Int32) : ¬ ibnd y 0 30 ≤ (-1) := by
  have e0 : (0 : Int32).toInt = 0 := by decide
  have e1 : (-1 : Int32).toInt = -1 := by decide
  have e3 : (30 : Int32).toInt = 30 := by decide
  unfold ibnd
  rw [Int32.le_iff_toInt_le, e1]
  by_cases a : y ≥ 0
  · rw [if_pos a]
    have a2 : (0 : Int32) ≤ y := a
    rw [Int32.le_iff_toInt_le, e0] at a2
    by_cases b : y ≤ 30
    · rw [if_pos b]; omega
    · rw [if_neg b, e3]; omega
  · rw [if_neg a, e0]; omega
theorem op_eased (hC : CIx x t hi T s r la ls c h S) (hn : 4000 < n) (hg : g = 90) (a1 a2 a3 : Int32) : Both (k_X1_eased n g c x a1 a2 a3 h) (f_eased n a1 a2 a3 S) (OP cdB x c h) := by
  have hC0 := hC.tl (TL.thr (v := 0))
  have h0 : (tpF S 0 0).1 0 = 0 := rfl
  unfold k_X1_eased f_eased
  refine bb_l hC.is0 (bb_rs ?_)
  generalize tpF S 0 0 = S0 at hC0 h0 ⊢
  refine g_pers hC0.xc hC0.tt hC0.wt h0 (fun _ _ => rfl) (fun _ => if_pos rfl) (op_exc hC0 (Or.inl ⟨rfl, rfl⟩)) (fun p hp e => ?_)
  subst e
  dsimp only
  refine bb_l hC0.is0 (bb_rn i10 ?_)
  refine g_house hC0.xc hC0.tt hC0.wt h0 (fun _ _ => rfl) (fun _ => if_pos rfl) (op_exc hC0 (Or.inl ⟨rfl, rfl⟩)) (fun hh hh8 e => ?_)
  subst e
  dsimp only
  refine bb_rn i10 ?_
  refine g_days (lo := 1) rfl (by decide) (by decide) h0 (fun _ _ => rfl) (fun _ => if_pos rfl) (op_exc hC0 (Or.inr ⟨rfl, rfl⟩)) (fun N hN1 hN e => ?_)
  subst e
  dsimp only
  refine bb_rn i10 ?_
  obtain ⟨h1, S1, e1, e2, hR⟩ := hC0.be (n := n) (by omega)
  have f2 := hC0.f2
  have f3 := hC0.f3
  have f4 := hC0.isr
  repeat (with_reducible first | refine bb_ls ?_ | refine bb_rs ?_ | refine bb_l (by assumption) ?_ | refine bb_r (by assumption) ?_ | refine bb_lp (by assumption) ?_ | refine bb_ln (by assumption) ?_ | refine bb_rp (by assumption) ?_ | refine bb_rn (by assumption) ?_)
  refine bb_c (Q := fun o o' => o'.1 = o.1 ∧ ∃ w, Tr x r T h S0 w o.2 o'.2) ?_ ?_
  · refine bb_loop N (fun k (st : Int32 × Int32 × Int32 × XH) (st' : Int32 × Int32 × Int32 × TS) => ((k = 0 ∧ st.1 = 0 ∧ st'.1 = (-1) ∧ st.2.1 = (-1)) ∨ (1 ≤ k ∧ st'.1 = st.1)) ∧ st'.2.1 = st.2.1 ∧ st.2.2.1 = iv k ∧ st'.2.2.1 = iv k ∧ Tr x r T h S0 (m_days T k (trow S0 0)) st.2.2.2 st'.2.2.2) ⟨Or.inl ⟨rfl, rfl, rfl, rfl⟩, rfl, rfl, rfl, hR⟩ ?_ ?_ (by omega) (by omega)
    · rintro k ⟨v, u, i, h3⟩ ⟨v', u', i', S3⟩ hk ⟨i1, i2, i3, i4, i5⟩
      dsimp only at i1 i2 i3 i4 i5 ⊢
      subst i2 i3 i4
      have hWk := WF_mdays (k := k) hC0.wf hC0.wt
      have z1 := iv_stop hk (by omega)
      have g1 := i5.f3 hC0
      have g2 := i5.2.1.is2
      obtain ⟨h4, S4, e3, e4, hR4⟩ := i5.eases hC0 hWk (by omega) hp hh8 hn hg
      have g3 := hR4.f3 hC0
      have g4 := hR4.2.1.is2
      obtain ⟨h5, S5, e5, e6, hR5⟩ := hR4.pass hC0 hWk (by omega) hn hg
      unfold k_X1_eased_L41 f_eased_L46
      repeat (with_reducible first | refine bb_ls ?_ | refine bb_rs ?_ | refine bb_l (by assumption) ?_ | refine bb_r (by assumption) ?_ | refine bb_lp (by assumption) ?_ | refine bb_ln (by assumption) ?_ | refine bb_rp (by assumption) ?_ | refine bb_rn (by assumption) ?_)
      refine bb_if2 Iff.rfl (fun z _ => ?_) (fun z _ => ?_)
      · rcases i1 with ⟨j1, j2, j3, j4⟩ | ⟨j1, j2⟩
        · rw [j4] at z
          exact absurd z (ibnd_gt _)
        · repeat (with_reducible first | refine bb_ls ?_ | refine bb_rs ?_ | refine bb_l (by assumption) ?_ | refine bb_r (by assumption) ?_ | refine bb_lp (by assumption) ?_ | refine bb_ln (by assumption) ?_ | refine bb_rp (by assumption) ?_ | refine bb_rn (by assumption) ?_)
          exact bb_s ⟨Or.inr ⟨by omega, j2⟩, rfl, iv_succ k, iv_succ k, hR5⟩
      · repeat (with_reducible first | refine bb_ls ?_ | refine bb_rs ?_ | refine bb_l (by assumption) ?_ | refine bb_r (by assumption) ?_ | refine bb_lp (by assumption) ?_ | refine bb_ln (by assumption) ?_ | refine bb_rp (by assumption) ?_ | refine bb_rn (by assumption) ?_)
        exact bb_s ⟨Or.inr ⟨by omega, rfl⟩, rfl, iv_succ k, iv_succ k, hR5⟩
    · rintro ⟨v, u, i, h3⟩ ⟨v', u', i', S3⟩ ⟨i1, i2, i3, i4, i5⟩
      dsimp only at i1 i2 i3 i4 i5 ⊢
      subst i2 i3 i4
      have z1 := iv_end (N := N) (by omega)
      unfold k_X1_eased_L41 f_eased_L46
      repeat (with_reducible first | refine bb_ls ?_ | refine bb_rs ?_ | refine bb_l (by assumption) ?_ | refine bb_r (by assumption) ?_ | refine bb_lp (by assumption) ?_ | refine bb_ln (by assumption) ?_ | refine bb_rp (by assumption) ?_ | refine bb_rn (by assumption) ?_)
      rcases i1 with ⟨j1, j2⟩ | ⟨j1, j2⟩
      · omega
      · exact bb_s ⟨j2, _, i5⟩
  · rintro ⟨v, h3⟩ ⟨v', S3⟩ ⟨q1, w, q2⟩
    exact bb_s (op_tr hC0 q2 h0 q1)
/-- p moved into house hh, whoever was there put out -/
def m_move (T : Tn) (w : Nat → Int32) (p hh : Nat) : Nat → Int32 := pup (if m_home T w p = (-1) then w else pup w (19 + (m_home T w p).toNatClampNeg) (-1)) (19 + hh) (iv p)
theorem pup_same {k : Nat} {v : Int32} (h : w k = v) : pup w k v = w := by
  funext j
  unfold pup
  by_cases z : j = k
  · rw [if_pos z, z, h]
  · rw [if_neg z]
theorem pup_pup {k : Nat} {v u : Int32} : pup (pup w k v) k u = pup w k u := by
  funext j
  unfold pup
  by_cases z : j = k
  · rw [if_pos z, if_pos z]
  · rw [if_neg z, if_neg z, if_neg z]
theorem pup_comm {j k : Nat} {v u : Int32} (h : j ≠ k) : pup (pup w j v) k u = pup (pup w k u) j v := by
  funext i
  unfold pup
  by_cases z : i = k
  · rw [if_pos z, if_neg (by omega), if_pos z]
  · rw [if_neg z]
    by_cases y : i = j
    · rw [if_pos y, if_pos y]
    · rw [if_neg y, if_neg y, if_neg z]
theorem WF_move {D p hh : Nat} (hW : WF D T w) (hT : WT T) (hp : p < T.1.2.1) (hh8 : hh < T.1.1) : WF D T (m_move T w p hh) := by
  have h8 := hT.1
  have p8 := hT.2.1
  unfold m_move
  rcases home_cases (T := T) (w := w) p with ⟨k, k1, k2, k3⟩ | ⟨k1, k2⟩
  · rw [k3, if_neg (iv_ne_neg (by omega)), iv_nat (by omega)]
    have h1 := WF_who (D := D) (show k < 8 by omega) (WH_out (k := k) hW.2.2.2.2.2.2.2) hW h8
    refine WF_who (by omega) (WH_in h1.2.2.2.2.2.2.2 hp (fun j hj => ?_)) h1 h8
    by_cases z : j = k
    · rw [z, pup_eq]; exact fun y => iv_ne_neg (by omega) y.symm
    · rw [pup_ne (by omega)]
      intro y
      exact z (hW.2.2.2.2.2.2.2.2 j k hj k1 (by rw [y]; exact iv_ne_neg (by omega)) (by rw [y, k2]))
  · rw [k2, if_pos rfl]
    exact WF_who (by omega) (WH_in hW.2.2.2.2.2.2.2 hp k1) hW h8
/-- the component's two writes: out, in -/
theorem SV.move {D p hh : Nat} (hS : SV x T h r w) (hW : WF D T w) (hT : WT T) (hp : p < T.1.2.1) (hh8 : hh < T.1.1) : ∃ h1, (if w (19 + hh) = (-1) then some h else csu h (r + 4) 100 (w (19 + hh)) (.int (-1))) = some h1 ∧ Fq (Wst r) h h1 ∧ SV x T h1 r (pup w (19 + hh) (-1)) ∧ ∃ h2, csu h1 (r + 4) 100 (iv p) (.int (iv hh)) = some h2 ∧ Fq (Wst r) h1 h2 ∧ SV x T h2 r (m_move T w p hh) := by
  have h8 := hT.1
  have p8 := hT.2.1
  have hH := hW.2.2.2.2.2.2.2
  obtain ⟨h1, e1, q1, S1⟩ : ∃ h1, (if w (19 + hh) = (-1) then some h else csu h (r + 4) 100 (w (19 + hh)) (.int (-1))) = some h1 ∧ Fq (Wst r) h h1 ∧ SV x T h1 r (pup w (19 + hh) (-1)) := by
    rcases hH.1 hh hh8 with z | ⟨q, hq, z⟩
    · exact ⟨h, by rw [if_pos z], Fq.rfl, by rw [pup_same z]; exact hS⟩
    · obtain ⟨h1, e1, q1, S1⟩ := hS.wout hT hH hq hh8 z
      exact ⟨h1, by rw [if_neg (by rw [z]; exact iv_ne_neg (by omega)), z]; exact e1, q1, S1⟩
  refine ⟨h1, e1, q1, S1, ?_⟩
  refine S1.whome hT hp (iv hh) (fun j hj => ?_) (fun j hj => ?_)
  · unfold m_move
    rw [pup_ne (by omega), pup_ne (by omega)]
    rcases home_cases (T := T) (w := w) p with ⟨k, k1, k2, k3⟩ | ⟨k1, k2⟩
    · rw [k3, if_neg (iv_ne_neg (by omega)), iv_nat (by omega), pup_ne (by omega)]
    · rw [k2, if_pos rfl]
  · have hM := (WF_move hW hT hp hh8).2.2.2.2.2.2.2
    have at_hh : m_move T w p hh (19 + hh) = iv p := by unfold m_move; rw [pup_eq]
    by_cases z : j = p
    · subst z
      rw [if_pos rfl]
      exact home_of hM (by omega) hh8 at_hh
    · rw [if_neg z]
      refine houseOf_cong (fun k _ hk => ?_)
      by_cases y : k = hh
      · subst y
        rw [at_hh, pup_eq]
        exact ⟨fun u => absurd ((iv_inj (by omega) (by omega)).mp u).symm z, fun u => absurd u.symm (iv_ne_neg (by omega))⟩
      · rw [pup_ne (show 19 + k ≠ 19 + hh by omega)]
        unfold m_move
        rw [pup_ne (by omega)]
        rcases home_cases (T := T) (w := w) p with ⟨a, a1, a2, a3⟩ | ⟨a1, a2⟩
        · rw [a3, if_neg (iv_ne_neg (by omega)), iv_nat (by omega)]
          by_cases u : k = a
          · subst u
            rw [pup_eq, a2]
            exact ⟨fun v => absurd v.symm (iv_ne_neg (by omega)), fun v => absurd ((iv_inj (by omega) (by omega)).mp v).symm z⟩
          · rw [pup_ne (by omega)]
        · rw [a2, if_pos rfl]
theorem op_endures (hC : CIx x t hi T s r la ls c h S) (hn : 4000 < n) (hg : g = 90) (a1 a2 : Int32) : Both (k_X1_endures n g c x a1 a2 h) (f_endures n a1 a2 S) (OP cdN x c h) := by
  have hC0 := hC.tl (TL.thr (v := 0))
  have h0 : (tpF S 0 0).1 0 = 0 := rfl
  unfold k_X1_endures f_endures
  refine bb_l hC.is0 (bb_rs ?_)
  generalize tpF S 0 0 = S0 at hC0 h0 ⊢
  have h8 := hC0.wt.1
  have p8 := hC0.wt.2.1
  refine g_pers hC0.xc hC0.tt hC0.wt h0 (fun _ _ => rfl) (fun _ => if_pos rfl) (op_exc hC0 ⟨rfl, rfl⟩) (fun p hp e => ?_)
  subst e
  dsimp only
  refine bb_l hC0.is0 (bb_rn i10 ?_)
  refine g_house hC0.xc hC0.tt hC0.wt h0 (fun _ _ => rfl) (fun _ => if_pos rfl) (op_exc hC0 ⟨rfl, rfl⟩) (fun hh hh8 e => ?_)
  subst e
  dsimp only
  refine bb_rn i10 ?_
  have f1 := hC0.f2
  have f2 := hC0.sv.burst
  have f3 := isOf_is (w := trow S0 0) (h := h) (k := hh)
  have f4 : f_isBurst 0 (iv hh) S0 = some (m_isb (trow S0 0) hh) := isBurst_is (r := 0) (by decide)
  repeat (with_reducible first | refine bb_ls ?_ | refine bb_rs ?_ | refine bb_l (by assumption) ?_ | refine bb_r (by assumption) ?_ | refine bb_lp (by assumption) ?_ | refine bb_ln (by assumption) ?_ | refine bb_rp (by assumption) ?_ | refine bb_rn (by assumption) ?_)
  refine bb_if2 Iff.rfl (fun z _ => ?_) (fun z _ => bb_s (op_vr hC0 Vr.rfl h0 rfl))
  obtain ⟨h1, S1, e1, e2, hR⟩ := hC0.be (n := n) (by omega)
  have f5 := hC0.f3
  have f6 := hC0.isr
  have f7 := hR.f3 hC0
  have f8 := hR.2.1.is2
  have f9 := in_is (n := n) (hR.xc hC0) hR.2.1 hC0.wf.2.2.2.2.2.2.2 hC0.wt hh8 (by omega)
  have f10 := hR.2.1.a3
  have f11 : f_houseOf n 0 (iv p) S1 = some (m_home T (trow S0 0) p) := by
    rw [← hR.row0]
    exact houseOf_is (r := 0) (by decide) (hR.tt hC0).1 h8 (by omega)
  obtain ⟨h2, m1, m2, m3, h3, m4, m5, m6⟩ := hR.2.1.move hC0.wf hC0.wt hp hh8
  repeat (with_reducible first | refine bb_ls ?_ | refine bb_rs ?_ | refine bb_l (by assumption) ?_ | refine bb_r (by assumption) ?_ | refine bb_lp (by assumption) ?_ | refine bb_ln (by assumption) ?_ | refine bb_rp (by assumption) ?_ | refine bb_rn (by assumption) ?_)
  -- both sides: the move, then the days
  have main : ∀ h' S', Tr x r T h S0 (m_move T (trow S0 0) p hh) h' S' → Both ((xloop (fun s => k_X1_endures_L75 n g c x (iv hh) s.1 s.2) n (1, h')).bind fun o40 => match o40 with | .inl e41 => (some (.inl (-1), e41)) | .inr e42 => (some (.inl e42.1, e42.2))) ((xloop (fun s => f_endures_L73 n (iv hh) s.1 s.2) n (1, S')).bind fun o17 => match o17 with | .inl e18 => (some ((-1), e18)) | .inr e19 => (some (e19.1, e19.2))) (OP cdN x c h) := by
    intro h' S' hM
    have hW := WF_move hC0.wf hC0.wt hp hh8
    refine bb_c (Q := bstep (fun h' S' => ∃ w, Tr x r T h S0 w h' S') (fun o o' => (∃ w, Tr x r T h S0 w o.2 o'.2) ∧ o'.1 = o.1)) ?_ ?_
    · refine bb_loop 40 (fun k (st : Int32 × XH) (st' : Int32 × TS) => st.1 = iv (k + 1) ∧ st'.1 = iv (k + 1) ∧ Tr x r T h S0 (m_days T k (m_move T (trow S0 0) p hh)) st.2 st'.2) ⟨rfl, rfl, hM⟩ ?_ ?_ (by omega) (by omega)
      · rintro k ⟨i, h2⟩ ⟨i', S2⟩ hk ⟨i1, i2, i3⟩
        dsimp only at i1 i2 i3 ⊢
        subst i1 i2
        have z1 := day_in (k := k + 1) (by omega)
        have hWk := WF_mdays (k := k) hW hC0.wt
        obtain ⟨h3, S3, e3, e4, hR3⟩ := i3.pass hC0 hWk (by omega) hn hg
        have g1 := i3.f3 hC0
        have g4 := i3.2.1.is2
        have g2 := hR3.2.1.burst
        have g3 := isOf_is (w := m_day T (m_days T k (m_move T (trow S0 0) p hh))) (h := h3) (k := hh)
        have g5 : f_isBurst 43 (iv hh) S3 = some (m_isb (m_day T (m_days T k (m_move T (trow S0 0) p hh))) hh) := by
          rw [← hR3.2.2.1]
          exact isBurst_is (r := 43) (by decide)
        unfold k_X1_endures_L75 f_endures_L73
        repeat (with_reducible first | refine bb_ls ?_ | refine bb_rs ?_ | refine bb_l (by assumption) ?_ | refine bb_r (by assumption) ?_ | refine bb_lp (by assumption) ?_ | refine bb_ln (by assumption) ?_ | refine bb_rp (by assumption) ?_ | refine bb_rn (by assumption) ?_)
        refine bb_if2 Iff.rfl (fun z _ => ?_) (fun z _ => ?_)
        · repeat (with_reducible first | refine bb_ls ?_ | refine bb_rs ?_ | refine bb_l (by assumption) ?_ | refine bb_r (by assumption) ?_ | refine bb_lp (by assumption) ?_ | refine bb_ln (by assumption) ?_ | refine bb_rp (by assumption) ?_ | refine bb_rn (by assumption) ?_)
          exact bb_s ⟨iv_succ _, iv_succ _, hR3⟩
        · exact bb_s ⟨⟨_, hR3⟩, rfl⟩
      · rintro ⟨i, h2⟩ ⟨i', S2⟩ ⟨i1, i2, i3⟩
        dsimp only at i1 i2 i3 ⊢
        subst i1 i2
        have z1 : iv (40 + 1) > 40 := day_out
        unfold k_X1_endures_L75 f_endures_L73
        repeat (with_reducible first | refine bb_ls ?_ | refine bb_rs ?_ | refine bb_l (by assumption) ?_ | refine bb_r (by assumption) ?_ | refine bb_lp (by assumption) ?_ | refine bb_ln (by assumption) ?_ | refine bb_rp (by assumption) ?_ | refine bb_rn (by assumption) ?_)
        exact bb_s ⟨_, i3⟩
    · intro o o' q
      cases o <;> cases o'
      · obtain ⟨w, q⟩ := q
        exact bb_s (op_tr hC0 q h0 rfl)
      · exact q.elim
      · exact q.elim
      · obtain ⟨⟨w, q⟩, q2⟩ := q
        exact bb_s (op_tr hC0 q h0 q2)
  have q3 : Fq (Wst r) h h3 := hR.1.trans (m2.trans m5)
  -- the twin's move
  have tw : ∀ K : TS → Option (Int32 × TS), ∀ P : (Int32 ⊕ XX) × XH → Int32 × TS → Prop, ∀ kx : Option ((Int32 ⊕ XX) × XH), (∀ S', Tr x r T h S0 (m_move T (trow S0 0) p hh) h3 S' → Both kx (K S') P) → Both kx (if m_home T (trow S0 0) p = (-1) then (twr S1 41 ((62 : Int32) + iv hh) (iv p)).bind K else (twr S1 41 ((62 : Int32) + m_home T (trow S0 0) p) (-1)).bind fun S20 => (twr S20 41 ((62 : Int32) + iv hh) (iv p)).bind K) P := by
    intro K P kx hK
    have wr : ∀ (S : TS) (k : Nat) (v : Int32), k < 8 → twr S 41 ((62 : Int32) + iv k) v = some (tpA S 41 (43 + (19 + k)) v) := by
      intro S k v hk
      rw [show (62 : Int32) = iv 62 from rfl, iv_add, show 62 + k = 43 + (19 + k) from by omega]
      exact twr_nat (i := 41) (show 43 + (19 + k) < 86 by omega)
    unfold m_move at hK m6
    rcases home_cases (T := T) (w := trow S0 0) p with ⟨a, a1, a2, a3⟩ | ⟨a1, a2⟩
    · rw [a3, if_neg (iv_ne_neg (by omega)), iv_nat (by omega)] at hK m6
      rw [a3, if_neg (iv_ne_neg (by omega)), wr _ _ _ (by omega), Option.bind_some, wr _ _ _ (by omega), Option.bind_some]
      refine hK _ ⟨q3, m6, ?_, hR.2.2.2.trans ((trest.put (by omega)).trans (trest.put (by omega)))⟩
      rw [trow_put (by omega), trow_put (by omega), hR.2.2.1]
    · rw [a2, if_pos rfl] at hK m6
      rw [a2, if_pos rfl, wr _ _ _ (by omega), Option.bind_some]
      refine hK _ ⟨q3, m6, ?_, hR.2.2.2.trans (trest.put (by omega))⟩
      rw [trow_put (by omega), hR.2.2.1]
  unfold f_endures_J60
  refine tw _ _ _ (fun S' hM => ?_)
  have X2 : XC x t T hi h2 := (hR.xc hC0).kst m2.fr
  have g1 : cgR h2 x 0 3 = some r := cgR_is X2.1 (by rw [(hR.1.trans m2).2.2 _ _ _ _ hC0.xc.1 (by unfold Wst; omega)]; exact hC0.1.2.2.2.1.2.1)
  have g2 := m3.a3
  have kmain := main h3 S' hM
  by_cases y : trow S0 0 (19 + hh) = (-1)
  · rw [if_pos y] at m1
    cases m1
    refine bb_lp y ?_
    unfold k_X1_endures_J62
    repeat (with_reducible first | refine bb_ls ?_ | refine bb_rs ?_ | refine bb_l (by assumption) ?_ | refine bb_r (by assumption) ?_ | refine bb_lp (by assumption) ?_ | refine bb_ln (by assumption) ?_ | refine bb_rp (by assumption) ?_ | refine bb_rn (by assumption) ?_)
    exact kmain
  · rw [if_neg y] at m1
    refine bb_ln y ?_
    refine bb_l f7 (bb_l f10 (bb_l m1 ?_))
    unfold k_X1_endures_J62
    repeat (with_reducible first | refine bb_ls ?_ | refine bb_rs ?_ | refine bb_l (by assumption) ?_ | refine bb_r (by assumption) ?_ | refine bb_lp (by assumption) ?_ | refine bb_ln (by assumption) ?_ | refine bb_rp (by assumption) ?_ | refine bb_rn (by assumption) ?_)
    exact kmain
end MORE
