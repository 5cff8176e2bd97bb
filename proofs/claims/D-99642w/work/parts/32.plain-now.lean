/-! turns on the street as it is -/
set_option maxRecDepth 100000
section NOW
variable {x t hi : Nat} {T : Tn} {s r la ls : Nat} {c : Nat → Value} {h h1 : XH} {S S1 : TS} {n g N : Nat} {w : Nat → Int32}
/-- only values, told, pile changed -/
def Vr (h : XH) (S : TS) (h1 : XH) (S1 : TS) : Prop := Fq Wva h h1 ∧ tscr S S1
theorem Vr.rfl : Vr h S h S := ⟨Fq.rfl, tscr.rfl⟩
theorem Vr.xc (hV : Vr h S h1 S1) (hC : CIx x t hi T s r la ls c h S) : XC x t T hi h1 := hC.xc.kva hV.1.fr
theorem Vr.sv (hV : Vr h S h1 S1) (hC : CIx x t hi T s r la ls c h S) : SV x T h1 s (trow S 0) := hC.sv.kva hV.1.fr
theorem Vr.x2 (hV : Vr h S h1 S1) (hC : CIx x t hi T s r la ls c h S) : h1.2.1 x = h.2.1 x := hV.1.2.2 _ _ _ _ hC.xc.1 (by unfold Wva; omega)
theorem Vr.f2 (hV : Vr h S h1 S1) (hC : CIx x t hi T s r la ls c h S) : cgR h1 x 0 2 = some s := cgR_is (hV.xc hC).1 (by rw [hV.x2 hC]; exact hC.1.2.2.2.1.1)
theorem Vr.tt (hV : Vr h S h1 S1) (hC : CIx x t hi T s r la ls c h S) : TT S1 T := hV.2.tt hC.tt
theorem op_vr {cd : String → Int32 → Prop} {v u : Int32} (hC : CIx x t hi T s r la ls c h S) (hV : Vr h S h1 S1) (h0 : S.1 0 = 0) (hv : u = v) : OP cd x c h (.inl v, h1) (u, S1) := op_val hC hV.1 hV.2.tl (by rw [hV.2.1]; exact h0) hv
theorem Vr.goes {p hh : Nat} (hV : Vr h S h1 S1) (hC : CIx x t hi T s r la ls c h S) (hp : p < T.1.2.1) (hh8 : hh < T.1.1) (hn : 4000 < n) (hg : g = 90) : ∃ h2 S2, k_X3_goesIn n g c s (iv p) (iv hh) h1 = some (m_goes T (trow S 0) p hh, h2) ∧ f_wouldGo n 0 (iv p) (iv hh) S1 = some (m_goes T (trow S 0) p hh, S2) ∧ Vr h S h2 S2 := by
  obtain ⟨vv, hc⟩ := hC.hc
  obtain ⟨h2, e1, q1⟩ := goesIn_is (n := n) (g := g) hc (hV.xc hC) (hV.sv hC) hC.wf (by omega) hC.wt hp hh8 (by omega) hg
  obtain ⟨S2, e2, q2⟩ := wouldGo_is (n := n) (b := 0) (hV.tt hC) hC.wt (by decide) (by rw [hV.2.row]; exact hC.wf) (by omega) hp hh8 (by omega)
  rw [hV.2.row] at e2
  exact ⟨h2, S2, e1, e2, hV.1.trans q1, hV.2.trans q2⟩
theorem Vr.rd {a k : Nat} {I : Int32} (hV : Vr h S h1 S1) (hI : I = iv a) (hk : a + k < 43) : trd S1 41 (I + iv k) = some (trow S 0 (a + k)) := by
  rw [row0_rd hI hk, hV.2.row]
theorem Vr.tight {p hh : Nat} (hV : Vr h S h1 S1) (hC : CIx x t hi T s r la ls c h S) (hp : p < T.1.2.1) (hh8 : hh < T.1.1) : f_tightOf 0 (iv p) (iv hh) S1 = some (m_tight (trow S 0) p hh) := by
  have := hC.wt.1
  have := hC.wt.2.1
  rw [← hV.2.row]
  exact tightOf_is (r := 0) (by decide) (by omega) (by omega)
theorem or0 {a b : Int32} (h : b = a) : a = b ||| 0 := by rw [Int32.or_zero, h]
theorem op_eases (hC : CIx x t hi T s r la ls c h S) (hn : 4000 < n) (hg : g = 90) (a1 a2 : Int32) : Both (k_X1_eases n g c x a1 a2 h) (f_eases n a1 a2 S) (OP cdN x c h) := by
  have hC0 := hC.tl (TL.thr (v := 0))
  have h0 : (tpF S 0 0).1 0 = 0 := rfl
  unfold k_X1_eases f_eases
  refine bb_l hC.is0 (bb_rs ?_)
  generalize tpF S 0 0 = S0 at hC0 h0 ⊢
  refine g_pers hC0.xc hC0.tt hC0.wt h0 (fun _ _ => rfl) (fun _ => if_pos rfl) (op_exc hC0 ⟨rfl, rfl⟩) (fun p hp e => ?_)
  subst e
  dsimp only
  refine bb_l hC.is0 (bb_rn i10 ?_)
  refine g_house hC0.xc hC0.tt hC0.wt h0 (fun _ _ => rfl) (fun _ => if_pos rfl) (op_exc hC0 ⟨rfl, rfl⟩) (fun hh hh8 e => ?_)
  subst e
  dsimp only
  refine bb_rn i10 ?_
  obtain ⟨vv, hc⟩ := hC.hc
  obtain ⟨h2, e1, q1⟩ := eases_is (n := n) (g := g) hc hC0.xc hC0.sv hC0.wf (by omega) hC0.wt hp hh8 (by omega) hg
  obtain ⟨S2, e2, q2⟩ := easesOf_is (n := n) (b := 0) hC0.tt hC0.wt (by decide) hC0.wf (by omega) hp hh8 (by omega)
  have e3 : f_easesOf n 0 (iv p) (iv hh) S0 = some (m_eases T (trow S0 0) p hh, S2) := e2
  have f1 := hC0.f2
  have f2 := hC0.sv.is2
  repeat (with_reducible first | refine bb_ls ?_ | refine bb_rs ?_ | refine bb_l (by assumption) ?_ | refine bb_r (by assumption) ?_ | refine bb_lp (by assumption) ?_ | refine bb_ln (by assumption) ?_ | refine bb_rp (by assumption) ?_ | refine bb_rn (by assumption) ?_)
  exact bb_s (op_vr hC0 ⟨q1, q2⟩ h0 rfl)
theorem op_goes (hC : CIx x t hi T s r la ls c h S) (hn : 4000 < n) (hg : g = 90) (a1 : Int32) : Both (k_X1_goes n g c x a1 h) (f_goes n a1 S) (OP cdN x c h) := by
  have hC0 := hC.tl (TL.thr (v := 0))
  have h0 : (tpF S 0 0).1 0 = 0 := rfl
  unfold k_X1_goes f_goes
  refine bb_l hC.is0 (bb_rs ?_)
  generalize tpF S 0 0 = S0 at hC0 h0 ⊢
  have h8 := hC0.wt.1
  refine g_pers hC0.xc hC0.tt hC0.wt h0 (fun _ _ => rfl) (fun _ => if_pos rfl) (op_exc hC0 ⟨rfl, rfl⟩) (fun p hp e => ?_)
  subst e
  dsimp only
  refine bb_rn i10 ?_
  refine bb_c (Q := fun o o' => o'.1 = o.1 ∧ Vr h S0 o.2 o'.2) ?_ (fun o o' q => bb_s (op_vr hC0 q.2 h0 q.1))
  refine bb_loop T.1.1 (fun k st st' => st'.1 = st.1 ∧ st.2.1 = iv k ∧ st'.2.1 = iv k ∧ Vr h S0 st.2.2 st'.2.2) ⟨rfl, rfl, rfl, Vr.rfl⟩ ?_ ?_ (by omega) (by omega)
  · rintro k ⟨v, i, h1⟩ ⟨v', i', S1⟩ hk ⟨i1, i2, i3, i4⟩
    dsimp only at i1 i2 i3 i4 ⊢
    subst i1 i2 i3
    have z1 := iv_stop hk (by omega)
    have z2 : ¬ iv k ≥ S1.1 1 := by rw [(i4.tt hC0).1]; exact z1
    have f1 := (i4.xc hC0).town
    have f2 := (i4.xc hC0).tv.is1
    have f3 := (i4.xc hC0).tv.houses
    have f4 := i4.f2 hC0
    have f5 := (i4.sv hC0).is2
    obtain ⟨h2, S2, e1, e2, q⟩ := i4.goes hC0 hp hk hn hg
    unfold k_X1_goes_L9 f_goes_L19
    repeat (with_reducible first | refine bb_ls ?_ | refine bb_rs ?_ | refine bb_l (by assumption) ?_ | refine bb_r (by assumption) ?_ | refine bb_lp (by assumption) ?_ | refine bb_ln (by assumption) ?_ | refine bb_rp (by assumption) ?_ | refine bb_rn (by assumption) ?_)
    refine bb_if2 Iff.rfl (fun z _ => ?_) (fun z _ => ?_)
    · repeat (with_reducible first | refine bb_ls ?_ | refine bb_rs ?_ | refine bb_l (by assumption) ?_ | refine bb_r (by assumption) ?_ | refine bb_lp (by assumption) ?_ | refine bb_ln (by assumption) ?_ | refine bb_rp (by assumption) ?_ | refine bb_rn (by assumption) ?_)
      exact bb_s ⟨Int32.or_zero, iv_succ k, iv_succ k, q⟩
    · repeat (with_reducible first | refine bb_ls ?_ | refine bb_rs ?_ | refine bb_l (by assumption) ?_ | refine bb_r (by assumption) ?_ | refine bb_lp (by assumption) ?_ | refine bb_ln (by assumption) ?_ | refine bb_rp (by assumption) ?_ | refine bb_rn (by assumption) ?_)
      exact bb_s ⟨rfl, iv_succ k, iv_succ k, q⟩
  · rintro ⟨v, i, h1⟩ ⟨v', i', S1⟩ ⟨i1, i2, i3, i4⟩
    dsimp only at i1 i2 i3 i4 ⊢
    subst i1 i2 i3
    have z1 := iv_end (N := T.1.1) (by omega)
    have z2 : iv T.1.1 ≥ S1.1 1 := by rw [(i4.tt hC0).1]; exact z1
    have f1 := (i4.xc hC0).town
    have f2 := (i4.xc hC0).tv.is1
    have f3 := (i4.xc hC0).tv.houses
    unfold k_X1_goes_L9 f_goes_L19
    repeat (with_reducible first | refine bb_ls ?_ | refine bb_rs ?_ | refine bb_l (by assumption) ?_ | refine bb_r (by assumption) ?_ | refine bb_lp (by assumption) ?_ | refine bb_ln (by assumption) ?_ | refine bb_rp (by assumption) ?_ | refine bb_rn (by assumption) ?_)
    exact bb_s ⟨rfl, i4⟩
theorem op_heirs (hC : CIx x t hi T s r la ls c h S) (hn : 4000 < n) (hg : g = 90) (a1 : Int32) : Both (k_X1_heirs n g c x a1 h) (f_heirs n a1 S) (OP cdN x c h) := by
  have hC0 := hC.tl (TL.thr (v := 0))
  have h0 : (tpF S 0 0).1 0 = 0 := rfl
  unfold k_X1_heirs f_heirs
  refine bb_l hC.is0 (bb_rs ?_)
  generalize tpF S 0 0 = S0 at hC0 h0 ⊢
  have p8 := hC0.wt.2.1
  refine g_house hC0.xc hC0.tt hC0.wt h0 (fun _ _ => rfl) (fun _ => if_pos rfl) (op_exc hC0 ⟨rfl, rfl⟩) (fun hh hh8 e => ?_)
  subst e
  dsimp only
  refine bb_rn i10 ?_
  refine bb_c (Q := fun o o' => o'.1 = o.1 ∧ Vr h S0 o.2 o'.2) ?_ (fun o o' q => bb_s (op_vr hC0 q.2 h0 q.1))
  refine bb_loop T.1.2.1 (fun k st st' => st'.1 = st.1 ∧ st.2.1 = iv k ∧ st'.2.1 = iv k ∧ Vr h S0 st.2.2 st'.2.2) ⟨rfl, rfl, rfl, Vr.rfl⟩ ?_ ?_ (by omega) (by omega)
  · rintro k ⟨v, i, h1⟩ ⟨v', i', S1⟩ hk ⟨i1, i2, i3, i4⟩
    dsimp only at i1 i2 i3 i4 ⊢
    subst i1 i2 i3
    have z1 := iv_stop hk (by omega)
    have z2 : ¬ iv k ≥ S1.1 2 := by rw [(i4.tt hC0).2.1]; exact z1
    have f1 := (i4.xc hC0).town
    have f2 := (i4.xc hC0).tv.is1
    have f3 := (i4.xc hC0).tv.people
    have f4 := i4.f2 hC0
    have f5 := (i4.sv hC0).is2
    obtain ⟨h2, S2, e1, e2, q⟩ := i4.goes hC0 hk hh8 hn hg
    unfold k_X1_heirs_L9 f_heirs_L19
    repeat (with_reducible first | refine bb_ls ?_ | refine bb_rs ?_ | refine bb_l (by assumption) ?_ | refine bb_r (by assumption) ?_ | refine bb_lp (by assumption) ?_ | refine bb_ln (by assumption) ?_ | refine bb_rp (by assumption) ?_ | refine bb_rn (by assumption) ?_)
    refine bb_if2 Iff.rfl (fun z _ => ?_) (fun z _ => ?_)
    · repeat (with_reducible first | refine bb_ls ?_ | refine bb_rs ?_ | refine bb_l (by assumption) ?_ | refine bb_r (by assumption) ?_ | refine bb_lp (by assumption) ?_ | refine bb_ln (by assumption) ?_ | refine bb_rp (by assumption) ?_ | refine bb_rn (by assumption) ?_)
      exact bb_s ⟨Int32.or_zero, iv_succ k, iv_succ k, q⟩
    · repeat (with_reducible first | refine bb_ls ?_ | refine bb_rs ?_ | refine bb_l (by assumption) ?_ | refine bb_r (by assumption) ?_ | refine bb_lp (by assumption) ?_ | refine bb_ln (by assumption) ?_ | refine bb_rp (by assumption) ?_ | refine bb_rn (by assumption) ?_)
      exact bb_s ⟨rfl, iv_succ k, iv_succ k, q⟩
  · rintro ⟨v, i, h1⟩ ⟨v', i', S1⟩ ⟨i1, i2, i3, i4⟩
    dsimp only at i1 i2 i3 i4 ⊢
    subst i1 i2 i3
    have z1 := iv_end (N := T.1.2.1) (by omega)
    have z2 : iv T.1.2.1 ≥ S1.1 2 := by rw [(i4.tt hC0).2.1]; exact z1
    have f1 := (i4.xc hC0).town
    have f2 := (i4.xc hC0).tv.is1
    have f3 := (i4.xc hC0).tv.people
    unfold k_X1_heirs_L9 f_heirs_L19
    repeat (with_reducible first | refine bb_ls ?_ | refine bb_rs ?_ | refine bb_l (by assumption) ?_ | refine bb_r (by assumption) ?_ | refine bb_lp (by assumption) ?_ | refine bb_ln (by assumption) ?_ | refine bb_rp (by assumption) ?_ | refine bb_rn (by assumption) ?_)
    exact bb_s ⟨rfl, i4⟩
theorem op_free (hC : CIx x t hi T s r la ls c h S) (hn : 4000 < n) (hg : g = 90) (a1 : Int32) : Both (k_X1_free n g c x a1 h) (f_free n a1 S) (OP cdN x c h) := by
  have hC0 := hC.tl (TL.thr (v := 0))
  have h0 : (tpF S 0 0).1 0 = 0 := rfl
  unfold k_X1_free f_free
  refine bb_l hC.is0 (bb_rs ?_)
  generalize tpF S 0 0 = S0 at hC0 h0 ⊢
  have h8 := hC0.wt.1
  refine g_pers hC0.xc hC0.tt hC0.wt h0 (fun _ _ => rfl) (fun _ => if_pos rfl) (op_exc hC0 ⟨rfl, rfl⟩) (fun p hp e => ?_)
  subst e
  dsimp only
  refine bb_rn i10 ?_
  refine bb_c (Q := fun o o' => o'.1 = o.1 ∧ Vr h S0 o.2 o'.2) ?_ (fun o o' q => bb_s (op_vr hC0 q.2 h0 q.1))
  refine bb_loop T.1.1 (fun k st st' => (st'.1 = st.1 ∧ (st.1 = (-1) ∨ ∃ q, q < T.1.1 ∧ st.1 = iv q)) ∧ st.2.1 = iv k ∧ st'.2.1 = iv k ∧ Vr h S0 st.2.2 st'.2.2) ⟨⟨rfl, Or.inl rfl⟩, rfl, rfl, Vr.rfl⟩ ?_ ?_ (by omega) (by omega)
  · rintro k ⟨v, i, h1⟩ ⟨v', i', S1⟩ hk ⟨⟨i1, i5⟩, i2, i3, i4⟩
    dsimp only at i1 i2 i3 i4 i5 ⊢
    subst i1 i2 i3
    have z1 := iv_stop hk (by omega)
    have z2 : ¬ iv k ≥ S1.1 1 := by rw [(i4.tt hC0).1]; exact z1
    have f1 := (i4.xc hC0).town
    have f2 := (i4.xc hC0).tv.is1
    have f3 := (i4.xc hC0).tv.houses
    have f4 := i4.f2 hC0
    have f5 := (i4.sv hC0).is2
    have f6 := in_is (n := n) (i4.xc hC0) (i4.sv hC0) hC0.wf.2.2.2.2.2.2.2 hC0.wt hk (by omega)
    have f7 : trd S1 41 ((19 : Int32) + iv k) = some _ := i4.rd (a := 19) rfl (by omega)
    obtain ⟨h2, S2, e1, e2, q⟩ := i4.goes hC0 hp hk hn hg
    have g4 := q.f2 hC0
    have g5 := (q.sv hC0).is2
    have g6 := tight_is (q.sv hC0) hC0.wf hC0.wt hp hk
    have g7 := q.tight hC0 hp hk
    unfold k_X1_free_L9 f_free_L19
    repeat (with_reducible first | refine bb_ls ?_ | refine bb_rs ?_ | refine bb_l (by assumption) ?_ | refine bb_r (by assumption) ?_ | refine bb_lp (by assumption) ?_ | refine bb_ln (by assumption) ?_ | refine bb_rp (by assumption) ?_ | refine bb_rn (by assumption) ?_)
    refine bb_if2 Iff.rfl (fun y _ => ?_) (fun y _ => ?_)
    · repeat (with_reducible first | refine bb_ls ?_ | refine bb_rs ?_ | refine bb_l (by assumption) ?_ | refine bb_r (by assumption) ?_ | refine bb_lp (by assumption) ?_ | refine bb_ln (by assumption) ?_ | refine bb_rp (by assumption) ?_ | refine bb_rn (by assumption) ?_)
      refine bb_if2 Iff.rfl (fun z _ => ?_) (fun z _ => ?_)
      · repeat (with_reducible first | refine bb_ls ?_ | refine bb_rs ?_ | refine bb_l (by assumption) ?_ | refine bb_r (by assumption) ?_ | refine bb_lp (by assumption) ?_ | refine bb_ln (by assumption) ?_ | refine bb_rp (by assumption) ?_ | refine bb_rn (by assumption) ?_)
        exact bb_s ⟨⟨rfl, i5⟩, iv_succ k, iv_succ k, q⟩
      · refine bb_if2 Iff.rfl (fun u _ => ?_) (fun u _ => ?_)
        · repeat (with_reducible first | refine bb_ls ?_ | refine bb_rs ?_ | refine bb_l (by assumption) ?_ | refine bb_r (by assumption) ?_ | refine bb_lp (by assumption) ?_ | refine bb_ln (by assumption) ?_ | refine bb_rp (by assumption) ?_ | refine bb_rn (by assumption) ?_)
          exact bb_s ⟨⟨rfl, Or.inr ⟨k, hk, rfl⟩⟩, iv_succ k, iv_succ k, q⟩
        · rcases i5 with i5 | ⟨b, b1, b2⟩
          · exact absurd i5 u
          · subst b2
            have m6 := tight_is (q.sv hC0) hC0.wf hC0.wt hp b1
            have m7 := q.tight hC0 hp b1
            repeat (with_reducible first | refine bb_ls ?_ | refine bb_rs ?_ | refine bb_l (by assumption) ?_ | refine bb_r (by assumption) ?_ | refine bb_lp (by assumption) ?_ | refine bb_ln (by assumption) ?_ | refine bb_rp (by assumption) ?_ | refine bb_rn (by assumption) ?_)
            refine bb_if2 Iff.rfl (fun u _ => ?_) (fun u _ => ?_)
            · repeat (with_reducible first | refine bb_ls ?_ | refine bb_rs ?_ | refine bb_l (by assumption) ?_ | refine bb_r (by assumption) ?_ | refine bb_lp (by assumption) ?_ | refine bb_ln (by assumption) ?_ | refine bb_rp (by assumption) ?_ | refine bb_rn (by assumption) ?_)
              exact bb_s ⟨⟨rfl, Or.inr ⟨b, b1, rfl⟩⟩, iv_succ k, iv_succ k, q⟩
            · repeat (with_reducible first | refine bb_ls ?_ | refine bb_rs ?_ | refine bb_l (by assumption) ?_ | refine bb_r (by assumption) ?_ | refine bb_lp (by assumption) ?_ | refine bb_ln (by assumption) ?_ | refine bb_rp (by assumption) ?_ | refine bb_rn (by assumption) ?_)
              exact bb_s ⟨⟨rfl, Or.inr ⟨k, hk, rfl⟩⟩, iv_succ k, iv_succ k, q⟩
    · repeat (with_reducible first | refine bb_ls ?_ | refine bb_rs ?_ | refine bb_l (by assumption) ?_ | refine bb_r (by assumption) ?_ | refine bb_lp (by assumption) ?_ | refine bb_ln (by assumption) ?_ | refine bb_rp (by assumption) ?_ | refine bb_rn (by assumption) ?_)
      exact bb_s ⟨⟨rfl, i5⟩, iv_succ k, iv_succ k, i4⟩
  · rintro ⟨v, i, h1⟩ ⟨v', i', S1⟩ ⟨⟨i1, i5⟩, i2, i3, i4⟩
    dsimp only at i1 i2 i3 i4 i5 ⊢
    subst i1 i2 i3
    have z1 := iv_end (N := T.1.1) (by omega)
    have z2 : iv T.1.1 ≥ S1.1 1 := by rw [(i4.tt hC0).1]; exact z1
    have f1 := (i4.xc hC0).town
    have f2 := (i4.xc hC0).tv.is1
    have f3 := (i4.xc hC0).tv.houses
    unfold k_X1_free_L9 f_free_L19
    repeat (with_reducible first | refine bb_ls ?_ | refine bb_rs ?_ | refine bb_l (by assumption) ?_ | refine bb_r (by assumption) ?_ | refine bb_lp (by assumption) ?_ | refine bb_ln (by assumption) ?_ | refine bb_rp (by assumption) ?_ | refine bb_rn (by assumption) ?_)
    exact bb_s ⟨rfl, i4⟩
theorem op_larger (hC : CIx x t hi T s r la ls c h S) (hn : 4000 < n) (a1 : Int32) : Both (k_X1_larger n x a1 h) (f_larger n a1 S) (OP cdN x c h) := by
  have hC0 := hC.tl (TL.thr (v := 0))
  have h0 : (tpF S 0 0).1 0 = 0 := rfl
  unfold k_X1_larger f_larger
  refine bb_l hC.is0 (bb_rs ?_)
  generalize tpF S 0 0 = S0 at hC0 h0 ⊢
  have p8 := hC0.wt.2.1
  refine g_pers hC0.xc hC0.tt hC0.wt h0 (fun _ _ => rfl) (fun _ => if_pos rfl) (op_exc hC0 ⟨rfl, rfl⟩) (fun p hp e => ?_)
  subst e
  dsimp only
  refine bb_rn i10 ?_
  refine bb_c (Q := fun o o' => o'.1 = o.1 ∧ o.2 = h ∧ o'.2 = S0) ?_ ?_
  · refine bb_loop T.1.2.1 (fun k st st' => st'.1 = st.1 ∧ st.2.1 = iv k ∧ st'.2.1 = iv k ∧ st.2.2 = h ∧ st'.2.2 = S0) ⟨rfl, rfl, rfl, rfl, rfl⟩ ?_ ?_ (by omega) (by omega)
    · rintro k ⟨v, i, h1⟩ ⟨v', i', S1⟩ hk ⟨i1, i2, i3, i4, i5⟩
      dsimp only at i1 i2 i3 i4 i5 ⊢
      subst i1 i2 i3 i4 i5
      have z1 := iv_stop hk (by omega)
      have z2 : ¬ iv k ≥ S1.1 2 := by rw [hC0.tt.2.1]; exact z1
      have f1 := hC0.xc.town
      have f2 := hC0.xc.tv.is1
      have f3 := hC0.xc.tv.people
      have f4 := hC0.f2
      have f5 := hC0.sv.a2
      have f6 := hC0.sv.heel hC0.wt hk
      have f7 := hC0.sv.heel hC0.wt hp
      have f8 : trd S1 41 ((27 : Int32) + iv k) = some _ := row0_rd (a := 27) rfl (by omega)
      have f9 : trd S1 41 ((27 : Int32) + iv p) = some _ := row0_rd (a := 27) rfl (by omega)
      unfold k_X1_larger_L9 f_larger_L19
      repeat (with_reducible first | refine bb_ls ?_ | refine bb_rs ?_ | refine bb_l (by assumption) ?_ | refine bb_r (by assumption) ?_ | refine bb_lp (by assumption) ?_ | refine bb_ln (by assumption) ?_ | refine bb_rp (by assumption) ?_ | refine bb_rn (by assumption) ?_)
      refine bb_if2 Iff.rfl (fun z _ => ?_) (fun z _ => ?_)
      · repeat (with_reducible first | refine bb_ls ?_ | refine bb_rs ?_ | refine bb_l (by assumption) ?_ | refine bb_r (by assumption) ?_ | refine bb_lp (by assumption) ?_ | refine bb_ln (by assumption) ?_ | refine bb_rp (by assumption) ?_ | refine bb_rn (by assumption) ?_)
        exact bb_s ⟨Int32.add_zero _, iv_succ k, iv_succ k, rfl, rfl⟩
      · repeat (with_reducible first | refine bb_ls ?_ | refine bb_rs ?_ | refine bb_l (by assumption) ?_ | refine bb_r (by assumption) ?_ | refine bb_lp (by assumption) ?_ | refine bb_ln (by assumption) ?_ | refine bb_rp (by assumption) ?_ | refine bb_rn (by assumption) ?_)
        exact bb_s ⟨rfl, iv_succ k, iv_succ k, rfl, rfl⟩
    · rintro ⟨v, i, h1⟩ ⟨v', i', S1⟩ ⟨i1, i2, i3, i4, i5⟩
      dsimp only at i1 i2 i3 i4 i5 ⊢
      subst i1 i2 i3 i4 i5
      have z1 := iv_end (N := T.1.2.1) (by omega)
      have z2 : iv T.1.2.1 ≥ S1.1 2 := by rw [hC0.tt.2.1]; exact z1
      have f1 := hC0.xc.town
      have f2 := hC0.xc.tv.is1
      have f3 := hC0.xc.tv.people
      unfold k_X1_larger_L9 f_larger_L19
      repeat (with_reducible first | refine bb_ls ?_ | refine bb_rs ?_ | refine bb_l (by assumption) ?_ | refine bb_r (by assumption) ?_ | refine bb_lp (by assumption) ?_ | refine bb_ln (by assumption) ?_ | refine bb_rp (by assumption) ?_ | refine bb_rn (by assumption) ?_)
      exact bb_s ⟨rfl, rfl, rfl⟩
  · rintro ⟨v, h1⟩ ⟨v', S1⟩ ⟨q1, q2, q3⟩
    dsimp only at q1 q2 q3 ⊢
    subst q2 q3
    exact bb_s (op_vr hC0 Vr.rfl h0 q1)
theorem op_wide (hC : CIx x t hi T s r la ls c h S) (hn : 4000 < n) (a1 : Int32) : Both (k_X1_wide n x a1 h) (f_wide n a1 S) (OP cdI x c h) := by
  have hC0 := hC.tl (TL.thr (v := 0))
  have h0 : (tpF S 0 0).1 0 = 0 := rfl
  unfold k_X1_wide f_wide
  refine bb_rs ?_
  generalize tpF S 0 0 = S0 at hC0 h0 ⊢
  have h8 := hC0.wt.1
  refine g_right (lo := 1) (up := 60) rfl rfl (by decide) (by decide) i10 h0 (fun _ _ => rfl) (fun _ => if_pos rfl) (op_exc hC0 ⟨rfl, rfl⟩) (fun z _ _ e => ?_)
  dsimp only
  refine bb_rn i10 ?_
  refine bb_c (Q := fun o o' => o'.1 = o.1 ∧ o.2 = h ∧ o'.2 = S0) ?_ ?_
  · refine bb_loop T.1.1 (fun k st st' => st'.1 = st.1 ∧ st.2.1 = iv k ∧ st'.2.1 = iv k ∧ st.2.2 = h ∧ st'.2.2 = S0) ⟨rfl, rfl, rfl, rfl, rfl⟩ ?_ ?_ (by omega) (by omega)
    · rintro k ⟨v, i, h1⟩ ⟨v', i', S1⟩ hk ⟨i1, i2, i3, i4, i5⟩
      dsimp only at i1 i2 i3 i4 i5 ⊢
      subst i1 i2 i3 i4 i5
      have z1 := iv_stop hk (by omega)
      have z2 : ¬ iv k ≥ S1.1 1 := by rw [hC0.tt.1]; exact z1
      have f1 := hC0.xc.town
      have f2 := hC0.xc.tv.is1
      have f3 := hC0.xc.tv.houses
      have f4 := hC0.f2
      have f5 := hC0.sv.a0
      have f6 := hC0.sv.size hC0.wt hk
      have f7 := hC0.sv.burst
      have f8 : trd S1 41 ((3 : Int32) + iv k) = some _ := row0_rd (a := 3) rfl (by omega)
      have f9 : f_isBurst 0 (iv k) S1 = some (m_isb (trow S1 0) k) := isBurst_is (r := 0) (by decide)
      have f10 := isOf_is (w := trow S1 0) (h := h1) (k := k)
      unfold k_X1_wide_L14 f_wide_L26
      repeat (with_reducible first | refine bb_ls ?_ | refine bb_rs ?_ | refine bb_l (by assumption) ?_ | refine bb_r (by assumption) ?_ | refine bb_lp (by assumption) ?_ | refine bb_ln (by assumption) ?_ | refine bb_rp (by assumption) ?_ | refine bb_rn (by assumption) ?_)
      refine bb_if2 Iff.rfl (fun z _ => ?_) (fun z _ => ?_)
      · repeat (with_reducible first | refine bb_ls ?_ | refine bb_rs ?_ | refine bb_l (by assumption) ?_ | refine bb_r (by assumption) ?_ | refine bb_lp (by assumption) ?_ | refine bb_ln (by assumption) ?_ | refine bb_rp (by assumption) ?_ | refine bb_rn (by assumption) ?_)
        refine bb_if2 Iff.rfl (fun z _ => ?_) (fun z _ => ?_)
        · repeat (with_reducible first | refine bb_ls ?_ | refine bb_rs ?_ | refine bb_l (by assumption) ?_ | refine bb_r (by assumption) ?_ | refine bb_lp (by assumption) ?_ | refine bb_ln (by assumption) ?_ | refine bb_rp (by assumption) ?_ | refine bb_rn (by assumption) ?_)
          exact bb_s ⟨Int32.or_zero, iv_succ k, iv_succ k, rfl, rfl⟩
        · repeat (with_reducible first | refine bb_ls ?_ | refine bb_rs ?_ | refine bb_l (by assumption) ?_ | refine bb_r (by assumption) ?_ | refine bb_lp (by assumption) ?_ | refine bb_ln (by assumption) ?_ | refine bb_rp (by assumption) ?_ | refine bb_rn (by assumption) ?_)
          exact bb_s ⟨rfl, iv_succ k, iv_succ k, rfl, rfl⟩
      · repeat (with_reducible first | refine bb_ls ?_ | refine bb_rs ?_ | refine bb_l (by assumption) ?_ | refine bb_r (by assumption) ?_ | refine bb_lp (by assumption) ?_ | refine bb_ln (by assumption) ?_ | refine bb_rp (by assumption) ?_ | refine bb_rn (by assumption) ?_)
        exact bb_s ⟨Int32.or_zero, iv_succ k, iv_succ k, rfl, rfl⟩
    · rintro ⟨v, i, h1⟩ ⟨v', i', S1⟩ ⟨i1, i2, i3, i4, i5⟩
      dsimp only at i1 i2 i3 i4 i5 ⊢
      subst i1 i2 i3 i4 i5
      have z1 := iv_end (N := T.1.1) (by omega)
      have z2 : iv T.1.1 ≥ S1.1 1 := by rw [hC0.tt.1]; exact z1
      have f1 := hC0.xc.town
      have f2 := hC0.xc.tv.is1
      have f3 := hC0.xc.tv.houses
      unfold k_X1_wide_L14 f_wide_L26
      repeat (with_reducible first | refine bb_ls ?_ | refine bb_rs ?_ | refine bb_l (by assumption) ?_ | refine bb_r (by assumption) ?_ | refine bb_lp (by assumption) ?_ | refine bb_ln (by assumption) ?_ | refine bb_rp (by assumption) ?_ | refine bb_rn (by assumption) ?_)
      exact bb_s ⟨rfl, rfl, rfl⟩
  · rintro ⟨v, h1⟩ ⟨v', S1⟩ ⟨q1, q2, q3⟩
    dsimp only at q1 q2 q3 ⊢
    subst q2 q3
    exact bb_s (op_vr hC0 Vr.rfl h0 q1)
end NOW
