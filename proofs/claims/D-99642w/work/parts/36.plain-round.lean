/-! the round, the game -/
set_option maxRecDepth 100000
section ROUND
variable {x t hi : Nat} {T : Tn} {s r la ls : Nat} {c : Nat → Value} {h h1 : XH} {S S1 : TS} {n g N : Nat} {w : Nat → Int32}
/-- y is the place of a house where it is tight for one of the first k people -/
def plk (T : Tn) (w : Nat → Int32) (k y : Nat) : Prop := ∃ p a, p < k ∧ p < T.1.2.1 ∧ a < T.1.1 ∧ w (19 + a) = iv p ∧ m_tight w p a ≠ 0 ∧ T.2.1 1 a = iv y
/-- the same by the first k houses -/
def plh (T : Tn) (w : Nat → Int32) (k y : Nat) : Prop := ∃ p a, a < k ∧ p < T.1.2.1 ∧ a < T.1.1 ∧ w (19 + a) = iv p ∧ m_tight w p a ≠ 0 ∧ T.2.1 1 a = iv y
theorem round_k (hC : CIx x t hi T s r la ls c h S) (hn : 4000 < n) {q : Nat} (hq : q ≤ 30) : Ok (xloop (fun s => k_X1_round_L17 n x (iv q) s.1 s.2.1 s.2.2.1 s.2.2.2) n (iv q, iv q, 0, h)) (fun o => ∃ L F, o.1 = iv L ∧ o.2.1 = iv F ∧ o.2.2 = h ∧ L ≤ q ∧ q ≤ F ∧ F ≤ 30 ∧ (L = q ∨ plk T (trow S 0) T.1.2.1 L) ∧ (F = q ∨ plk T (trow S 0) T.1.2.1 F) ∧ ∀ y, y ≤ 30 → plk T (trow S 0) T.1.2.1 y → L ≤ y ∧ y ≤ F) := by
  have h8 := hC.wt.1
  have p8 := hC.wt.2.1
  have f1 := hC.xc.town
  have f2 := hC.xc.tv.is1
  have f3 := hC.xc.tv.people
  have f4 := hC.is0
  have f5 := hC.xc.tv.l1
  have f6 := hC.f2
  have f7 := hC.sv.a3
  have f8 := hC.xc.tv.places.is10
  have hH := hC.wf.2.2.2.2.2.2.2
  refine ok_loop T.1.2.1 (fun k (st : Int32 × Int32 × Int32 × XH) => ∃ L F, st.1 = iv L ∧ st.2.1 = iv F ∧ st.2.2.1 = iv k ∧ st.2.2.2 = h ∧ L ≤ q ∧ q ≤ F ∧ F ≤ 30 ∧ (L = q ∨ plk T (trow S 0) k L) ∧ (F = q ∨ plk T (trow S 0) k F) ∧ ∀ y, y ≤ 30 → plk T (trow S 0) k y → L ≤ y ∧ y ≤ F) ⟨q, q, rfl, rfl, rfl, rfl, Nat.le_refl _, Nat.le_refl _, hq, Or.inl rfl, Or.inl rfl, fun y _ z => by obtain ⟨p, a, z, _⟩ := z; omega⟩ ?_ ?_ (by omega)
  · rintro k ⟨l, f, i, h2⟩ hk ⟨L, F, i1, i2, i3, i4, i5, i6, i7, i8, i9, i10⟩
    dsimp only at i1 i2 i3 i4 ⊢
    subst i1 i2 i3 i4
    have z1 := iv_stop hk (by omega)
    have g1 := tightOf_k hC hk
    have g2 := hC.sv.home hC.wt hk
    unfold k_X1_round_L17
    repeat (with_reducible first | refine ok_sb ?_ | refine ok_b (by assumption) ?_ | refine ok_pos (by assumption) ?_ | refine ok_neg (by assumption) ?_)
    have up : ∀ y, plk T (trow S 0) k y → plk T (trow S 0) (k + 1) y := fun y z => by
      obtain ⟨p, a, z1, z2⟩ := z
      exact ⟨p, a, by omega, z2⟩
    refine ok_if (fun z => ?_) (fun z => ?_)
    · repeat (with_reducible first | refine ok_sb ?_ | refine ok_b (by assumption) ?_ | refine ok_pos (by assumption) ?_ | refine ok_neg (by assumption) ?_)
      refine ok_s ⟨L, F, rfl, rfl, iv_succ k, rfl, i5, i6, i7, i8.imp id (up L), i9.imp id (up F), fun y hy z3 => i10 y hy ?_⟩
      obtain ⟨p, a, y1, y2, y3, y4, y5, y6⟩ := z3
      by_cases e : p = k
      · subst e
        have e2 := home_of hH (by omega) y3 y4
        unfold m_tnow at z
        rw [e2, if_neg (iv_ne_neg (by omega)), iv_nat (by omega)] at z
        exact absurd z y5
      · exact ⟨p, a, by omega, y2, y3, y4, y5, y6⟩
    · rcases home_cases (T := T) (w := trow S 0) k with ⟨a, a1, a2, a3⟩ | ⟨a1, a2⟩
      · have zt : m_tight (trow S 0) k a ≠ 0 := by
          unfold m_tnow at z
          rw [a3, if_neg (iv_ne_neg (by omega)), iv_nat (by omega)] at z
          exact z
        rw [a3] at g2
        obtain ⟨u, u1, u2, u3⟩ := hC.xc.tv.places.get a1
        obtain ⟨P, P1, P2⟩ := hC.wt.2.2.2.2.1 a a1
        repeat (with_reducible first | refine ok_sb ?_ | refine ok_b (by assumption) ?_ | refine ok_pos (by assumption) ?_ | refine ok_neg (by assumption) ?_)
        rw [P1, imin_iv (by omega) (by omega), imax_iv (by omega) (by omega)]
        have new : plk T (trow S 0) (k + 1) P := ⟨k, a, by omega, hk, a1, a2, zt, P1⟩
        refine ok_s ⟨min L P, max F P, rfl, rfl, iv_succ k, rfl, by omega, by omega, by omega, ?_, ?_, fun y hy z3 => ?_⟩
        · rcases Nat.le_total L P with e | e
          · rw [Nat.min_eq_left e]; exact i8.imp id (up L)
          · rw [Nat.min_eq_right e]; exact Or.inr new
        · rcases Nat.le_total F P with e | e
          · rw [Nat.max_eq_right e]; exact Or.inr new
          · rw [Nat.max_eq_left e]; exact i9.imp id (up F)
        · obtain ⟨p, b, y1, y2, y3, y4, y5, y6⟩ := z3
          by_cases e : p = k
          · subst e
            have e2 := home_of hH (by omega) y3 y4
            rw [a3] at e2
            have e3 := (iv_inj (by omega) (by omega)).mp e2
            subst e3
            rw [P1] at y6
            have := (iv_inj (by omega) (by omega)).mp y6
            omega
          · have := i10 y hy ⟨p, b, by omega, y2, y3, y4, y5, y6⟩
            omega
      · unfold m_tnow at z
        rw [a2, if_pos rfl] at z
        exact absurd rfl z
  · rintro ⟨l, f, i, h2⟩ ⟨L, F, i1, i2, i3, i4, i5, i6, i7, i8, i9, i10⟩
    dsimp only at i1 i2 i3 i4 ⊢
    subst i1 i2 i3 i4
    have z1 := iv_end (N := T.1.2.1) (by omega)
    unfold k_X1_round_L17
    repeat (with_reducible first | refine ok_sb ?_ | refine ok_b (by assumption) ?_ | refine ok_pos (by assumption) ?_ | refine ok_neg (by assumption) ?_)
    exact ok_s ⟨L, F, rfl, rfl, rfl, i5, i6, i7, i8, i9, i10⟩
theorem round_f (hC : CIx x t hi T s r la ls c h S) (hn : 4000 < n) (q : Int32) : Ok (xloop (fun s => f_round_L31 n q s.1 s.2.1 s.2.2.1 s.2.2.2) n (99999, (-1), 0, S)) (fun o => o.2.2 = S ∧ ((o.2.1 = (-1) ∧ ∀ y, y ≤ 30 → ¬ plh T (trow S 0) T.1.1 y) ∨ ∃ lo up, o.1 = iv lo ∧ o.2.1 = iv up ∧ lo ≤ up ∧ up ≤ 30 ∧ plh T (trow S 0) T.1.1 lo ∧ plh T (trow S 0) T.1.1 up ∧ ∀ y, y ≤ 30 → plh T (trow S 0) T.1.1 y → lo ≤ y ∧ y ≤ up)) := by
  have h8 := hC.wt.1
  have p8 := hC.wt.2.1
  have f5 : S.1 1 = iv T.1.1 := hC.tt.1
  refine ok_loop T.1.1 (fun k (st : Int32 × Int32 × Int32 × TS) => st.2.2.1 = iv k ∧ st.2.2.2 = S ∧ ((st.1 = 99999 ∧ st.2.1 = (-1) ∧ ∀ y, y ≤ 30 → ¬ plh T (trow S 0) k y) ∨ ∃ lo up, st.1 = iv lo ∧ st.2.1 = iv up ∧ lo ≤ up ∧ up ≤ 30 ∧ plh T (trow S 0) k lo ∧ plh T (trow S 0) k up ∧ ∀ y, y ≤ 30 → plh T (trow S 0) k y → lo ≤ y ∧ y ≤ up)) ⟨rfl, rfl, Or.inl ⟨rfl, rfl, fun y _ z => by obtain ⟨p, a, z, _⟩ := z; omega⟩⟩ ?_ ?_ (by omega)
  · rintro k ⟨l, f, i, S2⟩ hk ⟨i1, i2, i3⟩
    dsimp only at i1 i2 i3 ⊢
    subst i1 i2
    have z1 : ¬ iv k ≥ S2.1 1 := by rw [f5]; exact iv_stop hk (by omega)
    have g1 : trd S2 41 ((19 : Int32) + iv k) = some _ := row0_rd (a := 19) rfl (by omega)
    have up : ∀ y, plh T (trow S2 0) k y → plh T (trow S2 0) (k + 1) y := fun y z => by
      obtain ⟨p, a, z1, z2⟩ := z
      exact ⟨p, a, by omega, z2⟩
    -- nothing new at this house
    have stay : (∀ y, plh T (trow S2 0) (k + 1) y → plh T (trow S2 0) k y) → ((l = 99999 ∧ f = (-1) ∧ ∀ y, y ≤ 30 → ¬ plh T (trow S2 0) (k + 1) y) ∨ ∃ lo up, l = iv lo ∧ f = iv up ∧ lo ≤ up ∧ up ≤ 30 ∧ plh T (trow S2 0) (k + 1) lo ∧ plh T (trow S2 0) (k + 1) up ∧ ∀ y, y ≤ 30 → plh T (trow S2 0) (k + 1) y → lo ≤ y ∧ y ≤ up) := by
      intro hd
      rcases i3 with ⟨a, b, c⟩ | ⟨lo, u, a, b, c, d, e, f, g⟩
      · exact Or.inl ⟨a, b, fun y hy z => c y hy (hd y z)⟩
      · exact Or.inr ⟨lo, u, a, b, c, d, up _ e, up _ f, fun y hy z => g y hy (hd y z)⟩
    unfold f_round_L31
    repeat (with_reducible first | refine ok_sb ?_ | refine ok_b (by assumption) ?_ | refine ok_pos (by assumption) ?_ | refine ok_neg (by assumption) ?_)
    refine ok_if (fun z => ?_) (fun z => ?_)
    · repeat (with_reducible first | refine ok_sb ?_ | refine ok_b (by assumption) ?_ | refine ok_pos (by assumption) ?_ | refine ok_neg (by assumption) ?_)
      refine ok_s ⟨iv_succ k, rfl, stay (fun y z3 => ?_)⟩
      obtain ⟨p, a, y1, y2, y3, y4, y5, y6⟩ := z3
      by_cases e : a = k
      · subst e
        rw [z] at y4
        exact absurd y4.symm (iv_ne_neg (by omega))
      · exact ⟨p, a, by omega, y2, y3, y4, y5, y6⟩
    · rcases hC.wf.2.2.2.2.2.2.2.1 k hk with y | ⟨p, hp, y⟩
      · exact absurd y z
      · rw [y]
        have g2 : f_tightOf 0 (iv p) (iv k) S2 = some (m_tight (trow S2 0) p k) := tightOf_is (r := 0) (by decide) (by omega) (by omega)
        repeat (with_reducible first | refine ok_sb ?_ | refine ok_b (by assumption) ?_ | refine ok_pos (by assumption) ?_ | refine ok_neg (by assumption) ?_)
        refine ok_if (fun u => ?_) (fun u => ?_)
        · repeat (with_reducible first | refine ok_sb ?_ | refine ok_b (by assumption) ?_ | refine ok_pos (by assumption) ?_ | refine ok_neg (by assumption) ?_)
          refine ok_s ⟨iv_succ k, rfl, stay (fun y z3 => ?_)⟩
          obtain ⟨p', a, y1, y2, y3, y4, y5, y6⟩ := z3
          by_cases e : a = k
          · subst e
            rw [y4] at y
            have := (iv_inj (by omega) (by omega)).mp y
            subst this
            exact absurd u y5
          · exact ⟨p', a, by omega, y2, y3, y4, y5, y6⟩
        · obtain ⟨P, P1, P2⟩ := hC.wt.2.2.2.2.1 k hk
          have g3 : trd S2 7 (iv k) = some (iv P) := by rw [trd_nat (i := 7) (show k < 8 by omega), hC.tt.2.2.2.2.1, P1]
          have g4 : f_lesser l (iv P) = some (ilow l (iv P)) := lesser_is _ _
          have new : plh T (trow S2 0) (k + 1) P := ⟨p, k, by omega, hp, hk, y, u, P1⟩
          have split : ∀ y, y ≤ 30 → plh T (trow S2 0) (k + 1) y → plh T (trow S2 0) k y ∨ y = P := by
            intro v hv z3
            obtain ⟨p', a, y1, y2, y3, y4, y5, y6⟩ := z3
            by_cases e : a = k
            · subst e
              rw [P1] at y6
              exact Or.inr ((iv_inj (by omega) (by omega)).mp y6).symm
            · exact Or.inl ⟨p', a, by omega, y2, y3, y4, y5, y6⟩
          repeat (with_reducible first | refine ok_sb ?_ | refine ok_b (by assumption) ?_ | refine ok_pos (by assumption) ?_ | refine ok_neg (by assumption) ?_)
          rcases i3 with ⟨a, b, c⟩ | ⟨lo, v, a, b, c, d, e, f', g'⟩
          · subst a b
            refine ok_neg (iv_gt_neg (by omega)) ?_
            repeat (with_reducible first | refine ok_sb ?_ | refine ok_b (by assumption) ?_ | refine ok_pos (by assumption) ?_ | refine ok_neg (by assumption) ?_)
            rw [show (99999 : Int32) = iv 99999 from rfl, ilow_iv (by omega) (by omega), show min 99999 P = P by omega]
            refine ok_s ⟨iv_succ k, rfl, Or.inr ⟨P, P, rfl, rfl, Nat.le_refl _, P2, new, new, fun y hy z3 => ?_⟩⟩
            rcases split y hy z3 with z4 | z4
            · exact absurd z4 (c y hy)
            · omega
          · subst a b
            rw [ilow_iv (by omega) (by omega)]
            have lows : plh T (trow S2 0) (k + 1) (min lo P) := by
              rcases Nat.le_total lo P with q | q
              · rw [Nat.min_eq_left q]; exact up _ e
              · rw [Nat.min_eq_right q]; exact new
            refine ok_if (fun q => ?_) (fun q => ?_)
            · have q2 := (iv_le (by omega) (by omega)).mp q
              repeat (with_reducible first | refine ok_sb ?_ | refine ok_b (by assumption) ?_ | refine ok_pos (by assumption) ?_ | refine ok_neg (by assumption) ?_)
              refine ok_s ⟨iv_succ k, rfl, Or.inr ⟨min lo P, v, rfl, rfl, by omega, d, lows, up _ f', fun y hy z3 => ?_⟩⟩
              rcases split y hy z3 with z4 | z4
              · have := g' y hy z4
                omega
              · omega
            · have q2 : ¬ P ≤ v := fun z => q ((iv_le (by omega) (by omega)).mpr z)
              repeat (with_reducible first | refine ok_sb ?_ | refine ok_b (by assumption) ?_ | refine ok_pos (by assumption) ?_ | refine ok_neg (by assumption) ?_)
              refine ok_s ⟨iv_succ k, rfl, Or.inr ⟨min lo P, P, rfl, rfl, by omega, P2, lows, new, fun y hy z3 => ?_⟩⟩
              rcases split y hy z3 with z4 | z4
              · have := g' y hy z4
                omega
              · omega
  · rintro ⟨l, f, i, S2⟩ ⟨i1, i2, i3⟩
    dsimp only at i1 i2 i3 ⊢
    subst i1 i2
    have z1 : iv T.1.1 ≥ S2.1 1 := by rw [f5]; exact iv_end (by omega)
    unfold f_round_L31
    repeat (with_reducible first | refine ok_sb ?_ | refine ok_b (by assumption) ?_ | refine ok_pos (by assumption) ?_ | refine ok_neg (by assumption) ?_)
    refine ok_s ⟨rfl, ?_⟩
    rcases i3 with ⟨a, b, c⟩ | i3
    · exact Or.inl ⟨b, c⟩
    · exact Or.inr i3
theorem op_round (hC : CIx x t hi T s r la ls c h S) (hn : 4000 < n) (a1 : Int32) : Both (k_X1_round n x a1 h) (f_round n a1 S) (OP cdI x c h) := by
  have hC0 := hC.tl (TL.thr (v := 0))
  have h0 : (tpF S 0 0).1 0 = 0 := rfl
  unfold k_X1_round f_round
  refine bb_rs ?_
  generalize tpF S 0 0 = S0 at hC0 h0 ⊢
  refine g_right (lo := 0) (up := 30) rfl rfl (by decide) (by decide) i10 h0 (fun _ _ => rfl) (fun _ => if_pos rfl) (op_exc hC0 ⟨rfl, rfl⟩) (fun q _ hq e => ?_)
  subst e
  dsimp only
  refine bb_rn i10 ?_
  refine bb_lc (round_k hC0 hn hq) ?_
  rintro ⟨l, f, h2⟩ ⟨L, F, i1, i2, i3, i5, i6, i7, i8, i9, i10'⟩
  dsimp only at i1 i2 i3 ⊢
  subst i1 i2 i3
  refine bb_rc (round_f hC0 hn (iv q)) ?_
  rintro ⟨l2, f2, S2⟩ ⟨j1, j2⟩
  dsimp only at j1 j2 ⊢
  subst j1
  have same : ∀ y, plk T (trow S2 0) T.1.2.1 y ↔ plh T (trow S2 0) T.1.1 y := fun y => ⟨fun ⟨p, a, z1, z2, z3, z4⟩ => ⟨p, a, z3, z2, z3, z4⟩, fun ⟨p, a, z1, z2, z3, z4⟩ => ⟨p, a, z2, z2, z3, z4⟩⟩
  have fin : ∀ v u, u = v → OP cdI x c h2 (.inl v, h2) (u, S2) := fun v u e => op_vr hC0 Vr.rfl h0 e
  have lhs : (iv F - iv L) + imin (iv F - iv q) (iv q - iv L) = iv (F - L + min (F - q) (q - L)) := by
    rw [iv_sub (by omega), iv_sub (by omega), iv_sub (by omega), imin_iv (by omega) (by omega), iv_add]
  rw [lhs]
  rcases j2 with ⟨k1, k2⟩ | ⟨lo, up, k1, k2, k3, k4, k5, k6, k7⟩
  · subst k1
    refine bb_rp rfl (bb_s (fin _ _ ?_))
    have eL : L = q := i8.elim id (fun z => absurd ((same _).mp z) (k2 _ (by omega)))
    have eF : F = q := i9.elim id (fun z => absurd ((same _).mp z) (k2 _ (by omega)))
    subst eL eF
    rw [show F - F + min (F - F) (F - F) = 0 by omega]
    rfl
  · subst k1 k2
    have e1 : f_off (iv q) (iv lo) = some (iv (max q lo - min q lo)) := off_iv (by omega) (by omega)
    have e2 : f_off (iv q) (iv up) = some (iv (max q up - min q up)) := off_iv (by omega) (by omega)
    have e3 : f_lesser (iv (max q lo - min q lo)) (iv (max q up - min q up)) = some (iv (min (max q lo - min q lo) (max q up - min q up))) := by rw [lesser_is, ilow_iv (by omega) (by omega)]
    refine bb_rn (iv_ne_neg (by omega)) ?_
    repeat (with_reducible first | refine bb_ls ?_ | refine bb_rs ?_ | refine bb_l (by assumption) ?_ | refine bb_r (by assumption) ?_ | refine bb_lp (by assumption) ?_ | refine bb_ln (by assumption) ?_ | refine bb_rp (by assumption) ?_ | refine bb_rn (by assumption) ?_)
    refine bb_s (fin _ _ ?_)
    rw [iv_sub k3, iv_add]
    have l1 := i10' lo (by omega) ((same _).mpr k5)
    have l2 := i10' up (by omega) ((same _).mpr k6)
    have l3 : L = q ∨ (lo ≤ L ∧ L ≤ up) := i8.imp id (fun z => k7 L (by omega) ((same _).mp z))
    have l4 : F = q ∨ (lo ≤ F ∧ F ≤ up) := i9.imp id (fun z => k7 F (by omega) ((same _).mp z))
    have : up - lo + min (max q lo - min q lo) (max q up - min q up) = F - L + min (F - q) (q - L) := by omega
    rw [this]
/-- what one gains -/
theorem gain_is {p o hh m e : Nat} (hC : CIx x t hi T s r la ls c h S) (hV : Vr h S h1 S1) (hn : 4000 < n) (hg : g = 90) (hp : p < T.1.2.1) (ho : o < T.1.2.1) (hh8 : hh < T.1.1) (hpo : p ≠ o) (hm : m < 2) (he : e < 2) {M E : Int32} (hM : M = iv m) (hE : E = iv e) : Both (k_X1_gain n g c x (iv p) (iv o) (iv hh) M E h1) (f_gains n (iv p) (iv o) (iv hh) M E S1) (fun a b => a.1 = b.1 ∧ Vr h S a.2 b.2) := by
  subst hM hE
  have h8 := hC.wt.1
  have p8 := hC.wt.2.1
  have f1 := hV.f2 hC
  have f2 := (hV.sv hC).is2
  have f3 := tight_is (hV.sv hC) hC.wf hC.wt hp hh8
  have f4 := tight_is (hV.sv hC) hC.wf hC.wt ho hh8
  have f5 := hV.tight hC hp hh8
  have f6 := hV.tight hC ho hh8
  have f7 := (hV.xc hC).is0
  obtain ⟨h2, S2, e1, e2, V2⟩ := hV.goes hC hp hh8 hn hg
  have g1 := V2.f2 hC
  have g2 := (V2.sv hC).is2
  have g3 := tight_is (V2.sv hC) hC.wf hC.wt hp hh8
  -- alone
  have al : Both (k_X1_gain_J58 n g c x (iv p) (iv hh) 1 h1) (f_gains_J53 n (iv p) (iv hh) (m_tight (trow S 0) p hh) S1) (fun a b => a.1 = b.1 ∧ Vr h S a.2 b.2) := by
    unfold k_X1_gain_J58 f_gains_J53
    refine bb_ln i10 (bb_l f7 ?_)
    have key : Both (k_X1_alone n g c x (iv p) (iv hh) h1) ((f_wouldGo n 0 (iv p) (iv hh) S1).bind fun r5 => if r5.1 = 0 then some ((-3), r5.2) else some (((20 : Int32) - ((2 : Int32) * m_tight (trow S 0) p hh)), r5.2)) (fun a b => a.1 = b.1 ∧ Vr h S a.2 b.2) := by
      unfold k_X1_alone
      repeat (with_reducible first | refine bb_ls ?_ | refine bb_rs ?_ | refine bb_l (by assumption) ?_ | refine bb_r (by assumption) ?_ | refine bb_lp (by assumption) ?_ | refine bb_ln (by assumption) ?_ | refine bb_rp (by assumption) ?_ | refine bb_rn (by assumption) ?_)
      refine bb_if2 Iff.rfl (fun _ _ => bb_s ⟨rfl, V2⟩) (fun _ _ => ?_)
      repeat (with_reducible first | refine bb_ls ?_ | refine bb_rs ?_ | refine bb_l (by assumption) ?_ | refine bb_r (by assumption) ?_ | refine bb_lp (by assumption) ?_ | refine bb_ln (by assumption) ?_ | refine bb_rp (by assumption) ?_ | refine bb_rn (by assumption) ?_)
      exact bb_s ⟨rfl, V2⟩
    obtain ⟨a, b, k1, k2, k3⟩ := key
    refine bb_l k1 ?_
    rw [k2]
    exact bb_s k3
  have no : Both (k_X1_gain_J58 n g c x (iv p) (iv hh) 0 h1) (some ((-5 : Int32), S1)) (fun a b => a.1 = b.1 ∧ Vr h S a.2 b.2) := by
    unfold k_X1_gain_J58
    exact bb_lp rfl (bb_s ⟨rfl, hV⟩)
  obtain ⟨A, A0, A1, A2, B0, B1, B2, A3, -⟩ := tight_iv hC.wf hp hh8
  obtain ⟨C, C0, C1, C2, D0, D1, D2, C3, -⟩ := tight_iv hC.wf ho hh8
  unfold k_X1_gain f_gains k_X1_gain_J53
  refine bb_if2 Iff.rfl (fun _ _ => bb_s ⟨rfl, hV⟩) (fun _ _ => ?_)
  repeat (with_reducible first | refine bb_ls ?_ | refine bb_rs ?_ | refine bb_l (by assumption) ?_ | refine bb_r (by assumption) ?_ | refine bb_lp (by assumption) ?_ | refine bb_ln (by assumption) ?_ | refine bb_rp (by assumption) ?_ | refine bb_rn (by assumption) ?_)
  have hc : e = 0 ∨ e = 1 := by omega
  rcases hc with rfl | rfl
  · refine bb_lp rfl (bb_rn (by decide) ?_)
    exact al
  · refine bb_ln (by decide) (bb_rp rfl ?_)
    rw [A3] at al
    rw [A3, C3]
    by_cases z1 : A - A0 < C - C0
    · refine bb_lp ((iv_lt (by omega) (by omega)).mpr z1) ?_
      refine bb_rn (fun z => by have := (iv_lt (by omega) (by omega)).mp z; omega) ?_
      refine bb_rn (fun z => by have := (iv_inj (by omega) (by omega)).mp z; omega) ?_
      exact al
    · refine bb_ln (fun z => z1 ((iv_lt (by omega) (by omega)).mp z)) ?_
      by_cases z2 : A - A0 = C - C0
      · refine bb_lp (by rw [z2]) ?_
        refine bb_rn (fun z => by have := (iv_lt (by omega) (by omega)).mp z; omega) ?_
        refine bb_rp (by rw [z2]) ?_
        by_cases z3 : p ≥ o
        · refine bb_lp ((iv_ge (by omega) (by omega)).mpr z3) (bb_rn (fun z => by have := (iv_ge (by omega) (by omega)).mp z; omega) ?_)
          exact no
        · refine bb_ln (fun z => z3 ((iv_ge (by omega) (by omega)).mp z)) (bb_rp ((iv_ge (by omega) (by omega)).mpr (by omega)) ?_)
          exact al
      · refine bb_ln (fun z => z2 ((iv_inj (by omega) (by omega)).mp z)) ?_
        refine bb_rp ((iv_lt (by omega) (by omega)).mpr (by omega)) ?_
        exact no
end ROUND
