/-! the game; damp in place of what is told: byDamp, years -/
set_option maxRecDepth 100000
theorem xl2 {σ ρ : Type} {f : σ → Option (σ ⊕ ρ)} {n : Nat} {s0 s1 s2 : σ} {r : ρ} (hn : 3 < n) (e0 : f s0 = some (.inl s1)) (e1 : f s1 = some (.inl s2)) (e2 : f s2 = some (.inr r)) : xloop f n s0 = some r := by
  obtain ⟨m, rfl⟩ : ∃ m, n = m + 3 := ⟨n - 3, by omega⟩
  rw [xloop_succ, e0]
  show xloop f (m + 2) s1 = _
  rw [xloop_succ, e1]
  show xloop f (m + 1) s2 = _
  rw [xloop_succ, e2]
  rfl
theorem xl4 {σ ρ : Type} {f : σ → Option (σ ⊕ ρ)} {n : Nat} {s0 s1 s2 s3 s4 : σ} {r : ρ} (hn : 5 < n) (e0 : f s0 = some (.inl s1)) (e1 : f s1 = some (.inl s2)) (e2 : f s2 = some (.inl s3)) (e3 : f s3 = some (.inl s4)) (e4 : f s4 = some (.inr r)) : xloop f n s0 = some r := by
  obtain ⟨m, rfl⟩ : ∃ m, n = m + 2 := ⟨n - 2, by omega⟩
  rw [xloop_succ, e0]
  show xloop f (m + 1) s1 = _
  rw [xloop_succ, e1]
  show xloop f m s2 = _
  exact xl2 (by omega) e2 e3 e4
section GAME
variable {x t hi : Nat} {T : Tn} {s r la ls : Nat} {c : Nat → Value} {h h1 : XH} {S S1 : TS} {n g N : Nat} {w : Nat → Int32}
theorem half {a b : Nat} (ha : a < 2) (hb : b < 2) : iv (2 * a + b) / 2 = iv a ∧ iv (2 * a + b) - iv (2 * a + b) / 2 * 2 = iv b ∧ (1 : Int32) - iv a = iv (1 - a) ∧ (1 : Int32) - iv b = iv (1 - b) := by
  have hc : (a = 0 ∨ a = 1) ∧ (b = 0 ∨ b = 1) := by omega
  obtain ⟨rfl | rfl, rfl | rfl⟩ := hc <;> decide
theorem game_step {p o hh a b m : Nat} {many first what : Int32} (hC : CIx x t hi T s r la ls c h S) (hV : Vr h S h1 S1) (hn : 4000 < n) (hg : g = 90) (hp : p < T.1.2.1) (ho : o < T.1.2.1) (hh8 : hh < T.1.1) (hpo : p ≠ o) (ha : a < 2) (hb : b < 2) (hm : many = iv m) (hm9 : m < 9) (hf : many = 0 ↔ first = (-1)) : ∃ m' f' h2 S2, k_X1_game_L52 n g c x (iv p) (iv o) (iv hh) what (iv a) many first (iv b) h1 = some (.inl (iv m', f', iv (b + 1), h2)) ∧ f_game_L68 n (iv p) (iv o) (iv hh) what many first (iv (2 * a + b)) S1 = some (.inl (iv m', f', iv (2 * a + b + 1), S2)) ∧ Vr h S h2 S2 ∧ m' ≤ m + 1 ∧ (iv m' = 0 ↔ f' = (-1)) := by
  subst hm
  obtain ⟨q1, q2, q3, q4⟩ := half ha hb
  have key : Both (k_X1_game_L52 n g c x (iv p) (iv o) (iv hh) what (iv a) (iv m) first (iv b) h1) (f_game_L68 n (iv p) (iv o) (iv hh) what (iv m) first (iv (2 * a + b)) S1) (fun u v => ∃ m' f' h2 S2, u = .inl (iv m', f', iv (b + 1), h2) ∧ v = .inl (iv m', f', iv (2 * a + b + 1), S2) ∧ Vr h S h2 S2 ∧ m' ≤ m + 1 ∧ (iv m' = 0 ↔ f' = (-1))) := by
    have z1 : ¬ iv b ≥ 2 := iv_stop (N := 2) hb (by decide)
    have z2 : ¬ iv (2 * a + b) ≥ 4 := iv_stop (N := 4) (by omega) (by decide)
    have f1 := (hV.xc hC).is0
    unfold k_X1_game_L52 f_game_L68
    repeat (with_reducible first | refine bb_ls ?_ | refine bb_rs ?_ | refine bb_l (by assumption) ?_ | refine bb_r (by assumption) ?_ | refine bb_lp (by assumption) ?_ | refine bb_ln (by assumption) ?_ | refine bb_rp (by assumption) ?_ | refine bb_rn (by assumption) ?_)
    rw [q2, q1]
    refine bb_c (gain_is hC hV hn hg hp ho hh8 hpo (m := 1 - a) (by omega) hb q3 rfl) ?_
    rintro ⟨v1, h2⟩ ⟨u1, S2⟩ ⟨e1, V2⟩
    dsimp only at e1 V2 ⊢
    subst e1
    have f2 := (V2.xc hC).is0
    refine bb_l f2 ?_
    refine bb_c (gain_is hC V2 hn hg hp ho hh8 hpo ha hb rfl rfl) ?_
    rintro ⟨v2, h3⟩ ⟨u2, S3⟩ ⟨e2, V3⟩
    dsimp only at e2 V3 ⊢
    subst e2
    have f3 := (V3.xc hC).is0
    refine bb_if2 Iff.rfl (fun _ _ => ?_) (fun _ _ => ?_)
    · repeat (with_reducible first | refine bb_ls ?_ | refine bb_rs ?_ | refine bb_l (by assumption) ?_ | refine bb_r (by assumption) ?_ | refine bb_lp (by assumption) ?_ | refine bb_ln (by assumption) ?_ | refine bb_rp (by assumption) ?_ | refine bb_rn (by assumption) ?_)
      exact bb_s ⟨m, first, h3, S3, by rw [iv_succ], by rw [iv_succ], V3, by omega, hf⟩
    · refine bb_l f3 ?_
      refine bb_c (gain_is hC V3 hn hg ho hp hh8 (Ne.symm hpo) (m := 1 - b) (by omega) ha q4 rfl) ?_
      rintro ⟨v3, h4⟩ ⟨u3, S4⟩ ⟨e3, V4⟩
      dsimp only at e3 V4 ⊢
      subst e3
      have f4 := (V4.xc hC).is0
      refine bb_l f4 ?_
      refine bb_c (gain_is hC V4 hn hg ho hp hh8 (Ne.symm hpo) hb ha rfl rfl) ?_
      rintro ⟨v4, h5⟩ ⟨u4, S5⟩ ⟨e4, V5⟩
      dsimp only at e4 V5 ⊢
      subst e4
      have nz : ∀ k, k < 10 → k ≠ 0 → ¬ iv k = 0 := fun k h1 h2 z => h2 ((iv_inj (b := 0) (by omega) (by omega)).mp z)
      refine bb_if2 Iff.rfl (fun _ _ => ?_) (fun _ _ => ?_)
      · refine bb_rs ?_
        refine bb_if2 hf (fun y _ => ?_) (fun y y2 => ?_)
        · repeat (with_reducible first | refine bb_ls ?_ | refine bb_rs ?_ | refine bb_l (by assumption) ?_ | refine bb_r (by assumption) ?_ | refine bb_lp (by assumption) ?_ | refine bb_ln (by assumption) ?_ | refine bb_rp (by assumption) ?_ | refine bb_rn (by assumption) ?_)
          refine bb_s ⟨m + 1, (10 : Int32) * iv a + iv b, h5, S5, by rw [iv_succ, iv_succ], by rw [iv_succ, iv_succ], V5, by omega, ⟨fun z => absurd z (nz _ (by omega) (by omega)), fun z => ?_⟩⟩
          rw [show (10 : Int32) = iv 10 from rfl, iv_mul, iv_add] at z
          exact absurd z (iv_ne_neg (by omega))
        · repeat (with_reducible first | refine bb_ls ?_ | refine bb_rs ?_ | refine bb_l (by assumption) ?_ | refine bb_r (by assumption) ?_ | refine bb_lp (by assumption) ?_ | refine bb_ln (by assumption) ?_ | refine bb_rp (by assumption) ?_ | refine bb_rn (by assumption) ?_)
          exact bb_s ⟨m + 1, first, h5, S5, by rw [iv_succ, iv_succ], by rw [iv_succ, iv_succ], V5, by omega, ⟨fun z => absurd z (nz _ (by omega) (by omega)), fun z => absurd z y2⟩⟩
      · repeat (with_reducible first | refine bb_ls ?_ | refine bb_rs ?_ | refine bb_l (by assumption) ?_ | refine bb_r (by assumption) ?_ | refine bb_lp (by assumption) ?_ | refine bb_ln (by assumption) ?_ | refine bb_rp (by assumption) ?_ | refine bb_rn (by assumption) ?_)
        exact bb_s ⟨m, first, h5, S5, by rw [iv_succ], by rw [iv_succ], V5, by omega, hf⟩
  obtain ⟨u, v, e1, e2, m', f', h2, S2, rfl, rfl, k⟩ := key
  exact ⟨m', f', h2, S2, e1, e2, k⟩
theorem op_game (hC : CIx x t hi T s r la ls c h S) (hn : 4000 < n) (hg : g = 90) (a1 a2 a3 a4 : Int32) : Both (k_X1_game n g c x a1 a2 a3 a4 h) (f_game n a1 a2 a3 a4 S) (OP cdB x c h) := by
  have hC0 := hC.tl (TL.thr (v := 0))
  have h0 : (tpF S 0 0).1 0 = 0 := rfl
  unfold k_X1_game f_game
  refine bb_l hC.is0 (bb_rs ?_)
  generalize tpF S 0 0 = S0 at hC0 h0 ⊢
  have p8 := hC0.wt.2.1
  refine g_pers hC0.xc hC0.tt hC0.wt h0 (fun _ _ => rfl) (fun _ => if_pos rfl) (op_exc hC0 (Or.inl ⟨rfl, rfl⟩)) (fun p hp e => ?_)
  subst e
  dsimp only
  refine bb_l hC0.is0 (bb_rn i10 ?_)
  refine g_pers hC0.xc hC0.tt hC0.wt h0 (fun _ _ => rfl) (fun _ => if_pos rfl) (op_exc hC0 (Or.inl ⟨rfl, rfl⟩)) (fun o ho e => ?_)
  subst e
  dsimp only
  refine bb_l hC0.is0 (bb_rn i10 ?_)
  refine g_house hC0.xc hC0.tt hC0.wt h0 (fun _ _ => rfl) (fun _ => if_pos rfl) (op_exc hC0 (Or.inl ⟨rfl, rfl⟩)) (fun hh hh8 e => ?_)
  subst e
  dsimp only
  refine bb_rn i10 ?_
  refine g_what (N := 1) rfl (by decide) h0 (fun _ _ => rfl) (fun _ => if_pos rfl) (op_exc hC0 (Or.inl ⟨rfl, rfl⟩)) (fun q hq e => ?_)
  dsimp only
  refine bb_rn i10 ?_
  refine bb_if2 Iff.rfl (fun _ _ => ?_) (fun z _ => ?_)
  · unfold k_X1_game_J31 f_game_J50
    refine bb_l kright_bad (bb_r (right_bad h0 (by decide)) (bb_rp rfl ?_))
    exact bb_s (op_exc hC0 (Or.inr ⟨rfl, rfl⟩))
  · have hpo : p ≠ o := fun y => z (by rw [y])
    unfold k_X1_game_J31 f_game_J50
    refine bb_l kright_good (bb_r (right_good h0) (bb_rn i10 ?_))
    dsimp only
    have G := fun {h1 S1 a b m many first} => @game_step x t hi T s r la ls c h h1 S0 S1 n g p o hh a b m many first a4 hC0
    obtain ⟨m1, f1, h1, S1, e1, e1', V1, b1, c1⟩ := G (Vr.rfl) hn hg hp ho hh8 hpo (a := 0) (b := 0) (by decide) (by decide) (m := 0) (many := 0) (first := -1) rfl (by decide) ⟨fun _ => rfl, fun _ => rfl⟩
    obtain ⟨m2, f2, h2, S2, e2, e2', V2, b2, c2⟩ := G V1 hn hg hp ho hh8 hpo (a := 0) (b := 1) (by decide) (by decide) (m := m1) rfl (by omega) c1
    obtain ⟨m3, f3, h3, S3, e3, e3', V3, b3, c3⟩ := G V2 hn hg hp ho hh8 hpo (a := 1) (b := 0) (by decide) (by decide) (m := m2) rfl (by omega) c2
    obtain ⟨m4, f4, h4, S4, e4, e4', V4, b4, c4⟩ := G V3 hn hg hp ho hh8 hpo (a := 1) (b := 1) (by decide) (by decide) (m := m3) rfl (by omega) c3
    have stopk : ∀ a m f hx, k_X1_game_L52 n g c x (iv p) (iv o) (iv hh) a4 a m f (iv 2) hx = some (.inr (m, f, hx)) := by
      intro a m f hx
      unfold k_X1_game_L52
      rw [if_pos (show iv 2 ≥ 2 by decide)]
    have in0 : xloop (fun q => k_X1_game_L52 n g c x (iv p) (iv o) (iv hh) a4 0 q.1 q.2.1 q.2.2.1 q.2.2.2) n (0, (-1), 0, h) = some (iv m2, f2, h2) := xl2 (by omega) e1 e2 (stopk _ _ _ _)
    have in1 : xloop (fun q => k_X1_game_L52 n g c x (iv p) (iv o) (iv hh) a4 1 q.1 q.2.1 q.2.2.1 q.2.2.2) n (iv m2, f2, 0, h2) = some (iv m4, f4, h4) := xl2 (by omega) e3 e4 (stopk _ _ _ _)
    have o0 : k_X1_game_L43 n g c x (iv p) (iv o) (iv hh) a4 0 (-1) 0 h = some (.inl (iv m2, f2, 1, h2)) := by
      unfold k_X1_game_L43
      rw [if_neg (by decide), in0]
      rfl
    have o1 : k_X1_game_L43 n g c x (iv p) (iv o) (iv hh) a4 (iv m2) f2 1 h2 = some (.inl (iv m4, f4, 2, h4)) := by
      unfold k_X1_game_L43
      rw [if_neg (by decide), in1]
      rfl
    have o2 : k_X1_game_L43 n g c x (iv p) (iv o) (iv hh) a4 (iv m4) f4 2 h4 = some (.inr (iv m4, f4, h4)) := by
      unfold k_X1_game_L43
      rw [if_pos (by decide)]
    have ko : xloop (fun q => k_X1_game_L43 n g c x (iv p) (iv o) (iv hh) a4 q.1 q.2.1 q.2.2.1 q.2.2.2) n (0, (-1), 0, h) = some (iv m4, f4, h4) := xl2 (by omega) o0 o1 o2
    have t4 : f_game_L68 n (iv p) (iv o) (iv hh) a4 (iv m4) f4 (iv 4) S4 = some (.inr (iv m4, f4, S4)) := by
      unfold f_game_L68
      rw [if_pos (show iv 4 ≥ 4 by decide)]
    have fo : xloop (fun q => f_game_L68 n (iv p) (iv o) (iv hh) a4 q.1 q.2.1 q.2.2.1 q.2.2.2) n (0, (-1), 0, S0) = some (iv m4, f4, S4) := xl4 (by omega) e1' e2' e3' e4' t4
    refine bb_l ko (bb_r fo ?_)
    dsimp only
    exact bb_if2 Iff.rfl (fun _ _ => bb_s (op_vr hC0 V4 h0 rfl)) (fun _ _ => bb_s (op_vr hC0 V4 h0 rfl))
/-- the twin's fields but damp in place, seed -/
def t46 (S S1 : TS) : Prop := (∀ i, i ≠ 46 → i ≠ 55 → S1.1 i = S.1 i) ∧ (∀ i, i ≠ 41 → i ≠ 44 → i ≠ 45 → S1.2.2 i = S.2.2 i) ∧ ∀ j, j < 43 → S1.2.2 41 j = S.2.2 41 j
theorem t46.rfl : t46 S S := ⟨fun _ _ _ => Eq.refl _, fun _ _ _ _ => Eq.refl _, fun _ _ => Eq.refl _⟩
theorem t46.rest {S2 : TS} (a : t46 S S1) (b : trest 43 S1 S2) : t46 S S2 := ⟨fun i h1 h2 => by rw [b.1]; exact a.1 i h1 h2, fun i h1 h2 h3 => (b.2.2.1 i h1 h2 h3).trans (a.2.1 i h1 h2 h3), fun j hj => (b.2.2.2 j (by omega)).trans (a.2.2 j hj)⟩
theorem t46.damp {v : Int32} (a : t46 S S1) : t46 S (tpF S1 46 v) := ⟨fun i h1 h2 => (if_neg h1).trans (a.1 i h1 h2), a.2.1, a.2.2⟩
theorem t46.seed {v : Int32} (a : t46 S S1) : t46 S (tpF S1 55 v) := ⟨fun i h1 h2 => (if_neg h2).trans (a.1 i h1 h2), a.2.1, a.2.2⟩
theorem t46.tt (a : t46 S S1) (hT : TT S T) : TT S1 T := hT.of (fun i h1 h2 => a.1 i (by omega) (by omega)) (fun i h1 h2 => a.2.1 i (by omega) (by omega) (by omega))
theorem t46.tl (a : t46 S S1) (h : S1.1 46 = S.1 46) : TL S S1 := ⟨fun i hi => by
  by_cases z : i = 46
  · rw [z]; exact h
  · exact a.1 i z (by omega), fun i hi => a.2.1 i (by omega) (by omega) (by omega), a.2.2⟩
theorem t46.row0 (a : t46 S S1) : trow S1 0 = pup (trow S 0) 43 (S1.1 46) := by
  funext k
  show (if k < 43 then S1.2.2 41 (0 + k) else if k = 43 then S1.1 46 else 0) = if k = 43 then S1.1 46 else (if k < 43 then S.2.2 41 (0 + k) else if k = 43 then S.1 46 else 0)
  by_cases q : k < 43
  · rw [if_pos q, if_neg (by omega), if_pos q, Nat.zero_add]
    exact a.2.2 k q
  · rw [if_neg q, if_neg q]
    by_cases z : k = 43
    · rw [if_pos z, if_pos z]
    · rw [if_neg z, if_neg z, if_neg z]
theorem trow_damp {b : Nat} {v : Int32} : trow (tpF S 46 v) b = pup (trow S b) 43 v := by
  funext k
  show (if k < 43 then S.2.2 41 (b + k) else if k = 43 then (if 46 = 46 then v else S.1 46) else 0) = if k = 43 then v else (if k < 43 then S.2.2 41 (b + k) else if k = 43 then S.1 46 else 0)
  by_cases q : k < 43
  · rw [if_pos q, if_neg (by omega), if_pos q]
  · rw [if_neg q, if_neg q]
    by_cases z : k = 43
    · rw [if_pos z, if_pos z, if_pos rfl]
    · rw [if_neg z, if_neg z, if_neg z]
theorem trow_seed {b : Nat} {v : Int32} : trow (tpF S 55 v) b = trow S b := by
  funext k
  show (if k < 43 then S.2.2 41 (b + k) else if k = 43 then (if 46 = 55 then v else S.1 46) else 0) = (if k < 43 then S.2.2 41 (b + k) else if k = 43 then S.1 46 else 0)
  rw [show (if (46 : Nat) = 55 then v else S.1 46) = S.1 46 from if_neg (by decide)]
/-- both second streets at w, but for damp in place -/
def Td (x r : Nat) (T : Tn) (h : XH) (S : TS) (w : Nat → Int32) (h1 : XH) (S1 : TS) : Prop := Fq (Wst r) h h1 ∧ SV x T h1 r w ∧ trow S1 43 = pup w 43 (S1.1 46) ∧ t46 S S1
theorem op_byDamp (hC : CIx x t hi T s r la ls c h S) (hn : 4000 < n) (hg : g = 90) (a1 a2 a3 : Int32) : Both (k_X1_byDamp n g c x a1 a2 a3 h) (f_byDamp n a1 a2 a3 S) (OP cdB x c h) := by
  have hC0 := hC.tl (TL.thr (v := 0))
  have h0 : (tpF S 0 0).1 0 = 0 := rfl
  unfold k_X1_byDamp f_byDamp
  refine bb_l hC.is0 (bb_rs ?_)
  generalize tpF S 0 0 = S0 at hC0 h0 ⊢
  have h8 := hC0.wt.1
  have p8 := hC0.wt.2.1
  refine g_house hC0.xc hC0.tt hC0.wt h0 (fun _ _ => rfl) (fun _ => if_pos rfl) (op_exc hC0 (Or.inl ⟨rfl, rfl⟩)) (fun hh hh8 e => ?_)
  subst e
  dsimp only
  refine bb_rn i10 ?_
  have bad : Both (k_X1_byDamp_J28 n g c x (iv hh) a2 a3 h) (f_byDamp_J37 n (iv hh) a2 a3 S0) (OP cdB x c h) := by
    unfold k_X1_byDamp_J28 f_byDamp_J37 f_byDamp_J38
    refine bb_l kright_bad (bb_r (right_bad h0 (by decide)) (bb_rp rfl ?_))
    exact bb_s (op_exc hC0 (Or.inr ⟨rfl, rfl⟩))
  refine bb_l in_k (bb_r in_f ?_)
  refine bb_if2 Iff.rfl (fun _ _ => bad) (fun z _ => ?_)
  have z2 := (in_01 a2 1 5).resolve_left z
  obtain ⟨d, rfl, d1, d5⟩ := in_iv (a := 1) (b := 5) (by decide) (by decide) z2
  refine bb_l in_k (bb_r in_f ?_)
  refine bb_if2 Iff.rfl (fun _ _ => bad) (fun _ _ => ?_)
  unfold f_byDamp_J38
  refine bb_l kright_good (bb_r (right_good h0) (bb_rn i10 ?_))
  dsimp only
  obtain ⟨vv, hc⟩ := hC0.hc
  have pw : (1 : Int32) <<< (iv d &&& 31) = iv (2 ^ d) := ibit_iv (by omega)
  have pw2 : 2 ^ d ≤ 32 := Nat.pow_le_pow_right (by decide) (show d ≤ 5 by omega)
  refine bb_c (Q := fun o o' => o'.1 = o.1 ∧ ((o.2 = h ∧ o'.2 = S0) ∨ ∃ w, Td x r T h S0 w o.2 o'.2)) ?_ ?_
  · refine bb_loop (2 ^ d) (fun k (st : Int32 × Int32 × XH) (st' : Int32 × Int32 × TS) => st'.1 = st.1 ∧ st.2.1 = iv k ∧ st'.2.1 = iv k ∧ ((st.2.2 = h ∧ st'.2.2 = S0) ∨ ∃ w, Td x r T h S0 w st.2.2 st'.2.2)) ⟨rfl, rfl, rfl, Or.inl ⟨rfl, rfl⟩⟩ ?_ ?_ (by omega) (by omega)
    · rintro k ⟨v, i, h1⟩ ⟨v', i', S1⟩ hk ⟨i1, i2, i3, i4⟩
      dsimp only at i1 i2 i3 i4 ⊢
      subst i1 i2 i3
      have q1 : Fq (Wst r) h h1 := by rcases i4 with ⟨rfl, rfl⟩ | ⟨w, q⟩; exact Fq.rfl; exact q.1
      have q2 : t46 S0 S1 := by rcases i4 with ⟨rfl, rfl⟩ | ⟨w, q⟩; exact t46.rfl; exact q.2.2.2
      obtain ⟨wr, q3⟩ : ∃ w, SV x T h1 r w := by
        rcases i4 with ⟨rfl, rfl⟩ | ⟨w, q⟩
        · exact hC0.1.2.2.2.2.2.1
        · exact ⟨w, q.2.1⟩
      have q4 := hC0.sv.apart q1.fr hC0.sr
      have xx : h1.2.1 x = h.2.1 x := q1.2.2 _ _ _ _ hC0.xc.1 (by unfold Wst; omega)
      have X1 := hC0.xc.kst q1.fr
      have f1 : cgR h1 x 0 2 = some s := cgR_is X1.1 (by rw [xx]; exact hC0.1.2.2.2.1.1)
      have f2 : cgR h1 x 0 3 = some r := cgR_is X1.1 (by rw [xx]; exact hC0.1.2.2.2.1.2.1)
      have f3 := q3.is2
      obtain ⟨h2, e2, q5, q6⟩ := be_is (n := n) hC0.wt q3.shp q4 hC0.sr hC0.od hC0.wf.2.2.1 (by omega)
      obtain ⟨S2, e3, q7, q8⟩ := tries_is (n := n) (S := S1) (by omega)
      rw [q2.row0] at q7
      have D0 : Td x r T h S0 (trow S0 0) h2 S2 := ⟨q1.trans q5, q6, by rw [q7, q8.1], q2.rest q8⟩
      have z1 : ¬ iv k ≥ (1 : Int32) <<< (iv d &&& 31) := by rw [pw]; exact iv_stop hk (by omega)
      unfold k_X1_byDamp_L38 f_byDamp_L53
      repeat (with_reducible first | refine bb_ls ?_ | refine bb_rs ?_ | refine bb_l (by assumption) ?_ | refine bb_r (by assumption) ?_ | refine bb_lp (by assumption) ?_ | refine bb_ln (by assumption) ?_ | refine bb_rp (by assumption) ?_ | refine bb_rn (by assumption) ?_)
      refine bb_c (Q := fun o o' => o'.1 = o.1 ∧ ∃ w, Td x r T h S0 w o.2 o'.2 ∧ w 1 = trow o'.2 43 1) ?_ ?_
      · refine bb_loop d (fun j (st : Int32 × Int32 × XH) (st' : Int32 × Int32 × TS) => st'.1 = st.1 ∧ st.2.1 = iv j ∧ st'.2.1 = iv j ∧ ∃ w, WF (999 + j) T w ∧ Td x r T h S0 w st.2.2 st'.2.2) ⟨rfl, rfl, rfl, _, hC0.wf, D0⟩ ?_ ?_ (by omega) (by omega)
        · rintro j ⟨u, i, h3⟩ ⟨u', i', S3⟩ hj ⟨i1, i2, i3, w, hW, hD⟩
          dsimp only at i1 i2 i3 hD ⊢
          subst i1 i2 i3
          have X3 := hC0.xc.kst hD.1.fr
          have xx3 : h3.2.1 x = h.2.1 x := hD.1.2.2 _ _ _ _ hC0.xc.1 (by unfold Wst; omega)
          have z2 : ¬ iv j ≥ iv d := iv_stop hj (by omega)
          have g1 : cgR h3 x 0 3 = some r := cgR_is X3.1 (by rw [xx3]; exact hC0.1.2.2.2.1.2.1)
          -- damp v in place, a day
          have day : ∀ v : Int32, ∃ h4 h5 S5, cpu h3 r 2 8 (.int v) = some h4 ∧ cgR h4 x 0 3 = some r ∧ ckd h4 r 2 = some () ∧ k_X3_pass n g c r h4 = some (r, h5) ∧ f_dayGoes n 43 (tpF S3 46 v) = some S5 ∧ ∃ w, WF (999 + (j + 1)) T w ∧ Td x r T h S0 w h5 S5 := by
            intro v
            obtain ⟨h4, e4, q9, q10⟩ := hD.2.1.wdamp hC0.wt v
            have F4 := hD.1.trans q9
            have X4 := hC0.xc.kst F4.fr
            have xx4 : h4.2.1 x = h.2.1 x := F4.2.2 _ _ _ _ hC0.xc.1 (by unfold Wst; omega)
            have hW4 : WF (999 + j) T (pup w 43 v) := WF_damp hW h8 p8
            obtain ⟨h5, e5, q11, q12⟩ := pass_is (n := n) (g := g) hc X4 q10 hW4 (by omega) hC0.wt (by omega) hg
            have row : trow (tpF S3 46 v) 43 = pup w 43 v := by rw [trow_damp, hD.2.2.1, pup_pup]
            have T4 := hD.2.2.2.damp (v := v)
            obtain ⟨S5, e6, q13, q14⟩ := dayGoes_is (n := n) (b := 43) (T4.tt hC0.tt) hC0.wt (by decide) (by rw [row]; exact hW4) (by omega) (by omega)
            rw [row] at q13
            refine ⟨h4, h5, S5, e4, cgR_is X4.1 (by rw [xx4]; exact hC0.1.2.2.2.1.2.1), q10.is2, e5, e6, _, WF_mday hW4 hC0.wt, F4.trans q11, q12, ?_, T4.rest q14⟩
            rw [q13]
            refine (pup_same ?_).symm
            rw [day_damp hW4 hC0.wt, pup_eq, q14.1]
            show v = if (46 : Nat) = 46 then v else S3.1 46
            rw [if_pos rfl]
          unfold k_X1_byDamp_L64 f_byDamp_L71
          repeat (with_reducible first | refine bb_ls ?_ | refine bb_rs ?_ | refine bb_l (by assumption) ?_ | refine bb_r (by assumption) ?_ | refine bb_lp (by assumption) ?_ | refine bb_ln (by assumption) ?_ | refine bb_rp (by assumption) ?_ | refine bb_rn (by assumption) ?_)
          have cnd : ∀ hx, k_X1_isOf (iv k) (iv j) hx = some (if ((iv k >>> (iv j &&& 31)) &&& 1) = 1 then 1 else 0) := by
            intro hx
            unfold k_X1_isOf
            by_cases y : ((iv k >>> (iv j &&& 31)) &&& 1) = 1
            · rw [if_pos y, if_pos y]
            · rw [if_neg y, if_neg y]
          refine bb_l (cnd _) ?_
          by_cases y : ((iv k >>> (iv j &&& 31)) &&& 1) = 1
          · rw [if_pos y, if_pos y]
            obtain ⟨h4, h5, S5, e4, e5, e6, e7, e8, w', hW', hD'⟩ := day 9
            have c4 := cnd h4
            rw [if_pos y] at c4
            refine bb_ln i10 ?_
            unfold k_X1_byDamp_J90 f_byDamp_J93 f_byDamp_J110
            refine bb_l e4 (bb_l c4 (bb_ln i10 (bb_rn i10 ?_)))
            unfold k_X1_byDamp_J113
            refine bb_ls (bb_rs (bb_rn i10 ?_))
            repeat (with_reducible first | refine bb_ls ?_ | refine bb_rs ?_ | refine bb_l (by assumption) ?_ | refine bb_r (by assumption) ?_ | refine bb_lp (by assumption) ?_ | refine bb_ln (by assumption) ?_ | refine bb_rp (by assumption) ?_ | refine bb_rn (by assumption) ?_)
            exact bb_s ⟨rfl, iv_succ j, iv_succ j, w', hW', hD'⟩
          · rw [if_neg y, if_neg y]
            obtain ⟨h4, h5, S5, e4, e5, e6, e7, e8, w', hW', hD'⟩ := day 0
            have c4 := cnd h4
            rw [if_neg y] at c4
            refine bb_lp rfl ?_
            unfold k_X1_byDamp_J90 f_byDamp_J93 f_byDamp_J110
            refine bb_l e4 (bb_l c4 (bb_lp rfl (bb_rp rfl ?_)))
            unfold k_X1_byDamp_J113
            refine bb_ls (bb_rs (bb_rp rfl ?_))
            repeat (with_reducible first | refine bb_ls ?_ | refine bb_rs ?_ | refine bb_l (by assumption) ?_ | refine bb_r (by assumption) ?_ | refine bb_lp (by assumption) ?_ | refine bb_ln (by assumption) ?_ | refine bb_rp (by assumption) ?_ | refine bb_rn (by assumption) ?_)
            exact bb_s ⟨rfl, iv_succ j, iv_succ j, w', hW', hD'⟩
        · rintro ⟨u, i, h3⟩ ⟨u', i', S3⟩ ⟨i1, i2, i3, w, hW, hD⟩
          dsimp only at i1 i2 i3 hD ⊢
          subst i1 i2 i3
          have z2 : iv d ≥ iv d := iv_end (by omega)
          unfold k_X1_byDamp_L64 f_byDamp_L71
          repeat (with_reducible first | refine bb_ls ?_ | refine bb_rs ?_ | refine bb_l (by assumption) ?_ | refine bb_r (by assumption) ?_ | refine bb_lp (by assumption) ?_ | refine bb_ln (by assumption) ?_ | refine bb_rp (by assumption) ?_ | refine bb_rn (by assumption) ?_)
          exact bb_s ⟨rfl, w, hD, by rw [hD.2.2.1, pup_ne (by decide)]⟩
      · rintro ⟨u, h3⟩ ⟨u', S3⟩ ⟨i1, w, hD, hw1⟩
        dsimp only at i1 hD hw1 ⊢
        subst i1
        have X3 := hC0.xc.kst hD.1.fr
        have xx3 : h3.2.1 x = h.2.1 x := hD.1.2.2 _ _ _ _ hC0.xc.1 (by unfold Wst; omega)
        have g1 : cgR h3 x 0 3 = some r := cgR_is X3.1 (by rw [xx3]; exact hC0.1.2.2.2.1.2.1)
        have g2 := hD.2.1.burst
        have g3 := isOf_is (w := w) (h := h3) (k := hh)
        have g4 : f_isBurst 43 (iv hh) S3 = some (m_isb w hh) := by
          have e : m_isb w hh = m_isb (trow S3 43) hh := by unfold m_isb; rw [hw1]
          rw [e]
          exact isBurst_is (r := 43) (by decide)
        repeat (with_reducible first | refine bb_ls ?_ | refine bb_rs ?_ | refine bb_l (by assumption) ?_ | refine bb_r (by assumption) ?_ | refine bb_lp (by assumption) ?_ | refine bb_ln (by assumption) ?_ | refine bb_rp (by assumption) ?_ | refine bb_rn (by assumption) ?_)
        refine bb_if2 Iff.rfl (fun _ _ => ?_) (fun _ _ => ?_)
        · repeat (with_reducible first | refine bb_ls ?_ | refine bb_rs ?_ | refine bb_l (by assumption) ?_ | refine bb_r (by assumption) ?_ | refine bb_lp (by assumption) ?_ | refine bb_ln (by assumption) ?_ | refine bb_rp (by assumption) ?_ | refine bb_rn (by assumption) ?_)
          exact bb_s ⟨Int32.add_zero _, iv_succ k, iv_succ k, Or.inr ⟨w, hD⟩⟩
        · repeat (with_reducible first | refine bb_ls ?_ | refine bb_rs ?_ | refine bb_l (by assumption) ?_ | refine bb_r (by assumption) ?_ | refine bb_lp (by assumption) ?_ | refine bb_ln (by assumption) ?_ | refine bb_rp (by assumption) ?_ | refine bb_rn (by assumption) ?_)
          exact bb_s ⟨rfl, iv_succ k, iv_succ k, Or.inr ⟨w, hD⟩⟩
    · rintro ⟨v, i, h1⟩ ⟨v', i', S1⟩ ⟨i1, i2, i3, i4⟩
      dsimp only at i1 i2 i3 i4 ⊢
      subst i1 i2 i3
      have z1 : iv (2 ^ d) ≥ (1 : Int32) <<< (iv d &&& 31) := by rw [pw]; exact iv_end (by omega)
      unfold k_X1_byDamp_L38 f_byDamp_L53
      repeat (with_reducible first | refine bb_ls ?_ | refine bb_rs ?_ | refine bb_l (by assumption) ?_ | refine bb_r (by assumption) ?_ | refine bb_lp (by assumption) ?_ | refine bb_ln (by assumption) ?_ | refine bb_rp (by assumption) ?_ | refine bb_rn (by assumption) ?_)
      exact bb_s ⟨rfl, i4⟩
  · rintro ⟨v, h1⟩ ⟨v', S1⟩ ⟨i1, i4⟩
    dsimp only at i1 i4 ⊢
    subst i1
    refine bb_rs (bb_s ?_)
    have q2 : t46 S0 S1 := by rcases i4 with ⟨rfl, rfl⟩ | ⟨w, q⟩; exact t46.rfl; exact q.2.2.2
    have tl : TL S0 (tpF S1 46 (-1)) := q2.damp.tl (by
      rw [hC0.od]
      show (if (46 : Nat) = 46 then (-1 : Int32) else S1.1 46) = -1
      rw [if_pos rfl])
    have z0 : (tpF S1 46 (-1)).1 0 = 0 := by
      show (if (0 : Nat) = 46 then (-1 : Int32) else S1.1 0) = 0
      rw [if_neg (by decide), q2.1 0 (by decide) (by decide)]
      exact h0
    rcases i4 with ⟨rfl, rfl⟩ | ⟨w, q⟩
    · exact op_val hC0 Fq.rfl tl z0 rfl
    · exact op_try hC0 q.1 q.2.1 tl z0 rfl
end GAME
