/-! forms evaluated, eases, bursts, who goes in -/
set_option maxRecDepth 100000
theorem by_43 {a b : Int32} {h : XH} : k_X7_by 43 a b h = some (a + b) := by
  unfold k_X7_by
  rw [if_neg (by decide), if_neg (by decide), if_neg (by decide), if_neg (by decide), if_neg (by decide), if_neg (by decide), if_pos rfl]
theorem by_is {c a b : Int32} {h : XH} (hc : issign c) : k_X7_by c a b h = some (m_by c a b) := by
  have ho : (if a = 0 then if b = 0 then some (0 : Int32) else some 1 else some 1) = some (if a = 0 then (if b = 0 then 0 else 1) else 1) := by
    by_cases p : a = 0
    · rw [if_pos p, if_pos p]
      by_cases q : b = 0
      · rw [if_pos q, if_pos q]
      · rw [if_neg q, if_neg q]
    · rw [if_neg p, if_neg p]
  have ha : (if a = 0 then some (0 : Int32) else if b = 0 then some 0 else some 1) = some (if a = 0 then 0 else if b = 0 then 0 else 1) := by
    by_cases p : a = 0
    · rw [if_pos p, if_pos p]
    · rw [if_neg p, if_neg p]
      by_cases q : b = 0
      · rw [if_pos q, if_pos q]
      · rw [if_neg q, if_neg q]
  rcases hc with rfl | rfl | rfl | rfl | rfl | rfl | rfl | rfl
  · unfold k_X7_by m_by
    repeat rw [if_neg (by decide)]
    rw [if_pos (show (43 : Int32) = 43 from rfl), if_pos (show (43 : Int32) = 43 from rfl)]
  · unfold k_X7_by m_by
    repeat rw [if_neg (by decide)]
    rw [if_pos (show (45 : Int32) = 45 from rfl)]
    repeat rw [if_neg (by decide)]
    rw [if_pos (show (45 : Int32) = 45 from rfl)]
  · unfold k_X7_by m_by
    repeat rw [if_neg (by decide)]
    rw [if_pos (show (42 : Int32) = 42 from rfl)]
    repeat rw [if_neg (by decide)]
    rw [if_pos (show (42 : Int32) = 42 from rfl)]
  · unfold k_X7_by m_by
    repeat rw [if_neg (by decide)]
    rw [if_pos (show (47 : Int32) = 47 from rfl)]
    repeat rw [if_neg (show ¬ (47 : Int32) = _ by decide)]
    rw [if_pos (show (47 : Int32) = 47 from rfl)]
    by_cases q : b = 0
    · rw [if_pos q, if_pos q]
    · rw [if_neg q, if_neg q, if_neg q]
  · unfold k_X7_by m_by
    repeat rw [if_neg (by decide)]
    rw [if_pos (show (60 : Int32) = 60 from rfl)]
    repeat rw [if_neg (show ¬ (60 : Int32) = _ by decide)]
    rw [if_pos (show (60 : Int32) = 60 from rfl)]
    by_cases q : a ≥ b
    · rw [if_pos q, if_pos q]
    · rw [if_neg q, if_neg q]
  · unfold k_X7_by m_by
    repeat rw [if_neg (by decide)]
    rw [if_pos (show (61 : Int32) = 61 from rfl)]
    repeat rw [if_neg (show ¬ (61 : Int32) = _ by decide)]
    rw [if_pos (show (61 : Int32) = 61 from rfl)]
    by_cases q : a = b
    · rw [if_pos q, if_pos q]
    · rw [if_neg q, if_neg q]
  · unfold k_X7_by m_by
    rw [if_neg (by decide), if_pos (show (38 : Int32) = 38 from rfl), ha]
    repeat rw [if_neg (show ¬ (38 : Int32) = _ by decide)]
    rw [if_pos (show (38 : Int32) = 38 from rfl)]
  · unfold k_X7_by m_by
    rw [if_pos (by decide), ho]
    repeat rw [if_neg (show ¬ (124 : Int32) = _ by decide)]
theorem char_sign {c : Int32} (hc : issign c) : tn .char (((c &&& 255 : Int32).toUInt32 % 65536).toInt32) = some c := by
  rcases hc with rfl | rfl | rfl | rfl | rfl | rfl | rfl | rfl <;> decide
theorem char_sign2 {c : Int32} (hc : issign c) : tn .char c = some c := by
  rcases hc with rfl | rfl | rfl | rfl | rfl | rfl | rfl | rfl <;> decide
section FEVAL
variable {lo hi n g va tv m : Nat} {c : Nat → Value} {h : XH} {vals : Nat → Int32} {a b : Nat} {e : XE} {sg : Nat → Int32}
theorem charAt_is {vv : Value} (hc : vV (c 25) = some vv) (hB : SBV h b m sg) {k : Nat} (hk : k < m) (hs : issign (sg k)) : k_J18_charAt c b (iv k) h = some (sg k) := by
  obtain ⟨q1, q2, q3, d, cap, q4, q5, q6, q7, q8⟩ := hB
  have f1 : ckd h b 12 = some () := ckd_is q1
  have f2 : cgI h b 12 1 = some 0 := cgI_is q1 q2
  have f3 : cgR h b 12 0 = some d := cgR_is q1 q4
  have f4 : cgI h b 12 3 = some (iv m) := cgI_is q1 q3
  have f5 : cal h d = some (iv cap) := cal_is q5 (by decide) (by decide)
  have f6 : caI h d 101 (iv k) = some (sg k) := caI_is q5 (by omega) (by omega) (q8 k hk)
  have f7 : k_J11_checkIndex (iv k) (iv m) h = some (iv k) := by
    unfold k_J11_checkIndex
    rw [if_neg (iv_nneg (by omega)), if_pos ((iv_lt (by omega) (by omega)).mpr hk)]
  have f8 : imin (iv m) (iv cap >>> ((0 : Int32) &&& 31)) = iv m := by
    rw [show (0 : Int32) &&& 31 = 0 from by decide, Int32.shiftRight_zero, imin_iv (by omega) (by omega), Nat.min_eq_left q6]
  have f9 := char_sign hs
  have f10 := char_sign2 hs
  refine ok_eq ?_
  unfold k_J18_charAt k_J17_charAt
  refine ok_b f1 ?_
  refine ok_c (Q := fun r => r = sg k) ?_ ?_
  · repeat (with_reducible first | refine ok_sb ?_ | refine ok_b (by assumption) ?_ | refine ok_pos (by assumption) ?_ | refine ok_neg (by assumption) ?_)
    rw [f8]
    unfold k_J8_checkIndex
    refine ok_c (Q := fun _ => True) ?_ (fun _ _ => ?_)
    · repeat (with_reducible first | refine ok_sb ?_ | refine ok_b (by assumption) ?_ | refine ok_pos (by assumption) ?_ | refine ok_neg (by assumption) ?_)
      exact ok_s trivial
    · refine ok_pos (show (0 : Int32) = 0 from rfl) ?_
      repeat (with_reducible first | refine ok_sb ?_ | refine ok_b (by assumption) ?_ | refine ok_pos (by assumption) ?_ | refine ok_neg (by assumption) ?_)
      exact ok_s rfl
  · rintro r rfl
    repeat (with_reducible first | refine ok_sb ?_ | refine ok_b (by assumption) ?_ | refine ok_pos (by assumption) ?_ | refine ok_neg (by assumption) ?_)
    exact ok_s rfl
theorem FV.kind (hF : FV lo hi h g a e) : cfo h a = some () := by
  cases g with
  | zero => exact hF.elim
  | succ g =>
    unfold cfo
    rcases hF with ⟨n, v, z1, -⟩ | ⟨n, i, z1, -⟩ | ⟨n, b, e1, z1, -⟩ | ⟨n, l, sb, m, es, E, sg, z1, -⟩
    · rw [if_pos (by rw [hk_is z1]; decide)]
    · rw [if_pos (by rw [hk_is z1]; decide)]
    · rw [if_pos (by rw [hk_is z1]; decide)]
    · rw [if_pos (by rw [hk_is z1]; decide)]
theorem of_is {vv : Value} (hc : vV (c 25) = some vv) (hv : h.1 va = some (100, 7, tv)) (hd : ∀ i, i < 7 → h.2.1 va i = .int (vals i)) (hn : 1001 < n) : ∀ {g a : Nat} {e : XE}, FV lo hi h g a e → f_of n c g a va h = some (e vals) := by
  intro g
  induction g with
  | zero => intro a e z; exact z.elim
  | succ g ih =>
    intro a e z
    unfold f_of
    rcases z with ⟨n', v, z1, z2, rfl⟩ | ⟨n', i, z1, z2, z3, rfl⟩ | ⟨n', b, e1, z1, z2, z3, rfl⟩ | ⟨n', l, sb, m, es, E, sg, z1, ⟨z2, z2b⟩, z3, z4, z5, z6, z7, z8, rfl⟩
    · rw [hk_is z1, if_neg (by decide), if_pos (show (7 : Nat) = 7 from rfl)]
      unfold k_X8_of
      rw [cgI_is z1 z2, Option.bind_some]
    · rw [hk_is z1, if_neg (by decide), if_neg (by decide), if_pos (show (8 : Nat) = 8 from rfl)]
      unfold k_X9_of
      rw [cgI_is z1 z2, Option.bind_some, caI_is hv (by decide) z3 (hd i z3), Option.bind_some]
    · rw [hk_is z1, if_neg (by decide), if_neg (by decide), if_neg (by decide), if_pos (show (9 : Nat) = 9 from rfl)]
      unfold k_X10_of
      rw [cgR_is z1 z2, Option.bind_some, ih z3, Option.bind_some]
      show _ = some (if e1 vals = 0 then 1 else 0)
      by_cases q : e1 vals = 0
      · rw [if_pos q, if_pos q]
      · rw [if_neg q, if_neg q]
    · rw [hk_is z1, if_pos (show (6 : Nat) = 6 from rfl)]
      have f1 : cgR h a 6 0 = some l := cgR_is z1 z2
      have f2 : cgR h a 6 1 = some sb := cgR_is z1 z2b
      have f3 : ckd h l 10 = some () := ckd_is z5.1
      have f4 : ckd h sb 12 = some () := ckd_is z7.1
      have f5 := z5.size
      have f6 : k_J2_get l 0 h = some (es 0) := z5.get (j := 0) (by omega)
      have f7 := (z6 0 (Nat.zero_le _)).kind
      have f8 := ih (z6 0 (Nat.zero_le _))
      refine ok_eq ?_
      unfold k_X7_of
      repeat (with_reducible first | refine ok_sb ?_ | refine ok_b (by assumption) ?_ | refine ok_pos (by assumption) ?_ | refine ok_neg (by assumption) ?_)
      refine ok_c (Q := fun r => r = chE sg E vals m) ?_ (fun r q => ok_s q)
      refine ok_loop m (fun k s => s.1 = chE sg E vals k ∧ s.2 = iv (k + 1)) ⟨rfl, rfl⟩ ?_ ?_ (by omega)
      · rintro k ⟨v, i⟩ hk ⟨i1, i2⟩
        dsimp only at i1 i2 ⊢
        subst i1 i2
        have g1 : ¬ iv (k + 1) ≥ iv (m + 1) := iv_stop (by omega) (by omega)
        have g2 : k_J18_charAt c sb (iv (k + 1) - 1) h = some (sg k) := by rw [iv_pred]; exact charAt_is hc z7 hk (z8 k hk)
        have g3 := z5.get (j := k + 1) (by omega)
        have g4 := (z6 (k + 1) (by omega)).kind
        have g5 := ih (z6 (k + 1) (by omega))
        have g6 := by_is (a := chE sg E vals k) (b := E (k + 1) vals) (h := h) (z8 k hk)
        unfold k_X7_of_L22
        repeat (with_reducible first | refine ok_sb ?_ | refine ok_b (by assumption) ?_ | refine ok_pos (by assumption) ?_ | refine ok_neg (by assumption) ?_)
        exact ok_s ⟨rfl, iv_succ _⟩
      · rintro ⟨v, i⟩ ⟨i1, i2⟩
        dsimp only at i1 i2 ⊢
        subst i1 i2
        have g1 : iv (m + 1) ≥ iv (m + 1) := iv_end (by omega)
        unfold k_X7_of_L22
        repeat (with_reducible first | refine ok_sb ?_ | refine ok_b (by assumption) ?_ | refine ok_pos (by assumption) ?_ | refine ok_neg (by assumption) ?_)
        exact ok_s rfl
end FEVAL
section STREET2
variable {x t hi D n g s p hh : Nat} {T : Tn} {c : Nat → Value} {h : XH} {w : Nat → Int32} {vv : Value}
/-- a value laid out -/
theorem vput (hX : XC x t T hi h) (hS : SV x T h s w) (i : Nat) (I : Int32) (hI : iv i = I) (hi7 : i < 7) (v : Int32) : ∃ h', csu h (x + 1) 100 I (.int v) = some h' ∧ Fq Wva h h' ∧ XC x t T hi h' ∧ SV x T h' s w ∧ h'.2.1 (x + 1) i = .int v ∧ ∀ j, j ≠ i → h'.2.1 (x + 1) j = h.2.1 (x + 1) j := by
  subst hI
  have hq : Fq Wva h (xup h (x + 1) i (.int v)) := Fq.put hX.2.2.1 ⟨rfl, rfl⟩
  exact ⟨_, csu_is hX.2.2.1 (by decide) (by decide) hi7, hq, hX.kva hq.fr, hS.kva hq.fr, xup_eq, fun j hj => xup_ne (fun z => hj z.2)⟩
theorem asked_is {a k : Nat} {e : XE} (hc : vV (c 25) = some vv) (hX : XC x t T hi h) (hS : SV x T h s w) (hW : WF D T w) (hD : D < 5000) (hw : WT T) (hp : p < T.1.2.1) (hh8 : hh < T.1.1) (hn : 1001 < n) (hF : FV 0 hi h g a e) : ∃ h', k_X3_asked n g c s a (iv p) (iv hh) h = some (e (m_vals T w p hh), h') ∧ Fq Wva h h' := by
  obtain ⟨h1, e1, q1, X1, S1, d1, n1⟩ := vput hX hS 0 0 rfl (by decide) (w (27 + p))
  obtain ⟨h2, e2, q2, X2, S2, d2, n2⟩ := vput X1 S1 1 1 rfl (by decide) (w (3 + hh))
  obtain ⟨h3, e3, q3, X3, S3, d3, n3⟩ := vput X2 S2 2 2 rfl (by decide) (T.2.1 0 hh)
  obtain ⟨h4, e4, q4, X4, S4, d4, n4⟩ := vput X3 S3 3 3 rfl (by decide) (w (11 + hh))
  obtain ⟨h5, e5, q5, X5, S5, d5, n5⟩ := vput X4 S4 4 4 rfl (by decide) (m_damp T w)
  obtain ⟨h6, e6, q6, X6, S6, d6, n6⟩ := vput X5 S5 5 5 rfl (by decide) (w 0)
  obtain ⟨h7, e7, q7, X7, S7, d7, n7⟩ := vput X6 S6 6 6 rfl (by decide) (m_tight w p hh)
  have qq : Fq Wva h h7 := q1.trans (q2.trans (q3.trans (q4.trans (q5.trans (q6.trans q7)))))
  have hd : ∀ i, i < 7 → h7.2.1 (x + 1) i = .int (m_vals T w p hh i) := by
    intro i hi
    have hc : i = 0 ∨ i = 1 ∨ i = 2 ∨ i = 3 ∨ i = 4 ∨ i = 5 ∨ i = 6 := by omega
    rcases hc with rfl | rfl | rfl | rfl | rfl | rfl | rfl
    · rw [n7 0 (by decide), n6 0 (by decide), n5 0 (by decide), n4 0 (by decide), n3 0 (by decide), n2 0 (by decide), d1]; rfl
    · rw [n7 1 (by decide), n6 1 (by decide), n5 1 (by decide), n4 1 (by decide), n3 1 (by decide), d2]; rfl
    · rw [n7 2 (by decide), n6 2 (by decide), n5 2 (by decide), n4 2 (by decide), d3]; rfl
    · rw [n7 3 (by decide), n6 3 (by decide), n5 3 (by decide), d4]; rfl
    · rw [n7 4 (by decide), n6 4 (by decide), d5]; rfl
    · rw [n7 5 (by decide), d6]; rfl
    · rw [d7]; rfl
  have o0 := hS.own; have v0 := hX.vals; have a00 := hS.a2; have b00 := hS.heel hw hp
  have o1 := S1.own; have v1 := X1.vals; have a1 := S1.a0; have b1 := S1.size hw hh8
  have o2 := S2.own; have v2 := X2.vals; have t2 := X2.town; have l2 := X2.tv.l0; have i2 := X2.tv.gives.is10
  obtain ⟨bx, bx1, bx2, bx3⟩ := X2.tv.gives.get hh8
  have o3 := S3.own; have v3 := X3.vals; have a3 := S3.a1; have b3 := S3.worn hw hh8
  have o4 := S4.own; have v4 := X4.vals; have k4 := S4.is2; have m4 := damp_is X4 S4 hW hD hw
  have o5 := S5.own; have v5 := X5.vals; have y5 := S5.day
  have o6 := S6.own; have v6 := X6.vals; have k6 := S6.is2; have m6 := tight_is S6 hW hw hp hh8
  have o7 := S7.own; have v7 := X7.vals
  have fin := of_is (n := n) hc X7.2.2.1 hd hn (hF.keep qq.fr Wva_town.1)
  refine ⟨h7, ?_, qq⟩
  refine ok_eq ?_
  unfold k_X3_asked
  repeat (with_reducible first | refine ok_sb ?_ | refine ok_b (by assumption) ?_ | refine ok_pos (by assumption) ?_ | refine ok_neg (by assumption) ?_)
  exact ok_s rfl
theorem OF.isr {lo : Nat} {v : Value} {eo : Option XE} (hO : OF lo hi h v eo) : xisr v = true := by
  unfold OF at hO
  cases eo with
  | none => rw [hO]; rfl
  | some e => obtain ⟨a, rfl, -⟩ := hO; rfl
theorem eases_is (hc : vV (c 25) = some vv) (hX : XC x t T hi h) (hS : SV x T h s w) (hW : WF D T w) (hD : D < 5000) (hw : WT T) (hp : p < T.1.2.1) (hh8 : hh < T.1.1) (hn : 1001 < n) (hg : g = 90) : ∃ h', k_X3_eases n g c s (iv p) (iv hh) h = some (m_eases T w p hh, h') ∧ Fq Wva h h' := by
  subst hg
  have o0 := hS.own
  have t0 := hX.town
  have q := hX.tv.2.2.2.2.1
  have r0 : cgV h t 1 4 = some (h.2.1 t 4) := cgV_is hX.tv.1 rfl q.isr
  have l0 := hX.tv.l0
  have i0 := hX.tv.gives.is10
  obtain ⟨bx, bx1, bx2, bx3⟩ := hX.tv.gives.get hh8
  have k0 := hS.is2
  have m0 := damp_is hX hS hW hD hw
  have a0 := hS.a1
  have b0 := hS.worn hw hh8
  unfold OF at q
  unfold m_eases m_eas0
  cases hz : T.2.2 0 with
  | none =>
    rw [hz] at q
    dsimp only at q ⊢
    refine ⟨h, ?_, Fq.rfl⟩
    refine ok_eq ?_
    unfold k_X3_eases
    repeat (with_reducible first | refine ok_sb ?_ | refine ok_b (by assumption) ?_ | refine ok_pos (by assumption) ?_ | refine ok_neg (by assumption) ?_)
    unfold k_X3_eases_J69
    exact ok_s (by rw [ibnd_mm])
  | some e =>
    rw [hz] at q
    dsimp only at q ⊢
    obtain ⟨a, e1, q2⟩ := q
    have r1 : cgR h t 1 4 = some a := cgR_is hX.tv.1 e1
    obtain ⟨h', f1, f2⟩ := asked_is (k := 0) hc hX hS hW hD hw hp hh8 hn q2
    refine ⟨h', ?_, f2⟩
    refine ok_eq ?_
    unfold k_X3_eases
    repeat (with_reducible first | refine ok_sb ?_ | refine ok_b (by assumption) ?_ | refine ok_pos (by assumption) ?_ | refine ok_neg (by assumption) ?_)
    refine ok_neg (by rw [e1]; intro z; cases z) ?_
    repeat (with_reducible first | refine ok_sb ?_ | refine ok_b (by assumption) ?_ | refine ok_pos (by assumption) ?_ | refine ok_neg (by assumption) ?_)
    unfold k_X3_eases_J69
    exact ok_s (by rw [ibnd_mm])
theorem bursts_is (hc : vV (c 25) = some vv) (hX : XC x t T hi h) (hS : SV x T h s w) (hW : WF D T w) (hD : D < 5000) (hw : WT T) (hp : p < T.1.2.1) (hh8 : hh < T.1.1) (hn : 1001 < n) (hg : g = 90) : ∃ h', k_X3_bursts n g c s (iv p) (iv hh) h = some (m_bu T w p hh, h') ∧ Fq Wva h h' := by
  subst hg
  have o0 := hS.own
  have t0 := hX.town
  have q := hX.tv.2.2.2.2.2
  have r0 : cgV h t 1 5 = some (h.2.1 t 5) := cgV_is hX.tv.1 rfl q.isr
  have l0 := hX.tv.l0
  have i0 := hX.tv.gives.is10
  obtain ⟨bx, bx1, bx2, bx3⟩ := hX.tv.gives.get hh8
  have k0 := hS.is2
  have m0 := tight_is hS hW hw hp hh8
  unfold OF at q
  unfold m_bu
  cases hz : T.2.2 1 with
  | none =>
    rw [hz] at q
    dsimp only at q ⊢
    refine ⟨h, ?_, Fq.rfl⟩
    refine ok_eq ?_
    unfold k_X3_bursts
    repeat (with_reducible first | refine ok_sb ?_ | refine ok_b (by assumption) ?_ | refine ok_pos (by assumption) ?_ | refine ok_neg (by assumption) ?_)
    refine ok_if (fun z => ?_) (fun z => ?_)
    · rw [if_pos z]; exact ok_s rfl
    · rw [if_neg z]; exact ok_s rfl
  | some e =>
    rw [hz] at q
    dsimp only at q ⊢
    obtain ⟨a, e1, q2⟩ := q
    have r1 : cgR h t 1 5 = some a := cgR_is hX.tv.1 e1
    obtain ⟨h', f1, f2⟩ := asked_is (k := 0) hc hX hS hW hD hw hp hh8 hn q2
    refine ⟨h', ?_, f2⟩
    refine ok_eq ?_
    unfold k_X3_bursts
    repeat (with_reducible first | refine ok_sb ?_ | refine ok_b (by assumption) ?_ | refine ok_pos (by assumption) ?_ | refine ok_neg (by assumption) ?_)
    refine ok_neg (by rw [e1]; intro z; cases z) ?_
    repeat (with_reducible first | refine ok_sb ?_ | refine ok_b (by assumption) ?_ | refine ok_pos (by assumption) ?_ | refine ok_neg (by assumption) ?_)
    refine ok_if (fun z => ?_) (fun z => ?_)
    · rw [if_pos z]; exact ok_s rfl
    · rw [if_neg z]; exact ok_s rfl
theorem isOf_is {k : Nat} : k_X1_isOf (w 1) (iv k) h = some (m_isb w k) := by
  unfold k_X1_isOf m_isb
  by_cases q : ((w 1 >>> (iv k &&& 31)) &&& 1) = 1
  · rw [if_pos q, if_pos q]
  · rw [if_neg q, if_neg q]
theorem goesIn_is (hc : vV (c 25) = some vv) (hX : XC x t T hi h) (hS : SV x T h s w) (hW : WF D T w) (hD : D < 5000) (hw : WT T) (hp : p < T.1.2.1) (hh8 : hh < T.1.1) (hn : 1001 < n) (hg : g = 90) : ∃ h', k_X3_goesIn n g c s (iv p) (iv hh) h = some (m_goes T w p hh, h') ∧ Fq Wva h h' := by
  obtain ⟨h', f1, f2⟩ := eases_is hc hX hS hW hD hw hp hh8 hn hg
  have b0 := hS.burst
  have b1 := isOf_is (w := w) (h := h) (k := hh)
  have k0 := hS.is2
  have m0 := tight_is hS hW hw hp hh8
  unfold m_goes
  by_cases q : m_isb w hh = 0
  · refine ⟨h', ?_, f2⟩
    rw [if_pos q]
    refine ok_eq ?_
    unfold k_X3_goesIn
    repeat (with_reducible first | refine ok_sb ?_ | refine ok_b (by assumption) ?_ | refine ok_pos (by assumption) ?_ | refine ok_neg (by assumption) ?_)
    refine ok_if (fun z => ?_) (fun z => ?_)
    · rw [if_pos z]; exact ok_s rfl
    · rw [if_neg z]; exact ok_s rfl
  · refine ⟨h, ?_, Fq.rfl⟩
    rw [if_neg q]
    refine ok_eq ?_
    unfold k_X3_goesIn
    repeat (with_reducible first | refine ok_sb ?_ | refine ok_b (by assumption) ?_ | refine ok_pos (by assumption) ?_ | refine ok_neg (by assumption) ?_)
    exact ok_s rfl
end STREET2
