/-! the twin's day: its functions on the row at b are the row functions -/
set_option maxRecDepth 100000
/-- the code at `a` denotes eo (-1: none) -/
def TE (S : TS) (a : Int32) (eo : Option XE) : Prop := match eo with
  | none => a = (-1)
  | some e => ∃ g k b, a = iv k ∧ CSeg (S.2.2 10) g k b e ∧ S.2.2 10 b = 0 ∧ b < 1400
/-- the twin's town is T -/
def TT (S : TS) (T : Tn) : Prop := S.1 1 = iv T.1.1 ∧ S.1 2 = iv T.1.2.1 ∧ S.1 3 = iv T.1.2.2 ∧ S.2.2 6 = T.2.1 0 ∧ S.2.2 7 = T.2.1 1 ∧ S.2.2 8 = T.2.1 2 ∧ S.2.2 9 = T.2.1 3 ∧ TE S (S.1 4) (T.2.2 0) ∧ TE S (S.1 5) (T.2.2 1)
theorem TT.of {S S' : TS} {T : Tn} (hT : TT S T) (h1 : ∀ i, 1 ≤ i → i ≤ 5 → S'.1 i = S.1 i) (h2 : ∀ i, 6 ≤ i → i ≤ 10 → S'.2.2 i = S.2.2 i) : TT S' T := by
  obtain ⟨q1, q2, q3, q4, q5, q6, q7, q8, q9⟩ := hT
  have e10 := h2 10 (by decide) (by decide)
  refine ⟨?_, ?_, ?_, ?_, ?_, ?_, ?_, ?_, ?_⟩
  · rw [h1 1 (by decide) (by decide)]; exact q1
  · rw [h1 2 (by decide) (by decide)]; exact q2
  · rw [h1 3 (by decide) (by decide)]; exact q3
  · rw [h2 6 (by decide) (by decide)]; exact q4
  · rw [h2 7 (by decide) (by decide)]; exact q5
  · rw [h2 8 (by decide) (by decide)]; exact q6
  · rw [h2 9 (by decide) (by decide)]; exact q7
  · rw [h1 4 (by decide) (by decide)]
    unfold TE at q8 ⊢
    cases hz : T.2.2 0 with
    | none => rw [hz] at q8; exact q8
    | some e => rw [hz] at q8; dsimp only at q8 ⊢; rw [e10]; exact q8
  · rw [h1 5 (by decide) (by decide)]
    unfold TE at q9 ⊢
    cases hz : T.2.2 1 with
    | none => rw [hz] at q9; exact q9
    | some e => rw [hz] at q9; dsimp only at q9 ⊢; rw [e10]; exact q9
/-- only the row at b (and told, pile) changed -/
def trest (b : Nat) (S S' : TS) : Prop := S'.1 = S.1 ∧ S'.2.1 = S.2.1 ∧ (∀ i, i ≠ 41 → i ≠ 44 → i ≠ 45 → S'.2.2 i = S.2.2 i) ∧ ∀ j, ¬ (b ≤ j ∧ j < b + 43) → S'.2.2 41 j = S.2.2 41 j
theorem trest.rfl {b : Nat} {S : TS} : trest b S S := ⟨Eq.refl _, Eq.refl _, fun _ _ _ _ => Eq.refl _, fun _ _ => Eq.refl _⟩
theorem trest.trans {b : Nat} {S S' S'' : TS} (a : trest b S S') (c : trest b S' S'') : trest b S S'' := ⟨c.1.trans a.1, c.2.1.trans a.2.1, fun i h1 h2 h3 => (c.2.2.1 i h1 h2 h3).trans (a.2.2.1 i h1 h2 h3), fun j h => (c.2.2.2 j h).trans (a.2.2.2 j h)⟩
theorem trest.tt {b : Nat} {S S' : TS} {T : Tn} (a : trest b S S') (hT : TT S T) : TT S' T := hT.of (fun i _ _ => by rw [a.1]) (fun i h1 h2 => a.2.2.1 i (by omega) (by omega) (by omega))
theorem trest.other {b c : Nat} {S S' : TS} (a : trest b S S') (h : c + 43 ≤ b ∨ b + 43 ≤ c) : trow S' c = trow S c := by
  funext k
  unfold trow
  by_cases q : k < 43
  · rw [if_pos q, if_pos q]
    exact a.2.2.2 _ (by omega)
  · rw [if_neg q, if_neg q, a.1]
/-- only told and pile changed -/
def tscr (S S' : TS) : Prop := S'.1 = S.1 ∧ S'.2.1 = S.2.1 ∧ ∀ i, i ≠ 44 → i ≠ 45 → S'.2.2 i = S.2.2 i
theorem tscr.rfl {S : TS} : tscr S S := ⟨Eq.refl _, Eq.refl _, fun _ _ _ => Eq.refl _⟩
theorem tscr.trans {S S' S'' : TS} (a : tscr S S') (c : tscr S' S'') : tscr S S'' := ⟨c.1.trans a.1, c.2.1.trans a.2.1, fun i h1 h2 => (c.2.2 i h1 h2).trans (a.2.2 i h1 h2)⟩
theorem tscr.row {S S' : TS} (a : tscr S S') {b : Nat} : trow S' b = trow S b := by
  funext k
  unfold trow
  rw [a.1, a.2.2 41 (by decide) (by decide)]
theorem tscr.tt {S S' : TS} {T : Tn} (a : tscr S S') (hT : TT S T) : TT S' T := hT.of (fun i _ _ => by rw [a.1]) (fun i h1 h2 => a.2.2 i (by omega) (by omega))
theorem tscr.rest {S S' : TS} (a : tscr S S') (b : Nat) : trest b S S' := ⟨a.1, a.2.1, fun i _ h2 h3 => a.2.2 i h2 h3, fun j _ => by rw [a.2.2 41 (by decide) (by decide)]⟩
theorem tscr.put {S : TS} {k : Nat} {v : Int32} : tscr S (tpA S 44 k v) := by
  refine ⟨Eq.refl _, Eq.refl _, fun i hi _ => ?_⟩
  funext q
  simp [tpA, hi]
theorem tpile.scr {S S' : TS} {m : Nat} (a : tpile S S' m) : tscr S S' := ⟨a.1, a.2.1, fun i _ h => a.2.2.1 i h⟩
/-- writing the row at b -/
theorem trow_put {S : TS} {b k : Nat} {v : Int32} (hk : k < 43) : trow (tpA S 41 (b + k) v) b = pup (trow S b) k v := by
  funext j
  show (if j < 43 then (if 41 = 41 ∧ b + j = b + k then v else S.2.2 41 (b + j)) else if j = 43 then S.1 46 else 0) = if j = k then v else (if j < 43 then S.2.2 41 (b + j) else if j = 43 then S.1 46 else 0)
  by_cases q : j < 43
  · rw [if_pos q, if_pos q]
    by_cases c : j = k
    · rw [if_pos c, if_pos ⟨rfl, by rw [c]⟩]
    · rw [if_neg c, if_neg (fun z => c (by have := z.2; omega))]
  · rw [if_neg q, if_neg q, if_neg (show ¬ j = k by omega)]
theorem trest.put {S : TS} {b k : Nat} {v : Int32} (hk : k < 43) : trest b S (tpA S 41 (b + k) v) := by
  refine ⟨Eq.refl _, Eq.refl _, fun i hi _ _ => ?_, fun j hj => ?_⟩
  · funext q
    simp [tpA, hi]
  · have : ¬ j = b + k := by omega
    simp [tpA, this]
/-- the forms in which the code names a place of a row -/
theorem row_rd {S : TS} {b c k : Nat} (hr : b ≤ 43) (h : c + k < 43) : trd S 41 ((iv b + iv c) + iv k) = some (trow S b (c + k)) := by
  rw [iv_lit]
  exact trow_rd hr h
theorem row_rd1 {S : TS} {b c : Nat} (hr : b ≤ 43) (h : c < 43) : trd S 41 (iv b + iv c) = some (trow S b c) := by
  rw [iv_add]
  exact trow_rd hr h
theorem row_wr {S : TS} {b c k : Nat} {v : Int32} (hr : b ≤ 43) (h : c + k < 43) : twr S 41 ((iv b + iv c) + iv k) v = some (tpA S 41 (b + (c + k)) v) := by
  rw [iv_lit]
  exact twr_nat (i := 41) (show b + (c + k) < 86 by omega)
theorem row_wr1 {S : TS} {b c : Nat} {v : Int32} (hr : b ≤ 43) (h : c < 43) : twr S 41 (iv b + iv c) v = some (tpA S 41 (b + c) v) := by
  rw [iv_add]
  exact twr_nat (i := 41) (show b + c < 86 by omega)
section TDAY
variable {S : TS} {T : Tn} {D n b p h : Nat}
theorem toldDamp_is {d : Nat} (hT : TT S T) (hw : WT T) (hd : d < 2 ^ 31) : f_toldDamp (iv d) S = some (m_told T.1.2.2 (T.2.1 3) d) := by
  have h8 := hw.2.2.1
  unfold f_toldDamp m_told
  rw [hT.2.2.1]
  by_cases c : T.1.2.2 = 0
  · rw [c, if_pos (show iv 0 = 0 from rfl), if_pos (show (0 : Nat) = 0 from rfl)]
  · have z : ¬ iv T.1.2.2 = 0 := fun z => c ((iv_inj (b := 0) (by omega) (by omega)).mp z)
    rw [if_neg z, if_neg z, if_neg c, iv_mod hd (by omega) c]
    have := Nat.mod_lt d (show 0 < T.1.2.2 by omega)
    rw [trd_nat (i := 9) (show d % T.1.2.2 < 8 by omega), hT.2.2.2.2.2.2.1]
    rfl
theorem dampIn_is (hT : TT S T) (hw : WT T) (hr : b ≤ 43) (hW : WF D T (trow S b)) (hD : D < 5000) : f_dampIn (iv b) S = some (m_damp T (trow S b)) := by
  obtain ⟨d, hd, hd1⟩ := hW.1
  unfold f_dampIn m_damp
  rw [trow_43]
  by_cases c : S.1 46 = (-1)
  · rw [if_pos c, if_pos c, show (2 : Int32) = iv 2 from rfl, row_rd1 hr (by decide), Option.bind_some]
    by_cases c2 : trow S b 2 = 1
    · rw [if_pos c2, if_pos c2]
    · rw [if_neg c2, if_neg c2, show (0 : Int32) = iv 0 from rfl, row_rd1 hr (by decide), Option.bind_some, hd, toldDamp_is hT hw (by omega), iv_nat (by omega)]
      rfl
  · rw [if_neg c, if_neg c]
theorem asks_is {a k e : Nat} {x : XE} {g : Nat} (hT : TT S T) (hw : WT T) (hr : b ≤ 43) (hW : WF D T (trow S b)) (hD : D < 5000) (hp : p < T.1.2.1) (hh : h < T.1.1) (hC : CSeg (S.2.2 10) g a e x) (hs : S.2.2 10 e = 0) (he : e < 1400) (hn : 1500 < n) : ∃ S', f_asks n (iv a) (iv b) (iv p) (iv h) S = some (x (m_vals T (trow S b) p h), S') ∧ tscr S S' := by
  have h8 := hw.1
  have p8 := hw.2.1
  have w44 : ∀ (S : TS) (k : Nat) (v : Int32), k < 7 → twr S 44 (iv k) v = some (tpA S 44 k v) := fun S k v hk => twr_nat (i := 44) (show k < 7 from hk)
  obtain ⟨S14, e14, q14⟩ : ∃ S', S' = tpA (tpA (tpA (tpA (tpA (tpA (tpA S 44 0 (trow S b (27 + p))) 44 1 (trow S b (3 + h))) 44 2 (T.2.1 0 h)) 44 3 (trow S b (11 + h))) 44 4 (m_damp T (trow S b))) 44 5 (trow S b 0)) 44 6 (m_tight (trow S b) p h) ∧ tscr S S' := ⟨_, rfl, tscr.put.trans (tscr.put.trans (tscr.put.trans (tscr.put.trans (tscr.put.trans (tscr.put.trans tscr.put)))))⟩
  have hA : S14.2.2 10 = S.2.2 10 := q14.2.2 10 (by decide) (by decide)
  obtain ⟨S', f1, f2⟩ := reckons_is (n := n) (S := S14) hC hA (by exact hs) he (by omega)
  refine ⟨S', ?_, q14.trans f2.scr⟩
  have hv : x (S14.2.2 44) = x (m_vals T (trow S b) p h) := by
    refine hC.cong (fun i hi => ?_)
    subst e14
    have hc : i = 0 ∨ i = 1 ∨ i = 2 ∨ i = 3 ∨ i = 4 ∨ i = 5 ∨ i = 6 := by omega
    rcases hc with rfl | rfl | rfl | rfl | rfl | rfl | rfl <;> rfl
  rw [hv] at f1
  have s1 : tscr S (tpA S 44 0 (trow S b (27 + p))) := tscr.put
  have s2 : tscr S (tpA (tpA S 44 0 (trow S b (27 + p))) 44 1 (trow S b (3 + h))) := s1.trans tscr.put
  have s3 : tscr S (tpA (tpA (tpA S 44 0 (trow S b (27 + p))) 44 1 (trow S b (3 + h))) 44 2 (T.2.1 0 h)) := s2.trans tscr.put
  have s4 : tscr S (tpA (tpA (tpA (tpA S 44 0 (trow S b (27 + p))) 44 1 (trow S b (3 + h))) 44 2 (T.2.1 0 h)) 44 3 (trow S b (11 + h))) := s3.trans tscr.put
  have s5 : tscr S (tpA (tpA (tpA (tpA (tpA S 44 0 (trow S b (27 + p))) 44 1 (trow S b (3 + h))) 44 2 (T.2.1 0 h)) 44 3 (trow S b (11 + h))) 44 4 (m_damp T (trow S b))) := s4.trans tscr.put
  have s6 : tscr S (tpA (tpA (tpA (tpA (tpA (tpA S 44 0 (trow S b (27 + p))) 44 1 (trow S b (3 + h))) 44 2 (T.2.1 0 h)) 44 3 (trow S b (11 + h))) 44 4 (m_damp T (trow S b))) 44 5 (trow S b 0)) := s5.trans tscr.put
  unfold f_asks
  rw [show (27 : Int32) = iv 27 from rfl, show (3 : Int32) = iv 3 from rfl, show (11 : Int32) = iv 11 from rfl]
  rw [row_rd hr (by omega), Option.bind_some, show (0 : Int32) = iv 0 from rfl, w44 _ _ _ (by decide), Option.bind_some]
  rw [row_rd hr (by omega), Option.bind_some, s1.row, show (1 : Int32) = iv 1 from rfl, w44 _ _ _ (by decide), Option.bind_some]
  rw [trd_nat (i := 6) (show h < 8 by omega), Option.bind_some, (s2.tt hT).2.2.2.1, show (2 : Int32) = iv 2 from rfl, w44 _ _ _ (by decide), Option.bind_some]
  rw [row_rd hr (by omega), Option.bind_some, s3.row, w44 _ _ _ (by decide), Option.bind_some]
  rw [dampIn_is (s4.tt hT) hw hr (by rw [s4.row]; exact hW) hD, Option.bind_some, s4.row, show (4 : Int32) = iv 4 from rfl, w44 _ _ _ (by decide), Option.bind_some]
  rw [row_rd1 hr (by decide), Option.bind_some, s5.row, show (5 : Int32) = iv 5 from rfl, w44 _ _ _ (by decide), Option.bind_some]
  rw [tightOf_is hr (by omega) (by omega), Option.bind_some, s6.row, show (6 : Int32) = iv 6 from rfl, w44 _ _ _ (by decide), Option.bind_some]
  rw [← e14, f1]
  rfl
theorem easesOf_is (hT : TT S T) (hw : WT T) (hr : b ≤ 43) (hW : WF D T (trow S b)) (hD : D < 5000) (hp : p < T.1.2.1) (hh : h < T.1.1) (hn : 1500 < n) : ∃ S', f_easesOf n (iv b) (iv p) (iv h) S = some (m_eases T (trow S b) p h, S') ∧ tscr S S' := by
  have h8 := hw.1
  have p8 := hw.2.1
  have q := hT.2.2.2.2.2.2.2.1
  unfold f_easesOf m_eases m_eas0
  unfold TE at q
  cases hz : T.2.2 0 with
  | none =>
    rw [hz] at q
    refine ⟨S, ?_, tscr.rfl⟩
    dsimp only at q ⊢
    rw [if_pos q, trd_nat (i := 6) (show h < 8 by omega), Option.bind_some, dampIn_is hT hw hr hW hD, Option.bind_some, show (11 : Int32) = iv 11 from rfl, row_rd hr (by omega), Option.bind_some, bounded_is, Option.bind_some, hT.2.2.2.1]
  | some e =>
    rw [hz] at q
    dsimp only at q ⊢
    obtain ⟨g, k, c, q1, q2, q3, q4⟩ := q
    obtain ⟨S', f1, f2⟩ := asks_is (n := n) (k := 0) hT hw hr hW hD hp hh q2 q3 q4 hn
    refine ⟨S', ?_, f2⟩
    rw [if_neg (by rw [q1]; exact iv_ne_neg (by have := q2.lt; omega)), q1, f1, Option.bind_some, bounded_is, Option.bind_some]
theorem wouldGo_is (hT : TT S T) (hw : WT T) (hr : b ≤ 43) (hW : WF D T (trow S b)) (hD : D < 5000) (hp : p < T.1.2.1) (hh : h < T.1.1) (hn : 1500 < n) : ∃ S', f_wouldGo n (iv b) (iv p) (iv h) S = some (m_goes T (trow S b) p h, S') ∧ tscr S S' := by
  have h8 := hw.1
  have p8 := hw.2.1
  unfold f_wouldGo m_goes
  rw [isBurst_is hr, Option.bind_some]
  show ∃ S', (if m_isb (trow S b) h = 0 then _ else _) = _ ∧ _
  by_cases c : m_isb (trow S b) h = 0
  · obtain ⟨S', f1, f2⟩ := easesOf_is (n := n) hT hw hr hW hD hp hh hn
    refine ⟨S', ?_, f2⟩
    rw [if_pos c, if_pos c, tightOf_is hr (by omega) (by omega), Option.bind_some, f1, Option.bind_some]
    by_cases d : m_tight (trow S b) p h > m_eases T (trow S b) p h
    · rw [if_pos d, if_pos d]
    · rw [if_neg d, if_neg d]
  · refine ⟨S, ?_, tscr.rfl⟩
    rw [if_neg c, if_neg c]
theorem tight_wear1 (w : Nat → Int32) (hp : p < 8) (hh : h < 8) : m_tight (m_wear1 w p h) p h = m_tight w p h := by
  unfold m_wear1
  generalize ilow 99 (w (11 + h) + m_tight w p h) = x
  generalize ilow 999 (w (35 + p) + m_tight w p h) = y
  unfold m_tight
  rw [pup_ne (by omega), pup_ne (by omega), pup_ne (by omega), pup_ne (by omega)]
theorem wears_J (hr : b ≤ 43) (hh : h < 8) {y : Int32} : Ok (f_wears_J131 n (iv b) (iv h) y S) (fun S' => trow S' b = (if y = 0 then trow S b else pup (pup (trow S b) 1 (trow S b 1 ||| ibit h)) (19 + h) (-1)) ∧ trest b S S') := by
  unfold f_wears_J131
  by_cases c : y = 0
  · rw [if_pos c, if_pos c]
    exact ok_s ⟨rfl, trest.rfl⟩
  · rw [if_neg c, if_neg c, show (1 : Int32) = iv 1 from rfl, show (19 : Int32) = iv 19 from rfl, row_rd1 hr (by decide), Option.bind_some, row_wr1 hr (by decide), Option.bind_some, row_wr hr (by omega), Option.bind_some]
    refine ok_s ⟨?_, (trest.put (by decide)).trans (trest.put (by omega))⟩
    rw [trow_put (by omega), trow_put (by decide)]
    rfl
theorem wears_is (hT : TT S T) (hw : WT T) (hr : b ≤ 43) (hW : WF D T (trow S b)) (hD : D < 5000) (hp : p < T.1.2.1) (hh : h < T.1.1) (hwho : trow S b (19 + h) = iv p) (hn : 1500 < n) : Ok (f_wears n (iv b) (iv h) S) (fun S' => trow S' b = m_wear T (trow S b) p h ∧ trest b S S') := by
  have h8 := hw.1
  have p8 := hw.2.1
  unfold f_wears
  rw [show (19 : Int32) = iv 19 from rfl, show (11 : Int32) = iv 11 from rfl, show (35 : Int32) = iv 35 from rfl]
  rw [row_rd hr (by omega), Option.bind_some, hwho, tightOf_is hr (by omega) (by omega), Option.bind_some, row_rd hr (by omega), Option.bind_some, lesser_is, Option.bind_some, row_wr hr (by omega), Option.bind_some]
  have r5 : trow (tpA S 41 (b + (11 + h)) (ilow 99 (trow S b (11 + h) + m_tight (trow S b) p h))) b = pup (trow S b) (11 + h) (ilow 99 (trow S b (11 + h) + m_tight (trow S b) p h)) := trow_put (by omega)
  have k5 : trest b S (tpA S 41 (b + (11 + h)) (ilow 99 (trow S b (11 + h) + m_tight (trow S b) p h))) := trest.put (by omega)
  generalize tpA S 41 (b + (11 + h)) (ilow 99 (trow S b (11 + h) + m_tight (trow S b) p h)) = S5 at r5 k5
  have e5 : trow S5 b (35 + p) = trow S b (35 + p) := by rw [r5, pup_ne (by omega)]
  rw [row_rd hr (by omega), Option.bind_some, e5, lesser_is, Option.bind_some, row_wr hr (by omega), Option.bind_some]
  have r8 : trow (tpA S5 41 (b + (35 + p)) (ilow 999 (trow S b (35 + p) + m_tight (trow S b) p h))) b = m_wear1 (trow S b) p h := by rw [trow_put (by omega), r5]; rfl
  have k8 : trest b S (tpA S5 41 (b + (35 + p)) (ilow 999 (trow S b (35 + p) + m_tight (trow S b) p h))) := k5.trans (trest.put (by omega))
  generalize tpA S5 41 (b + (35 + p)) (ilow 999 (trow S b (35 + p) + m_tight (trow S b) p h)) = S8 at r8 k8
  have hT8 := k8.tt hT
  have hW8 : WF D T (trow S8 b) := by rw [r8]; exact WF_wear1 hW hw hp hh
  have fin : ∀ S9, tscr S8 S9 → Ok (f_wears_J131 n (iv b) (iv h) (m_bu T (m_wear1 (trow S b) p h) p h) S9) (fun S' => trow S' b = m_wear T (trow S b) p h ∧ trest b S S') := by
    intro S9 h9
    refine ok_mono (wears_J hr (by omega)) (fun S' q => ⟨?_, k8.trans ((h9.rest b).trans q.2)⟩)
    rw [q.1, h9.row, r8]
    rfl
  have q := hT8.2.2.2.2.2.2.2.2
  unfold m_bu at fin
  rw [tight_wear1 _ (by omega) (by omega)] at fin
  unfold TE at q
  cases hz : T.2.2 1 with
  | none =>
    rw [hz] at q fin
    dsimp only at q fin
    rw [if_pos q, trd_nat (i := 6) (show h < 8 by omega), Option.bind_some, hT8.2.2.2.1]
    by_cases c : m_tight (trow S b) p h ≤ 9 + T.2.1 0 h
    · rw [if_pos c] at fin ⊢
      exact fin S8 tscr.rfl
    · rw [if_neg c] at fin ⊢
      exact fin S8 tscr.rfl
  | some e =>
    rw [hz] at q fin
    dsimp only at q fin
    obtain ⟨g, k, c, q1, q2, q3, q4⟩ := q
    obtain ⟨S', f1, f2⟩ := asks_is (n := n) (k := 0) hT8 hw hr hW8 hD hp hh q2 q3 q4 hn
    rw [r8] at f1
    rw [if_neg (by rw [q1]; exact iv_ne_neg (by have := q2.lt; omega)), q1, f1, Option.bind_some]
    dsimp only
    by_cases d : e (m_vals T (m_wear1 (trow S b) p h) p h) ≤ 0
    · rw [if_pos d] at fin ⊢
      exact fin S' f2
    · rw [if_neg d] at fin ⊢
      exact fin S' f2
theorem dayGoes_is (hT : TT S T) (hw : WT T) (hr : b ≤ 43) (hW : WF D T (trow S b)) (hD : D < 4999) (hn : 1500 < n) : Ok (f_dayGoes n (iv b) S) (fun S' => trow S' b = m_day T (trow S b) ∧ trest b S S') := by
  have h8 := hw.1
  have p8 := hw.2.1
  unfold f_dayGoes
  refine ok_c (Q := fun S1 => trow S1 b = m_wears T T.1.1 (trow S b) ∧ trest b S S1) ?_ (fun S1 q1 => ?_)
  · refine ok_loop T.1.1 (fun k s => s.1 = iv k ∧ trow s.2 b = m_wears T k (trow S b) ∧ trest b S s.2) ⟨rfl, rfl, trest.rfl⟩ ?_ ?_ (by omega)
    · rintro k ⟨x, S1⟩ hk ⟨rfl, i2, i3⟩
      dsimp only at i2 i3 ⊢
      have hT1 := i3.tt hT
      have hW1 := WF_wears hW hw (show k ≤ T.1.1 by omega)
      rw [← i2] at hW1
      unfold f_dayGoes_L2
      rw [hT1.1, if_neg (iv_stop hk (by omega)), show (19 : Int32) = iv 19 from rfl, row_rd hr (by omega), Option.bind_some]
      by_cases c : trow S1 b (19 + k) = (-1)
      · rw [if_pos c, iv_succ]
        refine ok_s ⟨rfl, ?_, i3⟩
        show trow S1 b = if m_wears T k (trow S b) (19 + k) = (-1) then _ else _
        rw [← i2, if_pos c]
      · rw [if_neg c]
        rcases hW1.2.2.2.2.2.2.2.1 k hk with z | ⟨p, hp, z⟩
        · exact absurd z c
        · refine ok_c (wears_is hT1 hw hr hW1 (by omega) hp hk z hn) (fun S2 q2 => ?_)
          rw [iv_succ]
          refine ok_s ⟨rfl, ?_, i3.trans q2.2⟩
          show trow S2 b = if m_wears T k (trow S b) (19 + k) = (-1) then _ else _
          rw [← i2, if_neg c, q2.1, z, iv_nat (by omega)]
    · rintro ⟨x, S1⟩ ⟨rfl, i2, i3⟩
      dsimp only at i2 i3 ⊢
      unfold f_dayGoes_L2
      rw [(i3.tt hT).1, if_pos (iv_end (by omega))]
      exact ok_s ⟨i2, i3⟩
  · refine ok_c (Q := fun S2 => trow S2 b = m_grow T T.1.2.1 (m_wears T T.1.1 (trow S b)) ∧ trest b S S2) ?_ (fun S2 q2 => ?_)
    · refine ok_loop T.1.2.1 (fun k s => s.1 = iv k ∧ trow s.2 b = m_grow T k (m_wears T T.1.1 (trow S b)) ∧ trest b S s.2) ⟨rfl, q1.1, q1.2⟩ ?_ ?_ (by omega)
      · rintro k ⟨x, S2⟩ hk ⟨rfl, i2, i3⟩
        dsimp only at i2 i3 ⊢
        have hT1 := i3.tt hT
        unfold f_dayGoes_L39
        rw [hT1.2.1, if_neg (iv_stop hk (by omega)), show (27 : Int32) = iv 27 from rfl, row_rd hr (by omega), Option.bind_some, trd_nat (i := 8) (show k < 8 by omega), Option.bind_some, lesser_is, Option.bind_some, row_wr hr (by omega), Option.bind_some, iv_succ, hT1.2.2.2.2.2.1]
        refine ok_s ⟨rfl, ?_, i3.trans (trest.put (by omega))⟩
        show trow (tpA S2 41 (b + (27 + k)) _) b = _
        rw [trow_put (by omega), i2]
        rfl
      · rintro ⟨x, S2⟩ ⟨rfl, i2, i3⟩
        dsimp only at i2 i3 ⊢
        unfold f_dayGoes_L39
        rw [(i3.tt hT).2.1, if_pos (iv_end (by omega))]
        exact ok_s ⟨i2, i3⟩
    · rw [show (0 : Int32) = iv 0 from rfl, show (2 : Int32) = iv 2 from rfl, row_rd1 hr (by decide), Option.bind_some, row_wr1 hr (by decide), Option.bind_some, row_wr1 hr (by decide), Option.bind_some]
      refine ok_s ⟨?_, q2.2.trans ((trest.put (by decide)).trans (trest.put (by decide)))⟩
      rw [trow_put (by decide), trow_put (by decide), q2.1]
      rfl
end TDAY
