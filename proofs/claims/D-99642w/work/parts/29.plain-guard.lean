/-! turns: what a turn asks (OP), its guards, how it serves the law -/
set_option maxRecDepth 100000
/-- room of one turn -/
theorem LB.rfl {h : XH} : LB h h := ⟨Nat.le_refl _, Nat.le_add_right _ _, Nat.le_refl _, Nat.le_add_right _ _⟩
/-- after a turn: the twin's word about throwing, the answers, the places -/
def OP (cd : String → Int32 → Prop) (x : Nat) (c : Nat → Value) (h : XH) (r : (Int32 ⊕ XX) × XH) (q : Int32 × TS) : Prop := (match r.1 with
  | .inl v => q.2.1 0 = 0 ∧ q.1 = v
  | .inr e => cd e.1 (q.2.1 0)) ∧ CI x c r.2 q.2 ∧ Fr Wc h r.2 ∧ LB h r.2
def cdN (C : String) (k : Int32) : Prop := C = "java/util/NoSuchElementException" ∧ k = 1
def cdI (C : String) (k : Int32) : Prop := C = "java/lang/IllegalArgumentException" ∧ k = 1
def cdB (C : String) (k : Int32) : Prop := (C = "java/util/NoSuchElementException" ∧ k = 1) ∨ (C = "java/lang/IllegalArgumentException" ∧ k = 2)
theorem LE.fr {b L : Nat} {xs : Nat → Int32} {x m o : Nat} {ad : Nat → Nat} {h h1 : XH} {S : TS} {W : FW} (hE : LE b L xs x m o ad h S) (hf : Fr W h h1) (hW : ∀ a k t, (t = 0 ∨ (1000 ≤ t ∧ t < 1062)) → ¬ W a k t) : LE b L xs x m o ad h1 S := by
  obtain ⟨g1, g2, g3, g4, g5⟩ := hE
  refine ⟨(hf _ _ _ _ g1).1, fun j hj => ?_, (hf _ _ _ _ g3).1, (hf _ _ _ _ g4).1, ?_⟩
  · rw [(hf _ _ _ _ g1).2 (hW _ _ _ (by omega))]; exact g2 j hj
  · obtain ⟨t1, t2, t3, t4⟩ := g5
    have e := (hf _ _ _ _ t1).2 (hW _ _ _ (by omega))
    refine ⟨(hf _ _ _ _ t1).1, fun i a1 a2 a3 => by rw [e]; exact t2 i a1 a2 a3, by rw [e]; exact t3, fun i a1 a2 => ?_⟩
    obtain ⟨u1, u2, u3⟩ := t4 i a1 a2
    refine ⟨by rw [e]; exact u1, (hf _ _ _ _ u2).1, fun j hj => ?_⟩
    rw [(hf _ _ _ _ u2).2 (hW _ _ _ (by omega))]
    exact u3 j hj
theorem LE.wc {b L : Nat} {xs : Nat → Int32} {x m o : Nat} {ad : Nat → Nat} {h h1 : XH} {S : TS} (hE : LE b L xs x m o ad h S) (hf : Fr Wc h h1) : LE b L xs x m o ad h1 S := hE.fr hf (fun a k t ht => by unfold Wc; omega)
theorem xsame_fr {h h1 : XH} (hs : xsame tP h h1) : Fr (fun _ _ t => tP t) h h1 := fun a k n t e => ⟨hs.2.1 _ _ e, fun hn => hs.2.2 a k n t e hn⟩
theorem xsame_hw {h h1 : XH} (hs : xsame tP h h1) (hh : HW h) : HW h1 := by
  intro a e z
  rw [hs.1.2] at z
  rw [hs.1.1]
  exact hh a e z
theorem CI.hw {x : Nat} {c : Nat → Value} {h : XH} {S : TS} (hC : CI x c h S) : HW h := by
  obtain ⟨t, hi, T, s, r, la, ls, hX⟩ := hC
  exact hX.1.1
theorem CI.same {x : Nat} {c : Nat → Value} {h h2 : XH} {S : TS} (hC : CI x c h S) (hs : xsame tP h h2) : CI x c h2 S := by
  have hh := xsame_hw hs hC.hw
  obtain ⟨t, hi, T, s, r, la, ls, hX⟩ := hC
  exact ⟨t, hi, T, s, r, la, ls, hX.same (P := tP) (xsame_fr hs) (fun t ht => by unfold tP at ht; omega) hh TL.rfl⟩
section LOP
variable {b L : Nat} {xs : Nat → Int32} {x m o : Nat} {ad : Nat → Nat} {c : Nat → Value} {h : XH} {S : TS}
/-- between two turns -/
def LI (b L : Nat) (xs : Nat → Int32) (x m o : Nat) (ad : Nat → Nat) (c : Nat → Value) (h : XH) (S : TS) : Prop := LE b L xs x m o ad h S ∧ CI x c h S
/-- what the law's wrappers make of an answer -/
def wrapK (C1 C2 : String) (o : Nat) (r1 : (Int32 ⊕ XX) × XH) : Option (Int32 × XH) := match r1 with
  | (.inl v3, h4) => ((csu h4 o 103 0 (.long ((v3 : Int32).toInt64))).bind fun h8 => some (0, h8))
  | (.inr e5, h4) => (if e5.1 = C1 then some (1, h4) else if e5.1 = C2 then some (2, h4) else none)
def wrapN (o : Nat) (r1 : (Int32 ⊕ XX) × XH) : Option (Int32 × XH) := match r1 with
  | (.inl v3, h4) => ((csu h4 o 103 0 (.long ((v3 : Int32).toInt64))).bind fun h8 => some (0, h8))
  | (.inr e5, h4) => (if e5.1 = "java/util/NoSuchElementException" then some (1, h4) else none)
def wrapI (o : Nat) (r1 : (Int32 ⊕ XX) × XH) : Option (Int32 × XH) := match r1 with
  | (.inl v3, h4) => ((csu h4 o 103 0 (.long ((v3 : Int32).toInt64))).bind fun h8 => some (0, h8))
  | (.inr e5, h4) => (if e5.1 = "java/lang/IllegalArgumentException" then some (1, h4) else none)
def wrapB (o : Nat) (r1 : (Int32 ⊕ XX) × XH) : Option (Int32 × XH) := match r1 with
  | (.inl v3, h4) => ((csu h4 o 103 0 (.long ((v3 : Int32).toInt64))).bind fun h8 => some (0, h8))
  | (.inr e5, h4) => (if e5.1 = "java/util/NoSuchElementException" then some (1, h4) else if e5.1 = "java/lang/IllegalArgumentException" then some (2, h4) else none)
def wrapZ (o : Nat) (r1 : (Int32 ⊕ XX) × XH) : Option (Int32 × XH) := match r1 with
  | (.inl v3, h4) => (if v3 = 0 then (csu h4 o 103 0 (.long 0)).bind fun h9 => some (0, h9) else (csu h4 o 103 0 (.long 1)).bind fun h10 => some (0, h10))
  | (.inr e5, h4) => (if e5.1 = "java/util/NoSuchElementException" then some (1, h4) else none)
/-- the law's long written -/
theorem lw_put {h1 : XH} {S1 : TS} {v : Value} (hE : LE b L xs x m o ad h1 S) (hC : CI x c h1 S1) : csu h1 o 103 0 v = some (xup h1 o 0 v) ∧ LE b L xs x m o ad (xup h1 o 0 v) S ∧ CI x c (xup h1 o 0 v) S1 := by
  have ho := hE.2.2.2.1
  have q : Fq (fun _ _ t => t = 7) h1 (xup h1 o 0 v) := Fq.put ho rfl
  refine ⟨csu_is (j := 0) ho (by decide) (by decide) (by decide), hE.fr q.fr (fun a k t ht => by omega), ?_⟩
  have hh := q.hw hC.hw
  obtain ⟨t, hi, T, s, r, la, ls, hX⟩ := hC
  exact ⟨t, hi, T, s, r, la, ls, hX.same (P := fun t => t = 7) q.fr (fun t ht => Or.inl ht) hh TL.rfl⟩
theorem LI.then {h1 : XH} {S1 : TS} (hE : LE b L xs x m o ad h1 S) (hC : CI x c h1 S1) : ∀ h2, TW m ad S1 h2 → xsame tP h1 h2 → LI b L xs x m o ad c h2 S1 := fun _ hT hs => ⟨hE.same hs hT, hC.same hs⟩
theorem LB.put {h1 : XH} {v : Value} {a i : Nat} (hb : LB h h1) : LB h (xup h1 a i v) := hb
theorem lop_N {kx : Option ((Int32 ⊕ XX) × XH)} {fx : Option (Int32 × TS)} (hI : LI b L xs x m o ad c h S) (hB : Both kx fx (OP cdN x c h)) : ∃ r h1 v S1, kx.bind (wrapN o) = some (r, h1) ∧ fx = some (v, S1) ∧ S1.1 0 = r ∧ LE b L xs x m o ad h1 S ∧ (r = 0 → h1.2.1 o 0 = .long v.toInt64) ∧ LB h h1 ∧ ∀ h2, TW m ad S1 h2 → xsame tP h1 h2 → LI b L xs x m o ad c h2 S1 := by
  obtain ⟨⟨r, h1⟩, ⟨v, S1⟩, e1, e2, q1, q2, q3, q4⟩ := hB
  have hE := hI.1.wc q3
  cases r with
  | inl u =>
    dsimp only at q1 q2 q3 q4 hE
    obtain ⟨z1, rfl⟩ := q1
    obtain ⟨p1, p2, p3⟩ := lw_put (v := .long v.toInt64) hE q2
    refine ⟨0, _, v, S1, ?_, e2, z1, p2, fun _ => xup_eq, q4, LI.then p2 p3⟩
    rw [e1, Option.bind_some]
    show (csu h1 o 103 0 (.long v.toInt64)).bind _ = _
    rw [p1, Option.bind_some]
  | inr e =>
    dsimp only at q1 q2 q3 q4 hE
    obtain ⟨z1, z2⟩ := q1
    refine ⟨1, h1, v, S1, ?_, e2, z2, hE, fun z => absurd z (by decide), q4, LI.then hE q2⟩
    rw [e1, Option.bind_some]
    show (if e.1 = _ then _ else _) = _
    rw [if_pos z1]
theorem lop_I {kx : Option ((Int32 ⊕ XX) × XH)} {fx : Option (Int32 × TS)} (hI : LI b L xs x m o ad c h S) (hB : Both kx fx (OP cdI x c h)) : ∃ r h1 v S1, kx.bind (wrapI o) = some (r, h1) ∧ fx = some (v, S1) ∧ S1.1 0 = r ∧ LE b L xs x m o ad h1 S ∧ (r = 0 → h1.2.1 o 0 = .long v.toInt64) ∧ LB h h1 ∧ ∀ h2, TW m ad S1 h2 → xsame tP h1 h2 → LI b L xs x m o ad c h2 S1 := by
  obtain ⟨⟨r, h1⟩, ⟨v, S1⟩, e1, e2, q1, q2, q3, q4⟩ := hB
  have hE := hI.1.wc q3
  cases r with
  | inl u =>
    dsimp only at q1 q2 q3 q4 hE
    obtain ⟨z1, rfl⟩ := q1
    obtain ⟨p1, p2, p3⟩ := lw_put (v := .long v.toInt64) hE q2
    refine ⟨0, _, v, S1, ?_, e2, z1, p2, fun _ => xup_eq, q4, LI.then p2 p3⟩
    rw [e1, Option.bind_some]
    show (csu h1 o 103 0 (.long v.toInt64)).bind _ = _
    rw [p1, Option.bind_some]
  | inr e =>
    dsimp only at q1 q2 q3 q4 hE
    obtain ⟨z1, z2⟩ := q1
    refine ⟨1, h1, v, S1, ?_, e2, z2, hE, fun z => absurd z (by decide), q4, LI.then hE q2⟩
    rw [e1, Option.bind_some]
    show (if e.1 = _ then _ else _) = _
    rw [if_pos z1]
theorem lop_B {kx : Option ((Int32 ⊕ XX) × XH)} {fx : Option (Int32 × TS)} (hI : LI b L xs x m o ad c h S) (hB : Both kx fx (OP cdB x c h)) : ∃ r h1 v S1, kx.bind (wrapB o) = some (r, h1) ∧ fx = some (v, S1) ∧ S1.1 0 = r ∧ LE b L xs x m o ad h1 S ∧ (r = 0 → h1.2.1 o 0 = .long v.toInt64) ∧ LB h h1 ∧ ∀ h2, TW m ad S1 h2 → xsame tP h1 h2 → LI b L xs x m o ad c h2 S1 := by
  obtain ⟨⟨r, h1⟩, ⟨v, S1⟩, e1, e2, q1, q2, q3, q4⟩ := hB
  have hE := hI.1.wc q3
  cases r with
  | inl u =>
    dsimp only at q1 q2 q3 q4 hE
    obtain ⟨z1, rfl⟩ := q1
    obtain ⟨p1, p2, p3⟩ := lw_put (v := .long v.toInt64) hE q2
    refine ⟨0, _, v, S1, ?_, e2, z1, p2, fun _ => xup_eq, q4, LI.then p2 p3⟩
    rw [e1, Option.bind_some]
    show (csu h1 o 103 0 (.long v.toInt64)).bind _ = _
    rw [p1, Option.bind_some]
  | inr e =>
    dsimp only at q1 q2 q3 q4 hE
    rcases q1 with ⟨z1, z2⟩ | ⟨z1, z2⟩
    · refine ⟨1, h1, v, S1, ?_, e2, z2, hE, fun z => absurd z (by decide), q4, LI.then hE q2⟩
      rw [e1, Option.bind_some]
      show (if e.1 = _ then _ else _) = _
      rw [if_pos z1]
    · refine ⟨2, h1, v, S1, ?_, e2, z2, hE, fun z => absurd z (by decide), q4, LI.then hE q2⟩
      rw [e1, Option.bind_some]
      show (if e.1 = _ then _ else if e.1 = _ then _ else _) = _
      rw [if_neg (by rw [z1]; decide), if_pos z1]
end LOP
/-! guards -/
def m_in (x a b : Int32) : Int32 := if x < a then 0 else if x > b then 0 else 1
theorem in_k {x a b : Int32} {h : XH} : k_X1_in x a b h = some (m_in x a b) := by
  unfold k_X1_in m_in
  by_cases p : x < a
  · rw [if_pos p, if_pos p]
  · rw [if_neg p, if_neg p]
    by_cases q : x > b
    · rw [if_pos q, if_pos q]
    · rw [if_neg q, if_neg q]
theorem in_f {x a b : Int32} : f_within x a b = some (m_in x a b) := by
  unfold f_within m_in
  by_cases p : x < a
  · rw [if_pos p, if_pos p]
  · rw [if_neg p, if_neg p]
    by_cases q : x > b
    · rw [if_pos q, if_pos q]
    · rw [if_neg q, if_neg q]
theorem in_01 (x a b : Int32) : m_in x a b = 0 ∨ m_in x a b = 1 := by
  unfold m_in
  by_cases p : x < a
  · rw [if_pos p]; exact Or.inl rfl
  · rw [if_neg p]
    by_cases q : x > b
    · rw [if_pos q]; exact Or.inl rfl
    · rw [if_neg q]; exact Or.inr rfl
/-- in a range of small numbers -/
theorem in_iv {x : Int32} {a b : Nat} (ha : a < 2 ^ 31) (hb : b < 2 ^ 31) (h : m_in x (iv a) (iv b) = 1) : ∃ k, x = iv k ∧ a ≤ k ∧ k ≤ b := by
  unfold m_in at h
  by_cases p : x < iv a
  · rw [if_pos p] at h; exact absurd h (by decide)
  · rw [if_neg p] at h
    by_cases q : x > iv b
    · rw [if_pos q] at h; exact absurd h (by decide)
    · have p2 : ¬ x < iv a := p
      have q2 : ¬ iv b < x := q
      rw [Int32.lt_iff_toInt_lt, iv_int ha] at p2
      rw [Int32.lt_iff_toInt_lt, iv_int hb] at q2
      refine ⟨x.toInt.toNat, ?_, by omega, by omega⟩
      apply Int32.toInt_inj.mp
      rw [iv_int (by omega)]
      omega
theorem i01 : ¬ (0 : Int32) = 1 := by decide
theorem right_bad {S : TS} {w : Int32} (h0 : S.1 0 = 0) (hw : w ≠ 0) : f_right 0 w S = some (0, tpF S 0 w) := by
  unfold f_right f_right_J16
  rw [if_pos h0, if_pos (show (0 : Int32) = 0 from rfl), Option.bind_some, if_neg]
  exact hw
theorem right_good {S : TS} {w : Int32} (h0 : S.1 0 = 0) : f_right 1 w S = some (1, S) := by
  unfold f_right f_right_J16
  rw [if_pos h0, if_neg i10, if_pos h0]
theorem found_bad {h : XH} : k_X1_found 0 h = some (.inr ("java/util/NoSuchElementException", h.2.2.1), cmk h 13 5) := by
  have e : ckd (cmk h 13 5) h.2.2.1 13 = some () := ckd_is (xnew_hd (t := 5))
  unfold k_X1_found
  rw [if_pos rfl, Option.bind_some, e, Option.bind_some]
theorem found_good {h : XH} : k_X1_found 1 h = some (.inl (), h) := by
  unfold k_X1_found
  rw [if_neg i10]
theorem kright_bad {h : XH} : k_X1_right 0 h = some (.inr ("java/lang/IllegalArgumentException", h.2.2.1), cmk h 14 5) := by
  have e : ckd (cmk h 14 5) h.2.2.1 14 = some () := ckd_is (xnew_hd (t := 5))
  unfold k_X1_right
  rw [if_pos rfl, Option.bind_some, e, Option.bind_some]
theorem kright_good {h : XH} : k_X1_right 1 h = some (.inl (), h) := by
  unfold k_X1_right
  rw [if_neg i10]
theorem tz0 : tz 0 = some 0 := rfl
theorem tz1 : tz 1 = some 1 := rfl
/-- a number below N, or not -/
theorem idx (a : Int32) {N : Nat} (hN : N < 2 ^ 31) : (∃ p, p < N ∧ a = iv p ∧ m_in a 0 (iv N - 1) = 1 ∧ ¬ a < 0 ∧ ¬ a ≥ iv N) ∨ (m_in a 0 (iv N - 1) = 0 ∧ (a < 0 ∨ (¬ a < 0 ∧ a ≥ iv N))) := by
  have e1 : (1 : Int32) = iv 1 := rfl
  by_cases p : a < 0
  · exact Or.inr ⟨by unfold m_in; rw [if_pos p], Or.inl p⟩
  · have p2 := p
    rw [Int32.lt_iff_toInt_lt] at p2
    have z0 : (0 : Int32).toInt = 0 := by decide
    rw [z0] at p2
    by_cases q : a ≥ iv N
    · refine Or.inr ⟨?_, Or.inr ⟨p, q⟩⟩
      unfold m_in
      rw [if_neg p, if_pos]
      have q2 : iv N ≤ a := q
      rw [Int32.le_iff_toInt_le, iv_int hN] at q2
      show iv N - 1 < a
      rw [Int32.lt_iff_toInt_lt, Int32.toInt_sub, iv_int hN, show (1 : Int32).toInt = 1 by decide, Int.bmod_eq_of_le (by omega) (by omega)]
      omega
    · refine Or.inl ⟨a.toInt.toNat, ?_, ?_, ?_, p, q⟩
      · have q2 : ¬ iv N ≤ a := q
        rw [Int32.le_iff_toInt_le, iv_int hN] at q2
        omega
      · have q2 : ¬ iv N ≤ a := q
        rw [Int32.le_iff_toInt_le, iv_int hN] at q2
        apply Int32.toInt_inj.mp
        rw [iv_int (by omega)]
        omega
      · have q2 : ¬ iv N ≤ a := q
        rw [Int32.le_iff_toInt_le, iv_int hN] at q2
        unfold m_in
        rw [if_neg p, if_neg]
        show ¬ (iv N - 1 < a)
        rw [Int32.lt_iff_toInt_lt, Int32.toInt_sub, iv_int hN, show (1 : Int32).toInt = 1 by decide, Int.bmod_eq_of_le (by omega) (by omega)]
        omega
section GUARD
variable {x t hi : Nat} {T : Tn} {h : XH} {S : TS} {a : Int32} {β : Type} {K : (Unit ⊕ XX) × XH → Option ((β ⊕ XX) × XH)} {K' : Int32 × TS → Option (Int32 × TS)} {P : (β ⊕ XX) × XH → Int32 × TS → Prop}
theorem g_pers (hX : XC x t T hi h) (hT : TT S T) (hw : WT T) (h0 : S.1 0 = 0) (ke : ∀ e h', K (.inr e, h') = some (.inr e, h')) (ke' : ∀ S', K' (0, S') = some (0, S')) (hE : P (.inr ("java/util/NoSuchElementException", h.2.2.1), cmk h 13 5) (0, tpF S 0 1)) (hK : ∀ p, p < T.1.2.1 → a = iv p → Both (K (.inl (), h)) (K' (1, S)) P) : Both ((k_X1_aPerson x a h).bind K) ((f_isPerson a S).bind K') P := by
  have p8 := hw.2.1
  have f1 := hX.town
  have f2 := hX.tv.is1
  have f3 := hX.tv.people
  have f4 := in_k (x := a) (a := 0) (b := iv T.1.2.1 - 1) (h := h)
  rcases idx a (N := T.1.2.1) (by omega) with ⟨p, p1, p2, p3, p4, p5⟩ | ⟨p3, p4⟩
  · rw [p3] at f4
    have f5 := found_good (h := h)
    have e : k_X1_aPerson x a h = some (.inl (), h) := by
      refine ok_eq ?_
      unfold k_X1_aPerson
      repeat (with_reducible first | refine ok_sb ?_ | refine ok_b (by assumption) ?_ | refine ok_pos (by assumption) ?_ | refine ok_neg (by assumption) ?_)
      exact ok_s rfl
    have e' : f_isPerson a S = some (1, S) := by
      unfold f_isPerson
      rw [if_neg p4, hT.2.1, if_neg p5, right_good h0, Option.bind_some, tz1, Option.bind_some]
    exact bb_l e (bb_r e' (hK p p1 p2))
  · rw [p3] at f4
    have f5 := found_bad (h := h)
    have e : k_X1_aPerson x a h = some (.inr ("java/util/NoSuchElementException", h.2.2.1), cmk h 13 5) := by
      refine ok_eq ?_
      unfold k_X1_aPerson
      repeat (with_reducible first | refine ok_sb ?_ | refine ok_b (by assumption) ?_ | refine ok_pos (by assumption) ?_ | refine ok_neg (by assumption) ?_)
      exact ok_s rfl
    have e' : f_isPerson a S = some (0, tpF S 0 1) := by
      unfold f_isPerson
      rcases p4 with p4 | ⟨p4, p5⟩
      · rw [if_pos p4, right_bad h0 i10, Option.bind_some, tz0, Option.bind_some]
      · rw [if_neg p4, hT.2.1, if_pos p5, right_bad h0 i10, Option.bind_some, tz0, Option.bind_some]
    refine bb_l e (bb_r e' ?_)
    rw [ke, ke']
    exact bb_s hE
theorem g_house (hX : XC x t T hi h) (hT : TT S T) (hw : WT T) (h0 : S.1 0 = 0) (ke : ∀ e h', K (.inr e, h') = some (.inr e, h')) (ke' : ∀ S', K' (0, S') = some (0, S')) (hE : P (.inr ("java/util/NoSuchElementException", h.2.2.1), cmk h 13 5) (0, tpF S 0 1)) (hK : ∀ p, p < T.1.1 → a = iv p → Both (K (.inl (), h)) (K' (1, S)) P) : Both ((k_X1_aHouse x a h).bind K) ((f_isHouse a S).bind K') P := by
  have p8 := hw.1
  have f1 := hX.town
  have f2 := hX.tv.is1
  have f3 := hX.tv.houses
  have f4 := in_k (x := a) (a := 0) (b := iv T.1.1 - 1) (h := h)
  rcases idx a (N := T.1.1) (by omega) with ⟨p, p1, p2, p3, p4, p5⟩ | ⟨p3, p4⟩
  · rw [p3] at f4
    have f5 := found_good (h := h)
    have e : k_X1_aHouse x a h = some (.inl (), h) := by
      refine ok_eq ?_
      unfold k_X1_aHouse
      repeat (with_reducible first | refine ok_sb ?_ | refine ok_b (by assumption) ?_ | refine ok_pos (by assumption) ?_ | refine ok_neg (by assumption) ?_)
      exact ok_s rfl
    have e' : f_isHouse a S = some (1, S) := by
      unfold f_isHouse
      rw [if_neg p4, hT.1, if_neg p5, right_good h0, Option.bind_some, tz1, Option.bind_some]
    exact bb_l e (bb_r e' (hK p p1 p2))
  · rw [p3] at f4
    have f5 := found_bad (h := h)
    have e : k_X1_aHouse x a h = some (.inr ("java/util/NoSuchElementException", h.2.2.1), cmk h 13 5) := by
      refine ok_eq ?_
      unfold k_X1_aHouse
      repeat (with_reducible first | refine ok_sb ?_ | refine ok_b (by assumption) ?_ | refine ok_pos (by assumption) ?_ | refine ok_neg (by assumption) ?_)
      exact ok_s rfl
    have e' : f_isHouse a S = some (0, tpF S 0 1) := by
      unfold f_isHouse
      rcases p4 with p4 | ⟨p4, p5⟩
      · rw [if_pos p4, right_bad h0 i10, Option.bind_some, tz0, Option.bind_some]
      · rw [if_neg p4, hT.1, if_pos p5, right_bad h0 i10, Option.bind_some, tz0, Option.bind_some]
    refine bb_l e (bb_r e' ?_)
    rw [ke, ke']
    exact bb_s hE
theorem g_what {M : Int32} {N : Nat} (hM : M = iv N) (hN : N < 100) (h0 : S.1 0 = 0) (ke : ∀ e h', K (.inr e, h') = some (.inr e, h')) (ke' : ∀ S', K' (0, S') = some (0, S')) (hE : P (.inr ("java/util/NoSuchElementException", h.2.2.1), cmk h 13 5) (0, tpF S 0 1)) (hK : ∀ p, p ≤ N → a = iv p → Both (K (.inl (), h)) (K' (1, S)) P) : Both ((k_X1_oneOf a M h).bind K) ((f_isWhat a M S).bind K') P := by
  subst hM
  have f4 := in_k (x := a) (a := 0) (b := iv N) (h := h)
  have f6 := in_f (x := a) (a := 0) (b := iv N)
  rcases in_01 a 0 (iv N) with z | z
  · rw [z] at f4 f6
    have f5 := found_bad (h := h)
    have f7 := right_bad (S := S) (w := 1) h0 i10
    have f8 := tz0
    have e : k_X1_oneOf a (iv N) h = some (.inr ("java/util/NoSuchElementException", h.2.2.1), cmk h 13 5) := by
      refine ok_eq ?_
      unfold k_X1_oneOf
      repeat (with_reducible first | refine ok_sb ?_ | refine ok_b (by assumption) ?_ | refine ok_pos (by assumption) ?_ | refine ok_neg (by assumption) ?_)
      exact ok_s rfl
    have e' : f_isWhat a (iv N) S = some (0, tpF S 0 1) := by
      refine ok_eq ?_
      unfold f_isWhat
      repeat (with_reducible first | refine ok_sb ?_ | refine ok_b (by assumption) ?_ | refine ok_pos (by assumption) ?_ | refine ok_neg (by assumption) ?_)
      exact ok_s rfl
    refine bb_l e (bb_r e' ?_)
    rw [ke, ke']
    exact bb_s hE
  · obtain ⟨k, k1, -, k2⟩ := in_iv (a := 0) (b := N) (by decide) (by omega) z
    rw [z] at f4 f6
    have f5 := found_good (h := h)
    have f7 := right_good (S := S) (w := 1) h0
    have f8 := tz1
    have e : k_X1_oneOf a (iv N) h = some (.inl (), h) := by
      refine ok_eq ?_
      unfold k_X1_oneOf
      repeat (with_reducible first | refine ok_sb ?_ | refine ok_b (by assumption) ?_ | refine ok_pos (by assumption) ?_ | refine ok_neg (by assumption) ?_)
      exact ok_s rfl
    have e' : f_isWhat a (iv N) S = some (1, S) := by
      refine ok_eq ?_
      unfold f_isWhat
      repeat (with_reducible first | refine ok_sb ?_ | refine ok_b (by assumption) ?_ | refine ok_pos (by assumption) ?_ | refine ok_neg (by assumption) ?_)
      exact ok_s rfl
    exact bb_l e (bb_r e' (hK k k2 k1))
/-- days from lo to 40, said by 'right' -/
theorem g_days {M w : Int32} {lo : Nat} (hM : M = iv lo) (hl : lo < 40) (hw : w ≠ 0) (h0 : S.1 0 = 0) (ke : ∀ e h', K (.inr e, h') = some (.inr e, h')) (ke' : ∀ S', K' (0, S') = some (0, S')) (hE : P (.inr ("java/lang/IllegalArgumentException", h.2.2.1), cmk h 14 5) (0, tpF S 0 w)) (hK : ∀ p, lo ≤ p → p ≤ 40 → a = iv p → Both (K (.inl (), h)) (K' (1, S)) P) : Both ((k_X1_in a M 40 h).bind fun r1 => (k_X1_right r1 h).bind K) ((f_isDays a M w S).bind K') P := by
  subst hM
  have f4 : k_X1_in a (iv lo) 40 h = some (m_in a (iv lo) (iv 40)) := in_k
  have f6 : f_within a (iv lo) 40 = some (m_in a (iv lo) (iv 40)) := in_f
  rcases in_01 a (iv lo) (iv 40) with z | z
  · rw [z] at f4 f6
    have f5 := kright_bad (h := h)
    have f7 := right_bad (S := S) (w := w) h0 hw
    have f8 := tz0
    have e' : f_isDays a (iv lo) w S = some (0, tpF S 0 w) := by
      refine ok_eq ?_
      unfold f_isDays
      repeat (with_reducible first | refine ok_sb ?_ | refine ok_b (by assumption) ?_ | refine ok_pos (by assumption) ?_ | refine ok_neg (by assumption) ?_)
      exact ok_s rfl
    refine bb_l f4 (bb_l f5 (bb_r e' ?_))
    rw [ke, ke']
    exact bb_s hE
  · obtain ⟨k, k1, k3, k2⟩ := in_iv (a := lo) (b := 40) (by omega) (by omega) z
    rw [z] at f4 f6
    have f5 := kright_good (h := h)
    have f7 := right_good (S := S) (w := w) h0
    have f8 := tz1
    have e' : f_isDays a (iv lo) w S = some (1, S) := by
      refine ok_eq ?_
      unfold f_isDays
      repeat (with_reducible first | refine ok_sb ?_ | refine ok_b (by assumption) ?_ | refine ok_pos (by assumption) ?_ | refine ok_neg (by assumption) ?_)
      exact ok_s rfl
    exact bb_l f4 (bb_l f5 (bb_r e' (hK k k3 k2 k1)))
/-- a range said by 'right' on both sides -/
theorem g_right {A B w : Int32} {lo up : Nat} (hA : A = iv lo) (hB : B = iv up) (hl : lo < 100) (hu : up < 100) (hw : w ≠ 0) (h0 : S.1 0 = 0) (ke : ∀ e h', K (.inr e, h') = some (.inr e, h')) (ke' : ∀ S', K' (0, S') = some (0, S')) (hE : P (.inr ("java/lang/IllegalArgumentException", h.2.2.1), cmk h 14 5) (0, tpF S 0 w)) (hK : ∀ p, lo ≤ p → p ≤ up → a = iv p → Both (K (.inl (), h)) (K' (1, S)) P) : Both ((k_X1_in a A B h).bind fun r1 => (k_X1_right r1 h).bind K) ((f_within a A B).bind fun r2 => (f_right r2 w S).bind K') P := by
  subst hA hB
  have f4 : k_X1_in a (iv lo) (iv up) h = some (m_in a (iv lo) (iv up)) := in_k
  have f6 : f_within a (iv lo) (iv up) = some (m_in a (iv lo) (iv up)) := in_f
  rcases in_01 a (iv lo) (iv up) with z | z
  · rw [z] at f4 f6
    have f5 := kright_bad (h := h)
    have f7 := right_bad (S := S) (w := w) h0 hw
    refine bb_l f4 (bb_l f5 (bb_r f6 (bb_r f7 ?_)))
    rw [ke, ke']
    exact bb_s hE
  · obtain ⟨k, k1, k3, k2⟩ := in_iv (a := lo) (b := up) (by omega) (by omega) z
    rw [z] at f4 f6
    have f5 := kright_good (h := h)
    have f7 := right_good (S := S) (w := w) h0
    exact bb_l f4 (bb_l f5 (bb_r f6 (bb_r f7 (hK k k3 k2 k1))))
end GUARD
section OPEND
variable {x t hi : Nat} {T : Tn} {s r la ls : Nat} {c : Nat → Value} {h h' : XH} {S S' : TS} {cd : String → Int32 → Prop}
/-- thrown: a new throwable, nothing else -/
theorem op_exc {C : String} {k : Int32} {ci : Nat} (hC : CIx x t hi T s r la ls c h S) (hcd : cd C k) : OP cd x c h (.inr (C, h.2.2.1), cmk h ci 5) (0, tpF S 0 k) := by
  have hh := hC.1.1
  have hw := xnew_hw (k := ci) (n := 0) (t := 5) (N := 6) (f := fun _ => .null) hh
  refine ⟨?_, ⟨t, hi, T, s, r, la, ls, hC.same (P := fun _ => False) (xnew_fr hh) (fun t ht => ht.elim) hw TL.thr⟩, xnew_fr hh, ?_⟩
  · show cd C (if 0 = 0 then k else S.1 0)
    rw [if_pos rfl]
    exact hcd
  · exact ⟨Nat.le_add_right _ _, Nat.add_le_add_left (by decide) _, Nat.le_add_right _ _, Nat.add_le_add_left (by decide) _⟩
theorem LB.eq {h h' : XH} (e : h'.2.2 = h.2.2) : LB h h' := by
  unfold LB
  rw [e]
  exact LB.rfl
/-- answered, only the street that is tried changed -/
theorem op_try {w : Nat → Int32} {v u : Int32} (hC : CIx x t hi T s r la ls c h S) (hq : Fq (Wst r) h h') (hS : SV x T h' r w) (hT : TL S S') (h0 : S'.1 0 = 0) (hv : u = v) : OP cd x c h (.inl v, h') (u, S') :=
  ⟨⟨h0, hv⟩, ⟨t, hi, T, s, r, la, ls, hC.tried hq.fr (hq.hw hC.1.1) ⟨w, hS⟩ hT⟩, hq.fr.mono Wst_c, LB.eq hq.2.1⟩
/-- answered, nothing changed but the values -/
theorem op_val {v u : Int32} (hC : CIx x t hi T s r la ls c h S) (hq : Fq Wva h h') (hT : TL S S') (h0 : S'.1 0 = 0) (hv : u = v) : OP cd x c h (.inl v, h') (u, S') := by
  obtain ⟨w, hw⟩ := hC.1.2.2.2.2.2.1
  exact op_try hC (hq.mono Wva_st) (hw.kva hq.fr) hT h0 hv
end OPEND
