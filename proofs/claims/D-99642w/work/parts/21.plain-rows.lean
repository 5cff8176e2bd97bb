/-! the town as numbers, a street as a row of numbers: what a day does to a row; plain laws of rows -/
set_option maxRecDepth 100000
/-- houses, people, damps told; 0 gives 1 places 2 grows 3 damps; 0 eases 1 bursts -/
abbrev Tn : Type := (Nat × Nat × Nat) × (Nat → Nat → Int32) × (Nat → Option XE)
def pup (w : Nat → Int32) (k : Nat) (v : Int32) : Nat → Int32 := fun j => if j = k then v else w j
theorem pup_eq {w : Nat → Int32} {k : Nat} {v : Int32} : pup w k v k = v := if_pos rfl
theorem pup_ne {w : Nat → Int32} {k j : Nat} {v : Int32} (h : j ≠ k) : pup w k v j = w j := if_neg h
def m_damp (T : Tn) (w : Nat → Int32) : Int32 := if w 43 = (-1) then (if w 2 = 1 then 9 else m_told T.1.2.2 (T.2.1 3) (w 0).toNatClampNeg) else w 43
def m_vals (T : Tn) (w : Nat → Int32) (p h : Nat) : Nat → Int32 := fun i => if i = 0 then w (27 + p) else if i = 1 then w (3 + h) else if i = 2 then T.2.1 0 h else if i = 3 then w (11 + h) else if i = 4 then m_damp T w else if i = 5 then w 0 else m_tight w p h
def m_eas0 (T : Tn) (w : Nat → Int32) (p h : Nat) : Int32 := match T.2.2 0 with
  | none => (T.2.1 0 h + m_damp T w) + w (11 + h) / 10
  | some e => e (m_vals T w p h)
def m_eases (T : Tn) (w : Nat → Int32) (p h : Nat) : Int32 := ibnd (m_eas0 T w p h) 0 30
def m_isb (w : Nat → Int32) (h : Nat) : Int32 := if ((w 1 >>> (iv h &&& 31)) &&& 1) = 1 then 1 else 0
def m_goes (T : Tn) (w : Nat → Int32) (p h : Nat) : Int32 := if m_isb w h = 0 then (if m_tight w p h > m_eases T w p h then 0 else 1) else 0
def m_bu (T : Tn) (w : Nat → Int32) (p h : Nat) : Int32 := match T.2.2 1 with
  | none => if m_tight w p h ≤ (9 : Int32) + T.2.1 0 h then 0 else 1
  | some e => if e (m_vals T w p h) ≤ 0 then 0 else 1
def m_wear1 (w : Nat → Int32) (p h : Nat) : Nat → Int32 := pup (pup w (11 + h) (ilow 99 (w (11 + h) + m_tight w p h))) (35 + p) (ilow 999 (w (35 + p) + m_tight w p h))
def m_wear (T : Tn) (w : Nat → Int32) (p h : Nat) : Nat → Int32 := if m_bu T (m_wear1 w p h) p h = 0 then m_wear1 w p h else pup (pup (m_wear1 w p h) 1 (m_wear1 w p h 1 ||| ibit h)) (19 + h) (-1)
def m_wears (T : Tn) : Nat → (Nat → Int32) → (Nat → Int32)
  | 0, w => w
  | k + 1, w => if m_wears T k w (19 + k) = (-1) then m_wears T k w else m_wear T (m_wears T k w) (m_wears T k w (19 + k)).toNatClampNeg k
def m_grow (T : Tn) : Nat → (Nat → Int32) → (Nat → Int32)
  | 0, w => w
  | k + 1, w => pup (m_grow T k w) (27 + k) (ilow 99 (m_grow T k w (27 + k) + T.2.1 2 k))
def m_day (T : Tn) (w : Nat → Int32) : Nat → Int32 := pup (pup (m_grow T T.1.2.1 (m_wears T T.1.1 w)) 0 (m_grow T T.1.2.1 (m_wears T T.1.1 w) 0 + 1)) 2 0
def m_days (T : Tn) : Nat → (Nat → Int32) → (Nat → Int32)
  | 0, w => w
  | k + 1, w => m_day T (m_days T k w)
/-- the town's numbers -/
def WT (T : Tn) : Prop := T.1.1 ≤ 8 ∧ T.1.2.1 ≤ 8 ∧ T.1.2.2 ≤ 8 ∧ (∀ h, h < T.1.1 → ∃ a, T.2.1 0 h = iv a ∧ a ≤ 9) ∧ (∀ h, h < T.1.1 → ∃ a, T.2.1 1 h = iv a ∧ a ≤ 30) ∧ (∀ p, p < T.1.2.1 → ∃ a, T.2.1 2 p = iv a ∧ a ≤ 9) ∧ ∀ k, k < T.1.2.2 → ∃ a, T.2.1 3 k = iv a ∧ a ≤ 9
/-- who is where: nobody twice -/
def WH (T : Tn) (w : Nat → Int32) : Prop := (∀ h, h < T.1.1 → w (19 + h) = (-1) ∨ ∃ p, p < T.1.2.1 ∧ w (19 + h) = iv p) ∧ ∀ h k, h < T.1.1 → k < T.1.1 → w (19 + h) ≠ (-1) → w (19 + h) = w (19 + k) → h = k
/-- a row's numbers: the day up to D -/
def WF (D : Nat) (T : Tn) (w : Nat → Int32) : Prop := (∃ d, w 0 = iv d ∧ d ≤ D) ∧ (∃ a, w 1 = iv a ∧ a < 256) ∧ (w 2 = 0 ∨ w 2 = 1) ∧ (∀ h, h < T.1.1 → ∃ a, w (3 + h) = iv a ∧ 1 ≤ a ∧ a ≤ 60) ∧ (∀ h, h < T.1.1 → ∃ a, w (11 + h) = iv a ∧ a ≤ 99) ∧ (∀ p, p < T.1.2.1 → ∃ a, w (27 + p) = iv a ∧ a ≤ 99) ∧ (∀ p, p < T.1.2.1 → ∃ a, w (35 + p) = iv a ∧ a ≤ 999) ∧ WH T w
theorem iv_le {a b : Nat} (ha : a < 2 ^ 31) (hb : b < 2 ^ 31) : iv a ≤ iv b ↔ a ≤ b := by
  rw [Int32.le_iff_toInt_le, iv_int ha, iv_int hb]; omega
theorem ilow_iv {a b : Nat} (ha : a < 2 ^ 31) (hb : b < 2 ^ 31) : ilow (iv a) (iv b) = iv (min a b) := by
  unfold ilow
  by_cases c : b ≤ a
  · rw [if_pos ((iv_ge ha hb).mpr c), Nat.min_eq_right c]
  · rw [if_neg (fun z => c ((iv_ge ha hb).mp z)), Nat.min_eq_left (by omega)]
theorem iv_sub_int {a b : Nat} (ha : a < 2 ^ 30) (hb : b < 2 ^ 30) : (iv a - iv b).toInt = (a : Int) - b := by
  rw [Int32.toInt_sub, iv_int (by omega), iv_int (by omega)]
  exact Int.bmod_eq_of_le (by omega) (by omega)
theorem iv_sub {a b : Nat} (h : b ≤ a) : iv a - iv b = iv (a - b) := by
  have : iv a = iv (a - b) + iv b := by rw [iv_add, Nat.sub_add_cancel h]
  rw [this, Int32.add_sub_cancel]
theorem ibnd_sub {a b : Nat} (ha : a ≤ 9999) (hb : b ≤ 9999) : ibnd (iv a - iv b) 0 99999 = iv (a - b) := by
  have e := iv_sub_int (a := a) (b := b) (by omega) (by omega)
  have e0 : (0 : Int32).toInt = 0 := by decide
  have e9 : (99999 : Int32).toInt = 99999 := by decide
  unfold ibnd
  by_cases c : b ≤ a
  · rw [if_pos (by rw [ge_iff_le, Int32.le_iff_toInt_le, e, e0]; omega), if_pos (by rw [Int32.le_iff_toInt_le, e, e9]; omega), iv_sub c]
  · rw [if_neg (by rw [ge_iff_le, Int32.le_iff_toInt_le, e, e0]; omega), show a - b = 0 from by omega]
    rfl
theorem imax_sub {a b : Nat} (ha : a ≤ 9999) (hb : b ≤ 9999) : imax 0 (iv a - iv b) = iv (a - b) := by
  have e := iv_sub_int (a := a) (b := b) (by omega) (by omega)
  have e0 : (0 : Int32).toInt = 0 := by decide
  unfold imax
  by_cases c : b < a
  · rw [if_pos (by rw [Int32.lt_iff_toInt_lt, e, e0]; omega), iv_sub (by omega)]
  · rw [if_neg (by rw [Int32.lt_iff_toInt_lt, e, e0]; omega), show a - b = 0 from by omega]
    rfl
theorem imin_iv {a b : Nat} (ha : a < 2 ^ 31) (hb : b < 2 ^ 31) : imin (iv a) (iv b) = iv (min a b) := by
  unfold imin
  by_cases c : b < a
  · rw [if_pos ((iv_lt hb ha).mpr c), Nat.min_eq_right (by omega)]
  · rw [if_neg (fun z => c ((iv_lt hb ha).mp z)), Nat.min_eq_left (by omega)]
theorem imax_iv {a b : Nat} (ha : a < 2 ^ 31) (hb : b < 2 ^ 31) : imax (iv a) (iv b) = iv (max a b) := by
  unfold imax
  by_cases c : a < b
  · rw [if_pos ((iv_lt ha hb).mpr c), Nat.max_eq_right (by omega)]
  · rw [if_neg (fun z => c ((iv_lt ha hb).mp z)), Nat.max_eq_left (by omega)]
theorem ilow_imin (x y : Int32) : ilow x y = imin x y := by
  unfold ilow imin
  by_cases c : y < x
  · rw [if_pos c, if_pos (Int32.le_of_lt c)]
  · rw [if_neg c]
    by_cases d : x ≥ y
    · rw [if_pos d]
      exact Int32.le_antisymm d (Int32.not_lt.mp c)
    · rw [if_neg d]
/-- 0..30 from the other side -/
theorem ibnd_mm (x : Int32) : ibnd x 0 30 = imax 0 (imin 30 x) := by
  have e0 : (0 : Int32).toInt = 0 := by decide
  have e3 : (30 : Int32).toInt = 30 := by decide
  unfold ibnd imax imin
  by_cases c : x < 30
  · rw [if_pos c]
    by_cases d : (0 : Int32) < x
    · rw [if_pos d, if_pos (Int32.le_of_lt d), if_pos (Int32.le_of_lt c)]
    · rw [if_neg d]
      by_cases f : x ≥ 0
      · rw [if_pos f, if_pos (Int32.le_of_lt c)]
        exact Int32.le_antisymm (Int32.not_lt.mp d) f
      · rw [if_neg f]
  · rw [if_neg c, if_pos (show (0 : Int32) < 30 by decide)]
    have c2 : (30 : Int32) ≤ x := Int32.not_lt.mp c
    have c3 : x ≥ 0 := Int32.le_trans (show (0 : Int32) ≤ 30 by decide) c2
    rw [if_pos c3]
    by_cases d : x ≤ 30
    · rw [if_pos d]
      exact Int32.le_antisymm d c2
    · rw [if_neg d]
theorem tight_iv {D : Nat} {T : Tn} {w : Nat → Int32} (hW : WF D T w) {p h : Nat} (hp : p < T.1.2.1) (hh : h < T.1.1) : ∃ a b, w (27 + p) = iv a ∧ a ≤ 99 ∧ w (3 + h) = iv b ∧ 1 ≤ b ∧ b ≤ 60 ∧ m_tight w p h = iv (a - b) ∧ imax 0 (w (27 + p) - w (3 + h)) = m_tight w p h := by
  obtain ⟨-, -, -, q3, -, q5, -⟩ := hW
  obtain ⟨a, e1, a1⟩ := q5 p hp
  obtain ⟨b, e2, b1, b2⟩ := q3 h hh
  have e3 : m_tight w p h = iv (a - b) := by
    unfold m_tight
    rw [e1, e2, ibnd_sub (by omega) (by omega)]
  refine ⟨a, b, e1, a1, e2, b1, b2, e3, ?_⟩
  rw [e3, e1, e2, imax_sub (by omega) (by omega)]
/-! who is in which house -/
theorem houseOf_some {w : Nat → Int32} {x : Int32} : ∀ {N h k : Nat}, h ≤ k → k < h + N → w (19 + k) = x → (∀ j, h ≤ j → j < k → w (19 + j) ≠ x) → m_houseOf w x N h = iv k := by
  intro N
  induction N with
  | zero => intro h k h1 h2 _ _; omega
  | succ N ih =>
    intro h k h1 h2 e hn
    unfold m_houseOf
    by_cases c : h = k
    · subst c
      rw [if_pos e]
    · rw [if_neg (hn h (Nat.le_refl _) (by omega))]
      exact ih (by omega) (by omega) e (fun j a b => hn j (by omega) b)
theorem houseOf_none {w : Nat → Int32} {x : Int32} : ∀ {N h : Nat}, (∀ j, h ≤ j → j < h + N → w (19 + j) ≠ x) → m_houseOf w x N h = (-1) := by
  intro N
  induction N with
  | zero => intro h _; rfl
  | succ N ih =>
    intro h hn
    unfold m_houseOf
    rw [if_neg (hn h (Nat.le_refl _) (by omega))]
    exact ih (fun j a b => hn j (by omega) (by omega))
theorem houseOf_cases (w : Nat → Int32) (x : Int32) : ∀ (N h : Nat), (∃ k, h ≤ k ∧ k < h + N ∧ w (19 + k) = x ∧ m_houseOf w x N h = iv k) ∨ ((∀ j, h ≤ j → j < h + N → w (19 + j) ≠ x) ∧ m_houseOf w x N h = (-1)) := by
  intro N
  induction N with
  | zero => intro h; exact Or.inr ⟨fun j a b => by omega, rfl⟩
  | succ N ih =>
    intro h
    by_cases c : w (19 + h) = x
    · exact Or.inl ⟨h, Nat.le_refl _, by omega, c, by unfold m_houseOf; rw [if_pos c]⟩
    · have e : m_houseOf w x (N + 1) h = m_houseOf w x N (h + 1) := by
        show (if w (19 + h) = x then iv h else m_houseOf w x N (h + 1)) = _
        rw [if_neg c]
      rcases ih (h + 1) with ⟨k, k1, k2, k3, k4⟩ | ⟨k1, k2⟩
      · exact Or.inl ⟨k, by omega, by omega, k3, by rw [e]; exact k4⟩
      · refine Or.inr ⟨fun j a b => ?_, by rw [e]; exact k2⟩
        by_cases d : j = h
        · rw [d]; exact c
        · exact k1 j (by omega) (by omega)
theorem houseOf_cong {w v : Nat → Int32} {x : Int32} : ∀ {N h : Nat}, (∀ j, h ≤ j → j < h + N → (w (19 + j) = x ↔ v (19 + j) = x)) → m_houseOf w x N h = m_houseOf v x N h := by
  intro N
  induction N with
  | zero => intro h _; rfl
  | succ N ih =>
    intro h hn
    unfold m_houseOf
    have e := hn h (Nat.le_refl _) (by omega)
    rw [ih (fun j a b => hn j (by omega) (by omega))]
    by_cases c : w (19 + h) = x
    · rw [if_pos c, if_pos (e.mp c)]
    · rw [if_neg c, if_neg (fun z => c (e.mpr z))]
/-- the house of p -/
abbrev m_home (T : Tn) (w : Nat → Int32) (p : Nat) : Int32 := m_houseOf w (iv p) T.1.1 0
theorem home_of {T : Tn} {w : Nat → Int32} (hW : WH T w) {p h : Nat} (hp : p < 8) (hh : h < T.1.1) (e : w (19 + h) = iv p) : m_home T w p = iv h := by
  refine houseOf_some (Nat.zero_le _) (by omega) e (fun j _ hj z => ?_)
  have := hW.2 h j hh (by omega) (by rw [e]; exact iv_ne_neg (by omega)) (by rw [e, z])
  omega
theorem home_cases {T : Tn} {w : Nat → Int32} (p : Nat) : (∃ h, h < T.1.1 ∧ w (19 + h) = iv p ∧ m_home T w p = iv h) ∨ ((∀ h, h < T.1.1 → w (19 + h) ≠ iv p) ∧ m_home T w p = (-1)) := by
  rcases houseOf_cases w (iv p) T.1.1 0 with ⟨k, -, k2, k3, k4⟩ | ⟨k1, k2⟩
  · exact Or.inl ⟨k, by omega, k3, k4⟩
  · exact Or.inr ⟨fun h hh => k1 h (Nat.zero_le _) (by omega), k2⟩
/-- putting v into house h -/
theorem home_put {T : Tn} {w : Nat → Int32} {h q : Nat} {v : Int32} (hne : v ≠ iv q) (ho : w (19 + h) ≠ iv q) : m_home T (pup w (19 + h) v) q = m_home T w q := by
  refine houseOf_cong (fun j _ _ => ?_)
  by_cases c : j = h
  · subst c
    rw [pup_eq]
    exact ⟨fun z => absurd z hne, fun z => absurd z ho⟩
  · rw [pup_ne (by omega)]
theorem home_pup {T : Tn} {w : Nat → Int32} {k q : Nat} {v : Int32} (hk : k < 19 ∨ 27 ≤ k) (h8 : T.1.1 ≤ 8) : m_home T (pup w k v) q = m_home T w q := by
  refine houseOf_cong (fun j _ hj => ?_)
  rw [pup_ne (by omega)]
theorem home_out {T : Tn} {w : Nat → Int32} (hW : WH T w) {p h : Nat} (hp : p < 8) (hh : h < T.1.1) (e : w (19 + h) = iv p) : m_home T (pup w (19 + h) (-1)) p = (-1) := by
  refine houseOf_none (fun j _ hj => ?_)
  by_cases c : j = h
  · subst c
    rw [pup_eq]
    exact fun z => iv_ne_neg (by omega) z.symm
  · rw [pup_ne (by omega)]
    intro z
    exact c (hW.2 h j hh (by omega) (by rw [e]; exact iv_ne_neg (by omega)) (by rw [e, z])).symm
theorem home_in {T : Tn} {w : Nat → Int32} {p h : Nat} (hh : h < T.1.1) (hn : ∀ k, k < T.1.1 → w (19 + k) ≠ iv p) : m_home T (pup w (19 + h) (iv p)) p = iv h := by
  refine houseOf_some (Nat.zero_le _) (by omega) pup_eq (fun j _ hj => ?_)
  rw [pup_ne (by omega)]
  exact hn j (by omega)
/-! a row stays a row -/
theorem iv_or {a b : Nat} (ha : a < 2 ^ 32) (hb : b < 2 ^ 32) : iv a ||| iv b = iv (a ||| b) := by
  have hab : a ||| b < 2 ^ 32 := Nat.or_lt_two_pow ha hb
  apply Int32.toBitVec_inj.mp
  apply BitVec.eq_of_toNat_eq
  show ((BitVec.ofNat 32 a) ||| (BitVec.ofNat 32 b)).toNat = (BitVec.ofNat 32 (a ||| b)).toNat
  rw [BitVec.toNat_or, BitVec.toNat_ofNat, BitVec.toNat_ofNat, BitVec.toNat_ofNat, Nat.mod_eq_of_lt ha, Nat.mod_eq_of_lt hb, Nat.mod_eq_of_lt hab]
theorem ibit_iv {h : Nat} (h8 : h < 8) : ibit h = iv (2 ^ h) := by
  have hc : h = 0 ∨ h = 1 ∨ h = 2 ∨ h = 3 ∨ h = 4 ∨ h = 5 ∨ h = 6 ∨ h = 7 := by omega
  rcases hc with rfl | rfl | rfl | rfl | rfl | rfl | rfl | rfl <;> decide
theorem or_bit {a h : Nat} (ha : a < 256) (h8 : h < 8) : ∃ b, iv a ||| ibit h = iv b ∧ b < 256 := by
  have h2 : 2 ^ h < 256 := Nat.pow_lt_pow_right (by decide) (show h < 8 from h8)
  refine ⟨a ||| 2 ^ h, ?_, Nat.or_lt_two_pow (n := 8) ha h2⟩
  rw [ibit_iv h8, iv_or (by omega) (by omega)]
theorem WH_pup {T : Tn} {w : Nat → Int32} {k : Nat} {v : Int32} (hW : WH T w) (h8 : T.1.1 ≤ 8) (hk : k < 19 ∨ 27 ≤ k) : WH T (pup w k v) := by
  refine ⟨fun h hh => ?_, fun h j hh hj => ?_⟩
  · rw [pup_ne (by omega)]; exact hW.1 h hh
  · rw [pup_ne (by omega), pup_ne (by omega)]; exact hW.2 h j hh hj
theorem WH_out {T : Tn} {w : Nat → Int32} {k : Nat} (hW : WH T w) : WH T (pup w (19 + k) (-1)) := by
  refine ⟨fun h hh => ?_, fun h j hh hj hn he => ?_⟩
  · by_cases c : h = k
    · subst c; exact Or.inl pup_eq
    · rw [pup_ne (by omega)]; exact hW.1 h hh
  · by_cases c : h = k
    · subst c; exact absurd pup_eq hn
    · by_cases d : j = k
      · subst d
        rw [pup_eq] at he
        exact absurd he hn
      · rw [pup_ne (by omega)] at hn he
        rw [pup_ne (by omega)] at he
        exact hW.2 h j hh hj hn he
theorem WH_in {T : Tn} {w : Nat → Int32} {k p : Nat} (hW : WH T w) (hp : p < T.1.2.1) (hn : ∀ h, h < T.1.1 → w (19 + h) ≠ iv p) : WH T (pup w (19 + k) (iv p)) := by
  refine ⟨fun h hh => ?_, fun h j hh hj h1 he => ?_⟩
  · by_cases c : h = k
    · subst c; exact Or.inr ⟨p, hp, pup_eq⟩
    · rw [pup_ne (by omega)]; exact hW.1 h hh
  · by_cases c : h = k
    · subst c
      by_cases d : j = h
      · exact d.symm
      · rw [pup_eq, pup_ne (by omega)] at he
        exact absurd he.symm (hn j hj)
    · by_cases d : j = k
      · subst d
        rw [pup_eq, pup_ne (by omega)] at he
        exact absurd he (hn h hh)
      · rw [pup_ne (by omega)] at h1 he
        rw [pup_ne (by omega)] at he
        exact hW.2 h j hh hj h1 he
section ROWK
variable {D : Nat} {T : Tn} {w : Nat → Int32} (hW : WF D T w) (h8 : T.1.1 ≤ 8) (p8 : T.1.2.1 ≤ 8)
theorem WF_day {d : Nat} (hd : d ≤ D) : WF D T w → T.1.1 ≤ 8 → WF D T (pup w 0 (iv d)) := by
  rintro ⟨q0, q1, q2, q3, q4, q5, q6, q7⟩ h8
  refine ⟨⟨d, pup_eq, hd⟩, ?_, ?_, ?_, ?_, ?_, ?_, WH_pup q7 h8 (by omega)⟩
  · rw [pup_ne (by omega)]; exact q1
  · rw [pup_ne (by omega)]; exact q2
  · intro x hx; rw [pup_ne (by omega)]; exact q3 x hx
  · intro x hx; rw [pup_ne (by omega)]; exact q4 x hx
  · intro x hx; rw [pup_ne (by omega)]; exact q5 x hx
  · intro x hx; rw [pup_ne (by omega)]; exact q6 x hx
theorem WF_burst {a : Nat} (ha : a < 256) : WF D T w → T.1.1 ≤ 8 → WF D T (pup w 1 (iv a)) := by
  rintro ⟨q0, q1, q2, q3, q4, q5, q6, q7⟩ h8
  refine ⟨?_, ⟨a, pup_eq, ha⟩, ?_, ?_, ?_, ?_, ?_, WH_pup q7 h8 (by omega)⟩
  · rw [pup_ne (by omega)]; exact q0
  · rw [pup_ne (by omega)]; exact q2
  · intro x hx; rw [pup_ne (by omega)]; exact q3 x hx
  · intro x hx; rw [pup_ne (by omega)]; exact q4 x hx
  · intro x hx; rw [pup_ne (by omega)]; exact q5 x hx
  · intro x hx; rw [pup_ne (by omega)]; exact q6 x hx
theorem WF_wet {v : Int32} (hv : v = 0 ∨ v = 1) : WF D T w → T.1.1 ≤ 8 → WF D T (pup w 2 v) := by
  rintro ⟨q0, q1, q2, q3, q4, q5, q6, q7⟩ h8
  refine ⟨?_, ?_, by rw [pup_eq]; exact hv, ?_, ?_, ?_, ?_, WH_pup q7 h8 (by omega)⟩
  · rw [pup_ne (by omega)]; exact q0
  · rw [pup_ne (by omega)]; exact q1
  · intro x hx; rw [pup_ne (by omega)]; exact q3 x hx
  · intro x hx; rw [pup_ne (by omega)]; exact q4 x hx
  · intro x hx; rw [pup_ne (by omega)]; exact q5 x hx
  · intro x hx; rw [pup_ne (by omega)]; exact q6 x hx
theorem WF_size {h a : Nat} (ha : 1 ≤ a ∧ a ≤ 60) (hh : h < 8) : WF D T w → T.1.1 ≤ 8 → WF D T (pup w (3 + h) (iv a)) := by
  rintro ⟨q0, q1, q2, q3, q4, q5, q6, q7⟩ h8
  refine ⟨?_, ?_, ?_, ?_, ?_, ?_, ?_, WH_pup q7 h8 (by omega)⟩
  · rw [pup_ne (by omega)]; exact q0
  · rw [pup_ne (by omega)]; exact q1
  · rw [pup_ne (by omega)]; exact q2
  · intro x hx
    by_cases c : x = h
    · subst c; exact ⟨a, pup_eq, ha⟩
    · rw [pup_ne (by omega)]; exact q3 x hx
  · intro x hx; rw [pup_ne (by omega)]; exact q4 x hx
  · intro x hx; rw [pup_ne (by omega)]; exact q5 x hx
  · intro x hx; rw [pup_ne (by omega)]; exact q6 x hx
theorem WF_worn {h a : Nat} (ha : a ≤ 99) (hh : h < 8) : WF D T w → T.1.1 ≤ 8 → WF D T (pup w (11 + h) (iv a)) := by
  rintro ⟨q0, q1, q2, q3, q4, q5, q6, q7⟩ h8
  refine ⟨?_, ?_, ?_, ?_, ?_, ?_, ?_, WH_pup q7 h8 (by omega)⟩
  · rw [pup_ne (by omega)]; exact q0
  · rw [pup_ne (by omega)]; exact q1
  · rw [pup_ne (by omega)]; exact q2
  · intro x hx; rw [pup_ne (by omega)]; exact q3 x hx
  · intro x hx
    by_cases c : x = h
    · subst c; exact ⟨a, pup_eq, ha⟩
    · rw [pup_ne (by omega)]; exact q4 x hx
  · intro x hx; rw [pup_ne (by omega)]; exact q5 x hx
  · intro x hx; rw [pup_ne (by omega)]; exact q6 x hx
theorem WF_who {h : Nat} {v : Int32} (hh : h < 8) (hv : WH T (pup w (19 + h) v)) : WF D T w → T.1.1 ≤ 8 → WF D T (pup w (19 + h) v) := by
  rintro ⟨q0, q1, q2, q3, q4, q5, q6, q7⟩ h8
  refine ⟨?_, ?_, ?_, ?_, ?_, ?_, ?_, hv⟩
  · rw [pup_ne (by omega)]; exact q0
  · rw [pup_ne (by omega)]; exact q1
  · rw [pup_ne (by omega)]; exact q2
  · intro x hx; rw [pup_ne (by omega)]; exact q3 x hx
  · intro x hx; rw [pup_ne (by omega)]; exact q4 x hx
  · intro x hx; rw [pup_ne (by omega)]; exact q5 x hx
  · intro x hx; rw [pup_ne (by omega)]; exact q6 x hx
theorem WF_heel {p a : Nat} (ha : a ≤ 99) (hp : p < 8) : WF D T w → T.1.1 ≤ 8 → T.1.2.1 ≤ 8 → WF D T (pup w (27 + p) (iv a)) := by
  rintro ⟨q0, q1, q2, q3, q4, q5, q6, q7⟩ h8 p8
  refine ⟨?_, ?_, ?_, ?_, ?_, ?_, ?_, WH_pup q7 h8 (by omega)⟩
  · rw [pup_ne (by omega)]; exact q0
  · rw [pup_ne (by omega)]; exact q1
  · rw [pup_ne (by omega)]; exact q2
  · intro x hx; rw [pup_ne (by omega)]; exact q3 x hx
  · intro x hx; rw [pup_ne (by omega)]; exact q4 x hx
  · intro x hx
    by_cases c : x = p
    · subst c; exact ⟨a, pup_eq, ha⟩
    · rw [pup_ne (by omega)]; exact q5 x hx
  · intro x hx; rw [pup_ne (by omega)]; exact q6 x hx
theorem WF_sore {p a : Nat} (ha : a ≤ 999) : WF D T w → T.1.1 ≤ 8 → T.1.2.1 ≤ 8 → WF D T (pup w (35 + p) (iv a)) := by
  rintro ⟨q0, q1, q2, q3, q4, q5, q6, q7⟩ h8 p8
  refine ⟨?_, ?_, ?_, ?_, ?_, ?_, ?_, WH_pup q7 h8 (by omega)⟩
  · rw [pup_ne (by omega)]; exact q0
  · rw [pup_ne (by omega)]; exact q1
  · rw [pup_ne (by omega)]; exact q2
  · intro x hx; rw [pup_ne (by omega)]; exact q3 x hx
  · intro x hx; rw [pup_ne (by omega)]; exact q4 x hx
  · intro x hx; rw [pup_ne (by omega)]; exact q5 x hx
  · intro x hx
    by_cases c : x = p
    · subst c; exact ⟨a, pup_eq, ha⟩
    · rw [pup_ne (by omega)]; exact q6 x hx
theorem WF_damp {v : Int32} : WF D T w → T.1.1 ≤ 8 → T.1.2.1 ≤ 8 → WF D T (pup w 43 v) := by
  rintro ⟨q0, q1, q2, q3, q4, q5, q6, q7⟩ h8 p8
  refine ⟨?_, ?_, ?_, ?_, ?_, ?_, ?_, WH_pup q7 h8 (by omega)⟩
  · rw [pup_ne (by omega)]; exact q0
  · rw [pup_ne (by omega)]; exact q1
  · rw [pup_ne (by omega)]; exact q2
  · intro x hx; rw [pup_ne (by omega)]; exact q3 x hx
  · intro x hx; rw [pup_ne (by omega)]; exact q4 x hx
  · intro x hx; rw [pup_ne (by omega)]; exact q5 x hx
  · intro x hx; rw [pup_ne (by omega)]; exact q6 x hx
end ROWK
theorem WF_mono {D D' : Nat} {T : Tn} {w : Nat → Int32} (hW : WF D T w) (h : D ≤ D') : WF D' T w := by
  obtain ⟨⟨d, e, hd⟩, q⟩ := hW
  exact ⟨⟨d, e, by omega⟩, q⟩
theorem WF_wear1 {D : Nat} {T : Tn} {w : Nat → Int32} (hW : WF D T w) (hT : WT T) {p h : Nat} (hp : p < T.1.2.1) (hh : h < T.1.1) : WF D T (m_wear1 w p h) := by
  obtain ⟨a, b, e1, a1, e2, b1, b2, e3, -⟩ := tight_iv hW hp hh
  obtain ⟨c, f1, c1⟩ := hW.2.2.2.2.1 h hh
  obtain ⟨s, g1, s1⟩ := hW.2.2.2.2.2.2.1 p hp
  unfold m_wear1
  rw [e3, f1, g1, iv_add, iv_add, show (99 : Int32) = iv 99 from rfl, show (999 : Int32) = iv 999 from rfl, ilow_iv (by omega) (by omega), ilow_iv (by omega) (by omega)]
  exact WF_sore (Nat.min_le_left _ _) (WF_worn (Nat.min_le_left _ _) (by have := hT.1; omega) hW hT.1) hT.1 hT.2.1
theorem WF_wear {D : Nat} {T : Tn} {w : Nat → Int32} (hW : WF D T w) (hT : WT T) {p h : Nat} (hp : p < T.1.2.1) (hh : h < T.1.1) : WF D T (m_wear T w p h) := by
  have h1 := WF_wear1 hW hT hp hh
  have h8 := hT.1
  unfold m_wear
  by_cases c : m_bu T (m_wear1 w p h) p h = 0
  · rw [if_pos c]; exact h1
  · rw [if_neg c]
    obtain ⟨a, e, a1⟩ := h1.2.1
    obtain ⟨b, f, b1⟩ := or_bit a1 (show h < 8 by omega)
    rw [e, f]
    have h2 := WF_burst b1 h1 h8
    exact WF_who (by omega) (WH_out h2.2.2.2.2.2.2.2) h2 h8
theorem WF_wears {D : Nat} {T : Tn} {w : Nat → Int32} (hW : WF D T w) (hT : WT T) : ∀ {k : Nat}, k ≤ T.1.1 → WF D T (m_wears T k w) := by
  intro k
  induction k with
  | zero => intro _; exact hW
  | succ k ih =>
    intro hk
    have h1 := ih (by omega)
    unfold m_wears
    by_cases c : m_wears T k w (19 + k) = (-1)
    · rw [if_pos c]; exact h1
    · rw [if_neg c]
      rcases h1.2.2.2.2.2.2.2.1 k (by omega) with z | ⟨p, hp, z⟩
      · exact absurd z c
      · rw [z, iv_nat (by have := hT.2.1; omega)]
        exact WF_wear h1 hT hp (by omega)
theorem WF_grow {D : Nat} {T : Tn} {w : Nat → Int32} (hW : WF D T w) (hT : WT T) : ∀ {k : Nat}, k ≤ T.1.2.1 → WF D T (m_grow T k w) := by
  intro k
  induction k with
  | zero => intro _; exact hW
  | succ k ih =>
    intro hk
    have h1 := ih (by omega)
    unfold m_grow
    obtain ⟨a, e, a1⟩ := h1.2.2.2.2.2.1 k (by omega)
    obtain ⟨g, f, g1⟩ := hT.2.2.2.2.2.1 k (by omega)
    rw [e, f, iv_add, show (99 : Int32) = iv 99 from rfl, ilow_iv (by omega) (by omega)]
    exact WF_heel (Nat.min_le_left _ _) (by have := hT.2.1; omega) h1 hT.1 hT.2.1
theorem WF_mday {D : Nat} {T : Tn} {w : Nat → Int32} (hW : WF D T w) (hT : WT T) : WF (D + 1) T (m_day T w) := by
  have h1 := WF_grow (WF_wears hW hT (Nat.le_refl _)) hT (Nat.le_refl T.1.2.1)
  unfold m_day
  obtain ⟨d, e, d1⟩ := h1.1
  rw [e, iv_succ]
  exact WF_wet (Or.inl rfl) (WF_day (D := D + 1) (by omega) (WF_mono h1 (by omega)) hT.1) hT.1
theorem WF_mdays {D : Nat} {T : Tn} {w : Nat → Int32} (hW : WF D T w) (hT : WT T) : ∀ {k : Nat}, WF (D + k) T (m_days T k w) := by
  intro k
  induction k with
  | zero => exact hW
  | succ k ih => exact WF_mday ih hT
/-- what a day leaves alone -/
theorem wear_keeps {T : Tn} {w : Nat → Int32} {p h j : Nat} (hj : j = 0 ∨ (2 ≤ j ∧ j < 11) ∨ 43 ≤ j ∨ (27 ≤ j ∧ j < 35)) (h8 : h < 8) (p8 : p < 8) : m_wear T w p h j = w j := by
  unfold m_wear
  by_cases c : m_bu T (m_wear1 w p h) p h = 0
  · rw [if_pos c]
    unfold m_wear1
    rw [pup_ne (by omega), pup_ne (by omega)]
  · rw [if_neg c, pup_ne (by omega), pup_ne (by omega)]
    unfold m_wear1
    rw [pup_ne (by omega), pup_ne (by omega)]
theorem wears_keeps {D : Nat} {T : Tn} {w : Nat → Int32} (hW : WF D T w) (hT : WT T) {j : Nat} (hj : j = 0 ∨ (2 ≤ j ∧ j < 11) ∨ 43 ≤ j ∨ (27 ≤ j ∧ j < 35)) : ∀ {k : Nat}, k ≤ T.1.1 → m_wears T k w j = w j := by
  intro k
  induction k with
  | zero => intro _; rfl
  | succ k ih =>
    intro hk
    have h1 := ih (by omega)
    have h2 := WF_wears hW hT (show k ≤ T.1.1 by omega)
    unfold m_wears
    by_cases c : m_wears T k w (19 + k) = (-1)
    · rw [if_pos c]; exact h1
    · rw [if_neg c]
      rcases h2.2.2.2.2.2.2.2.1 k (by omega) with z | ⟨p, hp, z⟩
      · exact absurd z c
      · have := hT.2.1
        have := hT.1
        rw [z, iv_nat (by omega), wear_keeps hj (by omega) (by omega)]
        exact h1
theorem grow_keeps {T : Tn} {w : Nat → Int32} {j : Nat} (hj : j < 27 ∨ 35 ≤ j) : ∀ {k : Nat}, k ≤ 8 → m_grow T k w j = w j := by
  intro k
  induction k with
  | zero => intro _; rfl
  | succ k ih =>
    intro hk
    unfold m_grow
    rw [pup_ne (by omega)]
    exact ih (by omega)
theorem day_damp {D : Nat} {T : Tn} {w : Nat → Int32} (hW : WF D T w) (hT : WT T) : m_day T w 43 = w 43 := by
  unfold m_day
  rw [pup_ne (by decide), pup_ne (by decide), grow_keeps (by omega) hT.2.1, wears_keeps hW hT (by omega) (Nat.le_refl _)]
theorem days_damp {D : Nat} {T : Tn} {w : Nat → Int32} (hW : WF D T w) (hT : WT T) : ∀ {k : Nat}, m_days T k w 43 = w 43 := by
  intro k
  induction k with
  | zero => rfl
  | succ k ih =>
    show m_day T (m_days T k w) 43 = _
    rw [day_damp (WF_mdays hW hT) hT]
    exact ih
