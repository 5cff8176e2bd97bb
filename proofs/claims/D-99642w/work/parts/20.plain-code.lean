/-! the twin's code of an expression: what a piece of it denotes, and that the pile machine computes it -/
set_option maxRecDepth 100000
def m_works (op : Nat) (a b : Int32) : Int32 :=
  if op = 4 then (if a = 0 then 0 else if b = 0 then 0 else 1)
  else if op = 5 then (if a = 0 then (if b = 0 then 0 else 1) else 1)
  else if op = 6 then (if a ≥ b then 0 else 1)
  else if op = 7 then (if a = b then 1 else 0)
  else if op = 8 then a + b
  else if op = 9 then a - b
  else if op = 10 then a * b
  else if b = 0 then 0 else a / b
theorem works4 {a b : Int32} : f_works (iv 4) a b = some (if a = 0 then 0 else if b = 0 then 0 else 1) := by
  unfold f_works
  rw [if_neg (by decide), if_pos (by decide)]
  by_cases c : a = 0
  · rw [if_pos c, if_pos c]
  · rw [if_neg c, if_neg c]
    by_cases d : b = 0
    · rw [if_pos d, if_pos d]
    · rw [if_neg d, if_neg d]
theorem works5 {a b : Int32} : f_works (iv 5) a b = some (if a = 0 then (if b = 0 then 0 else 1) else 1) := by
  unfold f_works
  rw [if_neg (by decide), if_neg (by decide), if_pos (by decide)]
  by_cases c : a = 0
  · rw [if_pos c, if_pos c]
    by_cases d : b = 0
    · rw [if_pos d, if_pos d]
    · rw [if_neg d, if_neg d]
  · rw [if_neg c, if_neg c]
theorem works6 {a b : Int32} : f_works (iv 6) a b = some (if a ≥ b then 0 else 1) := by
  unfold f_works
  rw [if_neg (by decide), if_neg (by decide), if_neg (by decide), if_pos (by decide)]
  by_cases c : a ≥ b
  · rw [if_pos c, if_pos c]
  · rw [if_neg c, if_neg c]
theorem works7 {a b : Int32} : f_works (iv 7) a b = some (if a = b then 1 else 0) := by
  unfold f_works
  rw [if_neg (by decide), if_neg (by decide), if_neg (by decide), if_neg (by decide), if_pos (by decide)]
  by_cases c : a = b
  · rw [if_pos c, if_pos c]
  · rw [if_neg c, if_neg c]
theorem works8 {a b : Int32} : f_works (iv 8) a b = some (a + b) := by
  unfold f_works
  rw [if_neg (by decide), if_neg (by decide), if_neg (by decide), if_neg (by decide), if_neg (by decide), if_pos (by decide)]
theorem works9 {a b : Int32} : f_works (iv 9) a b = some (a - b) := by
  unfold f_works
  rw [if_neg (by decide), if_neg (by decide), if_neg (by decide), if_neg (by decide), if_neg (by decide), if_neg (by decide), if_pos (by decide)]
theorem works10 {a b : Int32} : f_works (iv 10) a b = some (a * b) := by
  unfold f_works
  rw [if_neg (by decide), if_neg (by decide), if_neg (by decide), if_neg (by decide), if_neg (by decide), if_neg (by decide), if_neg (by decide), if_pos (by decide)]
theorem works11 {a b : Int32} : f_works (iv 11) a b = some (if b = 0 then 0 else a / b) := by
  unfold f_works
  rw [if_pos (by decide)]
  by_cases c : b = 0
  · rw [if_pos c, if_pos c]
  · rw [if_neg c, if_neg c, if_neg c]
theorem works_is {op : Nat} {a b : Int32} (h4 : 4 ≤ op) (h11 : op ≤ 11) : f_works (iv op) a b = some (m_works op a b) := by
  have hc : op = 4 ∨ op = 5 ∨ op = 6 ∨ op = 7 ∨ op = 8 ∨ op = 9 ∨ op = 10 ∨ op = 11 := by omega
  unfold m_works
  rcases hc with rfl | rfl | rfl | rfl | rfl | rfl | rfl | rfl
  · rw [if_pos (show (4 : Nat) = 4 from rfl)]
    exact works4
  · rw [if_neg (show ¬ (5 : Nat) = 4 by decide), if_pos (show (5 : Nat) = 5 from rfl)]
    exact works5
  · rw [if_neg (show ¬ (6 : Nat) = 4 by decide), if_neg (show ¬ (6 : Nat) = 5 by decide), if_pos (show (6 : Nat) = 6 from rfl)]
    exact works6
  · rw [if_neg (show ¬ (7 : Nat) = 4 by decide), if_neg (show ¬ (7 : Nat) = 5 by decide), if_neg (show ¬ (7 : Nat) = 6 by decide), if_pos (show (7 : Nat) = 7 from rfl)]
    exact works7
  · rw [if_neg (show ¬ (8 : Nat) = 4 by decide), if_neg (show ¬ (8 : Nat) = 5 by decide), if_neg (show ¬ (8 : Nat) = 6 by decide), if_neg (show ¬ (8 : Nat) = 7 by decide), if_pos (show (8 : Nat) = 8 from rfl)]
    exact works8
  · rw [if_neg (show ¬ (9 : Nat) = 4 by decide), if_neg (show ¬ (9 : Nat) = 5 by decide), if_neg (show ¬ (9 : Nat) = 6 by decide), if_neg (show ¬ (9 : Nat) = 7 by decide), if_neg (show ¬ (9 : Nat) = 8 by decide), if_pos (show (9 : Nat) = 9 from rfl)]
    exact works9
  · rw [if_neg (show ¬ (10 : Nat) = 4 by decide), if_neg (show ¬ (10 : Nat) = 5 by decide), if_neg (show ¬ (10 : Nat) = 6 by decide), if_neg (show ¬ (10 : Nat) = 7 by decide), if_neg (show ¬ (10 : Nat) = 8 by decide), if_neg (show ¬ (10 : Nat) = 9 by decide), if_pos (show (10 : Nat) = 10 from rfl)]
    exact works10
  · rw [if_neg (show ¬ (11 : Nat) = 4 by decide), if_neg (show ¬ (11 : Nat) = 5 by decide), if_neg (show ¬ (11 : Nat) = 6 by decide), if_neg (show ¬ (11 : Nat) = 7 by decide), if_neg (show ¬ (11 : Nat) = 8 by decide), if_neg (show ¬ (11 : Nat) = 9 by decide), if_neg (show ¬ (11 : Nat) = 10 by decide)]
    exact works11
abbrev XE : Type := (Nat → Int32) → Int32
/-- the code A from a up to b denotes e -/
def CSeg (A : Nat → Int32) : Nat → Nat → Nat → XE → Prop
  | 0, _, _, _ => False
  | g + 1, a, b, e => (A a = 1 ∧ b = a + 2 ∧ e = fun _ => A (a + 1)) ∨ (A a = 2 ∧ b = a + 2 ∧ ∃ i, i < 7 ∧ A (a + 1) = iv i ∧ e = fun v => v i) ∨ (∃ c e1, CSeg A g a c e1 ∧ A c = 3 ∧ b = c + 1 ∧ e = fun v => if e1 v = 0 then 1 else 0) ∨ (∃ c d e1 e2 op, CSeg A g a c e1 ∧ CSeg A g c d e2 ∧ A d = iv op ∧ 4 ≤ op ∧ op ≤ 11 ∧ b = d + 1 ∧ e = fun v => m_works op (e1 v) (e2 v))
theorem CSeg.lt {A : Nat → Int32} : ∀ {g a b : Nat} {e : XE}, CSeg A g a b e → a + 2 ≤ b := by
  intro g
  induction g with
  | zero => intro a b e h; exact h.elim
  | succ g ih =>
    intro a b e h
    rcases h with ⟨-, h, -⟩ | ⟨-, h, -⟩ | ⟨c, e1, h1, -, h, -⟩ | ⟨c, d, e1, e2, op, h1, h2, -, -, -, h, -⟩
    · omega
    · omega
    · have := ih h1
      omega
    · have := ih h1
      have := ih h2
      omega
theorem CSeg.cong {A : Nat → Int32} : ∀ {g a b : Nat} {e : XE}, CSeg A g a b e → ∀ {v v2 : Nat → Int32}, (∀ i, i < 7 → v i = v2 i) → e v = e v2 := by
  intro g
  induction g with
  | zero => intro a b e h; exact h.elim
  | succ g ih =>
    intro a b e h v v2 hv
    rcases h with ⟨-, -, rfl⟩ | ⟨-, -, i, hi, -, rfl⟩ | ⟨c, e1, h1, -, -, rfl⟩ | ⟨c, d, e1, e2, op, h1, h2, -, -, -, -, rfl⟩
    · rfl
    · exact hv i hi
    · show (if e1 v = 0 then (1 : Int32) else 0) = if e1 v2 = 0 then 1 else 0
      rw [ih h1 hv]
    · show m_works op (e1 v) (e2 v) = m_works op (e1 v2) (e2 v2)
      rw [ih h1 hv, ih h2 hv]
/-- only the pile changed, from m on -/
def tpile (S S' : TS) (m : Nat) : Prop := S'.1 = S.1 ∧ S'.2.1 = S.2.1 ∧ (∀ i, i ≠ 45 → S'.2.2 i = S.2.2 i) ∧ ∀ j, j < m → S'.2.2 45 j = S.2.2 45 j
theorem tpile.rfl {S : TS} {m : Nat} : tpile S S m := ⟨Eq.refl _, Eq.refl _, fun _ _ => Eq.refl _, fun _ _ => Eq.refl _⟩
theorem tpile.trans {S S' S'' : TS} {m : Nat} (a : tpile S S' m) (b : tpile S' S'' m) : tpile S S'' m := ⟨b.1.trans a.1, b.2.1.trans a.2.1, fun i h => (b.2.2.1 i h).trans (a.2.2.1 i h), fun j h => (b.2.2.2 j h).trans (a.2.2.2 j h)⟩
theorem tpile.le {S S' : TS} {m k : Nat} (a : tpile S S' m) (h : k ≤ m) : tpile S S' k := ⟨a.1, a.2.1, a.2.2.1, fun j hj => a.2.2.2 j (by omega)⟩
theorem tpile.put {S : TS} {m k : Nat} {v : Int32} (h : m ≤ k) : tpile S (tpA S 45 k v) m := by
  refine ⟨Eq.refl _, Eq.refl _, fun i hi => ?_, fun j hj => ?_⟩
  · funext q
    simp [tpA, hi]
  · have : ¬ j = k := by omega
    simp [tpA, this]
abbrev rstep (n : Nat) : Int32 × Int32 × TS → Option ((Int32 × Int32 × TS) ⊕ TS) := fun s => f_reckons_L4 n s.1 s.2.1 s.2.2
theorem i10 : ¬ (1 : Int32) = 0 := by decide
theorem rstep_push {n m a : Nat} {S : TS} (hc : S.2.2 10 a = 1) (ha : a + 1 < 1400) (hm : m < 950) : rstep n (iv m, iv a, S) = some (.inl (iv (m + 1), iv (a + 2), tpA S 45 m (S.2.2 10 (a + 1)))) := by
  have e1 : trd S 10 (iv a) = some 1 := by rw [trd_nat (i := 10) (show a < 1400 by omega), hc]
  have e2 : trd S 10 (iv (a + 1)) = some (S.2.2 10 (a + 1)) := trd_nat (i := 10) (show a + 1 < 1400 by omega)
  have e3 : twr S 45 (iv m) (S.2.2 10 (a + 1)) = some (tpA S 45 m (S.2.2 10 (a + 1))) := twr_nat (i := 45) (show m < 950 by omega)
  have e4 : f_reckons_J36 n (iv m) (iv (a + 1)) 1 S = some (.inl (iv (m + 1), iv (a + 2), tpA S 45 m (S.2.2 10 (a + 1)))) := by
    unfold f_reckons_J36
    rw [if_pos (show (1 : Int32) = 1 from rfl), e2]
    show (twr S 45 (iv m) (S.2.2 10 (a + 1))).bind _ = _
    rw [e3]
    show some _ = _
    rw [iv_succ, iv_succ]
  show f_reckons_L4 n (iv m) (iv a) S = _
  unfold f_reckons_L4
  rw [e1, Option.bind_some, if_neg i10, Option.bind_some, Option.bind_some, if_pos (show (1 : Int32) = 1 from rfl), iv_succ]
  exact e4
theorem i20 : ¬ (2 : Int32) = 0 := by decide
theorem i21 : ¬ (2 : Int32) = 1 := by decide
theorem rstep_value {n m a i : Nat} {S : TS} (hc : S.2.2 10 a = 2) (hi : S.2.2 10 (a + 1) = iv i) (hi7 : i < 7) (ha : a + 1 < 1400) (hm : m < 950) : rstep n (iv m, iv a, S) = some (.inl (iv (m + 1), iv (a + 2), tpA S 45 m (S.2.2 44 i))) := by
  have e1 : trd S 10 (iv a) = some 2 := by rw [trd_nat (i := 10) (show a < 1400 by omega), hc]
  have e2 : trd S 10 (iv (a + 1)) = some (iv i) := by rw [trd_nat (i := 10) (show a + 1 < 1400 by omega), hi]
  have e5 : trd S 44 (iv i) = some (S.2.2 44 i) := trd_nat (i := 44) (show i < 7 by omega)
  have e3 : twr S 45 (iv m) (S.2.2 44 i) = some (tpA S 45 m (S.2.2 44 i)) := twr_nat (i := 45) (show m < 950 by omega)
  have e4 : f_reckons_J36 n (iv m) (iv (a + 1)) 2 S = some (.inl (iv (m + 1), iv (a + 2), tpA S 45 m (S.2.2 44 i))) := by
    unfold f_reckons_J36
    rw [if_neg i21, e2, Option.bind_some, e5, Option.bind_some, e3, Option.bind_some, Option.bind_some, Option.bind_some, iv_succ, iv_succ]
  show f_reckons_L4 n (iv m) (iv a) S = _
  unfold f_reckons_L4
  rw [e1, Option.bind_some, if_neg i20, Option.bind_some, Option.bind_some, if_neg i21, if_pos (show (2 : Int32) = 2 from rfl), iv_succ]
  exact e4
theorem iv_pred (k : Nat) : iv (k + 1) - 1 = iv k := by
  rw [← iv_succ, Int32.add_sub_cancel]
theorem iv_dec (k : Nat) : iv (k + 1) + (-1) = iv k := by
  rw [← iv_succ, Int32.add_assoc]
  show iv k + (1 + -1) = iv k
  rw [show (1 : Int32) + -1 = 0 from by decide, Int32.add_zero]
theorem i30 : ¬ (3 : Int32) = 0 := by decide
theorem i31 : ¬ (3 : Int32) = 1 := by decide
theorem i32 : ¬ (3 : Int32) = 2 := by decide
theorem rstep_not {n m a : Nat} {S : TS} (hc : S.2.2 10 a = 3) (ha : a < 1400) (hm : m < 950) : rstep n (iv (m + 1), iv a, S) = some (.inl (iv (m + 1), iv (a + 1), tpA S 45 m (if S.2.2 45 m = 0 then 1 else 0))) := by
  have e1 : trd S 10 (iv a) = some 3 := by rw [trd_nat (i := 10) (show a < 1400 by omega), hc]
  have e2 : trd S 45 (iv m) = some (S.2.2 45 m) := trd_nat (i := 45) (show m < 950 by omega)
  have e3 : ∀ v, twr S 45 (iv m) v = some (tpA S 45 m v) := fun v => twr_nat (i := 45) (show m < 950 by omega)
  show f_reckons_L4 n (iv (m + 1)) (iv a) S = _
  unfold f_reckons_L4
  rw [e1, Option.bind_some, if_neg i30, Option.bind_some, Option.bind_some, if_neg i31, if_neg i32, if_pos (show (3 : Int32) = 3 from rfl), iv_pred, e2, Option.bind_some, iv_succ]
  by_cases c : S.2.2 45 m = 0
  · rw [if_pos c, if_pos c, e3, Option.bind_some]
  · rw [if_neg c, if_neg c, e3, Option.bind_some]
theorem rstep_two {n m a op : Nat} {S : TS} (hc : S.2.2 10 a = iv op) (h4 : 4 ≤ op) (h11 : op ≤ 11) (ha : a < 1400) (hm : m + 1 < 950) : rstep n (iv (m + 2), iv a, S) = some (.inl (iv (m + 1), iv (a + 1), tpA S 45 m (m_works op (S.2.2 45 m) (S.2.2 45 (m + 1))))) := by
  have e1 : trd S 10 (iv a) = some (iv op) := by rw [trd_nat (i := 10) (show a < 1400 by omega), hc]
  have e2 : trd S 45 (iv m) = some (S.2.2 45 m) := trd_nat (i := 45) (show m < 950 by omega)
  have e5 : trd S 45 (iv (m + 1)) = some (S.2.2 45 (m + 1)) := trd_nat (i := 45) (show m + 1 < 950 by omega)
  have e3 : ∀ v, twr S 45 (iv m) v = some (tpA S 45 m v) := fun v => twr_nat (i := 45) (show m < 950 by omega)
  have n0 : ¬ iv op = 0 := fun z => absurd ((iv_inj (b := 0) (by omega) (by omega)).mp z) (by omega)
  have n1 : ¬ iv op = 1 := fun z => absurd ((iv_inj (b := 1) (by omega) (by omega)).mp z) (by omega)
  have n2 : ¬ iv op = 2 := fun z => absurd ((iv_inj (b := 2) (by omega) (by omega)).mp z) (by omega)
  have n3 : ¬ iv op = 3 := fun z => absurd ((iv_inj (b := 3) (by omega) (by omega)).mp z) (by omega)
  show f_reckons_L4 n (iv (m + 2)) (iv a) S = _
  unfold f_reckons_L4
  rw [e1, Option.bind_some, if_neg n0, Option.bind_some, Option.bind_some, if_neg n1, if_neg n2, if_neg n3, iv_dec, Option.bind_some, iv_pred, e2, Option.bind_some, e5, Option.bind_some, works_is h4 h11, Option.bind_some, e3, Option.bind_some, iv_succ]
/-- a piece of code run: its answer on the pile -/
theorem reckons_seg {A : Nat → Int32} {n0 : Nat} : ∀ {g a b : Nat} {e : XE}, CSeg A g a b e → ∀ {S : TS} {m : Nat}, S.2.2 10 = A → 3 * m + (b - a) + 1 ≤ 2850 → b ≤ 1400 → ∃ S' t, t ≤ b - a ∧ tpile S S' m ∧ S'.2.2 45 m = e (S.2.2 44) ∧ ∀ n, xloop (rstep n0) (n + t) (iv m, iv a, S) = xloop (rstep n0) n (iv (m + 1), iv b, S') := by
  intro g
  induction g with
  | zero => intro a b e h; exact h.elim
  | succ g ih =>
    intro a b e h S m hA hm hb
    rcases h with ⟨h1, rfl, rfl⟩ | ⟨h1, rfl, i, h7, h2, rfl⟩ | ⟨c, e1, h1, h2, rfl, rfl⟩ | ⟨c, d, e1, e2, op, h1, h2, h3, h4, h11, rfl, rfl⟩
    · refine ⟨tpA S 45 m (A (a + 1)), 1, by omega, tpile.put (Nat.le_refl _), by simp [tpA], fun n => ?_⟩
      rw [xloop_succ, rstep_push (by rw [hA]; exact h1) (by omega) (by omega), hA]
      rfl
    · refine ⟨tpA S 45 m (S.2.2 44 i), 1, by omega, tpile.put (Nat.le_refl _), by simp [tpA], fun n => ?_⟩
      rw [xloop_succ, rstep_value (by rw [hA]; exact h1) (by rw [hA]; exact h2) h7 (by omega) (by omega)]
      rfl
    · have hlt := h1.lt
      obtain ⟨S1, t1, q1, q2, q3, q4⟩ := ih h1 (S := S) (m := m) hA (by omega) (by omega)
      have hA1 : S1.2.2 10 = A := by rw [q2.2.2.1 10 (by decide)]; exact hA
      refine ⟨tpA S1 45 m (if S1.2.2 45 m = 0 then 1 else 0), t1 + 1, by omega, q2.trans (tpile.put (Nat.le_refl _)), by simp [tpA, q3], fun n => ?_⟩
      rw [show n + (t1 + 1) = (n + 1) + t1 from by omega, q4, xloop_succ, rstep_not (by rw [hA1]; exact h2) (by omega) (by omega)]
      rfl
    · have hlt := h1.lt
      have hlt2 := h2.lt
      obtain ⟨S1, t1, q1, q2, q3, q4⟩ := ih h1 (S := S) (m := m) hA (by omega) (by omega)
      have hA1 : S1.2.2 10 = A := by rw [q2.2.2.1 10 (by decide)]; exact hA
      obtain ⟨S2, t2, r1, r2, r3, r4⟩ := ih h2 (S := S1) (m := m + 1) hA1 (by omega) (by omega)
      have hA2 : S2.2.2 10 = A := by rw [r2.2.2.1 10 (by decide)]; exact hA1
      have hV : S1.2.2 44 = S.2.2 44 := q2.2.2.1 44 (by decide)
      have hm2 : S2.2.2 45 m = e1 (S.2.2 44) := by rw [r2.2.2.2 m (by omega)]; exact q3
      rw [hV] at r3
      refine ⟨tpA S2 45 m (m_works op (S2.2.2 45 m) (S2.2.2 45 (m + 1))), t1 + (t2 + 1), by omega, (q2.trans (r2.le (by omega))).trans (tpile.put (Nat.le_refl _)), by simp [tpA, hm2, r3], fun n => ?_⟩
      rw [show n + (t1 + (t2 + 1)) = ((n + 1) + t2) + t1 from by omega, q4, r4, xloop_succ, rstep_two (by rw [hA2]; exact h3) h4 h11 (by omega) (by omega)]
      rfl
theorem rstep_stop {n m a : Nat} {S : TS} (hc : S.2.2 10 a = 0) (ha : a < 1400) : rstep n (iv m, iv a, S) = some (.inr S) := by
  have e1 : trd S 10 (iv a) = some 0 := by rw [trd_nat (i := 10) (show a < 1400 by omega), hc]
  show f_reckons_L4 n (iv m) (iv a) S = _
  unfold f_reckons_L4
  rw [e1, Option.bind_some, if_pos (show (0 : Int32) = 0 from rfl)]
theorem reckons_is {A : Nat → Int32} {g a b n : Nat} {e : XE} {S : TS} (hC : CSeg A g a b e) (hA : S.2.2 10 = A) (hs : A b = 0) (hb : b < 1400) (hn : b - a < n) : ∃ S', f_reckons n (iv a) S = some (e (S.2.2 44), S') ∧ tpile S S' 0 := by
  obtain ⟨S1, t, q1, q2, q3, q4⟩ := reckons_seg (n0 := n) hC (S := S) (m := 0) hA (by omega) (by omega)
  have hA1 : S1.2.2 10 = A := by rw [q2.2.2.1 10 (by decide)]; exact hA
  refine ⟨S1, ?_, q2⟩
  have h1 : xloop (rstep n) n (iv 0, iv a, S) = some S1 := by
    obtain ⟨k, rfl⟩ : ∃ k, n = (k + 1) + t := ⟨n - t - 1, by omega⟩
    rw [q4, xloop_succ, rstep_stop (by rw [hA1]; exact hs) (by omega), Option.bind_some]
  have h2 : trd S1 45 0 = some (S1.2.2 45 0) := trd_nat (i := 45) (k := 0) (by decide)
  unfold f_reckons
  show (xloop (rstep n) n (iv 0, iv a, S)).bind _ = _
  rw [h1, Option.bind_some, h2, Option.bind_some, q3]
