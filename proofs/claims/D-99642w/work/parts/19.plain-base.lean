/-! plain law, ground: counted loops, whole numbers as Nat, the town and its rows as views -/
set_option maxRecDepth 100000
theorem xloop_succ {σ ρ : Type} {f : σ → Option (σ ⊕ ρ)} {n : Nat} {s : σ} : xloop f (n + 1) s = (f s).bind fun r => match r with
    | .inl s' => xloop f n s'
    | .inr r => some r := rfl
/-- a counted loop: states s 0, s 1, .., left at s N -/
theorem xloop_cnt {σ ρ : Type} {f : σ → Option (σ ⊕ ρ)} (s : Nat → σ) (r : ρ) : ∀ (N j n : Nat), (∀ k, j ≤ k → k < j + N → f (s k) = some (.inl (s (k + 1)))) → f (s (j + N)) = some (.inr r) → N < n → xloop f n (s j) = some r := by
  intro N
  induction N with
  | zero =>
    intro j n _ he hn
    cases n with
    | zero => omega
    | succ n =>
      unfold xloop
      rw [show s j = s (j + 0) from rfl, he]
      rfl
  | succ N ih =>
    intro j n hs he hn
    cases n with
    | zero => omega
    | succ n =>
      unfold xloop
      rw [hs j (Nat.le_refl _) (by omega)]
      show xloop f n (s (j + 1)) = some r
      exact ih (j + 1) n (fun k h1 h2 => hs k (by omega) (by omega)) (by rw [show j + 1 + N = j + (N + 1) from by omega]; exact he) (by omega)
theorem xloop_to {σ ρ : Type} {f : σ → Option (σ ⊕ ρ)} (s : Nat → σ) (r : ρ) {N n : Nat} {s0 : σ} (h0 : s 0 = s0) (hs : ∀ k, k < N → f (s k) = some (.inl (s (k + 1)))) (he : f (s N) = some (.inr r)) (hn : N < n) : xloop f n s0 = some r := by
  rw [← h0]
  exact xloop_cnt s r N 0 n (fun k _ h => hs k (by omega)) (by rw [Nat.zero_add]; exact he) hn
/-- folding over 0, 1, .., k - 1 -/
def nfold {α : Type} (g : Nat → α → α) (a : α) : Nat → α
  | 0 => a
  | k + 1 => g k (nfold g a k)
theorem nfold_congr {α : Type} {g g2 : Nat → α → α} {a : α} : ∀ {N : Nat}, (∀ k x, k < N → g k x = g2 k x) → nfold g a N = nfold g2 a N := by
  intro N
  induction N with
  | zero => intro _; rfl
  | succ N ih =>
    intro h
    show g N (nfold g a N) = g2 N (nfold g2 a N)
    rw [ih (fun k x hk => h k x (by omega)), h N _ (by omega)]
/-- a Nat as an int -/
abbrev iv (k : Nat) : Int32 := Int32.ofNat k
theorem iv_int {k : Nat} (h : k < 2 ^ 31) : (iv k).toInt = (k : Int) := Int32.toInt_ofNat_of_lt h
theorem iv_nat {k : Nat} (h : k < 2 ^ 31) : (iv k).toNatClampNeg = k := by
  show (iv k).toInt.toNat = k
  rw [iv_int h]; rfl
theorem iv_nneg {k : Nat} (h : k < 2 ^ 31) : ¬ iv k < 0 := by
  rw [Int32.lt_iff_toInt_lt, iv_int h]
  show ¬ ((k : Int) < 0)
  omega
theorem iv_lt {a b : Nat} (ha : a < 2 ^ 31) (hb : b < 2 ^ 31) : iv a < iv b ↔ a < b := by
  rw [Int32.lt_iff_toInt_lt, iv_int ha, iv_int hb]; omega
theorem iv_ge {a b : Nat} (ha : a < 2 ^ 31) (hb : b < 2 ^ 31) : iv a ≥ iv b ↔ b ≤ a := by
  show iv b ≤ iv a ↔ _
  rw [Int32.le_iff_toInt_le, iv_int ha, iv_int hb]; omega
theorem iv_inj {a b : Nat} (ha : a < 2 ^ 31) (hb : b < 2 ^ 31) : iv a = iv b ↔ a = b := by
  constructor
  · intro h
    have := congrArg Int32.toInt h
    rw [iv_int ha, iv_int hb] at this
    omega
  · rintro rfl; rfl
theorem iv_add (a b : Nat) : iv a + iv b = iv (a + b) := (Int32.ofNat_add a b).symm
theorem iv_mul (a b : Nat) : iv a * iv b = iv (a * b) := (Int32.ofNat_mul a b).symm
theorem iv_ne_neg {a : Nat} (ha : a < 2 ^ 31) : ¬ iv a = (-1) := by
  intro h
  have := congrArg Int32.toInt h
  rw [iv_int ha] at this
  have e : (-1 : Int32).toInt = -1 := by decide
  rw [e] at this
  omega
theorem tlen_small (i : Nat) : tlen i < 2 ^ 31 := by
  unfold tlen
  split <;> decide
theorem trd_nat {S : TS} {i k : Nat} (h : k < tlen i) : trd S i (iv k) = some (S.2.2 i k) := by
  have h31 := tlen_small i
  have e1 := iv_nat (k := k) (by omega)
  have e2 := iv_nneg (k := k) (by omega)
  unfold trd
  rw [e1, if_neg]
  rintro (z | z)
  · exact e2 z
  · omega
theorem twr_nat {S : TS} {i k : Nat} {v : Int32} (h : k < tlen i) : twr S i (iv k) v = some (tpA S i k v) := by
  have h31 := tlen_small i
  have e1 := iv_nat (k := k) (by omega)
  have e2 := iv_nneg (k := k) (by omega)
  unfold twr
  rw [e1, if_neg]
  rintro (z | z)
  · exact e2 z
  · omega
/-- the twin's row that begins at r, by places: day 0, burst 1, wet 2, sizes 3, worn 11, who 19, heel 27, sore 35; place 43: damp in place of what is told -/
def trow (S : TS) (r : Nat) : Nat → Int32 := fun k => if k < 43 then S.2.2 41 (r + k) else if k = 43 then S.1 46 else 0
theorem trow_lt {S : TS} {r k : Nat} (h : k < 43) : trow S r k = S.2.2 41 (r + k) := if_pos h
theorem trow_43 {S : TS} {r : Nat} : trow S r 43 = S.1 46 := rfl
theorem trow_rd {S : TS} {r k : Nat} (hr : r ≤ 43) (h : k < 43) : trd S 41 (iv (r + k)) = some (trow S r k) := by
  rw [trow_lt h]
  exact trd_nat (i := 41) (show r + k < 86 by omega)
/-- bounded from both sides -/
def ibnd (x lo hi : Int32) : Int32 := if x ≥ lo then if x ≤ hi then x else hi else lo
theorem bounded_is (x lo hi : Int32) : f_bounded x lo hi = some (ibnd x lo hi) := by
  unfold f_bounded ibnd
  split <;> (try split) <;> rfl
def ilow (x y : Int32) : Int32 := if x ≥ y then y else x
theorem lesser_is (x y : Int32) : f_lesser x y = some (ilow x y) := by
  unfold f_lesser ilow
  split <;> rfl
def m_tight (w : Nat → Int32) (p h : Nat) : Int32 := ibnd (w (27 + p) - w (3 + h)) 0 99999
theorem tightOf_is {S : TS} {r p h : Nat} (hr : r ≤ 43) (hp : p < 8) (hh : h < 8) : f_tightOf (iv r) (iv p) (iv h) S = some (m_tight (trow S r) p h) := by
  have e1 : (iv r + 27) + iv p = iv (r + (27 + p)) := by rw [show (27 : Int32) = iv 27 from rfl, iv_add, iv_add, Nat.add_assoc]
  have e2 : (iv r + 3) + iv h = iv (r + (3 + h)) := by rw [show (3 : Int32) = iv 3 from rfl, iv_add, iv_add, Nat.add_assoc]
  unfold f_tightOf
  rw [e1, e2, trow_rd hr (by omega), trow_rd hr (by omega)]
  simp only [Option.bind_some, bounded_is]
  rfl
/-- who is in which house: the house of p, -1: none -/
def m_houseOf (w : Nat → Int32) (p : Int32) : Nat → Nat → Int32
  | 0, _ => -1
  | N + 1, h => if w (19 + h) = p then iv h else m_houseOf w p N (h + 1)
theorem houseOf_is {S : TS} {n r nH : Nat} {p : Int32} (hr : r ≤ 43) (hH : S.1 1 = iv nH) (h8 : nH ≤ 8) (hn : 8 < n) : f_houseOf n (iv r) p S = some (m_houseOf (trow S r) p nH 0) := by
  have key : ∀ (n0 N h n : Nat), h + N = nH → N < n → (xloop (fun s => f_houseOf_L2 n0 (iv r) p s S) n (iv h)).bind (fun o5 => match o5 with | .inl e6 => (some (-1 : Int32)) | .inr e7 => (some e7)) = some (m_houseOf (trow S r) p N h) := by
    intro n0 N
    induction N with
    | zero =>
      intro h n e hn
      cases n with
      | zero => omega
      | succ n =>
        unfold xloop f_houseOf_L2
        rw [hH, if_pos ((iv_ge (by omega) (by omega)).mpr (by omega))]
        rfl
    | succ N ih =>
      intro h n e hn
      cases n with
      | zero => omega
      | succ n =>
        have e1 : (iv r + 19) + iv h = iv (r + (19 + h)) := by rw [show (19 : Int32) = iv 19 from rfl, iv_add, iv_add, Nat.add_assoc]
        have e2 : iv h + 1 = iv (h + 1) := by rw [show (1 : Int32) = iv 1 from rfl, iv_add]
        rw [xloop_succ]
        by_cases c : trow S r (19 + h) = p
        · have st : f_houseOf_L2 n0 (iv r) p (iv h) S = some (.inr (.inr (iv h))) := by
            unfold f_houseOf_L2
            rw [hH, if_neg (fun z => absurd ((iv_ge (by omega) (by omega)).mp z) (by omega)), e1, trow_rd hr (by omega), e2]
            simp only [Option.bind_some, if_pos c]
          rw [st]
          simp only [Option.bind_some, if_pos c, m_houseOf]
        · have st : f_houseOf_L2 n0 (iv r) p (iv h) S = some (.inl (iv (h + 1))) := by
            unfold f_houseOf_L2
            rw [hH, if_neg (fun z => absurd ((iv_ge (by omega) (by omega)).mp z) (by omega)), e1, trow_rd hr (by omega), e2]
            simp only [Option.bind_some, if_neg c]
          rw [st]
          simp only [Option.bind_some, if_neg c, m_houseOf]
          exact ih (h + 1) n (by omega) (by omega)
  have := key n nH 0 n (by omega) (by omega)
  unfold f_houseOf
  exact this
/-- a loop that counts up by an int: its states -/
theorem iv_succ (k : Nat) : iv k + 1 = iv (k + 1) := by rw [show (1 : Int32) = iv 1 from rfl, iv_add]
theorem iv_lit {r c k : Nat} : (iv r + iv c) + iv k = iv (r + (c + k)) := by rw [iv_add, iv_add, Nat.add_assoc]
theorem iv_stop {k N : Nat} (h : k < N) (h8 : N < 2 ^ 31) : ¬ iv k ≥ iv N := fun z => absurd ((iv_ge (by omega) h8).mp z) (by omega)
theorem iv_end {N : Nat} (h8 : N < 2 ^ 31) : iv N ≥ iv N := (iv_ge h8 h8).mpr (Nat.le_refl _)
def m_sore (w : Nat → Int32) (N : Nat) : Int32 := nfold (fun p v => v + w (35 + p)) 0 N
theorem soreIn_is {S : TS} {n r nP : Nat} (hr : r ≤ 43) (hP : S.1 2 = iv nP) (h8 : nP ≤ 8) (hn : 8 < n) : f_soreIn n (iv r) S = some (m_sore (trow S r) nP) := by
  unfold f_soreIn
  rw [xloop_to (s0 := (0, 0)) (N := nP) (fun k => (m_sore (trow S r) k, iv k)) (m_sore (trow S r) nP) rfl ?_ ?_ (by omega)]
  · rfl
  · intro k hk
    show f_soreIn_L4 n (iv r) (m_sore (trow S r) k) (iv k) S = _
    unfold f_soreIn_L4
    rw [hP, if_neg (iv_stop hk (by omega)), show (35 : Int32) = iv 35 from rfl, iv_lit, trow_rd hr (by omega), iv_succ]
    rfl
  · show f_soreIn_L4 n (iv r) _ (iv nP) S = _
    unfold f_soreIn_L4
    rw [hP, if_pos (iv_end (by omega))]
def ibit (k : Nat) : Int32 := (1 : Int32) <<< (iv k &&& 31)
def m_lodgers (w : Nat → Int32) (nH N : Nat) : Int32 := nfold (fun p v => v ||| if m_houseOf w (iv p) nH 0 = (-1) then ibit p else 0) 0 N
theorem lodgersIn_is {S : TS} {n r nH nP : Nat} (hr : r ≤ 43) (hH : S.1 1 = iv nH) (hP : S.1 2 = iv nP) (h7 : nH ≤ 8) (h8 : nP ≤ 8) (hn : 8 < n) : f_lodgersIn n (iv r) S = some (m_lodgers (trow S r) nH nP) := by
  unfold f_lodgersIn
  rw [xloop_to (s0 := (0, 0)) (N := nP) (fun k => (m_lodgers (trow S r) nH k, iv k)) (m_lodgers (trow S r) nH nP) rfl ?_ ?_ (by omega)]
  · rfl
  · intro k hk
    show f_lodgersIn_L4 n (iv r) (m_lodgers (trow S r) nH k) (iv k) S = some (.inl ((m_lodgers (trow S r) nH k ||| if m_houseOf (trow S r) (iv k) nH 0 = (-1) then ibit k else 0), iv (k + 1)))
    unfold f_lodgersIn_L4
    rw [hP, if_neg (iv_stop hk (by omega)), houseOf_is hr hH h7 hn, iv_succ]
    by_cases c : m_houseOf (trow S r) (iv k) nH 0 = (-1)
    · simp only [Option.bind_some, if_pos c]; rfl
    · simp only [Option.bind_some, if_neg c]
  · show f_lodgersIn_L4 n (iv r) _ (iv nP) S = _
    unfold f_lodgersIn_L4
    rw [hP, if_pos (iv_end (by omega))]
def m_taken (w : Nat → Int32) (N : Nat) : Int32 := nfold (fun h v => v ||| if w (19 + h) = (-1) then 0 else ibit h) 0 N
theorem taken_is {S : TS} {n nH : Nat} (hH : S.1 1 = iv nH) (h7 : nH ≤ 8) (hn : 8 < n) : f_taken n S = some (m_taken (trow S 0) nH) := by
  unfold f_taken
  rw [xloop_to (s0 := (0, 0)) (N := nH) (fun k => (m_taken (trow S 0) k, iv k)) (m_taken (trow S 0) nH) rfl ?_ ?_ (by omega)]
  · rfl
  · intro k hk
    show f_taken_L4 n (m_taken (trow S 0) k) (iv k) S = some (.inl ((m_taken (trow S 0) k ||| if trow S 0 (19 + k) = (-1) then 0 else ibit k), iv (k + 1)))
    unfold f_taken_L4
    rw [hH, if_neg (iv_stop hk (by omega)), show (19 : Int32) = iv 19 from rfl, iv_add, show 19 + k = 0 + (19 + k) from by omega, trow_rd (by omega) (by omega), iv_succ]
    by_cases c : trow S 0 (19 + k) = (-1)
    · simp only [Option.bind_some, Nat.zero_add, if_pos c]
    · simp only [Option.bind_some, Nat.zero_add, if_neg c]; rfl
  · show f_taken_L4 n _ (iv nH) S = _
    unfold f_taken_L4
    rw [hH, if_pos (iv_end (by omega))]
def m_burst (w : Nat → Int32) (h : Nat) : Prop := ((w 1 >>> (iv h &&& 31)) &&& 1) = 1
theorem isBurst_is {S : TS} {r h : Nat} (hr : r ≤ 43) : f_isBurst (iv r) (iv h) S = some (if ((trow S r 1 >>> (iv h &&& 31)) &&& 1) = 1 then 1 else 0) := by
  unfold f_isBurst
  rw [show (1 : Int32) = iv 1 from rfl, iv_add, trow_rd hr (by omega)]
  simp only [Option.bind_some]
  split <;> rfl
/-- damps told: their many, their numbers -/
def m_told (nD : Nat) (dm : Nat → Int32) (day : Nat) : Int32 := if nD = 0 then 3 else dm (day % nD)
theorem iv_mod {a b : Nat} (ha : a < 2 ^ 31) (hb : b < 2 ^ 31) (h0 : b ≠ 0) : iv a - iv a / iv b * iv b = iv (a % b) := by
  have hd : iv a / iv b = iv (a / b) := by
    apply Int32.toInt_inj.mp
    have q1 : a / b ≤ a := Nat.div_le_self a b
    rw [Int32.toInt_div_of_ne_left _ _ (by intro z; have := congrArg Int32.toInt z; rw [iv_int ha] at this; have e : Int32.minValue.toInt = -2147483648 := by decide
                                           rw [e] at this; omega), iv_int ha, iv_int hb, iv_int (by omega), Int.tdiv_eq_ediv_of_nonneg (by omega)]
    exact (Int.natCast_ediv a b).symm
  rw [hd, iv_mul]
  have q2 := Nat.div_add_mod a b
  have q3 : iv a = iv (a / b * b) + iv (a % b) := by rw [iv_add, Nat.mul_comm]; rw [q2]
  rw [q3, Int32.add_comm, Int32.add_sub_cancel]
/-! stepping through pure functions: one side (Ok), both sides at once (Both) -/
def Ok {α : Type} (x : Option α) (P : α → Prop) : Prop := ∃ a, x = some a ∧ P a
theorem ok_s {α : Type} {a : α} {P : α → Prop} (h : P a) : Ok (some a) P := ⟨a, rfl, h⟩
theorem ok_b {α β : Type} {x : Option α} {f : α → Option β} {a : α} {P : β → Prop} (e : x = some a) (k : Ok (f a) P) : Ok (x.bind f) P := by
  rw [e]
  exact k
theorem ok_sb {α β : Type} {f : α → Option β} {a : α} {P : β → Prop} (k : Ok (f a) P) : Ok ((some a).bind f) P := k
theorem ok_c {α β : Type} {x : Option α} {f : α → Option β} {P : β → Prop} {Q : α → Prop} (h : Ok x Q) (k : ∀ a, Q a → Ok (f a) P) : Ok (x.bind f) P := by
  obtain ⟨a, e, q⟩ := h
  rw [e]
  exact k a q
theorem ok_if {α : Type} {c : Prop} [Decidable c] {x y : Option α} {P : α → Prop} (h1 : c → Ok x P) (h2 : ¬ c → Ok y P) : Ok (if c then x else y) P := by
  by_cases h : c
  · rw [if_pos h]; exact h1 h
  · rw [if_neg h]; exact h2 h
theorem ok_pos {α : Type} {c : Prop} [Decidable c] {x y : Option α} {P : α → Prop} (h : c) (h1 : Ok x P) : Ok (if c then x else y) P := by
  rw [if_pos h]; exact h1
theorem ok_neg {α : Type} {c : Prop} [Decidable c] {x y : Option α} {P : α → Prop} (h : ¬ c) (h1 : Ok y P) : Ok (if c then x else y) P := by
  rw [if_neg h]; exact h1
theorem ok_mono {α : Type} {x : Option α} {P Q : α → Prop} (h : Ok x P) (k : ∀ a, P a → Q a) : Ok x Q := by
  obtain ⟨a, e, q⟩ := h
  exact ⟨a, e, k a q⟩
theorem ok_eq {α : Type} {x : Option α} {a : α} (h : Ok x (fun b => b = a)) : x = some a := by
  obtain ⟨b, e, rfl⟩ := h
  exact e
def ostep {σ ρ : Type} (G : σ → Prop) (Q : ρ → Prop) : σ ⊕ ρ → Prop
  | .inl a => G a
  | .inr a => Q a
theorem ok_loop0 {σ ρ : Type} {f : σ → Option (σ ⊕ ρ)} {Q : ρ → Prop} (I : Nat → σ → Prop) : ∀ (N j n : Nat) (s : σ), (∀ k s, j ≤ k → k < j + N → I k s → Ok (f s) (ostep (I (k + 1)) Q)) → (∀ s, I (j + N) s → Ok (f s) (ostep (fun _ => False) Q)) → N < n → I j s → Ok (xloop f n s) Q := by
  intro N
  induction N with
  | zero =>
    intro j n s _ he hn hI
    cases n with
    | zero => omega
    | succ n =>
      obtain ⟨a, e, q⟩ := he s hI
      rw [xloop_succ, e]
      cases a with
      | inl z => exact q.elim
      | inr z => exact ok_s q
  | succ N ih =>
    intro j n s hs he hn hI
    cases n with
    | zero => omega
    | succ n =>
      obtain ⟨a, e, q⟩ := hs j s (Nat.le_refl _) (by omega) hI
      rw [xloop_succ, e]
      cases a with
      | inl z => exact ih (j + 1) n z (fun k s h1 h2 => hs k s (by omega) (by omega)) (fun s h => he s (by rw [show j + (N + 1) = j + 1 + N from by omega]; exact h)) (by omega) q
      | inr z => exact ok_s q
/-- a loop that runs at most N times -/
theorem ok_loop {σ ρ : Type} {f : σ → Option (σ ⊕ ρ)} {Q : ρ → Prop} (N : Nat) (I : Nat → σ → Prop) {n : Nat} {s : σ} (h0 : I 0 s) (hs : ∀ k s, k < N → I k s → Ok (f s) (ostep (I (k + 1)) Q)) (he : ∀ s, I N s → Ok (f s) (ostep (fun _ => False) Q)) (hn : N < n) : Ok (xloop f n s) Q :=
  ok_loop0 I N 0 n s (fun k s _ h => hs k s (by omega)) (fun s h => he s (by rw [Nat.zero_add] at h; exact h)) hn h0
def Both {α β : Type} (x : Option α) (y : Option β) (P : α → β → Prop) : Prop := ∃ a b, x = some a ∧ y = some b ∧ P a b
theorem bb_s {α β : Type} {a : α} {b : β} {P : α → β → Prop} (h : P a b) : Both (some a) (some b) P := ⟨a, b, rfl, rfl, h⟩
theorem bb_l {α β γ : Type} {x : Option α} {f : α → Option γ} {y : Option β} {a : α} {P : γ → β → Prop} (e : x = some a) (k : Both (f a) y P) : Both (x.bind f) y P := by
  rw [e]
  exact k
theorem bb_r {α β γ : Type} {x : Option α} {f : α → Option γ} {y : Option β} {a : α} {P : β → γ → Prop} (e : x = some a) (k : Both y (f a) P) : Both y (x.bind f) P := by
  rw [e]
  exact k
theorem bb_ls {α β γ : Type} {f : α → Option γ} {y : Option β} {a : α} {P : γ → β → Prop} (k : Both (f a) y P) : Both ((some a).bind f) y P := k
theorem bb_rs {α β γ : Type} {f : α → Option γ} {y : Option β} {a : α} {P : β → γ → Prop} (k : Both y (f a) P) : Both y ((some a).bind f) P := k
theorem bb_lc {α β γ : Type} {x : Option α} {f : α → Option γ} {y : Option β} {P : γ → β → Prop} {Q : α → Prop} (h : Ok x Q) (k : ∀ a, Q a → Both (f a) y P) : Both (x.bind f) y P := by
  obtain ⟨a, e, q⟩ := h
  rw [e]
  exact k a q
theorem bb_rc {α β γ : Type} {x : Option α} {f : α → Option γ} {y : Option β} {P : β → γ → Prop} {Q : α → Prop} (h : Ok x Q) (k : ∀ a, Q a → Both y (f a) P) : Both y (x.bind f) P := by
  obtain ⟨a, e, q⟩ := h
  rw [e]
  exact k a q
theorem bb_c {α β γ δ : Type} {x : Option α} {f : α → Option γ} {y : Option β} {g : β → Option δ} {P : γ → δ → Prop} {Q : α → β → Prop} (h : Both x y Q) (k : ∀ a b, Q a b → Both (f a) (g b) P) : Both (x.bind f) (y.bind g) P := by
  obtain ⟨a, b, e1, e2, q⟩ := h
  rw [e1, e2]
  exact k a b q
theorem bb_if {α β : Type} {c : Prop} [Decidable c] {x x' : Option α} {y : Option β} {P : α → β → Prop} (h1 : c → Both x y P) (h2 : ¬ c → Both x' y P) : Both (if c then x else x') y P := by
  by_cases h : c
  · rw [if_pos h]; exact h1 h
  · rw [if_neg h]; exact h2 h
theorem bb_if2 {α β : Type} {c d : Prop} [Decidable c] [Decidable d] {x x' : Option α} {y y' : Option β} {P : α → β → Prop} (hcd : c ↔ d) (h1 : c → d → Both x y P) (h2 : ¬ c → ¬ d → Both x' y' P) : Both (if c then x else x') (if d then y else y') P := by
  by_cases h : c
  · rw [if_pos h, if_pos (hcd.mp h)]; exact h1 h (hcd.mp h)
  · rw [if_neg h, if_neg (fun z => h (hcd.mpr z))]; exact h2 h (fun z => h (hcd.mpr z))
theorem bb_lp {α β : Type} {c : Prop} [Decidable c] {x x' : Option α} {y : Option β} {P : α → β → Prop} (h : c) (k : Both x y P) : Both (if c then x else x') y P := by
  rw [if_pos h]; exact k
theorem bb_ln {α β : Type} {c : Prop} [Decidable c] {x x' : Option α} {y : Option β} {P : α → β → Prop} (h : ¬ c) (k : Both x' y P) : Both (if c then x else x') y P := by
  rw [if_neg h]; exact k
theorem bb_rp {α β : Type} {c : Prop} [Decidable c] {x x' : Option α} {y : Option β} {P : β → α → Prop} (h : c) (k : Both y x P) : Both y (if c then x else x') P := by
  rw [if_pos h]; exact k
theorem bb_rn {α β : Type} {c : Prop} [Decidable c] {x x' : Option α} {y : Option β} {P : β → α → Prop} (h : ¬ c) (k : Both y x' P) : Both y (if c then x else x') P := by
  rw [if_neg h]; exact k
theorem bb_mono {α β : Type} {x : Option α} {y : Option β} {P Q : α → β → Prop} (h : Both x y P) (k : ∀ a b, P a b → Q a b) : Both x y Q := by
  obtain ⟨a, b, e1, e2, q⟩ := h
  exact ⟨a, b, e1, e2, k a b q⟩
theorem bb_eqs {α β : Type} {x : Option α} {y : Option β} {a : α} {b : β} {P : α → β → Prop} (e1 : x = some a) (e2 : y = some b) (h : P a b) : Both x y P := ⟨a, b, e1, e2, h⟩
def bstep {σ ρ τ υ : Type} (G : σ → τ → Prop) (Q : ρ → υ → Prop) : σ ⊕ ρ → τ ⊕ υ → Prop
  | .inl a, .inl b => G a b
  | .inr a, .inr b => Q a b
  | .inl _, .inr _ => False
  | .inr _, .inl _ => False
theorem bb_loop0 {σ ρ τ υ : Type} {f : σ → Option (σ ⊕ ρ)} {g : τ → Option (τ ⊕ υ)} {Q : ρ → υ → Prop} (I : Nat → σ → τ → Prop) : ∀ (N j n m : Nat) (s : σ) (t : τ), (∀ k s t, j ≤ k → k < j + N → I k s t → Both (f s) (g t) (bstep (I (k + 1)) Q)) → (∀ s t, I (j + N) s t → Both (f s) (g t) (bstep (fun _ _ => False) Q)) → N < n → N < m → I j s t → Both (xloop f n s) (xloop g m t) Q := by
  intro N
  induction N with
  | zero =>
    intro j n m s t _ he hn hm hI
    cases n with
    | zero => omega
    | succ n =>
      cases m with
      | zero => omega
      | succ m =>
        obtain ⟨a, b, e1, e2, q⟩ := he s t hI
        rw [xloop_succ, xloop_succ, e1, e2]
        cases a <;> cases b
        · exact q.elim
        · exact q.elim
        · exact q.elim
        · exact bb_s q
  | succ N ih =>
    intro j n m s t hs he hn hm hI
    cases n with
    | zero => omega
    | succ n =>
      cases m with
      | zero => omega
      | succ m =>
        obtain ⟨a, b, e1, e2, q⟩ := hs j s t (Nat.le_refl _) (by omega) hI
        rw [xloop_succ, xloop_succ, e1, e2]
        cases a <;> cases b
        · exact ih (j + 1) n m _ _ (fun k s t h1 h2 => hs k s t (by omega) (by omega)) (fun s t h => he s t (by rw [show j + (N + 1) = j + 1 + N from by omega]; exact h)) (by omega) (by omega) q
        · exact q.elim
        · exact q.elim
        · exact bb_s q
/-- two loops side by side, at most N times -/
theorem bb_loop {σ ρ τ υ : Type} {f : σ → Option (σ ⊕ ρ)} {g : τ → Option (τ ⊕ υ)} {Q : ρ → υ → Prop} (N : Nat) (I : Nat → σ → τ → Prop) {n m : Nat} {s : σ} {t : τ} (h0 : I 0 s t) (hs : ∀ k s t, k < N → I k s t → Both (f s) (g t) (bstep (I (k + 1)) Q)) (he : ∀ s t, I N s t → Both (f s) (g t) (bstep (fun _ _ => False) Q)) (hn : N < n) (hm : N < m) : Both (xloop f n s) (xloop g m t) Q :=
  bb_loop0 I N 0 n m s t (fun k s t _ h => hs k s t (by omega)) (fun s t h => he s t (by rw [Nat.zero_add] at h; exact h)) hn hm h0
