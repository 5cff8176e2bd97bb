/-! what lasts between two turns: CI x c h S: the component at x in h is where the twin's S is -/
set_option maxRecDepth 100000
/-- what the component may ever write: nothing that was there at the start, nothing of the law's or the twin's -/
def Wc : FW := fun _ _ t => t ≠ 0 ∧ t ≠ 7 ∧ ¬ (1000 ≤ t ∧ t < 1062)
theorem Wst_c {s : Nat} : ∀ a k t, Wst s a k t → Wc a k t := by
  intro a k t z
  unfold Wst at z
  unfold Wc
  omega
/-- something new -/
theorem xnew_fr {W : FW} {h : XH} {k n t N : Nat} {f : Nat → Value} (hh : HW h) : Fr W h (xnew h k n t N f) := by
  intro a k' n' t' e
  have hne : a ≠ h.2.2.1 := fun z => by have := hh a _ e; omega
  refine ⟨?_, fun _ => ?_⟩
  · show (if a = h.2.2.1 then _ else h.1 a) = _
    rw [if_neg hne]; exact e
  · funext j
    show (if a = h.2.2.1 then _ else h.2.1 a j) = _
    rw [if_neg hne]
theorem xnew_hw {h : XH} {k n t N : Nat} {f : Nat → Value} (hh : HW h) : HW (xnew h k n t N f) := by
  intro a e z
  show a < h.2.2.1 + 1
  have z : (if a = h.2.2.1 then some (k, n, t) else h.1 a) = some e := z
  by_cases c : a = h.2.2.1
  · omega
  · rw [if_neg c] at z
    have := hh a e z
    omega
theorem xnew_hd {h : XH} {k n t N : Nat} {f : Nat → Value} : (xnew h k n t N f).1 h.2.2.1 = some (k, n, t) := if_pos rfl
theorem xnew_ct {h : XH} {k n t N j : Nat} {f : Nat → Value} : (xnew h k n t N f).2.1 h.2.2.1 j = f j := if_pos rfl
/-- the words of the component's source, by the constants' numbers -/
def pstr (i : Nat) : List Nat := match i with
  | 0 => [100, 97, 109, 112] | 1 => [101, 97, 115, 101, 115] | 2 => [98, 117, 114, 115, 116, 115] | 3 => [104, 101, 101, 108] | 4 => [115, 105, 122, 101] | 5 => [103, 105, 118, 101] | 6 => [119, 111, 114, 110] | 7 => [100, 97, 121] | 8 => [116, 105, 103, 104, 116] | 9 => [59, 40, 41, 43, 45, 42, 47, 60, 61] | 10 => [110, 111, 116] | 11 => [97, 110, 100] | 12 => [111, 114] | 13 => [104, 111, 117, 115, 101] | 14 => [112, 101, 114, 115, 111, 110] | 15 => [105, 110]
  | _ => []
/-- a string constant -/
def KS (c : Nat → Value) (h : XH) (i : Nat) : Prop := ∃ s d n n', c i = .ref s ∧ h.1 s = some (90, n, 0) ∧ h.2.1 s 0 = .ref d ∧ h.2.1 s 1 = .int 0 ∧ h.1 d = some (101, (pstr i).length, n') ∧ n' = 0 ∧ ∀ j, j < (pstr i).length → h.2.1 d j = .int (iv ((pstr i)[j]?.getD 0))
/-- the constants -/
def CK (c : Nat → Value) (h : XH) : Prop := ((∃ v, vV (c 23) = some v) ∧ (∃ v, vV (c 24) = some v) ∧ ∃ v, vV (c 25) = some v) ∧ (∃ d, c 21 = .ref d ∧ h.1 d = some (104, 0, 0)) ∧ (∃ d, c 22 = .ref d ∧ h.1 d = some (104, 0, 0)) ∧ ((∃ d, c 30 = .ref d) ∧ ∃ d, c 31 = .ref d) ∧ (∃ d, c 20 = .ref d ∧ h.1 d = some (107, 256, 0) ∧ ∀ j, j < 256 → ∃ b n, h.2.1 d j = .ref b ∧ h.1 b = some (11, n, 0) ∧ h.2.1 b 0 = .int (iv j - 128)) ∧ ∀ i, i < 16 → KS c h i
theorem CK.keep {c : Nat → Value} {h h' : XH} {W : FW} (hC : CK c h) (hf : Fr W h h') (h0 : ∀ a k, ¬ W a k 0) : CK c h' := by
  obtain ⟨q1, ⟨d1, q2, q3⟩, ⟨d2, q4, q5⟩, q6, ⟨d3, q7, q8, q9⟩, q10⟩ := hC
  refine ⟨q1, ⟨d1, q2, (hf _ _ _ _ q3).1⟩, ⟨d2, q4, (hf _ _ _ _ q5).1⟩, q6, ⟨d3, q7, (hf _ _ _ _ q8).1, fun j hj => ?_⟩, fun i hi => ?_⟩
  · obtain ⟨b, n, z1, z2, z3⟩ := q9 j hj
    refine ⟨b, n, ?_, (hf _ _ _ _ z2).1, ?_⟩
    · rw [(hf _ _ _ _ q8).2 (h0 _ _)]; exact z1
    · rw [(hf _ _ _ _ z2).2 (h0 _ _)]; exact z3
  · obtain ⟨s, d, n, n', z1, z2, z3, z4, z5, rfl, z6⟩ := q10 i hi
    refine ⟨s, d, n, 0, z1, (hf _ _ _ _ z2).1, ?_, ?_, (hf _ _ _ _ z5).1, rfl, fun j hj => ?_⟩
    · rw [(hf _ _ _ _ z2).2 (h0 _ _)]; exact z3
    · rw [(hf _ _ _ _ z2).2 (h0 _ _)]; exact z4
    · rw [(hf _ _ _ _ z5).2 (h0 _ _)]; exact z6 j hj
/-- the j-th row kept in A -/
def arow (A : Nat → Int32) (j : Nat) : Nat → Int32 := fun k => if k < 43 then A (43 * j + k) else if k = 43 then (-1) else 0
/-- a list of n streets kept -/
def ACT (x : Nat) (T : Tn) (s r : Nat) (h : XH) (l n : Nat) (A : Nat → Int32) : Prop := n ≤ 40 ∧ ∃ e, AL h l n e ∧ ∀ j, j < n → e j ≠ s ∧ e j ≠ r ∧ SV x T h (e j) (arow A j) ∧ WF 999 T (arow A j)
/-- a list of n things seen -/
def SEE (T : Tn) (h : XH) (l n : Nat) (A : Nat → Int32) : Prop := n ≤ 8 ∧ ∃ e, AL h l n e ∧ ∀ j, j < n → h.1 (e j) = some (100, 3, 6) ∧ (∀ i, i < 3 → h.2.1 (e j) i = .int (A (3 * j + i))) ∧ (∃ a, A (3 * j) = iv a ∧ a < T.1.1) ∧ (∃ a, A (3 * j + 1) = iv a ∧ a ≤ 20) ∧ ∃ a, A (3 * j + 2) = iv a ∧ a ≤ 99
/-- a byte of the tape -/
def tbyte (v : Int32) : Int32 := v.toInt8.toInt32
/-- the component's small things: tape, place of the fault, refused -/
def CS (x : Nat) (h : XH) (S : TS) : Prop := (∃ tp n, h.2.1 x 4 = .ref tp ∧ h.1 tp = some (101, 700, 12) ∧ h.2.1 x 5 = .int (S.1 12) ∧ S.1 12 = iv n ∧ n ≤ 700 ∧ (∀ j, j < 700 → ∃ v, h.2.1 tp j = .int v) ∧ ∀ j, j < n → ∃ b, S.2.2 11 j = iv b ∧ b < 256 ∧ h.2.1 tp j = .int (tbyte (iv b))) ∧ h.2.1 x 6 = .int (S.1 14) ∧ (∃ rf, h.2.1 x 7 = .ref rf ∧ h.1 rf = some (100, 3, 13) ∧ ∀ j, j < 3 → h.2.1 rf j = .int (S.2.2 15 j)) ∧ ∃ sd, h.2.1 x 13 = .int sd
/-- its two lists -/
def CLs (x hi : Nat) (T : Tn) (s r la ls : Nat) (h : XH) (S : TS) : Prop := (h.2.1 x 8 = .ref la ∧ h.2.1 x 9 = .ref ls) ∧ (hi ≤ la ∧ hi ≤ ls ∧ la ≠ ls) ∧ (∃ n, S.1 43 = iv n ∧ ACT x T s r h la n (S.2.2 42)) ∧ ∃ n, S.1 51 = iv n ∧ SEE T h ls n (S.2.2 52)
/-- its image -/
def CIm (x hi : Nat) (T : Tn) (s r la ls : Nat) (h : XH) (S : TS) : Prop := (S.1 56 = 0 ∧ h.2.1 x 10 = .null) ∨ (S.1 56 = 1 ∧ ∃ si li lj, (h.2.1 x 10 = .ref si ∧ h.2.1 x 11 = .ref li ∧ h.2.1 x 12 = .ref lj) ∧ (si ≠ s ∧ si ≠ r ∧ hi ≤ li ∧ hi ≤ lj ∧ li ≠ la ∧ li ≠ ls ∧ lj ≠ la ∧ lj ≠ ls) ∧ SV x T h si (arow (S.2.2 59) 0) ∧ WF 999 T (arow (S.2.2 59) 0) ∧ (∃ n, S.1 57 = iv n ∧ ACT x T s r h li n (S.2.2 60)) ∧ ∃ n, S.1 58 = iv n ∧ SEE T h lj n (S.2.2 61))
/-- its streets and its town -/
def CB (x t hi : Nat) (T : Tn) (s r : Nat) (c : Nat → Value) (h : XH) (S : TS) : Prop := HW h ∧ CK c h ∧ XC x t T hi h ∧ (h.2.1 x 2 = .ref s ∧ h.2.1 x 3 = .ref r ∧ s ≠ r) ∧ SV x T h s (trow S 0) ∧ (∃ w, SV x T h r w) ∧ TT S T ∧ WT T ∧ WF 999 T (trow S 0) ∧ S.1 46 = (-1)
def CIx (x t hi : Nat) (T : Tn) (s r la ls : Nat) (c : Nat → Value) (h : XH) (S : TS) : Prop := CB x t hi T s r c h S ∧ CS x h S ∧ CLs x hi T s r la ls h S ∧ CIm x hi T s r la ls h S
def CI (x : Nat) (c : Nat → Value) (h : XH) (S : TS) : Prop := ∃ t hi T s r la ls, CIx x t hi T s r la ls c h S
/-- the twin's lasting parts are the same -/
def TL (S S' : TS) : Prop := (∀ i, (1 ≤ i ∧ i ≤ 5) ∨ i = 12 ∨ i = 14 ∨ i = 43 ∨ i = 46 ∨ i = 51 ∨ i = 56 ∨ i = 57 ∨ i = 58 → S'.1 i = S.1 i) ∧ (∀ i, (6 ≤ i ∧ i ≤ 11) ∨ i = 15 ∨ i = 42 ∨ i = 52 ∨ i = 59 ∨ i = 60 ∨ i = 61 → S'.2.2 i = S.2.2 i) ∧ ∀ j, j < 43 → S'.2.2 41 j = S.2.2 41 j
theorem TL.rfl {S : TS} : TL S S := ⟨fun _ _ => Eq.refl _, fun _ _ => Eq.refl _, fun _ _ => Eq.refl _⟩
theorem TL.trans {S S' S'' : TS} (a : TL S S') (b : TL S' S'') : TL S S'' := ⟨fun i h => (b.1 i h).trans (a.1 i h), fun i h => (b.2.1 i h).trans (a.2.1 i h), fun j h => (b.2.2 j h).trans (a.2.2 j h)⟩
theorem TL.row {S S' : TS} (a : TL S S') : trow S' 0 = trow S 0 := by
  funext k
  unfold trow
  by_cases q : k < 43
  · rw [if_pos q, if_pos q, Nat.zero_add]
    exact a.2.2 k q
  · rw [if_neg q, if_neg q, a.1 46 (by omega)]
theorem TL.tt {S S' : TS} {T : Tn} (a : TL S S') (hT : TT S T) : TT S' T := hT.of (fun i h1 h2 => a.1 i (by omega)) (fun i h1 h2 => a.2.1 i (by omega))
theorem tscr.tl {S S' : TS} (a : tscr S S') : TL S S' := ⟨fun i _ => by rw [a.1], fun i hi => a.2.2 i (by omega) (by omega), fun j _ => by rw [a.2.2 41 (by decide) (by decide)]⟩
theorem trest.tl {S S' : TS} (a : trest 43 S S') : TL S S' := ⟨fun i _ => by rw [a.1], fun i hi => a.2.2.1 i (by omega) (by omega) (by omega), fun j hj => a.2.2.2 j (by omega)⟩
theorem TL.thr {S : TS} {v : Int32} : TL S (tpF S 0 v) := ⟨fun i hi => if_neg (by omega), fun _ _ => Eq.refl _, fun _ _ => Eq.refl _⟩
section CIK
variable {x t hi : Nat} {T : Tn} {s r la ls : Nat} {c : Nat → Value} {h h' : XH} {S S' : TS} {W : FW}
/-- a list of streets, of things seen, stays -/
theorem ACT.keep {l n : Nat} {A : Nat → Int32} (hA : ACT x T s r h l n A) (hf : Fr W h h') (h1 : ¬ W l 10 1) (h2 : ∀ d, ¬ W d 104 (2000 + 8 * l + 6) ∧ ¬ W d 104 0) (h3 : ∀ a, a ≠ s → a ≠ r → ¬ W a 2 1) (h4 : ∀ a i b, a ≠ s → a ≠ r → i < 5 → ¬ W b 100 (2000 + 8 * a + i)) : ACT x T s r h' l n A := by
  obtain ⟨q0, e, q1, q2⟩ := hA
  refine ⟨q0, e, q1.keep hf h1 h2, fun j hj => ?_⟩
  obtain ⟨z1, z2, z3, z4⟩ := q2 j hj
  exact ⟨z1, z2, z3.keep hf (h3 _ z1 z2) (fun i hi => h4 _ i _ z1 z2 hi), z4⟩
theorem SEE.keep {l n : Nat} {A : Nat → Int32} (hA : SEE T h l n A) (hf : Fr W h h') (h1 : ¬ W l 10 1) (h2 : ∀ d, ¬ W d 104 (2000 + 8 * l + 6) ∧ ¬ W d 104 0) (h3 : ∀ a, ¬ W a 100 6) : SEE T h' l n A := by
  obtain ⟨q0, e, q1, q2⟩ := hA
  refine ⟨q0, e, q1.keep hf h1 h2, fun j hj => ?_⟩
  obtain ⟨z1, z2, z3⟩ := q2 j hj
  exact ⟨(hf _ _ _ _ z1).1, by rw [(hf _ _ _ _ z1).2 (h3 _)]; exact z2, z3⟩
/-- what W must leave alone of the small things, the lists, the image -/
def Wk (x s r la ls : Nat) (W : FW) : Prop := ¬ W x 0 1 ∧ (∀ a, ¬ W a 101 12) ∧ (∀ a, ¬ W a 100 13 ∧ ¬ W a 100 6) ∧ (∀ a, a ≠ s → a ≠ r → ¬ W a 2 1) ∧ (∀ a i b, a ≠ s → a ≠ r → i < 5 → ¬ W b 100 (2000 + 8 * a + i)) ∧ ∀ d, ¬ W d 104 0
theorem CS.keep (hC : CS x h S) (hx : h.1 x = some (0, 14, 1)) (hf : Fr W h h') (hk : Wk x s r la ls W) (hT : TL S S') : CS x h' S' := by
  obtain ⟨⟨tp, n, q1, q2, q3, q4, q5, q6, q7⟩, q8, ⟨rf, q9, q10, q11⟩, q12⟩ := hC
  have e := (hf _ _ _ _ hx).2 hk.1
  refine ⟨⟨tp, n, by rw [e]; exact q1, (hf _ _ _ _ q2).1, by rw [e, hT.1 12 (by omega)]; exact q3, by rw [hT.1 12 (by omega)]; exact q4, q5, ?_, ?_⟩, ?_, ⟨rf, by rw [e]; exact q9, (hf _ _ _ _ q10).1, ?_⟩, by rw [e]; exact q12⟩
  · rw [(hf _ _ _ _ q2).2 (hk.2.1 _)]; exact q6
  · rw [(hf _ _ _ _ q2).2 (hk.2.1 _), hT.2.1 11 (by omega)]; exact q7
  · rw [e, hT.1 14 (by omega)]; exact q8
  · rw [(hf _ _ _ _ q10).2 (hk.2.2.1 _).1, hT.2.1 15 (by omega)]; exact q11
theorem CLs.keep (hC : CLs x hi T s r la ls h S) (hx : h.1 x = some (0, 14, 1)) (hf : Fr W h h') (hk : Wk x s r la ls W) (hl : ∀ l, hi ≤ l → ¬ W l 10 1 ∧ ∀ d, ¬ W d 104 (2000 + 8 * l + 6)) (hT : TL S S') : CLs x hi T s r la ls h' S' := by
  obtain ⟨q1, q2, ⟨n, q3, q4⟩, ⟨m, q5, q6⟩⟩ := hC
  have e := (hf _ _ _ _ hx).2 hk.1
  refine ⟨by rw [e]; exact q1, q2, ⟨n, by rw [hT.1 43 (by omega)]; exact q3, ?_⟩, ⟨m, by rw [hT.1 51 (by omega)]; exact q5, ?_⟩⟩
  · rw [hT.2.1 42 (by omega)]
    exact q4.keep hf (hl _ q2.1).1 (fun d => ⟨(hl _ q2.1).2 d, hk.2.2.2.2.2 d⟩) hk.2.2.2.1 hk.2.2.2.2.1
  · rw [hT.2.1 52 (by omega)]
    exact q6.keep hf (hl _ q2.2.1).1 (fun d => ⟨(hl _ q2.2.1).2 d, hk.2.2.2.2.2 d⟩) (fun a => (hk.2.2.1 a).2)
theorem CIm.keep (hC : CIm x hi T s r la ls h S) (hx : h.1 x = some (0, 14, 1)) (hf : Fr W h h') (hk : Wk x s r la ls W) (hl : ∀ l, hi ≤ l → ¬ W l 10 1 ∧ ∀ d, ¬ W d 104 (2000 + 8 * l + 6)) (hT : TL S S') : CIm x hi T s r la ls h' S' := by
  have e := (hf _ _ _ _ hx).2 hk.1
  rcases hC with ⟨q1, q2⟩ | ⟨q1, si, li, lj, q2, q3, q4, q5, ⟨n, q6, q7⟩, ⟨m, q8, q9⟩⟩
  · exact Or.inl ⟨by rw [hT.1 56 (by omega)]; exact q1, by rw [e]; exact q2⟩
  · refine Or.inr ⟨by rw [hT.1 56 (by omega)]; exact q1, si, li, lj, by rw [e]; exact q2, q3, ?_, ?_, ⟨n, by rw [hT.1 57 (by omega)]; exact q6, ?_⟩, ⟨m, by rw [hT.1 58 (by omega)]; exact q8, ?_⟩⟩
    · rw [hT.2.1 59 (by omega)]
      exact q4.keep hf (hk.2.2.2.1 _ q3.1 q3.2.1) (fun i hi => hk.2.2.2.2.1 _ i _ q3.1 q3.2.1 hi)
    · rw [hT.2.1 59 (by omega)]; exact q5
    · rw [hT.2.1 60 (by omega)]
      exact q7.keep hf (hl _ q3.2.2.1).1 (fun d => ⟨(hl _ q3.2.2.1).2 d, hk.2.2.2.2.2 d⟩) hk.2.2.2.1 hk.2.2.2.2.1
    · rw [hT.2.1 61 (by omega)]
      exact q9.keep hf (hl _ q3.2.2.2.1).1 (fun d => ⟨(hl _ q3.2.2.2.1).2 d, hk.2.2.2.2.2 d⟩) (fun a => (hk.2.2.1 a).2)
/-- a heap that changed where W allows, W leaving alone all but the street that is tried -/
theorem CIx.keep (hC : CIx x t hi T s r la ls c h S) (hf : Fr W h h') (hh : HW h') (hw0 : ∀ a k, ¬ W a k 0) (hk : Wk x s r la ls W) (ht : Wtown hi W) (hl : ∀ l, hi ≤ l → ¬ W l 10 1 ∧ ∀ d, ¬ W d 104 (2000 + 8 * l + 6)) (hx0 : ∀ a, ¬ W a 0 1) (hs1 : ¬ W s 2 1) (hs2 : ∀ i, i < 5 → ¬ W (s + 1 + i) 100 (2000 + 8 * s + i)) (hr : ∃ w, SV x T h' r w) (hT : TL S S') : CIx x t hi T s r la ls c h' S' := by
  obtain ⟨⟨q1, q2, q3, q4, q5, q6, q7, q8, q9, q10⟩, q11, q12, q13⟩ := hC
  have e := (hf _ _ _ _ q3.1).2 (hx0 _)
  refine ⟨⟨hh, q2.keep hf hw0, q3.keep hf hx0 ht, by rw [e]; exact q4, ?_, hr, hT.tt q7, q8, ?_, ?_⟩, q11.keep q3.1 hf hk hT, q12.keep q3.1 hf hk hl hT, q13.keep q3.1 hf hk hl hT⟩
  · rw [hT.row]; exact q5.keep hf hs1 hs2
  · rw [hT.row]; exact q9
  · rw [hT.1 46 (by omega)]; exact q10
theorem Wst_k : Wk x s r la ls (Wst r) := by
  refine ⟨?_, fun a => ?_, fun a => ⟨?_, ?_⟩, fun a h1 h2 => ?_, fun a i b h1 h2 h3 => ?_, fun d => ?_⟩ <;> (unfold Wst; omega)
/-- only the street that is tried changed -/
theorem CIx.tried (hC : CIx x t hi T s r la ls c h S) (hf : Fr (Wst r) h h') (hh : HW h') (hr : ∃ w, SV x T h' r w) (hT : TL S S') : CIx x t hi T s r la ls c h' S' := by
  have hsr := hC.1.2.2.2.1.2.2
  refine hC.keep hf hh ?_ Wst_k Wst_town ?_ ?_ ?_ ?_ hr hT
  · intro a k; unfold Wst; omega
  · intro l _; exact ⟨by unfold Wst; omega, fun d => by unfold Wst; omega⟩
  · intro a; unfold Wst; omega
  · unfold Wst; omega
  · intro i hi; unfold Wst; omega
/-- nothing that matters changed -/
theorem CIx.same {P : Nat → Prop} (hC : CIx x t hi T s r la ls c h S) (hf : Fr (fun _ _ t => P t) h h') (hP : ∀ t, P t → t = 7 ∨ (1000 ≤ t ∧ t < 1062)) (hh : HW h') (hT : TL S S') : CIx x t hi T s r la ls c h' S' := by
  have hn : ∀ t, ¬ (t = 7 ∨ (1000 ≤ t ∧ t < 1062)) → ¬ P t := fun t z y => z (hP t y)
  obtain ⟨w, hw⟩ := hC.1.2.2.2.2.2.1
  have hsr := hC.1.2.2.2.1.2.2
  refine hC.keep hf hh (fun a k => hn _ (by omega)) ⟨hn _ (by omega), fun a => hn _ (by omega), fun a => ⟨hn _ (by omega), hn _ (by omega)⟩, fun a _ _ => hn _ (by omega), fun a i b _ _ _ => hn _ (by omega), fun d => hn _ (by omega)⟩ ⟨⟨fun a k _ _ => hn _ (by omega), fun l _ _ => ⟨hn _ (by omega), hn _ (by omega)⟩, fun d => hn _ (by omega), fun l _ _ d => ⟨hn _ (by omega), hn _ (by omega)⟩⟩, fun a t ht => hn _ (by omega), fun a => hn _ (by omega)⟩ (fun l _ => ⟨hn _ (by omega), fun d => hn _ (by omega)⟩) (fun a => hn _ (by omega)) (hn _ (by omega)) (fun i _ => hn _ (by omega)) ⟨w, hw.keep hf (hn _ (by omega)) (fun i _ => hn _ (by omega))⟩ hT
end CIK
