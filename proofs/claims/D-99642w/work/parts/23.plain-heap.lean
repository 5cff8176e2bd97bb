/-! the component's heap: what a step reads and writes; what stays -/
set_option maxRecDepth 100000
section PRIM
variable {h : XH} {a b k n t i j : Nat} {x : Int32} {v : Value}
theorem hk_is (e : h.1 a = some (k, n, t)) : hk h a = k := by unfold hk; rw [e]
theorem htg_is (e : h.1 a = some (k, n, t)) : htg h a = t := by unfold htg; rw [e]
theorem hln_is (e : h.1 a = some (k, n, t)) : hln h a = n := by unfold hln; rw [e]
theorem cgI_is (e : h.1 a = some (k, n, t)) (d : h.2.1 a i = .int x) : cgI h a k i = some x := by
  unfold cgI
  rw [if_pos (hk_is e), d]
  rfl
theorem cgR_is (e : h.1 a = some (k, n, t)) (d : h.2.1 a i = .ref b) : cgR h a k i = some b := by
  unfold cgR
  rw [if_pos (hk_is e), d]
  rfl
theorem cgV_is (e : h.1 a = some (k, n, t)) (d : h.2.1 a i = v) (hv : xisr v = true) : cgV h a k i = some v := by
  unfold cgV
  rw [if_pos (hk_is e), d]
  unfold vV
  rw [if_pos hv]
theorem cin_is (e : h.1 a = some (k, n, t)) (hn : n < 2 ^ 31) (hj : j < n) : ¬ (iv j < 0 ∨ hln h a ≤ (iv j).toNatClampNeg) := by
  rw [hln_is e, iv_nat (by omega)]
  rintro (z | z)
  · exact iv_nneg (by omega) z
  · omega
theorem caI_is (e : h.1 a = some (k, n, t)) (hn : n < 2 ^ 31) (hj : j < n) (d : h.2.1 a j = .int x) : caI h a k (iv j) = some x := by
  unfold caI
  rw [if_pos ⟨hk_is e, cin_is e hn hj⟩, iv_nat (by omega), d]
  rfl
theorem caR_is (e : h.1 a = some (k, n, t)) (hn : n < 2 ^ 31) (hj : j < n) (d : h.2.1 a j = .ref b) : caR h a k (iv j) = some b := by
  unfold caR
  rw [if_pos ⟨hk_is e, cin_is e hn hj⟩, iv_nat (by omega), d]
  rfl
theorem csu_is (e : h.1 a = some (k, n, t)) (ht : t ≠ 0) (hn : n < 2 ^ 31) (hj : j < n) : csu h a k (iv j) v = some (xup h a j v) := by
  unfold csu
  rw [if_pos ⟨hk_is e, by rw [htg_is e]; exact ht, cin_is e hn hj⟩, iv_nat (by omega)]
theorem cpu_is (e : h.1 a = some (k, n, t)) (ht : t ≠ 0) : cpu h a k i v = some (xup h a i v) := by
  unfold cpu
  rw [if_pos ⟨hk_is e, by rw [htg_is e]; exact ht⟩]
theorem cpZ_is (e : h.1 a = some (k, n, t)) (ht : t ≠ 0) (hx : x = 0 ∨ x = 1) : cpZ h a k i x = some (xup h a i (.int x)) := by
  unfold cpZ
  rw [if_pos hx, cpu_is e ht]
theorem cpV_is (e : h.1 a = some (k, n, t)) (ht : t ≠ 0) (hv : xisr v = true) : cpV h a k i v = some (xup h a i v) := by
  unfold cpV
  rw [if_pos hv, cpu_is e ht]
theorem ckd_is (e : h.1 a = some (k, n, t)) : ckd h a k = some () := by
  unfold ckd
  rw [if_pos (hk_is e)]
theorem cal_is (e : h.1 a = some (k, n, t)) (h1 : 100 ≤ k) (h2 : k < 108) : cal h a = some (iv n) := by
  unfold cal
  rw [hk_is e, if_pos ⟨h1, h2⟩, hln_is e]
theorem xup_eq : (xup h a i v).2.1 a i = v := by simp [xup]
theorem xup_ne (hne : ¬ (b = a ∧ j = i)) : (xup h a i v).2.1 b j = h.2.1 b j := by
  show (if b = a ∧ j = i then v else h.2.1 b j) = _
  rw [if_neg hne]
theorem xup_nea (hne : b ≠ a) : (xup h a i v).2.1 b = h.2.1 b := by
  funext j
  exact xup_ne (fun z => hne z.1)
end PRIM
/-- what may change: by address, kind, tag -/
abbrev FW : Type := Nat → Nat → Nat → Prop
/-- h' knows all that h knows, and holds the same but where W allows -/
def Fr (W : FW) (h h' : XH) : Prop := ∀ a k n t, h.1 a = some (k, n, t) → h'.1 a = some (k, n, t) ∧ (¬ W a k t → h'.2.1 a = h.2.1 a)
/-- nothing made -/
def Fq (W : FW) (h h' : XH) : Prop := h'.1 = h.1 ∧ h'.2.2 = h.2.2 ∧ ∀ a k n t, h.1 a = some (k, n, t) → ¬ W a k t → h'.2.1 a = h.2.1 a
theorem Fq.fr {W : FW} {h h' : XH} (q : Fq W h h') : Fr W h h' := fun a k n t e => ⟨by rw [q.1]; exact e, q.2.2 a k n t e⟩
theorem Fq.rfl {W : FW} {h : XH} : Fq W h h := ⟨Eq.refl _, Eq.refl _, fun _ _ _ _ _ _ => Eq.refl _⟩
theorem Fq.trans {W : FW} {h h' h'' : XH} (p : Fq W h h') (q : Fq W h' h'') : Fq W h h'' := ⟨q.1.trans p.1, q.2.1.trans p.2.1, fun a k n t e hn => (q.2.2 a k n t (by rw [p.1]; exact e) hn).trans (p.2.2 a k n t e hn)⟩
theorem Fr.rfl {W : FW} {h : XH} : Fr W h h := fun _ _ _ _ e => ⟨e, fun _ => Eq.refl _⟩
theorem Fr.trans {W : FW} {h h' h'' : XH} (p : Fr W h h') (q : Fr W h' h'') : Fr W h h'' := fun a k n t e => ⟨(q a k n t (p a k n t e).1).1, fun hn => ((q a k n t (p a k n t e).1).2 hn).trans ((p a k n t e).2 hn)⟩
theorem Fr.mono {W V : FW} {h h' : XH} (p : Fr W h h') (hm : ∀ a k t, W a k t → V a k t) : Fr V h h' := fun a k n t e => ⟨(p a k n t e).1, fun hn => (p a k n t e).2 (fun z => hn (hm a k t z))⟩
theorem Fq.mono {W V : FW} {h h' : XH} (p : Fq W h h') (hm : ∀ a k t, W a k t → V a k t) : Fq V h h' := ⟨p.1, p.2.1, fun a k n t e hn => p.2.2 a k n t e (fun z => hn (hm a k t z))⟩
theorem Fq.put {W : FW} {h : XH} {a k n t i : Nat} {v : Value} (e : h.1 a = some (k, n, t)) (hw : W a k t) : Fq W h (xup h a i v) := by
  refine ⟨Eq.refl _, Eq.refl _, fun b k' n' t' e' hn => xup_nea (fun z => ?_)⟩
  subst z
  rw [e] at e'
  cases e'
  exact hn hw
/-- all that is known lies below the next address -/
def HW (h : XH) : Prop := ∀ a e, h.1 a = some e → a < h.2.2.1
theorem Fq.hw {W : FW} {h h' : XH} (q : Fq W h h') (hh : HW h) : HW h' := by
  intro a e z
  rw [q.1] at z
  rw [q.2.1]
  exact hh a e z
/-! views: a street -/
def SV (x : Nat) (T : Tn) (h : XH) (s : Nat) (w : Nat → Int32) : Prop :=
  h.1 s = some (2, 10, 1) ∧ (∀ i, i < 5 → h.2.1 s i = .ref (s + 1 + i) ∧ h.1 (s + 1 + i) = some (100, 8, 2000 + 8 * s + i) ∧ ∀ j, j < 8 → ∃ v, h.2.1 (s + 1 + i) j = .int v) ∧
  (h.2.1 s 5 = .int (w 0) ∧ h.2.1 s 6 = .int (w 1) ∧ h.2.1 s 7 = .int (w 2) ∧ h.2.1 s 8 = .int (w 43) ∧ h.2.1 s 9 = .ref x) ∧
  (∀ j, j < T.1.1 → h.2.1 (s + 1) j = .int (w (3 + j)) ∧ h.2.1 (s + 2) j = .int (w (11 + j))) ∧
  ∀ j, j < T.1.2.1 → h.2.1 (s + 3) j = .int (w (27 + j)) ∧ h.2.1 (s + 4) j = .int (m_home T w j) ∧ h.2.1 (s + 5) j = .int (w (35 + j))
/-- a street's own cells, and the values -/
def Wst (s : Nat) : FW := fun a k t => (a = s ∧ k = 2 ∧ t = 1) ∨ (k = 100 ∧ (2000 + 8 * s ≤ t ∧ t < 2000 + 8 * s + 5)) ∨ (k = 100 ∧ t = 11)
theorem SV.keep {x : Nat} {T : Tn} {h h' : XH} {s : Nat} {w : Nat → Int32} {W : FW} (hS : SV x T h s w) (hf : Fr W h h') (h1 : ¬ W s 2 1) (h2 : ∀ i, i < 5 → ¬ W (s + 1 + i) 100 (2000 + 8 * s + i)) : SV x T h' s w := by
  obtain ⟨q1, q2, q3, q4, q5⟩ := hS
  obtain ⟨e1, e2⟩ := hf s _ _ _ q1
  have e2 := e2 h1
  have g : ∀ i, i < 5 → h'.1 (s + 1 + i) = some (100, 8, 2000 + 8 * s + i) ∧ h'.2.1 (s + 1 + i) = h.2.1 (s + 1 + i) := fun i hi => ⟨(hf _ _ _ _ (q2 i hi).2.1).1, (hf _ _ _ _ (q2 i hi).2.1).2 (h2 i hi)⟩
  refine ⟨e1, fun i hi => ?_, ?_, fun j hj => ?_, fun j hj => ?_⟩
  · rw [e2, (g i hi).2]
    exact ⟨(q2 i hi).1, (g i hi).1, (q2 i hi).2.2⟩
  · rw [e2]; exact q3
  · have g0 : h'.2.1 (s + 1) = h.2.1 (s + 1) := (g 0 (by decide)).2
    have g1 : h'.2.1 (s + 2) = h.2.1 (s + 2) := (g 1 (by decide)).2
    rw [g0, g1]; exact q4 j hj
  · have g2 : h'.2.1 (s + 3) = h.2.1 (s + 3) := (g 2 (by decide)).2
    have g3 : h'.2.1 (s + 4) = h.2.1 (s + 4) := (g 3 (by decide)).2
    have g4 : h'.2.1 (s + 5) = h.2.1 (s + 5) := (g 4 (by decide)).2
    rw [g2, g3, g4]; exact q5 j hj
theorem SV.apart {x : Nat} {T : Tn} {h h' : XH} {s r : Nat} {w : Nat → Int32} (hS : SV x T h s w) (hf : Fr (Wst r) h h') (hne : s ≠ r) : SV x T h' s w := by
  refine hS.keep hf ?_ ?_
  · unfold Wst; omega
  · intro i hi; unfold Wst; omega
/-! views: lists -/
def AL (h : XH) (l n : Nat) (e : Nat → Nat) : Prop := h.1 l = some (10, 3, 1) ∧ (∃ m, h.2.1 l 0 = .int m) ∧ h.2.1 l 2 = .int (iv n) ∧ ∃ d cap t, h.2.1 l 1 = .ref d ∧ h.1 d = some (104, cap, t) ∧ n ≤ cap ∧ (t = 2000 + 8 * l + 6 ∨ (t = 0 ∧ cap = 0)) ∧ cap < 2 ^ 20 ∧ ∀ j, j < n → h.2.1 d j = .ref (e j)
theorem AL.keep {h h' : XH} {l n : Nat} {e : Nat → Nat} {W : FW} (hA : AL h l n e) (hf : Fr W h h') (h1 : ¬ W l 10 1) (h2 : ∀ d, ¬ W d 104 (2000 + 8 * l + 6) ∧ ¬ W d 104 0) : AL h' l n e := by
  obtain ⟨q1, ⟨m, q2⟩, q3, d, cap, t, q4, q5, q6, q7, q8, q9⟩ := hA
  obtain ⟨e1, e2⟩ := hf l _ _ _ q1
  have e2 := e2 h1
  obtain ⟨g1, g2⟩ := hf d _ _ _ q5
  have g2 := g2 (by rcases q7 with rfl | ⟨rfl, -⟩; exact (h2 d).1; exact (h2 d).2)
  refine ⟨e1, ⟨m, by rw [e2]; exact q2⟩, by rw [e2]; exact q3, d, cap, t, by rw [e2]; exact q4, g1, q6, q7, q8, by rw [g2]; exact q9⟩
/-- a list of Integers -/
def IL (h : XH) (l n : Nat) (v : Nat → Int32) : Prop := ∃ e, AL h l n e ∧ ∀ j, j < n → ∃ n' t', h.1 (e j) = some (11, n', t') ∧ (t' = 0 ∨ t' = 1) ∧ h.2.1 (e j) 0 = .int (v j)
theorem IL.keep {h h' : XH} {l n : Nat} {v : Nat → Int32} {W : FW} (hA : IL h l n v) (hf : Fr W h h') (h1 : ¬ W l 10 1) (h2 : ∀ d, ¬ W d 104 (2000 + 8 * l + 6) ∧ ¬ W d 104 0) (h3 : ∀ a t, (t = 0 ∨ t = 1) → ¬ W a 11 t) : IL h' l n v := by
  obtain ⟨e, q1, q2⟩ := hA
  refine ⟨e, q1.keep hf h1 h2, fun j hj => ?_⟩
  obtain ⟨n', t', z1, z3, z2⟩ := q2 j hj
  obtain ⟨g1, g2⟩ := hf _ _ _ _ z1
  exact ⟨n', t', g1, z3, by rw [g2 (h3 _ _ z3)]; exact z2⟩
/-! views: forms -/
/-- a StringBuilder with m signs -/
def SBV (h : XH) (b m : Nat) (sg : Nat → Int32) : Prop := h.1 b = some (12, 4, 1) ∧ h.2.1 b 1 = .int 0 ∧ h.2.1 b 3 = .int (iv m) ∧ ∃ d cap, h.2.1 b 0 = .ref d ∧ h.1 d = some (101, cap, 2000 + 8 * b + 7) ∧ m ≤ cap ∧ cap < 2 ^ 20 ∧ ∀ j, j < m → h.2.1 d j = .int (sg j)
/-- what a sign does, by its char -/
def m_by (c a b : Int32) : Int32 := if c = 43 then a + b else if c = 45 then a - b else if c = 42 then a * b else if c = 47 then (if b = 0 then 0 else a / b) else if c = 60 then (if a ≥ b then 0 else 1) else if c = 61 then (if a = b then 1 else 0) else if c = 38 then (if a = 0 then 0 else if b = 0 then 0 else 1) else (if a = 0 then (if b = 0 then 0 else 1) else 1)
def issign (c : Int32) : Prop := c = 43 ∨ c = 45 ∨ c = 42 ∨ c = 47 ∨ c = 60 ∨ c = 61 ∨ c = 38 ∨ c = 124
def chE (sg : Nat → Int32) (E : Nat → XE) (v : Nat → Int32) : Nat → Int32
  | 0 => E 0 v
  | k + 1 => m_by (sg k) (chE sg E v k) (E (k + 1) v)
/-- the form at a denotes e; its lists and signs lie in lo .. hi -/
def FV (lo hi : Nat) (h : XH) : Nat → Nat → XE → Prop
  | 0, _, _ => False
  | g + 1, a, e => (∃ n v, h.1 a = some (7, n, 1) ∧ h.2.1 a 0 = .int v ∧ e = fun _ => v) ∨ (∃ n i, h.1 a = some (8, n, 1) ∧ h.2.1 a 0 = .int (iv i) ∧ i < 7 ∧ e = fun v => v i) ∨ (∃ n b e1, h.1 a = some (9, n, 1) ∧ h.2.1 a 0 = .ref b ∧ FV lo hi h g b e1 ∧ e = fun v => if e1 v = 0 then 1 else 0) ∨ (∃ n l sb m es E sg, h.1 a = some (6, n, 1) ∧ (h.2.1 a 0 = .ref l ∧ h.2.1 a 1 = .ref sb) ∧ (lo ≤ l ∧ l < hi ∧ lo ≤ sb ∧ sb < hi) ∧ m < 1000 ∧ AL h l (m + 1) es ∧ (∀ j, j ≤ m → FV lo hi h g (es j) (E j)) ∧ SBV h sb m sg ∧ (∀ j, j < m → issign (sg j)) ∧ e = fun v => chE sg E v m)
/-- W leaves forms in lo .. hi alone -/
def Wform (lo hi : Nat) (W : FW) : Prop := (∀ a k, 6 ≤ k → k ≤ 9 → ¬ W a k 1) ∧ (∀ l, lo ≤ l → l < hi → ¬ W l 10 1 ∧ ¬ W l 12 1) ∧ (∀ d, ¬ W d 104 0) ∧ ∀ l, lo ≤ l → l < hi → ∀ d, ¬ W d 104 (2000 + 8 * l + 6) ∧ ¬ W d 101 (2000 + 8 * l + 7)
theorem SBV.keep {h h' : XH} {b m : Nat} {sg : Nat → Int32} {W : FW} (hA : SBV h b m sg) (hf : Fr W h h') (h1 : ¬ W b 12 1) (h2 : ∀ d, ¬ W d 101 (2000 + 8 * b + 7)) : SBV h' b m sg := by
  obtain ⟨q1, q2, q3, d, cap, q4, q5, q6, q7, q8⟩ := hA
  obtain ⟨e1, e2⟩ := hf b _ _ _ q1
  have e2 := e2 h1
  obtain ⟨g1, g2⟩ := hf d _ _ _ q5
  have g2 := g2 (h2 d)
  exact ⟨e1, by rw [e2]; exact q2, by rw [e2]; exact q3, d, cap, by rw [e2]; exact q4, g1, q6, q7, by rw [g2]; exact q8⟩
theorem FV.keep {lo hi : Nat} {h h' : XH} {W : FW} (hf : Fr W h h') (hW : Wform lo hi W) : ∀ {g a : Nat} {e : XE}, FV lo hi h g a e → FV lo hi h' g a e := by
  intro g
  induction g with
  | zero => intro a e z; exact z.elim
  | succ g ih =>
    intro a e z
    rcases z with ⟨n, v, z1, z2, z3⟩ | ⟨n, i, z1, z2, z3, z4⟩ | ⟨n, b, e1, z1, z2, z3, z4⟩ | ⟨n, l, sb, m, es, E, sg, z1, ⟨z2, z2b⟩, z3, z4, z5, z6, z7, z8, z9⟩
    · obtain ⟨g1, g2⟩ := hf a _ _ _ z1
      exact Or.inl ⟨n, v, g1, by rw [g2 (hW.1 _ _ (by decide) (by decide))]; exact z2, z3⟩
    · obtain ⟨g1, g2⟩ := hf a _ _ _ z1
      exact Or.inr (Or.inl ⟨n, i, g1, by rw [g2 (hW.1 _ _ (by decide) (by decide))]; exact z2, z3, z4⟩)
    · obtain ⟨g1, g2⟩ := hf a _ _ _ z1
      exact Or.inr (Or.inr (Or.inl ⟨n, b, e1, g1, by rw [g2 (hW.1 _ _ (by decide) (by decide))]; exact z2, ih z3, z4⟩))
    · obtain ⟨g1, g2⟩ := hf a _ _ _ z1
      have g2 := g2 (hW.1 _ _ (by decide) (by decide))
      refine Or.inr (Or.inr (Or.inr ⟨n, l, sb, m, es, E, sg, g1, ⟨by rw [g2]; exact z2, by rw [g2]; exact z2b⟩, z3, z4, ?_, fun j hj => ih (z6 j hj), ?_, z8, z9⟩))
      · exact z5.keep hf (hW.2.1 l z3.1 z3.2.1).1 (fun d => ⟨(hW.2.2.2 l z3.1 z3.2.1 d).1, hW.2.2.1 d⟩)
      · exact z7.keep hf (hW.2.1 sb z3.2.2.1 z3.2.2.2).2 (fun d => (hW.2.2.2 sb z3.2.2.1 z3.2.2.2 d).2)
theorem FV.wide {lo hi lo' hi' : Nat} {h : XH} (h1 : lo' ≤ lo) (h2 : hi ≤ hi') : ∀ {g a : Nat} {e : XE}, FV lo hi h g a e → FV lo' hi' h g a e := by
  intro g
  induction g with
  | zero => intro a e z; exact z.elim
  | succ g ih =>
    intro a e z
    rcases z with z | z | ⟨n, b, e1, z1, z2, z3, z4⟩ | ⟨n, l, sb, m, es, E, sg, z1, z2, z3, z4, z5, z6, z7, z8, z9⟩
    · exact Or.inl z
    · exact Or.inr (Or.inl z)
    · exact Or.inr (Or.inr (Or.inl ⟨n, b, e1, z1, z2, ih z3, z4⟩))
    · exact Or.inr (Or.inr (Or.inr ⟨n, l, sb, m, es, E, sg, z1, z2, ⟨Nat.le_trans h1 z3.1, Nat.lt_of_lt_of_le z3.2.1 h2, Nat.le_trans h1 z3.2.2.1, Nat.lt_of_lt_of_le z3.2.2.2 h2⟩, z4, z5, fun j hj => ih (z6 j hj), z7, z8, z9⟩))
theorem FV.more {lo hi : Nat} {h : XH} : ∀ {g a : Nat} {e : XE}, FV lo hi h g a e → FV lo hi h (g + 1) a e := by
  intro g
  induction g with
  | zero => intro a e z; exact z.elim
  | succ g ih =>
    intro a e z
    rcases z with z | z | ⟨n, b, e1, z1, z2, z3, z4⟩ | ⟨n, l, sb, m, es, E, sg, z1, z2, z3, z4, z5, z6, z7, z8, z9⟩
    · exact Or.inl z
    · exact Or.inr (Or.inl z)
    · exact Or.inr (Or.inr (Or.inl ⟨n, b, e1, z1, z2, ih z3, z4⟩))
    · exact Or.inr (Or.inr (Or.inr ⟨n, l, sb, m, es, E, sg, z1, z2, z3, z4, z5, fun j hj => ih (z6 j hj), z7, z8, z9⟩))
theorem FV.upto {lo hi : Nat} {h : XH} {g g' a : Nat} {e : XE} (hg : g ≤ g') (z : FV lo hi h g a e) : FV lo hi h g' a e := by
  induction hg with
  | refl => exact z
  | step _ ih => exact ih.more
/-! views: the town -/
/-- one of the town's two forms: null, or one that denotes -/
def OF (lo hi : Nat) (h : XH) (v : Value) (eo : Option XE) : Prop := match eo with
  | none => v = .null
  | some e => ∃ a, v = .ref a ∧ FV lo hi h 90 a e
def TV (T : Tn) (hi : Nat) (h : XH) (t : Nat) : Prop := h.1 t = some (1, 6, 1) ∧ (h.2.1 t 0 = .ref (t + 1) ∧ h.2.1 t 1 = .ref (t + 2) ∧ h.2.1 t 2 = .ref (t + 3) ∧ h.2.1 t 3 = .ref (t + 4)) ∧ t + 4 < hi ∧ (IL h (t + 1) T.1.1 (T.2.1 0) ∧ IL h (t + 2) T.1.1 (T.2.1 1) ∧ IL h (t + 3) T.1.2.1 (T.2.1 2) ∧ IL h (t + 4) T.1.2.2 (T.2.1 3)) ∧ OF 0 hi h (h.2.1 t 4) (T.2.2 0) ∧ OF 0 hi h (h.2.1 t 5) (T.2.2 1)
/-- W leaves a town below hi alone -/
def Wtown (hi : Nat) (W : FW) : Prop := Wform 0 hi W ∧ (∀ a t, (t = 0 ∨ t = 1) → ¬ W a 11 t) ∧ ∀ a, ¬ W a 1 1
theorem OF.keep {lo hi : Nat} {h h' : XH} {W : FW} {v : Value} {eo : Option XE} (hO : OF lo hi h v eo) (hf : Fr W h h') (hW : Wform lo hi W) : OF lo hi h' v eo := by
  unfold OF at hO ⊢
  cases eo with
  | none => exact hO
  | some e =>
    obtain ⟨a, q1, q2⟩ := hO
    exact ⟨a, q1, q2.keep hf hW⟩
theorem TV.keep {T : Tn} {hi : Nat} {h h' : XH} {t : Nat} {W : FW} (hT : TV T hi h t) (hf : Fr W h h') (hW : Wtown hi W) : TV T hi h' t := by
  obtain ⟨q1, q2, q3, ⟨q4, q5, q6, q7⟩, q8, q9⟩ := hT
  obtain ⟨e1, e2⟩ := hf t _ _ _ q1
  have e2 := e2 (hW.2.2 _)
  have g : ∀ l, l < hi → ¬ W l 10 1 := fun l hl => (hW.1.2.1 l (Nat.zero_le _) hl).1
  have g2 : ∀ l, l < hi → ∀ d, ¬ W d 104 (2000 + 8 * l + 6) ∧ ¬ W d 104 0 := fun l hl d => ⟨(hW.1.2.2.2 l (Nat.zero_le _) hl d).1, hW.1.2.2.1 d⟩
  refine ⟨e1, by rw [e2]; exact q2, q3, ⟨q4.keep hf (g _ (by omega)) (g2 _ (by omega)) hW.2.1, q5.keep hf (g _ (by omega)) (g2 _ (by omega)) hW.2.1, q6.keep hf (g _ (by omega)) (g2 _ (by omega)) hW.2.1, q7.keep hf (g _ (by omega)) (g2 _ (by omega)) hW.2.1⟩, ?_, ?_⟩
  · rw [e2]; exact q8.keep hf hW.1
  · rw [e2]; exact q9.keep hf hW.1
theorem Wst_town {s hi : Nat} : Wtown hi (Wst s) := by
  refine ⟨⟨fun a k h1 h2 => ?_, fun l _ _ => ⟨?_, ?_⟩, fun d => ?_, fun l _ _ d => ⟨?_, ?_⟩⟩, fun a t _ => ?_, fun a => ?_⟩ <;> (unfold Wst; omega)
