/-! THE REFERENCE'S WORLD: its object at m, its arrays at ad i (i: the field); S: the int fields, the word, the arrays. TX: XW over such worlds; TM: a contract -/
abbrev TS : Type := (Nat → Int32) × Int64 × (Nat → Nat → Int32)
def tlen (i : Nat) : Nat := match i with
  | 6 => 8 | 7 => 8 | 8 => 8 | 9 => 8 | 10 => 1400 | 11 => 700 | 15 => 3 | 33 => 8 | 34 => 8 | 35 => 8 | 36 => 8 | 37 => 43 | 38 => 1400 | 39 => 950 | 40 => 9 | 41 => 86 | 42 => 1720 | 44 => 7 | 45 => 950 | 47 => 2304 | 48 => 8 | 49 => 8 | 50 => 8 | 52 => 24 | 53 => 8 | 54 => 3840 | 59 => 43 | 60 => 1720 | 61 => 24
  | _ => 0
def tkd (i : Nat) : Nat := if i = 40 then 102 else 100
def tP (t : Nat) : Prop := 1000 ≤ t ∧ t < 1062
/-- h' knows all that h knows, and holds the same but in cells of tags P -/
def xsame (P : Nat → Prop) (h h' : XH) : Prop := (h'.2.2 = h.2.2 ∧ h'.1 = h.1) ∧ (∀ a e, h.1 a = some e → h'.1 a = some e) ∧ ∀ a k n t, h.1 a = some (k, n, t) → ¬ P t → h'.2.1 a = h.2.1 a
theorem xsame.rfl {P : Nat → Prop} {h : XH} : xsame P h h := ⟨⟨Eq.refl _, Eq.refl _⟩, fun _ _ z => z, fun _ _ _ _ _ _ => Eq.refl _⟩
theorem xsame.trans {P : Nat → Prop} {h h' h'' : XH} (a : xsame P h h') (b : xsame P h' h'') : xsame P h h'' := ⟨⟨b.1.1.trans a.1.1, b.1.2.trans a.1.2⟩, fun x e z => b.2.1 x e (a.2.1 x e z), fun x k n t z hp => (b.2.2 x k n t (a.2.1 x _ z) hp).trans (a.2.2 x k n t z hp)⟩
theorem xsame.put {P : Nat → Prop} {h h' : XH} {a i k n t : Nat} {v : Value} (s : xsame P h h') (hk : h'.1 a = some (k, n, t)) (hp : P t) : xsame P h (xup h' a i v) := by
  refine s.trans ⟨⟨Eq.refl _, Eq.refl _⟩, fun _ _ z => z, fun b k' n' t' z hq => ?_⟩
  funext j
  simp only [xup]
  rw [if_neg]
  rintro ⟨rfl, -⟩
  cases hk.symm.trans z
  exact hq hp
def TW (m : Nat) (ad : Nat → Nat) (S : TS) (h : XH) : Prop := h.1 m = some (3, 62, 1000) ∧ (∀ i, i < 62 → tlen i = 0 → i ≠ 23 → h.2.1 m i = .int (S.1 i)) ∧ h.2.1 m 23 = .long S.2.1 ∧ ∀ i, i < 62 → tlen i ≠ 0 → h.2.1 m i = .ref (ad i) ∧ h.1 (ad i) = some (tkd i, tlen i, 1000 + i) ∧ ∀ j, j < tlen i → h.2.1 (ad i) j = .int (S.2.2 i j)
def tpF (S : TS) (i : Nat) (v : Int32) : TS := (fun j => if j = i then v else S.1 j, S.2)
def tpW (S : TS) (v : Int64) : TS := (S.1, v, S.2.2)
def tpA (S : TS) (i k : Nat) (v : Int32) : TS := (S.1, S.2.1, fun j q => if j = i ∧ q = k then v else S.2.2 j q)
/-- reading, writing an array: none out of its bounds -/
def trd (S : TS) (i : Nat) (x : Int32) : Option Int32 := if x < 0 ∨ tlen i ≤ x.toNatClampNeg then none else some (S.2.2 i x.toNatClampNeg)
def twr (S : TS) (i : Nat) (x v : Int32) : Option TS := if x < 0 ∨ tlen i ≤ x.toNatClampNeg then none else some (tpA S i x.toNatClampNeg v)
def tsp (b : Bool) : Option Unit := if b then some () else none
theorem TW.arr {m : Nat} {ad : Nat → Nat} {S : TS} {h : XH} (hT : TW m ad S h) {i : Nat} (hi : i < 62) (hl : tlen i ≠ 0) : h.2.1 m i = .ref (ad i) ∧ h.1 (ad i) = some (tkd i, tlen i, 1000 + i) ∧ ∀ j, j < tlen i → h.2.1 (ad i) j = .int (S.2.2 i j) := hT.2.2.2 i hi hl
theorem TW.ne {m : Nat} {ad : Nat → Nat} {S : TS} {h : XH} (hT : TW m ad S h) {i : Nat} (hi : i < 62) (hl : tlen i ≠ 0) : ad i ≠ m := by
  intro e
  have h1 := (hT.arr hi hl).2.1
  rw [e, hT.1] at h1
  have h2 : 1000 = 1000 + i := congrArg (fun z : Nat × Nat × Nat => z.2.2) (Option.some.inj h1)
  have h3 : i = 0 := by omega
  subst h3
  exact hl rfl
theorem TW.ne2 {m : Nat} {ad : Nat → Nat} {S : TS} {h : XH} (hT : TW m ad S h) {i j : Nat} (hi : i < 62) (hl : tlen i ≠ 0) (hj : j < 62) (hk : tlen j ≠ 0) (hn : i ≠ j) : ad i ≠ ad j := by
  intro e
  have h1 := (hT.arr hi hl).2.1
  rw [e, (hT.arr hj hk).2.1] at h1
  have h2 : 1000 + j = 1000 + i := congrArg (fun z : Nat × Nat × Nat => z.2.2) (Option.some.inj h1)
  omega
theorem TW.putF {m : Nat} {ad : Nat → Nat} {S : TS} {h : XH} (hT : TW m ad S h) {i : Nat} {v : Int32} (hl : tlen i = 0) (h23 : i ≠ 23) : TW m ad (tpF S i v) (xup h m i (.int v)) := by
  refine ⟨hT.1, fun j hj hl2 h2 => ?_, ?_, fun j hj hl2 => ⟨?_, (hT.arr hj hl2).2.1, fun q hq => ?_⟩⟩
  · by_cases e : j = i
    · subst e; simp [xup, tpF]
    · simp [xup, tpF, e]; exact hT.2.1 j hj hl2 h2
  · have : ¬ (23 = i) := fun z => h23 z.symm
    simp [xup, this]; exact hT.2.2.1
  · have : ¬ (j = i) := fun z => hl2 (z ▸ hl)
    simp [xup, this]; exact (hT.arr hj hl2).1
  · have := hT.ne hj hl2
    simp [xup, this]; exact (hT.arr hj hl2).2.2 q hq
theorem TW.putW {m : Nat} {ad : Nat → Nat} {S : TS} {h : XH} (hT : TW m ad S h) {v : Int64} : TW m ad (tpW S v) (xup h m 23 (.long v)) := by
  refine ⟨hT.1, fun j hj hl2 h2 => ?_, ?_, fun j hj hl2 => ⟨?_, (hT.arr hj hl2).2.1, fun q hq => ?_⟩⟩
  · simp [xup, tpW, h2]; exact hT.2.1 j hj hl2 h2
  · simp [xup, tpW]
  · have : ¬ (j = 23) := fun z => hl2 (z ▸ rfl)
    simp [xup, this]; exact (hT.arr hj hl2).1
  · have := hT.ne hj hl2
    simp [xup, this]; exact (hT.arr hj hl2).2.2 q hq
theorem TW.putA {m : Nat} {ad : Nat → Nat} {S : TS} {h : XH} (hT : TW m ad S h) {i k : Nat} {v : Int32} (hi : i < 62) (hl : tlen i ≠ 0) : TW m ad (tpA S i k v) (xup h (ad i) k (.int v)) := by
  have hm := hT.ne hi hl
  have hm' : ¬ (m = ad i) := fun z => hm z.symm
  refine ⟨hT.1, fun j hj hl2 h2 => ?_, ?_, fun j hj hl2 => ⟨?_, (hT.arr hj hl2).2.1, fun q hq => ?_⟩⟩
  · simp [xup, hm', tpA]; exact hT.2.1 j hj hl2 h2
  · simp [xup, hm', tpA]; exact hT.2.2.1
  · simp [xup, hm']; exact (hT.arr hj hl2).1
  · have h4 := (hT.arr hj hl2).2.2 q hq
    by_cases e : j = i
    · subst e
      by_cases e2 : q = k
      · simp [xup, tpA, e2]
      · simp [xup, tpA, e2]; exact h4
    · have hne := hT.ne2 hj hl2 hi hl e
      simp [xup, tpA, e, hne]; exact h4
theorem TW.kept {m : Nat} {ad : Nat → Nat} {S : TS} {P : Nat → Prop} {h h' : XH} (hT : TW m ad S h) (hs : xsame P h h') (hp : ∀ t, 1000 ≤ t → t < 1062 → ¬ P t) : TW m ad S h' := by
  have hm : h'.2.1 m = h.2.1 m := hs.2.2 m _ _ _ hT.1 (hp _ (Nat.le_refl _) (by decide))
  refine ⟨hs.2.1 _ _ hT.1, fun i a b c => by rw [hm]; exact hT.2.1 i a b c, by rw [hm]; exact hT.2.2.1, fun i a b => ?_⟩
  obtain ⟨q1, q2, q3⟩ := hT.arr a b
  exact ⟨by rw [hm]; exact q1, hs.2.1 _ _ q2, fun j hj => by rw [hs.2.2 _ _ _ _ q2 (hp _ (by omega) (by omega))]; exact q3 j hj⟩
def TX (l : Launch) (E : XEnv) (M : XMeth) (d pc : Nat) (ls : List (Nat × Value)) (st : List Value) (m : Nat) (ad : Nat → Nat) (h0 : XH) (S : TS) (R : Option Value → TS → Prop) : Prop :=
  ∀ h, TW m ad S h → xsame tP h0 h → XW l E M d 0 0 pc ls st h (fun o h' => ∃ v S', o = .inl v ∧ TW m ad S' h' ∧ xsame tP h0 h' ∧ R v S')
def TM (l : Launch) (E : XEnv) (M : XMeth) (d m : Nat) (ad : Nat → Nat) (args : List Value) (S : TS) (v : Option Value) (S' : TS) : Prop :=
  ∀ h, TW m ad S h → XM l E M d 0 0 args h (fun o h' => o = .inl v ∧ TW m ad S' h' ∧ xsame tP h h')
section TXR
variable {l : Launch} {E : XEnv} {M : XMeth} {d pc m : Nat} {ad : Nat → Nat} {ls : List (Nat × Value)} {st : List Value} {h0 : XH} {S : TS} {R : Option Value → TS → Prop}
theorem tx_iconst {z : Int} {v : Int32} (hd : decode M.2.1 pc = .ok (.iconst z, 1)) (hv : Int32.ofInt z = v) (kk : TX l E M d (pc + 1) ls (.int v :: st) m ad h0 S R) : TX l E M d pc ls (st) m ad h0 S R := fun h hT hw9 => xw_iconst hd hv (kk h hT hw9)
theorem tx_bipush {z : Int} {v : Int32} (hd : decode M.2.1 pc = .ok (.bipush z, 2)) (hv : (Int8.ofInt z).toInt32 = v) (kk : TX l E M d (pc + 2) ls (.int v :: st) m ad h0 S R) : TX l E M d pc ls (st) m ad h0 S R := fun h hT hw9 => xw_bipush hd hv (kk h hT hw9)
theorem tx_sipush {z : Int} {v : Int32} (hd : decode M.2.1 pc = .ok (.sipush z, 3)) (hv : (Int16.ofInt z).toInt32 = v) (kk : TX l E M d (pc + 3) ls (.int v :: st) m ad h0 S R) : TX l E M d pc ls (st) m ad h0 S R := fun h hT hw9 => xw_sipush hd hv (kk h hT hw9)
theorem tx_lconst {z : Fin 2} {v : Int64} (hd : decode M.2.1 pc = .ok (.lconst z, 1)) (hv : Int64.ofNat (z : Nat) = v) (kk : TX l E M d (pc + 1) ls (.long v :: st) m ad h0 S R) : TX l E M d pc ls (st) m ad h0 S R := fun h hT hw9 => xw_lconst hd hv (kk h hT hw9)
theorem tx_ldc {i : Nat} {v : Int32} (hw : Cond.constant M.1.cls i v ∈ lw_all) (hd : decode M.2.1 pc = .ok (.ldc i, 2)) (kk : TX l E M d (pc + 2) ls (.int v :: st) m ad h0 S R) : TX l E M d pc ls (st) m ad h0 S R := fun h hT hw9 => xw_ldc hw hd (kk h hT hw9)
theorem tx_ldcw {i : Nat} {v : Int32} (hw : Cond.constant M.1.cls i v ∈ lw_all) (hd : decode M.2.1 pc = .ok (.ldc_w i, 3)) (kk : TX l E M d (pc + 3) ls (.int v :: st) m ad h0 S R) : TX l E M d pc ls (st) m ad h0 S R := fun h hT hw9 => xw_ldcw hw hd (kk h hT hw9)
theorem tx_ldc2 {i : Nat} {v : Int64} (hw : Cond.constantLong M.1.cls i v ∈ lw_all) (hd : decode M.2.1 pc = .ok (.ldc2_w i, 3)) (kk : TX l E M d (pc + 3) ls (.long v :: st) m ad h0 S R) : TX l E M d pc ls (st) m ad h0 S R := fun h hT hw9 => xw_ldc2 hw hd (kk h hT hw9)
theorem tx_null  (hd : decode M.2.1 pc = .ok (.aconst_null, 1)) (kk : TX l E M d (pc + 1) ls (.null :: st) m ad h0 S R) : TX l E M d pc ls (st) m ad h0 S R := fun h hT hw9 => xw_null hd (kk h hT hw9)
theorem tx_iload_n {j : Fin 4} {x : Int32} (hd : decode M.2.1 pc = .ok (.iload_n j, 1)) (hj : xloc ls j.val = some (.int x)) (kk : TX l E M d (pc + 1) ls (.int x :: st) m ad h0 S R) : TX l E M d pc ls (st) m ad h0 S R := fun h hT hw9 => xw_iload_n hd hj (kk h hT hw9)
theorem tx_iload {j : Nat} {x : Int32} (hd : decode M.2.1 pc = .ok (.iload j, 2)) (hj : xloc ls j = some (.int x)) (kk : TX l E M d (pc + 2) ls (.int x :: st) m ad h0 S R) : TX l E M d pc ls (st) m ad h0 S R := fun h hT hw9 => xw_iload hd hj (kk h hT hw9)
theorem tx_lload_n {j : Fin 4} {x : Int64} (hd : decode M.2.1 pc = .ok (.lload_n j, 1)) (hj : xloc ls j.val = some (.long x)) (kk : TX l E M d (pc + 1) ls (.long x :: st) m ad h0 S R) : TX l E M d pc ls (st) m ad h0 S R := fun h hT hw9 => xw_lload_n hd hj (kk h hT hw9)
theorem tx_lload {j : Nat} {x : Int64} (hd : decode M.2.1 pc = .ok (.lload j, 2)) (hj : xloc ls j = some (.long x)) (kk : TX l E M d (pc + 2) ls (.long x :: st) m ad h0 S R) : TX l E M d pc ls (st) m ad h0 S R := fun h hT hw9 => xw_lload hd hj (kk h hT hw9)
theorem tx_aload_n {j : Fin 4} {v : Value} (hd : decode M.2.1 pc = .ok (.aload_n j, 1)) (hj : xloc ls j.val = some v) (hv : xisr v = true) (kk : TX l E M d (pc + 1) ls (v :: st) m ad h0 S R) : TX l E M d pc ls (st) m ad h0 S R := fun h hT hw9 => xw_aload_n hd hj hv (kk h hT hw9)
theorem tx_aload {j : Nat} {v : Value} (hd : decode M.2.1 pc = .ok (.aload j, 2)) (hj : xloc ls j = some v) (hv : xisr v = true) (kk : TX l E M d (pc + 2) ls (v :: st) m ad h0 S R) : TX l E M d pc ls (st) m ad h0 S R := fun h hT hw9 => xw_aload hd hj hv (kk h hT hw9)
theorem tx_istore_n {j : Fin 4} {x : Int32} (hd : decode M.2.1 pc = .ok (.istore_n j, 1)) (hj : j.val < M.2.2.1) (kk : TX l E M d (pc + 1) (xst ls j.val (.int x)) (st) m ad h0 S R) : TX l E M d pc ls (.int x :: st) m ad h0 S R := fun h hT hw9 => xw_istore_n hd hj (kk h hT hw9)
theorem tx_istore {j : Nat} {x : Int32} (hd : decode M.2.1 pc = .ok (.istore j, 2)) (hj : j < M.2.2.1) (kk : TX l E M d (pc + 2) (xst ls j (.int x)) (st) m ad h0 S R) : TX l E M d pc ls (.int x :: st) m ad h0 S R := fun h hT hw9 => xw_istore hd hj (kk h hT hw9)
theorem tx_lstore_n {j : Fin 4} {x : Int64} (hd : decode M.2.1 pc = .ok (.lstore_n j, 1)) (hj : j.val + 1 < M.2.2.1) (kk : TX l E M d (pc + 1) (xst2 ls j.val (.long x)) (st) m ad h0 S R) : TX l E M d pc ls (.long x :: st) m ad h0 S R := fun h hT hw9 => xw_lstore_n hd hj (kk h hT hw9)
theorem tx_lstore {j : Nat} {x : Int64} (hd : decode M.2.1 pc = .ok (.lstore j, 2)) (hj : j + 1 < M.2.2.1) (kk : TX l E M d (pc + 2) (xst2 ls j (.long x)) (st) m ad h0 S R) : TX l E M d pc ls (.long x :: st) m ad h0 S R := fun h hT hw9 => xw_lstore hd hj (kk h hT hw9)
theorem tx_astore_n {j : Fin 4} {v : Value} (hd : decode M.2.1 pc = .ok (.astore_n j, 1)) (hj : j.val < M.2.2.1) (hv : xisr v = true) (kk : TX l E M d (pc + 1) (xst ls j.val v) (st) m ad h0 S R) : TX l E M d pc ls (v :: st) m ad h0 S R := fun h hT hw9 => xw_astore_n hd hj hv (kk h hT hw9)
theorem tx_astore {j : Nat} {v : Value} (hd : decode M.2.1 pc = .ok (.astore j, 2)) (hj : j < M.2.2.1) (hv : xisr v = true) (kk : TX l E M d (pc + 2) (xst ls j v) (st) m ad h0 S R) : TX l E M d pc ls (v :: st) m ad h0 S R := fun h hT hw9 => xw_astore hd hj hv (kk h hT hw9)
theorem tx_iadd {x y : Int32} (hd : decode M.2.1 pc = .ok (.iadd, 1)) (kk : TX l E M d (pc + 1) ls (.int (x + y) :: st) m ad h0 S R) : TX l E M d pc ls (.int y :: .int x :: st) m ad h0 S R := fun h hT hw9 => xw_iadd hd (kk h hT hw9)
theorem tx_isub {x y : Int32} (hd : decode M.2.1 pc = .ok (.isub, 1)) (kk : TX l E M d (pc + 1) ls (.int (x - y) :: st) m ad h0 S R) : TX l E M d pc ls (.int y :: .int x :: st) m ad h0 S R := fun h hT hw9 => xw_isub hd (kk h hT hw9)
theorem tx_imul {x y : Int32} (hd : decode M.2.1 pc = .ok (.imul, 1)) (kk : TX l E M d (pc + 1) ls (.int (x * y) :: st) m ad h0 S R) : TX l E M d pc ls (.int y :: .int x :: st) m ad h0 S R := fun h hT hw9 => xw_imul hd (kk h hT hw9)
theorem tx_iand {x y : Int32} (hd : decode M.2.1 pc = .ok (.iand, 1)) (kk : TX l E M d (pc + 1) ls (.int (x &&& y) :: st) m ad h0 S R) : TX l E M d pc ls (.int y :: .int x :: st) m ad h0 S R := fun h hT hw9 => xw_iand hd (kk h hT hw9)
theorem tx_ior {x y : Int32} (hd : decode M.2.1 pc = .ok (.ior, 1)) (kk : TX l E M d (pc + 1) ls (.int (x ||| y) :: st) m ad h0 S R) : TX l E M d pc ls (.int y :: .int x :: st) m ad h0 S R := fun h hT hw9 => xw_ior hd (kk h hT hw9)
theorem tx_ixor {x y : Int32} (hd : decode M.2.1 pc = .ok (.ixor, 1)) (kk : TX l E M d (pc + 1) ls (.int (x ^^^ y) :: st) m ad h0 S R) : TX l E M d pc ls (.int y :: .int x :: st) m ad h0 S R := fun h hT hw9 => xw_ixor hd (kk h hT hw9)
theorem tx_ishl {x y : Int32} (hd : decode M.2.1 pc = .ok (.ishl, 1)) (kk : TX l E M d (pc + 1) ls (.int (x <<< (y &&& 31)) :: st) m ad h0 S R) : TX l E M d pc ls (.int y :: .int x :: st) m ad h0 S R := fun h hT hw9 => xw_ishl hd (kk h hT hw9)
theorem tx_ishr {x y : Int32} (hd : decode M.2.1 pc = .ok (.ishr, 1)) (kk : TX l E M d (pc + 1) ls (.int (x >>> (y &&& 31)) :: st) m ad h0 S R) : TX l E M d pc ls (.int y :: .int x :: st) m ad h0 S R := fun h hT hw9 => xw_ishr hd (kk h hT hw9)
theorem tx_idiv {x y : Int32} (hd : decode M.2.1 pc = .ok (.idiv, 1)) (hz : ¬ y = 0) (kk : TX l E M d (pc + 1) ls (.int (x / y) :: st) m ad h0 S R) : TX l E M d pc ls (.int y :: .int x :: st) m ad h0 S R := fun h hT hw9 => xw_idiv hd hz (kk h hT hw9)
theorem tx_irem {x y : Int32} (hd : decode M.2.1 pc = .ok (.irem, 1)) (hz : ¬ y = 0) (kk : TX l E M d (pc + 1) ls (.int (x - x / y * y) :: st) m ad h0 S R) : TX l E M d pc ls (.int y :: .int x :: st) m ad h0 S R := fun h hT hw9 => xw_irem hd hz (kk h hT hw9)
theorem tx_iushr {x y v : Int32} (hd : decode M.2.1 pc = .ok (.iushr, 1)) (hv : (x.toUInt32 >>> (y.toUInt32 &&& Int32.toUInt32 31)).toInt32 = v) (kk : TX l E M d (pc + 1) ls (.int v :: st) m ad h0 S R) : TX l E M d pc ls (.int y :: .int x :: st) m ad h0 S R := fun h hT hw9 => xw_iushr hd hv (kk h hT hw9)
theorem tx_ineg {x : Int32} (hd : decode M.2.1 pc = .ok (.ineg, 1)) (kk : TX l E M d (pc + 1) ls (.int (-x) :: st) m ad h0 S R) : TX l E M d pc ls (.int x :: st) m ad h0 S R := fun h hT hw9 => xw_ineg hd (kk h hT hw9)
theorem tx_lsub {x y : Int64} (hd : decode M.2.1 pc = .ok (.lsub, 1)) (kk : TX l E M d (pc + 1) ls (.long (x - y) :: st) m ad h0 S R) : TX l E M d pc ls (.long y :: .long x :: st) m ad h0 S R := fun h hT hw9 => xw_lsub hd (kk h hT hw9)
theorem tx_lor {x y : Int64} (hd : decode M.2.1 pc = .ok (.lor, 1)) (kk : TX l E M d (pc + 1) ls (.long (x ||| y) :: st) m ad h0 S R) : TX l E M d pc ls (.long y :: .long x :: st) m ad h0 S R := fun h hT hw9 => xw_lor hd (kk h hT hw9)
theorem tx_ladd {x y : Int64} (hd : decode M.2.1 pc = .ok (.ladd, 1)) (kk : TX l E M d (pc + 1) ls (.long (x + y) :: st) m ad h0 S R) : TX l E M d pc ls (.long y :: .long x :: st) m ad h0 S R := fun h hT hw9 => xw_ladd hd (kk h hT hw9)
theorem tx_lshl {x : Int64} {y : Int32} (hd : decode M.2.1 pc = .ok (.lshl, 1)) (kk : TX l E M d (pc + 1) ls (.long (x <<< (y.toInt64 &&& 63)) :: st) m ad h0 S R) : TX l E M d pc ls (.int y :: .long x :: st) m ad h0 S R := fun h hT hw9 => xw_lshl hd (kk h hT hw9)
theorem tx_i2l {x : Int32} (hd : decode M.2.1 pc = .ok (.i2l, 1)) (kk : TX l E M d (pc + 1) ls (.long x.toInt64 :: st) m ad h0 S R) : TX l E M d pc ls (.int x :: st) m ad h0 S R := fun h hT hw9 => xw_i2l hd (kk h hT hw9)
theorem tx_i2b {x : Int32} (hd : decode M.2.1 pc = .ok (.i2b, 1)) (kk : TX l E M d (pc + 1) ls (.int x.toInt8.toInt32 :: st) m ad h0 S R) : TX l E M d pc ls (.int x :: st) m ad h0 S R := fun h hT hw9 => xw_i2b hd (kk h hT hw9)
theorem tx_i2c {x : Int32} (hd : decode M.2.1 pc = .ok (.i2c, 1)) (kk : TX l E M d (pc + 1) ls (.int (x.toUInt32 % 65536).toInt32 :: st) m ad h0 S R) : TX l E M d pc ls (.int x :: st) m ad h0 S R := fun h hT hw9 => xw_i2c hd (kk h hT hw9)
theorem tx_lcmp {x y : Int64} (hd : decode M.2.1 pc = .ok (.lcmp, 1)) (kk : TX l E M d (pc + 1) ls (.int (lg_cmp x y) :: st) m ad h0 S R) : TX l E M d pc ls (.long y :: .long x :: st) m ad h0 S R := fun h hT hw9 => xw_lcmp hd (kk h hT hw9)
theorem tx_dup {v : Value} (hd : decode M.2.1 pc = .ok (.dup, 1)) (hv : v.category = 1) (kk : TX l E M d (pc + 1) ls (v :: v :: st) m ad h0 S R) : TX l E M d pc ls (v :: st) m ad h0 S R := fun h hT hw9 => xw_dup hd hv (kk h hT hw9)
theorem tx_pop {v : Value} (hd : decode M.2.1 pc = .ok (.pop, 1)) (hv : v.category = 1) (kk : TX l E M d (pc + 1) ls (st) m ad h0 S R) : TX l E M d pc ls (v :: st) m ad h0 S R := fun h hT hw9 => xw_pop hd hv (kk h hT hw9)
theorem tx_dup_x1 {v w : Value} (hd : decode M.2.1 pc = .ok (.dup_x1, 1)) (hv : v.category = 1) (hw : w.category = 1) (kk : TX l E M d (pc + 1) ls (v :: w :: v :: st) m ad h0 S R) : TX l E M d pc ls (v :: w :: st) m ad h0 S R := fun h hT hw9 => xw_dup_x1 hd hv hw (kk h hT hw9)
theorem tx_dup2 {v w : Value} (hd : decode M.2.1 pc = .ok (.dup2, 1)) (hv : v.category = 1) (hw : w.category = 1) (kk : TX l E M d (pc + 1) ls (v :: w :: v :: w :: st) m ad h0 S R) : TX l E M d pc ls (v :: w :: st) m ad h0 S R := fun h hT hw9 => xw_dup2 hd hv hw (kk h hT hw9)
theorem tx_if_eq {x : Int32} {off : Int} {tgt : Nat} (hd : decode M.2.1 pc = .ok (.ifCond .eq off, 3)) (ht : (pc : Int) + off = (tgt : Int)) (kt : x = 0 → TX l E M d tgt ls st m ad h0 S R) (kf : ¬ x = 0 → TX l E M d (pc + 3) ls st m ad h0 S R) : TX l E M d pc ls (.int x :: st) m ad h0 S R := fun h hT hw => xw_if_eq hd ht (fun z => kt z h hT hw) (fun z => kf z h hT hw)
theorem tx_if_ne {x : Int32} {off : Int} {tgt : Nat} (hd : decode M.2.1 pc = .ok (.ifCond .ne off, 3)) (ht : (pc : Int) + off = (tgt : Int)) (kt : x ≠ 0 → TX l E M d tgt ls st m ad h0 S R) (kf : x = 0 → TX l E M d (pc + 3) ls st m ad h0 S R) : TX l E M d pc ls (.int x :: st) m ad h0 S R := fun h hT hw => xw_if_ne hd ht (fun z => kt z h hT hw) (fun z => kf z h hT hw)
theorem tx_if_lt {x : Int32} {off : Int} {tgt : Nat} (hd : decode M.2.1 pc = .ok (.ifCond .lt off, 3)) (ht : (pc : Int) + off = (tgt : Int)) (kt : x < 0 → TX l E M d tgt ls st m ad h0 S R) (kf : ¬ x < 0 → TX l E M d (pc + 3) ls st m ad h0 S R) : TX l E M d pc ls (.int x :: st) m ad h0 S R := fun h hT hw => xw_if_lt hd ht (fun z => kt z h hT hw) (fun z => kf z h hT hw)
theorem tx_if_ge {x : Int32} {off : Int} {tgt : Nat} (hd : decode M.2.1 pc = .ok (.ifCond .ge off, 3)) (ht : (pc : Int) + off = (tgt : Int)) (kt : x ≥ 0 → TX l E M d tgt ls st m ad h0 S R) (kf : ¬ x ≥ 0 → TX l E M d (pc + 3) ls st m ad h0 S R) : TX l E M d pc ls (.int x :: st) m ad h0 S R := fun h hT hw => xw_if_ge hd ht (fun z => kt z h hT hw) (fun z => kf z h hT hw)
theorem tx_if_gt {x : Int32} {off : Int} {tgt : Nat} (hd : decode M.2.1 pc = .ok (.ifCond .gt off, 3)) (ht : (pc : Int) + off = (tgt : Int)) (kt : x > 0 → TX l E M d tgt ls st m ad h0 S R) (kf : ¬ x > 0 → TX l E M d (pc + 3) ls st m ad h0 S R) : TX l E M d pc ls (.int x :: st) m ad h0 S R := fun h hT hw => xw_if_gt hd ht (fun z => kt z h hT hw) (fun z => kf z h hT hw)
theorem tx_if_le {x : Int32} {off : Int} {tgt : Nat} (hd : decode M.2.1 pc = .ok (.ifCond .le off, 3)) (ht : (pc : Int) + off = (tgt : Int)) (kt : x ≤ 0 → TX l E M d tgt ls st m ad h0 S R) (kf : ¬ x ≤ 0 → TX l E M d (pc + 3) ls st m ad h0 S R) : TX l E M d pc ls (.int x :: st) m ad h0 S R := fun h hT hw => xw_if_le hd ht (fun z => kt z h hT hw) (fun z => kf z h hT hw)
theorem tx_icmp_eq {x y : Int32} {off : Int} {tgt : Nat} (hd : decode M.2.1 pc = .ok (.if_icmp .eq off, 3)) (ht : (pc : Int) + off = (tgt : Int)) (kt : x = y → TX l E M d tgt ls st m ad h0 S R) (kf : ¬ x = y → TX l E M d (pc + 3) ls st m ad h0 S R) : TX l E M d pc ls (.int y :: .int x :: st) m ad h0 S R := fun h hT hw => xw_icmp_eq hd ht (fun z => kt z h hT hw) (fun z => kf z h hT hw)
theorem tx_icmp_ne {x y : Int32} {off : Int} {tgt : Nat} (hd : decode M.2.1 pc = .ok (.if_icmp .ne off, 3)) (ht : (pc : Int) + off = (tgt : Int)) (kt : x ≠ y → TX l E M d tgt ls st m ad h0 S R) (kf : x = y → TX l E M d (pc + 3) ls st m ad h0 S R) : TX l E M d pc ls (.int y :: .int x :: st) m ad h0 S R := fun h hT hw => xw_icmp_ne hd ht (fun z => kt z h hT hw) (fun z => kf z h hT hw)
theorem tx_icmp_lt {x y : Int32} {off : Int} {tgt : Nat} (hd : decode M.2.1 pc = .ok (.if_icmp .lt off, 3)) (ht : (pc : Int) + off = (tgt : Int)) (kt : x < y → TX l E M d tgt ls st m ad h0 S R) (kf : ¬ x < y → TX l E M d (pc + 3) ls st m ad h0 S R) : TX l E M d pc ls (.int y :: .int x :: st) m ad h0 S R := fun h hT hw => xw_icmp_lt hd ht (fun z => kt z h hT hw) (fun z => kf z h hT hw)
theorem tx_icmp_ge {x y : Int32} {off : Int} {tgt : Nat} (hd : decode M.2.1 pc = .ok (.if_icmp .ge off, 3)) (ht : (pc : Int) + off = (tgt : Int)) (kt : x ≥ y → TX l E M d tgt ls st m ad h0 S R) (kf : ¬ x ≥ y → TX l E M d (pc + 3) ls st m ad h0 S R) : TX l E M d pc ls (.int y :: .int x :: st) m ad h0 S R := fun h hT hw => xw_icmp_ge hd ht (fun z => kt z h hT hw) (fun z => kf z h hT hw)
theorem tx_icmp_gt {x y : Int32} {off : Int} {tgt : Nat} (hd : decode M.2.1 pc = .ok (.if_icmp .gt off, 3)) (ht : (pc : Int) + off = (tgt : Int)) (kt : x > y → TX l E M d tgt ls st m ad h0 S R) (kf : ¬ x > y → TX l E M d (pc + 3) ls st m ad h0 S R) : TX l E M d pc ls (.int y :: .int x :: st) m ad h0 S R := fun h hT hw => xw_icmp_gt hd ht (fun z => kt z h hT hw) (fun z => kf z h hT hw)
theorem tx_icmp_le {x y : Int32} {off : Int} {tgt : Nat} (hd : decode M.2.1 pc = .ok (.if_icmp .le off, 3)) (ht : (pc : Int) + off = (tgt : Int)) (kt : x ≤ y → TX l E M d tgt ls st m ad h0 S R) (kf : ¬ x ≤ y → TX l E M d (pc + 3) ls st m ad h0 S R) : TX l E M d pc ls (.int y :: .int x :: st) m ad h0 S R := fun h hT hw => xw_icmp_le hd ht (fun z => kt z h hT hw) (fun z => kf z h hT hw)
theorem tx_iinc {j : Nat} {z : Int} {x v : Int32} (hd : decode M.2.1 pc = .ok (.iinc j z, 3)) (hj : xloc ls j = some (.int x)) (hn : j < M.2.2.1) (hv : x + Int32.ofInt z = v) (kk : TX l E M d (pc + 3) (xst ls j (.int v)) st m ad h0 S R) : TX l E M d pc ls st m ad h0 S R := fun h hT hw => xw_iinc hd hj hn hv (kk h hT hw)
theorem tx_goto {off : Int} {tgt : Nat} (hd : decode M.2.1 pc = .ok (.goto off, 3)) (ht : (pc : Int) + off = (tgt : Int)) (kk : TX l E M d tgt ls st m ad h0 S R) : TX l E M d pc ls st m ad h0 S R := fun h hT hw => xw_goto hd ht (kk h hT hw)
theorem tx_tableIn {dflt lo hi : Int} {offs : Array Int} {len : Nat} {x : Int32} {off : Int} {tgt : Nat} (hd : decode M.2.1 pc = .ok (.tableswitch dflt lo hi offs, len)) (g1 : ¬ x.toInt < lo) (g2 : ¬ hi < x.toInt) (ho : offs[(x.toInt - lo).toNat]? = some off) (ht : (pc : Int) + off = (tgt : Int)) (kk : TX l E M d tgt ls st m ad h0 S R) : TX l E M d pc ls (.int x :: st) m ad h0 S R := fun h hT hw => xw_tableIn hd g1 g2 ho ht (kk h hT hw)
theorem tx_tableOut {dflt lo hi : Int} {offs : Array Int} {len : Nat} {x : Int32} {tgt : Nat} (hd : decode M.2.1 pc = .ok (.tableswitch dflt lo hi offs, len)) (g : x.toInt < lo ∨ hi < x.toInt) (ht : (pc : Int) + dflt = (tgt : Int)) (kk : TX l E M d tgt ls st m ad h0 S R) : TX l E M d pc ls (.int x :: st) m ad h0 S R := fun h hT hw => xw_tableOut hd g ht (kk h hT hw)
theorem tx_ls {L : List (Nat × Value)} (hs : xsub L ls) (kk : TX l E M d pc L st m ad h0 S R) : TX l E M d pc ls st m ad h0 S R := fun h hT hw => xw_ls hs (kk h hT hw)
theorem tx_lsK {L : List (Nat × Value)} (kk : TX l E M d pc L st m ad h0 S R) (hs : xsub L ls) : TX l E M d pc ls st m ad h0 S R := tx_ls hs kk
theorem tx_top {x y : Int32} (e : x = y) (kk : TX l E M d pc ls (.int y :: st) m ad h0 S R) : TX l E M d pc ls (.int x :: st) m ad h0 S R := by subst e; exact kk
theorem tx_topl {x y : Int64} (e : x = y) (kk : TX l E M d pc ls (.long y :: st) m ad h0 S R) : TX l E M d pc ls (.long x :: st) m ad h0 S R := by subst e; exact kk
theorem tx_iret {x : Int32} {ty : FieldType} (hd : decode M.2.1 pc = .ok (.ireturn, 1)) (ht : M.2.2.2.1 = some ty) (hn : narrow ty (.int x) = .int x) (hR : R (some (.int x)) S) : TX l E M d pc ls [.int x] m ad h0 S R := fun h hT hw => xw_iret hd ht hn ⟨_, S, rfl, hT, hw, hR⟩
theorem tx_lret {x : Int64} (hd : decode M.2.1 pc = .ok (.lreturn, 1)) (ht : M.2.2.2.1 = some .long) (hR : R (some (.long x)) S) : TX l E M d pc ls [.long x] m ad h0 S R := fun h hT hw => xw_lret hd ht ⟨_, S, rfl, hT, hw, hR⟩
theorem tx_vret (hd : decode M.2.1 pc = .ok (.return_, 1)) (ht : M.2.2.2.1 = none) (hR : R none S) : TX l E M d pc ls [] m ad h0 S R := fun h hT hw => xw_vret hd ht ⟨_, S, rfl, hT, hw, hR⟩
theorem tx_getI {i idx : Nat} (hF : XFld M.1.cls idx 3 i) (hd : decode M.2.1 pc = .ok (.getfield idx, 3)) (hi : i < 62 ∧ tlen i = 0 ∧ i ≠ 23) (kk : TX l E M d (pc + 3) ls (.int (S.1 i) :: st) m ad h0 S R) : TX l E M d pc ls (.ref m :: st) m ad h0 S R := fun h hT hw => xw_getf hF hd hT.1 (hT.2.1 i hi.1 hi.2.1 hi.2.2) (kk h hT hw)
theorem tx_getJ {idx : Nat} (hF : XFld M.1.cls idx 3 23) (hd : decode M.2.1 pc = .ok (.getfield idx, 3)) (kk : TX l E M d (pc + 3) ls (.long S.2.1 :: st) m ad h0 S R) : TX l E M d pc ls (.ref m :: st) m ad h0 S R := fun h hT hw => xw_getf hF hd hT.1 hT.2.2.1 (kk h hT hw)
theorem tx_getA {i idx : Nat} (hF : XFld M.1.cls idx 3 i) (hd : decode M.2.1 pc = .ok (.getfield idx, 3)) (hi : i < 62 ∧ tlen i ≠ 0) (kk : TX l E M d (pc + 3) ls (.ref (ad i) :: st) m ad h0 S R) : TX l E M d pc ls (.ref m :: st) m ad h0 S R := fun h hT hw => xw_getf hF hd hT.1 (hT.arr hi.1 hi.2).1 (kk h hT hw)
theorem tx_putI {i idx : Nat} {v : Int32} {S' : TS} {ty : FieldType} (hF : XPut M.1.cls M.1.name idx 3 i ty) (hd : decode M.2.1 pc = .ok (.putfield idx, 3)) (hi : tlen i = 0 ∧ i ≠ 23) (hn : narrow ty (.int v) = .int v) (hf : fits ty (.int v) = true) (hS : tpF S i v = S') (kk : TX l E M d (pc + 3) ls st m ad h0 S' R) : TX l E M d pc ls (.int v :: .ref m :: st) m ad h0 S R := by
  subst hS
  exact fun h hT hw => xw_putf hF hd hT.1 (by decide) hn hf (kk _ (hT.putF hi.1 hi.2) (hw.put hT.1 ⟨by decide, by decide⟩))
theorem tx_putJ {idx : Nat} {v : Int64} {S' : TS} (hF : XPut M.1.cls M.1.name idx 3 23 .long) (hd : decode M.2.1 pc = .ok (.putfield idx, 3)) (hS : tpW S v = S') (kk : TX l E M d (pc + 3) ls st m ad h0 S' R) : TX l E M d pc ls (.long v :: .ref m :: st) m ad h0 S R := by
  subst hS
  exact fun h hT hw => xw_putf hF hd hT.1 (by decide) rfl rfl (kk _ hT.putW (hw.put hT.1 ⟨by decide, by decide⟩))
theorem trd_in {i : Nat} {x v : Int32} (h : trd S i x = some v) : vp_in x (tlen i) ∧ x.toNatClampNeg < tlen i ∧ S.2.2 i x.toNatClampNeg = v := by
  unfold trd at h
  split at h
  · cases h
  · rename_i c
    exact ⟨c, Nat.not_le.mp fun q => c (Or.inr q), Option.some.inj h⟩
theorem twr_in {i : Nat} {x v : Int32} {S' : TS} (h : twr S i x v = some S') : vp_in x (tlen i) ∧ tpA S i x.toNatClampNeg v = S' := by
  unfold twr at h
  split at h
  · cases h
  · rename_i c
    exact ⟨c, Option.some.inj h⟩
theorem tx_iald {i : Nat} {x v : Int32} (hi : i < 62 ∧ tlen i ≠ 0 ∧ i ≠ 40) (hd : decode M.2.1 pc = .ok (.iaload, 1)) (hr : trd S i x = some v) (kk : TX l E M d (pc + 1) ls (.int v :: st) m ad h0 S R) : TX l E M d pc ls (.int x :: .ref (ad i) :: st) m ad h0 S R := by
  obtain ⟨g1, g2, rfl⟩ := trd_in hr
  intro h hT hw
  obtain ⟨q1, q2, q3⟩ := hT.arr hi.1 hi.2.1
  rw [tkd, if_neg hi.2.2] at q2
  exact xw_iald hd q2 g1 (q3 _ g2) (kk h hT hw)
theorem tx_zald {x v : Int32} (hd : decode M.2.1 pc = .ok (.baload, 1)) (hr : trd S 40 x = some v) (kk : TX l E M d (pc + 1) ls (.int v :: st) m ad h0 S R) : TX l E M d pc ls (.int x :: .ref (ad 40) :: st) m ad h0 S R := by
  obtain ⟨g1, g2, rfl⟩ := trd_in hr
  intro h hT hw
  obtain ⟨q1, q2, q3⟩ := hT.arr (i := 40) (by decide) (by decide)
  exact xw_zald hd q2 g1 (q3 _ g2) (kk h hT hw)
theorem tx_iast {i : Nat} {x v : Int32} {S' : TS} (hi : i < 62 ∧ tlen i ≠ 0 ∧ i ≠ 40) (hd : decode M.2.1 pc = .ok (.iastore, 1)) (hr : twr S i x v = some S') (kk : TX l E M d (pc + 1) ls st m ad h0 S' R) : TX l E M d pc ls (.int v :: .int x :: .ref (ad i) :: st) m ad h0 S R := by
  obtain ⟨g1, rfl⟩ := twr_in hr
  intro h hT hw
  obtain ⟨q1, q2, q3⟩ := hT.arr hi.1 hi.2.1
  have q2' := q2
  rw [tkd, if_neg hi.2.2] at q2
  exact xw_iast hd q2 (by omega) g1 (kk _ (hT.putA hi.1 hi.2.1) (hw.put q2' ⟨by omega, by omega⟩))
theorem tx_zast {x v : Int32} {S' : TS} (hd : decode M.2.1 pc = .ok (.bastore, 1)) (hv : narrow .boolean (.int v) = .int v) (hr : twr S 40 x v = some S') (kk : TX l E M d (pc + 1) ls st m ad h0 S' R) : TX l E M d pc ls (.int v :: .int x :: .ref (ad 40) :: st) m ad h0 S R := by
  obtain ⟨g1, rfl⟩ := twr_in hr
  intro h hT hw
  obtain ⟨q1, q2, q3⟩ := hT.arr (i := 40) (by decide) (by decide)
  refine xw_zast hd q2 (by decide) g1 ?_
  rw [hv]
  exact kk _ (hT.putA (by decide) (by decide)) (hw.put q2 ⟨by decide, by decide⟩)
theorem tx_alen {i : Nat} (hi : i < 62 ∧ tlen i ≠ 0 ∧ i ≠ 40) (hd : decode M.2.1 pc = .ok (.arraylength, 1)) (kk : TX l E M d (pc + 1) ls (.int (Int32.ofNat (tlen i)) :: st) m ad h0 S R) : TX l E M d pc ls (.ref (ad i) :: st) m ad h0 S R := by
  intro h hT hw
  obtain ⟨q1, q2, q3⟩ := hT.arr hi.1 hi.2.1
  rw [tkd, if_neg hi.2.2] at q2
  exact xw_alen (t := 0) (by decide) hd q2 (kk h hT hw)
section TXCALL
variable {M' : XMeth} {idx np d' : Nat} {As : List Value} {v : Option Value} {S' : TS}
theorem tx_callV (hX : TM l E M' d' m ad (.ref m :: As) S v S') (hL : XLkV M.1.cls idx M') (hc : XCd M' np) (hcl : RX4 = M'.1.cls) (hd : decode M.2.1 pc = .ok (.invokevirtual idx, 3)) (hn : As.length = np) (hdd : d' + 1 ≤ d) (hst : (st.map fun v => v.category).sum ≤ 8) (kk : TX l E M d (pc + 3) ls (v.toList ++ st) m ad h0 S' R) : TX l E M d pc ls (As.reverse ++ .ref m :: st) m ad h0 S R := by
  intro h hT hw
  refine xw_callV (k' := 0) (n' := 0) (hX h hT) hL hc hd hT.1 (Or.inl ⟨by decide, TX4, 62, by rw [← hcl]; rfl⟩) hn hdd (Nat.le_refl _) (Nat.le_refl _) hst (fun v' h' hq => ?_) (fun C q h' hq => ?_)
  · obtain ⟨e, hT', hw'⟩ := hq
    cases e
    exact kk h' hT' (hw.trans hw')
  · cases hq.1
theorem tx_callS (hX : TM l E M' d' m ad As S v S') (hL : XLkS M.1.cls idx M') (hc : XCd M' np) (hd : decode M.2.1 pc = .ok (.invokestatic idx, 3)) (hn : As.length = np) (hdd : d' + 1 ≤ d) (hst : (st.map fun v => v.category).sum ≤ 8) (kk : TX l E M d (pc + 3) ls (v.toList ++ st) m ad h0 S' R) : TX l E M d pc ls (As.reverse ++ st) m ad h0 S R := by
  intro h hT hw
  refine xw_callS (k' := 0) (n' := 0) (hX h hT) hL hc hd hn hdd (Nat.le_refl _) (Nat.le_refl _) hst (fun v' h' hq => ?_) (fun C q h' hq => ?_)
  · obtain ⟨e, hT', hw'⟩ := hq
    cases e
    exact kk h' hT' (hw.trans hw')
  · cases hq.1
end TXCALL
end TXR
/-- a boolean answer -/
def tz (x : Int32) : Option Int32 := if x = 0 ∨ x = 1 then some x else none
theorem tz_eq {x z : Int32} (h : tz x = some z) : x = z ∧ narrow .boolean (.int z) = .int z := by
  unfold tz at h
  split at h
  · rename_i c
    cases h
    rcases c with rfl | rfl <;> exact ⟨rfl, rfl⟩
  · cases h
theorem tm_of {l : Launch} {E : XEnv} {M : XMeth} {d m : Nat} {ad : Nat → Nat} {av : List Value} {S : TS} {v : Option Value} {S' : TS} (hy : plainName M.1.cls = true) (hh : M.2.2.2.2 = []) (hL : (lg_sl av).length ≤ M.2.2.1) (body : ∀ h0, TX l E M d 0 (lv_args 0 av) [] m ad h0 S (fun v' S'' => v' = v ∧ S'' = S')) : TM l E M d m ad av S v S' := by
  intro h hT
  refine xm_of hy hh hL (xw_conseq (fun o h' hq => ?_) (body h h hT xsame.rfl))
  obtain ⟨v', S'', e, hT', hw, e1, e2⟩ := hq
  subst e1 e2
  exact ⟨e, hT', hw⟩
/-- iterate: .inl goes on, .inr leaves -/
def xloop {σ ρ : Type} (f : σ → Option (σ ⊕ ρ)) : Nat → σ → Option ρ
  | 0, _ => none
  | n + 1, s => (f s).bind fun r => match r with
    | .inl s' => xloop f n s'
    | .inr r => some r
theorem xb {α β : Type} {x : Option α} {f : α → Option β} {y : β} (h : x.bind f = some y) : ∃ a, x = some a ∧ f a = some y := by
  cases x with
  | none => cases h
  | some a => exact ⟨a, rfl, h⟩
/-- go on with G, or leave with K -/
def xk {σ ρ : Type} (G : σ → Prop) (K : ρ → Prop) : σ ⊕ ρ → Prop
  | .inl s => G s
  | .inr r => K r
theorem xloop_of {σ ρ : Type} {f : σ → Option (σ ⊕ ρ)} (G : σ → Prop) (K : ρ → Prop) (hs : ∀ s r, f s = some r → xk G K r → G s) : ∀ n s r, xloop f n s = some r → K r → G s := by
  intro n
  induction n with
  | zero => intro s r h; cases h
  | succ n ih =>
    intro s r h hk
    obtain ⟨a, h1, h2⟩ := xb h
    cases a with
    | inl s' => exact hs s _ h1 (ih s' r h2 hk)
    | inr r' =>
      cases h2
      exact hs s _ h1 hk
