/-! turns: what a turn asks (OP), its guards, how it serves the law -/
set_option maxRecDepth 100000
/-- room of one turn -/
theorem LB.rfl {h : XH} : LB h h := ⟨Nat.le_refl _, Nat.le_add_right _ _, Nat.le_refl _, Nat.le_add_right _ _⟩
/-- after a turn: the twin's word about throwing, the answers, the places -/
def OP (cd : String → Int32 → Prop) (x : Nat) (c : Nat → Value) (h : XH) (r : (Int32 ⊕ XX) × XH) (q : Int32 × TS) : Prop := (match r.1 with
  | .inl v => q.2.1 0 = 0 ∧ q.1 = v
  | .inr e => cd e.1 (q.2.1 0)) ∧ CI x c r.2 q.2 ∧ HW r.2 ∧ Fr Wc h r.2 ∧ LB h r.2
def cdN (C : String) (k : Int32) : Prop := C = "java/util/NoSuchElementException" ∧ k = 1
def cdI (C : String) (k : Int32) : Prop := C = "java/lang/IllegalArgumentException" ∧ k = 1
def cdB (C : String) (k : Int32) : Prop := (C = "java/util/NoSuchElementException" ∧ k = 1) ∨ (C = "java/lang/IllegalArgumentException" ∧ k = 2)
theorem LE.fr {b L : Nat} {xs : Nat → Int32} {x m o : Nat} {ad : Nat → Nat} {h h1 : XH} {S : TS} (hE : LE b L xs x m o ad h S) (hf : Fr Wc h h1) : LE b L xs x m o ad h1 S := by
  obtain ⟨g1, g2, g3, g4, g5⟩ := hE
  refine ⟨(hf _ _ _ _ g1).1, fun j hj => ?_, (hf _ _ _ _ g3).1, (hf _ _ _ _ g4).1, ?_⟩
  · rw [(hf _ _ _ _ g1).2 (by unfold Wc; omega)]; exact g2 j hj
  · obtain ⟨t1, t2, t3, t4⟩ := g5
    have e := (hf _ _ _ _ t1).2 (by unfold Wc; omega)
    refine ⟨(hf _ _ _ _ t1).1, fun i a1 a2 a3 => by rw [e]; exact t2 i a1 a2 a3, by rw [e]; exact t3, fun i a1 a2 => ?_⟩
    obtain ⟨u1, u2, u3⟩ := t4 i a1 a2
    refine ⟨by rw [e]; exact u1, (hf _ _ _ _ u2).1, fun j hj => ?_⟩
    rw [(hf _ _ _ _ u2).2 (by unfold Wc; omega)]
    exact u3 j hj
theorem xsame_fr {h h1 : XH} (hs : xsame tP h h1) : Fr (fun _ _ t => tP t) h h1 := fun a k n t e => ⟨hs.2.1 _ _ e, fun hn => hs.2.2 a k n t e hn⟩
/-- xsame knows no more than h: new addresses cannot have come -/
theorem CI.same {x : Nat} {c : Nat → Value} {h h2 : XH} {S : TS} (hC : CI x c h S) (hs : xsame tP h h2) (hh : HW h2) : CI x c h2 S := by
  obtain ⟨t, hi, T, s, r, la, ls, hX⟩ := hC
  exact ⟨t, hi, T, s, r, la, ls, hX.same (P := tP) (xsame_fr hs) (fun t ht => by unfold tP at ht; omega) hh TL.rfl⟩
section LOP
variable {b L : Nat} {xs : Nat → Int32} {x m o : Nat} {ad : Nat → Nat} {c : Nat → Value} {h : XH} {S : TS}
/-- the law's word of the places: HW is kept by every heap with the same headers -/
def LI (b L : Nat) (xs : Nat → Int32) (x m o : Nat) (ad : Nat → Nat) (c : Nat → Value) (h : XH) (S : TS) : Prop := LE b L xs x m o ad h S ∧ CI x c h S
end LOP
