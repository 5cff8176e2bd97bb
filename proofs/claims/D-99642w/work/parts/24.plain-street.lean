/-! the component's street: its methods on a heap that holds the row w are the row functions -/
set_option maxRecDepth 100000
section SVRD
variable {x : Nat} {T : Tn} {h : XH} {s : Nat} {w : Nat → Int32} (hS : SV x T h s w) (hw : WT T) {j : Nat} {v : Value}
theorem SV.a0 (hS : SV x T h s w) : cgR h s 2 0 = some (s + 1) := cgR_is hS.1 (hS.2.1 0 (by decide)).1
theorem SV.a1 (hS : SV x T h s w) : cgR h s 2 1 = some (s + 2) := cgR_is hS.1 (hS.2.1 1 (by decide)).1
theorem SV.a2 (hS : SV x T h s w) : cgR h s 2 2 = some (s + 3) := cgR_is hS.1 (hS.2.1 2 (by decide)).1
theorem SV.a3 (hS : SV x T h s w) : cgR h s 2 3 = some (s + 4) := cgR_is hS.1 (hS.2.1 3 (by decide)).1
theorem SV.a4 (hS : SV x T h s w) : cgR h s 2 4 = some (s + 5) := cgR_is hS.1 (hS.2.1 4 (by decide)).1
theorem SV.h0 (hS : SV x T h s w) : h.1 (s + 1) = some (100, 8, 2000 + 8 * s + 0) := (hS.2.1 0 (by decide)).2.1
theorem SV.h1 (hS : SV x T h s w) : h.1 (s + 2) = some (100, 8, 2000 + 8 * s + 1) := (hS.2.1 1 (by decide)).2.1
theorem SV.h2 (hS : SV x T h s w) : h.1 (s + 3) = some (100, 8, 2000 + 8 * s + 2) := (hS.2.1 2 (by decide)).2.1
theorem SV.h3 (hS : SV x T h s w) : h.1 (s + 4) = some (100, 8, 2000 + 8 * s + 3) := (hS.2.1 3 (by decide)).2.1
theorem SV.h4 (hS : SV x T h s w) : h.1 (s + 5) = some (100, 8, 2000 + 8 * s + 4) := (hS.2.1 4 (by decide)).2.1
theorem SV.day (hS : SV x T h s w) : cgI h s 2 5 = some (w 0) := cgI_is hS.1 hS.2.2.1.1
theorem SV.burst (hS : SV x T h s w) : cgI h s 2 6 = some (w 1) := cgI_is hS.1 hS.2.2.1.2.1
theorem SV.wet (hS : SV x T h s w) : cgI h s 2 7 = some (w 2) := cgI_is hS.1 hS.2.2.1.2.2.1
theorem SV.other (hS : SV x T h s w) : cgI h s 2 8 = some (w 43) := cgI_is hS.1 hS.2.2.1.2.2.2.1
theorem SV.own (hS : SV x T h s w) : cgR h s 2 9 = some x := cgR_is hS.1 hS.2.2.1.2.2.2.2
theorem SV.is2 (hS : SV x T h s w) : ckd h s 2 = some () := ckd_is hS.1
theorem SV.size (hS : SV x T h s w) (hw : WT T) (hj : j < T.1.1) : caI h (s + 1) 100 (iv j) = some (w (3 + j)) := caI_is hS.h0 (by decide) (by have := hw.1; omega) (hS.2.2.2.1 j hj).1
theorem SV.worn (hS : SV x T h s w) (hw : WT T) (hj : j < T.1.1) : caI h (s + 2) 100 (iv j) = some (w (11 + j)) := caI_is hS.h1 (by decide) (by have := hw.1; omega) (hS.2.2.2.1 j hj).2
theorem SV.heel (hS : SV x T h s w) (hw : WT T) (hj : j < T.1.2.1) : caI h (s + 3) 100 (iv j) = some (w (27 + j)) := caI_is hS.h2 (by decide) (by have := hw.2.1; omega) (hS.2.2.2.2 j hj).1
theorem SV.home (hS : SV x T h s w) (hw : WT T) (hj : j < T.1.2.1) : caI h (s + 4) 100 (iv j) = some (m_home T w j) := caI_is hS.h3 (by decide) (by have := hw.2.1; omega) (hS.2.2.2.2 j hj).2.1
theorem SV.sore (hS : SV x T h s w) (hw : WT T) (hj : j < T.1.2.1) : caI h (s + 5) 100 (iv j) = some (w (35 + j)) := caI_is hS.h4 (by decide) (by have := hw.2.1; omega) (hS.2.2.2.2 j hj).2.2
end SVRD
/-- the values' cells -/
def Wva : FW := fun _ k t => k = 100 ∧ t = 11
theorem Wva_st {s : Nat} : ∀ a k t, Wva a k t → Wst s a k t := fun _ _ _ z => Or.inr (Or.inr z)
theorem Wva_town {hi : Nat} : Wtown hi Wva := by
  refine ⟨⟨fun a k h1 h2 => ?_, fun l _ _ => ⟨?_, ?_⟩, fun d => ?_, fun l _ _ d => ⟨?_, ?_⟩⟩, fun a t _ => ?_, fun a => ?_⟩ <;> (unfold Wva; omega)
theorem SV.kva {x : Nat} {T : Tn} {h h' : XH} {s : Nat} {w : Nat → Int32} (hS : SV x T h s w) (hf : Fr Wva h h') : SV x T h' s w :=
  hS.keep hf (by unfold Wva; omega) (fun i hi => by unfold Wva; omega)
/-- the component's own object: its values, its town -/
def XC (x t : Nat) (T : Tn) (hi : Nat) (h : XH) : Prop := h.1 x = some (0, 14, 1) ∧ h.2.1 x 0 = .ref (x + 1) ∧ h.1 (x + 1) = some (100, 7, 11) ∧ h.2.1 x 1 = .ref t ∧ TV T hi h t
theorem XC.keep {x t : Nat} {T : Tn} {hi : Nat} {h h' : XH} {W : FW} (hX : XC x t T hi h) (hf : Fr W h h') (h0 : ∀ a, ¬ W a 0 1) (hW : Wtown hi W) : XC x t T hi h' := by
  obtain ⟨q1, q2, q3, q4, q5⟩ := hX
  obtain ⟨e1, e2⟩ := hf x _ _ _ q1
  have e2 := e2 (h0 _)
  exact ⟨e1, by rw [e2]; exact q2, (hf _ _ _ _ q3).1, by rw [e2]; exact q4, q5.keep hf hW⟩
theorem XC.kst {x t : Nat} {T : Tn} {hi s : Nat} {h h' : XH} (hX : XC x t T hi h) (hf : Fr (Wst s) h h') : XC x t T hi h' := hX.keep hf (fun a => by unfold Wst; omega) Wst_town
theorem XC.kva {x t : Nat} {T : Tn} {hi : Nat} {h h' : XH} (hX : XC x t T hi h) (hf : Fr Wva h h') : XC x t T hi h' := hX.keep hf (fun a => by unfold Wva; omega) Wva_town
section LISTS
variable {h : XH} {l n j : Nat} {e : Nat → Nat} {v : Nat → Int32}
theorem AL.size (hA : AL h l n e) : k_J2_size l h = some (iv n) := by
  unfold k_J2_size
  rw [cgI_is hA.1 hA.2.2.1, Option.bind_some]
theorem AL.lt (hA : AL h l n e) : n < 2 ^ 20 := by
  obtain ⟨-, -, -, d, cap, t, -, -, q6, -, q8, -⟩ := hA
  omega
theorem AL.get (hA : AL h l n e) (hj : j < n) : k_J2_get l (iv j) h = some (e j) := by
  have hn := hA.lt
  obtain ⟨q1, -, q3, d, cap, t, q4, q5, q6, q7, q8, q9⟩ := hA
  unfold k_J2_get k_J19_checkIndex k_J11_checkIndex k_J2_elementData
  rw [cgI_is q1 q3, Option.bind_some, if_neg (iv_nneg (by omega)), if_pos ((iv_lt (by omega) (by omega)).mpr hj), Option.bind_some, Option.bind_some, ckd_is q1, Option.bind_some, cgR_is q1 q4, Option.bind_some, caR_is q5 (by omega) (by omega) (q9 j hj), Option.bind_some, Option.bind_some]
theorem AL.empty (hA : AL h l n e) : k_J2_isEmpty l h = some (if n = 0 then 1 else 0) := by
  have hn := hA.lt
  unfold k_J2_isEmpty
  rw [cgI_is hA.1 hA.2.2.1, Option.bind_some]
  by_cases c : n = 0
  · rw [if_pos c, c, if_pos (show iv 0 = 0 from rfl)]
  · rw [if_neg c, if_neg (show ¬ iv n = 0 from fun z => c ((iv_inj (b := 0) (by omega) (by omega)).mp z))]
theorem IL.get (hA : IL h l n v) (hj : j < n) : ∃ b, k_J2_get l (iv j) h = some b ∧ ckd h b 11 = some () ∧ k_J14_intValue b h = some (v j) := by
  obtain ⟨e, q1, q2⟩ := hA
  obtain ⟨n', t', z1, -, z2⟩ := q2 j hj
  refine ⟨e j, q1.get hj, ckd_is z1, ?_⟩
  unfold k_J14_intValue
  rw [cgI_is z1 z2, Option.bind_some]
theorem IL.is10 (hA : IL h l n v) : ckd h l 10 = some () := by
  obtain ⟨e, q1, q2⟩ := hA
  exact ckd_is q1.1
theorem IL.size (hA : IL h l n v) : k_J2_size l h = some (iv n) := by
  obtain ⟨e, q1, q2⟩ := hA
  exact q1.size
theorem IL.empty (hA : IL h l n v) : k_J2_isEmpty l h = some (if n = 0 then 1 else 0) := by
  obtain ⟨e, q1, q2⟩ := hA
  exact q1.empty
end LISTS
section STREET
variable {x t hi D n g s p hh : Nat} {T : Tn} {c : Nat → Value} {h : XH} {w : Nat → Int32}
theorem TV.is1 (hT : TV T hi h t) : ckd h t 1 = some () := ckd_is hT.1
theorem TV.l0 (hT : TV T hi h t) : cgR h t 1 0 = some (t + 1) := cgR_is hT.1 hT.2.1.1
theorem TV.l1 (hT : TV T hi h t) : cgR h t 1 1 = some (t + 2) := cgR_is hT.1 hT.2.1.2.1
theorem TV.l2 (hT : TV T hi h t) : cgR h t 1 2 = some (t + 3) := cgR_is hT.1 hT.2.1.2.2.1
theorem TV.l3 (hT : TV T hi h t) : cgR h t 1 3 = some (t + 4) := cgR_is hT.1 hT.2.1.2.2.2
theorem TV.gives (hT : TV T hi h t) : IL h (t + 1) T.1.1 (T.2.1 0) := hT.2.2.2.1.1
theorem TV.places (hT : TV T hi h t) : IL h (t + 2) T.1.1 (T.2.1 1) := hT.2.2.2.1.2.1
theorem TV.grows (hT : TV T hi h t) : IL h (t + 3) T.1.2.1 (T.2.1 2) := hT.2.2.2.1.2.2.1
theorem TV.damps (hT : TV T hi h t) : IL h (t + 4) T.1.2.2 (T.2.1 3) := hT.2.2.2.1.2.2.2
theorem TV.houses (hT : TV T hi h t) : k_X2_houses t h = some (iv T.1.1) := by
  unfold k_X2_houses
  rw [hT.l0, Option.bind_some, hT.gives.is10, Option.bind_some, hT.gives.size, Option.bind_some]
theorem TV.people (hT : TV T hi h t) : k_X2_people t h = some (iv T.1.2.1) := by
  unfold k_X2_people
  rw [hT.l2, Option.bind_some, hT.grows.is10, Option.bind_some, hT.grows.size, Option.bind_some]
theorem XC.town (hX : XC x t T hi h) : cgR h x 0 1 = some t := cgR_is hX.1 hX.2.2.2.1
theorem XC.vals (hX : XC x t T hi h) : cgR h x 0 0 = some (x + 1) := cgR_is hX.1 hX.2.1
theorem XC.tv (hX : XC x t T hi h) : TV T hi h t := hX.2.2.2.2
theorem XC.is0 (hX : XC x t T hi h) : ckd h x 0 = some () := ckd_is hX.1
theorem in_is (hX : XC x t T hi h) (hS : SV x T h s w) (hW : WH T w) (hw : WT T) (hh8 : hh < T.1.1) (hn : 10 < n) : k_X3_in n s (iv hh) h = some (w (19 + hh)) := by
  have h8 := hw.1
  have p8 := hw.2.1
  have f1 := hS.own
  have f2 := hX.town
  have f3 := hX.tv.is1
  have f4 := hX.tv.people
  have f5 := hS.a3
  refine ok_eq ?_
  unfold k_X3_in
  refine ok_c (Q := fun o : Unit ⊕ Int32 => match o with
    | .inl _ => w (19 + hh) = (-1)
    | .inr q => w (19 + hh) = q) ?_ ?_
  · refine ok_loop T.1.2.1 (fun k st => st = iv k ∧ ∀ j, j < k → w (19 + hh) ≠ iv j) ⟨rfl, fun j hj => by omega⟩ ?_ ?_ (by omega)
    · rintro k st hk ⟨rfl, i2⟩
      have g1 := iv_stop hk (by omega)
      have g2 := hS.home hw hk
      unfold k_X3_in_L2
      repeat (with_reducible first | refine ok_sb ?_ | refine ok_b (by assumption) ?_ | refine ok_pos (by assumption) ?_ | refine ok_neg (by assumption) ?_)
      by_cases q : w (19 + hh) = iv k
      · have q2 := home_of hW (by omega) hh8 q
        repeat (with_reducible first | refine ok_sb ?_ | refine ok_b (by assumption) ?_ | refine ok_pos (by assumption) ?_ | refine ok_neg (by assumption) ?_)
        exact ok_s q
      · have q2 : ¬ m_home T w k = iv hh := by
          intro z
          rcases home_cases (T := T) (w := w) k with ⟨j, j1, j2, j3⟩ | ⟨j1, j2⟩
          · rw [z] at j3
            have := (iv_inj (by omega) (by omega)).mp j3
            subst this
            exact q j2
          · rw [z] at j2
            exact iv_ne_neg (by omega) j2
        repeat (with_reducible first | refine ok_sb ?_ | refine ok_b (by assumption) ?_ | refine ok_pos (by assumption) ?_ | refine ok_neg (by assumption) ?_)
        refine ok_s ⟨iv_succ k, fun j hj => ?_⟩
        by_cases z : j = k
        · rw [z]; exact q
        · exact i2 j (by omega)
    · rintro st ⟨rfl, i2⟩
      have g1 := iv_end (N := T.1.2.1) (by omega)
      unfold k_X3_in_L2
      repeat (with_reducible first | refine ok_sb ?_ | refine ok_b (by assumption) ?_ | refine ok_pos (by assumption) ?_ | refine ok_neg (by assumption) ?_)
      refine ok_s ?_
      show w (19 + hh) = (-1)
      rcases hW.1 hh hh8 with z | ⟨p, hp, z⟩
      · exact z
      · exact absurd z (i2 p hp)
  · intro o q
    cases o with
    | inl _ => exact ok_s q.symm
    | inr r => exact ok_s q.symm
theorem tight_is (hS : SV x T h s w) (hW : WF D T w) (hw : WT T) (hp : p < T.1.2.1) (hh8 : hh < T.1.1) : k_X3_tight s (iv p) (iv hh) h = some (m_tight w p hh) := by
  obtain ⟨a, b, e1, a1, e2, b1, b2, e3, e4⟩ := tight_iv hW hp hh8
  unfold k_X3_tight
  rw [hS.a2, Option.bind_some, hS.heel hw hp, Option.bind_some, hS.a0, Option.bind_some, hS.size hw hh8, Option.bind_some, e4]
theorem damp2_is {d : Nat} (hT : TV T hi h t) (hw : WT T) (hd : d < 2 ^ 31) : k_X2_damp t (iv d) h = some (m_told T.1.2.2 (T.2.1 3) d) := by
  have d8 := hw.2.2.1
  have f1 := hT.l3
  have f2 := hT.damps.is10
  have f3 := hT.damps.empty
  have f4 := hT.damps.size
  refine ok_eq ?_
  unfold k_X2_damp m_told
  repeat (with_reducible first | refine ok_sb ?_ | refine ok_b (by assumption) ?_ | refine ok_pos (by assumption) ?_ | refine ok_neg (by assumption) ?_)
  by_cases q : T.1.2.2 = 0
  · rw [if_pos q, if_pos q]
    exact ok_neg (by decide) (ok_s rfl)
  · rw [if_neg q, if_neg q]
    have q1 : ¬ iv T.1.2.2 = 0 := fun z => q ((iv_inj (b := 0) (by omega) (by omega)).mp z)
    obtain ⟨b, b1, b2, b3⟩ := hT.damps.get (j := d % T.1.2.2) (Nat.mod_lt d (by omega))
    refine ok_pos (show (0 : Int32) = 0 from rfl) ?_
    repeat (with_reducible first | refine ok_sb ?_ | refine ok_b (by assumption) ?_ | refine ok_pos (by assumption) ?_ | refine ok_neg (by assumption) ?_)
    rw [iv_mod hd (by omega) q]
    repeat (with_reducible first | refine ok_sb ?_ | refine ok_b (by assumption) ?_ | refine ok_pos (by assumption) ?_ | refine ok_neg (by assumption) ?_)
    exact ok_s rfl
theorem damp_is (hX : XC x t T hi h) (hS : SV x T h s w) (hW : WF D T w) (hD : D < 5000) (hw : WT T) : k_X3_damp s h = some (m_damp T w) := by
  obtain ⟨d, d1, d2⟩ := hW.1
  have f1 := hS.other
  have f2 := hS.wet
  have f3 := hS.own
  have f4 := hX.town
  have f5 := hS.day
  have f6 := hX.tv.is1
  have f7 : k_X2_damp t (w 0) h = some (m_told T.1.2.2 (T.2.1 3) (w 0).toNatClampNeg) := by rw [d1, iv_nat (by omega)]; exact damp2_is hX.tv hw (by omega)
  refine ok_eq ?_
  unfold k_X3_damp m_damp
  repeat (with_reducible first | refine ok_sb ?_ | refine ok_b (by assumption) ?_ | refine ok_pos (by assumption) ?_ | refine ok_neg (by assumption) ?_)
  refine ok_if (fun q => ?_) (fun q => ?_)
  · rw [if_pos q]
    repeat (with_reducible first | refine ok_sb ?_ | refine ok_b (by assumption) ?_ | refine ok_pos (by assumption) ?_ | refine ok_neg (by assumption) ?_)
    refine ok_if (fun q1 => ?_) (fun q1 => ?_)
    · rw [if_neg (by rw [q1]; decide)]
      repeat (with_reducible first | refine ok_sb ?_ | refine ok_b (by assumption) ?_ | refine ok_pos (by assumption) ?_ | refine ok_neg (by assumption) ?_)
      exact ok_s rfl
    · rw [if_pos (by rcases hW.2.2.1 with z | z; exact absurd z q1; exact z)]
      exact ok_s rfl
  · rw [if_neg q]
    repeat (with_reducible first | refine ok_sb ?_ | refine ok_b (by assumption) ?_ | refine ok_pos (by assumption) ?_ | refine ok_neg (by assumption) ?_)
    exact ok_s rfl
end STREET
