/-! more rows of XW: statics, strings, casts, throwables, arraycopy, grids -/
section XROWS4
variable {l : Launch} {E : XEnv} {M M' : XMeth} {d k n : Nat} {pc : Nat} {ls : List (Nat × Value)} {st : List Value} {h : XH} {Q Q' : XO → XH → Prop}
theorem xw_gets {C nm ds ref : String} {v : Value} {index : Nat} (hZ : (C, nm, ds, v) ∈ xstl E) (hlk : Cond.fieldLink M.1.cls index ref nm ds ∈ lw_all) (hsm : ref = C ∨ Cond.sameField ref C nm ds ∈ lw_all) (hd : decode M.2.1 pc = .ok (.getstatic index, 3)) (kk : XW l E M d k n (pc + 3) ls (v :: st) h Q) : XW l E M d k n pc ls st h Q := by
  intro p e R s m args below meth c H locs cells slots kc ks Z la hC h1 h2 h3 h4 hR hS hl hG
  have h0 := (xc_ok hC).2.2.2.1 _ hZ
  have hF := xc_F hC
  exact va_gets (xc_exec hC) (xc_code hC) (va_Z.kept (va_Z.moved (xc_warm hC).alike h0) (fun a ha hA => hF.2 a ha hA)) hS (xc_own hC) (xc_w hC _ hlk) (xw_same hC hsm) hd (kk p e R s m args below meth c H locs cells slots kc ks Z la hC h1 h2 h3 h4 hR hS hl hG)
theorem xw_ldcS {i index a : Nat} {tx : String} (hi : xstr[i]? = some (M.1.cls, index, tx)) (ha : E.2.2.2 i = .ref a) (hd : decode M.2.1 pc = .ok (.ldc index, 2)) (kk : XW l E M d k n (pc + 2) ls (.ref a :: st) h Q) : XW l E M d k n pc ls st h Q := by
  intro p e R s m args below meth c H locs cells slots kc ks Z la hC h1 h2 h3 h4 hR hS hl hG
  obtain ⟨a', e1, e2⟩ := (xc_ok hC).2.2.2.2.1 i _ hi
  cases ha.symm.trans e1
  exact va_ldcS (xc_exec hC) (xc_code hC) (xc_own hC) (vk_R.warm (xc_warm hC) e2) hd (kk p e R s m args below meth c H locs cells slots kc ks Z la hC h1 h2 h3 h4 hR hS hl hG)
/-- a field of a String constant: 0 its bytes, 1 its coder -/
theorem xw_getS {i index a n' t : Nat} {v : Value} (hi : (i = 0 ∧ Cond.fieldLink M.1.cls index "java/lang/String" "value" "[B" ∈ lw_all) ∨ (i = 1 ∧ Cond.fieldLink M.1.cls index "java/lang/String" "coder" "B" ∈ lw_all)) (hd : decode M.2.1 pc = .ok (.getfield index, 3)) (hk : h.1 a = some (90, n', t)) (hv : h.2.1 a i = v) (kk : XW l E M d k n (pc + 3) ls (v :: st) h Q) : XW l E M d k n pc ls (.ref a :: st) h Q := by
  intro p e R s m args below meth c H locs cells slots kc ks Z la hC h1 h2 h3 h4 hR hS hl hG
  obtain ⟨-, g2, g3⟩ := (hR.2 a 90 n' t hk).1.2.1 rfl
  have hkk := kk p e R s m args below meth c H locs cells slots kc ks Z la hC h1 h2 h3 h4 hR hS hl hG
  subst hv
  rcases hi with ⟨rfl, hlk⟩ | ⟨rfl, hlk⟩
  · obtain ⟨cf, kf, fi, f, cell, q1, q2, q3, q4, q5, -⟩ := va_OF.moved (xc_warm hC).alike g2
    exact W.getf (xc_exec hC) (xc_code hC) (xc_own hC) (xc_w hC _ hlk) q1 q2 q3 q4 q5 rfl rfl hd hkk
  · obtain ⟨cf, kf, fi, f, cell, q1, q2, q3, q4, q5, -⟩ := va_OF.moved (xc_warm hC).alike g3
    exact W.getf (xc_exec hC) (xc_code hC) (xc_own hC) (xc_w hC _ hlk) q1 q2 q3 q4 q5 rfl rfl hd hkk
/-- what a kind's class can be cast to -/
def XCast (own : String) (index ci : Nat) : Prop := ∃ C nm, XRcv ci C ∧ Cond.classLink own index nm ∈ lw_all ∧ (C = nm ∨ Cond.castable C nm ∈ lw_tbl)
theorem xw_cast {index ci n' t a : Nat} (hX : XCast M.1.cls index ci) (hd : decode M.2.1 pc = .ok (.checkcast index, 3)) (hk : h.1 a = some (ci, n', t)) (kk : XW l E M d k n (pc + 3) ls (.ref a :: st) h Q) : XW l E M d k n pc ls (.ref a :: st) h Q := by
  intro p e R s m args below meth c H locs cells slots kc ks Z la hC h1 h2 h3 h4 hR hS hl hG
  obtain ⟨C, nm, hr, hlk, hca⟩ := hX
  have hrv := xp_recv hC hR hk hr
  have hkk := kk p e R s m args below meth c H locs cells slots kc ks Z la hC h1 h2 h3 h4 hR hS hl hG
  rcases hca with rfl | hca
  · obtain ⟨cell, q1, q2, q3⟩ := hrv
    intro T hT X
    obtain ⟨vm', X', stp⟩ := X.checkcastYes (xc_exec hC) (xc_own hC) (xc_w hC _ hlk) (by rw [hT]; exact q1) q2 q3 (va_asg _ _) (g := F0 m pc la (.ref a :: st)) rfl rfl (by rw [xc_code hC]; exact hd)
    obtain ⟨t, a1, b1⟩ := hkk (T.setVm vm') hT X'
    exact ⟨t, stp t a1, b1⟩
  · exact va_castY (xc_exec hC) (xc_code hC) (xc_own hC) (xc_w hC _ hlk) (va_Nw.warmC (xc_warm hC) (xw_tbl hC hca rfl)) hrv hd hkk
/-- the class of an array of ours -/
theorem xa_cls {p : Program} {R : Room} {s : State} {m : MethodId} {args : Array Value} {meth : Method} {c : Code} {H : Heap} (hC : XCtx l E M d p R s m args meth c) (hR : XR E h H) {a t n' tg : Nat} (ht8 : t < 7) (hk : h.1 a = some (100 + t, n', tg)) (ht : tg ≠ 0 ∨ t = 4) : ∃ cell : Cell, H[a]? = some cell ∧ cell.vm.isStatics = false ∧ s.vm.findClass ("[" ++ (xty t).toString) = some cell.cls := by
  obtain ⟨cell, q1, q2, -⟩ := xa_cell (by omega) hR hk
  obtain ⟨c9, u1, u2⟩ := (hR.2 a _ _ _ hk).2.2 (Nat.le_add_right 100 t) (by omega)
  cases q1.symm.trans u1
  rw [Nat.add_sub_cancel_left] at u2
  obtain ⟨kA, comp, -, -, -, g4, -⟩ := (xc_ok hC).2.2.1 t (by omega)
  refine ⟨cell, q1, ?_, ?_⟩
  · cases e : cell.vm with
    | statics q => exact absurd e (q2.1 q)
    | _ => rfl
  · rw [(xc_warm hC).alike.findClass, u2]
    exact g4 ht8
theorem xw_castO4 {index n' t a : Nat} (hlk : Cond.classLink M.1.cls index "[Ljava/lang/Object;" ∈ lw_all) (hd : decode M.2.1 pc = .ok (.checkcast index, 3)) (hk : h.1 a = some (104, n', t)) (kk : XW l E M d k n (pc + 3) ls (.ref a :: st) h Q) : XW l E M d k n pc ls (.ref a :: st) h Q := by
  intro p e R s m args below meth c H locs cells slots kc ks Z la hC h1 h2 h3 h4 hR hS hl hG
  obtain ⟨cell, q1, q2, q3⟩ := xa_cls (t := 4) hC hR (by decide) hk (Or.inr rfl)
  intro T hT X
  obtain ⟨vm', X', stp⟩ := X.checkcastYes (xc_exec hC) (xc_own hC) (xc_w hC _ hlk) (by rw [hT]; exact q1) q2 q3 (va_asg _ _) (g := F0 m pc la (.ref a :: st)) rfl rfl (by rw [xc_code hC]; exact hd)
  obtain ⟨t, a1, b1⟩ := kk p e R s m args below meth c H locs cells slots kc ks Z la hC h1 h2 h3 h4 hR hS hl hG (T.setVm vm') hT X'
  exact ⟨t, stp t a1, b1⟩
theorem xw_castI {index n' t a : Nat} (hlk : Cond.classLink M.1.cls index "[I" ∈ lw_all) (hd : decode M.2.1 pc = .ok (.checkcast index, 3)) (hk : h.1 a = some (100, n', t)) (ht : t ≠ 0) (kk : XW l E M d k n (pc + 3) ls (.ref a :: st) h Q) : XW l E M d k n pc ls (.ref a :: st) h Q := by
  intro p e R s m args below meth c H locs cells slots kc ks Z la hC h1 h2 h3 h4 hR hS hl hG
  obtain ⟨cell, q1, q2, q3⟩ := xa_cls (t := 0) hC hR (by decide) hk (Or.inl ht)
  intro T hT X
  obtain ⟨vm', X', stp⟩ := X.checkcastYes (xc_exec hC) (xc_own hC) (xc_w hC _ hlk) (by rw [hT]; exact q1) q2 q3 (va_asg _ _) (g := F0 m pc la (.ref a :: st)) rfl rfl (by rw [xc_code hC]; exact hd)
  obtain ⟨t, a1, b1⟩ := kk p e R s m args below meth c H locs cells slots kc ks Z la hC h1 h2 h3 h4 hR hS hl hG (T.setVm vm') hT X'
  exact ⟨t, stp t a1, b1⟩
/-- kinds whose things may lie in an Object[] -/
def XObj (ci : Nat) : Prop := (∃ C, XRcv ci C ∧ Cond.castable C "java/lang/Object" ∈ lw_tbl) ∨ (ci = 100 ∧ Cond.castable "[I" "java/lang/Object" ∈ lw_tbl)
theorem xo_any {p : Program} {R : Room} {s : State} {m : MethodId} {args : Array Value} {meth : Method} {c : Code} {H : Heap} (hC : XCtx l E M d p R s m args meth c) (hR : XR E h H) {a ci n' tg : Nat} (hk : h.1 a = some (ci, n', tg)) (ht : tg ≠ 0 ∨ ci < 100) (ho : XObj ci) : ∃ (cell : Cell) (comp : ClassId), H[a]? = some cell ∧ cell.vm.isStatics = false ∧ (∃ kv, s.vm.classes[cell.cls]? = some kv) ∧ s.vm.findClass "java/lang/Object" = some comp ∧ s.vm.assignable cell.cls comp = true := by
  have fin : ∀ (C : String) (cell : Cell), s.vm.findClass C = some cell.cls → Cond.castable C "java/lang/Object" ∈ lw_tbl → (∃ kv, s.vm.classes[cell.cls]? = some kv) ∧ ∃ comp, s.vm.findClass "java/lang/Object" = some comp ∧ s.vm.assignable cell.cls comp = true := by
    intro C cell hf hw
    have hcast : (Cond.castable C "java/lang/Object").before args s = true := (va_Nw.warmC (xc_warm hC) (xw_tbl hC hw rfl)).use rfl
    obtain ⟨c3, c4, hc3, hc4, hasg⟩ := Cond.castable_spec hcast
    cases Option.some.inj (hc3.symm.trans hf)
    obtain ⟨k9, h9, -⟩ := Vm.findClass_spec hf
    exact ⟨⟨k9, h9⟩, c4, hc4, hasg⟩
  rcases ho with ⟨C, hr, hw⟩ | ⟨rfl, hw⟩
  · obtain ⟨cell, q1, q2, q3⟩ := xp_recv hC hR hk hr
    obtain ⟨w1, comp, w2, w3⟩ := fin C cell q3 hw
    exact ⟨cell, comp, q1, q2, w1, w2, w3⟩
  · obtain ⟨cell, q1, q2, q3⟩ := xa_cls (t := 0) hC hR (by decide) hk (by omega)
    obtain ⟨w1, comp, w2, w3⟩ := fin "[I" cell q3 hw
    exact ⟨cell, comp, q1, q2, w1, w2, w3⟩
theorem xo_stat {cell : Cell} (h : cell.vm.isStatics = false) : ∀ q, cell.vm ≠ .statics q := fun q z => by rw [z] at h; cases h
/-- a thing into an Object[] -/
theorem xw_aastO {a b n' tg ci n2 tg2 : Nat} {x : Int32} (hd : decode M.2.1 pc = .ok (.aastore, 1)) (hk : h.1 a = some (104, n', tg)) (ht : tg ≠ 0) (hx : vp_in x n') (hb : h.1 b = some (ci, n2, tg2)) (hbt : tg2 ≠ 0 ∨ ci < 100) (ho : XObj ci) (kk : XW l E M d k n (pc + 1) ls st (xup h a x.toNatClampNeg (.ref b)) Q) : XW l E M d k n pc ls (.ref b :: .int x :: .ref a :: st) h Q := by
  refine xw_aast (t := 4) (by decide) (by decide) hd hk ht hx (fun p R s m args meth c H hC hR _ _ => ?_) kk
  obtain ⟨cell, comp, q1, q2, q3, q4, q5⟩ := xo_any hC hR hb hbt ho
  refine ⟨cell, q1, xo_stat q2, q3, fun comp' hc' => ?_⟩
  obtain ⟨kA, g1, g2⟩ := hc'
  obtain ⟨kA', comp9, f1, f2, -, -, f5, -⟩ := (xc_ok hC).2.2.1 4 (by decide)
  cases f1.symm.trans g1
  cases f2.symm.trans g2
  have f6 := f5 "java/lang/Object" rfl
  rw [← (xc_warm hC).alike.findClass] at f6
  cases f6.symm.trans q4
  exact q5
/-- a String constant into a String[] -/
theorem xw_aastS {a b n' tg n2 tg2 : Nat} {x : Int32} (hd : decode M.2.1 pc = .ok (.aastore, 1)) (hk : h.1 a = some (105, n', tg)) (ht : tg ≠ 0) (hx : vp_in x n') (hb : h.1 b = some (90, n2, tg2)) (kk : XW l E M d k n (pc + 1) ls st (xup h a x.toNatClampNeg (.ref b)) Q) : XW l E M d k n pc ls (.ref b :: .int x :: .ref a :: st) h Q := by
  refine xw_aast (t := 5) (by decide) (by decide) hd hk ht hx (fun p R s m args meth c H hC hR _ _ => ?_) kk
  obtain ⟨cell, q1, q2, q3⟩ := xp_recv (C := "java/lang/String") hC hR hb (Or.inr ⟨rfl, rfl⟩)
  obtain ⟨k9, h9, -⟩ := Vm.findClass_spec q3
  refine ⟨cell, q1, xo_stat q2, ⟨k9, h9⟩, fun comp' hc' => ?_⟩
  obtain ⟨kA, g1, g2⟩ := hc'
  obtain ⟨kA', comp9, f1, f2, -, -, f5, -⟩ := (xc_ok hC).2.2.1 5 (by decide)
  cases f1.symm.trans g1
  cases f2.symm.trans g2
  have f6 := f5 "java/lang/String" rfl
  rw [← (xc_warm hC).alike.findClass] at f6
  cases f6.symm.trans q3
  exact va_asg _ _
/-- words that last though they aren't among the good ones -/
def xwarm : Cond → Bool
  | .castable .. => true
  | .declares .. => true
  | _ => false
theorem xw_warm {p : Program} {R : Room} {s : State} {m : MethodId} {args : Array Value} {meth : Method} {c : Code} (hC : XCtx l E M d p R s m args meth c) {w : Cond} (h9 : w ∈ lw_all ∨ (w ∈ lw_tbl ∧ xwarm w = true)) : w.before args s = true := by
  rcases h9 with h9 | ⟨h9, hx⟩
  · exact xc_w hC _ h9
  · cases w <;> first | (exact (va_Nw.warmC (xc_warm hC) (xw_tbl hC h9 rfl)).use rfl) | (exact (va_Nw.warmD (xc_warm hC) (xw_tbl hC h9 rfl)).use rfl) | (cases hx)
theorem xat_of {L : List Cond} (ps : List Nat) (hp : L = ps.filterMap (fun i => lw_tbl[i]?)) (hg : L.all (fun w => goodWord w || xwarm w) = true) : ∀ w ∈ L, w ∈ lw_all ∨ (w ∈ lw_tbl ∧ xwarm w = true) := by
  intro w hw
  have h1 := List.all_eq_true.mp hg w hw
  rw [hp] at hw
  obtain ⟨i, -, hi⟩ := List.mem_filterMap.mp hw
  have hm : w ∈ lw_tbl := List.mem_of_getElem? hi
  rcases Bool.or_eq_true _ _ |>.mp h1 with g | g
  · exact Or.inl (List.mem_filter.mpr ⟨hm, g⟩)
  · exact Or.inr ⟨hm, g⟩
/-- new X() of a throwable of the JDK's, no traces kept -/
theorem xw_make0 {cls : String} {names : List String} {ik ic ci : Nat} {T0 : u_T} (tt k' n' : Nat) (hci : ci < 90) (hc : xcl[ci]? = some (cls, T0, 0)) (hcls : Bundle.fit cls = true) (hnames : ∀ n ∈ names, Bundle.fit n = true) (hk0 : Cond.classLink M.1.cls ik cls ∈ lw_all) (hini0 : Cond.initialized cls ∈ lw_all) (hat0 : ∀ w ∈ vx_at0 M.1.cls ic cls names, w ∈ lw_all ∨ (w ∈ lw_tbl ∧ xwarm w = true)) (hgood : ∀ w ∈ Cond.classLink M.1.cls ik cls :: Cond.initialized cls :: vx_at0 M.1.cls ic cls names, vx_ot w = true)
    (d0 : decode M.2.1 pc = .ok (.new ik, 3)) (d3 : decode M.2.1 (pc + 3) = .ok (.dup, 1)) (d4 : decode M.2.1 (pc + 4) = .ok (.invokespecial ic, 3)) (hdd : names.length + 4 ≤ d) (hst : (st.map fun v => v.category).sum ≤ 8) (hnl : names.length ≤ 3) (hkk : k' + 1 ≤ k) (hnn : n' + 6 ≤ n)
    (kk : XW l E M d k' n' (pc + 7) ls (.ref h.2.2.1 :: st) (xnew h ci 0 tt 6 (fun _ => .null)) Q) : XW l E M d k n pc ls st h Q := by
  intro p e R s m args below meth c H locs cells slots kc ks Z la hC h1 h2 h3 h4 hR hS hl hG
  have hl9 := xc_l hC
  have hexec := xc_exec hC
  have hb := xc_code hC
  have hd1 := xc_d hC
  have hd2 := xc_dl hC
  have hF := xc_F hC
  have hA0 : va_S (xA E) s.heap s.heap [] := va_S.rf
  have hUs : vx_Zq Bundle.tN "UNASSIGNED_STACK" Bundle.steD (xA E) s s.heap := vx_Zq.kept (vx_Zq.moved (xc_warm hC).alike (xc_ok hC).2.2.2.2.2.1.1) (fun a ha hA => hF.2 a ha hA)
  have hNs : vx_Zq Bundle.tN "SUPPRESSED_SENTINEL" Bundle.listD (xA E) s s.heap := vx_Zq.kept (vx_Zq.moved (xc_warm hC).alike (xc_ok hC).2.2.2.2.2.1.2) (fun a ha hA => hF.2 a ha hA)
  have hat : ∀ w ∈ vx_at0 M.1.cls ic cls names, w.before args s = true := fun w hw => xw_warm hC (hat0 w hw)
  have hRlocals : (st.map fun v => v.category).sum + (13 * (names.length + 1) + 42) ≤ R.locals := by omega
  have hRframes : names.length + 3 < R.frames := by omega
  have hkkk := fun H1 locs1 cells1 slots1 => kk p e R s m args below meth c H1 locs1 cells1 slots1 kc ks Z la hC h1 h2
  intro T hT X
  subst hT
  have htr : e.platform.stackTraces = false := (show e.platform.stackTraces = l.stackTraces by rw [X.admits.platform]).trans hl9
  have Y := vx_rebase X (R' := { frames := R.frames, locals := R.locals, cells := 1, slots := 6 }) (Nat.le_refl _) (Nat.le_refl _) (show cells + 1 ≤ R.cells by omega) (show slots + 6 ≤ R.slots by omega)
  obtain ⟨s', hA'⟩ : ∃ z, z = (T.setVm s.vm).setFrames (.invoking m args :: below) := ⟨_, rfl⟩
  rw [← hA'] at Y
  have hvm : s'.vm = s.vm := by rw [hA']; rfl
  have hhp : s'.heap = T.heap := by rw [hA']; rfl
  have hW0 : s.WarmedH s'.vm := by rw [hvm]; exact State.WarmedH.refl s
  have hat' : ∀ w ∈ vx_at0 M.1.cls ic cls names, w.before args s' = true := fun w hw => vx_ot_at hW0 hvm.symm (hgood w (List.mem_cons_of_mem _ (List.mem_cons_of_mem _ hw))) (hat w hw)
  have hk' : (Cond.classLink M.1.cls ik cls).before args s' = true := vx_ot_at hW0 hvm.symm (hgood _ List.mem_cons_self) (xc_w hC _ hk0)
  have hini' : (Cond.initialized cls).before args s' = true := vx_ot_at hW0 hvm.symm (hgood _ (List.mem_cons_of_mem _ List.mem_cons_self)) (xc_w hC _ hini0)
  have hU' : vx_Zq Bundle.tN "UNASSIGNED_STACK" Bundle.steD (xA E) s' s'.heap := by rw [hhp]; exact vx_Zq.moved hW0.alike (hUs.kept hS.2.1)
  have hN' : vx_Zq Bundle.tN "SUPPRESSED_SENTINEL" Bundle.listD (xA E) s' s'.heap := by rw [hhp]; exact vx_Zq.moved hW0.alike (hNs.kept hS.2.1)
  have h9 : ∀ w ∈ Bundle.ownAtoms0 M.1.cls ic cls names, w.before args s' = true := vx_own hat' (vx_isRefq hU'.1) (vx_isRefq hN'.1) hU'.2.word hN'.2.word
  have hown' : s'.vm.findClass M.1.cls = some m.cls := by rw [hvm]; exact xc_own hC
  have hins : (Cond.instantiable cls 6).before args s' = true := h9 _ (by simp [Bundle.ownAtoms0])
  obtain ⟨vm₁, cX, kX, hfX, hkX, -, -, X₁, st1⟩ := Y.newCold hexec (own := M.1.cls) (C := cls) (index := ik) (n := 6) hown' hk' hins hini'
    (g := F0 m pc la st) rfl (by rw [hb]; exact d0) (Nat.le_refl _) (Nat.le_refl _)
  generalize hT1 : (T.setVm vm₁).pushCell { cls := cX, slots := kX.instanceTypes.map defaultValue, vm := .none } = T1 at X₁ st1
  have hcat : (Value.ref T.heap.size).category = 1 := rfl
  have hcellA : T1.heap[T.heap.size]? = some (freshCell cX kX) := by rw [← hT1]; exact State.heap_pushCell_size _ _
  have hszT1 : T1.heap.size = T.heap.size + 1 := by rw [← hT1]; exact size_pushCell _ _
  have d3' : decode c.code (pc + 3) = .ok (.dup, 1) := by rw [hb]; exact d3
  obtain ⟨V, ce, L, Z9, hL, hlt, hcl9, hvm9, st9⟩ := vx_ctorMade0 X₁ hexec htr (own := M.1.cls) (cls := cls) (names := names) (ic := ic) hown' hcls hnames h9 (fun x hx => nomatch hx) hfX hkX hcellA (by rw [hhp]; exact Nat.le_refl _)
    (g := { method := m, pc := pc + 4, locals := la, stack := .ref T.heap.size :: .ref T.heap.size :: st, locked := none }) rfl (hl.1.trans (xc_ml hC).symm) (rest := st) rfl
    (by rw [hb]; exact d4) hRframes (by simp only [List.map_cons, List.sum_cons, hcat]; omega)
  have Z0 := Stand.forget (locs := []) Z9 (fun y hy => by rw [hL y hy, hhp]; exact Nat.le_refl _)
  obtain ⟨f1, f2⟩ := vx_frame Z0.same
  have f3 : (V.setCell T.heap.size ce).heap.size ≤ s'.heap.size + 1 := Z0.same.2.2.1
  rw [hhp] at f1 f2 f3
  have hcid : ce.cls = E.2.1.1 ci := by
    rw [hcl9]
    have h1 := ((xc_K hC).1 ci _ hc).2.1
    rw [hvm] at hfX
    exact Option.some.inj (hfX.symm.trans h1)
  have hh : (V.setCell T.heap.size ce).heap[T.heap.size]? = some ce := heapAt_setCell_self (s := V) ce hlt
  have hsz1 : (V.setCell T.heap.size ce).heap.size = T.heap.size + 1 := by
    have g1 := (Array.getElem?_eq_some_iff.mp hh).1
    omega
  subst hA'
  have X5 := vx_back9 X Y Z0
  have X6 : Stand p l e R s m args below meth c (V.setCell T.heap.size ce) locs (cells + 1) (slots + 6) := { X5 with same := X5.same.mono (by omega) (by omega) }
  have hbase : E.1.heap.size ≤ T.heap.size := Nat.le_trans hF.1 hS.1
  have hcell : x_cell E (V.setCell T.heap.size ce).heap T.heap.size ci 0 (fun _ => .null) := ⟨fun _ => ⟨_, hc, rfl, ce, hh, hcid, hvm9, fun k hk => absurd hk (Nat.not_lt_zero k)⟩, fun z => absurd hci (by omega), fun z => absurd hci (by omega), by omega⟩
  have hR1 := hR.new (t := tt) (N := 6) hsz1 ⟨hcell, ⟨fun _ => hbase, fun z _ => absurd hci (by omega)⟩⟩ (fun q hq => f2 q hq (fun z hz => nomatch hz))
  have hfin := hkkk (V.setCell T.heap.size ce).heap locs (cells + 1) (slots + 6) (by omega) (by omega) hR1 ⟨Nat.le_trans hS.1 f1, fun q h1 h2 => (f2 q (Nat.lt_of_lt_of_le h1 hS.1) (fun z hz => nomatch hz)).trans (hS.2.1 q h1 h2), hS.2.2⟩ hl hG
  rw [← hR.1] at hfin
  obtain ⟨t, a1, b1⟩ := hfin _ rfl X6
  refine ⟨t, st1 _ ?_, b1⟩
  show Steps p.tables e below (T1.setTop { method := m, pc := pc + 3, locals := la, stack := .ref T.heap.size :: st, locked := none }) _
  jvm_step X₁.here [X₁.here.top, hexec, d3', Value.category]
  exact st9 _ a1
/-- System.arraycopy of references into an Object[] of ours -/
def xcpy (h : XH) (a b sp dp n : Nat) : XH := (h.1, fun x j => if x = b ∧ dp ≤ j ∧ j < dp + n then h.2.1 a (sp + (j - dp)) else h.2.1 x j, h.2.2)
theorem xi_nn {z : Int32} (hz : ¬ z < 0) : z.toInt = (z.toNatClampNeg : Int) := by
  have hz0 : (0 : Int) ≤ z.toInt := by
    have := Int32.not_lt.mp hz
    simpa using Int32.le_iff_toInt_le.mp this
  show z.toInt = ((z.toInt.toNat : Nat) : Int)
  omega
theorem xw_copyO {index a b na nb ta tb : Nat} {sp dp cnt : Int32} (hlk : Cond.methodLink M.1.cls index arraycopyName ∈ lw_all) (hnat : Cond.native arraycopyName ∈ lw_all) (hsta : Cond.static arraycopyName ∈ lw_all) (hini : Cond.initialized "java/lang/System" ∈ lw_all)
    (hd : decode M.2.1 pc = .ok (.invokestatic index, 3)) (ha : h.1 a = some (104, na, ta)) (hb : h.1 b = some (104, nb, tb)) (htb : tb ≠ 0) (g1 : ¬ sp < 0) (g2 : ¬ dp < 0) (g3 : ¬ cnt < 0) (g4 : sp.toNatClampNeg + cnt.toNatClampNeg ≤ na) (g5 : dp.toNatClampNeg + cnt.toNatClampNeg ≤ nb)
    (hel : ∀ i, i < cnt.toNatClampNeg → h.2.1 a (sp.toNatClampNeg + i) = .null ∨ ∃ y ci n2 t2, h.2.1 a (sp.toNatClampNeg + i) = .ref y ∧ h.1 y = some (ci, n2, t2) ∧ (t2 ≠ 0 ∨ ci < 100) ∧ XObj ci) (hdd : 1 ≤ d) (hst : (st.map fun v => v.category).sum ≤ 8)
    (kk : XW l E M d k n (pc + 3) ls st (xcpy h a b sp.toNatClampNeg dp.toNatClampNeg cnt.toNatClampNeg) Q) : XW l E M d k n pc ls (.int cnt :: .int dp :: .ref b :: .int sp :: .ref a :: st) h Q := by
  intro p e R s m args below meth c H locs cells slots kc ks Z la hC h1 h2 h3 h4 hR hS hl hG
  obtain ⟨cs, q1, q2, -, q4, q5, q6⟩ := xa_cell (t := 4) (by decide) hR ha
  obtain ⟨cd, w1, w2, -, w4, w5, w6⟩ := xa_cell (t := 4) (by decide) hR hb
  have hbB := (hR.2 b _ _ _ hb).2.1 htb
  have hcl := fun g => (hR.2 b _ _ _ hb).2.2 g (Or.inl htb)
  obtain ⟨c9, u1, u2⟩ := hcl (by decide)
  cases w1.symm.trans u1
  have hd1 := xc_d hC
  have hd2 := xc_dl hC
  obtain ⟨v1, ks1, v2, cm1, v3⟩ := xa_arr (xc_warm hC) q2
  obtain ⟨x1, kd1, x2, cm2, x3⟩ := xa_arr (xc_warm hC) w2
  have hkk := kk p e R s m args below meth c
  have hnw : nativeFrameWords "java/lang/System" "arraycopy" 5 ≤ 20 := by decide
  have hlo9 : 2 * (F0 m pc la (.int cnt :: .int dp :: .ref b :: .int sp :: .ref a :: st)).monitorRoom + (st.map fun v => v.category).sum + (nativeFrameWords "java/lang/System" "arraycopy" 5 + 11) ≤ R.locals := by
    show 2 * 0 + _ + _ ≤ _
    omega
  intro T hT X
  obtain ⟨vm', X', step⟩ := X.arraycopy (xc_exec hC) (xc_own hC) (xc_w hC _ hlk) (xc_w hC _ hnat) (xc_w hC _ hsta) (xc_w hC _ hini) (src := a) (dst := b) (cs := cs) (cd := cd) (srcPos := sp) (destPos := dp) (n := cnt) (by rw [hT]; exact q1) (by rw [hT]; exact w1)
    v1 x1 q4 w4 v2 x2 v3 x3 rfl g1 g2 g3 (by rw [xi_nn g1, xi_nn g3]; omega) (by rw [xi_nn g2, xi_nn g3]; omega)
    (fun vm₁ hal i hi => by
      have e9 : cs.slots.getD (sp.toNatClampNeg + i) .null = h.2.1 a (sp.toNatClampNeg + i) := by
        rw [Array.getD_eq_getD_getElem?, q6 _ (by omega)]
        rfl
      rw [e9]
      rcases hel i hi with e0 | ⟨y, ci, n2, t2, e0, e1, e2, e3⟩
      · rw [e0]
        exact ⟨rfl, trivial⟩
      · rw [e0]
        obtain ⟨cell, comp, f1, f2, ⟨kv, f3⟩, f4, f5⟩ := xo_any hC hR e1 e2 e3
        obtain ⟨kA', comp9, y1, y2, -, -, y5, -⟩ := (xc_ok hC).2.2.1 4 (by decide)
        obtain ⟨kA2, y6, y7⟩ := (xc_warm hC).alike.2.2 _ _ y1
        rw [← u2] at y6
        cases x2.symm.trans y6
        have y8 := x3.symm.trans ((congrArg Class.kind y7).trans y2)
        have hcm : cm2 = comp9 := by
          have := y8
          injection this
        have y9 := y5 "java/lang/Object" rfl
        rw [← (xc_warm hC).alike.findClass] at y9
        have hcc : comp = cm2 := by
          rw [hcm]
          exact Option.some.inj (f4.symm.trans y9)
        subst hcc
        obtain ⟨kO, hkO, -⟩ := Vm.findClass_spec f4
        obtain ⟨kv', hkv', -⟩ := hal.2.2 _ _ f3
        obtain ⟨kO', hkO', -⟩ := hal.2.2 _ _ hkO
        refine ⟨rfl, cell, (show T.heap[y]? = some cell by rw [hT]; exact f1), xo_stat f2, ⟨kv', hkv'⟩, ⟨kO', hkO'⟩, ?_⟩
        show vm₁.assignable _ _ = true
        rw [hal.assignable]
        exact f5)
    (g := F0 m pc la (.int cnt :: .int dp :: .ref b :: .int sp :: .ref a :: st)) rfl (hl.1.trans (xc_ml hC).symm) (rest := st) rfl (by rw [xc_code hC]; exact hd) (by omega) hlo9
  have hlb : b < H.size := (Array.getElem?_eq_some_iff.mp w1).1
  have hheap : ((T.setVm vm').setCell b (copied cs cd sp dp cnt)).heap = H.setIfInBounds b (copied cs cd sp dp cnt) := by rw [← hT]; rfl
  have oq : ∀ q : Nat, q ≠ b → (H.setIfInBounds b (copied cs cd sp dp cnt))[q]? = H[q]? := fun q hq => by simp [Array.getElem?_setIfInBounds, Ne.symm hq]
  have hself : (H.setIfInBounds b (copied cs cd sp dp cnt))[b]? = some (copied cs cd sp dp cnt) := by simp [Array.getElem?_setIfInBounds, hlb]
  have hszH : (H.setIfInBounds b (copied cs cd sp dp cnt)).size = H.size := by simp
  have hlen : (cs.stretch sp.toNatClampNeg cnt.toNatClampNeg).length = cnt.toNatClampNeg := by simp [Cell.stretch]
  obtain ⟨r1, r2, r3, -, -⟩ := Cell.storeRun_facts cd dp.toNatClampNeg (cs.stretch sp.toNatClampNeg cnt.toNatClampNeg)
  have r4 := fun j => Cell.storeRun_get cd dp.toNatClampNeg (cs.stretch sp.toNatClampNeg cnt.toNatClampNeg) j (by rw [hlen]; omega)
  have hcopied : copied cs cd sp dp cnt = cd.storeRun dp.toNatClampNeg (cs.stretch sp.toNatClampNeg cnt.toNatClampNeg) := rfl
  have hRn : XR E (xcpy h a b sp.toNatClampNeg dp.toNatClampNeg cnt.toNatClampNeg) (H.setIfInBounds b (copied cs cd sp dp cnt)) := by
    refine ⟨hszH.trans hR.1, fun x kx nx tx hx => ?_⟩
    by_cases ex : x = b
    · subst ex
      cases hb.symm.trans hx
      refine ⟨⟨fun z => absurd z (by decide), fun z => absurd z (by decide), fun _ => ?_, by rw [hszH]; exact hlb⟩, ⟨fun _ => hbB, fun _ _ => ⟨_, hself, by rw [hcopied, r1]; exact u2⟩⟩⟩
      refine ⟨_, hself, ⟨fun q => by rw [hcopied, r2]; exact w2.1 q, by rw [hcopied, r1]; exact w2.2⟩, by rw [hcopied, r2]; exact w4, by rw [hcopied, r3]; exact w5, fun j hj => ?_⟩
      rw [hcopied, r4 j, hlen]
      simp only [xcpy, true_and]
      by_cases hc9 : dp.toNatClampNeg ≤ j ∧ j < dp.toNatClampNeg + cnt.toNatClampNeg
      · rw [if_pos hc9, if_pos hc9]
        simp only [Cell.stretch, List.getElem?_map]
        rw [List.getElem?_range (by omega)]
        simp only [Option.map_some]
        rw [Array.getD_eq_getD_getElem?, q6 _ (by omega)]
        rfl
      · rw [if_neg hc9, if_neg hc9]
        exact w6 j hj
    · have e2 : (xcpy h a b sp.toNatClampNeg dp.toNatClampNeg cnt.toNatClampNeg).2.1 x = h.2.1 x := by
        funext j
        simp [xcpy, ex]
      rw [e2]
      exact ⟨(hR.2 x kx nx tx hx).1.kept (Nat.le_of_eq hszH.symm) (oq x ex), x_tag.kept (hR.2 x kx nx tx hx).2 (oq x ex)⟩
  obtain ⟨t, a1, b1⟩ := hkk _ _ cells slots kc ks Z la hC h1 h2 h3 h4 hRn ⟨by rw [hszH]; exact hS.1, fun q f1 f2 => by
      rw [oq q (fun e => f2 (by rw [e]; exact hbB))]
      exact hS.2.1 q f1 f2, fun q hq => by
      rcases List.mem_append.mp hq with h | h
      · exact hS.2.2 q h
      · obtain ⟨z, -, hz⟩ := List.mem_map.mp h
        rw [← hz]
        exact hbB⟩ hl hG _ hheap X'
  exact ⟨t, step t a1, b1⟩
theorem xw_copyB {index a b na nb ta tb : Nat} {sp dp cnt : Int32} (hlk : Cond.methodLink M.1.cls index arraycopyName ∈ lw_all) (hnat : Cond.native arraycopyName ∈ lw_all) (hsta : Cond.static arraycopyName ∈ lw_all) (hini : Cond.initialized "java/lang/System" ∈ lw_all)
    (hd : decode M.2.1 pc = .ok (.invokestatic index, 3)) (ha : h.1 a = some (101, na, ta)) (hb : h.1 b = some (101, nb, tb)) (htb : tb ≠ 0) (g1 : ¬ sp < 0) (g2 : ¬ dp < 0) (g3 : ¬ cnt < 0) (g4 : sp.toNatClampNeg + cnt.toNatClampNeg ≤ na) (g5 : dp.toNatClampNeg + cnt.toNatClampNeg ≤ nb)
    (hel : ∀ i, i < cnt.toNatClampNeg → fits .byte (h.2.1 a (sp.toNatClampNeg + i)) = true) (hdd : 1 ≤ d) (hst : (st.map fun v => v.category).sum ≤ 8)
    (kk : XW l E M d k n (pc + 3) ls st (xcpy h a b sp.toNatClampNeg dp.toNatClampNeg cnt.toNatClampNeg) Q) : XW l E M d k n pc ls (.int cnt :: .int dp :: .ref b :: .int sp :: .ref a :: st) h Q := by
  intro p e R s m args below meth c H locs cells slots kc ks Z la hC h1 h2 h3 h4 hR hS hl hG
  obtain ⟨cs, q1, q2, -, q4, q5, q6⟩ := xa_cell (t := 1) (by decide) hR ha
  obtain ⟨cd, w1, w2, -, w4, w5, w6⟩ := xa_cell (t := 1) (by decide) hR hb
  have hbB := (hR.2 b _ _ _ hb).2.1 htb
  have hcl := fun g => (hR.2 b _ _ _ hb).2.2 g (Or.inl htb)
  obtain ⟨c9, u1, u2⟩ := hcl (by decide)
  cases w1.symm.trans u1
  have hd1 := xc_d hC
  have hd2 := xc_dl hC
  obtain ⟨v1, ks1, v2, cm1, v3⟩ := xa_arr (xc_warm hC) q2
  obtain ⟨x1, kd1, x2, cm2, x3⟩ := xa_arr (xc_warm hC) w2
  have hkk := kk p e R s m args below meth c
  have hnw : nativeFrameWords "java/lang/System" "arraycopy" 5 ≤ 20 := by decide
  have hlo9 : 2 * (F0 m pc la (.int cnt :: .int dp :: .ref b :: .int sp :: .ref a :: st)).monitorRoom + (st.map fun v => v.category).sum + (nativeFrameWords "java/lang/System" "arraycopy" 5 + 11) ≤ R.locals := by
    show 2 * 0 + _ + _ ≤ _
    omega
  intro T hT X
  obtain ⟨vm', X', step⟩ := X.arraycopy (xc_exec hC) (xc_own hC) (xc_w hC _ hlk) (xc_w hC _ hnat) (xc_w hC _ hsta) (xc_w hC _ hini) (src := a) (dst := b) (cs := cs) (cd := cd) (srcPos := sp) (destPos := dp) (n := cnt) (by rw [hT]; exact q1) (by rw [hT]; exact w1)
    v1 x1 q4 w4 v2 x2 v3 x3 rfl g1 g2 g3 (by rw [xi_nn g1, xi_nn g3]; omega) (by rw [xi_nn g2, xi_nn g3]; omega)
    (fun vm₁ hal i hi => by
      have e9 : cs.slots.getD (sp.toNatClampNeg + i) .null = h.2.1 a (sp.toNatClampNeg + i) := by
        rw [Array.getD_eq_getD_getElem?, q6 _ (by omega)]
        rfl
      rw [e9]
      refine ⟨hel i hi, ?_⟩
      cases ev : h.2.1 a (sp.toNatClampNeg + i) with
      | ref y =>
        have z := hel i hi
        rw [ev] at z
        cases z
      | _ => trivial)
    (g := F0 m pc la (.int cnt :: .int dp :: .ref b :: .int sp :: .ref a :: st)) rfl (hl.1.trans (xc_ml hC).symm) (rest := st) rfl (by rw [xc_code hC]; exact hd) (by omega) hlo9
  have hlb : b < H.size := (Array.getElem?_eq_some_iff.mp w1).1
  have hheap : ((T.setVm vm').setCell b (copied cs cd sp dp cnt)).heap = H.setIfInBounds b (copied cs cd sp dp cnt) := by rw [← hT]; rfl
  have oq : ∀ q : Nat, q ≠ b → (H.setIfInBounds b (copied cs cd sp dp cnt))[q]? = H[q]? := fun q hq => by simp [Array.getElem?_setIfInBounds, Ne.symm hq]
  have hself : (H.setIfInBounds b (copied cs cd sp dp cnt))[b]? = some (copied cs cd sp dp cnt) := by simp [Array.getElem?_setIfInBounds, hlb]
  have hszH : (H.setIfInBounds b (copied cs cd sp dp cnt)).size = H.size := by simp
  have hlen : (cs.stretch sp.toNatClampNeg cnt.toNatClampNeg).length = cnt.toNatClampNeg := by simp [Cell.stretch]
  obtain ⟨r1, r2, r3, -, -⟩ := Cell.storeRun_facts cd dp.toNatClampNeg (cs.stretch sp.toNatClampNeg cnt.toNatClampNeg)
  have r4 := fun j => Cell.storeRun_get cd dp.toNatClampNeg (cs.stretch sp.toNatClampNeg cnt.toNatClampNeg) j (by rw [hlen]; omega)
  have hcopied : copied cs cd sp dp cnt = cd.storeRun dp.toNatClampNeg (cs.stretch sp.toNatClampNeg cnt.toNatClampNeg) := rfl
  have hRn : XR E (xcpy h a b sp.toNatClampNeg dp.toNatClampNeg cnt.toNatClampNeg) (H.setIfInBounds b (copied cs cd sp dp cnt)) := by
    refine ⟨hszH.trans hR.1, fun x kx nx tx hx => ?_⟩
    by_cases ex : x = b
    · subst ex
      cases hb.symm.trans hx
      refine ⟨⟨fun z => absurd z (by decide), fun z => absurd z (by decide), fun _ => ?_, by rw [hszH]; exact hlb⟩, ⟨fun _ => hbB, fun _ _ => ⟨_, hself, by rw [hcopied, r1]; exact u2⟩⟩⟩
      refine ⟨_, hself, ⟨fun q => by rw [hcopied, r2]; exact w2.1 q, by rw [hcopied, r1]; exact w2.2⟩, by rw [hcopied, r2]; exact w4, by rw [hcopied, r3]; exact w5, fun j hj => ?_⟩
      rw [hcopied, r4 j, hlen]
      simp only [xcpy, true_and]
      by_cases hc9 : dp.toNatClampNeg ≤ j ∧ j < dp.toNatClampNeg + cnt.toNatClampNeg
      · rw [if_pos hc9, if_pos hc9]
        simp only [Cell.stretch, List.getElem?_map]
        rw [List.getElem?_range (by omega)]
        simp only [Option.map_some]
        rw [Array.getD_eq_getD_getElem?, q6 _ (by omega)]
        rfl
      · rw [if_neg hc9, if_neg hc9]
        exact w6 j hj
    · have e2 : (xcpy h a b sp.toNatClampNeg dp.toNatClampNeg cnt.toNatClampNeg).2.1 x = h.2.1 x := by
        funext j
        simp [xcpy, ex]
      rw [e2]
      exact ⟨(hR.2 x kx nx tx hx).1.kept (Nat.le_of_eq hszH.symm) (oq x ex), x_tag.kept (hR.2 x kx nx tx hx).2 (oq x ex)⟩
  obtain ⟨t, a1, b1⟩ := hkk _ _ cells slots kc ks Z la hC h1 h2 h3 h4 hRn ⟨by rw [hszH]; exact hS.1, fun q f1 f2 => by
      rw [oq q (fun e => f2 (by rw [e]; exact hbB))]
      exact hS.2.1 q f1 f2, fun q hq => by
      rcases List.mem_append.mp hq with h | h
      · exact hS.2.2 q h
      · obtain ⟨z, -, hz⟩ := List.mem_map.mp h
        rw [← hz]
        exact hbB⟩ hl hG _ hheap X'
  exact ⟨t, step t a1, b1⟩
/-- a method of the superclass by invokespecial -/
def XLkSU (own : String) (index : Nat) (M' : XMeth) : Prop := Cond.methodLink own index M'.1 ∈ lw_all ∧ Cond.sameMethod M'.1.cls M'.1.cls M'.1.name M'.1.desc ∈ lw_all ∧ Cond.superclass own M'.1.cls ∈ lw_all ∧ Cond.instanceMethod M'.1 ∈ lw_all ∧ M'.1.name ≠ "<init>"
theorem xw_callSU {index np d' mc ms k' n' ci n'' t b : Nat} {As : List Value} {r : vw_C} (hX : XM l E M' d' mc ms (.ref b :: As) h Q') (hL : XLkSU M.1.cls index M') (hc : XCd M' np) (hd : decode M.2.1 pc = .ok (.invokespecial index, 3)) (hk : h.1 b = some (ci, n'', t)) (hlt : ci < 90) (hr : xcl[ci]? = some r) (hn : As.length = np) (hdd : d' + 1 ≤ d) (hmc : mc + k' ≤ k) (hms : ms + n' ≤ n) (hst : (st.map fun v => v.category).sum ≤ 8)
    (kk : ∀ v h', Q' (.inl v) h' → XW l E M d k' n' (pc + 3) ls (v.toList ++ st) h' Q) (kx : ∀ C q h', Q' (.inr (C, q)) h' → XT l E M d k' n' pc ls C q h' Q) : XW l E M d k n pc ls (As.reverse ++ .ref b :: st) h Q := by
  intro p e R s m args below meth c H locs cells slots kc ks Z la hC h1 h2 h3 h4 hR hS hl hG
  have hrm := xw_room (k' := mc) (n' := ms) hC hdd hc.2.1
  have hrv := xp_recv (C := r.1) hC hR hk (Or.inl ⟨hlt, r.2.1, r.2.2, hr⟩)
  have hfix : CallFix p m c M.2.1 M.2.2.1 s args lw_all M.1.cls := ⟨xc_exec hC, xc_code hC, xc_ml hC, xc_own hC, xc_w hC⟩
  have hpre : PreV s H r.1 b (xPc E (.ref b :: As) h) As := ⟨xp_blind, hrv, xp_at hC hR hS _⟩
  exact xw_back (vx_runSU (g := F0 m pc la _) ((xc_K hC).1 ci _ hr).2 hfix (hX (xc_l hC)) ⟨⟨rfl, rfl, hrm.1, hrm.2, xp_good (xc_w hC) (xws_in hc), xws_cd hc⟩, xc_w hC _ hL.1, xc_w hC _ hL.2.1, xc_w hC _ hL.2.2.1, xc_w hC _ hL.2.2.2.1, xc_w hC _ hc.2.2.2.1, xc_w hC _ hc.2.2.1, hL.2.2.2.2, xp_len hc.2.2.2.2.2.2⟩ hpre rfl hn hl.1 rfl (by simpa [JFrame.monitorRoom] using hst) hd ⟨by omega, by omega⟩) hC h1 h2 (by omega) (by omega) hS hl hG kk kx
/-- inherited, by invokevirtual -/
theorem xw_callU {index np d' mc ms k' n' ci n'' t b : Nat} {As : List Value} {r : vw_C} {owner : String} {x : MethodName} (hX : XM l E M' d' mc ms (.ref b :: As) h Q') (hL : XLkU M.1.cls index r.1 owner x M' np) (hc : XCd M' np) (hd : decode M.2.1 pc = .ok (.invokevirtual index, 3)) (hk : h.1 b = some (ci, n'', t)) (hlt : ci < 90) (hr : xcl[ci]? = some r) (hn : As.length = np) (hdd : d' + 1 ≤ d) (hmc : mc + k' ≤ k) (hms : ms + n' ≤ n) (hst : (st.map fun v => v.category).sum ≤ 8)
    (kk : ∀ v h', Q' (.inl v) h' → XW l E M d k' n' (pc + 3) ls (v.toList ++ st) h' Q) (kx : ∀ C q h', Q' (.inr (C, q)) h' → XT l E M d k' n' pc ls C q h' Q) : XW l E M d k n pc ls (As.reverse ++ .ref b :: st) h Q := by
  intro p e R s m args below meth c H locs cells slots kc ks Z la hC h1 h2 h3 h4 hR hS hl hG
  have hrm := xw_room (k' := mc) (n' := ms) hC hdd hc.2.1
  have hrv := xp_recv (C := r.1) hC hR hk (Or.inl ⟨hlt, r.2.1, r.2.2, hr⟩)
  have hfix : CallFix p m c M.2.1 M.2.2.1 s args lw_all M.1.cls := ⟨xc_exec hC, xc_code hC, xc_ml hC, xc_own hC, xc_w hC⟩
  have hpre : PreV s H r.1 b (xPc E (.ref b :: As) h) As := ⟨xp_blind, hrv, xp_at hC hR hS _⟩
  obtain ⟨⟨g1, g2, g3, g4, g5⟩, g6, g7, g8, g9⟩ := hL
  have hdecl : va_Decl s ⟨owner, x.name, x.desc⟩ := by
    rcases g6 with g6 | ⟨g6, b9, m9, r9, g66⟩
    · exact va_Decl.abs (va_Nw.warmD (xc_warm hC) (xw_tbl hC g6 rfl))
    · exact va_Decl.of (xc_w hC _ g6) (xc_w hC _ g66)
  exact xw_back (vx_runU (g := F0 m pc la _) hfix (hX (xc_l hC)) ⟨⟨rfl, rfl, hrm.1, hrm.2, xp_good (xc_w hC) (xws_in hc), xws_cd hc⟩, xc_w hC _ hc.2.2.1, xc_w hC _ g5, ⟨g7, g8⟩, xp_len g9, xc_w hC _ g1, xc_w hC _ g2, hdecl, xc_w hC _ g3, xc_w hC _ g4⟩ hpre rfl hn hl.1 rfl (by simpa [JFrame.monitorRoom] using hst) hd ⟨by omega, by omega⟩) hC h1 h2 (by omega) (by omega) hS hl hG kk kx
/-- ldc of a class, getClass: the two whose Class objects are known -/
theorem xw_ldcM {index a : Nat} {C : String} (hC9 : (C = "[Ljava/lang/Object;" ∧ E.2.2.2 30 = .ref a) ∨ (C = "java/util/ArrayList" ∧ E.2.2.2 31 = .ref a)) (hlk : Cond.classLink M.1.cls index C ∈ lw_all) (hd : decode M.2.1 pc = .ok (.ldc index, 2)) (kk : XW l E M d k n (pc + 2) ls (.ref a :: st) h Q) : XW l E M d k n pc ls st h Q := by
  intro p e R s m args below meth c H locs cells slots kc ks Z la hC h1 h2 h3 h4 hR hS hl hG
  obtain ⟨a1, b1, e1, e2, m1, m2, -⟩ := (xc_ok hC).2.2.2.2.2.2.1
  have hM : va_Mi C a s := by
    rcases hC9 with ⟨rfl, e⟩ | ⟨rfl, e⟩
    · cases e.symm.trans e1
      exact va_Mi.moved (xc_warm hC).alike m1
    · cases e.symm.trans e2
      exact va_Mi.moved (xc_warm hC).alike m2
  exact va_ldcM (xc_exec hC) (xc_code hC) (xc_own hC) (xc_w hC _ hlk) hM hd (kk p e R s m args below meth c H locs cells slots kc ks Z la hC h1 h2 h3 h4 hR hS hl hG)
def xGC : MethodName := ⟨"java/lang/Object", "getClass", "()Ljava/lang/Class;"⟩
theorem xw_getC {index a b ci n' t : Nat} {C : String} (hC9 : (C = "[Ljava/lang/Object;" ∧ E.2.2.2 30 = .ref a ∧ ci = 104) ∨ (C = "java/util/ArrayList" ∧ E.2.2.2 31 = .ref a ∧ ci = 10)) (hlk : Cond.methodLink M.1.cls index xGC ∈ lw_all) (hse : Cond.selects C xGC xGC ∈ lw_all) (hin : Cond.instanceMethod xGC ∈ lw_all) (hna : Cond.native xGC ∈ lw_all) (hd : decode M.2.1 pc = .ok (.invokevirtual index, 3)) (hk : h.1 b = some (ci, n', t)) (hdd : 1 ≤ d) (hst : (st.map fun v => v.category).sum ≤ 8) (kk : XW l E M d k n (pc + 3) ls (.ref a :: st) h Q) : XW l E M d k n pc ls (.ref b :: st) h Q := by
  intro p e R s m args below meth c H locs cells slots kc ks Z la hC h1 h2 h3 h4 hR hS hl hG
  obtain ⟨a1, b1, e1, e2, m1, m2, mD⟩ := (xc_ok hC).2.2.2.2.2.2.1
  have hd1 := xc_d hC
  have hd2 := xc_dl hC
  have hM : va_Mi C a s ∧ ∃ cell : Cell, H[b]? = some cell ∧ cell.vm.isStatics = false ∧ s.vm.findClass C = some cell.cls := by
    rcases hC9 with ⟨rfl, e, rfl⟩ | ⟨rfl, e, rfl⟩
    · cases e.symm.trans e1
      exact ⟨va_Mi.moved (xc_warm hC).alike m1, xa_cls (t := 4) hC hR (by decide) hk (Or.inr rfl)⟩
    · cases e.symm.trans e2
      exact ⟨va_Mi.moved (xc_warm hC).alike m2, xp_recv hC hR hk (Or.inl ⟨by decide, TJ2, 3, rfl⟩)⟩
  exact va_getC (xc_exec hC) (xc_code hC) (by rw [xc_ml hC]; exact hl.1.symm) (xc_own hC) (xc_w hC _ hlk) (va_Dc.moved (xc_warm hC).alike mD).use (xc_w hC _ hse) (xc_w hC _ hin) (xc_w hC _ hna) hM.1 hM.2 (by omega) (by omega) hd (kk p e R s m args below meth c H locs cells slots kc ks Z la hC h1 h2 h3 h4 hR hS hl hG)
/-- int[N][K] -/
def xgrid (h : XH) (N K t1 t2 : Nat) : XH := (fun b => if b = h.2.2.1 then some (106, N, t1) else if h.2.2.1 < b ∧ b ≤ h.2.2.1 + N then some (100, K, t2) else h.1 b, fun b j => if b = h.2.2.1 then .ref (h.2.2.1 + 1 + j) else if h.2.2.1 < b ∧ b ≤ h.2.2.1 + N then .int 0 else h.2.1 b j, h.2.2.1 + 1 + N, h.2.2.2 + (N + N * K))
theorem xa_AOarr {ty : FieldType} {u U : State} (hvm : u.vm.Alike U.vm) {A A' : Array Value} (h : (Cond.arrayOver (.array ty)).before A u = true) : (Cond.arrayOver (.array ty)).before A' U = true := by
  have h1 : (Cond.arrayOver (.array ty)).before A (u.setVm U.vm) = true := by
    rw [Cond.arrayOver_setVmC hvm]
    exact h
  exact h1
theorem xw_multi {index : Nat} {x y : Int32} {N K : Nat} (t1 t2 k' n' : Nat) (hlk : Cond.classLink M.1.cls index "[[I" ∈ lw_all) (hov : Cond.arrayOver (.array .int) ∈ lw_tbl) (har : Cond.arrayClass .int ∈ lw_all) (hd : decode M.2.1 pc = .ok (.multianewarray index 2, 4)) (hx : ¬ x < 0) (hy : ¬ y < 0) (hN : x.toNatClampNeg = N) (hK : y.toNatClampNeg = K) (hb1 : N ≤ 60000000) (hb2 : K ≤ 60000000) (hk : k' + (1 + N) ≤ k) (hn : n' + (N + N * K) ≤ n) (kk : XW l E M d k' n' (pc + 4) ls (.ref h.2.2.1 :: st) (xgrid h N K t1 t2) Q) : XW l E M d k n pc ls (.int y :: .int x :: st) h Q := by
  intro p e R s m args below meth c H locs cells slots kc ks Z la hC h1 h2 h3 h4 hR hS hl hG
  subst hN hK
  obtain ⟨A9, hA9⟩ := (xc_ok hC).1
  have hFb := xc_F hC
  have hbase : E.1.heap.size ≤ H.size := Nat.le_trans hFb.1 hS.1
  obtain ⟨kA6, comp6, p1, p2, -, p4, -⟩ := (xc_ok hC).2.2.1 6 (by decide)
  obtain ⟨kA0, comp0, o1, o2, -, o4, -⟩ := (xc_ok hC).2.2.1 0 (by decide)
  have hkk := fun H1 locs1 cells1 slots1 => kk p e R s m args below meth c H1 locs1 cells1 slots1 kc ks Z la hC h1 h2
  intro T hT X
  subst hT
  obtain ⟨vm₁, cA, comp, hW, hfA, hfC, hO, hI, X1, step⟩ := X.multianewarray2F (xc_exec hC) (own := M.1.cls) (index := index) (ty := .int) (xc_own hC) (xc_w hC _ hlk) (xa_AOarr (xc_warm hC).alike (hA9 _ hov)) (xc_w hC _ har) (g := F0 m pc la (.int y :: .int x :: st)) rfl (by rw [xc_code hC]; exact hd) (n := x) (k := y) (rest := st) rfl hx hy
    (by omega) (by show y.toNatClampNeg * 4 ≤ _; omega) (by omega) rfl rfl (by omega) (by omega)
  obtain ⟨f1, f2, f3, f4⟩ := Jvm.Free.Multi.fill_facts (T.setVm vm₁) cA comp x.toNatClampNeg y.toNatClampNeg (defaultValue .int) x.toNatClampNeg
  obtain ⟨q1, q2, q3⟩ := Jvm.Free.Multi.outerC_facts cA x.toNatClampNeg (T.setVm vm₁).heap.size x.toNatClampNeg
  have hsz : (T.setVm vm₁).heap.size = T.heap.size := rfl
  have hcA : cA = E.2.2.1 6 := by
    have g := p4 (by decide)
    rw [← (xc_warm hC).alike.findClass] at g
    exact Option.some.inj (hfA.symm.trans g)
  have hcm : comp = E.2.2.1 0 := by
    have g := o4 (by decide)
    rw [← (xc_warm hC).alike.findClass] at g
    exact Option.some.inj (hfC.symm.trans g)
  subst hcA hcm
  have hold : ∀ q : Nat, q < T.heap.size → (Jvm.Free.Multi.fill (T.setVm vm₁) (E.2.2.1 6) (E.2.2.1 0) x.toNatClampNeg y.toNatClampNeg (defaultValue .int) x.toNatClampNeg).heap[q]? = T.heap[q]? := fun q hq => Jvm.Free.Multi.fill_old (T.setVm vm₁) _ _ _ _ _ hq _
  have hinn := fun j hj => Jvm.Free.Multi.fill_inner (T.setVm vm₁) (E.2.2.1 6) (E.2.2.1 0) x.toNatClampNeg y.toNatClampNeg (defaultValue .int) x.toNatClampNeg j hj
  have hRn : XR E (xgrid h x.toNatClampNeg y.toNatClampNeg t1 t2) (Jvm.Free.Multi.fill (T.setVm vm₁) (E.2.2.1 6) (E.2.2.1 0) x.toNatClampNeg y.toNatClampNeg (defaultValue .int) x.toNatClampNeg).heap := by
    have hnx := hR.1
    refine ⟨by rw [f1, hsz, hnx]; rfl, fun b kb nb tb hb => ?_⟩
    by_cases e1 : b = h.2.2.1
    · subst e1
      have e2 : (xgrid h x.toNatClampNeg y.toNatClampNeg t1 t2).1 h.2.2.1 = some (106, x.toNatClampNeg, t1) := by simp [xgrid]
      rw [e2] at hb
      cases hb
      rw [← hnx]
      refine ⟨⟨fun z => absurd z (by decide), fun z => absurd z (by decide), fun _ => ?_, by rw [f1, hsz]; omega⟩, ⟨fun _ => hbase, fun _ _ => ⟨_, f2, q1⟩⟩⟩
      refine ⟨_, f2, ⟨fun z w => (hO x.toNatClampNeg (T.setVm vm₁).heap.size x.toNatClampNeg).1.1 z w, kA6, by rw [q1]; exact p1, comp6, p2⟩, (hO _ _ _).2, by rw [q3]; exact ⟨Nat.le_refl _, rfl⟩, fun j hj => ?_⟩
      rw [Jvm.Free.Multi.outerC_slot _ _ _ _ j hj, if_pos hj]
      simp [xgrid, hnx]
    · by_cases e3 : h.2.2.1 < b ∧ b ≤ h.2.2.1 + x.toNatClampNeg
      · have e2 : (xgrid h x.toNatClampNeg y.toNatClampNeg t1 t2).1 b = some (100, y.toNatClampNeg, t2) := by simp [xgrid, e1, e3]
        rw [e2] at hb
        cases hb
        have e4 := hinn (b - T.heap.size - 1) (by omega)
        have e5 : (T.setVm vm₁).heap.size + 1 + (b - T.heap.size - 1) = b := by rw [hsz]; omega
        rw [e5] at e4
        refine ⟨⟨fun z => absurd z (by decide), fun z => absurd z (by decide), fun _ => ?_, by rw [f1, hsz]; omega⟩, ⟨fun _ => by omega, fun _ _ => ⟨_, e4, rfl⟩⟩⟩
        refine ⟨_, e4, ⟨fun z w => (hI y.toNatClampNeg (defaultValue .int)).1.1 z w, kA0, o1, comp0, o2⟩, (hI _ _).2, by simp [Jvm.Free.Multi.innerC], fun j hj => ?_⟩
        simp [xgrid, e1, e3, Jvm.Free.Multi.innerC, hj, defaultValue]
      · have e2 : (xgrid h x.toNatClampNeg y.toNatClampNeg t1 t2).1 b = h.1 b := by simp [xgrid, e1, e3]
        have e4 : (xgrid h x.toNatClampNeg y.toNatClampNeg t1 t2).2.1 b = h.2.1 b := by
          funext j
          simp [xgrid, e1, e3]
        rw [e2] at hb
        rw [e4]
        have hlt := (hR.2 b kb nb tb hb).1.lt
        exact ⟨(hR.2 b kb nb tb hb).1.kept (by rw [f1, hsz]; omega) (hold b hlt), x_tag.kept (hR.2 b kb nb tb hb).2 (hold b hlt)⟩
  have hfin := hkk _ locs (cells + 1 + x.toNatClampNeg) (slots + x.toNatClampNeg + x.toNatClampNeg * y.toNatClampNeg) (by omega) (by omega) hRn ⟨by rw [f1, hsz]; have := hS.1; omega, fun q g1 g2 => (hold q (Nat.lt_of_lt_of_le g1 hS.1)).trans (hS.2.1 q g1 g2), hS.2.2⟩ hl hG
  rw [← hR.1] at hfin
  obtain ⟨t, a1, b1⟩ := hfin _ rfl X1
  exact ⟨t, step t a1, b1⟩
/-- an interface's getClass on an ArrayList -/
theorem xm_iface {s : State} {vm' : Vm} (h : s.vm.Alike vm') {ref owner name desc : String} {args : Array Value} : (Cond.interfaceMethod ref owner name desc).before args (s.setVm vm') = (Cond.interfaceMethod ref owner name desc).before args s := by
  simp only [Cond.before, Cond.holds, Cond.value, State.vm_setVm, h.findClass, State.methodFound?_setVm h, State.methodNamed?_setVm h, arm_isInterface_setVm h]
theorem xsel_of {s : State} {args : Array Value} {I n d C : String} {y : MethodName} (hf : (Cond.interfaceMethod I "java/lang/Object" n d).before args s = true) (hd : (Cond.declares ⟨"java/lang/Object", n, d⟩).before args s = true) (hs : (Cond.selects C ⟨"java/lang/Object", n, d⟩ y).before args s = true) : (Cond.selects C ⟨I, n, d⟩ y).before args s = true := by
  obtain ⟨c, k, m, -, -, -, f1, f2⟩ := Cond.interfaceMethod_spec hf
  obtain ⟨m2, meth, g1, -⟩ := Cond.declares_spec hd
  have e : s.methodFound? I n d = s.methodFound? "java/lang/Object" n d := by
    rw [f1, State.methodFound?_of_named (x := ⟨"java/lang/Object", n, d⟩) g1 (show "java/lang/Object" ≠ "java/lang/invoke/MethodHandle" ∧ "java/lang/Object" ≠ "java/lang/invoke/VarHandle" from by decide)]
    exact f2.symm.trans g1
  simp only [Cond.before, Cond.holds, Cond.value] at hs ⊢
  rw [e]
  exact hs
def xCG : MethodName := ⟨"java/util/Collection", "getClass", "()Ljava/lang/Class;"⟩
theorem xw_getCI {index count a b n' t : Nat} (ha : E.2.2.2 31 = .ref a) (hlk : Cond.methodLink M.1.cls index xCG ∈ lw_all) (hif : Cond.interfaceMethod "java/util/Collection" "java/lang/Object" "getClass" "()Ljava/lang/Class;" ∈ lw_tbl) (hse : Cond.selects "java/util/ArrayList" xGC xGC ∈ lw_all) (hin : Cond.instanceMethod xGC ∈ lw_all) (hna : Cond.native xGC ∈ lw_all) (hpu : Cond.publicMethod xGC ∈ lw_tbl) (hun : Cond.unhidden "java/util/ArrayList" "getClass" "()Ljava/lang/Class;" ∈ lw_tbl) (hca : Cond.castable "java/util/ArrayList" "java/util/Collection" ∈ lw_tbl) (hd : decode M.2.1 pc = .ok (.invokeinterface index count, 5)) (hk : h.1 b = some (10, n', t)) (hdd : 1 ≤ d) (hst : (st.map fun v => v.category).sum ≤ 8) (kk : XW l E M d k n (pc + 5) ls (.ref a :: st) h Q) : XW l E M d k n pc ls (.ref b :: st) h Q := by
  intro p e R s m args below meth c H locs cells slots kc ks Z la hC h1 h2 h3 h4 hR hS hl hG
  obtain ⟨a1, b1, e1, e2, m1, m2, mD⟩ := (xc_ok hC).2.2.2.2.2.2.1
  have hd1 := xc_d hC
  have hd2 := xc_dl hC
  cases ha.symm.trans e2
  obtain ⟨A, hA⟩ := (xc_ok hC).1
  have hW := xc_warm hC
  have hdecl : (Cond.declares xGC).before args s = true := (va_Dc.moved hW.alike mD).use
  have hface : (Cond.interfaceMethod "java/util/Collection" "java/lang/Object" "getClass" "()Ljava/lang/Class;").before args s = true := va_tabs (u := E.1.setVm s.vm) (A := A) rfl rfl (by rw [xm_iface hW.alike]; exact hA _ hif)
  have hpub : (Cond.publicMethod xGC).before args s = true := va_tabs (u := E.1.setVm s.vm) (A := A) rfl rfl (by rw [Cond.publicMethod_setVm hW.alike]; exact hA _ hpu)
  have hunh : (Cond.unhidden "java/util/ArrayList" "getClass" "()Ljava/lang/Class;").before args s = true := va_tabs (u := E.1.setVm s.vm) (A := A) rfl rfl (by rw [Cond.unhidden_setVm hW.alike]; exact hA _ hun)
  have hcast : (Cond.castable "java/util/ArrayList" "java/util/Collection").before args s = true := va_tabs (u := E.1.setVm s.vm) (A := A) rfl rfl (by rw [Cond.castable_setVm hW.alike]; exact hA _ hca)
  have hsel := xsel_of (y := xGC) hface hdecl (xc_w hC _ hse)
  obtain ⟨c0, k0, q1, q2, q3⟩ := va_Mi.moved hW.alike m2
  obtain ⟨cell, g1, g2, g3⟩ := xp_recv hC hR hk (Or.inl ⟨by decide, TJ2, 3, rfl⟩)
  cases q1.symm.trans g3
  have hkk := kk p e R s m args below meth c H locs cells slots kc ks Z la hC h1 h2 h3 h4 hR hS hl hG
  intro T hT X
  obtain ⟨vm', X', stp⟩ := X.getClassOfI (xc_exec hC) (xc_own hC) (xc_w hC _ hlk) hdecl hface hsel (xc_w hC _ hin) hpub hunh hcast (xc_w hC _ hna) (by decide) (by decide) rfl rfl q1 q2 ⟨cell, by rw [hT]; exact g1, rfl, g2⟩ q3 (g := F0 m pc la (.ref b :: st)) rfl (by rw [xc_ml hC]; exact hl.1) rfl (by rw [xc_code hC]; exact hd) (by omega) (by show 2 * 0 + _ + _ ≤ _; have hw : nativeFrameWords "java/lang/Object" "getClass" 1 = 3 := (by decide); omega)
  obtain ⟨t, w1, w2⟩ := hkk (T.setVm vm') hT X'
  exact ⟨t, stp t w1, w2⟩
/-- a private method of C's superclass: a word of another method of it tells that it's no interface -/
theorem xsel_priv {s : State} {args : Array Value} {C : String} {y z : MethodName} (hpr : (Cond.privateMethod y).before args s = true) (hin : (Cond.instanceMethod y).before args s = true) (hse : (Cond.selects C z z).before args s = true) (hcls : z.cls = y.cls) (hy : y.cls ≠ "java/lang/invoke/MethodHandle" ∧ y.cls ≠ "java/lang/invoke/VarHandle") : (Cond.selects C y y).before args s = true := by
  obtain ⟨mk, methM, hnamed, hmethM, -, -⟩ := Cond.instanceMethod_spec hin
  obtain ⟨c2, r2, m2, q1, q2, q3, q4, kP, hkP, hkPi⟩ := Cond.selects_spec hse
  have e : mk.cls = m2.cls := by
    have e1 := findClass_of_methodNamed hnamed
    have e2 := findClass_of_methodNamed q3
    rw [hcls, e1] at e2
    exact Option.some.inj e2
  have hf := State.methodFound?_of_named hnamed hy
  have hs : selectMethod {} s.vm c2 mk = .method mk := selectMethod_private hmethM (Cond.privateMethod_at hpr mk methM hnamed hmethM)
  rw [← e] at hkP
  simp [Cond.before, Cond.holds, Cond.value, q1, hf, hnamed, hs, hkP, hkPi]
def XLkP (own : String) (index : Nat) (C : String) (M' : XMeth) : Prop := Cond.methodLink own index M'.1 ∈ lw_all ∧ Cond.instanceMethod M'.1 ∈ lw_all ∧ Cond.privateMethod M'.1 ∈ lw_tbl ∧ ∃ z : MethodName, z.cls = M'.1.cls ∧ Cond.selects C z z ∈ lw_all
theorem xw_callP {index np d' mc ms k' n' ci n'' t b : Nat} {As : List Value} {r : vw_C} (hX : XM l E M' d' mc ms (.ref b :: As) h Q') (hL : XLkP M.1.cls index r.1 M') (hc : XCd M' np) (hd : decode M.2.1 pc = .ok (.invokevirtual index, 3)) (hk : h.1 b = some (ci, n'', t)) (hlt : ci < 90) (hr : xcl[ci]? = some r) (hn : As.length = np) (hdd : d' + 1 ≤ d) (hmc : mc + k' ≤ k) (hms : ms + n' ≤ n) (hst : (st.map fun v => v.category).sum ≤ 8)
    (kk : ∀ v h', Q' (.inl v) h' → XW l E M d k' n' (pc + 3) ls (v.toList ++ st) h' Q) (kx : ∀ C q h', Q' (.inr (C, q)) h' → XT l E M d k' n' pc ls C q h' Q) : XW l E M d k n pc ls (As.reverse ++ .ref b :: st) h Q := by
  intro p e R s m args below meth c H locs cells slots kc ks Z la hC h1 h2 h3 h4 hR hS hl hG
  have hrm := xw_room (k' := mc) (n' := ms) hC hdd hc.2.1
  have hrv := xp_recv (C := r.1) hC hR hk (Or.inl ⟨hlt, r.2.1, r.2.2, hr⟩)
  have hfix : CallFix p m c M.2.1 M.2.2.1 s args lw_all M.1.cls := ⟨xc_exec hC, xc_code hC, xc_ml hC, xc_own hC, xc_w hC⟩
  have hpre : PreV s H r.1 b (xPc E (.ref b :: As) h) As := ⟨xp_blind, hrv, xp_at hC hR hS _⟩
  obtain ⟨g1, g2, g3, z, g4, g5⟩ := hL
  obtain ⟨A, hA⟩ := (xc_ok hC).1
  have hpr : (Cond.privateMethod M'.1).before args s = true := Cond.privateMethod_warm (xc_warm hC) (hA _ g3)
  have hse := xsel_priv hpr (xc_w hC _ g2) (xc_w hC _ g5) g4 ⟨hc.2.2.2.2.1, hc.2.2.2.2.2.1⟩
  exact xw_back (vx_runV (g := F0 m pc la _) hfix (hX (xc_l hC)) ⟨⟨rfl, rfl, hrm.1, hrm.2, xp_good (xc_w hC) (xws_in hc), xws_cd hc, xc_w hC _ hc.2.2.1, xc_w hC _ hc.2.2.2.1, ⟨hc.2.2.2.2.1, hc.2.2.2.2.2.1⟩, xp_len hc.2.2.2.2.2.2, xc_w hC _ g1⟩, xc_w hC _ g2, hse⟩ hpre rfl hn hl.1 rfl (by simpa [JFrame.monitorRoom] using hst) hd ⟨by omega, by omega⟩) hC h1 h2 (by omega) (by omega) hS hl hG kk kx
end XROWS4
/-! CX: XW whose end is known: the heap hf, the outcome res. The heap's counters tell what was made. Printed functions compute in Option over XH -/
abbrev XX : Type := String × Nat
def hk (h : XH) (a : Nat) : Nat := match h.1 a with
  | some q => q.1
  | none => 1000
def htg (h : XH) (a : Nat) : Nat := match h.1 a with
  | some q => q.2.2
  | none => 0
def hln (h : XH) (a : Nat) : Nat := match h.1 a with
  | some q => q.2.1
  | none => 0
def vI : Value → Option Int32
  | .int x => some x
  | _ => none
def vL : Value → Option Int64
  | .long x => some x
  | _ => none
def vR : Value → Option Nat
  | .ref a => some a
  | _ => none
def vV (v : Value) : Option Value := if xisr v then some v else none
def cgI (h : XH) (a ci i : Nat) : Option Int32 := if hk h a = ci then vI (h.2.1 a i) else none
def cgR (h : XH) (a ci i : Nat) : Option Nat := if hk h a = ci then vR (h.2.1 a i) else none
def cgV (h : XH) (a ci i : Nat) : Option Value := if hk h a = ci then vV (h.2.1 a i) else none
/-- a place written, the cell ours -/
def cpu (h : XH) (a ci i : Nat) (v : Value) : Option XH := if hk h a = ci ∧ htg h a ≠ 0 then some (xup h a i v) else none
def cpZ (h : XH) (a ci i : Nat) (v : Int32) : Option XH := if v = 0 ∨ v = 1 then cpu h a ci i (.int v) else none
def cpV (h : XH) (a ci i : Nat) (v : Value) : Option XH := if xisr v then cpu h a ci i v else none
def cinb (h : XH) (a k : Nat) (x : Int32) : Prop := hk h a = k ∧ ¬ (x < 0 ∨ hln h a ≤ x.toNatClampNeg)
theorem cinb_iff {h : XH} {a k : Nat} {x : Int32} : cinb h a k x ↔ (hk h a = k ∧ ¬ (x < 0 ∨ hln h a ≤ x.toNatClampNeg)) := Iff.rfl
def caI (h : XH) (a k : Nat) (x : Int32) : Option Int32 := if hk h a = k ∧ ¬ (x < 0 ∨ hln h a ≤ x.toNatClampNeg) then vI (h.2.1 a x.toNatClampNeg) else none
def caL (h : XH) (a : Nat) (x : Int32) : Option Int64 := if hk h a = 103 ∧ ¬ (x < 0 ∨ hln h a ≤ x.toNatClampNeg) then vL (h.2.1 a x.toNatClampNeg) else none
def caR (h : XH) (a k : Nat) (x : Int32) : Option Nat := if hk h a = k ∧ ¬ (x < 0 ∨ hln h a ≤ x.toNatClampNeg) then vR (h.2.1 a x.toNatClampNeg) else none
def csu (h : XH) (a k : Nat) (x : Int32) (v : Value) : Option XH := if hk h a = k ∧ htg h a ≠ 0 ∧ ¬ (x < 0 ∨ hln h a ≤ x.toNatClampNeg) then some (xup h a x.toNatClampNeg v) else none
/-- what may lie in an Object[] -/
def cob (h : XH) (b : Nat) : Prop := hk h b = 2 ∨ hk h b = 6 ∨ hk h b = 7 ∨ hk h b = 8 ∨ hk h b = 9 ∨ hk h b = 11 ∨ (hk h b = 100 ∧ htg h b ≠ 0)
def csO (h : XH) (a : Nat) (x : Int32) (b : Nat) : Option XH := if hk h b = 2 ∨ hk h b = 6 ∨ hk h b = 7 ∨ hk h b = 8 ∨ hk h b = 9 ∨ hk h b = 11 ∨ (hk h b = 100 ∧ htg h b ≠ 0) then csu h a 104 x (.ref b) else none
def csS (h : XH) (a : Nat) (x : Int32) (b : Nat) : Option XH := if hk h b = 90 then csu h a 105 x (.ref b) else none
def cal (h : XH) (a : Nat) : Option Int32 := if 100 ≤ hk h a ∧ hk h a < 108 then some (Int32.ofNat (hln h a)) else none
def ckd (h : XH) (a : Nat) (k : Nat) : Option Unit := if hk h a = k then some () else none
def ckt (h : XH) (a : Nat) (k : Nat) : Option Unit := if hk h a = k ∧ htg h a ≠ 0 then some () else none
def cfo (h : XH) (a : Nat) : Option Unit := if hk h a = 6 ∨ hk h a = 7 ∨ hk h a = 8 ∨ hk h a = 9 then some () else none
/-- a new array of the t-th element type -/
def cna (h : XH) (t tag : Nat) (x : Int32) : Option XH := if x < 0 ∨ 60000000 < x.toNatClampNeg then none else some (xnew h (100 + t) x.toNatClampNeg tag x.toNatClampNeg (fun _ => defaultValue (xty t)))
def cnr (h : XH) (t tag : Nat) (x : Int32) : Option XH := if x < 0 ∨ 60000000 < x.toNatClampNeg then none else some (xnew h (100 + t) x.toNatClampNeg tag x.toNatClampNeg (fun _ => .null))
def cng (h : XH) (t1 t2 : Nat) (x y : Int32) : Option XH := if x < 0 ∨ y < 0 ∨ 60000000 < x.toNatClampNeg ∨ 60000000 < y.toNatClampNeg then none else some (xgrid h x.toNatClampNeg y.toNatClampNeg t1 t2)
def ctag (h : XH) (a t : Nat) : Option XH := if htg h a ≠ 0 then some (xtag h a t) else some h
/-- arraycopy: of things, of bytes -/
def ccO (h : XH) (a b : Nat) (sp dp n : Int32) : Option XH := if hk h a = 104 ∧ hk h b = 104 ∧ htg h b ≠ 0 ∧ ¬ sp < 0 ∧ ¬ dp < 0 ∧ ¬ n < 0 ∧ sp.toNatClampNeg + n.toNatClampNeg ≤ hln h a ∧ dp.toNatClampNeg + n.toNatClampNeg ≤ hln h b then (if (List.range n.toNatClampNeg).all (fun i => match h.2.1 a (sp.toNatClampNeg + i) with | .null => true | .ref y => (hk h y == 2 || hk h y == 6 || hk h y == 7 || hk h y == 8 || hk h y == 9 || hk h y == 11 || (hk h y == 100 && htg h y != 0)) | _ => false) then some (xcpy h a b sp.toNatClampNeg dp.toNatClampNeg n.toNatClampNeg) else none) else none
def ccB (h : XH) (a b : Nat) (sp dp n : Int32) : Option XH := if hk h a = 101 ∧ hk h b = 101 ∧ htg h b ≠ 0 ∧ ¬ sp < 0 ∧ ¬ dp < 0 ∧ ¬ n < 0 ∧ sp.toNatClampNeg + n.toNatClampNeg ≤ hln h a ∧ dp.toNatClampNeg + n.toNatClampNeg ≤ hln h b then (if (List.range n.toNatClampNeg).all (fun i => fits .byte (h.2.1 a (sp.toNatClampNeg + i))) then some (xcpy h a b sp.toNatClampNeg dp.toNatClampNeg n.toNatClampNeg) else none) else none
theorem hk_of {h : XH} {a k : Nat} (e : hk h a = k) (hne : k ≠ 1000) : h.1 a = some (k, hln h a, htg h a) := by
  unfold hk at e
  unfold hln htg
  cases hq : h.1 a with
  | none => rw [hq] at e; exact absurd e.symm hne
  | some q =>
    rw [hq] at e
    obtain ⟨a1, a2, a3⟩ := q
    dsimp only at e ⊢
    rw [e]
def CX (l : Launch) (E : XEnv) (M : XMeth) (d pc : Nat) (ls : List (Nat × Value)) (st : List Value) (h hf : XH) (res : XO) : Prop := (h.2.2.1 ≤ hf.2.2.1 ∧ h.2.2.2 ≤ hf.2.2.2) ∧ XW l E M d (hf.2.2.1 - h.2.2.1) (hf.2.2.2 - h.2.2.2) pc ls st h (fun o h' => o = res ∧ h' = hf)
def CT (l : Launch) (E : XEnv) (M : XMeth) (d pc : Nat) (ls : List (Nat × Value)) (C : String) (q : Nat) (h hf : XH) (res : XO) : Prop := (h.2.2.1 ≤ hf.2.2.1 ∧ h.2.2.2 ≤ hf.2.2.2) ∧ XT l E M d (hf.2.2.1 - h.2.2.1) (hf.2.2.2 - h.2.2.2) pc ls C q h (fun o h' => o = res ∧ h' = hf)
def CM (l : Launch) (E : XEnv) (M : XMeth) (d : Nat) (args : List Value) (h : XH) (res : XO) (hf : XH) : Prop := (h.2.2.1 ≤ hf.2.2.1 ∧ h.2.2.2 ≤ hf.2.2.2) ∧ XM l E M d (hf.2.2.1 - h.2.2.1) (hf.2.2.2 - h.2.2.2) args h (fun o h' => o = res ∧ h' = hf)
/-- outcomes -/
def xrI : Int32 ⊕ XX → XO
  | .inl x => .inl (some (.int x))
  | .inr e => .inr e
def xrR : Nat ⊕ XX → XO
  | .inl a => .inl (some (.ref a))
  | .inr e => .inr e
def xrU : Unit ⊕ XX → XO
  | .inl _ => .inl none
  | .inr e => .inr e
section CXR
variable {l : Launch} {E : XEnv} {M : XMeth} {d pc : Nat} {ls : List (Nat × Value)} {st : List Value} {h hf : XH} {res : XO}
theorem cx_iconst {z : Int} {v : Int32} (hd : decode M.2.1 pc = .ok (.iconst z, 1)) (hv : Int32.ofInt z = v) (kk : CX l E M d (pc + 1) ls (.int v :: st) h hf res) : CX l E M d pc ls (st) h hf res := ⟨kk.1, xw_iconst hd hv kk.2⟩
theorem cx_bipush {z : Int} {v : Int32} (hd : decode M.2.1 pc = .ok (.bipush z, 2)) (hv : (Int8.ofInt z).toInt32 = v) (kk : CX l E M d (pc + 2) ls (.int v :: st) h hf res) : CX l E M d pc ls (st) h hf res := ⟨kk.1, xw_bipush hd hv kk.2⟩
theorem cx_sipush {z : Int} {v : Int32} (hd : decode M.2.1 pc = .ok (.sipush z, 3)) (hv : (Int16.ofInt z).toInt32 = v) (kk : CX l E M d (pc + 3) ls (.int v :: st) h hf res) : CX l E M d pc ls (st) h hf res := ⟨kk.1, xw_sipush hd hv kk.2⟩
theorem cx_lconst {z : Fin 2} {v : Int64} (hd : decode M.2.1 pc = .ok (.lconst z, 1)) (hv : Int64.ofNat (z : Nat) = v) (kk : CX l E M d (pc + 1) ls (.long v :: st) h hf res) : CX l E M d pc ls (st) h hf res := ⟨kk.1, xw_lconst hd hv kk.2⟩
theorem cx_ldc {i : Nat} {v : Int32} (hw : Cond.constant M.1.cls i v ∈ lw_all) (hd : decode M.2.1 pc = .ok (.ldc i, 2)) (kk : CX l E M d (pc + 2) ls (.int v :: st) h hf res) : CX l E M d pc ls (st) h hf res := ⟨kk.1, xw_ldc hw hd kk.2⟩
theorem cx_ldcw {i : Nat} {v : Int32} (hw : Cond.constant M.1.cls i v ∈ lw_all) (hd : decode M.2.1 pc = .ok (.ldc_w i, 3)) (kk : CX l E M d (pc + 3) ls (.int v :: st) h hf res) : CX l E M d pc ls (st) h hf res := ⟨kk.1, xw_ldcw hw hd kk.2⟩
theorem cx_ldc2 {i : Nat} {v : Int64} (hw : Cond.constantLong M.1.cls i v ∈ lw_all) (hd : decode M.2.1 pc = .ok (.ldc2_w i, 3)) (kk : CX l E M d (pc + 3) ls (.long v :: st) h hf res) : CX l E M d pc ls (st) h hf res := ⟨kk.1, xw_ldc2 hw hd kk.2⟩
theorem cx_null  (hd : decode M.2.1 pc = .ok (.aconst_null, 1)) (kk : CX l E M d (pc + 1) ls (.null :: st) h hf res) : CX l E M d pc ls (st) h hf res := ⟨kk.1, xw_null hd kk.2⟩
theorem cx_iload_n {j : Fin 4} {x : Int32} (hd : decode M.2.1 pc = .ok (.iload_n j, 1)) (hj : xloc ls j.val = some (.int x)) (kk : CX l E M d (pc + 1) ls (.int x :: st) h hf res) : CX l E M d pc ls (st) h hf res := ⟨kk.1, xw_iload_n hd hj kk.2⟩
theorem cx_iload {j : Nat} {x : Int32} (hd : decode M.2.1 pc = .ok (.iload j, 2)) (hj : xloc ls j = some (.int x)) (kk : CX l E M d (pc + 2) ls (.int x :: st) h hf res) : CX l E M d pc ls (st) h hf res := ⟨kk.1, xw_iload hd hj kk.2⟩
theorem cx_lload_n {j : Fin 4} {x : Int64} (hd : decode M.2.1 pc = .ok (.lload_n j, 1)) (hj : xloc ls j.val = some (.long x)) (kk : CX l E M d (pc + 1) ls (.long x :: st) h hf res) : CX l E M d pc ls (st) h hf res := ⟨kk.1, xw_lload_n hd hj kk.2⟩
theorem cx_lload {j : Nat} {x : Int64} (hd : decode M.2.1 pc = .ok (.lload j, 2)) (hj : xloc ls j = some (.long x)) (kk : CX l E M d (pc + 2) ls (.long x :: st) h hf res) : CX l E M d pc ls (st) h hf res := ⟨kk.1, xw_lload hd hj kk.2⟩
theorem cx_aload_n {j : Fin 4} {v : Value} (hd : decode M.2.1 pc = .ok (.aload_n j, 1)) (hj : xloc ls j.val = some v) (hv : xisr v = true) (kk : CX l E M d (pc + 1) ls (v :: st) h hf res) : CX l E M d pc ls (st) h hf res := ⟨kk.1, xw_aload_n hd hj hv kk.2⟩
theorem cx_aload {j : Nat} {v : Value} (hd : decode M.2.1 pc = .ok (.aload j, 2)) (hj : xloc ls j = some v) (hv : xisr v = true) (kk : CX l E M d (pc + 2) ls (v :: st) h hf res) : CX l E M d pc ls (st) h hf res := ⟨kk.1, xw_aload hd hj hv kk.2⟩
theorem cx_istore_n {j : Fin 4} {x : Int32} (hd : decode M.2.1 pc = .ok (.istore_n j, 1)) (hj : j.val < M.2.2.1) (kk : CX l E M d (pc + 1) (xst ls j.val (.int x)) (st) h hf res) : CX l E M d pc ls (.int x :: st) h hf res := ⟨kk.1, xw_istore_n hd hj kk.2⟩
theorem cx_istore {j : Nat} {x : Int32} (hd : decode M.2.1 pc = .ok (.istore j, 2)) (hj : j < M.2.2.1) (kk : CX l E M d (pc + 2) (xst ls j (.int x)) (st) h hf res) : CX l E M d pc ls (.int x :: st) h hf res := ⟨kk.1, xw_istore hd hj kk.2⟩
theorem cx_lstore_n {j : Fin 4} {x : Int64} (hd : decode M.2.1 pc = .ok (.lstore_n j, 1)) (hj : j.val + 1 < M.2.2.1) (kk : CX l E M d (pc + 1) (xst2 ls j.val (.long x)) (st) h hf res) : CX l E M d pc ls (.long x :: st) h hf res := ⟨kk.1, xw_lstore_n hd hj kk.2⟩
theorem cx_lstore {j : Nat} {x : Int64} (hd : decode M.2.1 pc = .ok (.lstore j, 2)) (hj : j + 1 < M.2.2.1) (kk : CX l E M d (pc + 2) (xst2 ls j (.long x)) (st) h hf res) : CX l E M d pc ls (.long x :: st) h hf res := ⟨kk.1, xw_lstore hd hj kk.2⟩
theorem cx_astore_n {j : Fin 4} {v : Value} (hd : decode M.2.1 pc = .ok (.astore_n j, 1)) (hj : j.val < M.2.2.1) (hv : xisr v = true) (kk : CX l E M d (pc + 1) (xst ls j.val v) (st) h hf res) : CX l E M d pc ls (v :: st) h hf res := ⟨kk.1, xw_astore_n hd hj hv kk.2⟩
theorem cx_astore {j : Nat} {v : Value} (hd : decode M.2.1 pc = .ok (.astore j, 2)) (hj : j < M.2.2.1) (hv : xisr v = true) (kk : CX l E M d (pc + 2) (xst ls j v) (st) h hf res) : CX l E M d pc ls (v :: st) h hf res := ⟨kk.1, xw_astore hd hj hv kk.2⟩
theorem cx_iadd {x y : Int32} (hd : decode M.2.1 pc = .ok (.iadd, 1)) (kk : CX l E M d (pc + 1) ls (.int (x + y) :: st) h hf res) : CX l E M d pc ls (.int y :: .int x :: st) h hf res := ⟨kk.1, xw_iadd hd kk.2⟩
theorem cx_isub {x y : Int32} (hd : decode M.2.1 pc = .ok (.isub, 1)) (kk : CX l E M d (pc + 1) ls (.int (x - y) :: st) h hf res) : CX l E M d pc ls (.int y :: .int x :: st) h hf res := ⟨kk.1, xw_isub hd kk.2⟩
theorem cx_imul {x y : Int32} (hd : decode M.2.1 pc = .ok (.imul, 1)) (kk : CX l E M d (pc + 1) ls (.int (x * y) :: st) h hf res) : CX l E M d pc ls (.int y :: .int x :: st) h hf res := ⟨kk.1, xw_imul hd kk.2⟩
theorem cx_iand {x y : Int32} (hd : decode M.2.1 pc = .ok (.iand, 1)) (kk : CX l E M d (pc + 1) ls (.int (x &&& y) :: st) h hf res) : CX l E M d pc ls (.int y :: .int x :: st) h hf res := ⟨kk.1, xw_iand hd kk.2⟩
theorem cx_ior {x y : Int32} (hd : decode M.2.1 pc = .ok (.ior, 1)) (kk : CX l E M d (pc + 1) ls (.int (x ||| y) :: st) h hf res) : CX l E M d pc ls (.int y :: .int x :: st) h hf res := ⟨kk.1, xw_ior hd kk.2⟩
theorem cx_ixor {x y : Int32} (hd : decode M.2.1 pc = .ok (.ixor, 1)) (kk : CX l E M d (pc + 1) ls (.int (x ^^^ y) :: st) h hf res) : CX l E M d pc ls (.int y :: .int x :: st) h hf res := ⟨kk.1, xw_ixor hd kk.2⟩
theorem cx_ishl {x y : Int32} (hd : decode M.2.1 pc = .ok (.ishl, 1)) (kk : CX l E M d (pc + 1) ls (.int (x <<< (y &&& 31)) :: st) h hf res) : CX l E M d pc ls (.int y :: .int x :: st) h hf res := ⟨kk.1, xw_ishl hd kk.2⟩
theorem cx_ishr {x y : Int32} (hd : decode M.2.1 pc = .ok (.ishr, 1)) (kk : CX l E M d (pc + 1) ls (.int (x >>> (y &&& 31)) :: st) h hf res) : CX l E M d pc ls (.int y :: .int x :: st) h hf res := ⟨kk.1, xw_ishr hd kk.2⟩
theorem cx_idiv {x y : Int32} (hd : decode M.2.1 pc = .ok (.idiv, 1)) (hz : ¬ y = 0) (kk : CX l E M d (pc + 1) ls (.int (x / y) :: st) h hf res) : CX l E M d pc ls (.int y :: .int x :: st) h hf res := ⟨kk.1, xw_idiv hd hz kk.2⟩
theorem cx_irem {x y : Int32} (hd : decode M.2.1 pc = .ok (.irem, 1)) (hz : ¬ y = 0) (kk : CX l E M d (pc + 1) ls (.int (x - x / y * y) :: st) h hf res) : CX l E M d pc ls (.int y :: .int x :: st) h hf res := ⟨kk.1, xw_irem hd hz kk.2⟩
theorem cx_iushr {x y v : Int32} (hd : decode M.2.1 pc = .ok (.iushr, 1)) (hv : (x.toUInt32 >>> (y.toUInt32 &&& Int32.toUInt32 31)).toInt32 = v) (kk : CX l E M d (pc + 1) ls (.int v :: st) h hf res) : CX l E M d pc ls (.int y :: .int x :: st) h hf res := ⟨kk.1, xw_iushr hd hv kk.2⟩
theorem cx_ineg {x : Int32} (hd : decode M.2.1 pc = .ok (.ineg, 1)) (kk : CX l E M d (pc + 1) ls (.int (-x) :: st) h hf res) : CX l E M d pc ls (.int x :: st) h hf res := ⟨kk.1, xw_ineg hd kk.2⟩
theorem cx_lsub {x y : Int64} (hd : decode M.2.1 pc = .ok (.lsub, 1)) (kk : CX l E M d (pc + 1) ls (.long (x - y) :: st) h hf res) : CX l E M d pc ls (.long y :: .long x :: st) h hf res := ⟨kk.1, xw_lsub hd kk.2⟩
theorem cx_lor {x y : Int64} (hd : decode M.2.1 pc = .ok (.lor, 1)) (kk : CX l E M d (pc + 1) ls (.long (x ||| y) :: st) h hf res) : CX l E M d pc ls (.long y :: .long x :: st) h hf res := ⟨kk.1, xw_lor hd kk.2⟩
theorem cx_ladd {x y : Int64} (hd : decode M.2.1 pc = .ok (.ladd, 1)) (kk : CX l E M d (pc + 1) ls (.long (x + y) :: st) h hf res) : CX l E M d pc ls (.long y :: .long x :: st) h hf res := ⟨kk.1, xw_ladd hd kk.2⟩
theorem cx_lshl {x : Int64} {y : Int32} (hd : decode M.2.1 pc = .ok (.lshl, 1)) (kk : CX l E M d (pc + 1) ls (.long (x <<< (y.toInt64 &&& 63)) :: st) h hf res) : CX l E M d pc ls (.int y :: .long x :: st) h hf res := ⟨kk.1, xw_lshl hd kk.2⟩
theorem cx_i2l {x : Int32} (hd : decode M.2.1 pc = .ok (.i2l, 1)) (kk : CX l E M d (pc + 1) ls (.long x.toInt64 :: st) h hf res) : CX l E M d pc ls (.int x :: st) h hf res := ⟨kk.1, xw_i2l hd kk.2⟩
theorem cx_i2b {x : Int32} (hd : decode M.2.1 pc = .ok (.i2b, 1)) (kk : CX l E M d (pc + 1) ls (.int x.toInt8.toInt32 :: st) h hf res) : CX l E M d pc ls (.int x :: st) h hf res := ⟨kk.1, xw_i2b hd kk.2⟩
theorem cx_i2c {x : Int32} (hd : decode M.2.1 pc = .ok (.i2c, 1)) (kk : CX l E M d (pc + 1) ls (.int (x.toUInt32 % 65536).toInt32 :: st) h hf res) : CX l E M d pc ls (.int x :: st) h hf res := ⟨kk.1, xw_i2c hd kk.2⟩
theorem cx_lcmp {x y : Int64} (hd : decode M.2.1 pc = .ok (.lcmp, 1)) (kk : CX l E M d (pc + 1) ls (.int (lg_cmp x y) :: st) h hf res) : CX l E M d pc ls (.long y :: .long x :: st) h hf res := ⟨kk.1, xw_lcmp hd kk.2⟩
theorem cx_dup {v : Value} (hd : decode M.2.1 pc = .ok (.dup, 1)) (hv : v.category = 1) (kk : CX l E M d (pc + 1) ls (v :: v :: st) h hf res) : CX l E M d pc ls (v :: st) h hf res := ⟨kk.1, xw_dup hd hv kk.2⟩
theorem cx_pop {v : Value} (hd : decode M.2.1 pc = .ok (.pop, 1)) (hv : v.category = 1) (kk : CX l E M d (pc + 1) ls (st) h hf res) : CX l E M d pc ls (v :: st) h hf res := ⟨kk.1, xw_pop hd hv kk.2⟩
theorem cx_dup_x1 {v w : Value} (hd : decode M.2.1 pc = .ok (.dup_x1, 1)) (hv : v.category = 1) (hw : w.category = 1) (kk : CX l E M d (pc + 1) ls (v :: w :: v :: st) h hf res) : CX l E M d pc ls (v :: w :: st) h hf res := ⟨kk.1, xw_dup_x1 hd hv hw kk.2⟩
theorem cx_dup2 {v w : Value} (hd : decode M.2.1 pc = .ok (.dup2, 1)) (hv : v.category = 1) (hw : w.category = 1) (kk : CX l E M d (pc + 1) ls (v :: w :: v :: w :: st) h hf res) : CX l E M d pc ls (v :: w :: st) h hf res := ⟨kk.1, xw_dup2 hd hv hw kk.2⟩
theorem cx_if_eq {x : Int32} {off : Int} {tgt : Nat} {X : Prop} (hd : decode M.2.1 pc = .ok (.ifCond .eq off, 3)) (ht : (pc : Int) + off = (tgt : Int)) (kt : x = 0 → CX l E M d tgt ls st h hf res) (kf : ¬ x = 0 → CX l E M d (pc + 3) ls st h hf res) : CX l E M d pc ls (.int x :: st) h hf res := by
  refine ⟨?_, xw_if_eq hd ht (fun z => (kt z).2) (fun z => (kf z).2)⟩
  by_cases z : x = 0
  · exact (kt z).1
  · exact (kf (by first | exact z | exact Classical.not_not.mp z)).1
theorem cx_if_ne {x : Int32} {off : Int} {tgt : Nat} {X : Prop} (hd : decode M.2.1 pc = .ok (.ifCond .ne off, 3)) (ht : (pc : Int) + off = (tgt : Int)) (kt : x ≠ 0 → CX l E M d tgt ls st h hf res) (kf : x = 0 → CX l E M d (pc + 3) ls st h hf res) : CX l E M d pc ls (.int x :: st) h hf res := by
  refine ⟨?_, xw_if_ne hd ht (fun z => (kt z).2) (fun z => (kf z).2)⟩
  by_cases z : x ≠ 0
  · exact (kt z).1
  · exact (kf (by first | exact z | exact Classical.not_not.mp z)).1
theorem cx_if_lt {x : Int32} {off : Int} {tgt : Nat} {X : Prop} (hd : decode M.2.1 pc = .ok (.ifCond .lt off, 3)) (ht : (pc : Int) + off = (tgt : Int)) (kt : x < 0 → CX l E M d tgt ls st h hf res) (kf : ¬ x < 0 → CX l E M d (pc + 3) ls st h hf res) : CX l E M d pc ls (.int x :: st) h hf res := by
  refine ⟨?_, xw_if_lt hd ht (fun z => (kt z).2) (fun z => (kf z).2)⟩
  by_cases z : x < 0
  · exact (kt z).1
  · exact (kf (by first | exact z | exact Classical.not_not.mp z)).1
theorem cx_if_ge {x : Int32} {off : Int} {tgt : Nat} {X : Prop} (hd : decode M.2.1 pc = .ok (.ifCond .ge off, 3)) (ht : (pc : Int) + off = (tgt : Int)) (kt : x ≥ 0 → CX l E M d tgt ls st h hf res) (kf : ¬ x ≥ 0 → CX l E M d (pc + 3) ls st h hf res) : CX l E M d pc ls (.int x :: st) h hf res := by
  refine ⟨?_, xw_if_ge hd ht (fun z => (kt z).2) (fun z => (kf z).2)⟩
  by_cases z : x ≥ 0
  · exact (kt z).1
  · exact (kf (by first | exact z | exact Classical.not_not.mp z)).1
theorem cx_if_gt {x : Int32} {off : Int} {tgt : Nat} {X : Prop} (hd : decode M.2.1 pc = .ok (.ifCond .gt off, 3)) (ht : (pc : Int) + off = (tgt : Int)) (kt : x > 0 → CX l E M d tgt ls st h hf res) (kf : ¬ x > 0 → CX l E M d (pc + 3) ls st h hf res) : CX l E M d pc ls (.int x :: st) h hf res := by
  refine ⟨?_, xw_if_gt hd ht (fun z => (kt z).2) (fun z => (kf z).2)⟩
  by_cases z : x > 0
  · exact (kt z).1
  · exact (kf (by first | exact z | exact Classical.not_not.mp z)).1
theorem cx_if_le {x : Int32} {off : Int} {tgt : Nat} {X : Prop} (hd : decode M.2.1 pc = .ok (.ifCond .le off, 3)) (ht : (pc : Int) + off = (tgt : Int)) (kt : x ≤ 0 → CX l E M d tgt ls st h hf res) (kf : ¬ x ≤ 0 → CX l E M d (pc + 3) ls st h hf res) : CX l E M d pc ls (.int x :: st) h hf res := by
  refine ⟨?_, xw_if_le hd ht (fun z => (kt z).2) (fun z => (kf z).2)⟩
  by_cases z : x ≤ 0
  · exact (kt z).1
  · exact (kf (by first | exact z | exact Classical.not_not.mp z)).1
theorem cx_icmp_eq {x y : Int32} {off : Int} {tgt : Nat} {X : Prop} (hd : decode M.2.1 pc = .ok (.if_icmp .eq off, 3)) (ht : (pc : Int) + off = (tgt : Int)) (kt : x = y → CX l E M d tgt ls st h hf res) (kf : ¬ x = y → CX l E M d (pc + 3) ls st h hf res) : CX l E M d pc ls (.int y :: .int x :: st) h hf res := by
  refine ⟨?_, xw_icmp_eq hd ht (fun z => (kt z).2) (fun z => (kf z).2)⟩
  by_cases z : x = y
  · exact (kt z).1
  · exact (kf (by first | exact z | exact Classical.not_not.mp z)).1
theorem cx_icmp_ne {x y : Int32} {off : Int} {tgt : Nat} {X : Prop} (hd : decode M.2.1 pc = .ok (.if_icmp .ne off, 3)) (ht : (pc : Int) + off = (tgt : Int)) (kt : x ≠ y → CX l E M d tgt ls st h hf res) (kf : x = y → CX l E M d (pc + 3) ls st h hf res) : CX l E M d pc ls (.int y :: .int x :: st) h hf res := by
  refine ⟨?_, xw_icmp_ne hd ht (fun z => (kt z).2) (fun z => (kf z).2)⟩
  by_cases z : x ≠ y
  · exact (kt z).1
  · exact (kf (by first | exact z | exact Classical.not_not.mp z)).1
theorem cx_icmp_lt {x y : Int32} {off : Int} {tgt : Nat} {X : Prop} (hd : decode M.2.1 pc = .ok (.if_icmp .lt off, 3)) (ht : (pc : Int) + off = (tgt : Int)) (kt : x < y → CX l E M d tgt ls st h hf res) (kf : ¬ x < y → CX l E M d (pc + 3) ls st h hf res) : CX l E M d pc ls (.int y :: .int x :: st) h hf res := by
  refine ⟨?_, xw_icmp_lt hd ht (fun z => (kt z).2) (fun z => (kf z).2)⟩
  by_cases z : x < y
  · exact (kt z).1
  · exact (kf (by first | exact z | exact Classical.not_not.mp z)).1
theorem cx_icmp_ge {x y : Int32} {off : Int} {tgt : Nat} {X : Prop} (hd : decode M.2.1 pc = .ok (.if_icmp .ge off, 3)) (ht : (pc : Int) + off = (tgt : Int)) (kt : x ≥ y → CX l E M d tgt ls st h hf res) (kf : ¬ x ≥ y → CX l E M d (pc + 3) ls st h hf res) : CX l E M d pc ls (.int y :: .int x :: st) h hf res := by
  refine ⟨?_, xw_icmp_ge hd ht (fun z => (kt z).2) (fun z => (kf z).2)⟩
  by_cases z : x ≥ y
  · exact (kt z).1
  · exact (kf (by first | exact z | exact Classical.not_not.mp z)).1
theorem cx_icmp_gt {x y : Int32} {off : Int} {tgt : Nat} {X : Prop} (hd : decode M.2.1 pc = .ok (.if_icmp .gt off, 3)) (ht : (pc : Int) + off = (tgt : Int)) (kt : x > y → CX l E M d tgt ls st h hf res) (kf : ¬ x > y → CX l E M d (pc + 3) ls st h hf res) : CX l E M d pc ls (.int y :: .int x :: st) h hf res := by
  refine ⟨?_, xw_icmp_gt hd ht (fun z => (kt z).2) (fun z => (kf z).2)⟩
  by_cases z : x > y
  · exact (kt z).1
  · exact (kf (by first | exact z | exact Classical.not_not.mp z)).1
theorem cx_icmp_le {x y : Int32} {off : Int} {tgt : Nat} {X : Prop} (hd : decode M.2.1 pc = .ok (.if_icmp .le off, 3)) (ht : (pc : Int) + off = (tgt : Int)) (kt : x ≤ y → CX l E M d tgt ls st h hf res) (kf : ¬ x ≤ y → CX l E M d (pc + 3) ls st h hf res) : CX l E M d pc ls (.int y :: .int x :: st) h hf res := by
  refine ⟨?_, xw_icmp_le hd ht (fun z => (kt z).2) (fun z => (kf z).2)⟩
  by_cases z : x ≤ y
  · exact (kt z).1
  · exact (kf (by first | exact z | exact Classical.not_not.mp z)).1
theorem cx_iinc {j : Nat} {z : Int} {x v : Int32} (hd : decode M.2.1 pc = .ok (.iinc j z, 3)) (hj : xloc ls j = some (.int x)) (hn : j < M.2.2.1) (hv : x + Int32.ofInt z = v) (kk : CX l E M d (pc + 3) (xst ls j (.int v)) st h hf res) : CX l E M d pc ls st h hf res := ⟨kk.1, xw_iinc hd hj hn hv kk.2⟩
theorem cx_goto {off : Int} {tgt : Nat} (hd : decode M.2.1 pc = .ok (.goto off, 3)) (ht : (pc : Int) + off = (tgt : Int)) (kk : CX l E M d tgt ls st h hf res) : CX l E M d pc ls st h hf res := ⟨kk.1, xw_goto hd ht kk.2⟩
theorem cx_tableIn {dflt lo hi : Int} {offs : Array Int} {len : Nat} {x : Int32} {off : Int} {tgt : Nat} (hd : decode M.2.1 pc = .ok (.tableswitch dflt lo hi offs, len)) (g1 : ¬ x.toInt < lo) (g2 : ¬ hi < x.toInt) (ho : offs[(x.toInt - lo).toNat]? = some off) (ht : (pc : Int) + off = (tgt : Int)) (kk : CX l E M d tgt ls st h hf res) : CX l E M d pc ls (.int x :: st) h hf res := ⟨kk.1, xw_tableIn hd g1 g2 ho ht kk.2⟩
theorem cx_tableOut {dflt lo hi : Int} {offs : Array Int} {len : Nat} {x : Int32} {tgt : Nat} (hd : decode M.2.1 pc = .ok (.tableswitch dflt lo hi offs, len)) (g : x.toInt < lo ∨ hi < x.toInt) (ht : (pc : Int) + dflt = (tgt : Int)) (kk : CX l E M d tgt ls st h hf res) : CX l E M d pc ls (.int x :: st) h hf res := ⟨kk.1, xw_tableOut hd g ht kk.2⟩
theorem cx_lookup {dflt : Int} {ps : Array (Int × Int)} {len : Nat} {x : Int32} {off : Int} {tgt : Nat} (hd : decode M.2.1 pc = .ok (.lookupswitch dflt ps, len)) (hp : (ps.toList.zip (ps.toList.drop 1)).all (fun (a, next) => a.1 < next.1) = true) (ho : Op.lookupswitch.offset ps.toList dflt x.toInt = off) (ht : (pc : Int) + off = (tgt : Int)) (kk : CX l E M d tgt ls st h hf res) : CX l E M d pc ls (.int x :: st) h hf res := ⟨kk.1, xw_lookup hd hp ho ht kk.2⟩
theorem cx_acmp_ne {a b : Nat} {off : Int} {tgt : Nat} (hd : decode M.2.1 pc = .ok (.if_acmp .ne off, 3)) (ht : (pc : Int) + off = (tgt : Int)) (kt : a ≠ b → CX l E M d tgt ls st h hf res) (kf : a = b → CX l E M d (pc + 3) ls st h hf res) : CX l E M d pc ls (.ref b :: .ref a :: st) h hf res := by
  refine ⟨?_, xw_acmp_ne hd ht (fun z => (kt z).2) (fun z => (kf z).2)⟩
  by_cases z : a = b
  · exact (kf z).1
  · exact (kt z).1
theorem cx_acmp_eq {a b : Nat} {off : Int} {tgt : Nat} (hd : decode M.2.1 pc = .ok (.if_acmp .eq off, 3)) (ht : (pc : Int) + off = (tgt : Int)) (kt : a = b → CX l E M d tgt ls st h hf res) (kf : a ≠ b → CX l E M d (pc + 3) ls st h hf res) : CX l E M d pc ls (.ref b :: .ref a :: st) h hf res := by
  refine ⟨?_, xw_acmp_eq hd ht (fun z => (kt z).2) (fun z => (kf z).2)⟩
  by_cases z : a = b
  · exact (kt z).1
  · exact (kf z).1
theorem cx_ifnull {v : Value} {off : Int} {tgt : Nat} (hv : xisr v = true) (hd : decode M.2.1 pc = .ok (.ifnull off, 3)) (ht : (pc : Int) + off = (tgt : Int)) (kt : v = .null → CX l E M d tgt ls st h hf res) (kf : ¬ v = .null → CX l E M d (pc + 3) ls st h hf res) : CX l E M d pc ls (v :: st) h hf res := by
  cases v with
  | null => exact ⟨(kt rfl).1, xw_ifnull_n hd ht (kt rfl).2⟩
  | ref a => exact ⟨(kf (fun z => by cases z)).1, xw_ifnull_r hd (kf (fun z => by cases z)).2⟩
  | _ => cases hv
theorem cx_ifnonnull {v : Value} {off : Int} {tgt : Nat} (hv : xisr v = true) (hd : decode M.2.1 pc = .ok (.ifnonnull off, 3)) (ht : (pc : Int) + off = (tgt : Int)) (kt : ¬ v = .null → CX l E M d tgt ls st h hf res) (kf : v = .null → CX l E M d (pc + 3) ls st h hf res) : CX l E M d pc ls (v :: st) h hf res := by
  cases v with
  | null => exact ⟨(kf rfl).1, xw_ifnonnull_n hd (kf rfl).2⟩
  | ref a => exact ⟨(kt (fun z => by cases z)).1, xw_ifnonnull_r hd ht (kt (fun z => by cases z)).2⟩
  | _ => cases hv
theorem cx_ls {L : List (Nat × Value)} (hs : xsub L ls) (kk : CX l E M d pc L st h hf res) : CX l E M d pc ls st h hf res := ⟨kk.1, xw_ls hs kk.2⟩
theorem cx_lsK {L : List (Nat × Value)} (kk : CX l E M d pc L st h hf res) (hs : xsub L ls) : CX l E M d pc ls st h hf res := cx_ls hs kk
theorem cx_top {x y : Int32} (e : x = y) (kk : CX l E M d pc ls (.int y :: st) h hf res) : CX l E M d pc ls (.int x :: st) h hf res := by subst e; exact kk
theorem cx_topl {x y : Int64} (e : x = y) (kk : CX l E M d pc ls (.long y :: st) h hf res) : CX l E M d pc ls (.long x :: st) h hf res := by subst e; exact kk
theorem cx_topr {x y : Nat} (e : x = y) (kk : CX l E M d pc ls (.ref y :: st) h hf res) : CX l E M d pc ls (.ref x :: st) h hf res := by subst e; exact kk
theorem cx_iret {x : Int32} {ty : FieldType} (hd : decode M.2.1 pc = .ok (.ireturn, 1)) (ht : M.2.2.2.1 = some ty) (hn : narrow ty (.int x) = .int x) (hr : (.inl (some (.int x)) : XO) = res) (hh : h = hf) : CX l E M d pc ls [.int x] h hf res := by
  subst hh
  exact ⟨⟨Nat.le_refl _, Nat.le_refl _⟩, xw_iret hd ht hn ⟨hr, rfl⟩⟩
theorem cx_lret {x : Int64} (hd : decode M.2.1 pc = .ok (.lreturn, 1)) (ht : M.2.2.2.1 = some .long) (hr : (.inl (some (.long x)) : XO) = res) (hh : h = hf) : CX l E M d pc ls [.long x] h hf res := by
  subst hh
  exact ⟨⟨Nat.le_refl _, Nat.le_refl _⟩, xw_lret hd ht ⟨hr, rfl⟩⟩
theorem cx_vret (hd : decode M.2.1 pc = .ok (.return_, 1)) (ht : M.2.2.2.1 = none) (hr : (.inl none : XO) = res) (hh : h = hf) : CX l E M d pc ls [] h hf res := by
  subst hh
  exact ⟨⟨Nat.le_refl _, Nat.le_refl _⟩, xw_vret hd ht ⟨hr, rfl⟩⟩
theorem cx_aret {v : Value} {rt : FieldType} (hd : decode M.2.1 pc = .ok (.areturn, 1)) (hv : xisr v = true) (ht : M.2.2.2.1 = some rt) (hrt : (∃ nm, rt = .object nm) ∨ ∃ t, rt = .array t) (hr : (.inl (some v) : XO) = res) (hh : h = hf) : CX l E M d pc ls [v] h hf res := by
  subst hh
  exact ⟨⟨Nat.le_refl _, Nat.le_refl _⟩, xw_aret hd hv ht hrt ⟨hr, rfl⟩⟩
theorem cgI_spec {a ci i : Nat} {v : Int32} (he : cgI h a ci i = some v) (hne : ci ≠ 1000) : h.1 a = some (ci, hln h a, htg h a) ∧ h.2.1 a i = .int v := by
  unfold cgI at he
  split at he
  · rename_i c
    refine ⟨hk_of c hne, ?_⟩
    cases hv : h.2.1 a i <;> rw [hv] at he <;> first | (cases he; rfl) | (cases he)
  · cases he
theorem cgR_spec {a ci i b : Nat} (he : cgR h a ci i = some b) (hne : ci ≠ 1000) : h.1 a = some (ci, hln h a, htg h a) ∧ h.2.1 a i = .ref b := by
  unfold cgR at he
  split at he
  · rename_i c
    refine ⟨hk_of c hne, ?_⟩
    cases hv : h.2.1 a i <;> rw [hv] at he <;> first | (cases he; rfl) | (cases he)
  · cases he
theorem cgV_spec {a ci i : Nat} {v : Value} (he : cgV h a ci i = some v) (hne : ci ≠ 1000) : h.1 a = some (ci, hln h a, htg h a) ∧ h.2.1 a i = v ∧ xisr v = true := by
  unfold cgV at he
  split at he
  · rename_i c
    unfold vV at he
    split at he
    · rename_i c2
      cases he
      exact ⟨hk_of c hne, rfl, c2⟩
    · cases he
  · cases he
theorem XFld.ne {own : String} {idx ci i : Nat} (hF : XFld own idx ci i) : ci ≠ 1000 := by
  obtain ⟨_, _, _, _, _, hlt, _⟩ := hF
  omega
theorem XPut.ne {own nm : String} {idx ci i : Nat} {ty : FieldType} (hF : XPut own nm idx ci i ty) : ci ≠ 1000 := by
  obtain ⟨_, _, _, _, _, _, hlt, _⟩ := hF
  omega
theorem cx_getI {ci i idx a : Nat} {v : Int32} (hF : XFld M.1.cls idx ci i) (hd : decode M.2.1 pc = .ok (.getfield idx, 3)) (he : cgI h a ci i = some v) (kk : CX l E M d (pc + 3) ls (.int v :: st) h hf res) : CX l E M d pc ls (.ref a :: st) h hf res := ⟨kk.1, xw_getf hF hd (cgI_spec he hF.ne).1 (cgI_spec he hF.ne).2 kk.2⟩
theorem cx_getR {ci i idx a b : Nat} (hF : XFld M.1.cls idx ci i) (hd : decode M.2.1 pc = .ok (.getfield idx, 3)) (he : cgR h a ci i = some b) (kk : CX l E M d (pc + 3) ls (.ref b :: st) h hf res) : CX l E M d pc ls (.ref a :: st) h hf res := ⟨kk.1, xw_getf hF hd (cgR_spec he hF.ne).1 (cgR_spec he hF.ne).2 kk.2⟩
theorem cx_getV {ci i idx a : Nat} {v : Value} (hF : XFld M.1.cls idx ci i) (hd : decode M.2.1 pc = .ok (.getfield idx, 3)) (he : cgV h a ci i = some v) (kk : CX l E M d (pc + 3) ls (v :: st) h hf res) : CX l E M d pc ls (.ref a :: st) h hf res := ⟨kk.1, xw_getf hF hd (cgV_spec he hF.ne).1 (cgV_spec he hF.ne).2.1 kk.2⟩
/-- a String constant's field -/
theorem cx_getS {i idx a : Nat} {b : Nat} (hi : i = 0 ∧ Cond.fieldLink M.1.cls idx "java/lang/String" "value" "[B" ∈ lw_all) (hd : decode M.2.1 pc = .ok (.getfield idx, 3)) (he : cgR h a 90 i = some b) (kk : CX l E M d (pc + 3) ls (.ref b :: st) h hf res) : CX l E M d pc ls (.ref a :: st) h hf res := ⟨kk.1, xw_getS (Or.inl hi) hd (cgR_spec he (by decide)).1 (cgR_spec he (by decide)).2 kk.2⟩
theorem cx_getSc {i idx a : Nat} {b : Int32} (hi : i = 1 ∧ Cond.fieldLink M.1.cls idx "java/lang/String" "coder" "B" ∈ lw_all) (hd : decode M.2.1 pc = .ok (.getfield idx, 3)) (he : cgI h a 90 i = some b) (kk : CX l E M d (pc + 3) ls (.int b :: st) h hf res) : CX l E M d pc ls (.ref a :: st) h hf res := ⟨kk.1, xw_getS (Or.inr hi) hd (cgI_spec he (by decide)).1 (cgI_spec he (by decide)).2 kk.2⟩
theorem cpu_spec {a ci i : Nat} {v : Value} {h2 : XH} (he : cpu h a ci i v = some h2) (hne : ci ≠ 1000) : h.1 a = some (ci, hln h a, htg h a) ∧ htg h a ≠ 0 ∧ xup h a i v = h2 := by
  unfold cpu at he
  split at he
  · rename_i c
    cases he
    exact ⟨hk_of c.1 hne, c.2, rfl⟩
  · cases he
theorem cx_putI {ci i idx a : Nat} {v : Int32} {h2 : XH} (hF : XPut M.1.cls M.1.name idx ci i .int) (hd : decode M.2.1 pc = .ok (.putfield idx, 3)) (he : cpu h a ci i (.int v) = some h2) (kk : CX l E M d (pc + 3) ls st h2 hf res) : CX l E M d pc ls (.int v :: .ref a :: st) h hf res := by
  obtain ⟨g1, g2, rfl⟩ := cpu_spec he hF.ne
  exact ⟨kk.1, xw_putf hF hd g1 g2 rfl rfl kk.2⟩
theorem cx_putZ {ci i idx a : Nat} {v : Int32} {h2 : XH} {ty : FieldType} (hty : ty = .boolean ∨ ty = .byte) (hF : XPut M.1.cls M.1.name idx ci i ty) (hd : decode M.2.1 pc = .ok (.putfield idx, 3)) (he : cpZ h a ci i v = some h2) (kk : CX l E M d (pc + 3) ls st h2 hf res) : CX l E M d pc ls (.int v :: .ref a :: st) h hf res := by
  unfold cpZ at he
  split at he
  · rename_i c
    obtain ⟨g1, g2, rfl⟩ := cpu_spec he hF.ne
    refine ⟨kk.1, xw_putf hF hd g1 g2 ?_ ?_ kk.2⟩
    · rcases hty with rfl | rfl <;> rcases c with rfl | rfl <;> rfl
    · rcases hty with rfl | rfl <;> rcases c with rfl | rfl <;> rfl
  · cases he
theorem cx_putR {ci i idx a b : Nat} {h2 : XH} {ty : FieldType} (hty : (∃ nm, ty = .object nm) ∨ ∃ t, ty = .array t) (hF : XPut M.1.cls M.1.name idx ci i ty) (hd : decode M.2.1 pc = .ok (.putfield idx, 3)) (he : cpu h a ci i (.ref b) = some h2) (kk : CX l E M d (pc + 3) ls st h2 hf res) : CX l E M d pc ls (.ref b :: .ref a :: st) h hf res := by
  obtain ⟨g1, g2, rfl⟩ := cpu_spec he hF.ne
  refine ⟨kk.1, xw_putf hF hd g1 g2 ?_ ?_ kk.2⟩
  · rcases hty with ⟨nm, rfl⟩ | ⟨t, rfl⟩ <;> rfl
  · rcases hty with ⟨nm, rfl⟩ | ⟨t, rfl⟩ <;> rfl
theorem cx_putV {ci i idx a : Nat} {v : Value} {h2 : XH} {ty : FieldType} (hty : (∃ nm, ty = .object nm) ∨ ∃ t, ty = .array t) (hF : XPut M.1.cls M.1.name idx ci i ty) (hd : decode M.2.1 pc = .ok (.putfield idx, 3)) (he : cpV h a ci i v = some h2) (kk : CX l E M d (pc + 3) ls st h2 hf res) : CX l E M d pc ls (v :: .ref a :: st) h hf res := by
  unfold cpV at he
  split at he
  · rename_i c
    obtain ⟨g1, g2, rfl⟩ := cpu_spec he hF.ne
    refine ⟨kk.1, xw_putf hF hd g1 g2 ?_ ?_ kk.2⟩
    · rcases hty with ⟨nm, rfl⟩ | ⟨t, rfl⟩ <;> cases v <;> first | rfl | (cases c)
    · rcases hty with ⟨nm, rfl⟩ | ⟨t, rfl⟩ <;> cases v <;> first | rfl | (cases c)
  · cases he
theorem cai_spec {a k : Nat} {x : Int32} {o : Option Value → Prop} (hne : k ≠ 1000) (c : hk h a = k ∧ ¬ (x < 0 ∨ hln h a ≤ x.toNatClampNeg)) : h.1 a = some (k, hln h a, htg h a) ∧ vp_in x (hln h a) := ⟨hk_of c.1 hne, c.2⟩
theorem caI_spec {a k : Nat} {x v : Int32} (he : caI h a k x = some v) (hne : k ≠ 1000) : h.1 a = some (k, hln h a, htg h a) ∧ vp_in x (hln h a) ∧ h.2.1 a x.toNatClampNeg = .int v := by
  unfold caI at he
  split at he
  · rename_i c
    refine ⟨hk_of c.1 hne, c.2, ?_⟩
    cases hv : h.2.1 a x.toNatClampNeg <;> rw [hv] at he <;> first | (cases he; rfl) | (cases he)
  · cases he
theorem caL_spec {a : Nat} {x : Int32} {v : Int64} (he : caL h a x = some v) : h.1 a = some (103, hln h a, htg h a) ∧ vp_in x (hln h a) ∧ h.2.1 a x.toNatClampNeg = .long v := by
  unfold caL at he
  split at he
  · rename_i c
    refine ⟨hk_of c.1 (by decide), c.2, ?_⟩
    cases hv : h.2.1 a x.toNatClampNeg <;> rw [hv] at he <;> first | (cases he; rfl) | (cases he)
  · cases he
theorem caR_spec {a k b : Nat} {x : Int32} (he : caR h a k x = some b) (hne : k ≠ 1000) : h.1 a = some (k, hln h a, htg h a) ∧ vp_in x (hln h a) ∧ h.2.1 a x.toNatClampNeg = .ref b := by
  unfold caR at he
  split at he
  · rename_i c
    refine ⟨hk_of c.1 hne, c.2, ?_⟩
    cases hv : h.2.1 a x.toNatClampNeg <;> rw [hv] at he <;> first | (cases he; rfl) | (cases he)
  · cases he
theorem cx_iald {a : Nat} {x v : Int32} (hd : decode M.2.1 pc = .ok (.iaload, 1)) (he : caI h a 100 x = some v) (kk : CX l E M d (pc + 1) ls (.int v :: st) h hf res) : CX l E M d pc ls (.int x :: .ref a :: st) h hf res := by
  obtain ⟨g1, g2, g3⟩ := caI_spec he (by decide)
  exact ⟨kk.1, xw_iald hd g1 g2 g3 kk.2⟩
theorem cx_bald {a : Nat} {x v : Int32} (hd : decode M.2.1 pc = .ok (.baload, 1)) (he : caI h a 101 x = some v) (kk : CX l E M d (pc + 1) ls (.int v :: st) h hf res) : CX l E M d pc ls (.int x :: .ref a :: st) h hf res := by
  obtain ⟨g1, g2, g3⟩ := caI_spec he (by decide)
  exact ⟨kk.1, xw_bald hd g1 g2 g3 kk.2⟩
theorem cx_lald {a : Nat} {x : Int32} {v : Int64} (hd : decode M.2.1 pc = .ok (.laload, 1)) (he : caL h a x = some v) (kk : CX l E M d (pc + 1) ls (.long v :: st) h hf res) : CX l E M d pc ls (.int x :: .ref a :: st) h hf res := by
  obtain ⟨g1, g2, g3⟩ := caL_spec he
  exact ⟨kk.1, xw_lald hd g1 g2 g3 kk.2⟩
theorem cx_aald {a b : Nat} {x : Int32} (t : Nat) (ht : 4 ≤ t ∧ t < 8) (hd : decode M.2.1 pc = .ok (.aaload, 1)) (he : caR h a (100 + t) x = some b) (kk : CX l E M d (pc + 1) ls (.ref b :: st) h hf res) : CX l E M d pc ls (.int x :: .ref a :: st) h hf res := by
  obtain ⟨g1, g2, g3⟩ := caR_spec he (by omega)
  exact ⟨kk.1, xw_aald ht hd g1 g2 g3 kk.2⟩
theorem csu_spec {a k : Nat} {x : Int32} {v : Value} {h2 : XH} (he : csu h a k x v = some h2) (hne : k ≠ 1000) : h.1 a = some (k, hln h a, htg h a) ∧ htg h a ≠ 0 ∧ vp_in x (hln h a) ∧ xup h a x.toNatClampNeg v = h2 := by
  unfold csu at he
  split at he
  · rename_i c
    cases he
    exact ⟨hk_of c.1 hne, c.2.1, c.2.2, rfl⟩
  · cases he
theorem cx_iast {a : Nat} {x v : Int32} {h2 : XH} (hd : decode M.2.1 pc = .ok (.iastore, 1)) (he : csu h a 100 x (.int v) = some h2) (kk : CX l E M d (pc + 1) ls st h2 hf res) : CX l E M d pc ls (.int v :: .int x :: .ref a :: st) h hf res := by
  obtain ⟨g1, g2, g3, rfl⟩ := csu_spec he (by decide)
  exact ⟨kk.1, xw_iast hd g1 g2 g3 kk.2⟩
theorem cx_bast {a : Nat} {x v : Int32} {h2 : XH} (hd : decode M.2.1 pc = .ok (.bastore, 1)) (he : csu h a 101 x (.int v.toInt8.toInt32) = some h2) (kk : CX l E M d (pc + 1) ls st h2 hf res) : CX l E M d pc ls (.int v :: .int x :: .ref a :: st) h hf res := by
  obtain ⟨g1, g2, g3, rfl⟩ := csu_spec he (by decide)
  exact ⟨kk.1, xw_bast hd g1 g2 g3 kk.2⟩
theorem cx_last {a : Nat} {x : Int32} {v : Int64} {h2 : XH} (hd : decode M.2.1 pc = .ok (.lastore, 1)) (he : csu h a 103 x (.long v) = some h2) (kk : CX l E M d (pc + 1) ls st h2 hf res) : CX l E M d pc ls (.long v :: .int x :: .ref a :: st) h hf res := by
  obtain ⟨g1, g2, g3, rfl⟩ := csu_spec he (by decide)
  exact ⟨kk.1, xw_last hd g1 g2 g3 kk.2⟩
theorem cob_obj {b : Nat} (c : hk h b = 2 ∨ hk h b = 6 ∨ hk h b = 7 ∨ hk h b = 8 ∨ hk h b = 9 ∨ hk h b = 11 ∨ (hk h b = 100 ∧ htg h b ≠ 0)) : h.1 b = some (hk h b, hln h b, htg h b) ∧ (htg h b ≠ 0 ∨ hk h b < 100) ∧ XObj (hk h b) := by
  have hne : hk h b ≠ 1000 := by omega
  refine ⟨hk_of rfl hne, by omega, ?_⟩
  rcases c with c | c | c | c | c | c | ⟨c, -⟩ <;> rw [c]
  · exact Or.inl ⟨RX3, Or.inl ⟨by decide, TX3, 10, rfl⟩, q2329⟩
  · exact Or.inl ⟨RX7, Or.inl ⟨by decide, TX7, 2, rfl⟩, q2335⟩
  · exact Or.inl ⟨RX8, Or.inl ⟨by decide, TX8, 1, rfl⟩, q2336⟩
  · exact Or.inl ⟨RX9, Or.inl ⟨by decide, TX9, 1, rfl⟩, q2337⟩
  · exact Or.inl ⟨RX10, Or.inl ⟨by decide, TX10, 1, rfl⟩, q2339⟩
  · exact Or.inl ⟨RJ14, Or.inl ⟨by decide, TJ14, 1, rfl⟩, q2334⟩
  · exact Or.inr ⟨rfl, q2344⟩
theorem cx_aastO {a b : Nat} {x : Int32} {h2 : XH} (hd : decode M.2.1 pc = .ok (.aastore, 1)) (he : csO h a x b = some h2) (kk : CX l E M d (pc + 1) ls st h2 hf res) : CX l E M d pc ls (.ref b :: .int x :: .ref a :: st) h hf res := by
  unfold csO at he
  split at he
  · rename_i c
    obtain ⟨g1, g2, g3, rfl⟩ := csu_spec he (by decide)
    obtain ⟨w1, w2, w3⟩ := cob_obj c
    exact ⟨kk.1, xw_aastO hd g1 g2 g3 w1 w2 w3 kk.2⟩
  · cases he
theorem cx_aastN {a : Nat} {x : Int32} {h2 : XH} (hd : decode M.2.1 pc = .ok (.aastore, 1)) (he : csu h a 104 x .null = some h2) (kk : CX l E M d (pc + 1) ls st h2 hf res) : CX l E M d pc ls (.null :: .int x :: .ref a :: st) h hf res := by
  obtain ⟨g1, g2, g3, rfl⟩ := csu_spec he (by decide)
  exact ⟨kk.1, xw_aastN (t := 4) (by decide) rfl hd g1 g2 g3 kk.2⟩
theorem cx_aastS {a b : Nat} {x : Int32} {h2 : XH} (hd : decode M.2.1 pc = .ok (.aastore, 1)) (he : csS h a x b = some h2) (kk : CX l E M d (pc + 1) ls st h2 hf res) : CX l E M d pc ls (.ref b :: .int x :: .ref a :: st) h hf res := by
  unfold csS at he
  split at he
  · rename_i c
    obtain ⟨g1, g2, g3, rfl⟩ := csu_spec he (by decide)
    exact ⟨kk.1, xw_aastS hd g1 g2 g3 (hk_of c (by decide)) kk.2⟩
  · cases he
theorem cx_alen {a : Nat} {x : Int32} (hd : decode M.2.1 pc = .ok (.arraylength, 1)) (he : cal h a = some x) (kk : CX l E M d (pc + 1) ls (.int x :: st) h hf res) : CX l E M d pc ls (.ref a :: st) h hf res := by
  unfold cal at he
  split at he
  · rename_i c
    cases he
    have h1 := hk_of (h := h) (a := a) rfl (show hk h a ≠ 1000 by omega)
    have e : hk h a = 100 + (hk h a - 100) := by omega
    exact ⟨kk.1, xw_alen (t := hk h a - 100) (by omega) hd (by rw [← e]; exact h1) kk.2⟩
  · cases he
theorem cx_new {ci N idx : Nat} {f : Nat → Value} {h2 : XH} (t : Nat) (hF : XNew M.1.cls idx ci N f) (hd : decode M.2.1 pc = .ok (.new idx, 3)) (he : xnew h ci N t N f = h2) (kk : CX l E M d (pc + 3) ls (.ref h.2.2.1 :: st) h2 hf res) : CX l E M d pc ls st h hf res := by
  subst he
  have g1 : h.2.2.1 + 1 ≤ hf.2.2.1 := kk.1.1
  have g2 : h.2.2.2 + N ≤ hf.2.2.2 := kk.1.2
  refine ⟨⟨by omega, by omega⟩, xw_new t (hf.2.2.1 - (h.2.2.1 + 1)) (hf.2.2.2 - (h.2.2.2 + N)) hF hd (by omega) (by omega) kk.2⟩
theorem cx_newa {atype : ArrayType} {x : Int32} {h2 : XH} (t tag : Nat) (ht4 : t < 4) (hw : Cond.arrayClass (xty t) ∈ lw_all) (hty : newarray.typeOf atype = xty t) (hd : decode M.2.1 pc = .ok (.newarray atype, 2)) (he : cna h t tag x = some h2) (kk : CX l E M d (pc + 2) ls (.ref h.2.2.1 :: st) h2 hf res) : CX l E M d pc ls (.int x :: st) h hf res := by
  unfold cna at he
  split at he
  · cases he
  · rename_i c
    cases he
    have g1 : h.2.2.1 + 1 ≤ hf.2.2.1 := kk.1.1
    have g2 : h.2.2.2 + x.toNatClampNeg ≤ hf.2.2.2 := kk.1.2
    exact ⟨⟨by omega, by omega⟩, xw_newa tag t (hf.2.2.1 - (h.2.2.1 + 1)) (hf.2.2.2 - (h.2.2.2 + x.toNatClampNeg)) ht4 hw hty hd (fun z => c (Or.inl z)) rfl (by have := fun z => c (Or.inr z); omega) (by omega) (by omega) kk.2⟩
theorem cx_anew {idx : Nat} {x : Int32} {h2 : XH} {C : String} (t tag : Nat) (ht : t = 4 ∨ t = 5) (hty : xty t = .object C) (hw : Cond.classLink M.1.cls idx C ∈ lw_all) (hv : Cond.arrayOver (.object C) ∈ lw_tbl) (hd : decode M.2.1 pc = .ok (.anewarray idx, 3)) (he : cnr h t tag x = some h2) (kk : CX l E M d (pc + 3) ls (.ref h.2.2.1 :: st) h2 hf res) : CX l E M d pc ls (.int x :: st) h hf res := by
  unfold cnr at he
  split at he
  · cases he
  · rename_i c
    cases he
    have g1 : h.2.2.1 + 1 ≤ hf.2.2.1 := kk.1.1
    have g2 : h.2.2.2 + x.toNatClampNeg ≤ hf.2.2.2 := kk.1.2
    exact ⟨⟨by omega, by omega⟩, xw_anew tag t (hf.2.2.1 - (h.2.2.1 + 1)) (hf.2.2.2 - (h.2.2.2 + x.toNatClampNeg)) ht hty hw hv hd (fun z => c (Or.inl z)) rfl (by have := fun z => c (Or.inr z); omega) (by omega) (by omega) kk.2⟩
theorem cx_multi {idx : Nat} {x y : Int32} {h2 : XH} (t1 t2 : Nat) (hlk : Cond.classLink M.1.cls idx "[[I" ∈ lw_all) (hov : Cond.arrayOver (.array .int) ∈ lw_tbl) (har : Cond.arrayClass .int ∈ lw_all) (hd : decode M.2.1 pc = .ok (.multianewarray idx 2, 4)) (he : cng h t1 t2 x y = some h2) (kk : CX l E M d (pc + 4) ls (.ref h.2.2.1 :: st) h2 hf res) : CX l E M d pc ls (.int y :: .int x :: st) h hf res := by
  unfold cng at he
  split at he
  · cases he
  · rename_i c
    cases he
    have g1 : h.2.2.1 + 1 + x.toNatClampNeg ≤ hf.2.2.1 := kk.1.1
    have g2 : h.2.2.2 + (x.toNatClampNeg + x.toNatClampNeg * y.toNatClampNeg) ≤ hf.2.2.2 := kk.1.2
    have c1 : ¬ x < 0 := fun z => c (Or.inl z)
    have c2 : ¬ y < 0 := fun z => c (Or.inr (Or.inl z))
    have c3 : ¬ 60000000 < x.toNatClampNeg := fun z => c (Or.inr (Or.inr (Or.inl z)))
    have c4 : ¬ 60000000 < y.toNatClampNeg := fun z => c (Or.inr (Or.inr (Or.inr z)))
    exact ⟨⟨by omega, by omega⟩, xw_multi t1 t2 (hf.2.2.1 - (h.2.2.1 + 1 + x.toNatClampNeg)) (hf.2.2.2 - (h.2.2.2 + (x.toNatClampNeg + x.toNatClampNeg * y.toNatClampNeg))) hlk hov har hd c1 c2 rfl rfl (by omega) (by omega) (by omega) (by omega) kk.2⟩
theorem cx_tag {a t : Nat} {h2 : XH} (he : ctag h a t = some h2) (kk : CX l E M d pc ls st h2 hf res) : CX l E M d pc ls st h hf res := by
  unfold ctag at he
  split at he
  · rename_i c
    cases he
    have hx : ∃ k0 n0, h.1 a = some (k0, n0, htg h a) := by
      unfold htg at c ⊢
      cases hq : h.1 a with
      | none => rw [hq] at c; exact absurd rfl c
      | some q => exact ⟨q.1, q.2.1, rfl⟩
    obtain ⟨k0, n0, hx⟩ := hx
    refine ⟨kk.1, ?_⟩
    intro p e R s m args below meth c9 H locs cells slots kc ks Z la hC h1 h2 h3 h4 hR hS hl hG
    exact kk.2 p e R s m args below meth c9 H locs cells slots kc ks Z la hC h1 h2 h3 h4 (hR.tag hx c) hS hl hG
  · cases he
    exact kk
theorem ckd_spec {a k : Nat} {u : Unit} (he : ckd h a k = some u) : hk h a = k := by
  unfold ckd at he
  split at he
  · assumption
  · cases he
theorem cx_castO {idx ci a : Nat} {u : Unit} (hX : XCast M.1.cls idx ci) (hd : decode M.2.1 pc = .ok (.checkcast idx, 3)) (hne : ci ≠ 1000) (he : ckd h a ci = some u) (kk : CX l E M d (pc + 3) ls (.ref a :: st) h hf res) : CX l E M d pc ls (.ref a :: st) h hf res := ⟨kk.1, xw_cast hX hd (hk_of (ckd_spec he) hne) kk.2⟩
theorem cx_castI {idx a : Nat} {u : Unit} (hlk : Cond.classLink M.1.cls idx "[I" ∈ lw_all) (hd : decode M.2.1 pc = .ok (.checkcast idx, 3)) (he : ckt h a 100 = some u) (kk : CX l E M d (pc + 3) ls (.ref a :: st) h hf res) : CX l E M d pc ls (.ref a :: st) h hf res := by
  unfold ckt at he
  split at he
  · rename_i c
    exact ⟨kk.1, xw_castI hlk hd (hk_of c.1 (by decide)) c.2 kk.2⟩
  · cases he
theorem cx_castO4 {idx a : Nat} {u : Unit} (hlk : Cond.classLink M.1.cls idx "[Ljava/lang/Object;" ∈ lw_all) (hd : decode M.2.1 pc = .ok (.checkcast idx, 3)) (he : ckd h a 104 = some u) (kk : CX l E M d (pc + 3) ls (.ref a :: st) h hf res) : CX l E M d pc ls (.ref a :: st) h hf res := ⟨kk.1, xw_castO4 hlk hd (hk_of (ckd_spec he) (by decide)) kk.2⟩
theorem cx_castF {idx a : Nat} {u : Unit} (h6 : XCast M.1.cls idx 6) (h7 : XCast M.1.cls idx 7) (h8 : XCast M.1.cls idx 8) (h9 : XCast M.1.cls idx 9) (hd : decode M.2.1 pc = .ok (.checkcast idx, 3)) (he : cfo h a = some u) (kk : CX l E M d (pc + 3) ls (.ref a :: st) h hf res) : CX l E M d pc ls (.ref a :: st) h hf res := by
  unfold cfo at he
  split at he
  · rename_i c
    rcases c with c | c | c | c
    · exact ⟨kk.1, xw_cast h6 hd (hk_of c (by decide)) kk.2⟩
    · exact ⟨kk.1, xw_cast h7 hd (hk_of c (by decide)) kk.2⟩
    · exact ⟨kk.1, xw_cast h8 hd (hk_of c (by decide)) kk.2⟩
    · exact ⟨kk.1, xw_cast h9 hd (hk_of c (by decide)) kk.2⟩
  · cases he
theorem cx_gets {C nm ds ref : String} {v : Value} {idx : Nat} (hZ : (C, nm, ds, v) ∈ xstl E) (hlk : Cond.fieldLink M.1.cls idx ref nm ds ∈ lw_all) (hsm : ref = C ∨ Cond.sameField ref C nm ds ∈ lw_all) (hd : decode M.2.1 pc = .ok (.getstatic idx, 3)) (kk : CX l E M d (pc + 3) ls (v :: st) h hf res) : CX l E M d pc ls st h hf res := ⟨kk.1, xw_gets hZ hlk hsm hd kk.2⟩
theorem cx_val {v w : Value} (e : v = w) (kk : CX l E M d pc ls (w :: st) h hf res) : CX l E M d pc ls (v :: st) h hf res := by subst e; exact kk
theorem vR_spec {v : Value} {a : Nat} (he : vR v = some a) : v = .ref a := by
  cases v <;> first | (cases he; rfl) | (cases he)
theorem vV_spec {v w : Value} (he : vV v = some w) : v = w ∧ xisr w = true := by
  unfold vV at he
  split at he
  · rename_i c
    cases he
    exact ⟨rfl, c⟩
  · cases he
theorem cx_ldcS {i idx a : Nat} {tx : String} (hi : xstr[i]? = some (M.1.cls, idx, tx)) (hd : decode M.2.1 pc = .ok (.ldc idx, 2)) (he : vR (E.2.2.2 i) = some a) (kk : CX l E M d (pc + 2) ls (.ref a :: st) h hf res) : CX l E M d pc ls st h hf res := ⟨kk.1, xw_ldcS hi (vR_spec he) hd kk.2⟩
theorem cx_ldcM {idx a : Nat} {C : String} {i : Nat} (hC9 : (C = "[Ljava/lang/Object;" ∧ i = 30) ∨ (C = "java/util/ArrayList" ∧ i = 31)) (hlk : Cond.classLink M.1.cls idx C ∈ lw_all) (hd : decode M.2.1 pc = .ok (.ldc idx, 2)) (he : vR (E.2.2.2 i) = some a) (kk : CX l E M d (pc + 2) ls (.ref a :: st) h hf res) : CX l E M d pc ls st h hf res := ⟨kk.1, xw_ldcM (by rcases hC9 with ⟨e, rfl⟩ | ⟨e, rfl⟩; exact Or.inl ⟨e, vR_spec he⟩; exact Or.inr ⟨e, vR_spec he⟩) hlk hd kk.2⟩
theorem ckt_spec {a k : Nat} {u : Unit} (he : ckt h a k = some u) : hk h a = k ∧ htg h a ≠ 0 := by
  unfold ckt at he
  split at he
  · assumption
  · cases he
theorem cx_getCI {idx count a b : Nat} {u : Unit} (hlk : Cond.methodLink M.1.cls idx xCG ∈ lw_all) (hif : Cond.interfaceMethod "java/util/Collection" "java/lang/Object" "getClass" "()Ljava/lang/Class;" ∈ lw_tbl) (hse : Cond.selects "java/util/ArrayList" xGC xGC ∈ lw_all) (hin : Cond.instanceMethod xGC ∈ lw_all) (hna : Cond.native xGC ∈ lw_all) (hpu : Cond.publicMethod xGC ∈ lw_tbl) (hun : Cond.unhidden "java/util/ArrayList" "getClass" "()Ljava/lang/Class;" ∈ lw_tbl) (hca : Cond.castable "java/util/ArrayList" "java/util/Collection" ∈ lw_tbl) (hd : decode M.2.1 pc = .ok (.invokeinterface idx count, 5)) (he : ckd h b 10 = some u) (ha : vR (E.2.2.2 31) = some a) (hdd : 1 ≤ d) (hst : (st.map fun v => v.category).sum ≤ 8) (kk : CX l E M d (pc + 5) ls (.ref a :: st) h hf res) : CX l E M d pc ls (.ref b :: st) h hf res := ⟨kk.1, xw_getCI (vR_spec ha) hlk hif hse hin hna hpu hun hca hd (hk_of (ckd_spec he) (by decide)) hdd hst kk.2⟩
theorem cx_getCo {idx a b : Nat} {u : Unit} (hlk : Cond.methodLink M.1.cls idx xGC ∈ lw_all) (hse : Cond.selects "[Ljava/lang/Object;" xGC xGC ∈ lw_all) (hin : Cond.instanceMethod xGC ∈ lw_all) (hna : Cond.native xGC ∈ lw_all) (hd : decode M.2.1 pc = .ok (.invokevirtual idx, 3)) (he : ckd h b 104 = some u) (ha : vR (E.2.2.2 30) = some a) (hdd : 1 ≤ d) (hst : (st.map fun v => v.category).sum ≤ 8) (kk : CX l E M d (pc + 3) ls (.ref a :: st) h hf res) : CX l E M d pc ls (.ref b :: st) h hf res := ⟨kk.1, xw_getC (Or.inl ⟨rfl, vR_spec ha, rfl⟩) hlk hse hin hna hd (hk_of (ckd_spec he) (by decide)) hdd hst kk.2⟩
theorem ccO_spec {a b : Nat} {sp dp cnt : Int32} {h2 : XH} (he : ccO h a b sp dp cnt = some h2) : (hk h a = 104 ∧ hk h b = 104 ∧ htg h b ≠ 0 ∧ ¬ sp < 0 ∧ ¬ dp < 0 ∧ ¬ cnt < 0 ∧ sp.toNatClampNeg + cnt.toNatClampNeg ≤ hln h a ∧ dp.toNatClampNeg + cnt.toNatClampNeg ≤ hln h b) ∧ (∀ i, i < cnt.toNatClampNeg → h.2.1 a (sp.toNatClampNeg + i) = .null ∨ ∃ y ci n2 t2, h.2.1 a (sp.toNatClampNeg + i) = .ref y ∧ h.1 y = some (ci, n2, t2) ∧ (t2 ≠ 0 ∨ ci < 100) ∧ XObj ci) ∧ xcpy h a b sp.toNatClampNeg dp.toNatClampNeg cnt.toNatClampNeg = h2 := by
  unfold ccO at he
  split at he
  · rename_i c
    split at he
    · rename_i c2
      cases he
      refine ⟨c, fun i hi => ?_, rfl⟩
      have z := List.all_eq_true.mp c2 i (List.mem_range.mpr hi)
      cases hv : h.2.1 a (sp.toNatClampNeg + i) with
      | null => exact Or.inl rfl
      | ref y =>
        rw [hv] at z
        simp only [Bool.or_eq_true, Bool.and_eq_true, beq_iff_eq, bne_iff_ne, ne_eq] at z
        obtain ⟨w1, w2, w3⟩ := cob_obj (h := h) (b := y) (by omega)
        exact Or.inr ⟨y, _, _, _, rfl, w1, w2, w3⟩
      | _ => rw [hv] at z; cases z
    · cases he
  · cases he
theorem cx_copyO {idx a b : Nat} {sp dp cnt : Int32} {h2 : XH} (hlk : Cond.methodLink M.1.cls idx arraycopyName ∈ lw_all) (hnat : Cond.native arraycopyName ∈ lw_all) (hsta : Cond.static arraycopyName ∈ lw_all) (hini : Cond.initialized "java/lang/System" ∈ lw_all) (hd : decode M.2.1 pc = .ok (.invokestatic idx, 3)) (he : ccO h a b sp dp cnt = some h2) (hdd : 1 ≤ d) (hst : (st.map fun v => v.category).sum ≤ 8) (kk : CX l E M d (pc + 3) ls st h2 hf res) : CX l E M d pc ls (.int cnt :: .int dp :: .ref b :: .int sp :: .ref a :: st) h hf res := by
  obtain ⟨⟨c1, c2, c3, c4, c5, c6, c7, c8⟩, g, rfl⟩ := ccO_spec he
  exact ⟨kk.1, xw_copyO hlk hnat hsta hini hd (hk_of c1 (by decide)) (hk_of c2 (by decide)) c3 c4 c5 c6 c7 c8 g hdd hst kk.2⟩
theorem cx_copyB {idx a b : Nat} {sp dp cnt : Int32} {h2 : XH} (hlk : Cond.methodLink M.1.cls idx arraycopyName ∈ lw_all) (hnat : Cond.native arraycopyName ∈ lw_all) (hsta : Cond.static arraycopyName ∈ lw_all) (hini : Cond.initialized "java/lang/System" ∈ lw_all) (hd : decode M.2.1 pc = .ok (.invokestatic idx, 3)) (he : ccB h a b sp dp cnt = some h2) (hdd : 1 ≤ d) (hst : (st.map fun v => v.category).sum ≤ 8) (kk : CX l E M d (pc + 3) ls st h2 hf res) : CX l E M d pc ls (.int cnt :: .int dp :: .ref b :: .int sp :: .ref a :: st) h hf res := by
  unfold ccB at he
  split at he
  · rename_i c
    split at he
    · rename_i g
      cases he
      obtain ⟨c1, c2, c3, c4, c5, c6, c7, c8⟩ := c
      exact ⟨kk.1, xw_copyB hlk hnat hsta hini hd (hk_of c1 (by decide)) (hk_of c2 (by decide)) c3 c4 c5 c6 c7 c8 (fun i hi => List.all_eq_true.mp g i (List.mem_range.mpr hi)) hdd hst kk.2⟩
    · cases he
  · cases he
theorem cx_objInit {idx b : Nat} (hlk : Cond.methodLink M.1.cls idx Lib.objectInit ∈ lw_all) (hin : Cond.instanceMethod Lib.objectInit ∈ lw_all) (hcd : Cond.code Lib.objectInit ⟨#[0xb1]⟩ 1 none ∈ lw_all) (hd : decode M.2.1 pc = .ok (.invokespecial idx, 3)) (hdd : 1 ≤ d) (hst : (st.map fun v => v.category).sum ≤ 8) (kk : CX l E M d (pc + 3) ls st h hf res) : CX l E M d pc ls (.ref b :: st) h hf res := ⟨kk.1, xw_objInit hlk hin hcd hd hdd hst kk.2⟩
/-- a throwable of the JDK's made -/
def cmk (h : XH) (ci tag : Nat) : XH := xnew h ci 0 tag 6 (fun _ => .null)
theorem cx_make0 {cls : String} {names : List String} {ik ic ci : Nat} {T0 : u_T} {h2 : XH} (tt : Nat) (hci : ci < 90) (hc : xcl[ci]? = some (cls, T0, 0)) (hcls : Bundle.fit cls = true) (hnames : ∀ n ∈ names, Bundle.fit n = true) (hk0 : Cond.classLink M.1.cls ik cls ∈ lw_all) (hini0 : Cond.initialized cls ∈ lw_all) (hat0 : ∀ w ∈ vx_at0 M.1.cls ic cls names, w ∈ lw_all ∨ (w ∈ lw_tbl ∧ xwarm w = true)) (hgood : ∀ w ∈ Cond.classLink M.1.cls ik cls :: Cond.initialized cls :: vx_at0 M.1.cls ic cls names, vx_ot w = true)
    (d0 : decode M.2.1 pc = .ok (.new ik, 3)) (d3 : decode M.2.1 (pc + 3) = .ok (.dup, 1)) (d4 : decode M.2.1 (pc + 4) = .ok (.invokespecial ic, 3)) (hdd : names.length + 4 ≤ d) (hst : (st.map fun v => v.category).sum ≤ 8) (hnl : names.length ≤ 3) (he : cmk h ci tt = h2)
    (kk : CX l E M d (pc + 7) ls (.ref h.2.2.1 :: st) h2 hf res) : CX l E M d pc ls st h hf res := by
  subst he
  have g1 : h.2.2.1 + 1 ≤ hf.2.2.1 := kk.1.1
  have g2 : h.2.2.2 + 6 ≤ hf.2.2.2 := kk.1.2
  exact ⟨⟨by omega, by omega⟩, xw_make0 tt (hf.2.2.1 - (h.2.2.1 + 1)) (hf.2.2.2 - (h.2.2.2 + 6)) hci hc hcls hnames hk0 hini0 hat0 hgood d0 d3 d4 hdd hst hnl (by omega) (by omega) kk.2⟩
theorem cx_athrow {q ci : Nat} {u : Unit} {C : String} {T : u_T} {N : Nat} (hd : decode M.2.1 pc = .ok (.athrow, 1)) (hlt : ci < 90) (hc : xcl[ci]? = some (C, T, N)) (he : ckd h q ci = some u) (kk : CT l E M d pc ls C q h hf res) : CX l E M d pc ls (.ref q :: st) h hf res := ⟨kk.1, xw_athrow hd (hk_of (ckd_spec he) (by omega)) hlt hc kk.2⟩
theorem ct_out {C : String} {q : Nat} (hr : (.inr (C, q) : XO) = res) (hh : h = hf) (hc : ∀ x ∈ tableOf M.2.2.2.2, covers x pc = false) : CT l E M d pc ls C q h hf res := by
  subst hh
  exact ⟨⟨Nat.le_refl _, Nat.le_refl _⟩, xt_out ⟨hr, rfl⟩ hc⟩
theorem ct_catch {C name : String} {q : Nat} (pre suf : List ExceptionTableEntry) (x : ExceptionTableEntry) (hsp : tableOf M.2.2.2.2 = pre ++ x :: suf) (hpre : ∀ z ∈ pre, covers z pc = false ∨ (z.catchType ≠ 0 ∧ ∃ nm : String, Cond.classLink M.1.cls z.catchType nm ∈ lw_all ∧ va_Nc C nm E.1)) (hx : covers x pc = true) (h0 : x.catchType ≠ 0) (hlk : Cond.classLink M.1.cls x.catchType name ∈ lw_all) (hca : Cond.castable C name ∈ lw_tbl) (kk : CX l E M d x.handlerPc ls [.ref q] h hf res) : CT l E M d pc ls C q h hf res := ⟨kk.1, xt_catch pre suf x hsp hpre hx h0 hlk hca kk.2⟩
section CXCALL
variable {M' : XMeth} {idx np d' : Nat} {As : List Value} {h1 : XH}
theorem cx_st {C : String} {q : Nat} (kx : CT l E M d pc ls C q h hf res) : XT l E M d (hf.2.2.1 - h.2.2.1) (hf.2.2.2 - h.2.2.2) pc ls C q h (fun o h' => o = res ∧ h' = hf) := kx.2
/-- what comes back from a callee: the counters -/
theorem cx_cnt {h h1 hf : XH} (a : h.2.2.1 ≤ h1.2.2.1 ∧ h.2.2.2 ≤ h1.2.2.2) (b : h1.2.2.1 ≤ hf.2.2.1 ∧ h1.2.2.2 ≤ hf.2.2.2) : (h.2.2.1 ≤ hf.2.2.1 ∧ h.2.2.2 ≤ hf.2.2.2) ∧ (h1.2.2.1 - h.2.2.1) + (hf.2.2.1 - h1.2.2.1) ≤ hf.2.2.1 - h.2.2.1 ∧ (h1.2.2.2 - h.2.2.2) + (hf.2.2.2 - h1.2.2.2) ≤ hf.2.2.2 - h.2.2.2 := by omega
theorem cx_callV {ci b : Nat} {u : Unit} {v : Option Value} (hr : XRcv ci M'.1.cls) (hX : CM l E M' d' (.ref b :: As) h (.inl v) h1) (hL : XLkV M.1.cls idx M') (hc : XCd M' np) (hd : decode M.2.1 pc = .ok (.invokevirtual idx, 3)) (he : ckd h b ci = some u) (hne : ci ≠ 1000) (hn : As.length = np) (hdd : d' + 1 ≤ d) (hst : (st.map fun v => v.category).sum ≤ 8) (kk : CX l E M d (pc + 3) ls (v.toList ++ st) h1 hf res) : CX l E M d pc ls (As.reverse ++ .ref b :: st) h hf res := by
  obtain ⟨g1, g2, g3⟩ := cx_cnt hX.1 kk.1
  refine ⟨g1, xw_callV (hX.2) hL hc hd (hk_of (ckd_spec he) hne) hr hn hdd g2 g3 hst (fun v' h' hq => ?_) (fun C q h' hq => ?_)⟩
  · obtain ⟨e1, rfl⟩ := hq
    cases e1
    exact kk.2
  · cases hq.1
theorem cx_callVx {ci b : Nat} {u : Unit} {C : String} {q : Nat} (hr : XRcv ci M'.1.cls) (hX : CM l E M' d' (.ref b :: As) h (.inr (C, q)) h1) (hL : XLkV M.1.cls idx M') (hc : XCd M' np) (hd : decode M.2.1 pc = .ok (.invokevirtual idx, 3)) (he : ckd h b ci = some u) (hne : ci ≠ 1000) (hn : As.length = np) (hdd : d' + 1 ≤ d) (hst : (st.map fun v => v.category).sum ≤ 8) (kk : CT l E M d pc ls C q h1 hf res) : CX l E M d pc ls (As.reverse ++ .ref b :: st) h hf res := by
  obtain ⟨g1, g2, g3⟩ := cx_cnt hX.1 kk.1
  refine ⟨g1, xw_callV (hX.2) hL hc hd (hk_of (ckd_spec he) hne) hr hn hdd g2 g3 hst (fun v' h' hq => ?_) (fun C' q' h' hq => ?_)⟩
  · cases hq.1
  · obtain ⟨e1, rfl⟩ := hq
    cases e1
    exact kk.2
theorem cx_callVH {ci b : Nat} {u : Unit} {v : Option Value} (hr : XRcv ci M'.1.cls) (hX : CM l E M' d' (.ref b :: As) h (.inl v) h1) (hL : Cond.methodLink M.1.cls idx M'.1 ∈ lw_all ∧ Cond.instanceMethod M'.1 ∈ lw_all ∧ Cond.selects M'.1.cls M'.1 M'.1 ∈ lw_all) (hc : XCdH M' np) (hd : decode M.2.1 pc = .ok (.invokevirtual idx, 3)) (he : ckd h b ci = some u) (hne : ci ≠ 1000) (hn : As.length = np) (hdd : d' + 1 ≤ d) (hst : (st.map fun v => v.category).sum ≤ 8) (kk : CX l E M d (pc + 3) ls (v.toList ++ st) h1 hf res) : CX l E M d pc ls (As.reverse ++ .ref b :: st) h hf res := by
  obtain ⟨g1, g2, g3⟩ := cx_cnt hX.1 kk.1
  refine ⟨g1, xw_callVH (hX.2) hL.1 hL.2.1 hL.2.2 hc hd (hk_of (ckd_spec he) hne) hr hn hdd g2 g3 hst (fun v' h' hq => ?_) (fun C q h' hq => ?_)⟩
  · obtain ⟨e1, rfl⟩ := hq
    cases e1
    exact kk.2
  · cases hq.1
theorem cx_callVHx {ci b : Nat} {u : Unit} {C : String} {q : Nat} (hr : XRcv ci M'.1.cls) (hX : CM l E M' d' (.ref b :: As) h (.inr (C, q)) h1) (hL : Cond.methodLink M.1.cls idx M'.1 ∈ lw_all ∧ Cond.instanceMethod M'.1 ∈ lw_all ∧ Cond.selects M'.1.cls M'.1 M'.1 ∈ lw_all) (hc : XCdH M' np) (hd : decode M.2.1 pc = .ok (.invokevirtual idx, 3)) (he : ckd h b ci = some u) (hne : ci ≠ 1000) (hn : As.length = np) (hdd : d' + 1 ≤ d) (hst : (st.map fun v => v.category).sum ≤ 8) (kk : CT l E M d pc ls C q h1 hf res) : CX l E M d pc ls (As.reverse ++ .ref b :: st) h hf res := by
  obtain ⟨g1, g2, g3⟩ := cx_cnt hX.1 kk.1
  refine ⟨g1, xw_callVH (hX.2) hL.1 hL.2.1 hL.2.2 hc hd (hk_of (ckd_spec he) hne) hr hn hdd g2 g3 hst (fun v' h' hq => ?_) (fun C' q' h' hq => ?_)⟩
  · cases hq.1
  · obtain ⟨e1, rfl⟩ := hq
    cases e1
    exact kk.2
theorem cx_callS {v : Option Value} (hX : CM l E M' d' As h (.inl v) h1) (hL : XLkS M.1.cls idx M') (hc : XCd M' np) (hd : decode M.2.1 pc = .ok (.invokestatic idx, 3)) (hn : As.length = np) (hdd : d' + 1 ≤ d) (hst : (st.map fun v => v.category).sum ≤ 8) (kk : CX l E M d (pc + 3) ls (v.toList ++ st) h1 hf res) : CX l E M d pc ls (As.reverse ++ st) h hf res := by
  obtain ⟨g1, g2, g3⟩ := cx_cnt hX.1 kk.1
  refine ⟨g1, xw_callS (hX.2) hL hc hd hn hdd g2 g3 hst (fun v' h' hq => ?_) (fun C q h' hq => ?_)⟩
  · obtain ⟨e1, rfl⟩ := hq
    cases e1
    exact kk.2
  · cases hq.1
theorem cx_callSx {C : String} {q : Nat} (hX : CM l E M' d' As h (.inr (C, q)) h1) (hL : XLkS M.1.cls idx M') (hc : XCd M' np) (hd : decode M.2.1 pc = .ok (.invokestatic idx, 3)) (hn : As.length = np) (hdd : d' + 1 ≤ d) (hst : (st.map fun v => v.category).sum ≤ 8) (kk : CT l E M d pc ls C q h1 hf res) : CX l E M d pc ls (As.reverse ++ st) h hf res := by
  obtain ⟨g1, g2, g3⟩ := cx_cnt hX.1 kk.1
  refine ⟨g1, xw_callS (hX.2) hL hc hd hn hdd g2 g3 hst (fun v' h' hq => ?_) (fun C' q' h' hq => ?_)⟩
  · cases hq.1
  · obtain ⟨e1, rfl⟩ := hq
    cases e1
    exact kk.2
theorem cx_callSH {v : Option Value} (hX : CM l E M' d' As h (.inl v) h1) (hL : Cond.methodLink M.1.cls idx M'.1 ∈ lw_all ∧ Cond.static M'.1 ∈ lw_all) (hc : XCdH M' np) (hd : decode M.2.1 pc = .ok (.invokestatic idx, 3)) (hn : As.length = np) (hdd : d' + 1 ≤ d) (hst : (st.map fun v => v.category).sum ≤ 8) (kk : CX l E M d (pc + 3) ls (v.toList ++ st) h1 hf res) : CX l E M d pc ls (As.reverse ++ st) h hf res := by
  obtain ⟨g1, g2, g3⟩ := cx_cnt hX.1 kk.1
  refine ⟨g1, xw_callSH (hX.2) hL.1 hL.2 hc hd hn hdd g2 g3 hst (fun v' h' hq => ?_) (fun C q h' hq => ?_)⟩
  · obtain ⟨e1, rfl⟩ := hq
    cases e1
    exact kk.2
  · cases hq.1
theorem cx_callI {b : Nat} {v : Option Value} (hX : CM l E M' d' (.ref b :: As) h (.inl v) h1) (hL : XLkI M.1.cls idx M') (hv : M'.2.2.2.1 = none) (hc : XCd M' np) (hd : decode M.2.1 pc = .ok (.invokespecial idx, 3)) (hn : As.length = np) (hdd : d' + 1 ≤ d) (hst : (st.map fun v => v.category).sum ≤ 8) (kk : CX l E M d (pc + 3) ls (v.toList ++ st) h1 hf res) : CX l E M d pc ls (As.reverse ++ .ref b :: st) h hf res := by
  obtain ⟨g1, g2, g3⟩ := cx_cnt hX.1 kk.1
  refine ⟨g1, xw_callI (hX.2) hL hv hc hd hn hdd g2 g3 hst (fun v' h' hq => ?_) (fun C q h' hq => ?_)⟩
  · obtain ⟨e1, rfl⟩ := hq
    cases e1
    exact kk.2
  · cases hq.1
theorem cx_callSU {ci b : Nat} {u : Unit} {v : Option Value} {r : vw_C} (hlt : ci < 90) (hr : xcl[ci]? = some r) (hX : CM l E M' d' (.ref b :: As) h (.inl v) h1) (hL : XLkSU M.1.cls idx M') (hc : XCd M' np) (hd : decode M.2.1 pc = .ok (.invokespecial idx, 3)) (he : ckd h b ci = some u) (hn : As.length = np) (hdd : d' + 1 ≤ d) (hst : (st.map fun v => v.category).sum ≤ 8) (kk : CX l E M d (pc + 3) ls (v.toList ++ st) h1 hf res) : CX l E M d pc ls (As.reverse ++ .ref b :: st) h hf res := by
  obtain ⟨g1, g2, g3⟩ := cx_cnt hX.1 kk.1
  refine ⟨g1, xw_callSU (r := r) (hX.2) hL hc hd (hk_of (ckd_spec he) (by omega)) hlt hr hn hdd g2 g3 hst (fun v' h' hq => ?_) (fun C q h' hq => ?_)⟩
  · obtain ⟨e1, rfl⟩ := hq
    cases e1
    exact kk.2
  · cases hq.1
theorem cx_callU {ci b : Nat} {u : Unit} {v : Option Value} {r : vw_C} {owner : String} {x : MethodName} (hlt : ci < 90) (hr : xcl[ci]? = some r) (hX : CM l E M' d' (.ref b :: As) h (.inl v) h1) (hL : XLkU M.1.cls idx r.1 owner x M' np) (hc : XCd M' np) (hd : decode M.2.1 pc = .ok (.invokevirtual idx, 3)) (he : ckd h b ci = some u) (hn : As.length = np) (hdd : d' + 1 ≤ d) (hst : (st.map fun v => v.category).sum ≤ 8) (kk : CX l E M d (pc + 3) ls (v.toList ++ st) h1 hf res) : CX l E M d pc ls (As.reverse ++ .ref b :: st) h hf res := by
  obtain ⟨g1, g2, g3⟩ := cx_cnt hX.1 kk.1
  refine ⟨g1, xw_callU (r := r) (hX.2) hL hc hd (hk_of (ckd_spec he) (by omega)) hlt hr hn hdd g2 g3 hst (fun v' h' hq => ?_) (fun C q h' hq => ?_)⟩
  · obtain ⟨e1, rfl⟩ := hq
    cases e1
    exact kk.2
  · cases hq.1
theorem cx_callP {ci b : Nat} {u : Unit} {v : Option Value} {r : vw_C} (hlt : ci < 90) (hr : xcl[ci]? = some r) (hX : CM l E M' d' (.ref b :: As) h (.inl v) h1) (hL : XLkP M.1.cls idx r.1 M') (hc : XCd M' np) (hd : decode M.2.1 pc = .ok (.invokevirtual idx, 3)) (he : ckd h b ci = some u) (hn : As.length = np) (hdd : d' + 1 ≤ d) (hst : (st.map fun v => v.category).sum ≤ 8) (kk : CX l E M d (pc + 3) ls (v.toList ++ st) h1 hf res) : CX l E M d pc ls (As.reverse ++ .ref b :: st) h hf res := by
  obtain ⟨g1, g2, g3⟩ := cx_cnt hX.1 kk.1
  refine ⟨g1, xw_callP (r := r) (hX.2) hL hc hd (hk_of (ckd_spec he) (by omega)) hlt hr hn hdd g2 g3 hst (fun v' h' hq => ?_) (fun C q h' hq => ?_)⟩
  · obtain ⟨e1, rfl⟩ := hq
    cases e1
    exact kk.2
  · cases hq.1
theorem cx_callF {ci b count : Nat} {u : Unit} {v : Option Value} {r : vw_C} {x : MethodName} (hlt : ci < 90) (hr : xcl[ci]? = some r) (hX : CM l E M' d' (.ref b :: As) h (.inl v) h1) (hL : XLkF M.1.cls idx r.1 x M' np) (hc : XCd M' np) (hd : decode M.2.1 pc = .ok (.invokeinterface idx count, 5)) (he : ckd h b ci = some u) (hn : As.length = np) (hdd : d' + 1 ≤ d) (hst : (st.map fun v => v.category).sum ≤ 8) (kk : CX l E M d (pc + 5) ls (v.toList ++ st) h1 hf res) : CX l E M d pc ls (As.reverse ++ .ref b :: st) h hf res := by
  obtain ⟨g1, g2, g3⟩ := cx_cnt hX.1 kk.1
  refine ⟨g1, xw_callF (r := r) (hX.2) hL hc hd (hk_of (ckd_spec he) (by omega)) hlt hr hn hdd g2 g3 hst (fun v' h' hq => ?_) (fun C q h' hq => ?_)⟩
  · obtain ⟨e1, rfl⟩ := hq
    cases e1
    exact kk.2
  · cases hq.1
end CXCALL
end CXR
theorem cm_of {l : Launch} {E : XEnv} {M : XMeth} {d : Nat} {av : List Value} {h hf : XH} {res : XO} (hy : plainName M.1.cls = true) (hh : M.2.2.2.2 = []) (hL : (lg_sl av).length ≤ M.2.2.1) (body : CX l E M d 0 (lv_args 0 av) [] h hf res) : CM l E M d av h res hf := ⟨body.1, xm_of hy hh hL body.2⟩
theorem cm_ofH {l : Launch} {E : XEnv} {M : XMeth} {d : Nat} {av : List Value} {h hf : XH} {res : XO} (hy : plainName M.1.cls = true) (hh : M.2.2.2.2 ≠ []) (hL : (lg_sl av).length ≤ M.2.2.1) (body : CX l E M d 0 (lv_args 0 av) [] h hf res) : CM l E M d av h res hf := ⟨body.1, xm_ofH hy hh hL body.2⟩
