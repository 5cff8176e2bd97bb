/-! the law's body, over the pure functions: LE what every turn needs of the heap; LOp_k what one op asks (printed by gen/law.py) -/
set_option maxRecDepth 100000
abbrev mL_law : XMeth := (⟨"HornHousesLaw", "law", "([I)Z"⟩, cL_law, 7, some .boolean, [])
/-- script at b, component x, model m with its arrays, the law's long[1] o -/
def LE (b L : Nat) (xs : Nat → Int32) (x m o : Nat) (ad : Nat → Nat) (h : XH) (S : TS) : Prop := h.1 b = some (100, L, 0) ∧ (∀ j, j < L → h.2.1 b j = .int (xs j)) ∧ h.1 x = some (0, 14, 1) ∧ h.1 o = some (103, 1, 7) ∧ TW m ad S h
/-- room that one op may take -/
def LB (h h1 : XH) : Prop := h.2.2.1 ≤ h1.2.2.1 ∧ h1.2.2.1 ≤ h.2.2.1 + 14000 ∧ h.2.2.2 ≤ h1.2.2.2 ∧ h1.2.2.2 ≤ h.2.2.2 + 98000
theorem LE.same {b L : Nat} {xs : Nat → Int32} {x m o : Nat} {ad : Nat → Nat} {h h2 : XH} {S S2 : TS} (hE : LE b L xs x m o ad h S) (hs : xsame tP h h2) (hT : TW m ad S2 h2) : LE b L xs x m o ad h2 S2 := by
  obtain ⟨g1, g2, g3, g4, -⟩ := hE
  refine ⟨hs.2.1 _ _ g1, fun j hj => ?_, hs.2.1 _ _ g3, hs.2.1 _ _ g4, hT⟩
  rw [hs.2.2 _ _ _ _ g1 (by unfold tP; omega)]
  exact g2 j hj
theorem lx_of {n : Nat} (h : n < 384) : (Int32.ofNat n).toNatClampNeg = n ∧ ¬ Int32.ofNat n < 0 := by
  have h1 : (Int32.ofNat n).toInt = (n : Int) := Int32.toInt_ofNat_of_lt (by omega)
  constructor
  · show (Int32.ofNat n).toInt.toNat = n
    rw [h1]; rfl
  · rw [Int32.lt_iff_toInt_lt, h1]
    show ¬ ((n : Int) < 0)
    omega
theorem lx_ix {L : Nat} (i k : Nat) {kk : Int32} (hk : Int32.ofNat k = kk) (h : i + k < L) (hL : L ≤ 384) : vp_in (Int32.ofNat i + kk) L ∧ (Int32.ofNat i + kk).toNatClampNeg = i + k := by
  subst hk
  have e : Int32.ofNat i + Int32.ofNat k = Int32.ofNat (i + k) := (Int32.ofNat_add i k).symm
  obtain ⟨h1, h2⟩ := lx_of (n := i + k) (by omega)
  rw [e]
  refine ⟨fun z => ?_, h1⟩
  rcases z with z | z
  · exact h2 z
  · rw [h1] at z
    omega
theorem lx_cmp (x : Int64) : lg_cmp x x = 0 := by simp [lg_cmp]
section LROWS
variable {l : Launch} {E : XEnv} {M M' : XMeth} {d d' pc idx np kM nM m : Nat} {ad : Nat → Nat} {ls : List (Nat × Value)} {st As : List Value} {h h1 : XH} {S S' : TS} {v : Option Value} {Q : XO → XH → Prop}
theorem lx_rd {b L i : Nat} {xs : Nat → Int32} {x o : Nat} {k n : Nat} (j : Nat) {kk : Int32} (hk : Int32.ofNat j = kk) (hE : LE b L xs x m o ad h S) (hi : i + j < L) (hL : L ≤ 384) (hd : decode M.2.1 pc = .ok (.iaload, 1)) (kx : XW l E M d k n (pc + 1) ls (.int (xs (i + j)) :: st) h Q) : XW l E M d k n pc ls (.int (Int32.ofNat i + kk) :: .ref b :: st) h Q := by
  obtain ⟨g1, g2⟩ := lx_ix i j hk hi hL
  exact xw_iald hd hE.1 g1 (by rw [g2]; exact hE.2.1 _ hi) kx
theorem lx_callS {hr : XH} (hX : CM l E M' d' As h (.inl v) hr) (hL : XLkS M.1.cls idx M') (hc : XCd M' np) (hd : decode M.2.1 pc = .ok (.invokestatic idx, 3)) (hn : As.length = np) (hdd : d' + 1 ≤ d) (hst : (st.map fun v => v.category).sum ≤ 8) (e1 : hr.2.2.1 ≤ kM) (e2 : hr.2.2.2 ≤ nM) (kk : XW l E M d (kM - hr.2.2.1) (nM - hr.2.2.2) (pc + 3) ls (v.toList ++ st) hr Q) : XW l E M d (kM - h.2.2.1) (nM - h.2.2.2) pc ls (As.reverse ++ st) h Q := by
  have g := hX.1
  refine xw_callS (k' := kM - hr.2.2.1) (n' := nM - hr.2.2.2) (hX.2) hL hc hd hn hdd (by omega) (by omega) hst (fun v' h' hq => ?_) (fun C q h' hq => ?_)
  · obtain ⟨w1, rfl⟩ := hq
    cases w1
    exact kk
  · cases hq.1
theorem lx_callSH {hr : XH} (hX : CM l E M' d' As h (.inl v) hr) (hL : Cond.methodLink M.1.cls idx M'.1 ∈ lw_all ∧ Cond.static M'.1 ∈ lw_all) (hc : XCdH M' np) (hd : decode M.2.1 pc = .ok (.invokestatic idx, 3)) (hn : As.length = np) (hdd : d' + 1 ≤ d) (hst : (st.map fun v => v.category).sum ≤ 8) (e1 : hr.2.2.1 ≤ kM) (e2 : hr.2.2.2 ≤ nM) (kk : XW l E M d (kM - hr.2.2.1) (nM - hr.2.2.2) (pc + 3) ls (v.toList ++ st) hr Q) : XW l E M d (kM - h.2.2.1) (nM - h.2.2.2) pc ls (As.reverse ++ st) h Q := by
  have g := hX.1
  refine xw_callSH (k' := kM - hr.2.2.1) (n' := nM - hr.2.2.2) (hX.2) hL.1 hL.2 hc hd hn hdd (by omega) (by omega) hst (fun v' h' hq => ?_) (fun C q h' hq => ?_)
  · obtain ⟨w1, rfl⟩ := hq
    cases w1
    exact kk
  · cases hq.1
theorem lx_callV {hr : XH} {b n2 t2 : Nat} (hX : CM l E M' d' (.ref b :: As) h (.inl v) hr) (hL : XLkV M.1.cls idx M') (hc : XCd M' np) (hcl : RX1 = M'.1.cls) (hd : decode M.2.1 pc = .ok (.invokevirtual idx, 3)) (hk : h.1 b = some (0, n2, t2)) (hn : As.length = np) (hdd : d' + 1 ≤ d) (hst : (st.map fun v => v.category).sum ≤ 8) (e1 : hr.2.2.1 ≤ kM) (e2 : hr.2.2.2 ≤ nM) (kk : XW l E M d (kM - hr.2.2.1) (nM - hr.2.2.2) (pc + 3) ls (v.toList ++ st) hr Q) : XW l E M d (kM - h.2.2.1) (nM - h.2.2.2) pc ls (As.reverse ++ .ref b :: st) h Q := by
  have g := hX.1
  refine xw_callV (k' := kM - hr.2.2.1) (n' := nM - hr.2.2.2) (hX.2) hL hc hd hk (Or.inl ⟨by decide, TX1, 14, by rw [← hcl]; rfl⟩) hn hdd (by omega) (by omega) hst (fun v' h' hq => ?_) (fun C q h' hq => ?_)
  · obtain ⟨w1, rfl⟩ := hq
    cases w1
    exact kk
  · cases hq.1
theorem lx_callT (hX : TM l E M' d' m ad (.ref m :: As) S v S') (hL : XLkV M.1.cls idx M') (hc : XCd M' np) (hcl : RX4 = M'.1.cls) (hd : decode M.2.1 pc = .ok (.invokevirtual idx, 3)) (hT : TW m ad S h) (hn : As.length = np) (hdd : d' + 1 ≤ d) (hst : (st.map fun v => v.category).sum ≤ 8) (kk : ∀ h2, TW m ad S' h2 → xsame tP h h2 → XW l E M d (kM - h2.2.2.1) (nM - h2.2.2.2) (pc + 3) ls (v.toList ++ st) h2 Q) : XW l E M d (kM - h.2.2.1) (nM - h.2.2.2) pc ls (As.reverse ++ .ref m :: st) h Q := by
  refine xw_callV (k' := kM - h.2.2.1) (n' := nM - h.2.2.2) (hX h hT) hL hc hd hT.1 (Or.inl ⟨by decide, TX4, 62, by rw [← hcl]; rfl⟩) hn hdd (by omega) (by omega) hst (fun v' h' hq => ?_) (fun C q h' hq => ?_)
  · obtain ⟨w1, w2, w3⟩ := hq
    cases w1
    have := kk h' w2 w3
    rw [w3.1.1] at this
    exact this
  · cases hq.1
theorem lx_lsK {k n : Nat} {Lq : List (Nat × Value)} (kk : XW l E M d k n pc Lq st h Q) (hs : xsub Lq ls) : XW l E M d k n pc ls st h Q := xw_ls hs kk
end LROWS
def LOp_0 (E : XEnv) (n g b L : Nat) (xs : Nat → Int32) (x m o : Nat) (ad : Nat → Nat) (LI : XH → TS → Prop) : Prop := ∀ (h : XH) (S : TS) (a1 : Int32) (a2 : Int32) (a3 : Int32) (a4 : Int32) (a5 : Int32), LI h S → ∃ v h1 S1, k_X1_feed n x a1 a2 a3 a4 a5 h = some (v, h1) ∧ f_feed n a1 a2 a3 a4 a5 S = some (v, S1) ∧ LE b L xs x m o ad h1 S ∧ LB h h1 ∧ ∀ h2, TW m ad S1 h2 → xsame tP h1 h2 → LI h2 S1
set_option maxHeartbeats 4000000 in
theorem law_c0 {l : Launch} {E : XEnv} {n g b L : Nat} {xs : Nat → Int32} {x m o : Nat} {ad : Nat → Nat} {LI : XH → TS → Prop} (hop : LOp_0 E n g b L xs x m o ad LI) (hLE : ∀ h S, LI h S → LE b L xs x m o ad h S) (hN : va_Nc "java/lang/IllegalArgumentException" "java/util/NoSuchElementException" E.1) {d kM nM i : Nat} {h : XH} {S : TS} {Q : XO → XH → Prop} (hI : LI h S) (hg : g ≤ 100) (hd : 2000 ≤ d) (hi : i + 5 < L) (hL : L ≤ 384) (hk : h.2.2.1 + 14000 ≤ kM) (hn : h.2.2.2 + 98000 ≤ nM) (kk : ∀ h2 S2, LI h2 S2 → h2.2.2.1 ≤ h.2.2.1 + 14000 → h2.2.2.2 ≤ h.2.2.2 + 98000 → XW l E mL_law d (kM - h2.2.2.1) (nM - h2.2.2.2) 3015 [(0, .ref b), (1, .ref x), (2, .ref m), (3, .ref o), (4, .int (Int32.ofNat i))] [] h2 Q) : XW l E mL_law d (kM - h.2.2.1) (nM - h.2.2.2) 252 [(0, .ref b), (1, .ref x), (2, .ref m), (3, .ref o), (4, .int (Int32.ofNat i))] [] h Q := by
  obtain ⟨v, h1, S1, ek, ef, hE1, hB, hP⟩ := hop h S (xs (i + 1)) (xs (i + 2)) (xs (i + 3)) (xs (i + 4)) (xs (i + 5)) hI
  have hE := hLE h S hI
  have hB1 : h1.2.2.1 ≤ h.2.2.1 + 14000 := hB.2.1
  have hB2 : h1.2.2.2 ≤ h.2.2.2 + 98000 := hB.2.2.2
  refine xw_aload_n dL_law_252 rfl rfl ?_
  refine xw_aload_n dL_law_253 rfl rfl ?_
  refine xw_iload dL_law_254 rfl ?_
  refine xw_iconst (v := 1) dL_law_256 rfl ?_
  refine xw_iadd dL_law_257 ?_
  refine lx_rd 1 rfl hE (by omega) hL dL_law_258 ?_
  refine xw_aload_n dL_law_259 rfl rfl ?_
  refine xw_iload dL_law_260 rfl ?_
  refine xw_iconst (v := 2) dL_law_262 rfl ?_
  refine xw_iadd dL_law_263 ?_
  refine lx_rd 2 rfl hE (by omega) hL dL_law_264 ?_
  refine xw_aload_n dL_law_265 rfl rfl ?_
  refine xw_iload dL_law_266 rfl ?_
  refine xw_iconst (v := 3) dL_law_268 rfl ?_
  refine xw_iadd dL_law_269 ?_
  refine lx_rd 3 rfl hE (by omega) hL dL_law_270 ?_
  refine xw_aload_n dL_law_271 rfl rfl ?_
  refine xw_iload dL_law_272 rfl ?_
  refine xw_iconst (v := 4) dL_law_274 rfl ?_
  refine xw_iadd dL_law_275 ?_
  refine lx_rd 4 rfl hE (by omega) hL dL_law_276 ?_
  refine xw_aload_n dL_law_277 rfl rfl ?_
  refine xw_iload dL_law_278 rfl ?_
  refine xw_iconst (v := 5) dL_law_280 rfl ?_
  refine xw_iadd dL_law_281 ?_
  refine lx_rd 5 rfl hE (by omega) hL dL_law_282 ?_
  refine lx_callV (T_X1_feed ek) lV_L_145 C_X1_feed rfl dL_law_283 hE.2.2.1 rfl (by omega) (Nat.le_of_ble_eq_true rfl) (by show h1.2.2.1 ≤ kM; omega) (by show h1.2.2.2 ≤ nM; omega) ?_
  refine xw_aload_n dL_law_286 rfl rfl ?_
  refine xw_aload_n dL_law_287 rfl rfl ?_
  refine xw_iload dL_law_288 rfl ?_
  refine xw_iconst (v := 1) dL_law_290 rfl ?_
  refine xw_iadd dL_law_291 ?_
  refine lx_rd 1 rfl hE1 (by omega) hL dL_law_292 ?_
  refine xw_aload_n dL_law_293 rfl rfl ?_
  refine xw_iload dL_law_294 rfl ?_
  refine xw_iconst (v := 2) dL_law_296 rfl ?_
  refine xw_iadd dL_law_297 ?_
  refine lx_rd 2 rfl hE1 (by omega) hL dL_law_298 ?_
  refine xw_aload_n dL_law_299 rfl rfl ?_
  refine xw_iload dL_law_300 rfl ?_
  refine xw_iconst (v := 3) dL_law_302 rfl ?_
  refine xw_iadd dL_law_303 ?_
  refine lx_rd 3 rfl hE1 (by omega) hL dL_law_304 ?_
  refine xw_aload_n dL_law_305 rfl rfl ?_
  refine xw_iload dL_law_306 rfl ?_
  refine xw_iconst (v := 4) dL_law_308 rfl ?_
  refine xw_iadd dL_law_309 ?_
  refine lx_rd 4 rfl hE1 (by omega) hL dL_law_310 ?_
  refine xw_aload_n dL_law_311 rfl rfl ?_
  refine xw_iload dL_law_312 rfl ?_
  refine xw_iconst (v := 5) dL_law_314 rfl ?_
  refine xw_iadd dL_law_315 ?_
  refine lx_rd 5 rfl hE1 (by omega) hL dL_law_316 ?_
  refine lx_callT (T_feed ef) lV_L_149 C_X4_feed rfl dL_law_317 hE1.2.2.2.2 rfl (by omega) (Nat.le_of_ble_eq_true rfl) ?_
  intro h2 hT2 hs2
  have hE2 := hE1.same hs2 hT2
  refine xw_icmp_eq (tgt := 3015) dL_law_320 (by decide) (fun _ => ?_) (fun z => absurd rfl z)
  have fin : LI h2 S1 := hP h2 hT2 hs2
  have hq1 : h2.2.2.1 ≤ h.2.2.1 + 14000 := by rw [hs2.1.1]; omega
  have hq2 : h2.2.2.2 ≤ h.2.2.2 + 98000 := by rw [hs2.1.1]; omega
  exact lx_lsK (kk h2 S1 fin hq1 hq2) ⟨rfl, rfl, rfl, rfl, rfl, trivial⟩
def LOp_1 (E : XEnv) (n g b L : Nat) (xs : Nat → Int32) (x m o : Nat) (ad : Nat → Nat) (LI : XH → TS → Prop) : Prop := ∀ (h : XH) (S : TS) (a1 : Int32), LI h S → ∃ r h1 v S1, k_X0_town n g E.2.2.2 x a1 o h = some (r, h1) ∧ f_town n a1 S = some (v, S1) ∧ S1.1 0 = r ∧ LE b L xs x m o ad h1 S ∧ (r = 0 → h1.2.1 o 0 = .long v.toInt64) ∧ LB h h1 ∧ ∀ h2, TW m ad S1 h2 → xsame tP h1 h2 → LI h2 S1
set_option maxHeartbeats 4000000 in
theorem law_c1 {l : Launch} {E : XEnv} {n g b L : Nat} {xs : Nat → Int32} {x m o : Nat} {ad : Nat → Nat} {LI : XH → TS → Prop} (hop : LOp_1 E n g b L xs x m o ad LI) (hLE : ∀ h S, LI h S → LE b L xs x m o ad h S) (hN : va_Nc "java/lang/IllegalArgumentException" "java/util/NoSuchElementException" E.1) {d kM nM i : Nat} {h : XH} {S : TS} {Q : XO → XH → Prop} (hI : LI h S) (hg : g ≤ 100) (hd : 2000 ≤ d) (hi : i + 5 < L) (hL : L ≤ 384) (hk : h.2.2.1 + 14000 ≤ kM) (hn : h.2.2.2 + 98000 ≤ nM) (kk : ∀ h2 S2, LI h2 S2 → h2.2.2.1 ≤ h.2.2.1 + 14000 → h2.2.2.2 ≤ h.2.2.2 + 98000 → XW l E mL_law d (kM - h2.2.2.1) (nM - h2.2.2.2) 3015 [(0, .ref b), (1, .ref x), (2, .ref m), (3, .ref o), (4, .int (Int32.ofNat i))] [] h2 Q) : XW l E mL_law d (kM - h.2.2.1) (nM - h.2.2.2) 325 [(0, .ref b), (1, .ref x), (2, .ref m), (3, .ref o), (4, .int (Int32.ofNat i))] [] h Q := by
  obtain ⟨r, h1, v, S1, ek, ef, et, hE1, ho, hB, hP⟩ := hop h S (xs (i + 1)) hI
  have hE := hLE h S hI
  have hB1 : h1.2.2.1 ≤ h.2.2.1 + 14000 := hB.2.1
  have hB2 : h1.2.2.2 ≤ h.2.2.2 + 98000 := hB.2.2.2
  refine xw_aload_n dL_law_325 rfl rfl ?_
  refine xw_aload_n dL_law_326 rfl rfl ?_
  refine xw_iload dL_law_327 rfl ?_
  refine xw_iconst (v := 1) dL_law_329 rfl ?_
  refine xw_iadd dL_law_330 ?_
  refine lx_rd 1 rfl hE (by omega) hL dL_law_331 ?_
  refine xw_aload_n dL_law_332 rfl rfl ?_
  refine lx_callSH (T_X0_town hN ek) lS_L_150 C_X0_town dL_law_333 rfl (by omega) (Nat.le_of_ble_eq_true rfl) (by show h1.2.2.1 ≤ kM; omega) (by show h1.2.2.2 ≤ nM; omega) ?_
  refine xw_istore dL_law_336 (by decide) ?_
  refine xw_aload_n dL_law_338 rfl rfl ?_
  refine xw_aload_n dL_law_339 rfl rfl ?_
  refine xw_iload dL_law_340 rfl ?_
  refine xw_iconst (v := 1) dL_law_342 rfl ?_
  refine xw_iadd dL_law_343 ?_
  refine lx_rd 1 rfl hE1 (by omega) hL dL_law_344 ?_
  refine lx_callT (T_town ef) lV_L_155 C_X4_town rfl dL_law_345 hE1.2.2.2.2 rfl (by omega) (Nat.le_of_ble_eq_true rfl) ?_
  intro h2 hT2 hs2
  have hE2 := hE1.same hs2 hT2
  refine xw_istore dL_law_348 (by decide) ?_
  refine xw_aload_n dL_law_350 rfl rfl ?_
  have et1 : f_thrown S1 = some (S1.1 0) := rfl
  refine lx_callT (T_thrown et1) lV_L_156 C_X4_thrown rfl dL_law_351 hT2 rfl (by omega) (Nat.le_of_ble_eq_true rfl) ?_
  intro h3 hT3 hs3
  have hE3 := hE2.same hs3 hT3
  rw [et]
  refine xw_iload dL_law_354 rfl ?_
  refine xw_icmp_eq (tgt := 361) dL_law_356 (by decide) (fun _ => ?_) (fun z => absurd rfl z)
  refine xw_iload dL_law_361 rfl ?_
  have fin : LI h3 S1 := hP h3 hT3 (hs2.trans hs3)
  have hn1 : h3.2.2 = h1.2.2 := hs3.1.1.trans hs2.1.1
  have hq1 : h3.2.2.1 ≤ h.2.2.1 + 14000 := by rw [hn1]; omega
  have hq2 : h3.2.2.2 ≤ h.2.2.2 + 98000 := by rw [hn1]; omega
  by_cases hr : r = 0
  · refine xw_if_ne (tgt := 378) dL_law_363 (by decide) (fun z => absurd hr z) (fun _ => ?_)
    have hO : h3.2.1 o 0 = _ := (congrFun ((hs3.2.2 _ _ _ _ hE2.2.2.2.1 (by unfold tP; omega)).trans (hs2.2.2 _ _ _ _ hE1.2.2.2.1 (by unfold tP; omega))) 0).trans (ho hr)
    refine xw_aload_n dL_law_366 rfl rfl ?_
    refine xw_iconst (v := 0) dL_law_367 rfl ?_
    refine xw_lald dL_law_368 hE3.2.2.2.1 (by unfold vp_in; decide) hO ?_
    refine xw_iload dL_law_369 rfl ?_
    refine xw_i2l dL_law_371 ?_
    refine xw_lcmp dL_law_372 ?_
    rw [lx_cmp]
    refine xw_if_eq (tgt := 378) dL_law_373 (by decide) (fun _ => ?_) (fun z => absurd rfl z)
    refine xw_goto (tgt := 3015) dL_law_378 (by decide) ?_
    exact lx_lsK (kk h3 S1 fin hq1 hq2) ⟨rfl, rfl, rfl, rfl, rfl, trivial⟩
  · refine xw_if_ne (tgt := 378) dL_law_363 (by decide) (fun _ => ?_) (fun z => absurd z hr)
    refine xw_goto (tgt := 3015) dL_law_378 (by decide) ?_
    exact lx_lsK (kk h3 S1 fin hq1 hq2) ⟨rfl, rfl, rfl, rfl, rfl, trivial⟩
def LOp_2 (E : XEnv) (n g b L : Nat) (xs : Nat → Int32) (x m o : Nat) (ad : Nat → Nat) (LI : XH → TS → Prop) : Prop := ∀ (h : XH) (S : TS), LI h S → ∃ v S1, k_X1_fault x h = some v ∧ f_fault S = some (v, S1) ∧ ∀ h2, TW m ad S1 h2 → xsame tP h h2 → LI h2 S1
set_option maxHeartbeats 4000000 in
theorem law_c2 {l : Launch} {E : XEnv} {n g b L : Nat} {xs : Nat → Int32} {x m o : Nat} {ad : Nat → Nat} {LI : XH → TS → Prop} (hop : LOp_2 E n g b L xs x m o ad LI) (hLE : ∀ h S, LI h S → LE b L xs x m o ad h S) (hN : va_Nc "java/lang/IllegalArgumentException" "java/util/NoSuchElementException" E.1) {d kM nM i : Nat} {h : XH} {S : TS} {Q : XO → XH → Prop} (hI : LI h S) (hg : g ≤ 100) (hd : 2000 ≤ d) (hi : i + 5 < L) (hL : L ≤ 384) (hk : h.2.2.1 + 14000 ≤ kM) (hn : h.2.2.2 + 98000 ≤ nM) (kk : ∀ h2 S2, LI h2 S2 → h2.2.2.1 ≤ h.2.2.1 + 14000 → h2.2.2.2 ≤ h.2.2.2 + 98000 → XW l E mL_law d (kM - h2.2.2.1) (nM - h2.2.2.2) 3015 [(0, .ref b), (1, .ref x), (2, .ref m), (3, .ref o), (4, .int (Int32.ofNat i))] [] h2 Q) : XW l E mL_law d (kM - h.2.2.1) (nM - h.2.2.2) 381 [(0, .ref b), (1, .ref x), (2, .ref m), (3, .ref o), (4, .int (Int32.ofNat i))] [] h Q := by
  obtain ⟨v, S1, ek, ef, hP⟩ := hop h S hI
  have hE := hLE h S hI
  have hE1 := hE
  refine xw_aload_n dL_law_381 rfl rfl ?_
  refine lx_callV (T_X1_fault ek) lV_L_160 C_X1_fault rfl dL_law_382 hE.2.2.1 rfl (by omega) (Nat.le_of_ble_eq_true rfl) (by show h.2.2.1 ≤ kM; omega) (by show h.2.2.2 ≤ nM; omega) ?_
  refine xw_aload_n dL_law_385 rfl rfl ?_
  refine lx_callT (T_fault ef) lV_L_163 C_X4_fault rfl dL_law_386 hE1.2.2.2.2 rfl (by omega) (Nat.le_of_ble_eq_true rfl) ?_
  intro h2 hT2 hs2
  have hE2 := hE1.same hs2 hT2
  refine xw_icmp_eq (tgt := 3015) dL_law_389 (by decide) (fun _ => ?_) (fun z => absurd rfl z)
  have fin : LI h2 S1 := hP h2 hT2 hs2
  have hq1 : h2.2.2.1 ≤ h.2.2.1 + 14000 := by rw [hs2.1.1]; omega
  have hq2 : h2.2.2.2 ≤ h.2.2.2 + 98000 := by rw [hs2.1.1]; omega
  exact lx_lsK (kk h2 S1 fin hq1 hq2) ⟨rfl, rfl, rfl, rfl, rfl, trivial⟩
def LOp_3 (E : XEnv) (n g b L : Nat) (xs : Nat → Int32) (x m o : Nat) (ad : Nat → Nat) (LI : XH → TS → Prop) : Prop := ∀ (h : XH) (S : TS) (a1 : Int32), LI h S → ∃ r h1 v S1, k_X0_count n g E.2.2.2 x a1 o h = some (r, h1) ∧ f_count n a1 S = some (v, S1) ∧ S1.1 0 = r ∧ LE b L xs x m o ad h1 S ∧ (r = 0 → h1.2.1 o 0 = .long v.toInt64) ∧ LB h h1 ∧ ∀ h2, TW m ad S1 h2 → xsame tP h1 h2 → LI h2 S1
set_option maxHeartbeats 4000000 in
theorem law_c3 {l : Launch} {E : XEnv} {n g b L : Nat} {xs : Nat → Int32} {x m o : Nat} {ad : Nat → Nat} {LI : XH → TS → Prop} (hop : LOp_3 E n g b L xs x m o ad LI) (hLE : ∀ h S, LI h S → LE b L xs x m o ad h S) (hN : va_Nc "java/lang/IllegalArgumentException" "java/util/NoSuchElementException" E.1) {d kM nM i : Nat} {h : XH} {S : TS} {Q : XO → XH → Prop} (hI : LI h S) (hg : g ≤ 100) (hd : 2000 ≤ d) (hi : i + 5 < L) (hL : L ≤ 384) (hk : h.2.2.1 + 14000 ≤ kM) (hn : h.2.2.2 + 98000 ≤ nM) (kk : ∀ h2 S2, LI h2 S2 → h2.2.2.1 ≤ h.2.2.1 + 14000 → h2.2.2.2 ≤ h.2.2.2 + 98000 → XW l E mL_law d (kM - h2.2.2.1) (nM - h2.2.2.2) 3015 [(0, .ref b), (1, .ref x), (2, .ref m), (3, .ref o), (4, .int (Int32.ofNat i))] [] h2 Q) : XW l E mL_law d (kM - h.2.2.1) (nM - h.2.2.2) 394 [(0, .ref b), (1, .ref x), (2, .ref m), (3, .ref o), (4, .int (Int32.ofNat i))] [] h Q := by
  obtain ⟨r, h1, v, S1, ek, ef, et, hE1, ho, hB, hP⟩ := hop h S (xs (i + 1)) hI
  have hE := hLE h S hI
  have hB1 : h1.2.2.1 ≤ h.2.2.1 + 14000 := hB.2.1
  have hB2 : h1.2.2.2 ≤ h.2.2.2 + 98000 := hB.2.2.2
  refine xw_aload_n dL_law_394 rfl rfl ?_
  refine xw_aload_n dL_law_395 rfl rfl ?_
  refine xw_iload dL_law_396 rfl ?_
  refine xw_iconst (v := 1) dL_law_398 rfl ?_
  refine xw_iadd dL_law_399 ?_
  refine lx_rd 1 rfl hE (by omega) hL dL_law_400 ?_
  refine xw_aload_n dL_law_401 rfl rfl ?_
  refine lx_callSH (T_X0_count hN ek) lS_L_164 C_X0_count dL_law_402 rfl (by omega) (Nat.le_of_ble_eq_true rfl) (by show h1.2.2.1 ≤ kM; omega) (by show h1.2.2.2 ≤ nM; omega) ?_
  refine xw_istore dL_law_405 (by decide) ?_
  refine xw_aload_n dL_law_407 rfl rfl ?_
  refine xw_aload_n dL_law_408 rfl rfl ?_
  refine xw_iload dL_law_409 rfl ?_
  refine xw_iconst (v := 1) dL_law_411 rfl ?_
  refine xw_iadd dL_law_412 ?_
  refine lx_rd 1 rfl hE1 (by omega) hL dL_law_413 ?_
  refine lx_callT (T_count ef) lV_L_166 C_X4_count rfl dL_law_414 hE1.2.2.2.2 rfl (by omega) (Nat.le_of_ble_eq_true rfl) ?_
  intro h2 hT2 hs2
  have hE2 := hE1.same hs2 hT2
  refine xw_istore dL_law_417 (by decide) ?_
  refine xw_aload_n dL_law_419 rfl rfl ?_
  have et1 : f_thrown S1 = some (S1.1 0) := rfl
  refine lx_callT (T_thrown et1) lV_L_156 C_X4_thrown rfl dL_law_420 hT2 rfl (by omega) (Nat.le_of_ble_eq_true rfl) ?_
  intro h3 hT3 hs3
  have hE3 := hE2.same hs3 hT3
  rw [et]
  refine xw_iload dL_law_423 rfl ?_
  refine xw_icmp_eq (tgt := 430) dL_law_425 (by decide) (fun _ => ?_) (fun z => absurd rfl z)
  refine xw_iload dL_law_430 rfl ?_
  have fin : LI h3 S1 := hP h3 hT3 (hs2.trans hs3)
  have hn1 : h3.2.2 = h1.2.2 := hs3.1.1.trans hs2.1.1
  have hq1 : h3.2.2.1 ≤ h.2.2.1 + 14000 := by rw [hn1]; omega
  have hq2 : h3.2.2.2 ≤ h.2.2.2 + 98000 := by rw [hn1]; omega
  by_cases hr : r = 0
  · refine xw_if_ne (tgt := 447) dL_law_432 (by decide) (fun z => absurd hr z) (fun _ => ?_)
    have hO : h3.2.1 o 0 = _ := (congrFun ((hs3.2.2 _ _ _ _ hE2.2.2.2.1 (by unfold tP; omega)).trans (hs2.2.2 _ _ _ _ hE1.2.2.2.1 (by unfold tP; omega))) 0).trans (ho hr)
    refine xw_aload_n dL_law_435 rfl rfl ?_
    refine xw_iconst (v := 0) dL_law_436 rfl ?_
    refine xw_lald dL_law_437 hE3.2.2.2.1 (by unfold vp_in; decide) hO ?_
    refine xw_iload dL_law_438 rfl ?_
    refine xw_i2l dL_law_440 ?_
    refine xw_lcmp dL_law_441 ?_
    rw [lx_cmp]
    refine xw_if_eq (tgt := 447) dL_law_442 (by decide) (fun _ => ?_) (fun z => absurd rfl z)
    refine xw_goto (tgt := 3015) dL_law_447 (by decide) ?_
    exact lx_lsK (kk h3 S1 fin hq1 hq2) ⟨rfl, rfl, rfl, rfl, rfl, trivial⟩
  · refine xw_if_ne (tgt := 447) dL_law_432 (by decide) (fun _ => ?_) (fun z => absurd z hr)
    refine xw_goto (tgt := 3015) dL_law_447 (by decide) ?_
    exact lx_lsK (kk h3 S1 fin hq1 hq2) ⟨rfl, rfl, rfl, rfl, rfl, trivial⟩
def LOp_4 (E : XEnv) (n g b L : Nat) (xs : Nat → Int32) (x m o : Nat) (ad : Nat → Nat) (LI : XH → TS → Prop) : Prop := ∀ (h : XH) (S : TS) (a1 : Int32) (a2 : Int32), LI h S → ∃ r h1 v S1, k_X0_house n x a1 a2 o h = some (r, h1) ∧ f_house n a1 a2 S = some (v, S1) ∧ S1.1 0 = r ∧ LE b L xs x m o ad h1 S ∧ (r = 0 → h1.2.1 o 0 = .long v.toInt64) ∧ LB h h1 ∧ ∀ h2, TW m ad S1 h2 → xsame tP h1 h2 → LI h2 S1
set_option maxHeartbeats 4000000 in
theorem law_c4 {l : Launch} {E : XEnv} {n g b L : Nat} {xs : Nat → Int32} {x m o : Nat} {ad : Nat → Nat} {LI : XH → TS → Prop} (hop : LOp_4 E n g b L xs x m o ad LI) (hLE : ∀ h S, LI h S → LE b L xs x m o ad h S) (hN : va_Nc "java/lang/IllegalArgumentException" "java/util/NoSuchElementException" E.1) {d kM nM i : Nat} {h : XH} {S : TS} {Q : XO → XH → Prop} (hI : LI h S) (hg : g ≤ 100) (hd : 2000 ≤ d) (hi : i + 5 < L) (hL : L ≤ 384) (hk : h.2.2.1 + 14000 ≤ kM) (hn : h.2.2.2 + 98000 ≤ nM) (kk : ∀ h2 S2, LI h2 S2 → h2.2.2.1 ≤ h.2.2.1 + 14000 → h2.2.2.2 ≤ h.2.2.2 + 98000 → XW l E mL_law d (kM - h2.2.2.1) (nM - h2.2.2.2) 3015 [(0, .ref b), (1, .ref x), (2, .ref m), (3, .ref o), (4, .int (Int32.ofNat i))] [] h2 Q) : XW l E mL_law d (kM - h.2.2.1) (nM - h.2.2.2) 450 [(0, .ref b), (1, .ref x), (2, .ref m), (3, .ref o), (4, .int (Int32.ofNat i))] [] h Q := by
  obtain ⟨r, h1, v, S1, ek, ef, et, hE1, ho, hB, hP⟩ := hop h S (xs (i + 1)) (xs (i + 2)) hI
  have hE := hLE h S hI
  have hB1 : h1.2.2.1 ≤ h.2.2.1 + 14000 := hB.2.1
  have hB2 : h1.2.2.2 ≤ h.2.2.2 + 98000 := hB.2.2.2
  refine xw_aload_n dL_law_450 rfl rfl ?_
  refine xw_aload_n dL_law_451 rfl rfl ?_
  refine xw_iload dL_law_452 rfl ?_
  refine xw_iconst (v := 1) dL_law_454 rfl ?_
  refine xw_iadd dL_law_455 ?_
  refine lx_rd 1 rfl hE (by omega) hL dL_law_456 ?_
  refine xw_aload_n dL_law_457 rfl rfl ?_
  refine xw_iload dL_law_458 rfl ?_
  refine xw_iconst (v := 2) dL_law_460 rfl ?_
  refine xw_iadd dL_law_461 ?_
  refine lx_rd 2 rfl hE (by omega) hL dL_law_462 ?_
  refine xw_aload_n dL_law_463 rfl rfl ?_
  refine lx_callSH (T_X0_house hN ek) lS_L_167 C_X0_house dL_law_464 rfl (by omega) (Nat.le_of_ble_eq_true rfl) (by show h1.2.2.1 ≤ kM; omega) (by show h1.2.2.2 ≤ nM; omega) ?_
  refine xw_istore dL_law_467 (by decide) ?_
  refine xw_aload_n dL_law_469 rfl rfl ?_
  refine xw_aload_n dL_law_470 rfl rfl ?_
  refine xw_iload dL_law_471 rfl ?_
  refine xw_iconst (v := 1) dL_law_473 rfl ?_
  refine xw_iadd dL_law_474 ?_
  refine lx_rd 1 rfl hE1 (by omega) hL dL_law_475 ?_
  refine xw_aload_n dL_law_476 rfl rfl ?_
  refine xw_iload dL_law_477 rfl ?_
  refine xw_iconst (v := 2) dL_law_479 rfl ?_
  refine xw_iadd dL_law_480 ?_
  refine lx_rd 2 rfl hE1 (by omega) hL dL_law_481 ?_
  refine lx_callT (T_house ef) lV_L_170 C_X4_house rfl dL_law_482 hE1.2.2.2.2 rfl (by omega) (Nat.le_of_ble_eq_true rfl) ?_
  intro h2 hT2 hs2
  have hE2 := hE1.same hs2 hT2
  refine xw_istore dL_law_485 (by decide) ?_
  refine xw_aload_n dL_law_487 rfl rfl ?_
  have et1 : f_thrown S1 = some (S1.1 0) := rfl
  refine lx_callT (T_thrown et1) lV_L_156 C_X4_thrown rfl dL_law_488 hT2 rfl (by omega) (Nat.le_of_ble_eq_true rfl) ?_
  intro h3 hT3 hs3
  have hE3 := hE2.same hs3 hT3
  rw [et]
  refine xw_iload dL_law_491 rfl ?_
  refine xw_icmp_eq (tgt := 498) dL_law_493 (by decide) (fun _ => ?_) (fun z => absurd rfl z)
  refine xw_iload dL_law_498 rfl ?_
  have fin : LI h3 S1 := hP h3 hT3 (hs2.trans hs3)
  have hn1 : h3.2.2 = h1.2.2 := hs3.1.1.trans hs2.1.1
  have hq1 : h3.2.2.1 ≤ h.2.2.1 + 14000 := by rw [hn1]; omega
  have hq2 : h3.2.2.2 ≤ h.2.2.2 + 98000 := by rw [hn1]; omega
  by_cases hr : r = 0
  · refine xw_if_ne (tgt := 515) dL_law_500 (by decide) (fun z => absurd hr z) (fun _ => ?_)
    have hO : h3.2.1 o 0 = _ := (congrFun ((hs3.2.2 _ _ _ _ hE2.2.2.2.1 (by unfold tP; omega)).trans (hs2.2.2 _ _ _ _ hE1.2.2.2.1 (by unfold tP; omega))) 0).trans (ho hr)
    refine xw_aload_n dL_law_503 rfl rfl ?_
    refine xw_iconst (v := 0) dL_law_504 rfl ?_
    refine xw_lald dL_law_505 hE3.2.2.2.1 (by unfold vp_in; decide) hO ?_
    refine xw_iload dL_law_506 rfl ?_
    refine xw_i2l dL_law_508 ?_
    refine xw_lcmp dL_law_509 ?_
    rw [lx_cmp]
    refine xw_if_eq (tgt := 515) dL_law_510 (by decide) (fun _ => ?_) (fun z => absurd rfl z)
    refine xw_goto (tgt := 3015) dL_law_515 (by decide) ?_
    exact lx_lsK (kk h3 S1 fin hq1 hq2) ⟨rfl, rfl, rfl, rfl, rfl, trivial⟩
  · refine xw_if_ne (tgt := 515) dL_law_500 (by decide) (fun _ => ?_) (fun z => absurd z hr)
    refine xw_goto (tgt := 3015) dL_law_515 (by decide) ?_
    exact lx_lsK (kk h3 S1 fin hq1 hq2) ⟨rfl, rfl, rfl, rfl, rfl, trivial⟩
def LOp_5 (E : XEnv) (n g b L : Nat) (xs : Nat → Int32) (x m o : Nat) (ad : Nat → Nat) (LI : XH → TS → Prop) : Prop := ∀ (h : XH) (S : TS) (a1 : Int32) (a2 : Int32), LI h S → ∃ r h1 v S1, k_X0_person x a1 a2 o h = some (r, h1) ∧ f_person n a1 a2 S = some (v, S1) ∧ S1.1 0 = r ∧ LE b L xs x m o ad h1 S ∧ (r = 0 → h1.2.1 o 0 = .long v.toInt64) ∧ LB h h1 ∧ ∀ h2, TW m ad S1 h2 → xsame tP h1 h2 → LI h2 S1
set_option maxHeartbeats 4000000 in
theorem law_c5 {l : Launch} {E : XEnv} {n g b L : Nat} {xs : Nat → Int32} {x m o : Nat} {ad : Nat → Nat} {LI : XH → TS → Prop} (hop : LOp_5 E n g b L xs x m o ad LI) (hLE : ∀ h S, LI h S → LE b L xs x m o ad h S) (hN : va_Nc "java/lang/IllegalArgumentException" "java/util/NoSuchElementException" E.1) {d kM nM i : Nat} {h : XH} {S : TS} {Q : XO → XH → Prop} (hI : LI h S) (hg : g ≤ 100) (hd : 2000 ≤ d) (hi : i + 5 < L) (hL : L ≤ 384) (hk : h.2.2.1 + 14000 ≤ kM) (hn : h.2.2.2 + 98000 ≤ nM) (kk : ∀ h2 S2, LI h2 S2 → h2.2.2.1 ≤ h.2.2.1 + 14000 → h2.2.2.2 ≤ h.2.2.2 + 98000 → XW l E mL_law d (kM - h2.2.2.1) (nM - h2.2.2.2) 3015 [(0, .ref b), (1, .ref x), (2, .ref m), (3, .ref o), (4, .int (Int32.ofNat i))] [] h2 Q) : XW l E mL_law d (kM - h.2.2.1) (nM - h.2.2.2) 518 [(0, .ref b), (1, .ref x), (2, .ref m), (3, .ref o), (4, .int (Int32.ofNat i))] [] h Q := by
  obtain ⟨r, h1, v, S1, ek, ef, et, hE1, ho, hB, hP⟩ := hop h S (xs (i + 1)) (xs (i + 2)) hI
  have hE := hLE h S hI
  have hB1 : h1.2.2.1 ≤ h.2.2.1 + 14000 := hB.2.1
  have hB2 : h1.2.2.2 ≤ h.2.2.2 + 98000 := hB.2.2.2
  refine xw_aload_n dL_law_518 rfl rfl ?_
  refine xw_aload_n dL_law_519 rfl rfl ?_
  refine xw_iload dL_law_520 rfl ?_
  refine xw_iconst (v := 1) dL_law_522 rfl ?_
  refine xw_iadd dL_law_523 ?_
  refine lx_rd 1 rfl hE (by omega) hL dL_law_524 ?_
  refine xw_aload_n dL_law_525 rfl rfl ?_
  refine xw_iload dL_law_526 rfl ?_
  refine xw_iconst (v := 2) dL_law_528 rfl ?_
  refine xw_iadd dL_law_529 ?_
  refine lx_rd 2 rfl hE (by omega) hL dL_law_530 ?_
  refine xw_aload_n dL_law_531 rfl rfl ?_
  refine lx_callSH (T_X0_person hN ek) lS_L_171 C_X0_person dL_law_532 rfl (by omega) (Nat.le_of_ble_eq_true rfl) (by show h1.2.2.1 ≤ kM; omega) (by show h1.2.2.2 ≤ nM; omega) ?_
  refine xw_istore dL_law_535 (by decide) ?_
  refine xw_aload_n dL_law_537 rfl rfl ?_
  refine xw_aload_n dL_law_538 rfl rfl ?_
  refine xw_iload dL_law_539 rfl ?_
  refine xw_iconst (v := 1) dL_law_541 rfl ?_
  refine xw_iadd dL_law_542 ?_
  refine lx_rd 1 rfl hE1 (by omega) hL dL_law_543 ?_
  refine xw_aload_n dL_law_544 rfl rfl ?_
  refine xw_iload dL_law_545 rfl ?_
  refine xw_iconst (v := 2) dL_law_547 rfl ?_
  refine xw_iadd dL_law_548 ?_
  refine lx_rd 2 rfl hE1 (by omega) hL dL_law_549 ?_
  refine lx_callT (T_person ef) lV_L_173 C_X4_person rfl dL_law_550 hE1.2.2.2.2 rfl (by omega) (Nat.le_of_ble_eq_true rfl) ?_
  intro h2 hT2 hs2
  have hE2 := hE1.same hs2 hT2
  refine xw_istore dL_law_553 (by decide) ?_
  refine xw_aload_n dL_law_555 rfl rfl ?_
  have et1 : f_thrown S1 = some (S1.1 0) := rfl
  refine lx_callT (T_thrown et1) lV_L_156 C_X4_thrown rfl dL_law_556 hT2 rfl (by omega) (Nat.le_of_ble_eq_true rfl) ?_
  intro h3 hT3 hs3
  have hE3 := hE2.same hs3 hT3
  rw [et]
  refine xw_iload dL_law_559 rfl ?_
  refine xw_icmp_eq (tgt := 566) dL_law_561 (by decide) (fun _ => ?_) (fun z => absurd rfl z)
  refine xw_iload dL_law_566 rfl ?_
  have fin : LI h3 S1 := hP h3 hT3 (hs2.trans hs3)
  have hn1 : h3.2.2 = h1.2.2 := hs3.1.1.trans hs2.1.1
  have hq1 : h3.2.2.1 ≤ h.2.2.1 + 14000 := by rw [hn1]; omega
  have hq2 : h3.2.2.2 ≤ h.2.2.2 + 98000 := by rw [hn1]; omega
  by_cases hr : r = 0
  · refine xw_if_ne (tgt := 583) dL_law_568 (by decide) (fun z => absurd hr z) (fun _ => ?_)
    have hO : h3.2.1 o 0 = _ := (congrFun ((hs3.2.2 _ _ _ _ hE2.2.2.2.1 (by unfold tP; omega)).trans (hs2.2.2 _ _ _ _ hE1.2.2.2.1 (by unfold tP; omega))) 0).trans (ho hr)
    refine xw_aload_n dL_law_571 rfl rfl ?_
    refine xw_iconst (v := 0) dL_law_572 rfl ?_
    refine xw_lald dL_law_573 hE3.2.2.2.1 (by unfold vp_in; decide) hO ?_
    refine xw_iload dL_law_574 rfl ?_
    refine xw_i2l dL_law_576 ?_
    refine xw_lcmp dL_law_577 ?_
    rw [lx_cmp]
    refine xw_if_eq (tgt := 583) dL_law_578 (by decide) (fun _ => ?_) (fun z => absurd rfl z)
    refine xw_goto (tgt := 3015) dL_law_583 (by decide) ?_
    exact lx_lsK (kk h3 S1 fin hq1 hq2) ⟨rfl, rfl, rfl, rfl, rfl, trivial⟩
  · refine xw_if_ne (tgt := 583) dL_law_568 (by decide) (fun _ => ?_) (fun z => absurd z hr)
    refine xw_goto (tgt := 3015) dL_law_583 (by decide) ?_
    exact lx_lsK (kk h3 S1 fin hq1 hq2) ⟨rfl, rfl, rfl, rfl, rfl, trivial⟩
def LOp_6 (E : XEnv) (n g b L : Nat) (xs : Nat → Int32) (x m o : Nat) (ad : Nat → Nat) (LI : XH → TS → Prop) : Prop := ∀ (h : XH) (S : TS) (a1 : Int32) (a2 : Int32), LI h S → ∃ r h1 v S1, k_X0_eases n g E.2.2.2 x a1 a2 o h = some (r, h1) ∧ f_eases n a1 a2 S = some (v, S1) ∧ S1.1 0 = r ∧ LE b L xs x m o ad h1 S ∧ (r = 0 → h1.2.1 o 0 = .long v.toInt64) ∧ LB h h1 ∧ ∀ h2, TW m ad S1 h2 → xsame tP h1 h2 → LI h2 S1
set_option maxHeartbeats 4000000 in
theorem law_c6 {l : Launch} {E : XEnv} {n g b L : Nat} {xs : Nat → Int32} {x m o : Nat} {ad : Nat → Nat} {LI : XH → TS → Prop} (hop : LOp_6 E n g b L xs x m o ad LI) (hLE : ∀ h S, LI h S → LE b L xs x m o ad h S) (hN : va_Nc "java/lang/IllegalArgumentException" "java/util/NoSuchElementException" E.1) {d kM nM i : Nat} {h : XH} {S : TS} {Q : XO → XH → Prop} (hI : LI h S) (hg : g ≤ 100) (hd : 2000 ≤ d) (hi : i + 5 < L) (hL : L ≤ 384) (hk : h.2.2.1 + 14000 ≤ kM) (hn : h.2.2.2 + 98000 ≤ nM) (kk : ∀ h2 S2, LI h2 S2 → h2.2.2.1 ≤ h.2.2.1 + 14000 → h2.2.2.2 ≤ h.2.2.2 + 98000 → XW l E mL_law d (kM - h2.2.2.1) (nM - h2.2.2.2) 3015 [(0, .ref b), (1, .ref x), (2, .ref m), (3, .ref o), (4, .int (Int32.ofNat i))] [] h2 Q) : XW l E mL_law d (kM - h.2.2.1) (nM - h.2.2.2) 586 [(0, .ref b), (1, .ref x), (2, .ref m), (3, .ref o), (4, .int (Int32.ofNat i))] [] h Q := by
  obtain ⟨r, h1, v, S1, ek, ef, et, hE1, ho, hB, hP⟩ := hop h S (xs (i + 1)) (xs (i + 2)) hI
  have hE := hLE h S hI
  have hB1 : h1.2.2.1 ≤ h.2.2.1 + 14000 := hB.2.1
  have hB2 : h1.2.2.2 ≤ h.2.2.2 + 98000 := hB.2.2.2
  refine xw_aload_n dL_law_586 rfl rfl ?_
  refine xw_aload_n dL_law_587 rfl rfl ?_
  refine xw_iload dL_law_588 rfl ?_
  refine xw_iconst (v := 1) dL_law_590 rfl ?_
  refine xw_iadd dL_law_591 ?_
  refine lx_rd 1 rfl hE (by omega) hL dL_law_592 ?_
  refine xw_aload_n dL_law_593 rfl rfl ?_
  refine xw_iload dL_law_594 rfl ?_
  refine xw_iconst (v := 2) dL_law_596 rfl ?_
  refine xw_iadd dL_law_597 ?_
  refine lx_rd 2 rfl hE (by omega) hL dL_law_598 ?_
  refine xw_aload_n dL_law_599 rfl rfl ?_
  refine lx_callSH (T_X0_eases hN ek) lS_L_174 C_X0_eases dL_law_600 rfl (by omega) (Nat.le_of_ble_eq_true rfl) (by show h1.2.2.1 ≤ kM; omega) (by show h1.2.2.2 ≤ nM; omega) ?_
  refine xw_istore dL_law_603 (by decide) ?_
  refine xw_aload_n dL_law_605 rfl rfl ?_
  refine xw_aload_n dL_law_606 rfl rfl ?_
  refine xw_iload dL_law_607 rfl ?_
  refine xw_iconst (v := 1) dL_law_609 rfl ?_
  refine xw_iadd dL_law_610 ?_
  refine lx_rd 1 rfl hE1 (by omega) hL dL_law_611 ?_
  refine xw_aload_n dL_law_612 rfl rfl ?_
  refine xw_iload dL_law_613 rfl ?_
  refine xw_iconst (v := 2) dL_law_615 rfl ?_
  refine xw_iadd dL_law_616 ?_
  refine lx_rd 2 rfl hE1 (by omega) hL dL_law_617 ?_
  refine lx_callT (T_eases ef) lV_L_176 C_X4_eases rfl dL_law_618 hE1.2.2.2.2 rfl (by omega) (Nat.le_of_ble_eq_true rfl) ?_
  intro h2 hT2 hs2
  have hE2 := hE1.same hs2 hT2
  refine xw_istore dL_law_621 (by decide) ?_
  refine xw_aload_n dL_law_623 rfl rfl ?_
  have et1 : f_thrown S1 = some (S1.1 0) := rfl
  refine lx_callT (T_thrown et1) lV_L_156 C_X4_thrown rfl dL_law_624 hT2 rfl (by omega) (Nat.le_of_ble_eq_true rfl) ?_
  intro h3 hT3 hs3
  have hE3 := hE2.same hs3 hT3
  rw [et]
  refine xw_iload dL_law_627 rfl ?_
  refine xw_icmp_eq (tgt := 634) dL_law_629 (by decide) (fun _ => ?_) (fun z => absurd rfl z)
  refine xw_iload dL_law_634 rfl ?_
  have fin : LI h3 S1 := hP h3 hT3 (hs2.trans hs3)
  have hn1 : h3.2.2 = h1.2.2 := hs3.1.1.trans hs2.1.1
  have hq1 : h3.2.2.1 ≤ h.2.2.1 + 14000 := by rw [hn1]; omega
  have hq2 : h3.2.2.2 ≤ h.2.2.2 + 98000 := by rw [hn1]; omega
  by_cases hr : r = 0
  · refine xw_if_ne (tgt := 651) dL_law_636 (by decide) (fun z => absurd hr z) (fun _ => ?_)
    have hO : h3.2.1 o 0 = _ := (congrFun ((hs3.2.2 _ _ _ _ hE2.2.2.2.1 (by unfold tP; omega)).trans (hs2.2.2 _ _ _ _ hE1.2.2.2.1 (by unfold tP; omega))) 0).trans (ho hr)
    refine xw_aload_n dL_law_639 rfl rfl ?_
    refine xw_iconst (v := 0) dL_law_640 rfl ?_
    refine xw_lald dL_law_641 hE3.2.2.2.1 (by unfold vp_in; decide) hO ?_
    refine xw_iload dL_law_642 rfl ?_
    refine xw_i2l dL_law_644 ?_
    refine xw_lcmp dL_law_645 ?_
    rw [lx_cmp]
    refine xw_if_eq (tgt := 651) dL_law_646 (by decide) (fun _ => ?_) (fun z => absurd rfl z)
    refine xw_goto (tgt := 3015) dL_law_651 (by decide) ?_
    exact lx_lsK (kk h3 S1 fin hq1 hq2) ⟨rfl, rfl, rfl, rfl, rfl, trivial⟩
  · refine xw_if_ne (tgt := 651) dL_law_636 (by decide) (fun _ => ?_) (fun z => absurd z hr)
    refine xw_goto (tgt := 3015) dL_law_651 (by decide) ?_
    exact lx_lsK (kk h3 S1 fin hq1 hq2) ⟨rfl, rfl, rfl, rfl, rfl, trivial⟩
def LOp_7 (E : XEnv) (n g b L : Nat) (xs : Nat → Int32) (x m o : Nat) (ad : Nat → Nat) (LI : XH → TS → Prop) : Prop := ∀ (h : XH) (S : TS) (a1 : Int32), LI h S → ∃ v h1 S1, k_X1_days n g E.2.2.2 x a1 h = some (v, h1) ∧ f_days n a1 S = some (v, S1) ∧ LE b L xs x m o ad h1 S ∧ LB h h1 ∧ ∀ h2, TW m ad S1 h2 → xsame tP h1 h2 → LI h2 S1
set_option maxHeartbeats 4000000 in
theorem law_c7 {l : Launch} {E : XEnv} {n g b L : Nat} {xs : Nat → Int32} {x m o : Nat} {ad : Nat → Nat} {LI : XH → TS → Prop} (hop : LOp_7 E n g b L xs x m o ad LI) (hLE : ∀ h S, LI h S → LE b L xs x m o ad h S) (hN : va_Nc "java/lang/IllegalArgumentException" "java/util/NoSuchElementException" E.1) {d kM nM i : Nat} {h : XH} {S : TS} {Q : XO → XH → Prop} (hI : LI h S) (hg : g ≤ 100) (hd : 2000 ≤ d) (hi : i + 5 < L) (hL : L ≤ 384) (hk : h.2.2.1 + 14000 ≤ kM) (hn : h.2.2.2 + 98000 ≤ nM) (kk : ∀ h2 S2, LI h2 S2 → h2.2.2.1 ≤ h.2.2.1 + 14000 → h2.2.2.2 ≤ h.2.2.2 + 98000 → XW l E mL_law d (kM - h2.2.2.1) (nM - h2.2.2.2) 3015 [(0, .ref b), (1, .ref x), (2, .ref m), (3, .ref o), (4, .int (Int32.ofNat i))] [] h2 Q) : XW l E mL_law d (kM - h.2.2.1) (nM - h.2.2.2) 654 [(0, .ref b), (1, .ref x), (2, .ref m), (3, .ref o), (4, .int (Int32.ofNat i))] [] h Q := by
  obtain ⟨v, h1, S1, ek, ef, hE1, hB, hP⟩ := hop h S (xs (i + 1)) hI
  have hE := hLE h S hI
  have hB1 : h1.2.2.1 ≤ h.2.2.1 + 14000 := hB.2.1
  have hB2 : h1.2.2.2 ≤ h.2.2.2 + 98000 := hB.2.2.2
  refine xw_aload_n dL_law_654 rfl rfl ?_
  refine xw_aload_n dL_law_655 rfl rfl ?_
  refine xw_iload dL_law_656 rfl ?_
  refine xw_iconst (v := 1) dL_law_658 rfl ?_
  refine xw_iadd dL_law_659 ?_
  refine lx_rd 1 rfl hE (by omega) hL dL_law_660 ?_
  refine lx_callV (T_X1_days ek) lV_L_177 C_X1_days rfl dL_law_661 hE.2.2.1 rfl (by omega) (Nat.le_of_ble_eq_true rfl) (by show h1.2.2.1 ≤ kM; omega) (by show h1.2.2.2 ≤ nM; omega) ?_
  refine xw_aload_n dL_law_664 rfl rfl ?_
  refine xw_aload_n dL_law_665 rfl rfl ?_
  refine xw_iload dL_law_666 rfl ?_
  refine xw_iconst (v := 1) dL_law_668 rfl ?_
  refine xw_iadd dL_law_669 ?_
  refine lx_rd 1 rfl hE1 (by omega) hL dL_law_670 ?_
  refine lx_callT (T_days ef) lV_L_180 C_X4_days rfl dL_law_671 hE1.2.2.2.2 rfl (by omega) (Nat.le_of_ble_eq_true rfl) ?_
  intro h2 hT2 hs2
  have hE2 := hE1.same hs2 hT2
  refine xw_icmp_eq (tgt := 3015) dL_law_674 (by decide) (fun _ => ?_) (fun z => absurd rfl z)
  have fin : LI h2 S1 := hP h2 hT2 hs2
  have hq1 : h2.2.2.1 ≤ h.2.2.1 + 14000 := by rw [hs2.1.1]; omega
  have hq2 : h2.2.2.2 ≤ h.2.2.2 + 98000 := by rw [hs2.1.1]; omega
  exact lx_lsK (kk h2 S1 fin hq1 hq2) ⟨rfl, rfl, rfl, rfl, rfl, trivial⟩
def LOp_8 (E : XEnv) (n g b L : Nat) (xs : Nat → Int32) (x m o : Nat) (ad : Nat → Nat) (LI : XH → TS → Prop) : Prop := ∀ (h : XH) (S : TS) (a1 : Int32) (a2 : Int32), LI h S → ∃ r h1 v S1, k_X0_putIn n g E.2.2.2 x a1 a2 o h = some (r, h1) ∧ f_putIn n a1 a2 S = some (v, S1) ∧ S1.1 0 = r ∧ LE b L xs x m o ad h1 S ∧ (r = 0 → h1.2.1 o 0 = .long v.toInt64) ∧ LB h h1 ∧ ∀ h2, TW m ad S1 h2 → xsame tP h1 h2 → LI h2 S1
set_option maxHeartbeats 4000000 in
theorem law_c8 {l : Launch} {E : XEnv} {n g b L : Nat} {xs : Nat → Int32} {x m o : Nat} {ad : Nat → Nat} {LI : XH → TS → Prop} (hop : LOp_8 E n g b L xs x m o ad LI) (hLE : ∀ h S, LI h S → LE b L xs x m o ad h S) (hN : va_Nc "java/lang/IllegalArgumentException" "java/util/NoSuchElementException" E.1) {d kM nM i : Nat} {h : XH} {S : TS} {Q : XO → XH → Prop} (hI : LI h S) (hg : g ≤ 100) (hd : 2000 ≤ d) (hi : i + 5 < L) (hL : L ≤ 384) (hk : h.2.2.1 + 14000 ≤ kM) (hn : h.2.2.2 + 98000 ≤ nM) (kk : ∀ h2 S2, LI h2 S2 → h2.2.2.1 ≤ h.2.2.1 + 14000 → h2.2.2.2 ≤ h.2.2.2 + 98000 → XW l E mL_law d (kM - h2.2.2.1) (nM - h2.2.2.2) 3015 [(0, .ref b), (1, .ref x), (2, .ref m), (3, .ref o), (4, .int (Int32.ofNat i))] [] h2 Q) : XW l E mL_law d (kM - h.2.2.1) (nM - h.2.2.2) 679 [(0, .ref b), (1, .ref x), (2, .ref m), (3, .ref o), (4, .int (Int32.ofNat i))] [] h Q := by
  obtain ⟨r, h1, v, S1, ek, ef, et, hE1, ho, hB, hP⟩ := hop h S (xs (i + 1)) (xs (i + 2)) hI
  have hE := hLE h S hI
  have hB1 : h1.2.2.1 ≤ h.2.2.1 + 14000 := hB.2.1
  have hB2 : h1.2.2.2 ≤ h.2.2.2 + 98000 := hB.2.2.2
  refine xw_aload_n dL_law_679 rfl rfl ?_
  refine xw_aload_n dL_law_680 rfl rfl ?_
  refine xw_iload dL_law_681 rfl ?_
  refine xw_iconst (v := 1) dL_law_683 rfl ?_
  refine xw_iadd dL_law_684 ?_
  refine lx_rd 1 rfl hE (by omega) hL dL_law_685 ?_
  refine xw_aload_n dL_law_686 rfl rfl ?_
  refine xw_iload dL_law_687 rfl ?_
  refine xw_iconst (v := 2) dL_law_689 rfl ?_
  refine xw_iadd dL_law_690 ?_
  refine lx_rd 2 rfl hE (by omega) hL dL_law_691 ?_
  refine xw_aload_n dL_law_692 rfl rfl ?_
  refine lx_callSH (T_X0_putIn hN ek) lS_L_181 C_X0_putIn dL_law_693 rfl (by omega) (Nat.le_of_ble_eq_true rfl) (by show h1.2.2.1 ≤ kM; omega) (by show h1.2.2.2 ≤ nM; omega) ?_
  refine xw_istore dL_law_696 (by decide) ?_
  refine xw_aload_n dL_law_698 rfl rfl ?_
  refine xw_aload_n dL_law_699 rfl rfl ?_
  refine xw_iload dL_law_700 rfl ?_
  refine xw_iconst (v := 1) dL_law_702 rfl ?_
  refine xw_iadd dL_law_703 ?_
  refine lx_rd 1 rfl hE1 (by omega) hL dL_law_704 ?_
  refine xw_aload_n dL_law_705 rfl rfl ?_
  refine xw_iload dL_law_706 rfl ?_
  refine xw_iconst (v := 2) dL_law_708 rfl ?_
  refine xw_iadd dL_law_709 ?_
  refine lx_rd 2 rfl hE1 (by omega) hL dL_law_710 ?_
  refine lx_callT (T_putIn ef) lV_L_183 C_X4_putIn rfl dL_law_711 hE1.2.2.2.2 rfl (by omega) (Nat.le_of_ble_eq_true rfl) ?_
  intro h2 hT2 hs2
  have hE2 := hE1.same hs2 hT2
  refine xw_istore dL_law_714 (by decide) ?_
  refine xw_aload_n dL_law_716 rfl rfl ?_
  have et1 : f_thrown S1 = some (S1.1 0) := rfl
  refine lx_callT (T_thrown et1) lV_L_156 C_X4_thrown rfl dL_law_717 hT2 rfl (by omega) (Nat.le_of_ble_eq_true rfl) ?_
  intro h3 hT3 hs3
  have hE3 := hE2.same hs3 hT3
  rw [et]
  refine xw_iload dL_law_720 rfl ?_
  refine xw_icmp_eq (tgt := 727) dL_law_722 (by decide) (fun _ => ?_) (fun z => absurd rfl z)
  refine xw_iload dL_law_727 rfl ?_
  have fin : LI h3 S1 := hP h3 hT3 (hs2.trans hs3)
  have hn1 : h3.2.2 = h1.2.2 := hs3.1.1.trans hs2.1.1
  have hq1 : h3.2.2.1 ≤ h.2.2.1 + 14000 := by rw [hn1]; omega
  have hq2 : h3.2.2.2 ≤ h.2.2.2 + 98000 := by rw [hn1]; omega
  by_cases hr : r = 0
  · refine xw_if_ne (tgt := 744) dL_law_729 (by decide) (fun z => absurd hr z) (fun _ => ?_)
    have hO : h3.2.1 o 0 = _ := (congrFun ((hs3.2.2 _ _ _ _ hE2.2.2.2.1 (by unfold tP; omega)).trans (hs2.2.2 _ _ _ _ hE1.2.2.2.1 (by unfold tP; omega))) 0).trans (ho hr)
    refine xw_aload_n dL_law_732 rfl rfl ?_
    refine xw_iconst (v := 0) dL_law_733 rfl ?_
    refine xw_lald dL_law_734 hE3.2.2.2.1 (by unfold vp_in; decide) hO ?_
    refine xw_iload dL_law_735 rfl ?_
    refine xw_i2l dL_law_737 ?_
    refine xw_lcmp dL_law_738 ?_
    rw [lx_cmp]
    refine xw_if_eq (tgt := 744) dL_law_739 (by decide) (fun _ => ?_) (fun z => absurd rfl z)
    refine xw_goto (tgt := 3015) dL_law_744 (by decide) ?_
    exact lx_lsK (kk h3 S1 fin hq1 hq2) ⟨rfl, rfl, rfl, rfl, rfl, trivial⟩
  · refine xw_if_ne (tgt := 744) dL_law_729 (by decide) (fun _ => ?_) (fun z => absurd z hr)
    refine xw_goto (tgt := 3015) dL_law_744 (by decide) ?_
    exact lx_lsK (kk h3 S1 fin hq1 hq2) ⟨rfl, rfl, rfl, rfl, rfl, trivial⟩
def LOp_9 (E : XEnv) (n g b L : Nat) (xs : Nat → Int32) (x m o : Nat) (ad : Nat → Nat) (LI : XH → TS → Prop) : Prop := ∀ (h : XH) (S : TS) (a1 : Int32), LI h S → ∃ r h1 v S1, k_X0_out n E.2.2.2 x a1 o h = some (r, h1) ∧ f_out n a1 S = some (v, S1) ∧ S1.1 0 = r ∧ LE b L xs x m o ad h1 S ∧ (r = 0 → h1.2.1 o 0 = .long v.toInt64) ∧ LB h h1 ∧ ∀ h2, TW m ad S1 h2 → xsame tP h1 h2 → LI h2 S1
set_option maxHeartbeats 4000000 in
theorem law_c9 {l : Launch} {E : XEnv} {n g b L : Nat} {xs : Nat → Int32} {x m o : Nat} {ad : Nat → Nat} {LI : XH → TS → Prop} (hop : LOp_9 E n g b L xs x m o ad LI) (hLE : ∀ h S, LI h S → LE b L xs x m o ad h S) (hN : va_Nc "java/lang/IllegalArgumentException" "java/util/NoSuchElementException" E.1) {d kM nM i : Nat} {h : XH} {S : TS} {Q : XO → XH → Prop} (hI : LI h S) (hg : g ≤ 100) (hd : 2000 ≤ d) (hi : i + 5 < L) (hL : L ≤ 384) (hk : h.2.2.1 + 14000 ≤ kM) (hn : h.2.2.2 + 98000 ≤ nM) (kk : ∀ h2 S2, LI h2 S2 → h2.2.2.1 ≤ h.2.2.1 + 14000 → h2.2.2.2 ≤ h.2.2.2 + 98000 → XW l E mL_law d (kM - h2.2.2.1) (nM - h2.2.2.2) 3015 [(0, .ref b), (1, .ref x), (2, .ref m), (3, .ref o), (4, .int (Int32.ofNat i))] [] h2 Q) : XW l E mL_law d (kM - h.2.2.1) (nM - h.2.2.2) 747 [(0, .ref b), (1, .ref x), (2, .ref m), (3, .ref o), (4, .int (Int32.ofNat i))] [] h Q := by
  obtain ⟨r, h1, v, S1, ek, ef, et, hE1, ho, hB, hP⟩ := hop h S (xs (i + 1)) hI
  have hE := hLE h S hI
  have hB1 : h1.2.2.1 ≤ h.2.2.1 + 14000 := hB.2.1
  have hB2 : h1.2.2.2 ≤ h.2.2.2 + 98000 := hB.2.2.2
  refine xw_aload_n dL_law_747 rfl rfl ?_
  refine xw_aload_n dL_law_748 rfl rfl ?_
  refine xw_iload dL_law_749 rfl ?_
  refine xw_iconst (v := 1) dL_law_751 rfl ?_
  refine xw_iadd dL_law_752 ?_
  refine lx_rd 1 rfl hE (by omega) hL dL_law_753 ?_
  refine xw_aload_n dL_law_754 rfl rfl ?_
  refine lx_callSH (T_X0_out hN ek) lS_L_184 C_X0_out dL_law_755 rfl (by omega) (Nat.le_of_ble_eq_true rfl) (by show h1.2.2.1 ≤ kM; omega) (by show h1.2.2.2 ≤ nM; omega) ?_
  refine xw_istore dL_law_758 (by decide) ?_
  refine xw_aload_n dL_law_760 rfl rfl ?_
  refine xw_aload_n dL_law_761 rfl rfl ?_
  refine xw_iload dL_law_762 rfl ?_
  refine xw_iconst (v := 1) dL_law_764 rfl ?_
  refine xw_iadd dL_law_765 ?_
  refine lx_rd 1 rfl hE1 (by omega) hL dL_law_766 ?_
  refine lx_callT (T_out ef) lV_L_186 C_X4_out rfl dL_law_767 hE1.2.2.2.2 rfl (by omega) (Nat.le_of_ble_eq_true rfl) ?_
  intro h2 hT2 hs2
  have hE2 := hE1.same hs2 hT2
  refine xw_istore dL_law_770 (by decide) ?_
  refine xw_aload_n dL_law_772 rfl rfl ?_
  have et1 : f_thrown S1 = some (S1.1 0) := rfl
  refine lx_callT (T_thrown et1) lV_L_156 C_X4_thrown rfl dL_law_773 hT2 rfl (by omega) (Nat.le_of_ble_eq_true rfl) ?_
  intro h3 hT3 hs3
  have hE3 := hE2.same hs3 hT3
  rw [et]
  refine xw_iload dL_law_776 rfl ?_
  refine xw_icmp_eq (tgt := 783) dL_law_778 (by decide) (fun _ => ?_) (fun z => absurd rfl z)
  refine xw_iload dL_law_783 rfl ?_
  have fin : LI h3 S1 := hP h3 hT3 (hs2.trans hs3)
  have hn1 : h3.2.2 = h1.2.2 := hs3.1.1.trans hs2.1.1
  have hq1 : h3.2.2.1 ≤ h.2.2.1 + 14000 := by rw [hn1]; omega
  have hq2 : h3.2.2.2 ≤ h.2.2.2 + 98000 := by rw [hn1]; omega
  by_cases hr : r = 0
  · refine xw_if_ne (tgt := 800) dL_law_785 (by decide) (fun z => absurd hr z) (fun _ => ?_)
    have hO : h3.2.1 o 0 = _ := (congrFun ((hs3.2.2 _ _ _ _ hE2.2.2.2.1 (by unfold tP; omega)).trans (hs2.2.2 _ _ _ _ hE1.2.2.2.1 (by unfold tP; omega))) 0).trans (ho hr)
    refine xw_aload_n dL_law_788 rfl rfl ?_
    refine xw_iconst (v := 0) dL_law_789 rfl ?_
    refine xw_lald dL_law_790 hE3.2.2.2.1 (by unfold vp_in; decide) hO ?_
    refine xw_iload dL_law_791 rfl ?_
    refine xw_i2l dL_law_793 ?_
    refine xw_lcmp dL_law_794 ?_
    rw [lx_cmp]
    refine xw_if_eq (tgt := 800) dL_law_795 (by decide) (fun _ => ?_) (fun z => absurd rfl z)
    refine xw_goto (tgt := 3015) dL_law_800 (by decide) ?_
    exact lx_lsK (kk h3 S1 fin hq1 hq2) ⟨rfl, rfl, rfl, rfl, rfl, trivial⟩
  · refine xw_if_ne (tgt := 800) dL_law_785 (by decide) (fun _ => ?_) (fun z => absurd z hr)
    refine xw_goto (tgt := 3015) dL_law_800 (by decide) ?_
    exact lx_lsK (kk h3 S1 fin hq1 hq2) ⟨rfl, rfl, rfl, rfl, rfl, trivial⟩
def LOp_10 (E : XEnv) (n g b L : Nat) (xs : Nat → Int32) (x m o : Nat) (ad : Nat → Nat) (LI : XH → TS → Prop) : Prop := ∀ (h : XH) (S : TS) (a1 : Int32) (a2 : Int32), LI h S → ∃ r h1 v S1, k_X0_stuff n E.2.2.2 x a1 a2 o h = some (r, h1) ∧ f_stuff n a1 a2 S = some (v, S1) ∧ S1.1 0 = r ∧ LE b L xs x m o ad h1 S ∧ (r = 0 → h1.2.1 o 0 = .long v.toInt64) ∧ LB h h1 ∧ ∀ h2, TW m ad S1 h2 → xsame tP h1 h2 → LI h2 S1
set_option maxHeartbeats 4000000 in
theorem law_c10 {l : Launch} {E : XEnv} {n g b L : Nat} {xs : Nat → Int32} {x m o : Nat} {ad : Nat → Nat} {LI : XH → TS → Prop} (hop : LOp_10 E n g b L xs x m o ad LI) (hLE : ∀ h S, LI h S → LE b L xs x m o ad h S) (hN : va_Nc "java/lang/IllegalArgumentException" "java/util/NoSuchElementException" E.1) {d kM nM i : Nat} {h : XH} {S : TS} {Q : XO → XH → Prop} (hI : LI h S) (hg : g ≤ 100) (hd : 2000 ≤ d) (hi : i + 5 < L) (hL : L ≤ 384) (hk : h.2.2.1 + 14000 ≤ kM) (hn : h.2.2.2 + 98000 ≤ nM) (kk : ∀ h2 S2, LI h2 S2 → h2.2.2.1 ≤ h.2.2.1 + 14000 → h2.2.2.2 ≤ h.2.2.2 + 98000 → XW l E mL_law d (kM - h2.2.2.1) (nM - h2.2.2.2) 3015 [(0, .ref b), (1, .ref x), (2, .ref m), (3, .ref o), (4, .int (Int32.ofNat i))] [] h2 Q) : XW l E mL_law d (kM - h.2.2.1) (nM - h.2.2.2) 803 [(0, .ref b), (1, .ref x), (2, .ref m), (3, .ref o), (4, .int (Int32.ofNat i))] [] h Q := by
  obtain ⟨r, h1, v, S1, ek, ef, et, hE1, ho, hB, hP⟩ := hop h S (xs (i + 1)) (xs (i + 2)) hI
  have hE := hLE h S hI
  have hB1 : h1.2.2.1 ≤ h.2.2.1 + 14000 := hB.2.1
  have hB2 : h1.2.2.2 ≤ h.2.2.2 + 98000 := hB.2.2.2
  refine xw_aload_n dL_law_803 rfl rfl ?_
  refine xw_aload_n dL_law_804 rfl rfl ?_
  refine xw_iload dL_law_805 rfl ?_
  refine xw_iconst (v := 1) dL_law_807 rfl ?_
  refine xw_iadd dL_law_808 ?_
  refine lx_rd 1 rfl hE (by omega) hL dL_law_809 ?_
  refine xw_aload_n dL_law_810 rfl rfl ?_
  refine xw_iload dL_law_811 rfl ?_
  refine xw_iconst (v := 2) dL_law_813 rfl ?_
  refine xw_iadd dL_law_814 ?_
  refine lx_rd 2 rfl hE (by omega) hL dL_law_815 ?_
  refine xw_aload_n dL_law_816 rfl rfl ?_
  refine lx_callSH (T_X0_stuff hN ek) lS_L_187 C_X0_stuff dL_law_817 rfl (by omega) (Nat.le_of_ble_eq_true rfl) (by show h1.2.2.1 ≤ kM; omega) (by show h1.2.2.2 ≤ nM; omega) ?_
  refine xw_istore dL_law_820 (by decide) ?_
  refine xw_aload_n dL_law_822 rfl rfl ?_
  refine xw_aload_n dL_law_823 rfl rfl ?_
  refine xw_iload dL_law_824 rfl ?_
  refine xw_iconst (v := 1) dL_law_826 rfl ?_
  refine xw_iadd dL_law_827 ?_
  refine lx_rd 1 rfl hE1 (by omega) hL dL_law_828 ?_
  refine xw_aload_n dL_law_829 rfl rfl ?_
  refine xw_iload dL_law_830 rfl ?_
  refine xw_iconst (v := 2) dL_law_832 rfl ?_
  refine xw_iadd dL_law_833 ?_
  refine lx_rd 2 rfl hE1 (by omega) hL dL_law_834 ?_
  refine lx_callT (T_stuff ef) lV_L_189 C_X4_stuff rfl dL_law_835 hE1.2.2.2.2 rfl (by omega) (Nat.le_of_ble_eq_true rfl) ?_
  intro h2 hT2 hs2
  have hE2 := hE1.same hs2 hT2
  refine xw_istore dL_law_838 (by decide) ?_
  refine xw_aload_n dL_law_840 rfl rfl ?_
  have et1 : f_thrown S1 = some (S1.1 0) := rfl
  refine lx_callT (T_thrown et1) lV_L_156 C_X4_thrown rfl dL_law_841 hT2 rfl (by omega) (Nat.le_of_ble_eq_true rfl) ?_
  intro h3 hT3 hs3
  have hE3 := hE2.same hs3 hT3
  rw [et]
  refine xw_iload dL_law_844 rfl ?_
  refine xw_icmp_eq (tgt := 851) dL_law_846 (by decide) (fun _ => ?_) (fun z => absurd rfl z)
  refine xw_iload dL_law_851 rfl ?_
  have fin : LI h3 S1 := hP h3 hT3 (hs2.trans hs3)
  have hn1 : h3.2.2 = h1.2.2 := hs3.1.1.trans hs2.1.1
  have hq1 : h3.2.2.1 ≤ h.2.2.1 + 14000 := by rw [hn1]; omega
  have hq2 : h3.2.2.2 ≤ h.2.2.2 + 98000 := by rw [hn1]; omega
  by_cases hr : r = 0
  · refine xw_if_ne (tgt := 868) dL_law_853 (by decide) (fun z => absurd hr z) (fun _ => ?_)
    have hO : h3.2.1 o 0 = _ := (congrFun ((hs3.2.2 _ _ _ _ hE2.2.2.2.1 (by unfold tP; omega)).trans (hs2.2.2 _ _ _ _ hE1.2.2.2.1 (by unfold tP; omega))) 0).trans (ho hr)
    refine xw_aload_n dL_law_856 rfl rfl ?_
    refine xw_iconst (v := 0) dL_law_857 rfl ?_
    refine xw_lald dL_law_858 hE3.2.2.2.1 (by unfold vp_in; decide) hO ?_
    refine xw_iload dL_law_859 rfl ?_
    refine xw_i2l dL_law_861 ?_
    refine xw_lcmp dL_law_862 ?_
    rw [lx_cmp]
    refine xw_if_eq (tgt := 868) dL_law_863 (by decide) (fun _ => ?_) (fun z => absurd rfl z)
    refine xw_goto (tgt := 3015) dL_law_868 (by decide) ?_
    exact lx_lsK (kk h3 S1 fin hq1 hq2) ⟨rfl, rfl, rfl, rfl, rfl, trivial⟩
  · refine xw_if_ne (tgt := 868) dL_law_853 (by decide) (fun _ => ?_) (fun z => absurd z hr)
    refine xw_goto (tgt := 3015) dL_law_868 (by decide) ?_
    exact lx_lsK (kk h3 S1 fin hq1 hq2) ⟨rfl, rfl, rfl, rfl, rfl, trivial⟩
def LOp_11 (E : XEnv) (n g b L : Nat) (xs : Nat → Int32) (x m o : Nat) (ad : Nat → Nat) (LI : XH → TS → Prop) : Prop := ∀ (h : XH) (S : TS) (a1 : Int32) (a2 : Int32), LI h S → ∃ r h1 v S1, k_X0_change n g E.2.2.2 x a1 a2 o h = some (r, h1) ∧ f_change n a1 a2 S = some (v, S1) ∧ S1.1 0 = r ∧ LE b L xs x m o ad h1 S ∧ (r = 0 → h1.2.1 o 0 = .long (if v = 0 then 0 else 1)) ∧ LB h h1 ∧ ∀ h2, TW m ad S1 h2 → xsame tP h1 h2 → LI h2 S1
set_option maxHeartbeats 4000000 in
theorem law_c11 {l : Launch} {E : XEnv} {n g b L : Nat} {xs : Nat → Int32} {x m o : Nat} {ad : Nat → Nat} {LI : XH → TS → Prop} (hop : LOp_11 E n g b L xs x m o ad LI) (hLE : ∀ h S, LI h S → LE b L xs x m o ad h S) (hN : va_Nc "java/lang/IllegalArgumentException" "java/util/NoSuchElementException" E.1) {d kM nM i : Nat} {h : XH} {S : TS} {Q : XO → XH → Prop} (hI : LI h S) (hg : g ≤ 100) (hd : 2000 ≤ d) (hi : i + 5 < L) (hL : L ≤ 384) (hk : h.2.2.1 + 14000 ≤ kM) (hn : h.2.2.2 + 98000 ≤ nM) (kk : ∀ h2 S2, LI h2 S2 → h2.2.2.1 ≤ h.2.2.1 + 14000 → h2.2.2.2 ≤ h.2.2.2 + 98000 → XW l E mL_law d (kM - h2.2.2.1) (nM - h2.2.2.2) 3015 [(0, .ref b), (1, .ref x), (2, .ref m), (3, .ref o), (4, .int (Int32.ofNat i))] [] h2 Q) : XW l E mL_law d (kM - h.2.2.1) (nM - h.2.2.2) 871 [(0, .ref b), (1, .ref x), (2, .ref m), (3, .ref o), (4, .int (Int32.ofNat i))] [] h Q := by
  obtain ⟨r, h1, v, S1, ek, ef, et, hE1, ho, hB, hP⟩ := hop h S (xs (i + 1)) (xs (i + 2)) hI
  have hE := hLE h S hI
  have hB1 : h1.2.2.1 ≤ h.2.2.1 + 14000 := hB.2.1
  have hB2 : h1.2.2.2 ≤ h.2.2.2 + 98000 := hB.2.2.2
  refine xw_aload_n dL_law_871 rfl rfl ?_
  refine xw_aload_n dL_law_872 rfl rfl ?_
  refine xw_iload dL_law_873 rfl ?_
  refine xw_iconst (v := 1) dL_law_875 rfl ?_
  refine xw_iadd dL_law_876 ?_
  refine lx_rd 1 rfl hE (by omega) hL dL_law_877 ?_
  refine xw_aload_n dL_law_878 rfl rfl ?_
  refine xw_iload dL_law_879 rfl ?_
  refine xw_iconst (v := 2) dL_law_881 rfl ?_
  refine xw_iadd dL_law_882 ?_
  refine lx_rd 2 rfl hE (by omega) hL dL_law_883 ?_
  refine xw_aload_n dL_law_884 rfl rfl ?_
  refine lx_callSH (T_X0_change hN ek) lS_L_190 C_X0_change dL_law_885 rfl (by omega) (Nat.le_of_ble_eq_true rfl) (by show h1.2.2.1 ≤ kM; omega) (by show h1.2.2.2 ≤ nM; omega) ?_
  refine xw_istore dL_law_888 (by decide) ?_
  refine xw_aload_n dL_law_890 rfl rfl ?_
  refine xw_aload_n dL_law_891 rfl rfl ?_
  refine xw_iload dL_law_892 rfl ?_
  refine xw_iconst (v := 1) dL_law_894 rfl ?_
  refine xw_iadd dL_law_895 ?_
  refine lx_rd 1 rfl hE1 (by omega) hL dL_law_896 ?_
  refine xw_aload_n dL_law_897 rfl rfl ?_
  refine xw_iload dL_law_898 rfl ?_
  refine xw_iconst (v := 2) dL_law_900 rfl ?_
  refine xw_iadd dL_law_901 ?_
  refine lx_rd 2 rfl hE1 (by omega) hL dL_law_902 ?_
  refine lx_callT (T_change ef) lV_L_192 C_X4_change rfl dL_law_903 hE1.2.2.2.2 rfl (by omega) (Nat.le_of_ble_eq_true rfl) ?_
  intro h2 hT2 hs2
  have hE2 := hE1.same hs2 hT2
  refine xw_istore dL_law_906 (by decide) ?_
  refine xw_aload_n dL_law_908 rfl rfl ?_
  have et1 : f_thrown S1 = some (S1.1 0) := rfl
  refine lx_callT (T_thrown et1) lV_L_156 C_X4_thrown rfl dL_law_909 hT2 rfl (by omega) (Nat.le_of_ble_eq_true rfl) ?_
  intro h3 hT3 hs3
  have hE3 := hE2.same hs3 hT3
  rw [et]
  refine xw_iload dL_law_912 rfl ?_
  refine xw_icmp_eq (tgt := 919) dL_law_914 (by decide) (fun _ => ?_) (fun z => absurd rfl z)
  refine xw_iload dL_law_919 rfl ?_
  have fin : LI h3 S1 := hP h3 hT3 (hs2.trans hs3)
  have hn1 : h3.2.2 = h1.2.2 := hs3.1.1.trans hs2.1.1
  have hq1 : h3.2.2.1 ≤ h.2.2.1 + 14000 := by rw [hn1]; omega
  have hq2 : h3.2.2.2 ≤ h.2.2.2 + 98000 := by rw [hn1]; omega
  by_cases hr : r = 0
  · refine xw_if_ne (tgt := 943) dL_law_921 (by decide) (fun z => absurd hr z) (fun _ => ?_)
    have hO : h3.2.1 o 0 = _ := (congrFun ((hs3.2.2 _ _ _ _ hE2.2.2.2.1 (by unfold tP; omega)).trans (hs2.2.2 _ _ _ _ hE1.2.2.2.1 (by unfold tP; omega))) 0).trans (ho hr)
    refine xw_aload_n dL_law_924 rfl rfl ?_
    refine xw_iconst (v := 0) dL_law_925 rfl ?_
    refine xw_lald dL_law_926 hE3.2.2.2.1 (by unfold vp_in; decide) hO ?_
    refine xw_iload dL_law_927 rfl ?_
    by_cases hv : v = 0
    · rw [if_pos hv]
      refine xw_if_eq (tgt := 936) dL_law_929 (by decide) (fun _ => ?_) (fun z => absurd hv z)
      refine xw_lconst (v := 0) dL_law_936 rfl ?_
      refine xw_lcmp dL_law_937 ?_
      rw [lx_cmp]
      refine xw_if_eq (tgt := 943) dL_law_938 (by decide) (fun _ => ?_) (fun z => absurd rfl z)
      refine xw_goto (tgt := 3015) dL_law_943 (by decide) ?_
      exact lx_lsK (kk h3 S1 fin hq1 hq2) ⟨rfl, rfl, rfl, rfl, rfl, trivial⟩
    · rw [if_neg hv]
      refine xw_if_eq (tgt := 936) dL_law_929 (by decide) (fun z => absurd z hv) (fun _ => ?_)
      refine xw_lconst (v := 1) dL_law_932 rfl ?_
      refine xw_goto (tgt := 937) dL_law_933 (by decide) ?_
      refine xw_lcmp dL_law_937 ?_
      rw [lx_cmp]
      refine xw_if_eq (tgt := 943) dL_law_938 (by decide) (fun _ => ?_) (fun z => absurd rfl z)
      refine xw_goto (tgt := 3015) dL_law_943 (by decide) ?_
      exact lx_lsK (kk h3 S1 fin hq1 hq2) ⟨rfl, rfl, rfl, rfl, rfl, trivial⟩
  · refine xw_if_ne (tgt := 943) dL_law_921 (by decide) (fun _ => ?_) (fun z => absurd z hr)
    refine xw_goto (tgt := 3015) dL_law_943 (by decide) ?_
    exact lx_lsK (kk h3 S1 fin hq1 hq2) ⟨rfl, rfl, rfl, rfl, rfl, trivial⟩
def LOp_12 (E : XEnv) (n g b L : Nat) (xs : Nat → Int32) (x m o : Nat) (ad : Nat → Nat) (LI : XH → TS → Prop) : Prop := ∀ (h : XH) (S : TS), LI h S → ∃ v h1 S1, k_X1_letIn n E.2.2.2 x h = some (v, h1) ∧ f_letIn n S = some (v, S1) ∧ LE b L xs x m o ad h1 S ∧ LB h h1 ∧ ∀ h2, TW m ad S1 h2 → xsame tP h1 h2 → LI h2 S1
set_option maxHeartbeats 4000000 in
theorem law_c12 {l : Launch} {E : XEnv} {n g b L : Nat} {xs : Nat → Int32} {x m o : Nat} {ad : Nat → Nat} {LI : XH → TS → Prop} (hop : LOp_12 E n g b L xs x m o ad LI) (hLE : ∀ h S, LI h S → LE b L xs x m o ad h S) (hN : va_Nc "java/lang/IllegalArgumentException" "java/util/NoSuchElementException" E.1) {d kM nM i : Nat} {h : XH} {S : TS} {Q : XO → XH → Prop} (hI : LI h S) (hg : g ≤ 100) (hd : 2000 ≤ d) (hi : i + 5 < L) (hL : L ≤ 384) (hk : h.2.2.1 + 14000 ≤ kM) (hn : h.2.2.2 + 98000 ≤ nM) (kk : ∀ h2 S2, LI h2 S2 → h2.2.2.1 ≤ h.2.2.1 + 14000 → h2.2.2.2 ≤ h.2.2.2 + 98000 → XW l E mL_law d (kM - h2.2.2.1) (nM - h2.2.2.2) 3015 [(0, .ref b), (1, .ref x), (2, .ref m), (3, .ref o), (4, .int (Int32.ofNat i))] [] h2 Q) : XW l E mL_law d (kM - h.2.2.1) (nM - h.2.2.2) 946 [(0, .ref b), (1, .ref x), (2, .ref m), (3, .ref o), (4, .int (Int32.ofNat i))] [] h Q := by
  obtain ⟨v, h1, S1, ek, ef, hE1, hB, hP⟩ := hop h S hI
  have hE := hLE h S hI
  have hB1 : h1.2.2.1 ≤ h.2.2.1 + 14000 := hB.2.1
  have hB2 : h1.2.2.2 ≤ h.2.2.2 + 98000 := hB.2.2.2
  refine xw_aload_n dL_law_946 rfl rfl ?_
  refine lx_callV (T_X1_letIn ek) lV_L_193 C_X1_letIn rfl dL_law_947 hE.2.2.1 rfl (by omega) (Nat.le_of_ble_eq_true rfl) (by show h1.2.2.1 ≤ kM; omega) (by show h1.2.2.2 ≤ nM; omega) ?_
  refine xw_aload_n dL_law_950 rfl rfl ?_
  refine lx_callT (T_letIn ef) lV_L_196 C_X4_letIn rfl dL_law_951 hE1.2.2.2.2 rfl (by omega) (Nat.le_of_ble_eq_true rfl) ?_
  intro h2 hT2 hs2
  have hE2 := hE1.same hs2 hT2
  refine xw_icmp_eq (tgt := 3015) dL_law_954 (by decide) (fun _ => ?_) (fun z => absurd rfl z)
  have fin : LI h2 S1 := hP h2 hT2 hs2
  have hq1 : h2.2.2.1 ≤ h.2.2.1 + 14000 := by rw [hs2.1.1]; omega
  have hq2 : h2.2.2.2 ≤ h.2.2.2 + 98000 := by rw [hs2.1.1]; omega
  exact lx_lsK (kk h2 S1 fin hq1 hq2) ⟨rfl, rfl, rfl, rfl, rfl, trivial⟩
def LOp_13 (E : XEnv) (n g b L : Nat) (xs : Nat → Int32) (x m o : Nat) (ad : Nat → Nat) (LI : XH → TS → Prop) : Prop := ∀ (h : XH) (S : TS), LI h S → ∃ v h1 S1, k_X1_undo n x h = some (v, h1) ∧ f_undo n S = some (v, S1) ∧ LE b L xs x m o ad h1 S ∧ LB h h1 ∧ ∀ h2, TW m ad S1 h2 → xsame tP h1 h2 → LI h2 S1
set_option maxHeartbeats 4000000 in
theorem law_c13 {l : Launch} {E : XEnv} {n g b L : Nat} {xs : Nat → Int32} {x m o : Nat} {ad : Nat → Nat} {LI : XH → TS → Prop} (hop : LOp_13 E n g b L xs x m o ad LI) (hLE : ∀ h S, LI h S → LE b L xs x m o ad h S) (hN : va_Nc "java/lang/IllegalArgumentException" "java/util/NoSuchElementException" E.1) {d kM nM i : Nat} {h : XH} {S : TS} {Q : XO → XH → Prop} (hI : LI h S) (hg : g ≤ 100) (hd : 2000 ≤ d) (hi : i + 5 < L) (hL : L ≤ 384) (hk : h.2.2.1 + 14000 ≤ kM) (hn : h.2.2.2 + 98000 ≤ nM) (kk : ∀ h2 S2, LI h2 S2 → h2.2.2.1 ≤ h.2.2.1 + 14000 → h2.2.2.2 ≤ h.2.2.2 + 98000 → XW l E mL_law d (kM - h2.2.2.1) (nM - h2.2.2.2) 3015 [(0, .ref b), (1, .ref x), (2, .ref m), (3, .ref o), (4, .int (Int32.ofNat i))] [] h2 Q) : XW l E mL_law d (kM - h.2.2.1) (nM - h.2.2.2) 959 [(0, .ref b), (1, .ref x), (2, .ref m), (3, .ref o), (4, .int (Int32.ofNat i))] [] h Q := by
  obtain ⟨v, h1, S1, ek, ef, hE1, hB, hP⟩ := hop h S hI
  have hE := hLE h S hI
  have hB1 : h1.2.2.1 ≤ h.2.2.1 + 14000 := hB.2.1
  have hB2 : h1.2.2.2 ≤ h.2.2.2 + 98000 := hB.2.2.2
  refine xw_aload_n dL_law_959 rfl rfl ?_
  refine lx_callV (T_X1_undo ek) lV_L_197 C_X1_undo rfl dL_law_960 hE.2.2.1 rfl (by omega) (Nat.le_of_ble_eq_true rfl) (by show h1.2.2.1 ≤ kM; omega) (by show h1.2.2.2 ≤ nM; omega) ?_
  refine xw_aload_n dL_law_963 rfl rfl ?_
  refine lx_callT (T_undo ef) lV_L_200 C_X4_undo rfl dL_law_964 hE1.2.2.2.2 rfl (by omega) (Nat.le_of_ble_eq_true rfl) ?_
  intro h2 hT2 hs2
  have hE2 := hE1.same hs2 hT2
  refine xw_icmp_eq (tgt := 3015) dL_law_967 (by decide) (fun _ => ?_) (fun z => absurd rfl z)
  have fin : LI h2 S1 := hP h2 hT2 hs2
  have hq1 : h2.2.2.1 ≤ h.2.2.1 + 14000 := by rw [hs2.1.1]; omega
  have hq2 : h2.2.2.2 ≤ h.2.2.2 + 98000 := by rw [hs2.1.1]; omega
  exact lx_lsK (kk h2 S1 fin hq1 hq2) ⟨rfl, rfl, rfl, rfl, rfl, trivial⟩
def LOp_14 (E : XEnv) (n g b L : Nat) (xs : Nat → Int32) (x m o : Nat) (ad : Nat → Nat) (LI : XH → TS → Prop) : Prop := ∀ (h : XH) (S : TS) (a1 : Int32) (a2 : Int32) (a3 : Int32), LI h S → ∃ r h1 v S1, k_X0_then n g E.2.2.2 x a1 a2 a3 o h = some (r, h1) ∧ f_then n a1 a2 a3 S = some (v, S1) ∧ S1.1 0 = r ∧ LE b L xs x m o ad h1 S ∧ (r = 0 → h1.2.1 o 0 = .long v.toInt64) ∧ LB h h1 ∧ ∀ h2, TW m ad S1 h2 → xsame tP h1 h2 → LI h2 S1
set_option maxHeartbeats 4000000 in
theorem law_c14 {l : Launch} {E : XEnv} {n g b L : Nat} {xs : Nat → Int32} {x m o : Nat} {ad : Nat → Nat} {LI : XH → TS → Prop} (hop : LOp_14 E n g b L xs x m o ad LI) (hLE : ∀ h S, LI h S → LE b L xs x m o ad h S) (hN : va_Nc "java/lang/IllegalArgumentException" "java/util/NoSuchElementException" E.1) {d kM nM i : Nat} {h : XH} {S : TS} {Q : XO → XH → Prop} (hI : LI h S) (hg : g ≤ 100) (hd : 2000 ≤ d) (hi : i + 5 < L) (hL : L ≤ 384) (hk : h.2.2.1 + 14000 ≤ kM) (hn : h.2.2.2 + 98000 ≤ nM) (kk : ∀ h2 S2, LI h2 S2 → h2.2.2.1 ≤ h.2.2.1 + 14000 → h2.2.2.2 ≤ h.2.2.2 + 98000 → XW l E mL_law d (kM - h2.2.2.1) (nM - h2.2.2.2) 3015 [(0, .ref b), (1, .ref x), (2, .ref m), (3, .ref o), (4, .int (Int32.ofNat i))] [] h2 Q) : XW l E mL_law d (kM - h.2.2.1) (nM - h.2.2.2) 972 [(0, .ref b), (1, .ref x), (2, .ref m), (3, .ref o), (4, .int (Int32.ofNat i))] [] h Q := by
  obtain ⟨r, h1, v, S1, ek, ef, et, hE1, ho, hB, hP⟩ := hop h S (xs (i + 1)) (xs (i + 2)) (xs (i + 3)) hI
  have hE := hLE h S hI
  have hB1 : h1.2.2.1 ≤ h.2.2.1 + 14000 := hB.2.1
  have hB2 : h1.2.2.2 ≤ h.2.2.2 + 98000 := hB.2.2.2
  refine xw_aload_n dL_law_972 rfl rfl ?_
  refine xw_aload_n dL_law_973 rfl rfl ?_
  refine xw_iload dL_law_974 rfl ?_
  refine xw_iconst (v := 1) dL_law_976 rfl ?_
  refine xw_iadd dL_law_977 ?_
  refine lx_rd 1 rfl hE (by omega) hL dL_law_978 ?_
  refine xw_aload_n dL_law_979 rfl rfl ?_
  refine xw_iload dL_law_980 rfl ?_
  refine xw_iconst (v := 2) dL_law_982 rfl ?_
  refine xw_iadd dL_law_983 ?_
  refine lx_rd 2 rfl hE (by omega) hL dL_law_984 ?_
  refine xw_aload_n dL_law_985 rfl rfl ?_
  refine xw_iload dL_law_986 rfl ?_
  refine xw_iconst (v := 3) dL_law_988 rfl ?_
  refine xw_iadd dL_law_989 ?_
  refine lx_rd 3 rfl hE (by omega) hL dL_law_990 ?_
  refine xw_aload_n dL_law_991 rfl rfl ?_
  refine lx_callSH (T_X0_then hN ek) lS_L_201 C_X0_then dL_law_992 rfl (by omega) (Nat.le_of_ble_eq_true rfl) (by show h1.2.2.1 ≤ kM; omega) (by show h1.2.2.2 ≤ nM; omega) ?_
  refine xw_istore dL_law_995 (by decide) ?_
  refine xw_aload_n dL_law_997 rfl rfl ?_
  refine xw_aload_n dL_law_998 rfl rfl ?_
  refine xw_iload dL_law_999 rfl ?_
  refine xw_iconst (v := 1) dL_law_1001 rfl ?_
  refine xw_iadd dL_law_1002 ?_
  refine lx_rd 1 rfl hE1 (by omega) hL dL_law_1003 ?_
  refine xw_aload_n dL_law_1004 rfl rfl ?_
  refine xw_iload dL_law_1005 rfl ?_
  refine xw_iconst (v := 2) dL_law_1007 rfl ?_
  refine xw_iadd dL_law_1008 ?_
  refine lx_rd 2 rfl hE1 (by omega) hL dL_law_1009 ?_
  refine xw_aload_n dL_law_1010 rfl rfl ?_
  refine xw_iload dL_law_1011 rfl ?_
  refine xw_iconst (v := 3) dL_law_1013 rfl ?_
  refine xw_iadd dL_law_1014 ?_
  refine lx_rd 3 rfl hE1 (by omega) hL dL_law_1015 ?_
  refine lx_callT (T_then ef) lV_L_204 C_X4_then rfl dL_law_1016 hE1.2.2.2.2 rfl (by omega) (Nat.le_of_ble_eq_true rfl) ?_
  intro h2 hT2 hs2
  have hE2 := hE1.same hs2 hT2
  refine xw_istore dL_law_1019 (by decide) ?_
  refine xw_aload_n dL_law_1021 rfl rfl ?_
  have et1 : f_thrown S1 = some (S1.1 0) := rfl
  refine lx_callT (T_thrown et1) lV_L_156 C_X4_thrown rfl dL_law_1022 hT2 rfl (by omega) (Nat.le_of_ble_eq_true rfl) ?_
  intro h3 hT3 hs3
  have hE3 := hE2.same hs3 hT3
  rw [et]
  refine xw_iload dL_law_1025 rfl ?_
  refine xw_icmp_eq (tgt := 1032) dL_law_1027 (by decide) (fun _ => ?_) (fun z => absurd rfl z)
  refine xw_iload dL_law_1032 rfl ?_
  have fin : LI h3 S1 := hP h3 hT3 (hs2.trans hs3)
  have hn1 : h3.2.2 = h1.2.2 := hs3.1.1.trans hs2.1.1
  have hq1 : h3.2.2.1 ≤ h.2.2.1 + 14000 := by rw [hn1]; omega
  have hq2 : h3.2.2.2 ≤ h.2.2.2 + 98000 := by rw [hn1]; omega
  by_cases hr : r = 0
  · refine xw_if_ne (tgt := 1049) dL_law_1034 (by decide) (fun z => absurd hr z) (fun _ => ?_)
    have hO : h3.2.1 o 0 = _ := (congrFun ((hs3.2.2 _ _ _ _ hE2.2.2.2.1 (by unfold tP; omega)).trans (hs2.2.2 _ _ _ _ hE1.2.2.2.1 (by unfold tP; omega))) 0).trans (ho hr)
    refine xw_aload_n dL_law_1037 rfl rfl ?_
    refine xw_iconst (v := 0) dL_law_1038 rfl ?_
    refine xw_lald dL_law_1039 hE3.2.2.2.1 (by unfold vp_in; decide) hO ?_
    refine xw_iload dL_law_1040 rfl ?_
    refine xw_i2l dL_law_1042 ?_
    refine xw_lcmp dL_law_1043 ?_
    rw [lx_cmp]
    refine xw_if_eq (tgt := 1049) dL_law_1044 (by decide) (fun _ => ?_) (fun z => absurd rfl z)
    refine xw_goto (tgt := 3015) dL_law_1049 (by decide) ?_
    exact lx_lsK (kk h3 S1 fin hq1 hq2) ⟨rfl, rfl, rfl, rfl, rfl, trivial⟩
  · refine xw_if_ne (tgt := 1049) dL_law_1034 (by decide) (fun _ => ?_) (fun z => absurd z hr)
    refine xw_goto (tgt := 3015) dL_law_1049 (by decide) ?_
    exact lx_lsK (kk h3 S1 fin hq1 hq2) ⟨rfl, rfl, rfl, rfl, rfl, trivial⟩
def LOp_15 (E : XEnv) (n g b L : Nat) (xs : Nat → Int32) (x m o : Nat) (ad : Nat → Nat) (LI : XH → TS → Prop) : Prop := ∀ (h : XH) (S : TS) (a1 : Int32) (a2 : Int32), LI h S → ∃ r h1 v S1, k_X0_worn n g E.2.2.2 x a1 a2 o h = some (r, h1) ∧ f_worn n a1 a2 S = some (v, S1) ∧ S1.1 0 = r ∧ LE b L xs x m o ad h1 S ∧ (r = 0 → h1.2.1 o 0 = .long v.toInt64) ∧ LB h h1 ∧ ∀ h2, TW m ad S1 h2 → xsame tP h1 h2 → LI h2 S1
set_option maxHeartbeats 4000000 in
theorem law_c15 {l : Launch} {E : XEnv} {n g b L : Nat} {xs : Nat → Int32} {x m o : Nat} {ad : Nat → Nat} {LI : XH → TS → Prop} (hop : LOp_15 E n g b L xs x m o ad LI) (hLE : ∀ h S, LI h S → LE b L xs x m o ad h S) (hN : va_Nc "java/lang/IllegalArgumentException" "java/util/NoSuchElementException" E.1) {d kM nM i : Nat} {h : XH} {S : TS} {Q : XO → XH → Prop} (hI : LI h S) (hg : g ≤ 100) (hd : 2000 ≤ d) (hi : i + 5 < L) (hL : L ≤ 384) (hk : h.2.2.1 + 14000 ≤ kM) (hn : h.2.2.2 + 98000 ≤ nM) (kk : ∀ h2 S2, LI h2 S2 → h2.2.2.1 ≤ h.2.2.1 + 14000 → h2.2.2.2 ≤ h.2.2.2 + 98000 → XW l E mL_law d (kM - h2.2.2.1) (nM - h2.2.2.2) 3015 [(0, .ref b), (1, .ref x), (2, .ref m), (3, .ref o), (4, .int (Int32.ofNat i))] [] h2 Q) : XW l E mL_law d (kM - h.2.2.1) (nM - h.2.2.2) 1052 [(0, .ref b), (1, .ref x), (2, .ref m), (3, .ref o), (4, .int (Int32.ofNat i))] [] h Q := by
  obtain ⟨r, h1, v, S1, ek, ef, et, hE1, ho, hB, hP⟩ := hop h S (xs (i + 1)) (xs (i + 2)) hI
  have hE := hLE h S hI
  have hB1 : h1.2.2.1 ≤ h.2.2.1 + 14000 := hB.2.1
  have hB2 : h1.2.2.2 ≤ h.2.2.2 + 98000 := hB.2.2.2
  refine xw_aload_n dL_law_1052 rfl rfl ?_
  refine xw_aload_n dL_law_1053 rfl rfl ?_
  refine xw_iload dL_law_1054 rfl ?_
  refine xw_iconst (v := 1) dL_law_1056 rfl ?_
  refine xw_iadd dL_law_1057 ?_
  refine lx_rd 1 rfl hE (by omega) hL dL_law_1058 ?_
  refine xw_aload_n dL_law_1059 rfl rfl ?_
  refine xw_iload dL_law_1060 rfl ?_
  refine xw_iconst (v := 2) dL_law_1062 rfl ?_
  refine xw_iadd dL_law_1063 ?_
  refine lx_rd 2 rfl hE (by omega) hL dL_law_1064 ?_
  refine xw_aload_n dL_law_1065 rfl rfl ?_
  refine lx_callSH (T_X0_worn hN ek) lS_L_205 C_X0_worn dL_law_1066 rfl (by omega) (Nat.le_of_ble_eq_true rfl) (by show h1.2.2.1 ≤ kM; omega) (by show h1.2.2.2 ≤ nM; omega) ?_
  refine xw_istore dL_law_1069 (by decide) ?_
  refine xw_aload_n dL_law_1071 rfl rfl ?_
  refine xw_aload_n dL_law_1072 rfl rfl ?_
  refine xw_iload dL_law_1073 rfl ?_
  refine xw_iconst (v := 1) dL_law_1075 rfl ?_
  refine xw_iadd dL_law_1076 ?_
  refine lx_rd 1 rfl hE1 (by omega) hL dL_law_1077 ?_
  refine xw_aload_n dL_law_1078 rfl rfl ?_
  refine xw_iload dL_law_1079 rfl ?_
  refine xw_iconst (v := 2) dL_law_1081 rfl ?_
  refine xw_iadd dL_law_1082 ?_
  refine lx_rd 2 rfl hE1 (by omega) hL dL_law_1083 ?_
  refine lx_callT (T_worn ef) lV_L_207 C_X4_worn rfl dL_law_1084 hE1.2.2.2.2 rfl (by omega) (Nat.le_of_ble_eq_true rfl) ?_
  intro h2 hT2 hs2
  have hE2 := hE1.same hs2 hT2
  refine xw_istore dL_law_1087 (by decide) ?_
  refine xw_aload_n dL_law_1089 rfl rfl ?_
  have et1 : f_thrown S1 = some (S1.1 0) := rfl
  refine lx_callT (T_thrown et1) lV_L_156 C_X4_thrown rfl dL_law_1090 hT2 rfl (by omega) (Nat.le_of_ble_eq_true rfl) ?_
  intro h3 hT3 hs3
  have hE3 := hE2.same hs3 hT3
  rw [et]
  refine xw_iload dL_law_1093 rfl ?_
  refine xw_icmp_eq (tgt := 1100) dL_law_1095 (by decide) (fun _ => ?_) (fun z => absurd rfl z)
  refine xw_iload dL_law_1100 rfl ?_
  have fin : LI h3 S1 := hP h3 hT3 (hs2.trans hs3)
  have hn1 : h3.2.2 = h1.2.2 := hs3.1.1.trans hs2.1.1
  have hq1 : h3.2.2.1 ≤ h.2.2.1 + 14000 := by rw [hn1]; omega
  have hq2 : h3.2.2.2 ≤ h.2.2.2 + 98000 := by rw [hn1]; omega
  by_cases hr : r = 0
  · refine xw_if_ne (tgt := 1117) dL_law_1102 (by decide) (fun z => absurd hr z) (fun _ => ?_)
    have hO : h3.2.1 o 0 = _ := (congrFun ((hs3.2.2 _ _ _ _ hE2.2.2.2.1 (by unfold tP; omega)).trans (hs2.2.2 _ _ _ _ hE1.2.2.2.1 (by unfold tP; omega))) 0).trans (ho hr)
    refine xw_aload_n dL_law_1105 rfl rfl ?_
    refine xw_iconst (v := 0) dL_law_1106 rfl ?_
    refine xw_lald dL_law_1107 hE3.2.2.2.1 (by unfold vp_in; decide) hO ?_
    refine xw_iload dL_law_1108 rfl ?_
    refine xw_i2l dL_law_1110 ?_
    refine xw_lcmp dL_law_1111 ?_
    rw [lx_cmp]
    refine xw_if_eq (tgt := 1117) dL_law_1112 (by decide) (fun _ => ?_) (fun z => absurd rfl z)
    refine xw_goto (tgt := 3015) dL_law_1117 (by decide) ?_
    exact lx_lsK (kk h3 S1 fin hq1 hq2) ⟨rfl, rfl, rfl, rfl, rfl, trivial⟩
  · refine xw_if_ne (tgt := 1117) dL_law_1102 (by decide) (fun _ => ?_) (fun z => absurd z hr)
    refine xw_goto (tgt := 3015) dL_law_1117 (by decide) ?_
    exact lx_lsK (kk h3 S1 fin hq1 hq2) ⟨rfl, rfl, rfl, rfl, rfl, trivial⟩
def LOp_16 (E : XEnv) (n g b L : Nat) (xs : Nat → Int32) (x m o : Nat) (ad : Nat → Nat) (LI : XH → TS → Prop) : Prop := ∀ (h : XH) (S : TS) (a1 : Int32), LI h S → ∃ r h1 v S1, k_X0_burst n g E.2.2.2 x a1 o h = some (r, h1) ∧ f_burst n a1 S = some (v, S1) ∧ S1.1 0 = r ∧ LE b L xs x m o ad h1 S ∧ (r = 0 → h1.2.1 o 0 = .long v.toInt64) ∧ LB h h1 ∧ ∀ h2, TW m ad S1 h2 → xsame tP h1 h2 → LI h2 S1
set_option maxHeartbeats 4000000 in
theorem law_c16 {l : Launch} {E : XEnv} {n g b L : Nat} {xs : Nat → Int32} {x m o : Nat} {ad : Nat → Nat} {LI : XH → TS → Prop} (hop : LOp_16 E n g b L xs x m o ad LI) (hLE : ∀ h S, LI h S → LE b L xs x m o ad h S) (hN : va_Nc "java/lang/IllegalArgumentException" "java/util/NoSuchElementException" E.1) {d kM nM i : Nat} {h : XH} {S : TS} {Q : XO → XH → Prop} (hI : LI h S) (hg : g ≤ 100) (hd : 2000 ≤ d) (hi : i + 5 < L) (hL : L ≤ 384) (hk : h.2.2.1 + 14000 ≤ kM) (hn : h.2.2.2 + 98000 ≤ nM) (kk : ∀ h2 S2, LI h2 S2 → h2.2.2.1 ≤ h.2.2.1 + 14000 → h2.2.2.2 ≤ h.2.2.2 + 98000 → XW l E mL_law d (kM - h2.2.2.1) (nM - h2.2.2.2) 3015 [(0, .ref b), (1, .ref x), (2, .ref m), (3, .ref o), (4, .int (Int32.ofNat i))] [] h2 Q) : XW l E mL_law d (kM - h.2.2.1) (nM - h.2.2.2) 1120 [(0, .ref b), (1, .ref x), (2, .ref m), (3, .ref o), (4, .int (Int32.ofNat i))] [] h Q := by
  obtain ⟨r, h1, v, S1, ek, ef, et, hE1, ho, hB, hP⟩ := hop h S (xs (i + 1)) hI
  have hE := hLE h S hI
  have hB1 : h1.2.2.1 ≤ h.2.2.1 + 14000 := hB.2.1
  have hB2 : h1.2.2.2 ≤ h.2.2.2 + 98000 := hB.2.2.2
  refine xw_aload_n dL_law_1120 rfl rfl ?_
  refine xw_aload_n dL_law_1121 rfl rfl ?_
  refine xw_iload dL_law_1122 rfl ?_
  refine xw_iconst (v := 1) dL_law_1124 rfl ?_
  refine xw_iadd dL_law_1125 ?_
  refine lx_rd 1 rfl hE (by omega) hL dL_law_1126 ?_
  refine xw_aload_n dL_law_1127 rfl rfl ?_
  refine lx_callSH (T_X0_burst hN ek) lS_L_208 C_X0_burst dL_law_1128 rfl (by omega) (Nat.le_of_ble_eq_true rfl) (by show h1.2.2.1 ≤ kM; omega) (by show h1.2.2.2 ≤ nM; omega) ?_
  refine xw_istore dL_law_1131 (by decide) ?_
  refine xw_aload_n dL_law_1133 rfl rfl ?_
  refine xw_aload_n dL_law_1134 rfl rfl ?_
  refine xw_iload dL_law_1135 rfl ?_
  refine xw_iconst (v := 1) dL_law_1137 rfl ?_
  refine xw_iadd dL_law_1138 ?_
  refine lx_rd 1 rfl hE1 (by omega) hL dL_law_1139 ?_
  refine lx_callT (T_burst ef) lV_L_210 C_X4_burst rfl dL_law_1140 hE1.2.2.2.2 rfl (by omega) (Nat.le_of_ble_eq_true rfl) ?_
  intro h2 hT2 hs2
  have hE2 := hE1.same hs2 hT2
  refine xw_istore dL_law_1143 (by decide) ?_
  refine xw_aload_n dL_law_1145 rfl rfl ?_
  have et1 : f_thrown S1 = some (S1.1 0) := rfl
  refine lx_callT (T_thrown et1) lV_L_156 C_X4_thrown rfl dL_law_1146 hT2 rfl (by omega) (Nat.le_of_ble_eq_true rfl) ?_
  intro h3 hT3 hs3
  have hE3 := hE2.same hs3 hT3
  rw [et]
  refine xw_iload dL_law_1149 rfl ?_
  refine xw_icmp_eq (tgt := 1156) dL_law_1151 (by decide) (fun _ => ?_) (fun z => absurd rfl z)
  refine xw_iload dL_law_1156 rfl ?_
  have fin : LI h3 S1 := hP h3 hT3 (hs2.trans hs3)
  have hn1 : h3.2.2 = h1.2.2 := hs3.1.1.trans hs2.1.1
  have hq1 : h3.2.2.1 ≤ h.2.2.1 + 14000 := by rw [hn1]; omega
  have hq2 : h3.2.2.2 ≤ h.2.2.2 + 98000 := by rw [hn1]; omega
  by_cases hr : r = 0
  · refine xw_if_ne (tgt := 1173) dL_law_1158 (by decide) (fun z => absurd hr z) (fun _ => ?_)
    have hO : h3.2.1 o 0 = _ := (congrFun ((hs3.2.2 _ _ _ _ hE2.2.2.2.1 (by unfold tP; omega)).trans (hs2.2.2 _ _ _ _ hE1.2.2.2.1 (by unfold tP; omega))) 0).trans (ho hr)
    refine xw_aload_n dL_law_1161 rfl rfl ?_
    refine xw_iconst (v := 0) dL_law_1162 rfl ?_
    refine xw_lald dL_law_1163 hE3.2.2.2.1 (by unfold vp_in; decide) hO ?_
    refine xw_iload dL_law_1164 rfl ?_
    refine xw_i2l dL_law_1166 ?_
    refine xw_lcmp dL_law_1167 ?_
    rw [lx_cmp]
    refine xw_if_eq (tgt := 1173) dL_law_1168 (by decide) (fun _ => ?_) (fun z => absurd rfl z)
    refine xw_goto (tgt := 3015) dL_law_1173 (by decide) ?_
    exact lx_lsK (kk h3 S1 fin hq1 hq2) ⟨rfl, rfl, rfl, rfl, rfl, trivial⟩
  · refine xw_if_ne (tgt := 1173) dL_law_1158 (by decide) (fun _ => ?_) (fun z => absurd z hr)
    refine xw_goto (tgt := 3015) dL_law_1173 (by decide) ?_
    exact lx_lsK (kk h3 S1 fin hq1 hq2) ⟨rfl, rfl, rfl, rfl, rfl, trivial⟩
def LOp_17 (E : XEnv) (n g b L : Nat) (xs : Nat → Int32) (x m o : Nat) (ad : Nat → Nat) (LI : XH → TS → Prop) : Prop := ∀ (h : XH) (S : TS) (a1 : Int32), LI h S → ∃ r h1 v S1, k_X0_wriggles n g E.2.2.2 x a1 o h = some (r, h1) ∧ f_wriggles n a1 S = some (v, S1) ∧ S1.1 0 = r ∧ LE b L xs x m o ad h1 S ∧ (r = 0 → h1.2.1 o 0 = .long v.toInt64) ∧ LB h h1 ∧ ∀ h2, TW m ad S1 h2 → xsame tP h1 h2 → LI h2 S1
set_option maxHeartbeats 4000000 in
theorem law_c17 {l : Launch} {E : XEnv} {n g b L : Nat} {xs : Nat → Int32} {x m o : Nat} {ad : Nat → Nat} {LI : XH → TS → Prop} (hop : LOp_17 E n g b L xs x m o ad LI) (hLE : ∀ h S, LI h S → LE b L xs x m o ad h S) (hN : va_Nc "java/lang/IllegalArgumentException" "java/util/NoSuchElementException" E.1) {d kM nM i : Nat} {h : XH} {S : TS} {Q : XO → XH → Prop} (hI : LI h S) (hg : g ≤ 100) (hd : 2000 ≤ d) (hi : i + 5 < L) (hL : L ≤ 384) (hk : h.2.2.1 + 14000 ≤ kM) (hn : h.2.2.2 + 98000 ≤ nM) (kk : ∀ h2 S2, LI h2 S2 → h2.2.2.1 ≤ h.2.2.1 + 14000 → h2.2.2.2 ≤ h.2.2.2 + 98000 → XW l E mL_law d (kM - h2.2.2.1) (nM - h2.2.2.2) 3015 [(0, .ref b), (1, .ref x), (2, .ref m), (3, .ref o), (4, .int (Int32.ofNat i))] [] h2 Q) : XW l E mL_law d (kM - h.2.2.1) (nM - h.2.2.2) 1176 [(0, .ref b), (1, .ref x), (2, .ref m), (3, .ref o), (4, .int (Int32.ofNat i))] [] h Q := by
  obtain ⟨r, h1, v, S1, ek, ef, et, hE1, ho, hB, hP⟩ := hop h S (xs (i + 1)) hI
  have hE := hLE h S hI
  have hB1 : h1.2.2.1 ≤ h.2.2.1 + 14000 := hB.2.1
  have hB2 : h1.2.2.2 ≤ h.2.2.2 + 98000 := hB.2.2.2
  refine xw_aload_n dL_law_1176 rfl rfl ?_
  refine xw_aload_n dL_law_1177 rfl rfl ?_
  refine xw_iload dL_law_1178 rfl ?_
  refine xw_iconst (v := 1) dL_law_1180 rfl ?_
  refine xw_iadd dL_law_1181 ?_
  refine lx_rd 1 rfl hE (by omega) hL dL_law_1182 ?_
  refine xw_aload_n dL_law_1183 rfl rfl ?_
  refine lx_callSH (T_X0_wriggles hN ek) lS_L_211 C_X0_wriggles dL_law_1184 rfl (by omega) (Nat.le_of_ble_eq_true rfl) (by show h1.2.2.1 ≤ kM; omega) (by show h1.2.2.2 ≤ nM; omega) ?_
  refine xw_istore dL_law_1187 (by decide) ?_
  refine xw_aload_n dL_law_1189 rfl rfl ?_
  refine xw_aload_n dL_law_1190 rfl rfl ?_
  refine xw_iload dL_law_1191 rfl ?_
  refine xw_iconst (v := 1) dL_law_1193 rfl ?_
  refine xw_iadd dL_law_1194 ?_
  refine lx_rd 1 rfl hE1 (by omega) hL dL_law_1195 ?_
  refine lx_callT (T_wriggles ef) lV_L_213 C_X4_wriggles rfl dL_law_1196 hE1.2.2.2.2 rfl (by omega) (Nat.le_of_ble_eq_true rfl) ?_
  intro h2 hT2 hs2
  have hE2 := hE1.same hs2 hT2
  refine xw_istore dL_law_1199 (by decide) ?_
  refine xw_aload_n dL_law_1201 rfl rfl ?_
  have et1 : f_thrown S1 = some (S1.1 0) := rfl
  refine lx_callT (T_thrown et1) lV_L_156 C_X4_thrown rfl dL_law_1202 hT2 rfl (by omega) (Nat.le_of_ble_eq_true rfl) ?_
  intro h3 hT3 hs3
  have hE3 := hE2.same hs3 hT3
  rw [et]
  refine xw_iload dL_law_1205 rfl ?_
  refine xw_icmp_eq (tgt := 1212) dL_law_1207 (by decide) (fun _ => ?_) (fun z => absurd rfl z)
  refine xw_iload dL_law_1212 rfl ?_
  have fin : LI h3 S1 := hP h3 hT3 (hs2.trans hs3)
  have hn1 : h3.2.2 = h1.2.2 := hs3.1.1.trans hs2.1.1
  have hq1 : h3.2.2.1 ≤ h.2.2.1 + 14000 := by rw [hn1]; omega
  have hq2 : h3.2.2.2 ≤ h.2.2.2 + 98000 := by rw [hn1]; omega
  by_cases hr : r = 0
  · refine xw_if_ne (tgt := 1229) dL_law_1214 (by decide) (fun z => absurd hr z) (fun _ => ?_)
    have hO : h3.2.1 o 0 = _ := (congrFun ((hs3.2.2 _ _ _ _ hE2.2.2.2.1 (by unfold tP; omega)).trans (hs2.2.2 _ _ _ _ hE1.2.2.2.1 (by unfold tP; omega))) 0).trans (ho hr)
    refine xw_aload_n dL_law_1217 rfl rfl ?_
    refine xw_iconst (v := 0) dL_law_1218 rfl ?_
    refine xw_lald dL_law_1219 hE3.2.2.2.1 (by unfold vp_in; decide) hO ?_
    refine xw_iload dL_law_1220 rfl ?_
    refine xw_i2l dL_law_1222 ?_
    refine xw_lcmp dL_law_1223 ?_
    rw [lx_cmp]
    refine xw_if_eq (tgt := 1229) dL_law_1224 (by decide) (fun _ => ?_) (fun z => absurd rfl z)
    refine xw_goto (tgt := 3015) dL_law_1229 (by decide) ?_
    exact lx_lsK (kk h3 S1 fin hq1 hq2) ⟨rfl, rfl, rfl, rfl, rfl, trivial⟩
  · refine xw_if_ne (tgt := 1229) dL_law_1214 (by decide) (fun _ => ?_) (fun z => absurd z hr)
    refine xw_goto (tgt := 3015) dL_law_1229 (by decide) ?_
    exact lx_lsK (kk h3 S1 fin hq1 hq2) ⟨rfl, rfl, rfl, rfl, rfl, trivial⟩
def LOp_18 (E : XEnv) (n g b L : Nat) (xs : Nat → Int32) (x m o : Nat) (ad : Nat → Nat) (LI : XH → TS → Prop) : Prop := ∀ (h : XH) (S : TS) (a1 : Int32), LI h S → ∃ r h1 v S1, k_X0_barefoot n g E.2.2.2 x a1 o h = some (r, h1) ∧ f_barefoot n a1 S = some (v, S1) ∧ S1.1 0 = r ∧ LE b L xs x m o ad h1 S ∧ (r = 0 → h1.2.1 o 0 = .long v.toInt64) ∧ LB h h1 ∧ ∀ h2, TW m ad S1 h2 → xsame tP h1 h2 → LI h2 S1
set_option maxHeartbeats 4000000 in
theorem law_c18 {l : Launch} {E : XEnv} {n g b L : Nat} {xs : Nat → Int32} {x m o : Nat} {ad : Nat → Nat} {LI : XH → TS → Prop} (hop : LOp_18 E n g b L xs x m o ad LI) (hLE : ∀ h S, LI h S → LE b L xs x m o ad h S) (hN : va_Nc "java/lang/IllegalArgumentException" "java/util/NoSuchElementException" E.1) {d kM nM i : Nat} {h : XH} {S : TS} {Q : XO → XH → Prop} (hI : LI h S) (hg : g ≤ 100) (hd : 2000 ≤ d) (hi : i + 5 < L) (hL : L ≤ 384) (hk : h.2.2.1 + 14000 ≤ kM) (hn : h.2.2.2 + 98000 ≤ nM) (kk : ∀ h2 S2, LI h2 S2 → h2.2.2.1 ≤ h.2.2.1 + 14000 → h2.2.2.2 ≤ h.2.2.2 + 98000 → XW l E mL_law d (kM - h2.2.2.1) (nM - h2.2.2.2) 3015 [(0, .ref b), (1, .ref x), (2, .ref m), (3, .ref o), (4, .int (Int32.ofNat i))] [] h2 Q) : XW l E mL_law d (kM - h.2.2.1) (nM - h.2.2.2) 1232 [(0, .ref b), (1, .ref x), (2, .ref m), (3, .ref o), (4, .int (Int32.ofNat i))] [] h Q := by
  obtain ⟨r, h1, v, S1, ek, ef, et, hE1, ho, hB, hP⟩ := hop h S (xs (i + 1)) hI
  have hE := hLE h S hI
  have hB1 : h1.2.2.1 ≤ h.2.2.1 + 14000 := hB.2.1
  have hB2 : h1.2.2.2 ≤ h.2.2.2 + 98000 := hB.2.2.2
  refine xw_aload_n dL_law_1232 rfl rfl ?_
  refine xw_aload_n dL_law_1233 rfl rfl ?_
  refine xw_iload dL_law_1234 rfl ?_
  refine xw_iconst (v := 1) dL_law_1236 rfl ?_
  refine xw_iadd dL_law_1237 ?_
  refine lx_rd 1 rfl hE (by omega) hL dL_law_1238 ?_
  refine xw_aload_n dL_law_1239 rfl rfl ?_
  refine lx_callSH (T_X0_barefoot hN ek) lS_L_214 C_X0_barefoot dL_law_1240 rfl (by omega) (Nat.le_of_ble_eq_true rfl) (by show h1.2.2.1 ≤ kM; omega) (by show h1.2.2.2 ≤ nM; omega) ?_
  refine xw_istore dL_law_1243 (by decide) ?_
  refine xw_aload_n dL_law_1245 rfl rfl ?_
  refine xw_aload_n dL_law_1246 rfl rfl ?_
  refine xw_iload dL_law_1247 rfl ?_
  refine xw_iconst (v := 1) dL_law_1249 rfl ?_
  refine xw_iadd dL_law_1250 ?_
  refine lx_rd 1 rfl hE1 (by omega) hL dL_law_1251 ?_
  refine lx_callT (T_barefoot ef) lV_L_216 C_X4_barefoot rfl dL_law_1252 hE1.2.2.2.2 rfl (by omega) (Nat.le_of_ble_eq_true rfl) ?_
  intro h2 hT2 hs2
  have hE2 := hE1.same hs2 hT2
  refine xw_istore dL_law_1255 (by decide) ?_
  refine xw_aload_n dL_law_1257 rfl rfl ?_
  have et1 : f_thrown S1 = some (S1.1 0) := rfl
  refine lx_callT (T_thrown et1) lV_L_156 C_X4_thrown rfl dL_law_1258 hT2 rfl (by omega) (Nat.le_of_ble_eq_true rfl) ?_
  intro h3 hT3 hs3
  have hE3 := hE2.same hs3 hT3
  rw [et]
  refine xw_iload dL_law_1261 rfl ?_
  refine xw_icmp_eq (tgt := 1268) dL_law_1263 (by decide) (fun _ => ?_) (fun z => absurd rfl z)
  refine xw_iload dL_law_1268 rfl ?_
  have fin : LI h3 S1 := hP h3 hT3 (hs2.trans hs3)
  have hn1 : h3.2.2 = h1.2.2 := hs3.1.1.trans hs2.1.1
  have hq1 : h3.2.2.1 ≤ h.2.2.1 + 14000 := by rw [hn1]; omega
  have hq2 : h3.2.2.2 ≤ h.2.2.2 + 98000 := by rw [hn1]; omega
  by_cases hr : r = 0
  · refine xw_if_ne (tgt := 1285) dL_law_1270 (by decide) (fun z => absurd hr z) (fun _ => ?_)
    have hO : h3.2.1 o 0 = _ := (congrFun ((hs3.2.2 _ _ _ _ hE2.2.2.2.1 (by unfold tP; omega)).trans (hs2.2.2 _ _ _ _ hE1.2.2.2.1 (by unfold tP; omega))) 0).trans (ho hr)
    refine xw_aload_n dL_law_1273 rfl rfl ?_
    refine xw_iconst (v := 0) dL_law_1274 rfl ?_
    refine xw_lald dL_law_1275 hE3.2.2.2.1 (by unfold vp_in; decide) hO ?_
    refine xw_iload dL_law_1276 rfl ?_
    refine xw_i2l dL_law_1278 ?_
    refine xw_lcmp dL_law_1279 ?_
    rw [lx_cmp]
    refine xw_if_eq (tgt := 1285) dL_law_1280 (by decide) (fun _ => ?_) (fun z => absurd rfl z)
    refine xw_goto (tgt := 3015) dL_law_1285 (by decide) ?_
    exact lx_lsK (kk h3 S1 fin hq1 hq2) ⟨rfl, rfl, rfl, rfl, rfl, trivial⟩
  · refine xw_if_ne (tgt := 1285) dL_law_1270 (by decide) (fun _ => ?_) (fun z => absurd z hr)
    refine xw_goto (tgt := 3015) dL_law_1285 (by decide) ?_
    exact lx_lsK (kk h3 S1 fin hq1 hq2) ⟨rfl, rfl, rfl, rfl, rfl, trivial⟩
def LOp_19 (E : XEnv) (n g b L : Nat) (xs : Nat → Int32) (x m o : Nat) (ad : Nat → Nat) (LI : XH → TS → Prop) : Prop := ∀ (h : XH) (S : TS) (a1 : Int32), LI h S → ∃ r h1 v S1, k_X0_last n g E.2.2.2 x a1 o h = some (r, h1) ∧ f_last n a1 S = some (v, S1) ∧ S1.1 0 = r ∧ LE b L xs x m o ad h1 S ∧ (r = 0 → h1.2.1 o 0 = .long v.toInt64) ∧ LB h h1 ∧ ∀ h2, TW m ad S1 h2 → xsame tP h1 h2 → LI h2 S1
set_option maxHeartbeats 4000000 in
theorem law_c19 {l : Launch} {E : XEnv} {n g b L : Nat} {xs : Nat → Int32} {x m o : Nat} {ad : Nat → Nat} {LI : XH → TS → Prop} (hop : LOp_19 E n g b L xs x m o ad LI) (hLE : ∀ h S, LI h S → LE b L xs x m o ad h S) (hN : va_Nc "java/lang/IllegalArgumentException" "java/util/NoSuchElementException" E.1) {d kM nM i : Nat} {h : XH} {S : TS} {Q : XO → XH → Prop} (hI : LI h S) (hg : g ≤ 100) (hd : 2000 ≤ d) (hi : i + 5 < L) (hL : L ≤ 384) (hk : h.2.2.1 + 14000 ≤ kM) (hn : h.2.2.2 + 98000 ≤ nM) (kk : ∀ h2 S2, LI h2 S2 → h2.2.2.1 ≤ h.2.2.1 + 14000 → h2.2.2.2 ≤ h.2.2.2 + 98000 → XW l E mL_law d (kM - h2.2.2.1) (nM - h2.2.2.2) 3015 [(0, .ref b), (1, .ref x), (2, .ref m), (3, .ref o), (4, .int (Int32.ofNat i))] [] h2 Q) : XW l E mL_law d (kM - h.2.2.1) (nM - h.2.2.2) 1288 [(0, .ref b), (1, .ref x), (2, .ref m), (3, .ref o), (4, .int (Int32.ofNat i))] [] h Q := by
  obtain ⟨r, h1, v, S1, ek, ef, et, hE1, ho, hB, hP⟩ := hop h S (xs (i + 1)) hI
  have hE := hLE h S hI
  have hB1 : h1.2.2.1 ≤ h.2.2.1 + 14000 := hB.2.1
  have hB2 : h1.2.2.2 ≤ h.2.2.2 + 98000 := hB.2.2.2
  refine xw_aload_n dL_law_1288 rfl rfl ?_
  refine xw_aload_n dL_law_1289 rfl rfl ?_
  refine xw_iload dL_law_1290 rfl ?_
  refine xw_iconst (v := 1) dL_law_1292 rfl ?_
  refine xw_iadd dL_law_1293 ?_
  refine lx_rd 1 rfl hE (by omega) hL dL_law_1294 ?_
  refine xw_aload_n dL_law_1295 rfl rfl ?_
  refine lx_callSH (T_X0_last hN ek) lS_L_217 C_X0_last dL_law_1296 rfl (by omega) (Nat.le_of_ble_eq_true rfl) (by show h1.2.2.1 ≤ kM; omega) (by show h1.2.2.2 ≤ nM; omega) ?_
  refine xw_istore dL_law_1299 (by decide) ?_
  refine xw_aload_n dL_law_1301 rfl rfl ?_
  refine xw_aload_n dL_law_1302 rfl rfl ?_
  refine xw_iload dL_law_1303 rfl ?_
  refine xw_iconst (v := 1) dL_law_1305 rfl ?_
  refine xw_iadd dL_law_1306 ?_
  refine lx_rd 1 rfl hE1 (by omega) hL dL_law_1307 ?_
  refine lx_callT (T_last ef) lV_L_219 C_X4_last rfl dL_law_1308 hE1.2.2.2.2 rfl (by omega) (Nat.le_of_ble_eq_true rfl) ?_
  intro h2 hT2 hs2
  have hE2 := hE1.same hs2 hT2
  refine xw_istore dL_law_1311 (by decide) ?_
  refine xw_aload_n dL_law_1313 rfl rfl ?_
  have et1 : f_thrown S1 = some (S1.1 0) := rfl
  refine lx_callT (T_thrown et1) lV_L_156 C_X4_thrown rfl dL_law_1314 hT2 rfl (by omega) (Nat.le_of_ble_eq_true rfl) ?_
  intro h3 hT3 hs3
  have hE3 := hE2.same hs3 hT3
  rw [et]
  refine xw_iload dL_law_1317 rfl ?_
  refine xw_icmp_eq (tgt := 1324) dL_law_1319 (by decide) (fun _ => ?_) (fun z => absurd rfl z)
  refine xw_iload dL_law_1324 rfl ?_
  have fin : LI h3 S1 := hP h3 hT3 (hs2.trans hs3)
  have hn1 : h3.2.2 = h1.2.2 := hs3.1.1.trans hs2.1.1
  have hq1 : h3.2.2.1 ≤ h.2.2.1 + 14000 := by rw [hn1]; omega
  have hq2 : h3.2.2.2 ≤ h.2.2.2 + 98000 := by rw [hn1]; omega
  by_cases hr : r = 0
  · refine xw_if_ne (tgt := 1341) dL_law_1326 (by decide) (fun z => absurd hr z) (fun _ => ?_)
    have hO : h3.2.1 o 0 = _ := (congrFun ((hs3.2.2 _ _ _ _ hE2.2.2.2.1 (by unfold tP; omega)).trans (hs2.2.2 _ _ _ _ hE1.2.2.2.1 (by unfold tP; omega))) 0).trans (ho hr)
    refine xw_aload_n dL_law_1329 rfl rfl ?_
    refine xw_iconst (v := 0) dL_law_1330 rfl ?_
    refine xw_lald dL_law_1331 hE3.2.2.2.1 (by unfold vp_in; decide) hO ?_
    refine xw_iload dL_law_1332 rfl ?_
    refine xw_i2l dL_law_1334 ?_
    refine xw_lcmp dL_law_1335 ?_
    rw [lx_cmp]
    refine xw_if_eq (tgt := 1341) dL_law_1336 (by decide) (fun _ => ?_) (fun z => absurd rfl z)
    refine xw_goto (tgt := 3015) dL_law_1341 (by decide) ?_
    exact lx_lsK (kk h3 S1 fin hq1 hq2) ⟨rfl, rfl, rfl, rfl, rfl, trivial⟩
  · refine xw_if_ne (tgt := 1341) dL_law_1326 (by decide) (fun _ => ?_) (fun z => absurd z hr)
    refine xw_goto (tgt := 3015) dL_law_1341 (by decide) ?_
    exact lx_lsK (kk h3 S1 fin hq1 hq2) ⟨rfl, rfl, rfl, rfl, rfl, trivial⟩
def LOp_20 (E : XEnv) (n g b L : Nat) (xs : Nat → Int32) (x m o : Nat) (ad : Nat → Nat) (LI : XH → TS → Prop) : Prop := ∀ (h : XH) (S : TS) (a1 : Int32), LI h S → ∃ r h1 v S1, k_X0_goes n g E.2.2.2 x a1 o h = some (r, h1) ∧ f_goes n a1 S = some (v, S1) ∧ S1.1 0 = r ∧ LE b L xs x m o ad h1 S ∧ (r = 0 → h1.2.1 o 0 = .long v.toInt64) ∧ LB h h1 ∧ ∀ h2, TW m ad S1 h2 → xsame tP h1 h2 → LI h2 S1
set_option maxHeartbeats 4000000 in
theorem law_c20 {l : Launch} {E : XEnv} {n g b L : Nat} {xs : Nat → Int32} {x m o : Nat} {ad : Nat → Nat} {LI : XH → TS → Prop} (hop : LOp_20 E n g b L xs x m o ad LI) (hLE : ∀ h S, LI h S → LE b L xs x m o ad h S) (hN : va_Nc "java/lang/IllegalArgumentException" "java/util/NoSuchElementException" E.1) {d kM nM i : Nat} {h : XH} {S : TS} {Q : XO → XH → Prop} (hI : LI h S) (hg : g ≤ 100) (hd : 2000 ≤ d) (hi : i + 5 < L) (hL : L ≤ 384) (hk : h.2.2.1 + 14000 ≤ kM) (hn : h.2.2.2 + 98000 ≤ nM) (kk : ∀ h2 S2, LI h2 S2 → h2.2.2.1 ≤ h.2.2.1 + 14000 → h2.2.2.2 ≤ h.2.2.2 + 98000 → XW l E mL_law d (kM - h2.2.2.1) (nM - h2.2.2.2) 3015 [(0, .ref b), (1, .ref x), (2, .ref m), (3, .ref o), (4, .int (Int32.ofNat i))] [] h2 Q) : XW l E mL_law d (kM - h.2.2.1) (nM - h.2.2.2) 1344 [(0, .ref b), (1, .ref x), (2, .ref m), (3, .ref o), (4, .int (Int32.ofNat i))] [] h Q := by
  obtain ⟨r, h1, v, S1, ek, ef, et, hE1, ho, hB, hP⟩ := hop h S (xs (i + 1)) hI
  have hE := hLE h S hI
  have hB1 : h1.2.2.1 ≤ h.2.2.1 + 14000 := hB.2.1
  have hB2 : h1.2.2.2 ≤ h.2.2.2 + 98000 := hB.2.2.2
  refine xw_aload_n dL_law_1344 rfl rfl ?_
  refine xw_aload_n dL_law_1345 rfl rfl ?_
  refine xw_iload dL_law_1346 rfl ?_
  refine xw_iconst (v := 1) dL_law_1348 rfl ?_
  refine xw_iadd dL_law_1349 ?_
  refine lx_rd 1 rfl hE (by omega) hL dL_law_1350 ?_
  refine xw_aload_n dL_law_1351 rfl rfl ?_
  refine lx_callSH (T_X0_goes hN ek) lS_L_220 C_X0_goes dL_law_1352 rfl (by omega) (Nat.le_of_ble_eq_true rfl) (by show h1.2.2.1 ≤ kM; omega) (by show h1.2.2.2 ≤ nM; omega) ?_
  refine xw_istore dL_law_1355 (by decide) ?_
  refine xw_aload_n dL_law_1357 rfl rfl ?_
  refine xw_aload_n dL_law_1358 rfl rfl ?_
  refine xw_iload dL_law_1359 rfl ?_
  refine xw_iconst (v := 1) dL_law_1361 rfl ?_
  refine xw_iadd dL_law_1362 ?_
  refine lx_rd 1 rfl hE1 (by omega) hL dL_law_1363 ?_
  refine lx_callT (T_goes ef) lV_L_222 C_X4_goes rfl dL_law_1364 hE1.2.2.2.2 rfl (by omega) (Nat.le_of_ble_eq_true rfl) ?_
  intro h2 hT2 hs2
  have hE2 := hE1.same hs2 hT2
  refine xw_istore dL_law_1367 (by decide) ?_
  refine xw_aload_n dL_law_1369 rfl rfl ?_
  have et1 : f_thrown S1 = some (S1.1 0) := rfl
  refine lx_callT (T_thrown et1) lV_L_156 C_X4_thrown rfl dL_law_1370 hT2 rfl (by omega) (Nat.le_of_ble_eq_true rfl) ?_
  intro h3 hT3 hs3
  have hE3 := hE2.same hs3 hT3
  rw [et]
  refine xw_iload dL_law_1373 rfl ?_
  refine xw_icmp_eq (tgt := 1380) dL_law_1375 (by decide) (fun _ => ?_) (fun z => absurd rfl z)
  refine xw_iload dL_law_1380 rfl ?_
  have fin : LI h3 S1 := hP h3 hT3 (hs2.trans hs3)
  have hn1 : h3.2.2 = h1.2.2 := hs3.1.1.trans hs2.1.1
  have hq1 : h3.2.2.1 ≤ h.2.2.1 + 14000 := by rw [hn1]; omega
  have hq2 : h3.2.2.2 ≤ h.2.2.2 + 98000 := by rw [hn1]; omega
  by_cases hr : r = 0
  · refine xw_if_ne (tgt := 1397) dL_law_1382 (by decide) (fun z => absurd hr z) (fun _ => ?_)
    have hO : h3.2.1 o 0 = _ := (congrFun ((hs3.2.2 _ _ _ _ hE2.2.2.2.1 (by unfold tP; omega)).trans (hs2.2.2 _ _ _ _ hE1.2.2.2.1 (by unfold tP; omega))) 0).trans (ho hr)
    refine xw_aload_n dL_law_1385 rfl rfl ?_
    refine xw_iconst (v := 0) dL_law_1386 rfl ?_
    refine xw_lald dL_law_1387 hE3.2.2.2.1 (by unfold vp_in; decide) hO ?_
    refine xw_iload dL_law_1388 rfl ?_
    refine xw_i2l dL_law_1390 ?_
    refine xw_lcmp dL_law_1391 ?_
    rw [lx_cmp]
    refine xw_if_eq (tgt := 1397) dL_law_1392 (by decide) (fun _ => ?_) (fun z => absurd rfl z)
    refine xw_goto (tgt := 3015) dL_law_1397 (by decide) ?_
    exact lx_lsK (kk h3 S1 fin hq1 hq2) ⟨rfl, rfl, rfl, rfl, rfl, trivial⟩
  · refine xw_if_ne (tgt := 1397) dL_law_1382 (by decide) (fun _ => ?_) (fun z => absurd z hr)
    refine xw_goto (tgt := 3015) dL_law_1397 (by decide) ?_
    exact lx_lsK (kk h3 S1 fin hq1 hq2) ⟨rfl, rfl, rfl, rfl, rfl, trivial⟩
def LOp_21 (E : XEnv) (n g b L : Nat) (xs : Nat → Int32) (x m o : Nat) (ad : Nat → Nat) (LI : XH → TS → Prop) : Prop := ∀ (h : XH) (S : TS) (a1 : Int32), LI h S → ∃ r h1 v S1, k_X0_match n g E.2.2.2 x a1 o h = some (r, h1) ∧ f_match n a1 S = some (v, S1) ∧ S1.1 0 = r ∧ LE b L xs x m o ad h1 S ∧ (r = 0 → h1.2.1 o 0 = .long v.toInt64) ∧ LB h h1 ∧ ∀ h2, TW m ad S1 h2 → xsame tP h1 h2 → LI h2 S1
set_option maxHeartbeats 4000000 in
theorem law_c21 {l : Launch} {E : XEnv} {n g b L : Nat} {xs : Nat → Int32} {x m o : Nat} {ad : Nat → Nat} {LI : XH → TS → Prop} (hop : LOp_21 E n g b L xs x m o ad LI) (hLE : ∀ h S, LI h S → LE b L xs x m o ad h S) (hN : va_Nc "java/lang/IllegalArgumentException" "java/util/NoSuchElementException" E.1) {d kM nM i : Nat} {h : XH} {S : TS} {Q : XO → XH → Prop} (hI : LI h S) (hg : g ≤ 100) (hd : 2000 ≤ d) (hi : i + 5 < L) (hL : L ≤ 384) (hk : h.2.2.1 + 14000 ≤ kM) (hn : h.2.2.2 + 98000 ≤ nM) (kk : ∀ h2 S2, LI h2 S2 → h2.2.2.1 ≤ h.2.2.1 + 14000 → h2.2.2.2 ≤ h.2.2.2 + 98000 → XW l E mL_law d (kM - h2.2.2.1) (nM - h2.2.2.2) 3015 [(0, .ref b), (1, .ref x), (2, .ref m), (3, .ref o), (4, .int (Int32.ofNat i))] [] h2 Q) : XW l E mL_law d (kM - h.2.2.1) (nM - h.2.2.2) 1400 [(0, .ref b), (1, .ref x), (2, .ref m), (3, .ref o), (4, .int (Int32.ofNat i))] [] h Q := by
  obtain ⟨r, h1, v, S1, ek, ef, et, hE1, ho, hB, hP⟩ := hop h S (xs (i + 1)) hI
  have hE := hLE h S hI
  have hB1 : h1.2.2.1 ≤ h.2.2.1 + 14000 := hB.2.1
  have hB2 : h1.2.2.2 ≤ h.2.2.2 + 98000 := hB.2.2.2
  refine xw_aload_n dL_law_1400 rfl rfl ?_
  refine xw_aload_n dL_law_1401 rfl rfl ?_
  refine xw_iload dL_law_1402 rfl ?_
  refine xw_iconst (v := 1) dL_law_1404 rfl ?_
  refine xw_iadd dL_law_1405 ?_
  refine lx_rd 1 rfl hE (by omega) hL dL_law_1406 ?_
  refine xw_aload_n dL_law_1407 rfl rfl ?_
  refine lx_callSH (T_X0_match hN ek) lS_L_223 C_X0_match dL_law_1408 rfl (by omega) (Nat.le_of_ble_eq_true rfl) (by show h1.2.2.1 ≤ kM; omega) (by show h1.2.2.2 ≤ nM; omega) ?_
  refine xw_istore dL_law_1411 (by decide) ?_
  refine xw_aload_n dL_law_1413 rfl rfl ?_
  refine xw_aload_n dL_law_1414 rfl rfl ?_
  refine xw_iload dL_law_1415 rfl ?_
  refine xw_iconst (v := 1) dL_law_1417 rfl ?_
  refine xw_iadd dL_law_1418 ?_
  refine lx_rd 1 rfl hE1 (by omega) hL dL_law_1419 ?_
  refine lx_callT (T_match ef) lV_L_225 C_X4_match rfl dL_law_1420 hE1.2.2.2.2 rfl (by omega) (Nat.le_of_ble_eq_true rfl) ?_
  intro h2 hT2 hs2
  have hE2 := hE1.same hs2 hT2
  refine xw_istore dL_law_1423 (by decide) ?_
  refine xw_aload_n dL_law_1425 rfl rfl ?_
  have et1 : f_thrown S1 = some (S1.1 0) := rfl
  refine lx_callT (T_thrown et1) lV_L_156 C_X4_thrown rfl dL_law_1426 hT2 rfl (by omega) (Nat.le_of_ble_eq_true rfl) ?_
  intro h3 hT3 hs3
  have hE3 := hE2.same hs3 hT3
  rw [et]
  refine xw_iload dL_law_1429 rfl ?_
  refine xw_icmp_eq (tgt := 1436) dL_law_1431 (by decide) (fun _ => ?_) (fun z => absurd rfl z)
  refine xw_iload dL_law_1436 rfl ?_
  have fin : LI h3 S1 := hP h3 hT3 (hs2.trans hs3)
  have hn1 : h3.2.2 = h1.2.2 := hs3.1.1.trans hs2.1.1
  have hq1 : h3.2.2.1 ≤ h.2.2.1 + 14000 := by rw [hn1]; omega
  have hq2 : h3.2.2.2 ≤ h.2.2.2 + 98000 := by rw [hn1]; omega
  by_cases hr : r = 0
  · refine xw_if_ne (tgt := 1453) dL_law_1438 (by decide) (fun z => absurd hr z) (fun _ => ?_)
    have hO : h3.2.1 o 0 = _ := (congrFun ((hs3.2.2 _ _ _ _ hE2.2.2.2.1 (by unfold tP; omega)).trans (hs2.2.2 _ _ _ _ hE1.2.2.2.1 (by unfold tP; omega))) 0).trans (ho hr)
    refine xw_aload_n dL_law_1441 rfl rfl ?_
    refine xw_iconst (v := 0) dL_law_1442 rfl ?_
    refine xw_lald dL_law_1443 hE3.2.2.2.1 (by unfold vp_in; decide) hO ?_
    refine xw_iload dL_law_1444 rfl ?_
    refine xw_i2l dL_law_1446 ?_
    refine xw_lcmp dL_law_1447 ?_
    rw [lx_cmp]
    refine xw_if_eq (tgt := 1453) dL_law_1448 (by decide) (fun _ => ?_) (fun z => absurd rfl z)
    refine xw_goto (tgt := 3015) dL_law_1453 (by decide) ?_
    exact lx_lsK (kk h3 S1 fin hq1 hq2) ⟨rfl, rfl, rfl, rfl, rfl, trivial⟩
  · refine xw_if_ne (tgt := 1453) dL_law_1438 (by decide) (fun _ => ?_) (fun z => absurd z hr)
    refine xw_goto (tgt := 3015) dL_law_1453 (by decide) ?_
    exact lx_lsK (kk h3 S1 fin hq1 hq2) ⟨rfl, rfl, rfl, rfl, rfl, trivial⟩
def LOp_22 (E : XEnv) (n g b L : Nat) (xs : Nat → Int32) (x m o : Nat) (ad : Nat → Nat) (LI : XH → TS → Prop) : Prop := ∀ (h : XH) (S : TS) (a1 : Int32), LI h S → ∃ r h1 v S1, k_X0_matched n g E.2.2.2 x a1 o h = some (r, h1) ∧ f_matched n a1 S = some (v, S1) ∧ S1.1 0 = r ∧ LE b L xs x m o ad h1 S ∧ (r = 0 → h1.2.1 o 0 = .long v.toInt64) ∧ LB h h1 ∧ ∀ h2, TW m ad S1 h2 → xsame tP h1 h2 → LI h2 S1
set_option maxHeartbeats 4000000 in
theorem law_c22 {l : Launch} {E : XEnv} {n g b L : Nat} {xs : Nat → Int32} {x m o : Nat} {ad : Nat → Nat} {LI : XH → TS → Prop} (hop : LOp_22 E n g b L xs x m o ad LI) (hLE : ∀ h S, LI h S → LE b L xs x m o ad h S) (hN : va_Nc "java/lang/IllegalArgumentException" "java/util/NoSuchElementException" E.1) {d kM nM i : Nat} {h : XH} {S : TS} {Q : XO → XH → Prop} (hI : LI h S) (hg : g ≤ 100) (hd : 2000 ≤ d) (hi : i + 5 < L) (hL : L ≤ 384) (hk : h.2.2.1 + 14000 ≤ kM) (hn : h.2.2.2 + 98000 ≤ nM) (kk : ∀ h2 S2, LI h2 S2 → h2.2.2.1 ≤ h.2.2.1 + 14000 → h2.2.2.2 ≤ h.2.2.2 + 98000 → XW l E mL_law d (kM - h2.2.2.1) (nM - h2.2.2.2) 3015 [(0, .ref b), (1, .ref x), (2, .ref m), (3, .ref o), (4, .int (Int32.ofNat i))] [] h2 Q) : XW l E mL_law d (kM - h.2.2.1) (nM - h.2.2.2) 1456 [(0, .ref b), (1, .ref x), (2, .ref m), (3, .ref o), (4, .int (Int32.ofNat i))] [] h Q := by
  obtain ⟨r, h1, v, S1, ek, ef, et, hE1, ho, hB, hP⟩ := hop h S (xs (i + 1)) hI
  have hE := hLE h S hI
  have hB1 : h1.2.2.1 ≤ h.2.2.1 + 14000 := hB.2.1
  have hB2 : h1.2.2.2 ≤ h.2.2.2 + 98000 := hB.2.2.2
  refine xw_aload_n dL_law_1456 rfl rfl ?_
  refine xw_aload_n dL_law_1457 rfl rfl ?_
  refine xw_iload dL_law_1458 rfl ?_
  refine xw_iconst (v := 1) dL_law_1460 rfl ?_
  refine xw_iadd dL_law_1461 ?_
  refine lx_rd 1 rfl hE (by omega) hL dL_law_1462 ?_
  refine xw_aload_n dL_law_1463 rfl rfl ?_
  refine lx_callSH (T_X0_matched hN ek) lS_L_226 C_X0_matched dL_law_1464 rfl (by omega) (Nat.le_of_ble_eq_true rfl) (by show h1.2.2.1 ≤ kM; omega) (by show h1.2.2.2 ≤ nM; omega) ?_
  refine xw_istore dL_law_1467 (by decide) ?_
  refine xw_aload_n dL_law_1469 rfl rfl ?_
  refine xw_aload_n dL_law_1470 rfl rfl ?_
  refine xw_iload dL_law_1471 rfl ?_
  refine xw_iconst (v := 1) dL_law_1473 rfl ?_
  refine xw_iadd dL_law_1474 ?_
  refine lx_rd 1 rfl hE1 (by omega) hL dL_law_1475 ?_
  refine lx_callT (T_matched ef) lV_L_228 C_X4_matched rfl dL_law_1476 hE1.2.2.2.2 rfl (by omega) (Nat.le_of_ble_eq_true rfl) ?_
  intro h2 hT2 hs2
  have hE2 := hE1.same hs2 hT2
  refine xw_istore dL_law_1479 (by decide) ?_
  refine xw_aload_n dL_law_1481 rfl rfl ?_
  have et1 : f_thrown S1 = some (S1.1 0) := rfl
  refine lx_callT (T_thrown et1) lV_L_156 C_X4_thrown rfl dL_law_1482 hT2 rfl (by omega) (Nat.le_of_ble_eq_true rfl) ?_
  intro h3 hT3 hs3
  have hE3 := hE2.same hs3 hT3
  rw [et]
  refine xw_iload dL_law_1485 rfl ?_
  refine xw_icmp_eq (tgt := 1492) dL_law_1487 (by decide) (fun _ => ?_) (fun z => absurd rfl z)
  refine xw_iload dL_law_1492 rfl ?_
  have fin : LI h3 S1 := hP h3 hT3 (hs2.trans hs3)
  have hn1 : h3.2.2 = h1.2.2 := hs3.1.1.trans hs2.1.1
  have hq1 : h3.2.2.1 ≤ h.2.2.1 + 14000 := by rw [hn1]; omega
  have hq2 : h3.2.2.2 ≤ h.2.2.2 + 98000 := by rw [hn1]; omega
  by_cases hr : r = 0
  · refine xw_if_ne (tgt := 1509) dL_law_1494 (by decide) (fun z => absurd hr z) (fun _ => ?_)
    have hO : h3.2.1 o 0 = _ := (congrFun ((hs3.2.2 _ _ _ _ hE2.2.2.2.1 (by unfold tP; omega)).trans (hs2.2.2 _ _ _ _ hE1.2.2.2.1 (by unfold tP; omega))) 0).trans (ho hr)
    refine xw_aload_n dL_law_1497 rfl rfl ?_
    refine xw_iconst (v := 0) dL_law_1498 rfl ?_
    refine xw_lald dL_law_1499 hE3.2.2.2.1 (by unfold vp_in; decide) hO ?_
    refine xw_iload dL_law_1500 rfl ?_
    refine xw_i2l dL_law_1502 ?_
    refine xw_lcmp dL_law_1503 ?_
    rw [lx_cmp]
    refine xw_if_eq (tgt := 1509) dL_law_1504 (by decide) (fun _ => ?_) (fun z => absurd rfl z)
    refine xw_goto (tgt := 3015) dL_law_1509 (by decide) ?_
    exact lx_lsK (kk h3 S1 fin hq1 hq2) ⟨rfl, rfl, rfl, rfl, rfl, trivial⟩
  · refine xw_if_ne (tgt := 1509) dL_law_1494 (by decide) (fun _ => ?_) (fun z => absurd z hr)
    refine xw_goto (tgt := 3015) dL_law_1509 (by decide) ?_
    exact lx_lsK (kk h3 S1 fin hq1 hq2) ⟨rfl, rfl, rfl, rfl, rfl, trivial⟩
def LOp_23 (E : XEnv) (n g b L : Nat) (xs : Nat → Int32) (x m o : Nat) (ad : Nat → Nat) (LI : XH → TS → Prop) : Prop := ∀ (h : XH) (S : TS) (a1 : Int32), LI h S → ∃ r h1 v S1, k_X0_trade n x a1 o h = some (r, h1) ∧ f_trade n a1 S = some (v, S1) ∧ S1.1 0 = r ∧ LE b L xs x m o ad h1 S ∧ (r = 0 → h1.2.1 o 0 = .long v.toInt64) ∧ LB h h1 ∧ ∀ h2, TW m ad S1 h2 → xsame tP h1 h2 → LI h2 S1
set_option maxHeartbeats 4000000 in
theorem law_c23 {l : Launch} {E : XEnv} {n g b L : Nat} {xs : Nat → Int32} {x m o : Nat} {ad : Nat → Nat} {LI : XH → TS → Prop} (hop : LOp_23 E n g b L xs x m o ad LI) (hLE : ∀ h S, LI h S → LE b L xs x m o ad h S) (hN : va_Nc "java/lang/IllegalArgumentException" "java/util/NoSuchElementException" E.1) {d kM nM i : Nat} {h : XH} {S : TS} {Q : XO → XH → Prop} (hI : LI h S) (hg : g ≤ 100) (hd : 2000 ≤ d) (hi : i + 5 < L) (hL : L ≤ 384) (hk : h.2.2.1 + 14000 ≤ kM) (hn : h.2.2.2 + 98000 ≤ nM) (kk : ∀ h2 S2, LI h2 S2 → h2.2.2.1 ≤ h.2.2.1 + 14000 → h2.2.2.2 ≤ h.2.2.2 + 98000 → XW l E mL_law d (kM - h2.2.2.1) (nM - h2.2.2.2) 3015 [(0, .ref b), (1, .ref x), (2, .ref m), (3, .ref o), (4, .int (Int32.ofNat i))] [] h2 Q) : XW l E mL_law d (kM - h.2.2.1) (nM - h.2.2.2) 1512 [(0, .ref b), (1, .ref x), (2, .ref m), (3, .ref o), (4, .int (Int32.ofNat i))] [] h Q := by
  obtain ⟨r, h1, v, S1, ek, ef, et, hE1, ho, hB, hP⟩ := hop h S (xs (i + 1)) hI
  have hE := hLE h S hI
  have hB1 : h1.2.2.1 ≤ h.2.2.1 + 14000 := hB.2.1
  have hB2 : h1.2.2.2 ≤ h.2.2.2 + 98000 := hB.2.2.2
  refine xw_aload_n dL_law_1512 rfl rfl ?_
  refine xw_aload_n dL_law_1513 rfl rfl ?_
  refine xw_iload dL_law_1514 rfl ?_
  refine xw_iconst (v := 1) dL_law_1516 rfl ?_
  refine xw_iadd dL_law_1517 ?_
  refine lx_rd 1 rfl hE (by omega) hL dL_law_1518 ?_
  refine xw_aload_n dL_law_1519 rfl rfl ?_
  refine lx_callSH (T_X0_trade hN ek) lS_L_229 C_X0_trade dL_law_1520 rfl (by omega) (Nat.le_of_ble_eq_true rfl) (by show h1.2.2.1 ≤ kM; omega) (by show h1.2.2.2 ≤ nM; omega) ?_
  refine xw_istore dL_law_1523 (by decide) ?_
  refine xw_aload_n dL_law_1525 rfl rfl ?_
  refine xw_aload_n dL_law_1526 rfl rfl ?_
  refine xw_iload dL_law_1527 rfl ?_
  refine xw_iconst (v := 1) dL_law_1529 rfl ?_
  refine xw_iadd dL_law_1530 ?_
  refine lx_rd 1 rfl hE1 (by omega) hL dL_law_1531 ?_
  refine lx_callT (T_trade ef) lV_L_231 C_X4_trade rfl dL_law_1532 hE1.2.2.2.2 rfl (by omega) (Nat.le_of_ble_eq_true rfl) ?_
  intro h2 hT2 hs2
  have hE2 := hE1.same hs2 hT2
  refine xw_istore dL_law_1535 (by decide) ?_
  refine xw_aload_n dL_law_1537 rfl rfl ?_
  have et1 : f_thrown S1 = some (S1.1 0) := rfl
  refine lx_callT (T_thrown et1) lV_L_156 C_X4_thrown rfl dL_law_1538 hT2 rfl (by omega) (Nat.le_of_ble_eq_true rfl) ?_
  intro h3 hT3 hs3
  have hE3 := hE2.same hs3 hT3
  rw [et]
  refine xw_iload dL_law_1541 rfl ?_
  refine xw_icmp_eq (tgt := 1548) dL_law_1543 (by decide) (fun _ => ?_) (fun z => absurd rfl z)
  refine xw_iload dL_law_1548 rfl ?_
  have fin : LI h3 S1 := hP h3 hT3 (hs2.trans hs3)
  have hn1 : h3.2.2 = h1.2.2 := hs3.1.1.trans hs2.1.1
  have hq1 : h3.2.2.1 ≤ h.2.2.1 + 14000 := by rw [hn1]; omega
  have hq2 : h3.2.2.2 ≤ h.2.2.2 + 98000 := by rw [hn1]; omega
  by_cases hr : r = 0
  · refine xw_if_ne (tgt := 1565) dL_law_1550 (by decide) (fun z => absurd hr z) (fun _ => ?_)
    have hO : h3.2.1 o 0 = _ := (congrFun ((hs3.2.2 _ _ _ _ hE2.2.2.2.1 (by unfold tP; omega)).trans (hs2.2.2 _ _ _ _ hE1.2.2.2.1 (by unfold tP; omega))) 0).trans (ho hr)
    refine xw_aload_n dL_law_1553 rfl rfl ?_
    refine xw_iconst (v := 0) dL_law_1554 rfl ?_
    refine xw_lald dL_law_1555 hE3.2.2.2.1 (by unfold vp_in; decide) hO ?_
    refine xw_iload dL_law_1556 rfl ?_
    refine xw_i2l dL_law_1558 ?_
    refine xw_lcmp dL_law_1559 ?_
    rw [lx_cmp]
    refine xw_if_eq (tgt := 1565) dL_law_1560 (by decide) (fun _ => ?_) (fun z => absurd rfl z)
    refine xw_goto (tgt := 3015) dL_law_1565 (by decide) ?_
    exact lx_lsK (kk h3 S1 fin hq1 hq2) ⟨rfl, rfl, rfl, rfl, rfl, trivial⟩
  · refine xw_if_ne (tgt := 1565) dL_law_1550 (by decide) (fun _ => ?_) (fun z => absurd z hr)
    refine xw_goto (tgt := 3015) dL_law_1565 (by decide) ?_
    exact lx_lsK (kk h3 S1 fin hq1 hq2) ⟨rfl, rfl, rfl, rfl, rfl, trivial⟩
def LOp_24 (E : XEnv) (n g b L : Nat) (xs : Nat → Int32) (x m o : Nat) (ad : Nat → Nat) (LI : XH → TS → Prop) : Prop := ∀ (h : XH) (S : TS) (a1 : Int32) (a2 : Int32), LI h S → ∃ r h1 v S1, k_X0_toStuff x a1 a2 o h = some (r, h1) ∧ f_toStuff a1 a2 S = some (v, S1) ∧ S1.1 0 = r ∧ LE b L xs x m o ad h1 S ∧ (r = 0 → h1.2.1 o 0 = .long v.toInt64) ∧ LB h h1 ∧ ∀ h2, TW m ad S1 h2 → xsame tP h1 h2 → LI h2 S1
set_option maxHeartbeats 4000000 in
theorem law_c24 {l : Launch} {E : XEnv} {n g b L : Nat} {xs : Nat → Int32} {x m o : Nat} {ad : Nat → Nat} {LI : XH → TS → Prop} (hop : LOp_24 E n g b L xs x m o ad LI) (hLE : ∀ h S, LI h S → LE b L xs x m o ad h S) (hN : va_Nc "java/lang/IllegalArgumentException" "java/util/NoSuchElementException" E.1) {d kM nM i : Nat} {h : XH} {S : TS} {Q : XO → XH → Prop} (hI : LI h S) (hg : g ≤ 100) (hd : 2000 ≤ d) (hi : i + 5 < L) (hL : L ≤ 384) (hk : h.2.2.1 + 14000 ≤ kM) (hn : h.2.2.2 + 98000 ≤ nM) (kk : ∀ h2 S2, LI h2 S2 → h2.2.2.1 ≤ h.2.2.1 + 14000 → h2.2.2.2 ≤ h.2.2.2 + 98000 → XW l E mL_law d (kM - h2.2.2.1) (nM - h2.2.2.2) 3015 [(0, .ref b), (1, .ref x), (2, .ref m), (3, .ref o), (4, .int (Int32.ofNat i))] [] h2 Q) : XW l E mL_law d (kM - h.2.2.1) (nM - h.2.2.2) 1568 [(0, .ref b), (1, .ref x), (2, .ref m), (3, .ref o), (4, .int (Int32.ofNat i))] [] h Q := by
  obtain ⟨r, h1, v, S1, ek, ef, et, hE1, ho, hB, hP⟩ := hop h S (xs (i + 1)) (xs (i + 2)) hI
  have hE := hLE h S hI
  have hB1 : h1.2.2.1 ≤ h.2.2.1 + 14000 := hB.2.1
  have hB2 : h1.2.2.2 ≤ h.2.2.2 + 98000 := hB.2.2.2
  refine xw_aload_n dL_law_1568 rfl rfl ?_
  refine xw_aload_n dL_law_1569 rfl rfl ?_
  refine xw_iload dL_law_1570 rfl ?_
  refine xw_iconst (v := 1) dL_law_1572 rfl ?_
  refine xw_iadd dL_law_1573 ?_
  refine lx_rd 1 rfl hE (by omega) hL dL_law_1574 ?_
  refine xw_aload_n dL_law_1575 rfl rfl ?_
  refine xw_iload dL_law_1576 rfl ?_
  refine xw_iconst (v := 2) dL_law_1578 rfl ?_
  refine xw_iadd dL_law_1579 ?_
  refine lx_rd 2 rfl hE (by omega) hL dL_law_1580 ?_
  refine xw_aload_n dL_law_1581 rfl rfl ?_
  refine lx_callSH (T_X0_toStuff hN ek) lS_L_232 C_X0_toStuff dL_law_1582 rfl (by omega) (Nat.le_of_ble_eq_true rfl) (by show h1.2.2.1 ≤ kM; omega) (by show h1.2.2.2 ≤ nM; omega) ?_
  refine xw_istore dL_law_1585 (by decide) ?_
  refine xw_aload_n dL_law_1587 rfl rfl ?_
  refine xw_aload_n dL_law_1588 rfl rfl ?_
  refine xw_iload dL_law_1589 rfl ?_
  refine xw_iconst (v := 1) dL_law_1591 rfl ?_
  refine xw_iadd dL_law_1592 ?_
  refine lx_rd 1 rfl hE1 (by omega) hL dL_law_1593 ?_
  refine xw_aload_n dL_law_1594 rfl rfl ?_
  refine xw_iload dL_law_1595 rfl ?_
  refine xw_iconst (v := 2) dL_law_1597 rfl ?_
  refine xw_iadd dL_law_1598 ?_
  refine lx_rd 2 rfl hE1 (by omega) hL dL_law_1599 ?_
  refine lx_callT (T_toStuff ef) lV_L_234 C_X4_toStuff rfl dL_law_1600 hE1.2.2.2.2 rfl (by omega) (Nat.le_of_ble_eq_true rfl) ?_
  intro h2 hT2 hs2
  have hE2 := hE1.same hs2 hT2
  refine xw_istore dL_law_1603 (by decide) ?_
  refine xw_aload_n dL_law_1605 rfl rfl ?_
  have et1 : f_thrown S1 = some (S1.1 0) := rfl
  refine lx_callT (T_thrown et1) lV_L_156 C_X4_thrown rfl dL_law_1606 hT2 rfl (by omega) (Nat.le_of_ble_eq_true rfl) ?_
  intro h3 hT3 hs3
  have hE3 := hE2.same hs3 hT3
  rw [et]
  refine xw_iload dL_law_1609 rfl ?_
  refine xw_icmp_eq (tgt := 1616) dL_law_1611 (by decide) (fun _ => ?_) (fun z => absurd rfl z)
  refine xw_iload dL_law_1616 rfl ?_
  have fin : LI h3 S1 := hP h3 hT3 (hs2.trans hs3)
  have hn1 : h3.2.2 = h1.2.2 := hs3.1.1.trans hs2.1.1
  have hq1 : h3.2.2.1 ≤ h.2.2.1 + 14000 := by rw [hn1]; omega
  have hq2 : h3.2.2.2 ≤ h.2.2.2 + 98000 := by rw [hn1]; omega
  by_cases hr : r = 0
  · refine xw_if_ne (tgt := 1633) dL_law_1618 (by decide) (fun z => absurd hr z) (fun _ => ?_)
    have hO : h3.2.1 o 0 = _ := (congrFun ((hs3.2.2 _ _ _ _ hE2.2.2.2.1 (by unfold tP; omega)).trans (hs2.2.2 _ _ _ _ hE1.2.2.2.1 (by unfold tP; omega))) 0).trans (ho hr)
    refine xw_aload_n dL_law_1621 rfl rfl ?_
    refine xw_iconst (v := 0) dL_law_1622 rfl ?_
    refine xw_lald dL_law_1623 hE3.2.2.2.1 (by unfold vp_in; decide) hO ?_
    refine xw_iload dL_law_1624 rfl ?_
    refine xw_i2l dL_law_1626 ?_
    refine xw_lcmp dL_law_1627 ?_
    rw [lx_cmp]
    refine xw_if_eq (tgt := 1633) dL_law_1628 (by decide) (fun _ => ?_) (fun z => absurd rfl z)
    refine xw_goto (tgt := 3015) dL_law_1633 (by decide) ?_
    exact lx_lsK (kk h3 S1 fin hq1 hq2) ⟨rfl, rfl, rfl, rfl, rfl, trivial⟩
  · refine xw_if_ne (tgt := 1633) dL_law_1618 (by decide) (fun _ => ?_) (fun z => absurd z hr)
    refine xw_goto (tgt := 3015) dL_law_1633 (by decide) ?_
    exact lx_lsK (kk h3 S1 fin hq1 hq2) ⟨rfl, rfl, rfl, rfl, rfl, trivial⟩
def LOp_25 (E : XEnv) (n g b L : Nat) (xs : Nat → Int32) (x m o : Nat) (ad : Nat → Nat) (LI : XH → TS → Prop) : Prop := ∀ (h : XH) (S : TS) (a1 : Int32) (a2 : Int32), LI h S → ∃ r h1 v S1, k_X0_toWait n g E.2.2.2 x a1 a2 o h = some (r, h1) ∧ f_toWait n a1 a2 S = some (v, S1) ∧ S1.1 0 = r ∧ LE b L xs x m o ad h1 S ∧ (r = 0 → h1.2.1 o 0 = .long v.toInt64) ∧ LB h h1 ∧ ∀ h2, TW m ad S1 h2 → xsame tP h1 h2 → LI h2 S1
set_option maxHeartbeats 4000000 in
theorem law_c25 {l : Launch} {E : XEnv} {n g b L : Nat} {xs : Nat → Int32} {x m o : Nat} {ad : Nat → Nat} {LI : XH → TS → Prop} (hop : LOp_25 E n g b L xs x m o ad LI) (hLE : ∀ h S, LI h S → LE b L xs x m o ad h S) (hN : va_Nc "java/lang/IllegalArgumentException" "java/util/NoSuchElementException" E.1) {d kM nM i : Nat} {h : XH} {S : TS} {Q : XO → XH → Prop} (hI : LI h S) (hg : g ≤ 100) (hd : 2000 ≤ d) (hi : i + 5 < L) (hL : L ≤ 384) (hk : h.2.2.1 + 14000 ≤ kM) (hn : h.2.2.2 + 98000 ≤ nM) (kk : ∀ h2 S2, LI h2 S2 → h2.2.2.1 ≤ h.2.2.1 + 14000 → h2.2.2.2 ≤ h.2.2.2 + 98000 → XW l E mL_law d (kM - h2.2.2.1) (nM - h2.2.2.2) 3015 [(0, .ref b), (1, .ref x), (2, .ref m), (3, .ref o), (4, .int (Int32.ofNat i))] [] h2 Q) : XW l E mL_law d (kM - h.2.2.1) (nM - h.2.2.2) 1636 [(0, .ref b), (1, .ref x), (2, .ref m), (3, .ref o), (4, .int (Int32.ofNat i))] [] h Q := by
  obtain ⟨r, h1, v, S1, ek, ef, et, hE1, ho, hB, hP⟩ := hop h S (xs (i + 1)) (xs (i + 2)) hI
  have hE := hLE h S hI
  have hB1 : h1.2.2.1 ≤ h.2.2.1 + 14000 := hB.2.1
  have hB2 : h1.2.2.2 ≤ h.2.2.2 + 98000 := hB.2.2.2
  refine xw_aload_n dL_law_1636 rfl rfl ?_
  refine xw_aload_n dL_law_1637 rfl rfl ?_
  refine xw_iload dL_law_1638 rfl ?_
  refine xw_iconst (v := 1) dL_law_1640 rfl ?_
  refine xw_iadd dL_law_1641 ?_
  refine lx_rd 1 rfl hE (by omega) hL dL_law_1642 ?_
  refine xw_aload_n dL_law_1643 rfl rfl ?_
  refine xw_iload dL_law_1644 rfl ?_
  refine xw_iconst (v := 2) dL_law_1646 rfl ?_
  refine xw_iadd dL_law_1647 ?_
  refine lx_rd 2 rfl hE (by omega) hL dL_law_1648 ?_
  refine xw_aload_n dL_law_1649 rfl rfl ?_
  refine lx_callSH (T_X0_toWait hN ek) lS_L_235 C_X0_toWait dL_law_1650 rfl (by omega) (Nat.le_of_ble_eq_true rfl) (by show h1.2.2.1 ≤ kM; omega) (by show h1.2.2.2 ≤ nM; omega) ?_
  refine xw_istore dL_law_1653 (by decide) ?_
  refine xw_aload_n dL_law_1655 rfl rfl ?_
  refine xw_aload_n dL_law_1656 rfl rfl ?_
  refine xw_iload dL_law_1657 rfl ?_
  refine xw_iconst (v := 1) dL_law_1659 rfl ?_
  refine xw_iadd dL_law_1660 ?_
  refine lx_rd 1 rfl hE1 (by omega) hL dL_law_1661 ?_
  refine xw_aload_n dL_law_1662 rfl rfl ?_
  refine xw_iload dL_law_1663 rfl ?_
  refine xw_iconst (v := 2) dL_law_1665 rfl ?_
  refine xw_iadd dL_law_1666 ?_
  refine lx_rd 2 rfl hE1 (by omega) hL dL_law_1667 ?_
  refine lx_callT (T_toWait ef) lV_L_237 C_X4_toWait rfl dL_law_1668 hE1.2.2.2.2 rfl (by omega) (Nat.le_of_ble_eq_true rfl) ?_
  intro h2 hT2 hs2
  have hE2 := hE1.same hs2 hT2
  refine xw_istore dL_law_1671 (by decide) ?_
  refine xw_aload_n dL_law_1673 rfl rfl ?_
  have et1 : f_thrown S1 = some (S1.1 0) := rfl
  refine lx_callT (T_thrown et1) lV_L_156 C_X4_thrown rfl dL_law_1674 hT2 rfl (by omega) (Nat.le_of_ble_eq_true rfl) ?_
  intro h3 hT3 hs3
  have hE3 := hE2.same hs3 hT3
  rw [et]
  refine xw_iload dL_law_1677 rfl ?_
  refine xw_icmp_eq (tgt := 1684) dL_law_1679 (by decide) (fun _ => ?_) (fun z => absurd rfl z)
  refine xw_iload dL_law_1684 rfl ?_
  have fin : LI h3 S1 := hP h3 hT3 (hs2.trans hs3)
  have hn1 : h3.2.2 = h1.2.2 := hs3.1.1.trans hs2.1.1
  have hq1 : h3.2.2.1 ≤ h.2.2.1 + 14000 := by rw [hn1]; omega
  have hq2 : h3.2.2.2 ≤ h.2.2.2 + 98000 := by rw [hn1]; omega
  by_cases hr : r = 0
  · refine xw_if_ne (tgt := 1701) dL_law_1686 (by decide) (fun z => absurd hr z) (fun _ => ?_)
    have hO : h3.2.1 o 0 = _ := (congrFun ((hs3.2.2 _ _ _ _ hE2.2.2.2.1 (by unfold tP; omega)).trans (hs2.2.2 _ _ _ _ hE1.2.2.2.1 (by unfold tP; omega))) 0).trans (ho hr)
    refine xw_aload_n dL_law_1689 rfl rfl ?_
    refine xw_iconst (v := 0) dL_law_1690 rfl ?_
    refine xw_lald dL_law_1691 hE3.2.2.2.1 (by unfold vp_in; decide) hO ?_
    refine xw_iload dL_law_1692 rfl ?_
    refine xw_i2l dL_law_1694 ?_
    refine xw_lcmp dL_law_1695 ?_
    rw [lx_cmp]
    refine xw_if_eq (tgt := 1701) dL_law_1696 (by decide) (fun _ => ?_) (fun z => absurd rfl z)
    refine xw_goto (tgt := 3015) dL_law_1701 (by decide) ?_
    exact lx_lsK (kk h3 S1 fin hq1 hq2) ⟨rfl, rfl, rfl, rfl, rfl, trivial⟩
  · refine xw_if_ne (tgt := 1701) dL_law_1686 (by decide) (fun _ => ?_) (fun z => absurd z hr)
    refine xw_goto (tgt := 3015) dL_law_1701 (by decide) ?_
    exact lx_lsK (kk h3 S1 fin hq1 hq2) ⟨rfl, rfl, rfl, rfl, rfl, trivial⟩
def LOp_26 (E : XEnv) (n g b L : Nat) (xs : Nat → Int32) (x m o : Nat) (ad : Nat → Nat) (LI : XH → TS → Prop) : Prop := ∀ (h : XH) (S : TS) (a1 : Int32), LI h S → ∃ r h1 v S1, k_X0_round n x a1 o h = some (r, h1) ∧ f_round n a1 S = some (v, S1) ∧ S1.1 0 = r ∧ LE b L xs x m o ad h1 S ∧ (r = 0 → h1.2.1 o 0 = .long v.toInt64) ∧ LB h h1 ∧ ∀ h2, TW m ad S1 h2 → xsame tP h1 h2 → LI h2 S1
set_option maxHeartbeats 4000000 in
theorem law_c26 {l : Launch} {E : XEnv} {n g b L : Nat} {xs : Nat → Int32} {x m o : Nat} {ad : Nat → Nat} {LI : XH → TS → Prop} (hop : LOp_26 E n g b L xs x m o ad LI) (hLE : ∀ h S, LI h S → LE b L xs x m o ad h S) (hN : va_Nc "java/lang/IllegalArgumentException" "java/util/NoSuchElementException" E.1) {d kM nM i : Nat} {h : XH} {S : TS} {Q : XO → XH → Prop} (hI : LI h S) (hg : g ≤ 100) (hd : 2000 ≤ d) (hi : i + 5 < L) (hL : L ≤ 384) (hk : h.2.2.1 + 14000 ≤ kM) (hn : h.2.2.2 + 98000 ≤ nM) (kk : ∀ h2 S2, LI h2 S2 → h2.2.2.1 ≤ h.2.2.1 + 14000 → h2.2.2.2 ≤ h.2.2.2 + 98000 → XW l E mL_law d (kM - h2.2.2.1) (nM - h2.2.2.2) 3015 [(0, .ref b), (1, .ref x), (2, .ref m), (3, .ref o), (4, .int (Int32.ofNat i))] [] h2 Q) : XW l E mL_law d (kM - h.2.2.1) (nM - h.2.2.2) 1704 [(0, .ref b), (1, .ref x), (2, .ref m), (3, .ref o), (4, .int (Int32.ofNat i))] [] h Q := by
  obtain ⟨r, h1, v, S1, ek, ef, et, hE1, ho, hB, hP⟩ := hop h S (xs (i + 1)) hI
  have hE := hLE h S hI
  have hB1 : h1.2.2.1 ≤ h.2.2.1 + 14000 := hB.2.1
  have hB2 : h1.2.2.2 ≤ h.2.2.2 + 98000 := hB.2.2.2
  refine xw_aload_n dL_law_1704 rfl rfl ?_
  refine xw_aload_n dL_law_1705 rfl rfl ?_
  refine xw_iload dL_law_1706 rfl ?_
  refine xw_iconst (v := 1) dL_law_1708 rfl ?_
  refine xw_iadd dL_law_1709 ?_
  refine lx_rd 1 rfl hE (by omega) hL dL_law_1710 ?_
  refine xw_aload_n dL_law_1711 rfl rfl ?_
  refine lx_callSH (T_X0_round hN ek) lS_L_238 C_X0_round dL_law_1712 rfl (by omega) (Nat.le_of_ble_eq_true rfl) (by show h1.2.2.1 ≤ kM; omega) (by show h1.2.2.2 ≤ nM; omega) ?_
  refine xw_istore dL_law_1715 (by decide) ?_
  refine xw_aload_n dL_law_1717 rfl rfl ?_
  refine xw_aload_n dL_law_1718 rfl rfl ?_
  refine xw_iload dL_law_1719 rfl ?_
  refine xw_iconst (v := 1) dL_law_1721 rfl ?_
  refine xw_iadd dL_law_1722 ?_
  refine lx_rd 1 rfl hE1 (by omega) hL dL_law_1723 ?_
  refine lx_callT (T_round ef) lV_L_240 C_X4_round rfl dL_law_1724 hE1.2.2.2.2 rfl (by omega) (Nat.le_of_ble_eq_true rfl) ?_
  intro h2 hT2 hs2
  have hE2 := hE1.same hs2 hT2
  refine xw_istore dL_law_1727 (by decide) ?_
  refine xw_aload_n dL_law_1729 rfl rfl ?_
  have et1 : f_thrown S1 = some (S1.1 0) := rfl
  refine lx_callT (T_thrown et1) lV_L_156 C_X4_thrown rfl dL_law_1730 hT2 rfl (by omega) (Nat.le_of_ble_eq_true rfl) ?_
  intro h3 hT3 hs3
  have hE3 := hE2.same hs3 hT3
  rw [et]
  refine xw_iload dL_law_1733 rfl ?_
  refine xw_icmp_eq (tgt := 1740) dL_law_1735 (by decide) (fun _ => ?_) (fun z => absurd rfl z)
  refine xw_iload dL_law_1740 rfl ?_
  have fin : LI h3 S1 := hP h3 hT3 (hs2.trans hs3)
  have hn1 : h3.2.2 = h1.2.2 := hs3.1.1.trans hs2.1.1
  have hq1 : h3.2.2.1 ≤ h.2.2.1 + 14000 := by rw [hn1]; omega
  have hq2 : h3.2.2.2 ≤ h.2.2.2 + 98000 := by rw [hn1]; omega
  by_cases hr : r = 0
  · refine xw_if_ne (tgt := 1757) dL_law_1742 (by decide) (fun z => absurd hr z) (fun _ => ?_)
    have hO : h3.2.1 o 0 = _ := (congrFun ((hs3.2.2 _ _ _ _ hE2.2.2.2.1 (by unfold tP; omega)).trans (hs2.2.2 _ _ _ _ hE1.2.2.2.1 (by unfold tP; omega))) 0).trans (ho hr)
    refine xw_aload_n dL_law_1745 rfl rfl ?_
    refine xw_iconst (v := 0) dL_law_1746 rfl ?_
    refine xw_lald dL_law_1747 hE3.2.2.2.1 (by unfold vp_in; decide) hO ?_
    refine xw_iload dL_law_1748 rfl ?_
    refine xw_i2l dL_law_1750 ?_
    refine xw_lcmp dL_law_1751 ?_
    rw [lx_cmp]
    refine xw_if_eq (tgt := 1757) dL_law_1752 (by decide) (fun _ => ?_) (fun z => absurd rfl z)
    refine xw_goto (tgt := 3015) dL_law_1757 (by decide) ?_
    exact lx_lsK (kk h3 S1 fin hq1 hq2) ⟨rfl, rfl, rfl, rfl, rfl, trivial⟩
  · refine xw_if_ne (tgt := 1757) dL_law_1742 (by decide) (fun _ => ?_) (fun z => absurd z hr)
    refine xw_goto (tgt := 3015) dL_law_1757 (by decide) ?_
    exact lx_lsK (kk h3 S1 fin hq1 hq2) ⟨rfl, rfl, rfl, rfl, rfl, trivial⟩
def LOp_27 (E : XEnv) (n g b L : Nat) (xs : Nat → Int32) (x m o : Nat) (ad : Nat → Nat) (LI : XH → TS → Prop) : Prop := ∀ (h : XH) (S : TS) (a1 : Int32) (a2 : Int32) (a3 : Int32), LI h S → ∃ r h1 v S1, k_X0_see E.2.2.2 x a1 a2 a3 o h = some (r, h1) ∧ f_see a1 a2 a3 S = some (v, S1) ∧ S1.1 0 = r ∧ LE b L xs x m o ad h1 S ∧ (r = 0 → h1.2.1 o 0 = .long v.toInt64) ∧ LB h h1 ∧ ∀ h2, TW m ad S1 h2 → xsame tP h1 h2 → LI h2 S1
set_option maxHeartbeats 4000000 in
theorem law_c27 {l : Launch} {E : XEnv} {n g b L : Nat} {xs : Nat → Int32} {x m o : Nat} {ad : Nat → Nat} {LI : XH → TS → Prop} (hop : LOp_27 E n g b L xs x m o ad LI) (hLE : ∀ h S, LI h S → LE b L xs x m o ad h S) (hN : va_Nc "java/lang/IllegalArgumentException" "java/util/NoSuchElementException" E.1) {d kM nM i : Nat} {h : XH} {S : TS} {Q : XO → XH → Prop} (hI : LI h S) (hg : g ≤ 100) (hd : 2000 ≤ d) (hi : i + 5 < L) (hL : L ≤ 384) (hk : h.2.2.1 + 14000 ≤ kM) (hn : h.2.2.2 + 98000 ≤ nM) (kk : ∀ h2 S2, LI h2 S2 → h2.2.2.1 ≤ h.2.2.1 + 14000 → h2.2.2.2 ≤ h.2.2.2 + 98000 → XW l E mL_law d (kM - h2.2.2.1) (nM - h2.2.2.2) 3015 [(0, .ref b), (1, .ref x), (2, .ref m), (3, .ref o), (4, .int (Int32.ofNat i))] [] h2 Q) : XW l E mL_law d (kM - h.2.2.1) (nM - h.2.2.2) 1760 [(0, .ref b), (1, .ref x), (2, .ref m), (3, .ref o), (4, .int (Int32.ofNat i))] [] h Q := by
  obtain ⟨r, h1, v, S1, ek, ef, et, hE1, ho, hB, hP⟩ := hop h S (xs (i + 1)) (xs (i + 2)) (xs (i + 3)) hI
  have hE := hLE h S hI
  have hB1 : h1.2.2.1 ≤ h.2.2.1 + 14000 := hB.2.1
  have hB2 : h1.2.2.2 ≤ h.2.2.2 + 98000 := hB.2.2.2
  refine xw_aload_n dL_law_1760 rfl rfl ?_
  refine xw_aload_n dL_law_1761 rfl rfl ?_
  refine xw_iload dL_law_1762 rfl ?_
  refine xw_iconst (v := 1) dL_law_1764 rfl ?_
  refine xw_iadd dL_law_1765 ?_
  refine lx_rd 1 rfl hE (by omega) hL dL_law_1766 ?_
  refine xw_aload_n dL_law_1767 rfl rfl ?_
  refine xw_iload dL_law_1768 rfl ?_
  refine xw_iconst (v := 2) dL_law_1770 rfl ?_
  refine xw_iadd dL_law_1771 ?_
  refine lx_rd 2 rfl hE (by omega) hL dL_law_1772 ?_
  refine xw_aload_n dL_law_1773 rfl rfl ?_
  refine xw_iload dL_law_1774 rfl ?_
  refine xw_iconst (v := 3) dL_law_1776 rfl ?_
  refine xw_iadd dL_law_1777 ?_
  refine lx_rd 3 rfl hE (by omega) hL dL_law_1778 ?_
  refine xw_aload_n dL_law_1779 rfl rfl ?_
  refine lx_callSH (T_X0_see hN ek) lS_L_241 C_X0_see dL_law_1780 rfl (by omega) (Nat.le_of_ble_eq_true rfl) (by show h1.2.2.1 ≤ kM; omega) (by show h1.2.2.2 ≤ nM; omega) ?_
  refine xw_istore dL_law_1783 (by decide) ?_
  refine xw_aload_n dL_law_1785 rfl rfl ?_
  refine xw_aload_n dL_law_1786 rfl rfl ?_
  refine xw_iload dL_law_1787 rfl ?_
  refine xw_iconst (v := 1) dL_law_1789 rfl ?_
  refine xw_iadd dL_law_1790 ?_
  refine lx_rd 1 rfl hE1 (by omega) hL dL_law_1791 ?_
  refine xw_aload_n dL_law_1792 rfl rfl ?_
  refine xw_iload dL_law_1793 rfl ?_
  refine xw_iconst (v := 2) dL_law_1795 rfl ?_
  refine xw_iadd dL_law_1796 ?_
  refine lx_rd 2 rfl hE1 (by omega) hL dL_law_1797 ?_
  refine xw_aload_n dL_law_1798 rfl rfl ?_
  refine xw_iload dL_law_1799 rfl ?_
  refine xw_iconst (v := 3) dL_law_1801 rfl ?_
  refine xw_iadd dL_law_1802 ?_
  refine lx_rd 3 rfl hE1 (by omega) hL dL_law_1803 ?_
  refine lx_callT (T_see ef) lV_L_243 C_X4_see rfl dL_law_1804 hE1.2.2.2.2 rfl (by omega) (Nat.le_of_ble_eq_true rfl) ?_
  intro h2 hT2 hs2
  have hE2 := hE1.same hs2 hT2
  refine xw_istore dL_law_1807 (by decide) ?_
  refine xw_aload_n dL_law_1809 rfl rfl ?_
  have et1 : f_thrown S1 = some (S1.1 0) := rfl
  refine lx_callT (T_thrown et1) lV_L_156 C_X4_thrown rfl dL_law_1810 hT2 rfl (by omega) (Nat.le_of_ble_eq_true rfl) ?_
  intro h3 hT3 hs3
  have hE3 := hE2.same hs3 hT3
  rw [et]
  refine xw_iload dL_law_1813 rfl ?_
  refine xw_icmp_eq (tgt := 1820) dL_law_1815 (by decide) (fun _ => ?_) (fun z => absurd rfl z)
  refine xw_iload dL_law_1820 rfl ?_
  have fin : LI h3 S1 := hP h3 hT3 (hs2.trans hs3)
  have hn1 : h3.2.2 = h1.2.2 := hs3.1.1.trans hs2.1.1
  have hq1 : h3.2.2.1 ≤ h.2.2.1 + 14000 := by rw [hn1]; omega
  have hq2 : h3.2.2.2 ≤ h.2.2.2 + 98000 := by rw [hn1]; omega
  by_cases hr : r = 0
  · refine xw_if_ne (tgt := 1837) dL_law_1822 (by decide) (fun z => absurd hr z) (fun _ => ?_)
    have hO : h3.2.1 o 0 = _ := (congrFun ((hs3.2.2 _ _ _ _ hE2.2.2.2.1 (by unfold tP; omega)).trans (hs2.2.2 _ _ _ _ hE1.2.2.2.1 (by unfold tP; omega))) 0).trans (ho hr)
    refine xw_aload_n dL_law_1825 rfl rfl ?_
    refine xw_iconst (v := 0) dL_law_1826 rfl ?_
    refine xw_lald dL_law_1827 hE3.2.2.2.1 (by unfold vp_in; decide) hO ?_
    refine xw_iload dL_law_1828 rfl ?_
    refine xw_i2l dL_law_1830 ?_
    refine xw_lcmp dL_law_1831 ?_
    rw [lx_cmp]
    refine xw_if_eq (tgt := 1837) dL_law_1832 (by decide) (fun _ => ?_) (fun z => absurd rfl z)
    refine xw_goto (tgt := 3015) dL_law_1837 (by decide) ?_
    exact lx_lsK (kk h3 S1 fin hq1 hq2) ⟨rfl, rfl, rfl, rfl, rfl, trivial⟩
  · refine xw_if_ne (tgt := 1837) dL_law_1822 (by decide) (fun _ => ?_) (fun z => absurd z hr)
    refine xw_goto (tgt := 3015) dL_law_1837 (by decide) ?_
    exact lx_lsK (kk h3 S1 fin hq1 hq2) ⟨rfl, rfl, rfl, rfl, rfl, trivial⟩
def LOp_28 (E : XEnv) (n g b L : Nat) (xs : Nat → Int32) (x m o : Nat) (ad : Nat → Nat) (LI : XH → TS → Prop) : Prop := ∀ (h : XH) (S : TS), LI h S → ∃ h1 S1, k_X1_forget E.2.2.2 x h = some h1 ∧ f_forget S = some S1 ∧ LE b L xs x m o ad h1 S ∧ LB h h1 ∧ ∀ h2, TW m ad S1 h2 → xsame tP h1 h2 → LI h2 S1
set_option maxHeartbeats 4000000 in
theorem law_c28 {l : Launch} {E : XEnv} {n g b L : Nat} {xs : Nat → Int32} {x m o : Nat} {ad : Nat → Nat} {LI : XH → TS → Prop} (hop : LOp_28 E n g b L xs x m o ad LI) (hLE : ∀ h S, LI h S → LE b L xs x m o ad h S) (hN : va_Nc "java/lang/IllegalArgumentException" "java/util/NoSuchElementException" E.1) {d kM nM i : Nat} {h : XH} {S : TS} {Q : XO → XH → Prop} (hI : LI h S) (hg : g ≤ 100) (hd : 2000 ≤ d) (hi : i + 5 < L) (hL : L ≤ 384) (hk : h.2.2.1 + 14000 ≤ kM) (hn : h.2.2.2 + 98000 ≤ nM) (kk : ∀ h2 S2, LI h2 S2 → h2.2.2.1 ≤ h.2.2.1 + 14000 → h2.2.2.2 ≤ h.2.2.2 + 98000 → XW l E mL_law d (kM - h2.2.2.1) (nM - h2.2.2.2) 3015 [(0, .ref b), (1, .ref x), (2, .ref m), (3, .ref o), (4, .int (Int32.ofNat i))] [] h2 Q) : XW l E mL_law d (kM - h.2.2.1) (nM - h.2.2.2) 1840 [(0, .ref b), (1, .ref x), (2, .ref m), (3, .ref o), (4, .int (Int32.ofNat i))] [] h Q := by
  obtain ⟨h1, S1, ek, ef, hE1, hB, hP⟩ := hop h S hI
  have hE := hLE h S hI
  have hB1 : h1.2.2.1 ≤ h.2.2.1 + 14000 := hB.2.1
  have hB2 : h1.2.2.2 ≤ h.2.2.2 + 98000 := hB.2.2.2
  refine xw_aload_n dL_law_1840 rfl rfl ?_
  refine lx_callV (T_X1_forget ek) lV_L_244 C_X1_forget rfl dL_law_1841 hE.2.2.1 rfl (by omega) (Nat.le_of_ble_eq_true rfl) (by show h1.2.2.1 ≤ kM; omega) (by show h1.2.2.2 ≤ nM; omega) ?_
  refine xw_aload_n dL_law_1844 rfl rfl ?_
  refine lx_callT (T_forget ef) lV_L_247 C_X4_forget rfl dL_law_1845 hE1.2.2.2.2 rfl (by omega) (Nat.le_of_ble_eq_true rfl) ?_
  intro h2 hT2 hs2
  have hE2 := hE1.same hs2 hT2
  refine xw_goto (tgt := 3015) dL_law_1848 (by decide) ?_
  have fin : LI h2 S1 := hP h2 hT2 hs2
  have hq1 : h2.2.2.1 ≤ h.2.2.1 + 14000 := by rw [hs2.1.1]; omega
  have hq2 : h2.2.2.2 ≤ h.2.2.2 + 98000 := by rw [hs2.1.1]; omega
  exact lx_lsK (kk h2 S1 fin hq1 hq2) ⟨rfl, rfl, rfl, rfl, rfl, trivial⟩
def LOp_29 (E : XEnv) (n g b L : Nat) (xs : Nat → Int32) (x m o : Nat) (ad : Nat → Nat) (LI : XH → TS → Prop) : Prop := ∀ (h : XH) (S : TS) (a1 : Int32), LI h S → ∃ r h1 v S1, k_X0_large n g E.2.2.2 x a1 o h = some (r, h1) ∧ f_large n a1 S = some (v, S1) ∧ S1.1 0 = r ∧ LE b L xs x m o ad h1 S ∧ (r = 0 → h1.2.1 o 0 = .long v.toInt64) ∧ LB h h1 ∧ ∀ h2, TW m ad S1 h2 → xsame tP h1 h2 → LI h2 S1
set_option maxHeartbeats 4000000 in
theorem law_c29 {l : Launch} {E : XEnv} {n g b L : Nat} {xs : Nat → Int32} {x m o : Nat} {ad : Nat → Nat} {LI : XH → TS → Prop} (hop : LOp_29 E n g b L xs x m o ad LI) (hLE : ∀ h S, LI h S → LE b L xs x m o ad h S) (hN : va_Nc "java/lang/IllegalArgumentException" "java/util/NoSuchElementException" E.1) {d kM nM i : Nat} {h : XH} {S : TS} {Q : XO → XH → Prop} (hI : LI h S) (hg : g ≤ 100) (hd : 2000 ≤ d) (hi : i + 5 < L) (hL : L ≤ 384) (hk : h.2.2.1 + 14000 ≤ kM) (hn : h.2.2.2 + 98000 ≤ nM) (kk : ∀ h2 S2, LI h2 S2 → h2.2.2.1 ≤ h.2.2.1 + 14000 → h2.2.2.2 ≤ h.2.2.2 + 98000 → XW l E mL_law d (kM - h2.2.2.1) (nM - h2.2.2.2) 3015 [(0, .ref b), (1, .ref x), (2, .ref m), (3, .ref o), (4, .int (Int32.ofNat i))] [] h2 Q) : XW l E mL_law d (kM - h.2.2.1) (nM - h.2.2.2) 1851 [(0, .ref b), (1, .ref x), (2, .ref m), (3, .ref o), (4, .int (Int32.ofNat i))] [] h Q := by
  obtain ⟨r, h1, v, S1, ek, ef, et, hE1, ho, hB, hP⟩ := hop h S (xs (i + 1)) hI
  have hE := hLE h S hI
  have hB1 : h1.2.2.1 ≤ h.2.2.1 + 14000 := hB.2.1
  have hB2 : h1.2.2.2 ≤ h.2.2.2 + 98000 := hB.2.2.2
  refine xw_aload_n dL_law_1851 rfl rfl ?_
  refine xw_aload_n dL_law_1852 rfl rfl ?_
  refine xw_iload dL_law_1853 rfl ?_
  refine xw_iconst (v := 1) dL_law_1855 rfl ?_
  refine xw_iadd dL_law_1856 ?_
  refine lx_rd 1 rfl hE (by omega) hL dL_law_1857 ?_
  refine xw_aload_n dL_law_1858 rfl rfl ?_
  refine lx_callSH (T_X0_large hN ek) lS_L_248 C_X0_large dL_law_1859 rfl (by omega) (Nat.le_of_ble_eq_true rfl) (by show h1.2.2.1 ≤ kM; omega) (by show h1.2.2.2 ≤ nM; omega) ?_
  refine xw_istore dL_law_1862 (by decide) ?_
  refine xw_aload_n dL_law_1864 rfl rfl ?_
  refine xw_aload_n dL_law_1865 rfl rfl ?_
  refine xw_iload dL_law_1866 rfl ?_
  refine xw_iconst (v := 1) dL_law_1868 rfl ?_
  refine xw_iadd dL_law_1869 ?_
  refine lx_rd 1 rfl hE1 (by omega) hL dL_law_1870 ?_
  refine lx_callT (T_large ef) lV_L_250 C_X4_large rfl dL_law_1871 hE1.2.2.2.2 rfl (by omega) (Nat.le_of_ble_eq_true rfl) ?_
  intro h2 hT2 hs2
  have hE2 := hE1.same hs2 hT2
  refine xw_istore dL_law_1874 (by decide) ?_
  refine xw_aload_n dL_law_1876 rfl rfl ?_
  have et1 : f_thrown S1 = some (S1.1 0) := rfl
  refine lx_callT (T_thrown et1) lV_L_156 C_X4_thrown rfl dL_law_1877 hT2 rfl (by omega) (Nat.le_of_ble_eq_true rfl) ?_
  intro h3 hT3 hs3
  have hE3 := hE2.same hs3 hT3
  rw [et]
  refine xw_iload dL_law_1880 rfl ?_
  refine xw_icmp_eq (tgt := 1887) dL_law_1882 (by decide) (fun _ => ?_) (fun z => absurd rfl z)
  refine xw_iload dL_law_1887 rfl ?_
  have fin : LI h3 S1 := hP h3 hT3 (hs2.trans hs3)
  have hn1 : h3.2.2 = h1.2.2 := hs3.1.1.trans hs2.1.1
  have hq1 : h3.2.2.1 ≤ h.2.2.1 + 14000 := by rw [hn1]; omega
  have hq2 : h3.2.2.2 ≤ h.2.2.2 + 98000 := by rw [hn1]; omega
  by_cases hr : r = 0
  · refine xw_if_ne (tgt := 1904) dL_law_1889 (by decide) (fun z => absurd hr z) (fun _ => ?_)
    have hO : h3.2.1 o 0 = _ := (congrFun ((hs3.2.2 _ _ _ _ hE2.2.2.2.1 (by unfold tP; omega)).trans (hs2.2.2 _ _ _ _ hE1.2.2.2.1 (by unfold tP; omega))) 0).trans (ho hr)
    refine xw_aload_n dL_law_1892 rfl rfl ?_
    refine xw_iconst (v := 0) dL_law_1893 rfl ?_
    refine xw_lald dL_law_1894 hE3.2.2.2.1 (by unfold vp_in; decide) hO ?_
    refine xw_iload dL_law_1895 rfl ?_
    refine xw_i2l dL_law_1897 ?_
    refine xw_lcmp dL_law_1898 ?_
    rw [lx_cmp]
    refine xw_if_eq (tgt := 1904) dL_law_1899 (by decide) (fun _ => ?_) (fun z => absurd rfl z)
    refine xw_goto (tgt := 3015) dL_law_1904 (by decide) ?_
    exact lx_lsK (kk h3 S1 fin hq1 hq2) ⟨rfl, rfl, rfl, rfl, rfl, trivial⟩
  · refine xw_if_ne (tgt := 1904) dL_law_1889 (by decide) (fun _ => ?_) (fun z => absurd z hr)
    refine xw_goto (tgt := 3015) dL_law_1904 (by decide) ?_
    exact lx_lsK (kk h3 S1 fin hq1 hq2) ⟨rfl, rfl, rfl, rfl, rfl, trivial⟩
def LOp_30 (E : XEnv) (n g b L : Nat) (xs : Nat → Int32) (x m o : Nat) (ad : Nat → Nat) (LI : XH → TS → Prop) : Prop := ∀ (h : XH) (S : TS) (a1 : Int32), LI h S → ∃ r h1 v S1, k_X0_next n g E.2.2.2 x a1 o h = some (r, h1) ∧ f_next n a1 S = some (v, S1) ∧ S1.1 0 = r ∧ LE b L xs x m o ad h1 S ∧ (r = 0 → h1.2.1 o 0 = .long v.toInt64) ∧ LB h h1 ∧ ∀ h2, TW m ad S1 h2 → xsame tP h1 h2 → LI h2 S1
set_option maxHeartbeats 4000000 in
theorem law_c30 {l : Launch} {E : XEnv} {n g b L : Nat} {xs : Nat → Int32} {x m o : Nat} {ad : Nat → Nat} {LI : XH → TS → Prop} (hop : LOp_30 E n g b L xs x m o ad LI) (hLE : ∀ h S, LI h S → LE b L xs x m o ad h S) (hN : va_Nc "java/lang/IllegalArgumentException" "java/util/NoSuchElementException" E.1) {d kM nM i : Nat} {h : XH} {S : TS} {Q : XO → XH → Prop} (hI : LI h S) (hg : g ≤ 100) (hd : 2000 ≤ d) (hi : i + 5 < L) (hL : L ≤ 384) (hk : h.2.2.1 + 14000 ≤ kM) (hn : h.2.2.2 + 98000 ≤ nM) (kk : ∀ h2 S2, LI h2 S2 → h2.2.2.1 ≤ h.2.2.1 + 14000 → h2.2.2.2 ≤ h.2.2.2 + 98000 → XW l E mL_law d (kM - h2.2.2.1) (nM - h2.2.2.2) 3015 [(0, .ref b), (1, .ref x), (2, .ref m), (3, .ref o), (4, .int (Int32.ofNat i))] [] h2 Q) : XW l E mL_law d (kM - h.2.2.1) (nM - h.2.2.2) 1907 [(0, .ref b), (1, .ref x), (2, .ref m), (3, .ref o), (4, .int (Int32.ofNat i))] [] h Q := by
  obtain ⟨r, h1, v, S1, ek, ef, et, hE1, ho, hB, hP⟩ := hop h S (xs (i + 1)) hI
  have hE := hLE h S hI
  have hB1 : h1.2.2.1 ≤ h.2.2.1 + 14000 := hB.2.1
  have hB2 : h1.2.2.2 ≤ h.2.2.2 + 98000 := hB.2.2.2
  refine xw_aload_n dL_law_1907 rfl rfl ?_
  refine xw_aload_n dL_law_1908 rfl rfl ?_
  refine xw_iload dL_law_1909 rfl ?_
  refine xw_iconst (v := 1) dL_law_1911 rfl ?_
  refine xw_iadd dL_law_1912 ?_
  refine lx_rd 1 rfl hE (by omega) hL dL_law_1913 ?_
  refine xw_aload_n dL_law_1914 rfl rfl ?_
  refine lx_callSH (T_X0_next hN ek) lS_L_251 C_X0_next dL_law_1915 rfl (by omega) (Nat.le_of_ble_eq_true rfl) (by show h1.2.2.1 ≤ kM; omega) (by show h1.2.2.2 ≤ nM; omega) ?_
  refine xw_istore dL_law_1918 (by decide) ?_
  refine xw_aload_n dL_law_1920 rfl rfl ?_
  refine xw_aload_n dL_law_1921 rfl rfl ?_
  refine xw_iload dL_law_1922 rfl ?_
  refine xw_iconst (v := 1) dL_law_1924 rfl ?_
  refine xw_iadd dL_law_1925 ?_
  refine lx_rd 1 rfl hE1 (by omega) hL dL_law_1926 ?_
  refine lx_callT (T_next ef) lV_L_253 C_X4_next rfl dL_law_1927 hE1.2.2.2.2 rfl (by omega) (Nat.le_of_ble_eq_true rfl) ?_
  intro h2 hT2 hs2
  have hE2 := hE1.same hs2 hT2
  refine xw_istore dL_law_1930 (by decide) ?_
  refine xw_aload_n dL_law_1932 rfl rfl ?_
  have et1 : f_thrown S1 = some (S1.1 0) := rfl
  refine lx_callT (T_thrown et1) lV_L_156 C_X4_thrown rfl dL_law_1933 hT2 rfl (by omega) (Nat.le_of_ble_eq_true rfl) ?_
  intro h3 hT3 hs3
  have hE3 := hE2.same hs3 hT3
  rw [et]
  refine xw_iload dL_law_1936 rfl ?_
  refine xw_icmp_eq (tgt := 1943) dL_law_1938 (by decide) (fun _ => ?_) (fun z => absurd rfl z)
  refine xw_iload dL_law_1943 rfl ?_
  have fin : LI h3 S1 := hP h3 hT3 (hs2.trans hs3)
  have hn1 : h3.2.2 = h1.2.2 := hs3.1.1.trans hs2.1.1
  have hq1 : h3.2.2.1 ≤ h.2.2.1 + 14000 := by rw [hn1]; omega
  have hq2 : h3.2.2.2 ≤ h.2.2.2 + 98000 := by rw [hn1]; omega
  by_cases hr : r = 0
  · refine xw_if_ne (tgt := 1960) dL_law_1945 (by decide) (fun z => absurd hr z) (fun _ => ?_)
    have hO : h3.2.1 o 0 = _ := (congrFun ((hs3.2.2 _ _ _ _ hE2.2.2.2.1 (by unfold tP; omega)).trans (hs2.2.2 _ _ _ _ hE1.2.2.2.1 (by unfold tP; omega))) 0).trans (ho hr)
    refine xw_aload_n dL_law_1948 rfl rfl ?_
    refine xw_iconst (v := 0) dL_law_1949 rfl ?_
    refine xw_lald dL_law_1950 hE3.2.2.2.1 (by unfold vp_in; decide) hO ?_
    refine xw_iload dL_law_1951 rfl ?_
    refine xw_i2l dL_law_1953 ?_
    refine xw_lcmp dL_law_1954 ?_
    rw [lx_cmp]
    refine xw_if_eq (tgt := 1960) dL_law_1955 (by decide) (fun _ => ?_) (fun z => absurd rfl z)
    refine xw_goto (tgt := 3015) dL_law_1960 (by decide) ?_
    exact lx_lsK (kk h3 S1 fin hq1 hq2) ⟨rfl, rfl, rfl, rfl, rfl, trivial⟩
  · refine xw_if_ne (tgt := 1960) dL_law_1945 (by decide) (fun _ => ?_) (fun z => absurd z hr)
    refine xw_goto (tgt := 3015) dL_law_1960 (by decide) ?_
    exact lx_lsK (kk h3 S1 fin hq1 hq2) ⟨rfl, rfl, rfl, rfl, rfl, trivial⟩
def LOp_31 (E : XEnv) (n g b L : Nat) (xs : Nat → Int32) (x m o : Nat) (ad : Nat → Nat) (LI : XH → TS → Prop) : Prop := ∀ (h : XH) (S : TS) (a1 : Int32) (a2 : Int32) (a3 : Int32), LI h S → ∃ r h1 v S1, k_X0_byDamp n g E.2.2.2 x a1 a2 a3 o h = some (r, h1) ∧ f_byDamp n a1 a2 a3 S = some (v, S1) ∧ S1.1 0 = r ∧ LE b L xs x m o ad h1 S ∧ (r = 0 → h1.2.1 o 0 = .long v.toInt64) ∧ LB h h1 ∧ ∀ h2, TW m ad S1 h2 → xsame tP h1 h2 → LI h2 S1
set_option maxHeartbeats 4000000 in
theorem law_c31 {l : Launch} {E : XEnv} {n g b L : Nat} {xs : Nat → Int32} {x m o : Nat} {ad : Nat → Nat} {LI : XH → TS → Prop} (hop : LOp_31 E n g b L xs x m o ad LI) (hLE : ∀ h S, LI h S → LE b L xs x m o ad h S) (hN : va_Nc "java/lang/IllegalArgumentException" "java/util/NoSuchElementException" E.1) {d kM nM i : Nat} {h : XH} {S : TS} {Q : XO → XH → Prop} (hI : LI h S) (hg : g ≤ 100) (hd : 2000 ≤ d) (hi : i + 5 < L) (hL : L ≤ 384) (hk : h.2.2.1 + 14000 ≤ kM) (hn : h.2.2.2 + 98000 ≤ nM) (kk : ∀ h2 S2, LI h2 S2 → h2.2.2.1 ≤ h.2.2.1 + 14000 → h2.2.2.2 ≤ h.2.2.2 + 98000 → XW l E mL_law d (kM - h2.2.2.1) (nM - h2.2.2.2) 3015 [(0, .ref b), (1, .ref x), (2, .ref m), (3, .ref o), (4, .int (Int32.ofNat i))] [] h2 Q) : XW l E mL_law d (kM - h.2.2.1) (nM - h.2.2.2) 1963 [(0, .ref b), (1, .ref x), (2, .ref m), (3, .ref o), (4, .int (Int32.ofNat i))] [] h Q := by
  obtain ⟨r, h1, v, S1, ek, ef, et, hE1, ho, hB, hP⟩ := hop h S (xs (i + 1)) (xs (i + 2)) (xs (i + 3)) hI
  have hE := hLE h S hI
  have hB1 : h1.2.2.1 ≤ h.2.2.1 + 14000 := hB.2.1
  have hB2 : h1.2.2.2 ≤ h.2.2.2 + 98000 := hB.2.2.2
  refine xw_aload_n dL_law_1963 rfl rfl ?_
  refine xw_aload_n dL_law_1964 rfl rfl ?_
  refine xw_iload dL_law_1965 rfl ?_
  refine xw_iconst (v := 1) dL_law_1967 rfl ?_
  refine xw_iadd dL_law_1968 ?_
  refine lx_rd 1 rfl hE (by omega) hL dL_law_1969 ?_
  refine xw_aload_n dL_law_1970 rfl rfl ?_
  refine xw_iload dL_law_1971 rfl ?_
  refine xw_iconst (v := 2) dL_law_1973 rfl ?_
  refine xw_iadd dL_law_1974 ?_
  refine lx_rd 2 rfl hE (by omega) hL dL_law_1975 ?_
  refine xw_aload_n dL_law_1976 rfl rfl ?_
  refine xw_iload dL_law_1977 rfl ?_
  refine xw_iconst (v := 3) dL_law_1979 rfl ?_
  refine xw_iadd dL_law_1980 ?_
  refine lx_rd 3 rfl hE (by omega) hL dL_law_1981 ?_
  refine xw_aload_n dL_law_1982 rfl rfl ?_
  refine lx_callSH (T_X0_byDamp hN ek) lS_L_254 C_X0_byDamp dL_law_1983 rfl (by omega) (Nat.le_of_ble_eq_true rfl) (by show h1.2.2.1 ≤ kM; omega) (by show h1.2.2.2 ≤ nM; omega) ?_
  refine xw_istore dL_law_1986 (by decide) ?_
  refine xw_aload_n dL_law_1988 rfl rfl ?_
  refine xw_aload_n dL_law_1989 rfl rfl ?_
  refine xw_iload dL_law_1990 rfl ?_
  refine xw_iconst (v := 1) dL_law_1992 rfl ?_
  refine xw_iadd dL_law_1993 ?_
  refine lx_rd 1 rfl hE1 (by omega) hL dL_law_1994 ?_
  refine xw_aload_n dL_law_1995 rfl rfl ?_
  refine xw_iload dL_law_1996 rfl ?_
  refine xw_iconst (v := 2) dL_law_1998 rfl ?_
  refine xw_iadd dL_law_1999 ?_
  refine lx_rd 2 rfl hE1 (by omega) hL dL_law_2000 ?_
  refine xw_aload_n dL_law_2001 rfl rfl ?_
  refine xw_iload dL_law_2002 rfl ?_
  refine xw_iconst (v := 3) dL_law_2004 rfl ?_
  refine xw_iadd dL_law_2005 ?_
  refine lx_rd 3 rfl hE1 (by omega) hL dL_law_2006 ?_
  refine lx_callT (T_byDamp ef) lV_L_256 C_X4_byDamp rfl dL_law_2007 hE1.2.2.2.2 rfl (by omega) (Nat.le_of_ble_eq_true rfl) ?_
  intro h2 hT2 hs2
  have hE2 := hE1.same hs2 hT2
  refine xw_istore dL_law_2010 (by decide) ?_
  refine xw_aload_n dL_law_2012 rfl rfl ?_
  have et1 : f_thrown S1 = some (S1.1 0) := rfl
  refine lx_callT (T_thrown et1) lV_L_156 C_X4_thrown rfl dL_law_2013 hT2 rfl (by omega) (Nat.le_of_ble_eq_true rfl) ?_
  intro h3 hT3 hs3
  have hE3 := hE2.same hs3 hT3
  rw [et]
  refine xw_iload dL_law_2016 rfl ?_
  refine xw_icmp_eq (tgt := 2023) dL_law_2018 (by decide) (fun _ => ?_) (fun z => absurd rfl z)
  refine xw_iload dL_law_2023 rfl ?_
  have fin : LI h3 S1 := hP h3 hT3 (hs2.trans hs3)
  have hn1 : h3.2.2 = h1.2.2 := hs3.1.1.trans hs2.1.1
  have hq1 : h3.2.2.1 ≤ h.2.2.1 + 14000 := by rw [hn1]; omega
  have hq2 : h3.2.2.2 ≤ h.2.2.2 + 98000 := by rw [hn1]; omega
  by_cases hr : r = 0
  · refine xw_if_ne (tgt := 2040) dL_law_2025 (by decide) (fun z => absurd hr z) (fun _ => ?_)
    have hO : h3.2.1 o 0 = _ := (congrFun ((hs3.2.2 _ _ _ _ hE2.2.2.2.1 (by unfold tP; omega)).trans (hs2.2.2 _ _ _ _ hE1.2.2.2.1 (by unfold tP; omega))) 0).trans (ho hr)
    refine xw_aload_n dL_law_2028 rfl rfl ?_
    refine xw_iconst (v := 0) dL_law_2029 rfl ?_
    refine xw_lald dL_law_2030 hE3.2.2.2.1 (by unfold vp_in; decide) hO ?_
    refine xw_iload dL_law_2031 rfl ?_
    refine xw_i2l dL_law_2033 ?_
    refine xw_lcmp dL_law_2034 ?_
    rw [lx_cmp]
    refine xw_if_eq (tgt := 2040) dL_law_2035 (by decide) (fun _ => ?_) (fun z => absurd rfl z)
    refine xw_goto (tgt := 3015) dL_law_2040 (by decide) ?_
    exact lx_lsK (kk h3 S1 fin hq1 hq2) ⟨rfl, rfl, rfl, rfl, rfl, trivial⟩
  · refine xw_if_ne (tgt := 2040) dL_law_2025 (by decide) (fun _ => ?_) (fun z => absurd z hr)
    refine xw_goto (tgt := 3015) dL_law_2040 (by decide) ?_
    exact lx_lsK (kk h3 S1 fin hq1 hq2) ⟨rfl, rfl, rfl, rfl, rfl, trivial⟩
def LOp_32 (E : XEnv) (n g b L : Nat) (xs : Nat → Int32) (x m o : Nat) (ad : Nat → Nat) (LI : XH → TS → Prop) : Prop := ∀ (h : XH) (S : TS) (a1 : Int32) (a2 : Int32) (a3 : Int32) (a4 : Int32), LI h S → ∃ r h1 v S1, k_X0_game n g E.2.2.2 x a1 a2 a3 a4 o h = some (r, h1) ∧ f_game n a1 a2 a3 a4 S = some (v, S1) ∧ S1.1 0 = r ∧ LE b L xs x m o ad h1 S ∧ (r = 0 → h1.2.1 o 0 = .long v.toInt64) ∧ LB h h1 ∧ ∀ h2, TW m ad S1 h2 → xsame tP h1 h2 → LI h2 S1
set_option maxHeartbeats 4000000 in
theorem law_c32 {l : Launch} {E : XEnv} {n g b L : Nat} {xs : Nat → Int32} {x m o : Nat} {ad : Nat → Nat} {LI : XH → TS → Prop} (hop : LOp_32 E n g b L xs x m o ad LI) (hLE : ∀ h S, LI h S → LE b L xs x m o ad h S) (hN : va_Nc "java/lang/IllegalArgumentException" "java/util/NoSuchElementException" E.1) {d kM nM i : Nat} {h : XH} {S : TS} {Q : XO → XH → Prop} (hI : LI h S) (hg : g ≤ 100) (hd : 2000 ≤ d) (hi : i + 5 < L) (hL : L ≤ 384) (hk : h.2.2.1 + 14000 ≤ kM) (hn : h.2.2.2 + 98000 ≤ nM) (kk : ∀ h2 S2, LI h2 S2 → h2.2.2.1 ≤ h.2.2.1 + 14000 → h2.2.2.2 ≤ h.2.2.2 + 98000 → XW l E mL_law d (kM - h2.2.2.1) (nM - h2.2.2.2) 3015 [(0, .ref b), (1, .ref x), (2, .ref m), (3, .ref o), (4, .int (Int32.ofNat i))] [] h2 Q) : XW l E mL_law d (kM - h.2.2.1) (nM - h.2.2.2) 2043 [(0, .ref b), (1, .ref x), (2, .ref m), (3, .ref o), (4, .int (Int32.ofNat i))] [] h Q := by
  obtain ⟨r, h1, v, S1, ek, ef, et, hE1, ho, hB, hP⟩ := hop h S (xs (i + 1)) (xs (i + 2)) (xs (i + 3)) (xs (i + 4)) hI
  have hE := hLE h S hI
  have hB1 : h1.2.2.1 ≤ h.2.2.1 + 14000 := hB.2.1
  have hB2 : h1.2.2.2 ≤ h.2.2.2 + 98000 := hB.2.2.2
  refine xw_aload_n dL_law_2043 rfl rfl ?_
  refine xw_aload_n dL_law_2044 rfl rfl ?_
  refine xw_iload dL_law_2045 rfl ?_
  refine xw_iconst (v := 1) dL_law_2047 rfl ?_
  refine xw_iadd dL_law_2048 ?_
  refine lx_rd 1 rfl hE (by omega) hL dL_law_2049 ?_
  refine xw_aload_n dL_law_2050 rfl rfl ?_
  refine xw_iload dL_law_2051 rfl ?_
  refine xw_iconst (v := 2) dL_law_2053 rfl ?_
  refine xw_iadd dL_law_2054 ?_
  refine lx_rd 2 rfl hE (by omega) hL dL_law_2055 ?_
  refine xw_aload_n dL_law_2056 rfl rfl ?_
  refine xw_iload dL_law_2057 rfl ?_
  refine xw_iconst (v := 3) dL_law_2059 rfl ?_
  refine xw_iadd dL_law_2060 ?_
  refine lx_rd 3 rfl hE (by omega) hL dL_law_2061 ?_
  refine xw_aload_n dL_law_2062 rfl rfl ?_
  refine xw_iload dL_law_2063 rfl ?_
  refine xw_iconst (v := 4) dL_law_2065 rfl ?_
  refine xw_iadd dL_law_2066 ?_
  refine lx_rd 4 rfl hE (by omega) hL dL_law_2067 ?_
  refine xw_aload_n dL_law_2068 rfl rfl ?_
  refine lx_callSH (T_X0_game hN ek) lS_L_257 C_X0_game dL_law_2069 rfl (by omega) (Nat.le_of_ble_eq_true rfl) (by show h1.2.2.1 ≤ kM; omega) (by show h1.2.2.2 ≤ nM; omega) ?_
  refine xw_istore dL_law_2072 (by decide) ?_
  refine xw_aload_n dL_law_2074 rfl rfl ?_
  refine xw_aload_n dL_law_2075 rfl rfl ?_
  refine xw_iload dL_law_2076 rfl ?_
  refine xw_iconst (v := 1) dL_law_2078 rfl ?_
  refine xw_iadd dL_law_2079 ?_
  refine lx_rd 1 rfl hE1 (by omega) hL dL_law_2080 ?_
  refine xw_aload_n dL_law_2081 rfl rfl ?_
  refine xw_iload dL_law_2082 rfl ?_
  refine xw_iconst (v := 2) dL_law_2084 rfl ?_
  refine xw_iadd dL_law_2085 ?_
  refine lx_rd 2 rfl hE1 (by omega) hL dL_law_2086 ?_
  refine xw_aload_n dL_law_2087 rfl rfl ?_
  refine xw_iload dL_law_2088 rfl ?_
  refine xw_iconst (v := 3) dL_law_2090 rfl ?_
  refine xw_iadd dL_law_2091 ?_
  refine lx_rd 3 rfl hE1 (by omega) hL dL_law_2092 ?_
  refine xw_aload_n dL_law_2093 rfl rfl ?_
  refine xw_iload dL_law_2094 rfl ?_
  refine xw_iconst (v := 4) dL_law_2096 rfl ?_
  refine xw_iadd dL_law_2097 ?_
  refine lx_rd 4 rfl hE1 (by omega) hL dL_law_2098 ?_
  refine lx_callT (T_game ef) lV_L_260 C_X4_game rfl dL_law_2099 hE1.2.2.2.2 rfl (by omega) (Nat.le_of_ble_eq_true rfl) ?_
  intro h2 hT2 hs2
  have hE2 := hE1.same hs2 hT2
  refine xw_istore dL_law_2102 (by decide) ?_
  refine xw_aload_n dL_law_2104 rfl rfl ?_
  have et1 : f_thrown S1 = some (S1.1 0) := rfl
  refine lx_callT (T_thrown et1) lV_L_156 C_X4_thrown rfl dL_law_2105 hT2 rfl (by omega) (Nat.le_of_ble_eq_true rfl) ?_
  intro h3 hT3 hs3
  have hE3 := hE2.same hs3 hT3
  rw [et]
  refine xw_iload dL_law_2108 rfl ?_
  refine xw_icmp_eq (tgt := 2115) dL_law_2110 (by decide) (fun _ => ?_) (fun z => absurd rfl z)
  refine xw_iload dL_law_2115 rfl ?_
  have fin : LI h3 S1 := hP h3 hT3 (hs2.trans hs3)
  have hn1 : h3.2.2 = h1.2.2 := hs3.1.1.trans hs2.1.1
  have hq1 : h3.2.2.1 ≤ h.2.2.1 + 14000 := by rw [hn1]; omega
  have hq2 : h3.2.2.2 ≤ h.2.2.2 + 98000 := by rw [hn1]; omega
  by_cases hr : r = 0
  · refine xw_if_ne (tgt := 2132) dL_law_2117 (by decide) (fun z => absurd hr z) (fun _ => ?_)
    have hO : h3.2.1 o 0 = _ := (congrFun ((hs3.2.2 _ _ _ _ hE2.2.2.2.1 (by unfold tP; omega)).trans (hs2.2.2 _ _ _ _ hE1.2.2.2.1 (by unfold tP; omega))) 0).trans (ho hr)
    refine xw_aload_n dL_law_2120 rfl rfl ?_
    refine xw_iconst (v := 0) dL_law_2121 rfl ?_
    refine xw_lald dL_law_2122 hE3.2.2.2.1 (by unfold vp_in; decide) hO ?_
    refine xw_iload dL_law_2123 rfl ?_
    refine xw_i2l dL_law_2125 ?_
    refine xw_lcmp dL_law_2126 ?_
    rw [lx_cmp]
    refine xw_if_eq (tgt := 2132) dL_law_2127 (by decide) (fun _ => ?_) (fun z => absurd rfl z)
    refine xw_goto (tgt := 3015) dL_law_2132 (by decide) ?_
    exact lx_lsK (kk h3 S1 fin hq1 hq2) ⟨rfl, rfl, rfl, rfl, rfl, trivial⟩
  · refine xw_if_ne (tgt := 2132) dL_law_2117 (by decide) (fun _ => ?_) (fun z => absurd z hr)
    refine xw_goto (tgt := 3015) dL_law_2132 (by decide) ?_
    exact lx_lsK (kk h3 S1 fin hq1 hq2) ⟨rfl, rfl, rfl, rfl, rfl, trivial⟩
def LOp_33 (E : XEnv) (n g b L : Nat) (xs : Nat → Int32) (x m o : Nat) (ad : Nat → Nat) (LI : XH → TS → Prop) : Prop := ∀ (h : XH) (S : TS) (a1 : Int32) (a2 : Int32) (a3 : Int32), LI h S → ∃ r h1 v S1, k_X0_years n g E.2.2.2 x a1 a2 a3 o h = some (r, h1) ∧ f_years n a1 a2 a3 S = some (v, S1) ∧ S1.1 0 = r ∧ LE b L xs x m o ad h1 S ∧ (r = 0 → h1.2.1 o 0 = .long v.toInt64) ∧ LB h h1 ∧ ∀ h2, TW m ad S1 h2 → xsame tP h1 h2 → LI h2 S1
set_option maxHeartbeats 4000000 in
theorem law_c33 {l : Launch} {E : XEnv} {n g b L : Nat} {xs : Nat → Int32} {x m o : Nat} {ad : Nat → Nat} {LI : XH → TS → Prop} (hop : LOp_33 E n g b L xs x m o ad LI) (hLE : ∀ h S, LI h S → LE b L xs x m o ad h S) (hN : va_Nc "java/lang/IllegalArgumentException" "java/util/NoSuchElementException" E.1) {d kM nM i : Nat} {h : XH} {S : TS} {Q : XO → XH → Prop} (hI : LI h S) (hg : g ≤ 100) (hd : 2000 ≤ d) (hi : i + 5 < L) (hL : L ≤ 384) (hk : h.2.2.1 + 14000 ≤ kM) (hn : h.2.2.2 + 98000 ≤ nM) (kk : ∀ h2 S2, LI h2 S2 → h2.2.2.1 ≤ h.2.2.1 + 14000 → h2.2.2.2 ≤ h.2.2.2 + 98000 → XW l E mL_law d (kM - h2.2.2.1) (nM - h2.2.2.2) 3015 [(0, .ref b), (1, .ref x), (2, .ref m), (3, .ref o), (4, .int (Int32.ofNat i))] [] h2 Q) : XW l E mL_law d (kM - h.2.2.1) (nM - h.2.2.2) 2135 [(0, .ref b), (1, .ref x), (2, .ref m), (3, .ref o), (4, .int (Int32.ofNat i))] [] h Q := by
  obtain ⟨r, h1, v, S1, ek, ef, et, hE1, ho, hB, hP⟩ := hop h S (xs (i + 1)) (xs (i + 2)) (xs (i + 3)) hI
  have hE := hLE h S hI
  have hB1 : h1.2.2.1 ≤ h.2.2.1 + 14000 := hB.2.1
  have hB2 : h1.2.2.2 ≤ h.2.2.2 + 98000 := hB.2.2.2
  refine xw_aload_n dL_law_2135 rfl rfl ?_
  refine xw_aload_n dL_law_2136 rfl rfl ?_
  refine xw_iload dL_law_2137 rfl ?_
  refine xw_iconst (v := 1) dL_law_2139 rfl ?_
  refine xw_iadd dL_law_2140 ?_
  refine lx_rd 1 rfl hE (by omega) hL dL_law_2141 ?_
  refine xw_aload_n dL_law_2142 rfl rfl ?_
  refine xw_iload dL_law_2143 rfl ?_
  refine xw_iconst (v := 2) dL_law_2145 rfl ?_
  refine xw_iadd dL_law_2146 ?_
  refine lx_rd 2 rfl hE (by omega) hL dL_law_2147 ?_
  refine xw_aload_n dL_law_2148 rfl rfl ?_
  refine xw_iload dL_law_2149 rfl ?_
  refine xw_iconst (v := 3) dL_law_2151 rfl ?_
  refine xw_iadd dL_law_2152 ?_
  refine lx_rd 3 rfl hE (by omega) hL dL_law_2153 ?_
  refine xw_aload_n dL_law_2154 rfl rfl ?_
  refine lx_callSH (T_X0_years hN ek) lS_L_261 C_X0_years dL_law_2155 rfl (by omega) (Nat.le_of_ble_eq_true rfl) (by show h1.2.2.1 ≤ kM; omega) (by show h1.2.2.2 ≤ nM; omega) ?_
  refine xw_istore dL_law_2158 (by decide) ?_
  refine xw_aload_n dL_law_2160 rfl rfl ?_
  refine xw_aload_n dL_law_2161 rfl rfl ?_
  refine xw_iload dL_law_2162 rfl ?_
  refine xw_iconst (v := 1) dL_law_2164 rfl ?_
  refine xw_iadd dL_law_2165 ?_
  refine lx_rd 1 rfl hE1 (by omega) hL dL_law_2166 ?_
  refine xw_aload_n dL_law_2167 rfl rfl ?_
  refine xw_iload dL_law_2168 rfl ?_
  refine xw_iconst (v := 2) dL_law_2170 rfl ?_
  refine xw_iadd dL_law_2171 ?_
  refine lx_rd 2 rfl hE1 (by omega) hL dL_law_2172 ?_
  refine xw_aload_n dL_law_2173 rfl rfl ?_
  refine xw_iload dL_law_2174 rfl ?_
  refine xw_iconst (v := 3) dL_law_2176 rfl ?_
  refine xw_iadd dL_law_2177 ?_
  refine lx_rd 3 rfl hE1 (by omega) hL dL_law_2178 ?_
  refine lx_callT (T_years ef) lV_L_263 C_X4_years rfl dL_law_2179 hE1.2.2.2.2 rfl (by omega) (Nat.le_of_ble_eq_true rfl) ?_
  intro h2 hT2 hs2
  have hE2 := hE1.same hs2 hT2
  refine xw_istore dL_law_2182 (by decide) ?_
  refine xw_aload_n dL_law_2184 rfl rfl ?_
  have et1 : f_thrown S1 = some (S1.1 0) := rfl
  refine lx_callT (T_thrown et1) lV_L_156 C_X4_thrown rfl dL_law_2185 hT2 rfl (by omega) (Nat.le_of_ble_eq_true rfl) ?_
  intro h3 hT3 hs3
  have hE3 := hE2.same hs3 hT3
  rw [et]
  refine xw_iload dL_law_2188 rfl ?_
  refine xw_icmp_eq (tgt := 2195) dL_law_2190 (by decide) (fun _ => ?_) (fun z => absurd rfl z)
  refine xw_iload dL_law_2195 rfl ?_
  have fin : LI h3 S1 := hP h3 hT3 (hs2.trans hs3)
  have hn1 : h3.2.2 = h1.2.2 := hs3.1.1.trans hs2.1.1
  have hq1 : h3.2.2.1 ≤ h.2.2.1 + 14000 := by rw [hn1]; omega
  have hq2 : h3.2.2.2 ≤ h.2.2.2 + 98000 := by rw [hn1]; omega
  by_cases hr : r = 0
  · refine xw_if_ne (tgt := 2212) dL_law_2197 (by decide) (fun z => absurd hr z) (fun _ => ?_)
    have hO : h3.2.1 o 0 = _ := (congrFun ((hs3.2.2 _ _ _ _ hE2.2.2.2.1 (by unfold tP; omega)).trans (hs2.2.2 _ _ _ _ hE1.2.2.2.1 (by unfold tP; omega))) 0).trans (ho hr)
    refine xw_aload_n dL_law_2200 rfl rfl ?_
    refine xw_iconst (v := 0) dL_law_2201 rfl ?_
    refine xw_lald dL_law_2202 hE3.2.2.2.1 (by unfold vp_in; decide) hO ?_
    refine xw_iload dL_law_2203 rfl ?_
    refine xw_i2l dL_law_2205 ?_
    refine xw_lcmp dL_law_2206 ?_
    rw [lx_cmp]
    refine xw_if_eq (tgt := 2212) dL_law_2207 (by decide) (fun _ => ?_) (fun z => absurd rfl z)
    refine xw_goto (tgt := 3015) dL_law_2212 (by decide) ?_
    exact lx_lsK (kk h3 S1 fin hq1 hq2) ⟨rfl, rfl, rfl, rfl, rfl, trivial⟩
  · refine xw_if_ne (tgt := 2212) dL_law_2197 (by decide) (fun _ => ?_) (fun z => absurd z hr)
    refine xw_goto (tgt := 3015) dL_law_2212 (by decide) ?_
    exact lx_lsK (kk h3 S1 fin hq1 hq2) ⟨rfl, rfl, rfl, rfl, rfl, trivial⟩
def LOp_34 (E : XEnv) (n g b L : Nat) (xs : Nat → Int32) (x m o : Nat) (ad : Nat → Nat) (LI : XH → TS → Prop) : Prop := ∀ (h : XH) (S : TS) (a1 : Int32), LI h S → ∃ r h1 v S1, k_X0_heirs n g E.2.2.2 x a1 o h = some (r, h1) ∧ f_heirs n a1 S = some (v, S1) ∧ S1.1 0 = r ∧ LE b L xs x m o ad h1 S ∧ (r = 0 → h1.2.1 o 0 = .long v.toInt64) ∧ LB h h1 ∧ ∀ h2, TW m ad S1 h2 → xsame tP h1 h2 → LI h2 S1
set_option maxHeartbeats 4000000 in
theorem law_c34 {l : Launch} {E : XEnv} {n g b L : Nat} {xs : Nat → Int32} {x m o : Nat} {ad : Nat → Nat} {LI : XH → TS → Prop} (hop : LOp_34 E n g b L xs x m o ad LI) (hLE : ∀ h S, LI h S → LE b L xs x m o ad h S) (hN : va_Nc "java/lang/IllegalArgumentException" "java/util/NoSuchElementException" E.1) {d kM nM i : Nat} {h : XH} {S : TS} {Q : XO → XH → Prop} (hI : LI h S) (hg : g ≤ 100) (hd : 2000 ≤ d) (hi : i + 5 < L) (hL : L ≤ 384) (hk : h.2.2.1 + 14000 ≤ kM) (hn : h.2.2.2 + 98000 ≤ nM) (kk : ∀ h2 S2, LI h2 S2 → h2.2.2.1 ≤ h.2.2.1 + 14000 → h2.2.2.2 ≤ h.2.2.2 + 98000 → XW l E mL_law d (kM - h2.2.2.1) (nM - h2.2.2.2) 3015 [(0, .ref b), (1, .ref x), (2, .ref m), (3, .ref o), (4, .int (Int32.ofNat i))] [] h2 Q) : XW l E mL_law d (kM - h.2.2.1) (nM - h.2.2.2) 2215 [(0, .ref b), (1, .ref x), (2, .ref m), (3, .ref o), (4, .int (Int32.ofNat i))] [] h Q := by
  obtain ⟨r, h1, v, S1, ek, ef, et, hE1, ho, hB, hP⟩ := hop h S (xs (i + 1)) hI
  have hE := hLE h S hI
  have hB1 : h1.2.2.1 ≤ h.2.2.1 + 14000 := hB.2.1
  have hB2 : h1.2.2.2 ≤ h.2.2.2 + 98000 := hB.2.2.2
  refine xw_aload_n dL_law_2215 rfl rfl ?_
  refine xw_aload_n dL_law_2216 rfl rfl ?_
  refine xw_iload dL_law_2217 rfl ?_
  refine xw_iconst (v := 1) dL_law_2219 rfl ?_
  refine xw_iadd dL_law_2220 ?_
  refine lx_rd 1 rfl hE (by omega) hL dL_law_2221 ?_
  refine xw_aload_n dL_law_2222 rfl rfl ?_
  refine lx_callSH (T_X0_heirs hN ek) lS_L_264 C_X0_heirs dL_law_2223 rfl (by omega) (Nat.le_of_ble_eq_true rfl) (by show h1.2.2.1 ≤ kM; omega) (by show h1.2.2.2 ≤ nM; omega) ?_
  refine xw_istore dL_law_2226 (by decide) ?_
  refine xw_aload_n dL_law_2228 rfl rfl ?_
  refine xw_aload_n dL_law_2229 rfl rfl ?_
  refine xw_iload dL_law_2230 rfl ?_
  refine xw_iconst (v := 1) dL_law_2232 rfl ?_
  refine xw_iadd dL_law_2233 ?_
  refine lx_rd 1 rfl hE1 (by omega) hL dL_law_2234 ?_
  refine lx_callT (T_heirs ef) lV_L_266 C_X4_heirs rfl dL_law_2235 hE1.2.2.2.2 rfl (by omega) (Nat.le_of_ble_eq_true rfl) ?_
  intro h2 hT2 hs2
  have hE2 := hE1.same hs2 hT2
  refine xw_istore dL_law_2238 (by decide) ?_
  refine xw_aload_n dL_law_2240 rfl rfl ?_
  have et1 : f_thrown S1 = some (S1.1 0) := rfl
  refine lx_callT (T_thrown et1) lV_L_156 C_X4_thrown rfl dL_law_2241 hT2 rfl (by omega) (Nat.le_of_ble_eq_true rfl) ?_
  intro h3 hT3 hs3
  have hE3 := hE2.same hs3 hT3
  rw [et]
  refine xw_iload dL_law_2244 rfl ?_
  refine xw_icmp_eq (tgt := 2251) dL_law_2246 (by decide) (fun _ => ?_) (fun z => absurd rfl z)
  refine xw_iload dL_law_2251 rfl ?_
  have fin : LI h3 S1 := hP h3 hT3 (hs2.trans hs3)
  have hn1 : h3.2.2 = h1.2.2 := hs3.1.1.trans hs2.1.1
  have hq1 : h3.2.2.1 ≤ h.2.2.1 + 14000 := by rw [hn1]; omega
  have hq2 : h3.2.2.2 ≤ h.2.2.2 + 98000 := by rw [hn1]; omega
  by_cases hr : r = 0
  · refine xw_if_ne (tgt := 2268) dL_law_2253 (by decide) (fun z => absurd hr z) (fun _ => ?_)
    have hO : h3.2.1 o 0 = _ := (congrFun ((hs3.2.2 _ _ _ _ hE2.2.2.2.1 (by unfold tP; omega)).trans (hs2.2.2 _ _ _ _ hE1.2.2.2.1 (by unfold tP; omega))) 0).trans (ho hr)
    refine xw_aload_n dL_law_2256 rfl rfl ?_
    refine xw_iconst (v := 0) dL_law_2257 rfl ?_
    refine xw_lald dL_law_2258 hE3.2.2.2.1 (by unfold vp_in; decide) hO ?_
    refine xw_iload dL_law_2259 rfl ?_
    refine xw_i2l dL_law_2261 ?_
    refine xw_lcmp dL_law_2262 ?_
    rw [lx_cmp]
    refine xw_if_eq (tgt := 2268) dL_law_2263 (by decide) (fun _ => ?_) (fun z => absurd rfl z)
    refine xw_goto (tgt := 3015) dL_law_2268 (by decide) ?_
    exact lx_lsK (kk h3 S1 fin hq1 hq2) ⟨rfl, rfl, rfl, rfl, rfl, trivial⟩
  · refine xw_if_ne (tgt := 2268) dL_law_2253 (by decide) (fun _ => ?_) (fun z => absurd z hr)
    refine xw_goto (tgt := 3015) dL_law_2268 (by decide) ?_
    exact lx_lsK (kk h3 S1 fin hq1 hq2) ⟨rfl, rfl, rfl, rfl, rfl, trivial⟩
def LOp_35 (E : XEnv) (n g b L : Nat) (xs : Nat → Int32) (x m o : Nat) (ad : Nat → Nat) (LI : XH → TS → Prop) : Prop := ∀ (h : XH) (S : TS) (a1 : Int32) (a2 : Int32), LI h S → ∃ r h1 v S1, k_X0_toGrow n g E.2.2.2 x a1 a2 o h = some (r, h1) ∧ f_toGrow n a1 a2 S = some (v, S1) ∧ S1.1 0 = r ∧ LE b L xs x m o ad h1 S ∧ (r = 0 → h1.2.1 o 0 = .long v.toInt64) ∧ LB h h1 ∧ ∀ h2, TW m ad S1 h2 → xsame tP h1 h2 → LI h2 S1
set_option maxHeartbeats 4000000 in
theorem law_c35 {l : Launch} {E : XEnv} {n g b L : Nat} {xs : Nat → Int32} {x m o : Nat} {ad : Nat → Nat} {LI : XH → TS → Prop} (hop : LOp_35 E n g b L xs x m o ad LI) (hLE : ∀ h S, LI h S → LE b L xs x m o ad h S) (hN : va_Nc "java/lang/IllegalArgumentException" "java/util/NoSuchElementException" E.1) {d kM nM i : Nat} {h : XH} {S : TS} {Q : XO → XH → Prop} (hI : LI h S) (hg : g ≤ 100) (hd : 2000 ≤ d) (hi : i + 5 < L) (hL : L ≤ 384) (hk : h.2.2.1 + 14000 ≤ kM) (hn : h.2.2.2 + 98000 ≤ nM) (kk : ∀ h2 S2, LI h2 S2 → h2.2.2.1 ≤ h.2.2.1 + 14000 → h2.2.2.2 ≤ h.2.2.2 + 98000 → XW l E mL_law d (kM - h2.2.2.1) (nM - h2.2.2.2) 3015 [(0, .ref b), (1, .ref x), (2, .ref m), (3, .ref o), (4, .int (Int32.ofNat i))] [] h2 Q) : XW l E mL_law d (kM - h.2.2.1) (nM - h.2.2.2) 2271 [(0, .ref b), (1, .ref x), (2, .ref m), (3, .ref o), (4, .int (Int32.ofNat i))] [] h Q := by
  obtain ⟨r, h1, v, S1, ek, ef, et, hE1, ho, hB, hP⟩ := hop h S (xs (i + 1)) (xs (i + 2)) hI
  have hE := hLE h S hI
  have hB1 : h1.2.2.1 ≤ h.2.2.1 + 14000 := hB.2.1
  have hB2 : h1.2.2.2 ≤ h.2.2.2 + 98000 := hB.2.2.2
  refine xw_aload_n dL_law_2271 rfl rfl ?_
  refine xw_aload_n dL_law_2272 rfl rfl ?_
  refine xw_iload dL_law_2273 rfl ?_
  refine xw_iconst (v := 1) dL_law_2275 rfl ?_
  refine xw_iadd dL_law_2276 ?_
  refine lx_rd 1 rfl hE (by omega) hL dL_law_2277 ?_
  refine xw_aload_n dL_law_2278 rfl rfl ?_
  refine xw_iload dL_law_2279 rfl ?_
  refine xw_iconst (v := 2) dL_law_2281 rfl ?_
  refine xw_iadd dL_law_2282 ?_
  refine lx_rd 2 rfl hE (by omega) hL dL_law_2283 ?_
  refine xw_aload_n dL_law_2284 rfl rfl ?_
  refine lx_callSH (T_X0_toGrow hN ek) lS_L_267 C_X0_toGrow dL_law_2285 rfl (by omega) (Nat.le_of_ble_eq_true rfl) (by show h1.2.2.1 ≤ kM; omega) (by show h1.2.2.2 ≤ nM; omega) ?_
  refine xw_istore dL_law_2288 (by decide) ?_
  refine xw_aload_n dL_law_2290 rfl rfl ?_
  refine xw_aload_n dL_law_2291 rfl rfl ?_
  refine xw_iload dL_law_2292 rfl ?_
  refine xw_iconst (v := 1) dL_law_2294 rfl ?_
  refine xw_iadd dL_law_2295 ?_
  refine lx_rd 1 rfl hE1 (by omega) hL dL_law_2296 ?_
  refine xw_aload_n dL_law_2297 rfl rfl ?_
  refine xw_iload dL_law_2298 rfl ?_
  refine xw_iconst (v := 2) dL_law_2300 rfl ?_
  refine xw_iadd dL_law_2301 ?_
  refine lx_rd 2 rfl hE1 (by omega) hL dL_law_2302 ?_
  refine lx_callT (T_toGrow ef) lV_L_269 C_X4_toGrow rfl dL_law_2303 hE1.2.2.2.2 rfl (by omega) (Nat.le_of_ble_eq_true rfl) ?_
  intro h2 hT2 hs2
  have hE2 := hE1.same hs2 hT2
  refine xw_istore dL_law_2306 (by decide) ?_
  refine xw_aload_n dL_law_2308 rfl rfl ?_
  have et1 : f_thrown S1 = some (S1.1 0) := rfl
  refine lx_callT (T_thrown et1) lV_L_156 C_X4_thrown rfl dL_law_2309 hT2 rfl (by omega) (Nat.le_of_ble_eq_true rfl) ?_
  intro h3 hT3 hs3
  have hE3 := hE2.same hs3 hT3
  rw [et]
  refine xw_iload dL_law_2312 rfl ?_
  refine xw_icmp_eq (tgt := 2319) dL_law_2314 (by decide) (fun _ => ?_) (fun z => absurd rfl z)
  refine xw_iload dL_law_2319 rfl ?_
  have fin : LI h3 S1 := hP h3 hT3 (hs2.trans hs3)
  have hn1 : h3.2.2 = h1.2.2 := hs3.1.1.trans hs2.1.1
  have hq1 : h3.2.2.1 ≤ h.2.2.1 + 14000 := by rw [hn1]; omega
  have hq2 : h3.2.2.2 ≤ h.2.2.2 + 98000 := by rw [hn1]; omega
  by_cases hr : r = 0
  · refine xw_if_ne (tgt := 2336) dL_law_2321 (by decide) (fun z => absurd hr z) (fun _ => ?_)
    have hO : h3.2.1 o 0 = _ := (congrFun ((hs3.2.2 _ _ _ _ hE2.2.2.2.1 (by unfold tP; omega)).trans (hs2.2.2 _ _ _ _ hE1.2.2.2.1 (by unfold tP; omega))) 0).trans (ho hr)
    refine xw_aload_n dL_law_2324 rfl rfl ?_
    refine xw_iconst (v := 0) dL_law_2325 rfl ?_
    refine xw_lald dL_law_2326 hE3.2.2.2.1 (by unfold vp_in; decide) hO ?_
    refine xw_iload dL_law_2327 rfl ?_
    refine xw_i2l dL_law_2329 ?_
    refine xw_lcmp dL_law_2330 ?_
    rw [lx_cmp]
    refine xw_if_eq (tgt := 2336) dL_law_2331 (by decide) (fun _ => ?_) (fun z => absurd rfl z)
    refine xw_goto (tgt := 3015) dL_law_2336 (by decide) ?_
    exact lx_lsK (kk h3 S1 fin hq1 hq2) ⟨rfl, rfl, rfl, rfl, rfl, trivial⟩
  · refine xw_if_ne (tgt := 2336) dL_law_2321 (by decide) (fun _ => ?_) (fun z => absurd z hr)
    refine xw_goto (tgt := 3015) dL_law_2336 (by decide) ?_
    exact lx_lsK (kk h3 S1 fin hq1 hq2) ⟨rfl, rfl, rfl, rfl, rfl, trivial⟩
def LOp_36 (E : XEnv) (n g b L : Nat) (xs : Nat → Int32) (x m o : Nat) (ad : Nat → Nat) (LI : XH → TS → Prop) : Prop := ∀ (h : XH) (S : TS) (a1 : Int32), LI h S → ∃ r h1 v S1, k_X0_paid n g E.2.2.2 x a1 o h = some (r, h1) ∧ f_paid n a1 S = some (v, S1) ∧ S1.1 0 = r ∧ LE b L xs x m o ad h1 S ∧ (r = 0 → h1.2.1 o 0 = .long v.toInt64) ∧ LB h h1 ∧ ∀ h2, TW m ad S1 h2 → xsame tP h1 h2 → LI h2 S1
set_option maxHeartbeats 4000000 in
theorem law_c36 {l : Launch} {E : XEnv} {n g b L : Nat} {xs : Nat → Int32} {x m o : Nat} {ad : Nat → Nat} {LI : XH → TS → Prop} (hop : LOp_36 E n g b L xs x m o ad LI) (hLE : ∀ h S, LI h S → LE b L xs x m o ad h S) (hN : va_Nc "java/lang/IllegalArgumentException" "java/util/NoSuchElementException" E.1) {d kM nM i : Nat} {h : XH} {S : TS} {Q : XO → XH → Prop} (hI : LI h S) (hg : g ≤ 100) (hd : 2000 ≤ d) (hi : i + 5 < L) (hL : L ≤ 384) (hk : h.2.2.1 + 14000 ≤ kM) (hn : h.2.2.2 + 98000 ≤ nM) (kk : ∀ h2 S2, LI h2 S2 → h2.2.2.1 ≤ h.2.2.1 + 14000 → h2.2.2.2 ≤ h.2.2.2 + 98000 → XW l E mL_law d (kM - h2.2.2.1) (nM - h2.2.2.2) 3015 [(0, .ref b), (1, .ref x), (2, .ref m), (3, .ref o), (4, .int (Int32.ofNat i))] [] h2 Q) : XW l E mL_law d (kM - h.2.2.1) (nM - h.2.2.2) 2339 [(0, .ref b), (1, .ref x), (2, .ref m), (3, .ref o), (4, .int (Int32.ofNat i))] [] h Q := by
  obtain ⟨r, h1, v, S1, ek, ef, et, hE1, ho, hB, hP⟩ := hop h S (xs (i + 1)) hI
  have hE := hLE h S hI
  have hB1 : h1.2.2.1 ≤ h.2.2.1 + 14000 := hB.2.1
  have hB2 : h1.2.2.2 ≤ h.2.2.2 + 98000 := hB.2.2.2
  refine xw_aload_n dL_law_2339 rfl rfl ?_
  refine xw_aload_n dL_law_2340 rfl rfl ?_
  refine xw_iload dL_law_2341 rfl ?_
  refine xw_iconst (v := 1) dL_law_2343 rfl ?_
  refine xw_iadd dL_law_2344 ?_
  refine lx_rd 1 rfl hE (by omega) hL dL_law_2345 ?_
  refine xw_aload_n dL_law_2346 rfl rfl ?_
  refine lx_callSH (T_X0_paid hN ek) lS_L_270 C_X0_paid dL_law_2347 rfl (by omega) (Nat.le_of_ble_eq_true rfl) (by show h1.2.2.1 ≤ kM; omega) (by show h1.2.2.2 ≤ nM; omega) ?_
  refine xw_istore dL_law_2350 (by decide) ?_
  refine xw_aload_n dL_law_2352 rfl rfl ?_
  refine xw_aload_n dL_law_2353 rfl rfl ?_
  refine xw_iload dL_law_2354 rfl ?_
  refine xw_iconst (v := 1) dL_law_2356 rfl ?_
  refine xw_iadd dL_law_2357 ?_
  refine lx_rd 1 rfl hE1 (by omega) hL dL_law_2358 ?_
  refine lx_callT (T_paid ef) lV_L_272 C_X4_paid rfl dL_law_2359 hE1.2.2.2.2 rfl (by omega) (Nat.le_of_ble_eq_true rfl) ?_
  intro h2 hT2 hs2
  have hE2 := hE1.same hs2 hT2
  refine xw_istore dL_law_2362 (by decide) ?_
  refine xw_aload_n dL_law_2364 rfl rfl ?_
  have et1 : f_thrown S1 = some (S1.1 0) := rfl
  refine lx_callT (T_thrown et1) lV_L_156 C_X4_thrown rfl dL_law_2365 hT2 rfl (by omega) (Nat.le_of_ble_eq_true rfl) ?_
  intro h3 hT3 hs3
  have hE3 := hE2.same hs3 hT3
  rw [et]
  refine xw_iload dL_law_2368 rfl ?_
  refine xw_icmp_eq (tgt := 2375) dL_law_2370 (by decide) (fun _ => ?_) (fun z => absurd rfl z)
  refine xw_iload dL_law_2375 rfl ?_
  have fin : LI h3 S1 := hP h3 hT3 (hs2.trans hs3)
  have hn1 : h3.2.2 = h1.2.2 := hs3.1.1.trans hs2.1.1
  have hq1 : h3.2.2.1 ≤ h.2.2.1 + 14000 := by rw [hn1]; omega
  have hq2 : h3.2.2.2 ≤ h.2.2.2 + 98000 := by rw [hn1]; omega
  by_cases hr : r = 0
  · refine xw_if_ne (tgt := 2392) dL_law_2377 (by decide) (fun z => absurd hr z) (fun _ => ?_)
    have hO : h3.2.1 o 0 = _ := (congrFun ((hs3.2.2 _ _ _ _ hE2.2.2.2.1 (by unfold tP; omega)).trans (hs2.2.2 _ _ _ _ hE1.2.2.2.1 (by unfold tP; omega))) 0).trans (ho hr)
    refine xw_aload_n dL_law_2380 rfl rfl ?_
    refine xw_iconst (v := 0) dL_law_2381 rfl ?_
    refine xw_lald dL_law_2382 hE3.2.2.2.1 (by unfold vp_in; decide) hO ?_
    refine xw_iload dL_law_2383 rfl ?_
    refine xw_i2l dL_law_2385 ?_
    refine xw_lcmp dL_law_2386 ?_
    rw [lx_cmp]
    refine xw_if_eq (tgt := 2392) dL_law_2387 (by decide) (fun _ => ?_) (fun z => absurd rfl z)
    refine xw_goto (tgt := 3015) dL_law_2392 (by decide) ?_
    exact lx_lsK (kk h3 S1 fin hq1 hq2) ⟨rfl, rfl, rfl, rfl, rfl, trivial⟩
  · refine xw_if_ne (tgt := 2392) dL_law_2377 (by decide) (fun _ => ?_) (fun z => absurd z hr)
    refine xw_goto (tgt := 3015) dL_law_2392 (by decide) ?_
    exact lx_lsK (kk h3 S1 fin hq1 hq2) ⟨rfl, rfl, rfl, rfl, rfl, trivial⟩
def LOp_37 (E : XEnv) (n g b L : Nat) (xs : Nat → Int32) (x m o : Nat) (ad : Nat → Nat) (LI : XH → TS → Prop) : Prop := ∀ (h : XH) (S : TS) (a1 : Int32), LI h S → ∃ r h1 v S1, k_X0_wornest n g E.2.2.2 x a1 o h = some (r, h1) ∧ f_wornest n a1 S = some (v, S1) ∧ S1.1 0 = r ∧ LE b L xs x m o ad h1 S ∧ (r = 0 → h1.2.1 o 0 = .long v.toInt64) ∧ LB h h1 ∧ ∀ h2, TW m ad S1 h2 → xsame tP h1 h2 → LI h2 S1
set_option maxHeartbeats 4000000 in
theorem law_c37 {l : Launch} {E : XEnv} {n g b L : Nat} {xs : Nat → Int32} {x m o : Nat} {ad : Nat → Nat} {LI : XH → TS → Prop} (hop : LOp_37 E n g b L xs x m o ad LI) (hLE : ∀ h S, LI h S → LE b L xs x m o ad h S) (hN : va_Nc "java/lang/IllegalArgumentException" "java/util/NoSuchElementException" E.1) {d kM nM i : Nat} {h : XH} {S : TS} {Q : XO → XH → Prop} (hI : LI h S) (hg : g ≤ 100) (hd : 2000 ≤ d) (hi : i + 5 < L) (hL : L ≤ 384) (hk : h.2.2.1 + 14000 ≤ kM) (hn : h.2.2.2 + 98000 ≤ nM) (kk : ∀ h2 S2, LI h2 S2 → h2.2.2.1 ≤ h.2.2.1 + 14000 → h2.2.2.2 ≤ h.2.2.2 + 98000 → XW l E mL_law d (kM - h2.2.2.1) (nM - h2.2.2.2) 3015 [(0, .ref b), (1, .ref x), (2, .ref m), (3, .ref o), (4, .int (Int32.ofNat i))] [] h2 Q) : XW l E mL_law d (kM - h.2.2.1) (nM - h.2.2.2) 2395 [(0, .ref b), (1, .ref x), (2, .ref m), (3, .ref o), (4, .int (Int32.ofNat i))] [] h Q := by
  obtain ⟨r, h1, v, S1, ek, ef, et, hE1, ho, hB, hP⟩ := hop h S (xs (i + 1)) hI
  have hE := hLE h S hI
  have hB1 : h1.2.2.1 ≤ h.2.2.1 + 14000 := hB.2.1
  have hB2 : h1.2.2.2 ≤ h.2.2.2 + 98000 := hB.2.2.2
  refine xw_aload_n dL_law_2395 rfl rfl ?_
  refine xw_aload_n dL_law_2396 rfl rfl ?_
  refine xw_iload dL_law_2397 rfl ?_
  refine xw_iconst (v := 1) dL_law_2399 rfl ?_
  refine xw_iadd dL_law_2400 ?_
  refine lx_rd 1 rfl hE (by omega) hL dL_law_2401 ?_
  refine xw_aload_n dL_law_2402 rfl rfl ?_
  refine lx_callSH (T_X0_wornest hN ek) lS_L_273 C_X0_wornest dL_law_2403 rfl (by omega) (Nat.le_of_ble_eq_true rfl) (by show h1.2.2.1 ≤ kM; omega) (by show h1.2.2.2 ≤ nM; omega) ?_
  refine xw_istore dL_law_2406 (by decide) ?_
  refine xw_aload_n dL_law_2408 rfl rfl ?_
  refine xw_aload_n dL_law_2409 rfl rfl ?_
  refine xw_iload dL_law_2410 rfl ?_
  refine xw_iconst (v := 1) dL_law_2412 rfl ?_
  refine xw_iadd dL_law_2413 ?_
  refine lx_rd 1 rfl hE1 (by omega) hL dL_law_2414 ?_
  refine lx_callT (T_wornest ef) lV_L_275 C_X4_wornest rfl dL_law_2415 hE1.2.2.2.2 rfl (by omega) (Nat.le_of_ble_eq_true rfl) ?_
  intro h2 hT2 hs2
  have hE2 := hE1.same hs2 hT2
  refine xw_istore dL_law_2418 (by decide) ?_
  refine xw_aload_n dL_law_2420 rfl rfl ?_
  have et1 : f_thrown S1 = some (S1.1 0) := rfl
  refine lx_callT (T_thrown et1) lV_L_156 C_X4_thrown rfl dL_law_2421 hT2 rfl (by omega) (Nat.le_of_ble_eq_true rfl) ?_
  intro h3 hT3 hs3
  have hE3 := hE2.same hs3 hT3
  rw [et]
  refine xw_iload dL_law_2424 rfl ?_
  refine xw_icmp_eq (tgt := 2431) dL_law_2426 (by decide) (fun _ => ?_) (fun z => absurd rfl z)
  refine xw_iload dL_law_2431 rfl ?_
  have fin : LI h3 S1 := hP h3 hT3 (hs2.trans hs3)
  have hn1 : h3.2.2 = h1.2.2 := hs3.1.1.trans hs2.1.1
  have hq1 : h3.2.2.1 ≤ h.2.2.1 + 14000 := by rw [hn1]; omega
  have hq2 : h3.2.2.2 ≤ h.2.2.2 + 98000 := by rw [hn1]; omega
  by_cases hr : r = 0
  · refine xw_if_ne (tgt := 2448) dL_law_2433 (by decide) (fun z => absurd hr z) (fun _ => ?_)
    have hO : h3.2.1 o 0 = _ := (congrFun ((hs3.2.2 _ _ _ _ hE2.2.2.2.1 (by unfold tP; omega)).trans (hs2.2.2 _ _ _ _ hE1.2.2.2.1 (by unfold tP; omega))) 0).trans (ho hr)
    refine xw_aload_n dL_law_2436 rfl rfl ?_
    refine xw_iconst (v := 0) dL_law_2437 rfl ?_
    refine xw_lald dL_law_2438 hE3.2.2.2.1 (by unfold vp_in; decide) hO ?_
    refine xw_iload dL_law_2439 rfl ?_
    refine xw_i2l dL_law_2441 ?_
    refine xw_lcmp dL_law_2442 ?_
    rw [lx_cmp]
    refine xw_if_eq (tgt := 2448) dL_law_2443 (by decide) (fun _ => ?_) (fun z => absurd rfl z)
    refine xw_goto (tgt := 3015) dL_law_2448 (by decide) ?_
    exact lx_lsK (kk h3 S1 fin hq1 hq2) ⟨rfl, rfl, rfl, rfl, rfl, trivial⟩
  · refine xw_if_ne (tgt := 2448) dL_law_2433 (by decide) (fun _ => ?_) (fun z => absurd z hr)
    refine xw_goto (tgt := 3015) dL_law_2448 (by decide) ?_
    exact lx_lsK (kk h3 S1 fin hq1 hq2) ⟨rfl, rfl, rfl, rfl, rfl, trivial⟩
def LOp_38 (E : XEnv) (n g b L : Nat) (xs : Nat → Int32) (x m o : Nat) (ad : Nat → Nat) (LI : XH → TS → Prop) : Prop := ∀ (h : XH) (S : TS) (a1 : Int32), LI h S → ∃ r h1 v S1, k_X0_dampest n g E.2.2.2 x a1 o h = some (r, h1) ∧ f_dampest n a1 S = some (v, S1) ∧ S1.1 0 = r ∧ LE b L xs x m o ad h1 S ∧ (r = 0 → h1.2.1 o 0 = .long v.toInt64) ∧ LB h h1 ∧ ∀ h2, TW m ad S1 h2 → xsame tP h1 h2 → LI h2 S1
set_option maxHeartbeats 4000000 in
theorem law_c38 {l : Launch} {E : XEnv} {n g b L : Nat} {xs : Nat → Int32} {x m o : Nat} {ad : Nat → Nat} {LI : XH → TS → Prop} (hop : LOp_38 E n g b L xs x m o ad LI) (hLE : ∀ h S, LI h S → LE b L xs x m o ad h S) (hN : va_Nc "java/lang/IllegalArgumentException" "java/util/NoSuchElementException" E.1) {d kM nM i : Nat} {h : XH} {S : TS} {Q : XO → XH → Prop} (hI : LI h S) (hg : g ≤ 100) (hd : 2000 ≤ d) (hi : i + 5 < L) (hL : L ≤ 384) (hk : h.2.2.1 + 14000 ≤ kM) (hn : h.2.2.2 + 98000 ≤ nM) (kk : ∀ h2 S2, LI h2 S2 → h2.2.2.1 ≤ h.2.2.1 + 14000 → h2.2.2.2 ≤ h.2.2.2 + 98000 → XW l E mL_law d (kM - h2.2.2.1) (nM - h2.2.2.2) 3015 [(0, .ref b), (1, .ref x), (2, .ref m), (3, .ref o), (4, .int (Int32.ofNat i))] [] h2 Q) : XW l E mL_law d (kM - h.2.2.1) (nM - h.2.2.2) 2451 [(0, .ref b), (1, .ref x), (2, .ref m), (3, .ref o), (4, .int (Int32.ofNat i))] [] h Q := by
  obtain ⟨r, h1, v, S1, ek, ef, et, hE1, ho, hB, hP⟩ := hop h S (xs (i + 1)) hI
  have hE := hLE h S hI
  have hB1 : h1.2.2.1 ≤ h.2.2.1 + 14000 := hB.2.1
  have hB2 : h1.2.2.2 ≤ h.2.2.2 + 98000 := hB.2.2.2
  refine xw_aload_n dL_law_2451 rfl rfl ?_
  refine xw_aload_n dL_law_2452 rfl rfl ?_
  refine xw_iload dL_law_2453 rfl ?_
  refine xw_iconst (v := 1) dL_law_2455 rfl ?_
  refine xw_iadd dL_law_2456 ?_
  refine lx_rd 1 rfl hE (by omega) hL dL_law_2457 ?_
  refine xw_aload_n dL_law_2458 rfl rfl ?_
  refine lx_callSH (T_X0_dampest hN ek) lS_L_276 C_X0_dampest dL_law_2459 rfl (by omega) (Nat.le_of_ble_eq_true rfl) (by show h1.2.2.1 ≤ kM; omega) (by show h1.2.2.2 ≤ nM; omega) ?_
  refine xw_istore dL_law_2462 (by decide) ?_
  refine xw_aload_n dL_law_2464 rfl rfl ?_
  refine xw_aload_n dL_law_2465 rfl rfl ?_
  refine xw_iload dL_law_2466 rfl ?_
  refine xw_iconst (v := 1) dL_law_2468 rfl ?_
  refine xw_iadd dL_law_2469 ?_
  refine lx_rd 1 rfl hE1 (by omega) hL dL_law_2470 ?_
  refine lx_callT (T_dampest ef) lV_L_278 C_X4_dampest rfl dL_law_2471 hE1.2.2.2.2 rfl (by omega) (Nat.le_of_ble_eq_true rfl) ?_
  intro h2 hT2 hs2
  have hE2 := hE1.same hs2 hT2
  refine xw_istore dL_law_2474 (by decide) ?_
  refine xw_aload_n dL_law_2476 rfl rfl ?_
  have et1 : f_thrown S1 = some (S1.1 0) := rfl
  refine lx_callT (T_thrown et1) lV_L_156 C_X4_thrown rfl dL_law_2477 hT2 rfl (by omega) (Nat.le_of_ble_eq_true rfl) ?_
  intro h3 hT3 hs3
  have hE3 := hE2.same hs3 hT3
  rw [et]
  refine xw_iload dL_law_2480 rfl ?_
  refine xw_icmp_eq (tgt := 2487) dL_law_2482 (by decide) (fun _ => ?_) (fun z => absurd rfl z)
  refine xw_iload dL_law_2487 rfl ?_
  have fin : LI h3 S1 := hP h3 hT3 (hs2.trans hs3)
  have hn1 : h3.2.2 = h1.2.2 := hs3.1.1.trans hs2.1.1
  have hq1 : h3.2.2.1 ≤ h.2.2.1 + 14000 := by rw [hn1]; omega
  have hq2 : h3.2.2.2 ≤ h.2.2.2 + 98000 := by rw [hn1]; omega
  by_cases hr : r = 0
  · refine xw_if_ne (tgt := 2504) dL_law_2489 (by decide) (fun z => absurd hr z) (fun _ => ?_)
    have hO : h3.2.1 o 0 = _ := (congrFun ((hs3.2.2 _ _ _ _ hE2.2.2.2.1 (by unfold tP; omega)).trans (hs2.2.2 _ _ _ _ hE1.2.2.2.1 (by unfold tP; omega))) 0).trans (ho hr)
    refine xw_aload_n dL_law_2492 rfl rfl ?_
    refine xw_iconst (v := 0) dL_law_2493 rfl ?_
    refine xw_lald dL_law_2494 hE3.2.2.2.1 (by unfold vp_in; decide) hO ?_
    refine xw_iload dL_law_2495 rfl ?_
    refine xw_i2l dL_law_2497 ?_
    refine xw_lcmp dL_law_2498 ?_
    rw [lx_cmp]
    refine xw_if_eq (tgt := 2504) dL_law_2499 (by decide) (fun _ => ?_) (fun z => absurd rfl z)
    refine xw_goto (tgt := 3015) dL_law_2504 (by decide) ?_
    exact lx_lsK (kk h3 S1 fin hq1 hq2) ⟨rfl, rfl, rfl, rfl, rfl, trivial⟩
  · refine xw_if_ne (tgt := 2504) dL_law_2489 (by decide) (fun _ => ?_) (fun z => absurd z hr)
    refine xw_goto (tgt := 3015) dL_law_2504 (by decide) ?_
    exact lx_lsK (kk h3 S1 fin hq1 hq2) ⟨rfl, rfl, rfl, rfl, rfl, trivial⟩
def LOp_39 (E : XEnv) (n g b L : Nat) (xs : Nat → Int32) (x m o : Nat) (ad : Nat → Nat) (LI : XH → TS → Prop) : Prop := ∀ (h : XH) (S : TS) (a1 : Int32), LI h S → ∃ r h1 v S1, k_X0_kept n g E.2.2.2 x a1 o h = some (r, h1) ∧ f_kept n a1 S = some (v, S1) ∧ S1.1 0 = r ∧ LE b L xs x m o ad h1 S ∧ (r = 0 → h1.2.1 o 0 = .long v.toInt64) ∧ LB h h1 ∧ ∀ h2, TW m ad S1 h2 → xsame tP h1 h2 → LI h2 S1
set_option maxHeartbeats 4000000 in
theorem law_c39 {l : Launch} {E : XEnv} {n g b L : Nat} {xs : Nat → Int32} {x m o : Nat} {ad : Nat → Nat} {LI : XH → TS → Prop} (hop : LOp_39 E n g b L xs x m o ad LI) (hLE : ∀ h S, LI h S → LE b L xs x m o ad h S) (hN : va_Nc "java/lang/IllegalArgumentException" "java/util/NoSuchElementException" E.1) {d kM nM i : Nat} {h : XH} {S : TS} {Q : XO → XH → Prop} (hI : LI h S) (hg : g ≤ 100) (hd : 2000 ≤ d) (hi : i + 5 < L) (hL : L ≤ 384) (hk : h.2.2.1 + 14000 ≤ kM) (hn : h.2.2.2 + 98000 ≤ nM) (kk : ∀ h2 S2, LI h2 S2 → h2.2.2.1 ≤ h.2.2.1 + 14000 → h2.2.2.2 ≤ h.2.2.2 + 98000 → XW l E mL_law d (kM - h2.2.2.1) (nM - h2.2.2.2) 3015 [(0, .ref b), (1, .ref x), (2, .ref m), (3, .ref o), (4, .int (Int32.ofNat i))] [] h2 Q) : XW l E mL_law d (kM - h.2.2.1) (nM - h.2.2.2) 2507 [(0, .ref b), (1, .ref x), (2, .ref m), (3, .ref o), (4, .int (Int32.ofNat i))] [] h Q := by
  obtain ⟨r, h1, v, S1, ek, ef, et, hE1, ho, hB, hP⟩ := hop h S (xs (i + 1)) hI
  have hE := hLE h S hI
  have hB1 : h1.2.2.1 ≤ h.2.2.1 + 14000 := hB.2.1
  have hB2 : h1.2.2.2 ≤ h.2.2.2 + 98000 := hB.2.2.2
  refine xw_aload_n dL_law_2507 rfl rfl ?_
  refine xw_aload_n dL_law_2508 rfl rfl ?_
  refine xw_iload dL_law_2509 rfl ?_
  refine xw_iconst (v := 1) dL_law_2511 rfl ?_
  refine xw_iadd dL_law_2512 ?_
  refine lx_rd 1 rfl hE (by omega) hL dL_law_2513 ?_
  refine xw_aload_n dL_law_2514 rfl rfl ?_
  refine lx_callSH (T_X0_kept hN ek) lS_L_279 C_X0_kept dL_law_2515 rfl (by omega) (Nat.le_of_ble_eq_true rfl) (by show h1.2.2.1 ≤ kM; omega) (by show h1.2.2.2 ≤ nM; omega) ?_
  refine xw_istore dL_law_2518 (by decide) ?_
  refine xw_aload_n dL_law_2520 rfl rfl ?_
  refine xw_aload_n dL_law_2521 rfl rfl ?_
  refine xw_iload dL_law_2522 rfl ?_
  refine xw_iconst (v := 1) dL_law_2524 rfl ?_
  refine xw_iadd dL_law_2525 ?_
  refine lx_rd 1 rfl hE1 (by omega) hL dL_law_2526 ?_
  refine lx_callT (T_kept ef) lV_L_281 C_X4_kept rfl dL_law_2527 hE1.2.2.2.2 rfl (by omega) (Nat.le_of_ble_eq_true rfl) ?_
  intro h2 hT2 hs2
  have hE2 := hE1.same hs2 hT2
  refine xw_istore dL_law_2530 (by decide) ?_
  refine xw_aload_n dL_law_2532 rfl rfl ?_
  have et1 : f_thrown S1 = some (S1.1 0) := rfl
  refine lx_callT (T_thrown et1) lV_L_156 C_X4_thrown rfl dL_law_2533 hT2 rfl (by omega) (Nat.le_of_ble_eq_true rfl) ?_
  intro h3 hT3 hs3
  have hE3 := hE2.same hs3 hT3
  rw [et]
  refine xw_iload dL_law_2536 rfl ?_
  refine xw_icmp_eq (tgt := 2543) dL_law_2538 (by decide) (fun _ => ?_) (fun z => absurd rfl z)
  refine xw_iload dL_law_2543 rfl ?_
  have fin : LI h3 S1 := hP h3 hT3 (hs2.trans hs3)
  have hn1 : h3.2.2 = h1.2.2 := hs3.1.1.trans hs2.1.1
  have hq1 : h3.2.2.1 ≤ h.2.2.1 + 14000 := by rw [hn1]; omega
  have hq2 : h3.2.2.2 ≤ h.2.2.2 + 98000 := by rw [hn1]; omega
  by_cases hr : r = 0
  · refine xw_if_ne (tgt := 2560) dL_law_2545 (by decide) (fun z => absurd hr z) (fun _ => ?_)
    have hO : h3.2.1 o 0 = _ := (congrFun ((hs3.2.2 _ _ _ _ hE2.2.2.2.1 (by unfold tP; omega)).trans (hs2.2.2 _ _ _ _ hE1.2.2.2.1 (by unfold tP; omega))) 0).trans (ho hr)
    refine xw_aload_n dL_law_2548 rfl rfl ?_
    refine xw_iconst (v := 0) dL_law_2549 rfl ?_
    refine xw_lald dL_law_2550 hE3.2.2.2.1 (by unfold vp_in; decide) hO ?_
    refine xw_iload dL_law_2551 rfl ?_
    refine xw_i2l dL_law_2553 ?_
    refine xw_lcmp dL_law_2554 ?_
    rw [lx_cmp]
    refine xw_if_eq (tgt := 2560) dL_law_2555 (by decide) (fun _ => ?_) (fun z => absurd rfl z)
    refine xw_goto (tgt := 3015) dL_law_2560 (by decide) ?_
    exact lx_lsK (kk h3 S1 fin hq1 hq2) ⟨rfl, rfl, rfl, rfl, rfl, trivial⟩
  · refine xw_if_ne (tgt := 2560) dL_law_2545 (by decide) (fun _ => ?_) (fun z => absurd z hr)
    refine xw_goto (tgt := 3015) dL_law_2560 (by decide) ?_
    exact lx_lsK (kk h3 S1 fin hq1 hq2) ⟨rfl, rfl, rfl, rfl, rfl, trivial⟩
def LOp_40 (E : XEnv) (n g b L : Nat) (xs : Nat → Int32) (x m o : Nat) (ad : Nat → Nat) (LI : XH → TS → Prop) : Prop := ∀ (h : XH) (S : TS) (a1 : Int32), LI h S → ∃ r h1 v S1, k_X0_sorest n g E.2.2.2 x a1 o h = some (r, h1) ∧ f_sorest n a1 S = some (v, S1) ∧ S1.1 0 = r ∧ LE b L xs x m o ad h1 S ∧ (r = 0 → h1.2.1 o 0 = .long v.toInt64) ∧ LB h h1 ∧ ∀ h2, TW m ad S1 h2 → xsame tP h1 h2 → LI h2 S1
set_option maxHeartbeats 4000000 in
theorem law_c40 {l : Launch} {E : XEnv} {n g b L : Nat} {xs : Nat → Int32} {x m o : Nat} {ad : Nat → Nat} {LI : XH → TS → Prop} (hop : LOp_40 E n g b L xs x m o ad LI) (hLE : ∀ h S, LI h S → LE b L xs x m o ad h S) (hN : va_Nc "java/lang/IllegalArgumentException" "java/util/NoSuchElementException" E.1) {d kM nM i : Nat} {h : XH} {S : TS} {Q : XO → XH → Prop} (hI : LI h S) (hg : g ≤ 100) (hd : 2000 ≤ d) (hi : i + 5 < L) (hL : L ≤ 384) (hk : h.2.2.1 + 14000 ≤ kM) (hn : h.2.2.2 + 98000 ≤ nM) (kk : ∀ h2 S2, LI h2 S2 → h2.2.2.1 ≤ h.2.2.1 + 14000 → h2.2.2.2 ≤ h.2.2.2 + 98000 → XW l E mL_law d (kM - h2.2.2.1) (nM - h2.2.2.2) 3015 [(0, .ref b), (1, .ref x), (2, .ref m), (3, .ref o), (4, .int (Int32.ofNat i))] [] h2 Q) : XW l E mL_law d (kM - h.2.2.1) (nM - h.2.2.2) 2563 [(0, .ref b), (1, .ref x), (2, .ref m), (3, .ref o), (4, .int (Int32.ofNat i))] [] h Q := by
  obtain ⟨r, h1, v, S1, ek, ef, et, hE1, ho, hB, hP⟩ := hop h S (xs (i + 1)) hI
  have hE := hLE h S hI
  have hB1 : h1.2.2.1 ≤ h.2.2.1 + 14000 := hB.2.1
  have hB2 : h1.2.2.2 ≤ h.2.2.2 + 98000 := hB.2.2.2
  refine xw_aload_n dL_law_2563 rfl rfl ?_
  refine xw_aload_n dL_law_2564 rfl rfl ?_
  refine xw_iload dL_law_2565 rfl ?_
  refine xw_iconst (v := 1) dL_law_2567 rfl ?_
  refine xw_iadd dL_law_2568 ?_
  refine lx_rd 1 rfl hE (by omega) hL dL_law_2569 ?_
  refine xw_aload_n dL_law_2570 rfl rfl ?_
  refine lx_callSH (T_X0_sorest hN ek) lS_L_282 C_X0_sorest dL_law_2571 rfl (by omega) (Nat.le_of_ble_eq_true rfl) (by show h1.2.2.1 ≤ kM; omega) (by show h1.2.2.2 ≤ nM; omega) ?_
  refine xw_istore dL_law_2574 (by decide) ?_
  refine xw_aload_n dL_law_2576 rfl rfl ?_
  refine xw_aload_n dL_law_2577 rfl rfl ?_
  refine xw_iload dL_law_2578 rfl ?_
  refine xw_iconst (v := 1) dL_law_2580 rfl ?_
  refine xw_iadd dL_law_2581 ?_
  refine lx_rd 1 rfl hE1 (by omega) hL dL_law_2582 ?_
  refine lx_callT (T_sorest ef) lV_L_284 C_X4_sorest rfl dL_law_2583 hE1.2.2.2.2 rfl (by omega) (Nat.le_of_ble_eq_true rfl) ?_
  intro h2 hT2 hs2
  have hE2 := hE1.same hs2 hT2
  refine xw_istore dL_law_2586 (by decide) ?_
  refine xw_aload_n dL_law_2588 rfl rfl ?_
  have et1 : f_thrown S1 = some (S1.1 0) := rfl
  refine lx_callT (T_thrown et1) lV_L_156 C_X4_thrown rfl dL_law_2589 hT2 rfl (by omega) (Nat.le_of_ble_eq_true rfl) ?_
  intro h3 hT3 hs3
  have hE3 := hE2.same hs3 hT3
  rw [et]
  refine xw_iload dL_law_2592 rfl ?_
  refine xw_icmp_eq (tgt := 2599) dL_law_2594 (by decide) (fun _ => ?_) (fun z => absurd rfl z)
  refine xw_iload dL_law_2599 rfl ?_
  have fin : LI h3 S1 := hP h3 hT3 (hs2.trans hs3)
  have hn1 : h3.2.2 = h1.2.2 := hs3.1.1.trans hs2.1.1
  have hq1 : h3.2.2.1 ≤ h.2.2.1 + 14000 := by rw [hn1]; omega
  have hq2 : h3.2.2.2 ≤ h.2.2.2 + 98000 := by rw [hn1]; omega
  by_cases hr : r = 0
  · refine xw_if_ne (tgt := 2616) dL_law_2601 (by decide) (fun z => absurd hr z) (fun _ => ?_)
    have hO : h3.2.1 o 0 = _ := (congrFun ((hs3.2.2 _ _ _ _ hE2.2.2.2.1 (by unfold tP; omega)).trans (hs2.2.2 _ _ _ _ hE1.2.2.2.1 (by unfold tP; omega))) 0).trans (ho hr)
    refine xw_aload_n dL_law_2604 rfl rfl ?_
    refine xw_iconst (v := 0) dL_law_2605 rfl ?_
    refine xw_lald dL_law_2606 hE3.2.2.2.1 (by unfold vp_in; decide) hO ?_
    refine xw_iload dL_law_2607 rfl ?_
    refine xw_i2l dL_law_2609 ?_
    refine xw_lcmp dL_law_2610 ?_
    rw [lx_cmp]
    refine xw_if_eq (tgt := 2616) dL_law_2611 (by decide) (fun _ => ?_) (fun z => absurd rfl z)
    refine xw_goto (tgt := 3015) dL_law_2616 (by decide) ?_
    exact lx_lsK (kk h3 S1 fin hq1 hq2) ⟨rfl, rfl, rfl, rfl, rfl, trivial⟩
  · refine xw_if_ne (tgt := 2616) dL_law_2601 (by decide) (fun _ => ?_) (fun z => absurd z hr)
    refine xw_goto (tgt := 3015) dL_law_2616 (by decide) ?_
    exact lx_lsK (kk h3 S1 fin hq1 hq2) ⟨rfl, rfl, rfl, rfl, rfl, trivial⟩
def LOp_41 (E : XEnv) (n g b L : Nat) (xs : Nat → Int32) (x m o : Nat) (ad : Nat → Nat) (LI : XH → TS → Prop) : Prop := ∀ (h : XH) (S : TS) (a1 : Int32) (a2 : Int32) (a3 : Int32), LI h S → ∃ r h1 v S1, k_X0_eased n g E.2.2.2 x a1 a2 a3 o h = some (r, h1) ∧ f_eased n a1 a2 a3 S = some (v, S1) ∧ S1.1 0 = r ∧ LE b L xs x m o ad h1 S ∧ (r = 0 → h1.2.1 o 0 = .long v.toInt64) ∧ LB h h1 ∧ ∀ h2, TW m ad S1 h2 → xsame tP h1 h2 → LI h2 S1
set_option maxHeartbeats 4000000 in
theorem law_c41 {l : Launch} {E : XEnv} {n g b L : Nat} {xs : Nat → Int32} {x m o : Nat} {ad : Nat → Nat} {LI : XH → TS → Prop} (hop : LOp_41 E n g b L xs x m o ad LI) (hLE : ∀ h S, LI h S → LE b L xs x m o ad h S) (hN : va_Nc "java/lang/IllegalArgumentException" "java/util/NoSuchElementException" E.1) {d kM nM i : Nat} {h : XH} {S : TS} {Q : XO → XH → Prop} (hI : LI h S) (hg : g ≤ 100) (hd : 2000 ≤ d) (hi : i + 5 < L) (hL : L ≤ 384) (hk : h.2.2.1 + 14000 ≤ kM) (hn : h.2.2.2 + 98000 ≤ nM) (kk : ∀ h2 S2, LI h2 S2 → h2.2.2.1 ≤ h.2.2.1 + 14000 → h2.2.2.2 ≤ h.2.2.2 + 98000 → XW l E mL_law d (kM - h2.2.2.1) (nM - h2.2.2.2) 3015 [(0, .ref b), (1, .ref x), (2, .ref m), (3, .ref o), (4, .int (Int32.ofNat i))] [] h2 Q) : XW l E mL_law d (kM - h.2.2.1) (nM - h.2.2.2) 2619 [(0, .ref b), (1, .ref x), (2, .ref m), (3, .ref o), (4, .int (Int32.ofNat i))] [] h Q := by
  obtain ⟨r, h1, v, S1, ek, ef, et, hE1, ho, hB, hP⟩ := hop h S (xs (i + 1)) (xs (i + 2)) (xs (i + 3)) hI
  have hE := hLE h S hI
  have hB1 : h1.2.2.1 ≤ h.2.2.1 + 14000 := hB.2.1
  have hB2 : h1.2.2.2 ≤ h.2.2.2 + 98000 := hB.2.2.2
  refine xw_aload_n dL_law_2619 rfl rfl ?_
  refine xw_aload_n dL_law_2620 rfl rfl ?_
  refine xw_iload dL_law_2621 rfl ?_
  refine xw_iconst (v := 1) dL_law_2623 rfl ?_
  refine xw_iadd dL_law_2624 ?_
  refine lx_rd 1 rfl hE (by omega) hL dL_law_2625 ?_
  refine xw_aload_n dL_law_2626 rfl rfl ?_
  refine xw_iload dL_law_2627 rfl ?_
  refine xw_iconst (v := 2) dL_law_2629 rfl ?_
  refine xw_iadd dL_law_2630 ?_
  refine lx_rd 2 rfl hE (by omega) hL dL_law_2631 ?_
  refine xw_aload_n dL_law_2632 rfl rfl ?_
  refine xw_iload dL_law_2633 rfl ?_
  refine xw_iconst (v := 3) dL_law_2635 rfl ?_
  refine xw_iadd dL_law_2636 ?_
  refine lx_rd 3 rfl hE (by omega) hL dL_law_2637 ?_
  refine xw_aload_n dL_law_2638 rfl rfl ?_
  refine lx_callSH (T_X0_eased hN ek) lS_L_285 C_X0_eased dL_law_2639 rfl (by omega) (Nat.le_of_ble_eq_true rfl) (by show h1.2.2.1 ≤ kM; omega) (by show h1.2.2.2 ≤ nM; omega) ?_
  refine xw_istore dL_law_2642 (by decide) ?_
  refine xw_aload_n dL_law_2644 rfl rfl ?_
  refine xw_aload_n dL_law_2645 rfl rfl ?_
  refine xw_iload dL_law_2646 rfl ?_
  refine xw_iconst (v := 1) dL_law_2648 rfl ?_
  refine xw_iadd dL_law_2649 ?_
  refine lx_rd 1 rfl hE1 (by omega) hL dL_law_2650 ?_
  refine xw_aload_n dL_law_2651 rfl rfl ?_
  refine xw_iload dL_law_2652 rfl ?_
  refine xw_iconst (v := 2) dL_law_2654 rfl ?_
  refine xw_iadd dL_law_2655 ?_
  refine lx_rd 2 rfl hE1 (by omega) hL dL_law_2656 ?_
  refine xw_aload_n dL_law_2657 rfl rfl ?_
  refine xw_iload dL_law_2658 rfl ?_
  refine xw_iconst (v := 3) dL_law_2660 rfl ?_
  refine xw_iadd dL_law_2661 ?_
  refine lx_rd 3 rfl hE1 (by omega) hL dL_law_2662 ?_
  refine lx_callT (T_eased ef) lV_L_287 C_X4_eased rfl dL_law_2663 hE1.2.2.2.2 rfl (by omega) (Nat.le_of_ble_eq_true rfl) ?_
  intro h2 hT2 hs2
  have hE2 := hE1.same hs2 hT2
  refine xw_istore dL_law_2666 (by decide) ?_
  refine xw_aload_n dL_law_2668 rfl rfl ?_
  have et1 : f_thrown S1 = some (S1.1 0) := rfl
  refine lx_callT (T_thrown et1) lV_L_156 C_X4_thrown rfl dL_law_2669 hT2 rfl (by omega) (Nat.le_of_ble_eq_true rfl) ?_
  intro h3 hT3 hs3
  have hE3 := hE2.same hs3 hT3
  rw [et]
  refine xw_iload dL_law_2672 rfl ?_
  refine xw_icmp_eq (tgt := 2679) dL_law_2674 (by decide) (fun _ => ?_) (fun z => absurd rfl z)
  refine xw_iload dL_law_2679 rfl ?_
  have fin : LI h3 S1 := hP h3 hT3 (hs2.trans hs3)
  have hn1 : h3.2.2 = h1.2.2 := hs3.1.1.trans hs2.1.1
  have hq1 : h3.2.2.1 ≤ h.2.2.1 + 14000 := by rw [hn1]; omega
  have hq2 : h3.2.2.2 ≤ h.2.2.2 + 98000 := by rw [hn1]; omega
  by_cases hr : r = 0
  · refine xw_if_ne (tgt := 2696) dL_law_2681 (by decide) (fun z => absurd hr z) (fun _ => ?_)
    have hO : h3.2.1 o 0 = _ := (congrFun ((hs3.2.2 _ _ _ _ hE2.2.2.2.1 (by unfold tP; omega)).trans (hs2.2.2 _ _ _ _ hE1.2.2.2.1 (by unfold tP; omega))) 0).trans (ho hr)
    refine xw_aload_n dL_law_2684 rfl rfl ?_
    refine xw_iconst (v := 0) dL_law_2685 rfl ?_
    refine xw_lald dL_law_2686 hE3.2.2.2.1 (by unfold vp_in; decide) hO ?_
    refine xw_iload dL_law_2687 rfl ?_
    refine xw_i2l dL_law_2689 ?_
    refine xw_lcmp dL_law_2690 ?_
    rw [lx_cmp]
    refine xw_if_eq (tgt := 2696) dL_law_2691 (by decide) (fun _ => ?_) (fun z => absurd rfl z)
    refine xw_goto (tgt := 3015) dL_law_2696 (by decide) ?_
    exact lx_lsK (kk h3 S1 fin hq1 hq2) ⟨rfl, rfl, rfl, rfl, rfl, trivial⟩
  · refine xw_if_ne (tgt := 2696) dL_law_2681 (by decide) (fun _ => ?_) (fun z => absurd z hr)
    refine xw_goto (tgt := 3015) dL_law_2696 (by decide) ?_
    exact lx_lsK (kk h3 S1 fin hq1 hq2) ⟨rfl, rfl, rfl, rfl, rfl, trivial⟩
def LOp_42 (E : XEnv) (n g b L : Nat) (xs : Nat → Int32) (x m o : Nat) (ad : Nat → Nat) (LI : XH → TS → Prop) : Prop := ∀ (h : XH) (S : TS) (a1 : Int32), LI h S → ∃ r h1 v S1, k_X0_free n g E.2.2.2 x a1 o h = some (r, h1) ∧ f_free n a1 S = some (v, S1) ∧ S1.1 0 = r ∧ LE b L xs x m o ad h1 S ∧ (r = 0 → h1.2.1 o 0 = .long v.toInt64) ∧ LB h h1 ∧ ∀ h2, TW m ad S1 h2 → xsame tP h1 h2 → LI h2 S1
set_option maxHeartbeats 4000000 in
theorem law_c42 {l : Launch} {E : XEnv} {n g b L : Nat} {xs : Nat → Int32} {x m o : Nat} {ad : Nat → Nat} {LI : XH → TS → Prop} (hop : LOp_42 E n g b L xs x m o ad LI) (hLE : ∀ h S, LI h S → LE b L xs x m o ad h S) (hN : va_Nc "java/lang/IllegalArgumentException" "java/util/NoSuchElementException" E.1) {d kM nM i : Nat} {h : XH} {S : TS} {Q : XO → XH → Prop} (hI : LI h S) (hg : g ≤ 100) (hd : 2000 ≤ d) (hi : i + 5 < L) (hL : L ≤ 384) (hk : h.2.2.1 + 14000 ≤ kM) (hn : h.2.2.2 + 98000 ≤ nM) (kk : ∀ h2 S2, LI h2 S2 → h2.2.2.1 ≤ h.2.2.1 + 14000 → h2.2.2.2 ≤ h.2.2.2 + 98000 → XW l E mL_law d (kM - h2.2.2.1) (nM - h2.2.2.2) 3015 [(0, .ref b), (1, .ref x), (2, .ref m), (3, .ref o), (4, .int (Int32.ofNat i))] [] h2 Q) : XW l E mL_law d (kM - h.2.2.1) (nM - h.2.2.2) 2699 [(0, .ref b), (1, .ref x), (2, .ref m), (3, .ref o), (4, .int (Int32.ofNat i))] [] h Q := by
  obtain ⟨r, h1, v, S1, ek, ef, et, hE1, ho, hB, hP⟩ := hop h S (xs (i + 1)) hI
  have hE := hLE h S hI
  have hB1 : h1.2.2.1 ≤ h.2.2.1 + 14000 := hB.2.1
  have hB2 : h1.2.2.2 ≤ h.2.2.2 + 98000 := hB.2.2.2
  refine xw_aload_n dL_law_2699 rfl rfl ?_
  refine xw_aload_n dL_law_2700 rfl rfl ?_
  refine xw_iload dL_law_2701 rfl ?_
  refine xw_iconst (v := 1) dL_law_2703 rfl ?_
  refine xw_iadd dL_law_2704 ?_
  refine lx_rd 1 rfl hE (by omega) hL dL_law_2705 ?_
  refine xw_aload_n dL_law_2706 rfl rfl ?_
  refine lx_callSH (T_X0_free hN ek) lS_L_288 C_X0_free dL_law_2707 rfl (by omega) (Nat.le_of_ble_eq_true rfl) (by show h1.2.2.1 ≤ kM; omega) (by show h1.2.2.2 ≤ nM; omega) ?_
  refine xw_istore dL_law_2710 (by decide) ?_
  refine xw_aload_n dL_law_2712 rfl rfl ?_
  refine xw_aload_n dL_law_2713 rfl rfl ?_
  refine xw_iload dL_law_2714 rfl ?_
  refine xw_iconst (v := 1) dL_law_2716 rfl ?_
  refine xw_iadd dL_law_2717 ?_
  refine lx_rd 1 rfl hE1 (by omega) hL dL_law_2718 ?_
  refine lx_callT (T_free ef) lV_L_290 C_X4_free rfl dL_law_2719 hE1.2.2.2.2 rfl (by omega) (Nat.le_of_ble_eq_true rfl) ?_
  intro h2 hT2 hs2
  have hE2 := hE1.same hs2 hT2
  refine xw_istore dL_law_2722 (by decide) ?_
  refine xw_aload_n dL_law_2724 rfl rfl ?_
  have et1 : f_thrown S1 = some (S1.1 0) := rfl
  refine lx_callT (T_thrown et1) lV_L_156 C_X4_thrown rfl dL_law_2725 hT2 rfl (by omega) (Nat.le_of_ble_eq_true rfl) ?_
  intro h3 hT3 hs3
  have hE3 := hE2.same hs3 hT3
  rw [et]
  refine xw_iload dL_law_2728 rfl ?_
  refine xw_icmp_eq (tgt := 2735) dL_law_2730 (by decide) (fun _ => ?_) (fun z => absurd rfl z)
  refine xw_iload dL_law_2735 rfl ?_
  have fin : LI h3 S1 := hP h3 hT3 (hs2.trans hs3)
  have hn1 : h3.2.2 = h1.2.2 := hs3.1.1.trans hs2.1.1
  have hq1 : h3.2.2.1 ≤ h.2.2.1 + 14000 := by rw [hn1]; omega
  have hq2 : h3.2.2.2 ≤ h.2.2.2 + 98000 := by rw [hn1]; omega
  by_cases hr : r = 0
  · refine xw_if_ne (tgt := 2752) dL_law_2737 (by decide) (fun z => absurd hr z) (fun _ => ?_)
    have hO : h3.2.1 o 0 = _ := (congrFun ((hs3.2.2 _ _ _ _ hE2.2.2.2.1 (by unfold tP; omega)).trans (hs2.2.2 _ _ _ _ hE1.2.2.2.1 (by unfold tP; omega))) 0).trans (ho hr)
    refine xw_aload_n dL_law_2740 rfl rfl ?_
    refine xw_iconst (v := 0) dL_law_2741 rfl ?_
    refine xw_lald dL_law_2742 hE3.2.2.2.1 (by unfold vp_in; decide) hO ?_
    refine xw_iload dL_law_2743 rfl ?_
    refine xw_i2l dL_law_2745 ?_
    refine xw_lcmp dL_law_2746 ?_
    rw [lx_cmp]
    refine xw_if_eq (tgt := 2752) dL_law_2747 (by decide) (fun _ => ?_) (fun z => absurd rfl z)
    refine xw_goto (tgt := 3015) dL_law_2752 (by decide) ?_
    exact lx_lsK (kk h3 S1 fin hq1 hq2) ⟨rfl, rfl, rfl, rfl, rfl, trivial⟩
  · refine xw_if_ne (tgt := 2752) dL_law_2737 (by decide) (fun _ => ?_) (fun z => absurd z hr)
    refine xw_goto (tgt := 3015) dL_law_2752 (by decide) ?_
    exact lx_lsK (kk h3 S1 fin hq1 hq2) ⟨rfl, rfl, rfl, rfl, rfl, trivial⟩
def LOp_43 (E : XEnv) (n g b L : Nat) (xs : Nat → Int32) (x m o : Nat) (ad : Nat → Nat) (LI : XH → TS → Prop) : Prop := ∀ (h : XH) (S : TS) (a1 : Int32), LI h S → ∃ r h1 v S1, k_X0_larger n x a1 o h = some (r, h1) ∧ f_larger n a1 S = some (v, S1) ∧ S1.1 0 = r ∧ LE b L xs x m o ad h1 S ∧ (r = 0 → h1.2.1 o 0 = .long v.toInt64) ∧ LB h h1 ∧ ∀ h2, TW m ad S1 h2 → xsame tP h1 h2 → LI h2 S1
set_option maxHeartbeats 4000000 in
theorem law_c43 {l : Launch} {E : XEnv} {n g b L : Nat} {xs : Nat → Int32} {x m o : Nat} {ad : Nat → Nat} {LI : XH → TS → Prop} (hop : LOp_43 E n g b L xs x m o ad LI) (hLE : ∀ h S, LI h S → LE b L xs x m o ad h S) (hN : va_Nc "java/lang/IllegalArgumentException" "java/util/NoSuchElementException" E.1) {d kM nM i : Nat} {h : XH} {S : TS} {Q : XO → XH → Prop} (hI : LI h S) (hg : g ≤ 100) (hd : 2000 ≤ d) (hi : i + 5 < L) (hL : L ≤ 384) (hk : h.2.2.1 + 14000 ≤ kM) (hn : h.2.2.2 + 98000 ≤ nM) (kk : ∀ h2 S2, LI h2 S2 → h2.2.2.1 ≤ h.2.2.1 + 14000 → h2.2.2.2 ≤ h.2.2.2 + 98000 → XW l E mL_law d (kM - h2.2.2.1) (nM - h2.2.2.2) 3015 [(0, .ref b), (1, .ref x), (2, .ref m), (3, .ref o), (4, .int (Int32.ofNat i))] [] h2 Q) : XW l E mL_law d (kM - h.2.2.1) (nM - h.2.2.2) 2755 [(0, .ref b), (1, .ref x), (2, .ref m), (3, .ref o), (4, .int (Int32.ofNat i))] [] h Q := by
  obtain ⟨r, h1, v, S1, ek, ef, et, hE1, ho, hB, hP⟩ := hop h S (xs (i + 1)) hI
  have hE := hLE h S hI
  have hB1 : h1.2.2.1 ≤ h.2.2.1 + 14000 := hB.2.1
  have hB2 : h1.2.2.2 ≤ h.2.2.2 + 98000 := hB.2.2.2
  refine xw_aload_n dL_law_2755 rfl rfl ?_
  refine xw_aload_n dL_law_2756 rfl rfl ?_
  refine xw_iload dL_law_2757 rfl ?_
  refine xw_iconst (v := 1) dL_law_2759 rfl ?_
  refine xw_iadd dL_law_2760 ?_
  refine lx_rd 1 rfl hE (by omega) hL dL_law_2761 ?_
  refine xw_aload_n dL_law_2762 rfl rfl ?_
  refine lx_callSH (T_X0_larger hN ek) lS_L_291 C_X0_larger dL_law_2763 rfl (by omega) (Nat.le_of_ble_eq_true rfl) (by show h1.2.2.1 ≤ kM; omega) (by show h1.2.2.2 ≤ nM; omega) ?_
  refine xw_istore dL_law_2766 (by decide) ?_
  refine xw_aload_n dL_law_2768 rfl rfl ?_
  refine xw_aload_n dL_law_2769 rfl rfl ?_
  refine xw_iload dL_law_2770 rfl ?_
  refine xw_iconst (v := 1) dL_law_2772 rfl ?_
  refine xw_iadd dL_law_2773 ?_
  refine lx_rd 1 rfl hE1 (by omega) hL dL_law_2774 ?_
  refine lx_callT (T_larger ef) lV_L_293 C_X4_larger rfl dL_law_2775 hE1.2.2.2.2 rfl (by omega) (Nat.le_of_ble_eq_true rfl) ?_
  intro h2 hT2 hs2
  have hE2 := hE1.same hs2 hT2
  refine xw_istore dL_law_2778 (by decide) ?_
  refine xw_aload_n dL_law_2780 rfl rfl ?_
  have et1 : f_thrown S1 = some (S1.1 0) := rfl
  refine lx_callT (T_thrown et1) lV_L_156 C_X4_thrown rfl dL_law_2781 hT2 rfl (by omega) (Nat.le_of_ble_eq_true rfl) ?_
  intro h3 hT3 hs3
  have hE3 := hE2.same hs3 hT3
  rw [et]
  refine xw_iload dL_law_2784 rfl ?_
  refine xw_icmp_eq (tgt := 2791) dL_law_2786 (by decide) (fun _ => ?_) (fun z => absurd rfl z)
  refine xw_iload dL_law_2791 rfl ?_
  have fin : LI h3 S1 := hP h3 hT3 (hs2.trans hs3)
  have hn1 : h3.2.2 = h1.2.2 := hs3.1.1.trans hs2.1.1
  have hq1 : h3.2.2.1 ≤ h.2.2.1 + 14000 := by rw [hn1]; omega
  have hq2 : h3.2.2.2 ≤ h.2.2.2 + 98000 := by rw [hn1]; omega
  by_cases hr : r = 0
  · refine xw_if_ne (tgt := 2808) dL_law_2793 (by decide) (fun z => absurd hr z) (fun _ => ?_)
    have hO : h3.2.1 o 0 = _ := (congrFun ((hs3.2.2 _ _ _ _ hE2.2.2.2.1 (by unfold tP; omega)).trans (hs2.2.2 _ _ _ _ hE1.2.2.2.1 (by unfold tP; omega))) 0).trans (ho hr)
    refine xw_aload_n dL_law_2796 rfl rfl ?_
    refine xw_iconst (v := 0) dL_law_2797 rfl ?_
    refine xw_lald dL_law_2798 hE3.2.2.2.1 (by unfold vp_in; decide) hO ?_
    refine xw_iload dL_law_2799 rfl ?_
    refine xw_i2l dL_law_2801 ?_
    refine xw_lcmp dL_law_2802 ?_
    rw [lx_cmp]
    refine xw_if_eq (tgt := 2808) dL_law_2803 (by decide) (fun _ => ?_) (fun z => absurd rfl z)
    refine xw_goto (tgt := 3015) dL_law_2808 (by decide) ?_
    exact lx_lsK (kk h3 S1 fin hq1 hq2) ⟨rfl, rfl, rfl, rfl, rfl, trivial⟩
  · refine xw_if_ne (tgt := 2808) dL_law_2793 (by decide) (fun _ => ?_) (fun z => absurd z hr)
    refine xw_goto (tgt := 3015) dL_law_2808 (by decide) ?_
    exact lx_lsK (kk h3 S1 fin hq1 hq2) ⟨rfl, rfl, rfl, rfl, rfl, trivial⟩
def LOp_44 (E : XEnv) (n g b L : Nat) (xs : Nat → Int32) (x m o : Nat) (ad : Nat → Nat) (LI : XH → TS → Prop) : Prop := ∀ (h : XH) (S : TS) (a1 : Int32), LI h S → ∃ r h1 v S1, k_X0_wide n x a1 o h = some (r, h1) ∧ f_wide n a1 S = some (v, S1) ∧ S1.1 0 = r ∧ LE b L xs x m o ad h1 S ∧ (r = 0 → h1.2.1 o 0 = .long v.toInt64) ∧ LB h h1 ∧ ∀ h2, TW m ad S1 h2 → xsame tP h1 h2 → LI h2 S1
set_option maxHeartbeats 4000000 in
theorem law_c44 {l : Launch} {E : XEnv} {n g b L : Nat} {xs : Nat → Int32} {x m o : Nat} {ad : Nat → Nat} {LI : XH → TS → Prop} (hop : LOp_44 E n g b L xs x m o ad LI) (hLE : ∀ h S, LI h S → LE b L xs x m o ad h S) (hN : va_Nc "java/lang/IllegalArgumentException" "java/util/NoSuchElementException" E.1) {d kM nM i : Nat} {h : XH} {S : TS} {Q : XO → XH → Prop} (hI : LI h S) (hg : g ≤ 100) (hd : 2000 ≤ d) (hi : i + 5 < L) (hL : L ≤ 384) (hk : h.2.2.1 + 14000 ≤ kM) (hn : h.2.2.2 + 98000 ≤ nM) (kk : ∀ h2 S2, LI h2 S2 → h2.2.2.1 ≤ h.2.2.1 + 14000 → h2.2.2.2 ≤ h.2.2.2 + 98000 → XW l E mL_law d (kM - h2.2.2.1) (nM - h2.2.2.2) 3015 [(0, .ref b), (1, .ref x), (2, .ref m), (3, .ref o), (4, .int (Int32.ofNat i))] [] h2 Q) : XW l E mL_law d (kM - h.2.2.1) (nM - h.2.2.2) 2811 [(0, .ref b), (1, .ref x), (2, .ref m), (3, .ref o), (4, .int (Int32.ofNat i))] [] h Q := by
  obtain ⟨r, h1, v, S1, ek, ef, et, hE1, ho, hB, hP⟩ := hop h S (xs (i + 1)) hI
  have hE := hLE h S hI
  have hB1 : h1.2.2.1 ≤ h.2.2.1 + 14000 := hB.2.1
  have hB2 : h1.2.2.2 ≤ h.2.2.2 + 98000 := hB.2.2.2
  refine xw_aload_n dL_law_2811 rfl rfl ?_
  refine xw_aload_n dL_law_2812 rfl rfl ?_
  refine xw_iload dL_law_2813 rfl ?_
  refine xw_iconst (v := 1) dL_law_2815 rfl ?_
  refine xw_iadd dL_law_2816 ?_
  refine lx_rd 1 rfl hE (by omega) hL dL_law_2817 ?_
  refine xw_aload_n dL_law_2818 rfl rfl ?_
  refine lx_callSH (T_X0_wide hN ek) lS_L_294 C_X0_wide dL_law_2819 rfl (by omega) (Nat.le_of_ble_eq_true rfl) (by show h1.2.2.1 ≤ kM; omega) (by show h1.2.2.2 ≤ nM; omega) ?_
  refine xw_istore dL_law_2822 (by decide) ?_
  refine xw_aload_n dL_law_2824 rfl rfl ?_
  refine xw_aload_n dL_law_2825 rfl rfl ?_
  refine xw_iload dL_law_2826 rfl ?_
  refine xw_iconst (v := 1) dL_law_2828 rfl ?_
  refine xw_iadd dL_law_2829 ?_
  refine lx_rd 1 rfl hE1 (by omega) hL dL_law_2830 ?_
  refine lx_callT (T_wide ef) lV_L_296 C_X4_wide rfl dL_law_2831 hE1.2.2.2.2 rfl (by omega) (Nat.le_of_ble_eq_true rfl) ?_
  intro h2 hT2 hs2
  have hE2 := hE1.same hs2 hT2
  refine xw_istore dL_law_2834 (by decide) ?_
  refine xw_aload_n dL_law_2836 rfl rfl ?_
  have et1 : f_thrown S1 = some (S1.1 0) := rfl
  refine lx_callT (T_thrown et1) lV_L_156 C_X4_thrown rfl dL_law_2837 hT2 rfl (by omega) (Nat.le_of_ble_eq_true rfl) ?_
  intro h3 hT3 hs3
  have hE3 := hE2.same hs3 hT3
  rw [et]
  refine xw_iload dL_law_2840 rfl ?_
  refine xw_icmp_eq (tgt := 2847) dL_law_2842 (by decide) (fun _ => ?_) (fun z => absurd rfl z)
  refine xw_iload dL_law_2847 rfl ?_
  have fin : LI h3 S1 := hP h3 hT3 (hs2.trans hs3)
  have hn1 : h3.2.2 = h1.2.2 := hs3.1.1.trans hs2.1.1
  have hq1 : h3.2.2.1 ≤ h.2.2.1 + 14000 := by rw [hn1]; omega
  have hq2 : h3.2.2.2 ≤ h.2.2.2 + 98000 := by rw [hn1]; omega
  by_cases hr : r = 0
  · refine xw_if_ne (tgt := 2864) dL_law_2849 (by decide) (fun z => absurd hr z) (fun _ => ?_)
    have hO : h3.2.1 o 0 = _ := (congrFun ((hs3.2.2 _ _ _ _ hE2.2.2.2.1 (by unfold tP; omega)).trans (hs2.2.2 _ _ _ _ hE1.2.2.2.1 (by unfold tP; omega))) 0).trans (ho hr)
    refine xw_aload_n dL_law_2852 rfl rfl ?_
    refine xw_iconst (v := 0) dL_law_2853 rfl ?_
    refine xw_lald dL_law_2854 hE3.2.2.2.1 (by unfold vp_in; decide) hO ?_
    refine xw_iload dL_law_2855 rfl ?_
    refine xw_i2l dL_law_2857 ?_
    refine xw_lcmp dL_law_2858 ?_
    rw [lx_cmp]
    refine xw_if_eq (tgt := 2864) dL_law_2859 (by decide) (fun _ => ?_) (fun z => absurd rfl z)
    refine xw_goto (tgt := 3015) dL_law_2864 (by decide) ?_
    exact lx_lsK (kk h3 S1 fin hq1 hq2) ⟨rfl, rfl, rfl, rfl, rfl, trivial⟩
  · refine xw_if_ne (tgt := 2864) dL_law_2849 (by decide) (fun _ => ?_) (fun z => absurd z hr)
    refine xw_goto (tgt := 3015) dL_law_2864 (by decide) ?_
    exact lx_lsK (kk h3 S1 fin hq1 hq2) ⟨rfl, rfl, rfl, rfl, rfl, trivial⟩
def LOp_45 (E : XEnv) (n g b L : Nat) (xs : Nat → Int32) (x m o : Nat) (ad : Nat → Nat) (LI : XH → TS → Prop) : Prop := ∀ (h : XH) (S : TS) (a1 : Int32) (a2 : Int32), LI h S → ∃ r h1 v S1, k_X0_endures n g E.2.2.2 x a1 a2 o h = some (r, h1) ∧ f_endures n a1 a2 S = some (v, S1) ∧ S1.1 0 = r ∧ LE b L xs x m o ad h1 S ∧ (r = 0 → h1.2.1 o 0 = .long v.toInt64) ∧ LB h h1 ∧ ∀ h2, TW m ad S1 h2 → xsame tP h1 h2 → LI h2 S1
set_option maxHeartbeats 4000000 in
theorem law_c45 {l : Launch} {E : XEnv} {n g b L : Nat} {xs : Nat → Int32} {x m o : Nat} {ad : Nat → Nat} {LI : XH → TS → Prop} (hop : LOp_45 E n g b L xs x m o ad LI) (hLE : ∀ h S, LI h S → LE b L xs x m o ad h S) (hN : va_Nc "java/lang/IllegalArgumentException" "java/util/NoSuchElementException" E.1) {d kM nM i : Nat} {h : XH} {S : TS} {Q : XO → XH → Prop} (hI : LI h S) (hg : g ≤ 100) (hd : 2000 ≤ d) (hi : i + 5 < L) (hL : L ≤ 384) (hk : h.2.2.1 + 14000 ≤ kM) (hn : h.2.2.2 + 98000 ≤ nM) (kk : ∀ h2 S2, LI h2 S2 → h2.2.2.1 ≤ h.2.2.1 + 14000 → h2.2.2.2 ≤ h.2.2.2 + 98000 → XW l E mL_law d (kM - h2.2.2.1) (nM - h2.2.2.2) 3015 [(0, .ref b), (1, .ref x), (2, .ref m), (3, .ref o), (4, .int (Int32.ofNat i))] [] h2 Q) : XW l E mL_law d (kM - h.2.2.1) (nM - h.2.2.2) 2867 [(0, .ref b), (1, .ref x), (2, .ref m), (3, .ref o), (4, .int (Int32.ofNat i))] [] h Q := by
  obtain ⟨r, h1, v, S1, ek, ef, et, hE1, ho, hB, hP⟩ := hop h S (xs (i + 1)) (xs (i + 2)) hI
  have hE := hLE h S hI
  have hB1 : h1.2.2.1 ≤ h.2.2.1 + 14000 := hB.2.1
  have hB2 : h1.2.2.2 ≤ h.2.2.2 + 98000 := hB.2.2.2
  refine xw_aload_n dL_law_2867 rfl rfl ?_
  refine xw_aload_n dL_law_2868 rfl rfl ?_
  refine xw_iload dL_law_2869 rfl ?_
  refine xw_iconst (v := 1) dL_law_2871 rfl ?_
  refine xw_iadd dL_law_2872 ?_
  refine lx_rd 1 rfl hE (by omega) hL dL_law_2873 ?_
  refine xw_aload_n dL_law_2874 rfl rfl ?_
  refine xw_iload dL_law_2875 rfl ?_
  refine xw_iconst (v := 2) dL_law_2877 rfl ?_
  refine xw_iadd dL_law_2878 ?_
  refine lx_rd 2 rfl hE (by omega) hL dL_law_2879 ?_
  refine xw_aload_n dL_law_2880 rfl rfl ?_
  refine lx_callSH (T_X0_endures hN ek) lS_L_297 C_X0_endures dL_law_2881 rfl (by omega) (Nat.le_of_ble_eq_true rfl) (by show h1.2.2.1 ≤ kM; omega) (by show h1.2.2.2 ≤ nM; omega) ?_
  refine xw_istore dL_law_2884 (by decide) ?_
  refine xw_aload_n dL_law_2886 rfl rfl ?_
  refine xw_aload_n dL_law_2887 rfl rfl ?_
  refine xw_iload dL_law_2888 rfl ?_
  refine xw_iconst (v := 1) dL_law_2890 rfl ?_
  refine xw_iadd dL_law_2891 ?_
  refine lx_rd 1 rfl hE1 (by omega) hL dL_law_2892 ?_
  refine xw_aload_n dL_law_2893 rfl rfl ?_
  refine xw_iload dL_law_2894 rfl ?_
  refine xw_iconst (v := 2) dL_law_2896 rfl ?_
  refine xw_iadd dL_law_2897 ?_
  refine lx_rd 2 rfl hE1 (by omega) hL dL_law_2898 ?_
  refine lx_callT (T_endures ef) lV_L_299 C_X4_endures rfl dL_law_2899 hE1.2.2.2.2 rfl (by omega) (Nat.le_of_ble_eq_true rfl) ?_
  intro h2 hT2 hs2
  have hE2 := hE1.same hs2 hT2
  refine xw_istore dL_law_2902 (by decide) ?_
  refine xw_aload_n dL_law_2904 rfl rfl ?_
  have et1 : f_thrown S1 = some (S1.1 0) := rfl
  refine lx_callT (T_thrown et1) lV_L_156 C_X4_thrown rfl dL_law_2905 hT2 rfl (by omega) (Nat.le_of_ble_eq_true rfl) ?_
  intro h3 hT3 hs3
  have hE3 := hE2.same hs3 hT3
  rw [et]
  refine xw_iload dL_law_2908 rfl ?_
  refine xw_icmp_eq (tgt := 2915) dL_law_2910 (by decide) (fun _ => ?_) (fun z => absurd rfl z)
  refine xw_iload dL_law_2915 rfl ?_
  have fin : LI h3 S1 := hP h3 hT3 (hs2.trans hs3)
  have hn1 : h3.2.2 = h1.2.2 := hs3.1.1.trans hs2.1.1
  have hq1 : h3.2.2.1 ≤ h.2.2.1 + 14000 := by rw [hn1]; omega
  have hq2 : h3.2.2.2 ≤ h.2.2.2 + 98000 := by rw [hn1]; omega
  by_cases hr : r = 0
  · refine xw_if_ne (tgt := 2932) dL_law_2917 (by decide) (fun z => absurd hr z) (fun _ => ?_)
    have hO : h3.2.1 o 0 = _ := (congrFun ((hs3.2.2 _ _ _ _ hE2.2.2.2.1 (by unfold tP; omega)).trans (hs2.2.2 _ _ _ _ hE1.2.2.2.1 (by unfold tP; omega))) 0).trans (ho hr)
    refine xw_aload_n dL_law_2920 rfl rfl ?_
    refine xw_iconst (v := 0) dL_law_2921 rfl ?_
    refine xw_lald dL_law_2922 hE3.2.2.2.1 (by unfold vp_in; decide) hO ?_
    refine xw_iload dL_law_2923 rfl ?_
    refine xw_i2l dL_law_2925 ?_
    refine xw_lcmp dL_law_2926 ?_
    rw [lx_cmp]
    refine xw_if_eq (tgt := 2932) dL_law_2927 (by decide) (fun _ => ?_) (fun z => absurd rfl z)
    refine xw_goto (tgt := 3015) dL_law_2932 (by decide) ?_
    exact lx_lsK (kk h3 S1 fin hq1 hq2) ⟨rfl, rfl, rfl, rfl, rfl, trivial⟩
  · refine xw_if_ne (tgt := 2932) dL_law_2917 (by decide) (fun _ => ?_) (fun z => absurd z hr)
    refine xw_goto (tgt := 3015) dL_law_2932 (by decide) ?_
    exact lx_lsK (kk h3 S1 fin hq1 hq2) ⟨rfl, rfl, rfl, rfl, rfl, trivial⟩
def LOp_46 (E : XEnv) (n g b L : Nat) (xs : Nat → Int32) (x m o : Nat) (ad : Nat → Nat) (LI : XH → TS → Prop) : Prop := ∀ (h : XH) (S : TS) (a1 : Int32), LI h S → ∃ r h1 v S1, k_X0_ringed n x a1 o h = some (r, h1) ∧ f_ringed n a1 S = some (v, S1) ∧ S1.1 0 = r ∧ LE b L xs x m o ad h1 S ∧ (r = 0 → h1.2.1 o 0 = .long v.toInt64) ∧ LB h h1 ∧ ∀ h2, TW m ad S1 h2 → xsame tP h1 h2 → LI h2 S1
set_option maxHeartbeats 4000000 in
theorem law_c46 {l : Launch} {E : XEnv} {n g b L : Nat} {xs : Nat → Int32} {x m o : Nat} {ad : Nat → Nat} {LI : XH → TS → Prop} (hop : LOp_46 E n g b L xs x m o ad LI) (hLE : ∀ h S, LI h S → LE b L xs x m o ad h S) (hN : va_Nc "java/lang/IllegalArgumentException" "java/util/NoSuchElementException" E.1) {d kM nM i : Nat} {h : XH} {S : TS} {Q : XO → XH → Prop} (hI : LI h S) (hg : g ≤ 100) (hd : 2000 ≤ d) (hi : i + 5 < L) (hL : L ≤ 384) (hk : h.2.2.1 + 14000 ≤ kM) (hn : h.2.2.2 + 98000 ≤ nM) (kk : ∀ h2 S2, LI h2 S2 → h2.2.2.1 ≤ h.2.2.1 + 14000 → h2.2.2.2 ≤ h.2.2.2 + 98000 → XW l E mL_law d (kM - h2.2.2.1) (nM - h2.2.2.2) 3015 [(0, .ref b), (1, .ref x), (2, .ref m), (3, .ref o), (4, .int (Int32.ofNat i))] [] h2 Q) : XW l E mL_law d (kM - h.2.2.1) (nM - h.2.2.2) 2935 [(0, .ref b), (1, .ref x), (2, .ref m), (3, .ref o), (4, .int (Int32.ofNat i))] [] h Q := by
  obtain ⟨r, h1, v, S1, ek, ef, et, hE1, ho, hB, hP⟩ := hop h S (xs (i + 1)) hI
  have hE := hLE h S hI
  have hB1 : h1.2.2.1 ≤ h.2.2.1 + 14000 := hB.2.1
  have hB2 : h1.2.2.2 ≤ h.2.2.2 + 98000 := hB.2.2.2
  refine xw_aload_n dL_law_2935 rfl rfl ?_
  refine xw_aload_n dL_law_2936 rfl rfl ?_
  refine xw_iload dL_law_2937 rfl ?_
  refine xw_iconst (v := 1) dL_law_2939 rfl ?_
  refine xw_iadd dL_law_2940 ?_
  refine lx_rd 1 rfl hE (by omega) hL dL_law_2941 ?_
  refine xw_aload_n dL_law_2942 rfl rfl ?_
  refine lx_callSH (T_X0_ringed hN ek) lS_L_300 C_X0_ringed dL_law_2943 rfl (by omega) (Nat.le_of_ble_eq_true rfl) (by show h1.2.2.1 ≤ kM; omega) (by show h1.2.2.2 ≤ nM; omega) ?_
  refine xw_istore dL_law_2946 (by decide) ?_
  refine xw_aload_n dL_law_2948 rfl rfl ?_
  refine xw_aload_n dL_law_2949 rfl rfl ?_
  refine xw_iload dL_law_2950 rfl ?_
  refine xw_iconst (v := 1) dL_law_2952 rfl ?_
  refine xw_iadd dL_law_2953 ?_
  refine lx_rd 1 rfl hE1 (by omega) hL dL_law_2954 ?_
  refine lx_callT (T_ringed ef) lV_L_302 C_X4_ringed rfl dL_law_2955 hE1.2.2.2.2 rfl (by omega) (Nat.le_of_ble_eq_true rfl) ?_
  intro h2 hT2 hs2
  have hE2 := hE1.same hs2 hT2
  refine xw_istore dL_law_2958 (by decide) ?_
  refine xw_aload_n dL_law_2960 rfl rfl ?_
  have et1 : f_thrown S1 = some (S1.1 0) := rfl
  refine lx_callT (T_thrown et1) lV_L_156 C_X4_thrown rfl dL_law_2961 hT2 rfl (by omega) (Nat.le_of_ble_eq_true rfl) ?_
  intro h3 hT3 hs3
  have hE3 := hE2.same hs3 hT3
  rw [et]
  refine xw_iload dL_law_2964 rfl ?_
  refine xw_icmp_eq (tgt := 2971) dL_law_2966 (by decide) (fun _ => ?_) (fun z => absurd rfl z)
  refine xw_iload dL_law_2971 rfl ?_
  have fin : LI h3 S1 := hP h3 hT3 (hs2.trans hs3)
  have hn1 : h3.2.2 = h1.2.2 := hs3.1.1.trans hs2.1.1
  have hq1 : h3.2.2.1 ≤ h.2.2.1 + 14000 := by rw [hn1]; omega
  have hq2 : h3.2.2.2 ≤ h.2.2.2 + 98000 := by rw [hn1]; omega
  by_cases hr : r = 0
  · refine xw_if_ne (tgt := 2988) dL_law_2973 (by decide) (fun z => absurd hr z) (fun _ => ?_)
    have hO : h3.2.1 o 0 = _ := (congrFun ((hs3.2.2 _ _ _ _ hE2.2.2.2.1 (by unfold tP; omega)).trans (hs2.2.2 _ _ _ _ hE1.2.2.2.1 (by unfold tP; omega))) 0).trans (ho hr)
    refine xw_aload_n dL_law_2976 rfl rfl ?_
    refine xw_iconst (v := 0) dL_law_2977 rfl ?_
    refine xw_lald dL_law_2978 hE3.2.2.2.1 (by unfold vp_in; decide) hO ?_
    refine xw_iload dL_law_2979 rfl ?_
    refine xw_i2l dL_law_2981 ?_
    refine xw_lcmp dL_law_2982 ?_
    rw [lx_cmp]
    refine xw_if_eq (tgt := 2988) dL_law_2983 (by decide) (fun _ => ?_) (fun z => absurd rfl z)
    refine xw_goto (tgt := 3015) dL_law_2988 (by decide) ?_
    exact lx_lsK (kk h3 S1 fin hq1 hq2) ⟨rfl, rfl, rfl, rfl, rfl, trivial⟩
  · refine xw_if_ne (tgt := 2988) dL_law_2973 (by decide) (fun _ => ?_) (fun z => absurd z hr)
    refine xw_goto (tgt := 3015) dL_law_2988 (by decide) ?_
    exact lx_lsK (kk h3 S1 fin hq1 hq2) ⟨rfl, rfl, rfl, rfl, rfl, trivial⟩
def LOp_47 (E : XEnv) (n g b L : Nat) (xs : Nat → Int32) (x m o : Nat) (ad : Nat → Nat) (LI : XH → TS → Prop) : Prop := ∀ (h : XH) (S : TS), LI h S → ∃ h1 S1, k_X1_image n E.2.2.2 x h = some h1 ∧ f_image n S = some S1 ∧ LE b L xs x m o ad h1 S ∧ LB h h1 ∧ ∀ h2, TW m ad S1 h2 → xsame tP h1 h2 → LI h2 S1
set_option maxHeartbeats 4000000 in
theorem law_c47 {l : Launch} {E : XEnv} {n g b L : Nat} {xs : Nat → Int32} {x m o : Nat} {ad : Nat → Nat} {LI : XH → TS → Prop} (hop : LOp_47 E n g b L xs x m o ad LI) (hLE : ∀ h S, LI h S → LE b L xs x m o ad h S) (hN : va_Nc "java/lang/IllegalArgumentException" "java/util/NoSuchElementException" E.1) {d kM nM i : Nat} {h : XH} {S : TS} {Q : XO → XH → Prop} (hI : LI h S) (hg : g ≤ 100) (hd : 2000 ≤ d) (hi : i + 5 < L) (hL : L ≤ 384) (hk : h.2.2.1 + 14000 ≤ kM) (hn : h.2.2.2 + 98000 ≤ nM) (kk : ∀ h2 S2, LI h2 S2 → h2.2.2.1 ≤ h.2.2.1 + 14000 → h2.2.2.2 ≤ h.2.2.2 + 98000 → XW l E mL_law d (kM - h2.2.2.1) (nM - h2.2.2.2) 3015 [(0, .ref b), (1, .ref x), (2, .ref m), (3, .ref o), (4, .int (Int32.ofNat i))] [] h2 Q) : XW l E mL_law d (kM - h.2.2.1) (nM - h.2.2.2) 2991 [(0, .ref b), (1, .ref x), (2, .ref m), (3, .ref o), (4, .int (Int32.ofNat i))] [] h Q := by
  obtain ⟨h1, S1, ek, ef, hE1, hB, hP⟩ := hop h S hI
  have hE := hLE h S hI
  have hB1 : h1.2.2.1 ≤ h.2.2.1 + 14000 := hB.2.1
  have hB2 : h1.2.2.2 ≤ h.2.2.2 + 98000 := hB.2.2.2
  refine xw_aload_n dL_law_2991 rfl rfl ?_
  refine lx_callV (T_X1_image ek) lV_L_303 C_X1_image rfl dL_law_2992 hE.2.2.1 rfl (by omega) (Nat.le_of_ble_eq_true rfl) (by show h1.2.2.1 ≤ kM; omega) (by show h1.2.2.2 ≤ nM; omega) ?_
  refine xw_aload_n dL_law_2995 rfl rfl ?_
  refine lx_callT (T_image ef) lV_L_306 C_X4_image rfl dL_law_2996 hE1.2.2.2.2 rfl (by omega) (Nat.le_of_ble_eq_true rfl) ?_
  intro h2 hT2 hs2
  have hE2 := hE1.same hs2 hT2
  refine xw_goto (tgt := 3015) dL_law_2999 (by decide) ?_
  have fin : LI h2 S1 := hP h2 hT2 hs2
  have hq1 : h2.2.2.1 ≤ h.2.2.1 + 14000 := by rw [hs2.1.1]; omega
  have hq2 : h2.2.2.2 ≤ h.2.2.2 + 98000 := by rw [hs2.1.1]; omega
  exact lx_lsK (kk h2 S1 fin hq1 hq2) ⟨rfl, rfl, rfl, rfl, rfl, trivial⟩
def LOp_48 (E : XEnv) (n g b L : Nat) (xs : Nat → Int32) (x m o : Nat) (ad : Nat → Nat) (LI : XH → TS → Prop) : Prop := ∀ (h : XH) (S : TS), LI h S → ∃ v h1 S1, k_X1_restore n E.2.2.2 x h = some (v, h1) ∧ f_restore n S = some (v, S1) ∧ LE b L xs x m o ad h1 S ∧ LB h h1 ∧ ∀ h2, TW m ad S1 h2 → xsame tP h1 h2 → LI h2 S1
set_option maxHeartbeats 4000000 in
theorem law_c48 {l : Launch} {E : XEnv} {n g b L : Nat} {xs : Nat → Int32} {x m o : Nat} {ad : Nat → Nat} {LI : XH → TS → Prop} (hop : LOp_48 E n g b L xs x m o ad LI) (hLE : ∀ h S, LI h S → LE b L xs x m o ad h S) (hN : va_Nc "java/lang/IllegalArgumentException" "java/util/NoSuchElementException" E.1) {d kM nM i : Nat} {h : XH} {S : TS} {Q : XO → XH → Prop} (hI : LI h S) (hg : g ≤ 100) (hd : 2000 ≤ d) (hi : i + 5 < L) (hL : L ≤ 384) (hk : h.2.2.1 + 14000 ≤ kM) (hn : h.2.2.2 + 98000 ≤ nM) (kk : ∀ h2 S2, LI h2 S2 → h2.2.2.1 ≤ h.2.2.1 + 14000 → h2.2.2.2 ≤ h.2.2.2 + 98000 → XW l E mL_law d (kM - h2.2.2.1) (nM - h2.2.2.2) 3015 [(0, .ref b), (1, .ref x), (2, .ref m), (3, .ref o), (4, .int (Int32.ofNat i))] [] h2 Q) : XW l E mL_law d (kM - h.2.2.1) (nM - h.2.2.2) 3002 [(0, .ref b), (1, .ref x), (2, .ref m), (3, .ref o), (4, .int (Int32.ofNat i))] [] h Q := by
  obtain ⟨v, h1, S1, ek, ef, hE1, hB, hP⟩ := hop h S hI
  have hE := hLE h S hI
  have hB1 : h1.2.2.1 ≤ h.2.2.1 + 14000 := hB.2.1
  have hB2 : h1.2.2.2 ≤ h.2.2.2 + 98000 := hB.2.2.2
  refine xw_aload_n dL_law_3002 rfl rfl ?_
  refine lx_callV (T_X1_restore ek) lV_L_307 C_X1_restore rfl dL_law_3003 hE.2.2.1 rfl (by omega) (Nat.le_of_ble_eq_true rfl) (by show h1.2.2.1 ≤ kM; omega) (by show h1.2.2.2 ≤ nM; omega) ?_
  refine xw_aload_n dL_law_3006 rfl rfl ?_
  refine lx_callT (T_restore ef) lV_L_311 C_X4_restore rfl dL_law_3007 hE1.2.2.2.2 rfl (by omega) (Nat.le_of_ble_eq_true rfl) ?_
  intro h2 hT2 hs2
  have hE2 := hE1.same hs2 hT2
  refine xw_icmp_eq (tgt := 3015) dL_law_3010 (by decide) (fun _ => ?_) (fun z => absurd rfl z)
  have fin : LI h2 S1 := hP h2 hT2 hs2
  have hq1 : h2.2.2.1 ≤ h.2.2.1 + 14000 := by rw [hs2.1.1]; omega
  have hq2 : h2.2.2.2 ≤ h.2.2.2 + 98000 := by rw [hs2.1.1]; omega
  exact lx_lsK (kk h2 S1 fin hq1 hq2) ⟨rfl, rfl, rfl, rfl, rfl, trivial⟩
