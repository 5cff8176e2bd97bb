/-! THE MACHINE SEEN THROUGH AN ABSTRACT HEAP. XH: of each known cell its kind, its length, a tag of ours (fixed at its birth; tag 0: not ours to write); and what every place holds. XW: from here the method goes on to an end (answer or exception, and the abstract heap then) with Q. XM: a method's contract in these words. -/
abbrev XEnv : Type := State × va_G × (Nat → ClassId) × (Nat → Value)
/-- headers, contents, the next address, the slots made so far -/
abbrev XH : Type := (Nat → Option (Nat × Nat × Nat)) × (Nat → Nat → Value) × Nat × Nat
abbrev XO : Type := Option Value ⊕ (String × Nat)
abbrev XMeth : Type := MethodName × ByteArray × Nat × Option FieldType × List (Nat × Nat × Nat × Nat)
def xA (E : XEnv) : Nat → Prop := fun q => E.1.heap.size ≤ q
/-- the classes of objects, by kind -/
def xcl : List vw_C := [(RX1, TX1, 14), (RX2, TX2, 6), (RX3, TX3, 10), (RX4, TX4, 62), (RX5, TX5, 15), (RX6, TX6, 7), (RX7, TX7, 2), (RX8, TX8, 1), (RX9, TX9, 1), (RX10, TX10, 1), (RJ2, TJ2, 3), (RJ14, TJ14, 1), (RJ18, TJ18, 4), (RJ20, TJ20, 0), (RJ6, TJ6, 0)]
/-- the arrays' element types, by kind less 100 -/
def xty : Nat → FieldType := fun t => match t with
  | 0 => .int
  | 1 => .byte
  | 2 => .boolean
  | 3 => .long
  | 4 => .object "java/lang/Object"
  | 5 => .object "java/lang/String"
  | 6 => .array .int
  | _ => .object "java/lang/Integer"
def x_obj (E : XEnv) (H : Heap) (a k n : Nat) (v : Nat → Value) : Prop := ∃ r : vw_C, xcl[k]? = some r ∧ r.2.2 = n ∧ t_OB a (E.2.1.1 k) n (E.2.1.2 k) H v
def x_arr (E : XEnv) (H : Heap) (a t n : Nat) (v : Nat → Value) : Prop := ∃ cell : Cell, H[a]? = some cell ∧ E.1.isArrayOf cell (xty t) ∧ cell.vm ≠ .unknown ∧ (n ≤ cell.slots.size ∧ cell.slots.size.toInt32 = Int32.ofNat n) ∧ ∀ j, j < n → cell.slots[j]? = some (v j)
/-- a String constant (kind 90): its bytes, its coder -/
def x_str (E : XEnv) (H : Heap) (a : Nat) (v : Nat → Value) : Prop := va_O "java/lang/String" a (xA E) E.1 H ∧ va_OF "java/lang/String" "value" "[B" (v 0) a (xA E) E.1 H ∧ va_OF "java/lang/String" "coder" "B" (v 1) a (xA E) E.1 H
def x_cell (E : XEnv) (H : Heap) (a k n : Nat) (v : Nat → Value) : Prop := (k < 90 → x_obj E H a k n v) ∧ (k = 90 → x_str E H a v) ∧ (100 ≤ k → x_arr E H a (k - 100) n v) ∧ a < H.size
def XR (E : XEnv) (h : XH) (H : Heap) : Prop := H.size = h.2.2.1 ∧ ∀ a k n t, h.1 a = some (k, n, t) → x_cell E H a k n (h.2.1 a) ∧ ((t ≠ 0 → E.1.heap.size ≤ a) ∧ (100 ≤ k → t ≠ 0 ∨ k = 104 → ∃ cell, H[a]? = some cell ∧ cell.cls = E.2.2.1 (k - 100)))
/-- an array class at the start -/
def x_acl (E : XEnv) (t : Nat) : Prop := ∃ (kA : Class) (comp : ClassId), E.1.vm.classes[E.2.2.1 t]? = some kA ∧ kA.kind = .array comp (xty t) ∧ (∃ kc, E.1.vm.classes[comp]? = some kc) ∧ (t < 7 → E.1.vm.findClass ("[" ++ (xty t).toString) = some (E.2.2.1 t)) ∧ (∀ C, xty t = .object C → E.1.vm.findClass C = some comp) ∧ (t = 6 → E.1.vm.findClass "[I" = some comp)
/-- statics that are read: class, name, descriptor, what they hold -/
def xstl (E : XEnv) : List (String × String × String × Value) := [("java/lang/Integer$IntegerCache", "high", "I", .int 127), ("java/lang/Integer$IntegerCache", "cache", "[Ljava/lang/Integer;", E.2.2.2 20), ("java/util/ArrayList", "DEFAULTCAPACITY_EMPTY_ELEMENTDATA", "[Ljava/lang/Object;", E.2.2.2 21), ("java/util/ArrayList", "EMPTY_ELEMENTDATA", "[Ljava/lang/Object;", E.2.2.2 22), ("java/lang/String", "COMPACT_STRINGS", "Z", .int 1), ("java/lang/Throwable", "UNASSIGNED_STACK", "[Ljava/lang/StackTraceElement;", E.2.2.2 23), ("java/lang/Throwable", "SUPPRESSED_SENTINEL", "Ljava/util/List;", E.2.2.2 24), ("jdk/internal/util/Preconditions", "SIOOBE_FORMATTER", "Ljava/util/function/BiFunction;", E.2.2.2 25)]
/-- string constants: class, entry, text; the i-th is E.2.2.2 i -/
def xstr : List (String × Nat × String) := [("HornHouses$Reader", 33, "damp"), ("HornHouses$Reader", 35, "eases"), ("HornHouses$Reader", 37, "bursts"), ("HornHouses$Reader", 43, "heel"), ("HornHouses$Reader", 45, "size"), ("HornHouses$Reader", 47, "give"), ("HornHouses$Reader", 49, "worn"), ("HornHouses$Reader", 51, "day"), ("HornHouses$Reader", 56, "tight"), ("HornHouses$Reader", 105, ";()+-*/<="), ("HornHouses$Reader", 183, "not"), ("HornHouses$Reader", 193, "and"), ("HornHouses$Reader", 200, "or"), ("HornHouses$Reader", 263, "house"), ("HornHouses$Reader", 266, "person"), ("HornHouses$Reader", 234, "in")]
/-- what holds at the law's start, of class files and constants -/
def XOK (E : XEnv) : Prop := (∃ A : Array Value, ∀ w ∈ lw_tbl, w.before A E.1 = true) ∧ va_K E.2.1 xcl [] E.1 ∧ (∀ t, t < 8 → x_acl E t) ∧ (∀ q ∈ xstl E, va_Z q.1 q.2.1 q.2.2.1 q.2.2.2 (xA E) E.1 E.1.heap) ∧ (∀ i q, xstr[i]? = some q → ∃ a, E.2.2.2 i = .ref a ∧ vk_R q.1 q.2.1 q.2.2 a E.1) ∧ (vx_Zq Bundle.tN "UNASSIGNED_STACK" Bundle.steD (xA E) E.1 E.1.heap ∧ vx_Zq Bundle.tN "SUPPRESSED_SENTINEL" Bundle.listD (xA E) E.1 E.1.heap) ∧ (∃ a b, E.2.2.2 30 = .ref a ∧ E.2.2.2 31 = .ref b ∧ va_Mi "[Ljava/lang/Object;" a E.1 ∧ va_Mi "java/util/ArrayList" b E.1 ∧ va_Dc E.1) ∧ va_Nc "java/lang/IllegalArgumentException" "java/util/NoSuchElementException" E.1
def XCtx (l : Launch) (E : XEnv) (M : XMeth) (d : Nat) (p : Program) (R : Room) (s : State) (m : MethodId) (args : Array Value) (meth : Method) (c : Code) : Prop :=
  (l.stackTraces = false ∧ p.tables.exec = Jvm.exec ∧ c.code = M.2.1 ∧ c.maxLocals = M.2.2.1 ∧ meth.sig.returnType = M.2.2.2.1 ∧ s.vm.findClass M.1.cls = some m.cls ∧ (∀ w ∈ lw_all, w.before args s = true) ∧ meth.locks = false ∧ meth.name = M.1.name ∧ c.exceptionTable.toList = tableOf M.2.2.2.2) ∧ XOK E ∧ E.1.WarmedH s.vm ∧ va_F (xA E) E.1 s ∧ d ≤ R.frames ∧ 100 * d ≤ R.locals
section XC
variable {l : Launch} {E : XEnv} {M : XMeth} {d : Nat} {p : Program} {R : Room} {s : State} {m : MethodId} {args : Array Value} {meth : Method} {c : Code}
theorem xc_l (h : XCtx l E M d p R s m args meth c) : l.stackTraces = false := h.1.1
theorem xc_exec (h : XCtx l E M d p R s m args meth c) : p.tables.exec = Jvm.exec := h.1.2.1
theorem xc_code (h : XCtx l E M d p R s m args meth c) : c.code = M.2.1 := h.1.2.2.1
theorem xc_ml (h : XCtx l E M d p R s m args meth c) : c.maxLocals = M.2.2.1 := h.1.2.2.2.1
theorem xc_ret (h : XCtx l E M d p R s m args meth c) : meth.sig.returnType = M.2.2.2.1 := h.1.2.2.2.2.1
theorem xc_own (h : XCtx l E M d p R s m args meth c) : s.vm.findClass M.1.cls = some m.cls := h.1.2.2.2.2.2.1
theorem xc_w (h : XCtx l E M d p R s m args meth c) : ∀ w ∈ lw_all, w.before args s = true := h.1.2.2.2.2.2.2.1
theorem xc_locks (h : XCtx l E M d p R s m args meth c) : meth.locks = false := h.1.2.2.2.2.2.2.2.1
theorem xc_name (h : XCtx l E M d p R s m args meth c) : meth.name = M.1.name := h.1.2.2.2.2.2.2.2.2.1
theorem xc_tab (h : XCtx l E M d p R s m args meth c) : c.exceptionTable.toList = tableOf M.2.2.2.2 := h.1.2.2.2.2.2.2.2.2.2
theorem xc_ok (h : XCtx l E M d p R s m args meth c) : XOK E := h.2.1
theorem xc_warm (h : XCtx l E M d p R s m args meth c) : E.1.WarmedH s.vm := h.2.2.1
theorem xc_F (h : XCtx l E M d p R s m args meth c) : va_F (xA E) E.1 s := h.2.2.2.1
theorem xc_d (h : XCtx l E M d p R s m args meth c) : d ≤ R.frames := h.2.2.2.2.1
theorem xc_dl (h : XCtx l E M d p R s m args meth c) : 100 * d ≤ R.locals := h.2.2.2.2.2
theorem xc_K (h : XCtx l E M d p R s m args meth c) : va_K E.2.1 xcl [] s := va_K.moved (xc_warm h).alike (xc_ok h).2.1
end XC
/-- the value of a local -/
def xloc (ls : List (Nat × Value)) (i : Nat) : Option Value := match ls with
  | [] => none
  | q :: t => if q.1 = i then some q.2 else xloc t i
def xst (ls : List (Nat × Value)) (i : Nat) (v : Value) : List (Nat × Value) := (i, v) :: ls.filter (fun q => !(q.1 == i) && !(q.1 + 1 == i && q.2.category == 2))
def xst2 (ls : List (Nat × Value)) (i : Nat) (v : Value) : List (Nat × Value) := (i, v) :: ls.filter (fun q => !(q.1 == i) && (!(q.1 == i + 1) && !(q.1 + 1 == i && q.2.category == 2)))
def xisr (v : Value) : Bool := match v with
  | .ref _ => true
  | .null => true
  | _ => false
theorem xloc_mem {ls : List (Nat × Value)} {i : Nat} {v : Value} (h : xloc ls i = some v) : (i, v) ∈ ls := by
  induction ls with
  | nil => cases h
  | cons q t ih =>
    unfold xloc at h
    split at h
    · rename_i e
      cases h
      subst e
      exact List.mem_cons_self
    · exact List.mem_cons_of_mem _ (ih h)
theorem xloc_at {la : Array Slot} {nL : Nat} {ls : List (Nat × Value)} (h : lv_has la nL ls) {i : Nat} {v : Value} (hi : xloc ls i = some v) : la[i]? = some (.val v) := h.2.2 (i, v) (xloc_mem hi)
theorem xloc_ix {ls : List (Nat × Value)} {i : Nat} {v : Value} (h : xloc ls i = some v) : ∃ k : Nat, ls[k]? = some (i, v) := List.getElem?_of_mem (xloc_mem h)
/-- the named values of L are among ls -/
def xsub (L ls : List (Nat × Value)) : Prop := match L with
  | [] => True
  | q :: t => xloc ls q.1 = some q.2 ∧ xsub t ls
theorem xsub_mem {L ls : List (Nat × Value)} (h : xsub L ls) : ∀ q ∈ L, q ∈ ls := by
  induction L with
  | nil => intro q hq; cases hq
  | cons a t ih =>
    intro q hq
    rcases List.mem_cons.mp hq with rfl | hq
    · exact xloc_mem h.1
    · exact ih h.2 q hq
theorem xsub_has {la : Array Slot} {nL : Nat} {ls L : List (Nat × Value)} (h : lv_has la nL ls) (hs : xsub L ls) : lv_has la nL L := ⟨h.1, h.2.1, fun q hq => h.2.2 q (xsub_mem hs q hq)⟩
/-- at an end with an answer -/
def xRet (M : XMeth) (pc : Nat) (v : Option Value) : Prop := match v with
  | none => decode M.2.1 pc = .ok (.return_, 1) ∧ M.2.2.2.1 = none
  | some (.int x) => decode M.2.1 pc = .ok (.ireturn, 1) ∧ ∃ ty, M.2.2.2.1 = some ty ∧ narrow ty (.int x) = .int x
  | some (.long _) => decode M.2.1 pc = .ok (.lreturn, 1) ∧ M.2.2.2.1 = some .long
  | some w => decode M.2.1 pc = .ok (.areturn, 1) ∧ xisr w = true ∧ ∃ rt, M.2.2.2.1 = some rt ∧ ((∃ nm, rt = .object nm) ∨ ∃ t, rt = .array t)
def XGoal (p : Program) (l : Launch) (e : Env) (R : Room) (s : State) (m : MethodId) (args : Array Value) (below : List Frame) (meth : Method) (c : Code) (E : XEnv) (M : XMeth) (kc ks : Nat) (Z : State → Prop) (Q : XO → XH → Prop) : Prop :=
  (∀ (v : Option Value) (h : XH) (H : Heap) (locs : List Loc) (cells slots pc : Nat) (la : Array Slot), Q (.inl v) h → XR E h H → va_S (xA E) s.heap H locs → cells ≤ kc → slots ≤ ks → xRet M pc v → W p l e R s m args below meth c H locs cells slots Z (F0 m pc la v.toList)) ∧
  (∀ (C : String) (q : Nat) (h : XH) (H : Heap) (locs : List Loc) (cells slots pc : Nat) (la : Array Slot) (st : List Value) (ce : Cell), Q (.inr (C, q)) h → XR E h H → va_S (xA E) s.heap H locs → cells ≤ kc → slots ≤ ks → H[q]? = some ce → ce.vm = .none → s.vm.findClass C = some ce.cls → (∀ x ∈ tableOf M.2.2.2.2, covers x pc = false) → vx_W p l e R s m args below meth c H locs cells slots Z (F0 m pc la st) q)
def XW (l : Launch) (E : XEnv) (M : XMeth) (d k n : Nat) (pc : Nat) (ls : List (Nat × Value)) (st : List Value) (h : XH) (Q : XO → XH → Prop) : Prop :=
  ∀ (p : Program) (e : Env) (R : Room) (s : State) (m : MethodId) (args : Array Value) (below : List Frame) (meth : Method) (c : Code) (H : Heap) (locs : List Loc) (cells slots kc ks : Nat) (Z : State → Prop) (la : Array Slot),
    XCtx l E M d p R s m args meth c → kc ≤ R.cells → ks ≤ R.slots → cells + k ≤ kc → slots + n ≤ ks → XR E h H → va_S (xA E) s.heap H locs → lv_has la M.2.2.1 ls → XGoal p l e R s m args below meth c E M kc ks Z Q →
    W p l e R s m args below meth c H locs cells slots Z (F0 m pc la st)
/-- q of the class C is thrown at pc -/
def XT (l : Launch) (E : XEnv) (M : XMeth) (d k n : Nat) (pc : Nat) (ls : List (Nat × Value)) (C : String) (q : Nat) (h : XH) (Q : XO → XH → Prop) : Prop :=
  ∀ (p : Program) (e : Env) (R : Room) (s : State) (m : MethodId) (args : Array Value) (below : List Frame) (meth : Method) (c : Code) (H : Heap) (locs : List Loc) (cells slots kc ks : Nat) (Z : State → Prop) (la : Array Slot) (st : List Value) (ce : Cell),
    XCtx l E M d p R s m args meth c → kc ≤ R.cells → ks ≤ R.slots → cells + k ≤ kc → slots + n ≤ ks → XR E h H → va_S (xA E) s.heap H locs → lv_has la M.2.2.1 ls → XGoal p l e R s m args below meth c E M kc ks Z Q →
    H[q]? = some ce → ce.vm = .none → s.vm.findClass C = some ce.cls → vx_W p l e R s m args below meth c H locs cells slots Z (F0 m pc la st) q
/-- the abstract heap with one place written -/
def xup (h : XH) (a i : Nat) (v : Value) : XH := (h.1, fun b j => if b = a ∧ j = i then v else h.2.1 b j, h.2.2)
/-- the abstract heap with a new cell of N slots -/
def xnew (h : XH) (k n t N : Nat) (f : Nat → Value) : XH := (fun b => if b = h.2.2.1 then some (k, n, t) else h.1 b, fun b j => if b = h.2.2.1 then f j else h.2.1 b j, h.2.2.1 + 1, h.2.2.2 + N)
section XROWS
variable {l : Launch} {E : XEnv} {M : XMeth} {d k n : Nat} {pc : Nat} {ls : List (Nat × Value)} {st : List Value} {h : XH} {Q : XO → XH → Prop}
theorem xw_iconst {z : Int} {v : Int32} (hd : decode M.2.1 pc = .ok (.iconst z, 1)) (hv : Int32.ofInt z = v) (kk : XW l E M d k n (pc + 1) ls (.int v :: st) h Q) : XW l E M d k n (pc) ls (st) h Q := by
  intro p e R s m args below meth c H locs cells slots kc ks Z la hC h1 h2 h3 h4 hR hS hl hG
  exact lv_iconst (xc_exec hC) (xc_code hC) hd hv (kk p e R s m args below meth c H locs cells slots kc ks Z la hC h1 h2 h3 h4 hR hS hl hG)
theorem xw_bipush {z : Int} {v : Int32} (hd : decode M.2.1 pc = .ok (.bipush z, 2)) (hv : (Int8.ofInt z).toInt32 = v) (kk : XW l E M d k n (pc + 2) ls (.int v :: st) h Q) : XW l E M d k n (pc) ls (st) h Q := by
  intro p e R s m args below meth c H locs cells slots kc ks Z la hC h1 h2 h3 h4 hR hS hl hG
  exact lv_bipush (xc_exec hC) (xc_code hC) hd hv (kk p e R s m args below meth c H locs cells slots kc ks Z la hC h1 h2 h3 h4 hR hS hl hG)
theorem xw_sipush {z : Int} {v : Int32} (hd : decode M.2.1 pc = .ok (.sipush z, 3)) (hv : (Int16.ofInt z).toInt32 = v) (kk : XW l E M d k n (pc + 3) ls (.int v :: st) h Q) : XW l E M d k n (pc) ls (st) h Q := by
  intro p e R s m args below meth c H locs cells slots kc ks Z la hC h1 h2 h3 h4 hR hS hl hG
  exact lv_sipush (xc_exec hC) (xc_code hC) hd hv (kk p e R s m args below meth c H locs cells slots kc ks Z la hC h1 h2 h3 h4 hR hS hl hG)
theorem xw_lconst {z : Fin 2} {v : Int64} (hd : decode M.2.1 pc = .ok (.lconst z, 1)) (hv : Int64.ofNat (z : Nat) = v) (kk : XW l E M d k n (pc + 1) ls (.long v :: st) h Q) : XW l E M d k n (pc) ls (st) h Q := by
  intro p e R s m args below meth c H locs cells slots kc ks Z la hC h1 h2 h3 h4 hR hS hl hG
  exact lv_lconst (xc_exec hC) (xc_code hC) hd hv (kk p e R s m args below meth c H locs cells slots kc ks Z la hC h1 h2 h3 h4 hR hS hl hG)
theorem xw_ldc {i : Nat} {v : Int32} (hw : Cond.constant M.1.cls i v ∈ lw_all) (hd : decode M.2.1 pc = .ok (.ldc i, 2)) (kk : XW l E M d k n (pc + 2) ls (.int v :: st) h Q) : XW l E M d k n (pc) ls (st) h Q := by
  intro p e R s m args below meth c H locs cells slots kc ks Z la hC h1 h2 h3 h4 hR hS hl hG
  exact lv_ldc (xc_exec hC) (xc_code hC) (xc_own hC) (xc_w hC _ hw) hd (kk p e R s m args below meth c H locs cells slots kc ks Z la hC h1 h2 h3 h4 hR hS hl hG)
theorem xw_ldcw {i : Nat} {v : Int32} (hw : Cond.constant M.1.cls i v ∈ lw_all) (hd : decode M.2.1 pc = .ok (.ldc_w i, 3)) (kk : XW l E M d k n (pc + 3) ls (.int v :: st) h Q) : XW l E M d k n (pc) ls (st) h Q := by
  intro p e R s m args below meth c H locs cells slots kc ks Z la hC h1 h2 h3 h4 hR hS hl hG
  exact lv_ldcw (xc_exec hC) (xc_code hC) (xc_own hC) (xc_w hC _ hw) hd (kk p e R s m args below meth c H locs cells slots kc ks Z la hC h1 h2 h3 h4 hR hS hl hG)
theorem xw_ldc2 {i : Nat} {v : Int64} (hw : Cond.constantLong M.1.cls i v ∈ lw_all) (hd : decode M.2.1 pc = .ok (.ldc2_w i, 3)) (kk : XW l E M d k n (pc + 3) ls (.long v :: st) h Q) : XW l E M d k n (pc) ls (st) h Q := by
  intro p e R s m args below meth c H locs cells slots kc ks Z la hC h1 h2 h3 h4 hR hS hl hG
  exact lv_ldc2 (xc_exec hC) (xc_code hC) (xc_own hC) (xc_w hC _ hw) hd (kk p e R s m args below meth c H locs cells slots kc ks Z la hC h1 h2 h3 h4 hR hS hl hG)
theorem xw_null  (hd : decode M.2.1 pc = .ok (.aconst_null, 1)) (kk : XW l E M d k n (pc + 1) ls (.null :: st) h Q) : XW l E M d k n (pc) ls (st) h Q := by
  intro p e R s m args below meth c H locs cells slots kc ks Z la hC h1 h2 h3 h4 hR hS hl hG
  exact lv_null (xc_exec hC) (xc_code hC) hd (kk p e R s m args below meth c H locs cells slots kc ks Z la hC h1 h2 h3 h4 hR hS hl hG)
theorem xw_iload_n {j : Fin 4} {x : Int32} (hd : decode M.2.1 pc = .ok (.iload_n j, 1)) (hj : xloc ls j.val = some (.int x)) (kk : XW l E M d k n (pc + 1) ls (.int x :: st) h Q) : XW l E M d k n (pc) ls (st) h Q := by
  intro p e R s m args below meth c H locs cells slots kc ks Z la hC h1 h2 h3 h4 hR hS hl hG
  exact lv_iload_n (xc_exec hC) (xc_code hC) hd rfl (xloc_at hl hj) (kk p e R s m args below meth c H locs cells slots kc ks Z la hC h1 h2 h3 h4 hR hS hl hG)
theorem xw_iload {j : Nat} {x : Int32} (hd : decode M.2.1 pc = .ok (.iload j, 2)) (hj : xloc ls j = some (.int x)) (kk : XW l E M d k n (pc + 2) ls (.int x :: st) h Q) : XW l E M d k n (pc) ls (st) h Q := by
  intro p e R s m args below meth c H locs cells slots kc ks Z la hC h1 h2 h3 h4 hR hS hl hG
  exact lv_iload (xc_exec hC) (xc_code hC) hd (xloc_at hl hj) (kk p e R s m args below meth c H locs cells slots kc ks Z la hC h1 h2 h3 h4 hR hS hl hG)
theorem xw_lload_n {j : Fin 4} {x : Int64} (hd : decode M.2.1 pc = .ok (.lload_n j, 1)) (hj : xloc ls j.val = some (.long x)) (kk : XW l E M d k n (pc + 1) ls (.long x :: st) h Q) : XW l E M d k n (pc) ls (st) h Q := by
  intro p e R s m args below meth c H locs cells slots kc ks Z la hC h1 h2 h3 h4 hR hS hl hG
  exact lv_lload_n (xc_exec hC) (xc_code hC) hd rfl (xloc_at hl hj) (kk p e R s m args below meth c H locs cells slots kc ks Z la hC h1 h2 h3 h4 hR hS hl hG)
theorem xw_lload {j : Nat} {x : Int64} (hd : decode M.2.1 pc = .ok (.lload j, 2)) (hj : xloc ls j = some (.long x)) (kk : XW l E M d k n (pc + 2) ls (.long x :: st) h Q) : XW l E M d k n (pc) ls (st) h Q := by
  intro p e R s m args below meth c H locs cells slots kc ks Z la hC h1 h2 h3 h4 hR hS hl hG
  exact lv_lload (xc_exec hC) (xc_code hC) hd (xloc_at hl hj) (kk p e R s m args below meth c H locs cells slots kc ks Z la hC h1 h2 h3 h4 hR hS hl hG)
theorem xw_aload_n {j : Fin 4} {v : Value} (hd : decode M.2.1 pc = .ok (.aload_n j, 1)) (hj : xloc ls j.val = some v) (hv : xisr v = true) (kk : XW l E M d k n (pc + 1) ls (v :: st) h Q) : XW l E M d k n (pc) ls (st) h Q := by
  intro p e R s m args below meth c H locs cells slots kc ks Z la hC h1 h2 h3 h4 hR hS hl hG
  cases v <;> first | (exact lv_aload_n (xc_exec hC) (xc_code hC) hd rfl (xloc_at hl hj) (kk p e R s m args below meth c H locs cells slots kc ks Z la hC h1 h2 h3 h4 hR hS hl hG)) | (exact lv_aload_nN (xc_exec hC) (xc_code hC) hd rfl (xloc_at hl hj) (kk p e R s m args below meth c H locs cells slots kc ks Z la hC h1 h2 h3 h4 hR hS hl hG)) | (cases hv)
theorem xw_aload {j : Nat} {v : Value} (hd : decode M.2.1 pc = .ok (.aload j, 2)) (hj : xloc ls j = some v) (hv : xisr v = true) (kk : XW l E M d k n (pc + 2) ls (v :: st) h Q) : XW l E M d k n (pc) ls (st) h Q := by
  intro p e R s m args below meth c H locs cells slots kc ks Z la hC h1 h2 h3 h4 hR hS hl hG
  cases v <;> first | (exact lv_aload (xc_exec hC) (xc_code hC) hd (xloc_at hl hj) (kk p e R s m args below meth c H locs cells slots kc ks Z la hC h1 h2 h3 h4 hR hS hl hG)) | (exact lv_aloadN (xc_exec hC) (xc_code hC) hd (xloc_at hl hj) (kk p e R s m args below meth c H locs cells slots kc ks Z la hC h1 h2 h3 h4 hR hS hl hG)) | (cases hv)
theorem xw_istore_n {j : Fin 4} {x : Int32} (hd : decode M.2.1 pc = .ok (.istore_n j, 1)) (hj : j.val < M.2.2.1) (kk : XW l E M d k n (pc + 1) (xst ls j.val (.int x)) (st) h Q) : XW l E M d k n (pc) ls (.int x :: st) h Q := by
  intro p e R s m args below meth c H locs cells slots kc ks Z la hC h1 h2 h3 h4 hR hS hl hG
  exact lv_istore_n (xc_exec hC) (xc_code hC) hd rfl hl hj rfl (fun la' hl' => kk p e R s m args below meth c H locs cells slots kc ks Z la' hC h1 h2 h3 h4 hR hS hl' hG)
theorem xw_istore {j : Nat} {x : Int32} (hd : decode M.2.1 pc = .ok (.istore j, 2)) (hj : j < M.2.2.1) (kk : XW l E M d k n (pc + 2) (xst ls j (.int x)) (st) h Q) : XW l E M d k n (pc) ls (.int x :: st) h Q := by
  intro p e R s m args below meth c H locs cells slots kc ks Z la hC h1 h2 h3 h4 hR hS hl hG
  exact lv_istore (xc_exec hC) (xc_code hC) hd hl hj rfl (fun la' hl' => kk p e R s m args below meth c H locs cells slots kc ks Z la' hC h1 h2 h3 h4 hR hS hl' hG)
theorem xw_lstore_n {j : Fin 4} {x : Int64} (hd : decode M.2.1 pc = .ok (.lstore_n j, 1)) (hj : j.val + 1 < M.2.2.1) (kk : XW l E M d k n (pc + 1) (xst2 ls j.val (.long x)) (st) h Q) : XW l E M d k n (pc) ls (.long x :: st) h Q := by
  intro p e R s m args below meth c H locs cells slots kc ks Z la hC h1 h2 h3 h4 hR hS hl hG
  exact lv_lstore_n (xc_exec hC) (xc_code hC) hd rfl hl hj rfl (fun la' hl' => kk p e R s m args below meth c H locs cells slots kc ks Z la' hC h1 h2 h3 h4 hR hS hl' hG)
theorem xw_lstore {j : Nat} {x : Int64} (hd : decode M.2.1 pc = .ok (.lstore j, 2)) (hj : j + 1 < M.2.2.1) (kk : XW l E M d k n (pc + 2) (xst2 ls j (.long x)) (st) h Q) : XW l E M d k n (pc) ls (.long x :: st) h Q := by
  intro p e R s m args below meth c H locs cells slots kc ks Z la hC h1 h2 h3 h4 hR hS hl hG
  exact lv_lstore (xc_exec hC) (xc_code hC) hd hl hj rfl (fun la' hl' => kk p e R s m args below meth c H locs cells slots kc ks Z la' hC h1 h2 h3 h4 hR hS hl' hG)
theorem xw_astore_n {j : Fin 4} {v : Value} (hd : decode M.2.1 pc = .ok (.astore_n j, 1)) (hj : j.val < M.2.2.1) (hv : xisr v = true) (kk : XW l E M d k n (pc + 1) (xst ls j.val v) (st) h Q) : XW l E M d k n (pc) ls (v :: st) h Q := by
  intro p e R s m args below meth c H locs cells slots kc ks Z la hC h1 h2 h3 h4 hR hS hl hG
  cases v <;> first | (exact lv_astore_n (xc_exec hC) (xc_code hC) hd rfl hl hj rfl (fun la' hl' => kk p e R s m args below meth c H locs cells slots kc ks Z la' hC h1 h2 h3 h4 hR hS hl' hG)) | (exact lv_astore_nN (xc_exec hC) (xc_code hC) hd rfl hl hj rfl (fun la' hl' => kk p e R s m args below meth c H locs cells slots kc ks Z la' hC h1 h2 h3 h4 hR hS hl' hG)) | (cases hv)
theorem xw_astore {j : Nat} {v : Value} (hd : decode M.2.1 pc = .ok (.astore j, 2)) (hj : j < M.2.2.1) (hv : xisr v = true) (kk : XW l E M d k n (pc + 2) (xst ls j v) (st) h Q) : XW l E M d k n (pc) ls (v :: st) h Q := by
  intro p e R s m args below meth c H locs cells slots kc ks Z la hC h1 h2 h3 h4 hR hS hl hG
  cases v <;> first | (exact lv_astore (xc_exec hC) (xc_code hC) hd hl hj rfl (fun la' hl' => kk p e R s m args below meth c H locs cells slots kc ks Z la' hC h1 h2 h3 h4 hR hS hl' hG)) | (exact lv_astoreN (xc_exec hC) (xc_code hC) hd hl hj rfl (fun la' hl' => kk p e R s m args below meth c H locs cells slots kc ks Z la' hC h1 h2 h3 h4 hR hS hl' hG)) | (cases hv)
theorem xw_iinc {j : Nat} {z : Int} {x v : Int32} (hd : decode M.2.1 pc = .ok (.iinc j z, 3)) (hj : xloc ls j = some (.int x)) (hn : j < M.2.2.1) (hv : x + Int32.ofInt z = v) (kk : XW l E M d k n (pc + 3) (xst ls j (.int v)) (st) h Q) : XW l E M d k n (pc) ls (st) h Q := by
  intro p e R s m args below meth c H locs cells slots kc ks Z la hC h1 h2 h3 h4 hR hS hl hG
  obtain ⟨i, hi⟩ := xloc_ix hj
  exact lv_iinc (xc_exec hC) (xc_code hC) hd hl hi hv hn rfl (fun la' hl' => kk p e R s m args below meth c H locs cells slots kc ks Z la' hC h1 h2 h3 h4 hR hS hl' hG)
theorem xw_iadd {x y : Int32} (hd : decode M.2.1 pc = .ok (.iadd, 1)) (kk : XW l E M d k n (pc + 1) ls (.int (x + y) :: st) h Q) : XW l E M d k n (pc) ls (.int y :: .int x :: st) h Q := by
  intro p e R s m args below meth c H locs cells slots kc ks Z la hC h1 h2 h3 h4 hR hS hl hG
  exact lv_iadd (xc_exec hC) (xc_code hC) hd (kk p e R s m args below meth c H locs cells slots kc ks Z la hC h1 h2 h3 h4 hR hS hl hG)
theorem xw_isub {x y : Int32} (hd : decode M.2.1 pc = .ok (.isub, 1)) (kk : XW l E M d k n (pc + 1) ls (.int (x - y) :: st) h Q) : XW l E M d k n (pc) ls (.int y :: .int x :: st) h Q := by
  intro p e R s m args below meth c H locs cells slots kc ks Z la hC h1 h2 h3 h4 hR hS hl hG
  exact lv_isub (xc_exec hC) (xc_code hC) hd (kk p e R s m args below meth c H locs cells slots kc ks Z la hC h1 h2 h3 h4 hR hS hl hG)
theorem xw_imul {x y : Int32} (hd : decode M.2.1 pc = .ok (.imul, 1)) (kk : XW l E M d k n (pc + 1) ls (.int (x * y) :: st) h Q) : XW l E M d k n (pc) ls (.int y :: .int x :: st) h Q := by
  intro p e R s m args below meth c H locs cells slots kc ks Z la hC h1 h2 h3 h4 hR hS hl hG
  exact lv_imul (xc_exec hC) (xc_code hC) hd (kk p e R s m args below meth c H locs cells slots kc ks Z la hC h1 h2 h3 h4 hR hS hl hG)
theorem xw_iand {x y : Int32} (hd : decode M.2.1 pc = .ok (.iand, 1)) (kk : XW l E M d k n (pc + 1) ls (.int (x &&& y) :: st) h Q) : XW l E M d k n (pc) ls (.int y :: .int x :: st) h Q := by
  intro p e R s m args below meth c H locs cells slots kc ks Z la hC h1 h2 h3 h4 hR hS hl hG
  exact lv_iand (xc_exec hC) (xc_code hC) hd (kk p e R s m args below meth c H locs cells slots kc ks Z la hC h1 h2 h3 h4 hR hS hl hG)
theorem xw_ior {x y : Int32} (hd : decode M.2.1 pc = .ok (.ior, 1)) (kk : XW l E M d k n (pc + 1) ls (.int (x ||| y) :: st) h Q) : XW l E M d k n (pc) ls (.int y :: .int x :: st) h Q := by
  intro p e R s m args below meth c H locs cells slots kc ks Z la hC h1 h2 h3 h4 hR hS hl hG
  exact lv_ior (xc_exec hC) (xc_code hC) hd (kk p e R s m args below meth c H locs cells slots kc ks Z la hC h1 h2 h3 h4 hR hS hl hG)
theorem xw_ixor {x y : Int32} (hd : decode M.2.1 pc = .ok (.ixor, 1)) (kk : XW l E M d k n (pc + 1) ls (.int (x ^^^ y) :: st) h Q) : XW l E M d k n (pc) ls (.int y :: .int x :: st) h Q := by
  intro p e R s m args below meth c H locs cells slots kc ks Z la hC h1 h2 h3 h4 hR hS hl hG
  exact lv_ixor (xc_exec hC) (xc_code hC) hd (kk p e R s m args below meth c H locs cells slots kc ks Z la hC h1 h2 h3 h4 hR hS hl hG)
theorem xw_ishl {x y : Int32} (hd : decode M.2.1 pc = .ok (.ishl, 1)) (kk : XW l E M d k n (pc + 1) ls (.int (x <<< (y &&& 31)) :: st) h Q) : XW l E M d k n (pc) ls (.int y :: .int x :: st) h Q := by
  intro p e R s m args below meth c H locs cells slots kc ks Z la hC h1 h2 h3 h4 hR hS hl hG
  exact lv_ishl (xc_exec hC) (xc_code hC) hd (kk p e R s m args below meth c H locs cells slots kc ks Z la hC h1 h2 h3 h4 hR hS hl hG)
theorem xw_ishr {x y : Int32} (hd : decode M.2.1 pc = .ok (.ishr, 1)) (kk : XW l E M d k n (pc + 1) ls (.int (x >>> (y &&& 31)) :: st) h Q) : XW l E M d k n (pc) ls (.int y :: .int x :: st) h Q := by
  intro p e R s m args below meth c H locs cells slots kc ks Z la hC h1 h2 h3 h4 hR hS hl hG
  exact lv_ishr (xc_exec hC) (xc_code hC) hd (kk p e R s m args below meth c H locs cells slots kc ks Z la hC h1 h2 h3 h4 hR hS hl hG)
theorem xw_idiv {x y : Int32} (hd : decode M.2.1 pc = .ok (.idiv, 1)) (hz : ¬ y = 0) (kk : XW l E M d k n (pc + 1) ls (.int (x / y) :: st) h Q) : XW l E M d k n (pc) ls (.int y :: .int x :: st) h Q := by
  intro p e R s m args below meth c H locs cells slots kc ks Z la hC h1 h2 h3 h4 hR hS hl hG
  exact lv_idiv (xc_exec hC) (xc_code hC) hd hz (kk p e R s m args below meth c H locs cells slots kc ks Z la hC h1 h2 h3 h4 hR hS hl hG)
theorem xw_irem {x y : Int32} (hd : decode M.2.1 pc = .ok (.irem, 1)) (hz : ¬ y = 0) (kk : XW l E M d k n (pc + 1) ls (.int (x - x / y * y) :: st) h Q) : XW l E M d k n (pc) ls (.int y :: .int x :: st) h Q := by
  intro p e R s m args below meth c H locs cells slots kc ks Z la hC h1 h2 h3 h4 hR hS hl hG
  exact lv_irem (xc_exec hC) (xc_code hC) hd hz (kk p e R s m args below meth c H locs cells slots kc ks Z la hC h1 h2 h3 h4 hR hS hl hG)
theorem xw_iushr {x y v : Int32} (hd : decode M.2.1 pc = .ok (.iushr, 1)) (hv : (x.toUInt32 >>> (y.toUInt32 &&& Int32.toUInt32 31)).toInt32 = v) (kk : XW l E M d k n (pc + 1) ls (.int v :: st) h Q) : XW l E M d k n (pc) ls (.int y :: .int x :: st) h Q := by
  intro p e R s m args below meth c H locs cells slots kc ks Z la hC h1 h2 h3 h4 hR hS hl hG
  exact lv_iushr (xc_exec hC) (xc_code hC) hd hv (kk p e R s m args below meth c H locs cells slots kc ks Z la hC h1 h2 h3 h4 hR hS hl hG)
theorem xw_ineg {x : Int32} (hd : decode M.2.1 pc = .ok (.ineg, 1)) (kk : XW l E M d k n (pc + 1) ls (.int (-x) :: st) h Q) : XW l E M d k n (pc) ls (.int x :: st) h Q := by
  intro p e R s m args below meth c H locs cells slots kc ks Z la hC h1 h2 h3 h4 hR hS hl hG
  exact lv_ineg (xc_exec hC) (xc_code hC) hd (kk p e R s m args below meth c H locs cells slots kc ks Z la hC h1 h2 h3 h4 hR hS hl hG)
theorem xw_lsub {x y : Int64} (hd : decode M.2.1 pc = .ok (.lsub, 1)) (kk : XW l E M d k n (pc + 1) ls (.long (x - y) :: st) h Q) : XW l E M d k n (pc) ls (.long y :: .long x :: st) h Q := by
  intro p e R s m args below meth c H locs cells slots kc ks Z la hC h1 h2 h3 h4 hR hS hl hG
  exact lv_lsub (xc_exec hC) (xc_code hC) hd (kk p e R s m args below meth c H locs cells slots kc ks Z la hC h1 h2 h3 h4 hR hS hl hG)
theorem xw_lor {x y : Int64} (hd : decode M.2.1 pc = .ok (.lor, 1)) (kk : XW l E M d k n (pc + 1) ls (.long (x ||| y) :: st) h Q) : XW l E M d k n (pc) ls (.long y :: .long x :: st) h Q := by
  intro p e R s m args below meth c H locs cells slots kc ks Z la hC h1 h2 h3 h4 hR hS hl hG
  exact lv_lor (xc_exec hC) (xc_code hC) hd (kk p e R s m args below meth c H locs cells slots kc ks Z la hC h1 h2 h3 h4 hR hS hl hG)
theorem xw_ladd {x y : Int64} (hd : decode M.2.1 pc = .ok (.ladd, 1)) (kk : XW l E M d k n (pc + 1) ls (.long (x + y) :: st) h Q) : XW l E M d k n (pc) ls (.long y :: .long x :: st) h Q := by
  intro p e R s m args below meth c H locs cells slots kc ks Z la hC h1 h2 h3 h4 hR hS hl hG
  exact lv_ladd (xc_exec hC) (xc_code hC) hd (kk p e R s m args below meth c H locs cells slots kc ks Z la hC h1 h2 h3 h4 hR hS hl hG)
theorem xw_lshl {x : Int64} {y : Int32} (hd : decode M.2.1 pc = .ok (.lshl, 1)) (kk : XW l E M d k n (pc + 1) ls (.long (x <<< (y.toInt64 &&& 63)) :: st) h Q) : XW l E M d k n (pc) ls (.int y :: .long x :: st) h Q := by
  intro p e R s m args below meth c H locs cells slots kc ks Z la hC h1 h2 h3 h4 hR hS hl hG
  exact lv_lshl (xc_exec hC) (xc_code hC) hd rfl (kk p e R s m args below meth c H locs cells slots kc ks Z la hC h1 h2 h3 h4 hR hS hl hG)
theorem xw_i2l {x : Int32} (hd : decode M.2.1 pc = .ok (.i2l, 1)) (kk : XW l E M d k n (pc + 1) ls (.long x.toInt64 :: st) h Q) : XW l E M d k n (pc) ls (.int x :: st) h Q := by
  intro p e R s m args below meth c H locs cells slots kc ks Z la hC h1 h2 h3 h4 hR hS hl hG
  exact lv_i2l (xc_exec hC) (xc_code hC) hd rfl (kk p e R s m args below meth c H locs cells slots kc ks Z la hC h1 h2 h3 h4 hR hS hl hG)
theorem xw_i2b {x : Int32} (hd : decode M.2.1 pc = .ok (.i2b, 1)) (kk : XW l E M d k n (pc + 1) ls (.int x.toInt8.toInt32 :: st) h Q) : XW l E M d k n (pc) ls (.int x :: st) h Q := by
  intro p e R s m args below meth c H locs cells slots kc ks Z la hC h1 h2 h3 h4 hR hS hl hG
  exact lv_i2b (xc_exec hC) (xc_code hC) hd rfl (kk p e R s m args below meth c H locs cells slots kc ks Z la hC h1 h2 h3 h4 hR hS hl hG)
theorem xw_i2c {x : Int32} (hd : decode M.2.1 pc = .ok (.i2c, 1)) (kk : XW l E M d k n (pc + 1) ls (.int (x.toUInt32 % 65536).toInt32 :: st) h Q) : XW l E M d k n (pc) ls (.int x :: st) h Q := by
  intro p e R s m args below meth c H locs cells slots kc ks Z la hC h1 h2 h3 h4 hR hS hl hG
  exact lv_i2c (xc_exec hC) (xc_code hC) hd rfl (kk p e R s m args below meth c H locs cells slots kc ks Z la hC h1 h2 h3 h4 hR hS hl hG)
theorem xw_lcmp {x y : Int64} (hd : decode M.2.1 pc = .ok (.lcmp, 1)) (kk : XW l E M d k n (pc + 1) ls (.int (lg_cmp x y) :: st) h Q) : XW l E M d k n (pc) ls (.long y :: .long x :: st) h Q := by
  intro p e R s m args below meth c H locs cells slots kc ks Z la hC h1 h2 h3 h4 hR hS hl hG
  exact W.lcmp (xc_exec hC) (xc_code hC) hd (kk p e R s m args below meth c H locs cells slots kc ks Z la hC h1 h2 h3 h4 hR hS hl hG)
theorem xw_dup {v : Value} (hd : decode M.2.1 pc = .ok (.dup, 1)) (hv : v.category = 1) (kk : XW l E M d k n (pc + 1) ls (v :: v :: st) h Q) : XW l E M d k n (pc) ls (v :: st) h Q := by
  intro p e R s m args below meth c H locs cells slots kc ks Z la hC h1 h2 h3 h4 hR hS hl hG
  exact lv_dup (xc_exec hC) (xc_code hC) hd hv (kk p e R s m args below meth c H locs cells slots kc ks Z la hC h1 h2 h3 h4 hR hS hl hG)
theorem xw_pop {v : Value} (hd : decode M.2.1 pc = .ok (.pop, 1)) (hv : v.category = 1) (kk : XW l E M d k n (pc + 1) ls (st) h Q) : XW l E M d k n (pc) ls (v :: st) h Q := by
  intro p e R s m args below meth c H locs cells slots kc ks Z la hC h1 h2 h3 h4 hR hS hl hG
  exact lv_pop (xc_exec hC) (xc_code hC) hd hv (kk p e R s m args below meth c H locs cells slots kc ks Z la hC h1 h2 h3 h4 hR hS hl hG)
theorem xw_dup_x1 {v w : Value} (hd : decode M.2.1 pc = .ok (.dup_x1, 1)) (hv : v.category = 1) (hw : w.category = 1) (kk : XW l E M d k n (pc + 1) ls (v :: w :: v :: st) h Q) : XW l E M d k n (pc) ls (v :: w :: st) h Q := by
  intro p e R s m args below meth c H locs cells slots kc ks Z la hC h1 h2 h3 h4 hR hS hl hG
  exact lv_dup_x1 (xc_exec hC) (xc_code hC) hd hv hw (kk p e R s m args below meth c H locs cells slots kc ks Z la hC h1 h2 h3 h4 hR hS hl hG)
theorem xw_dup2 {v w : Value} (hd : decode M.2.1 pc = .ok (.dup2, 1)) (hv : v.category = 1) (hw : w.category = 1) (kk : XW l E M d k n (pc + 1) ls (v :: w :: v :: w :: st) h Q) : XW l E M d k n (pc) ls (v :: w :: st) h Q := by
  intro p e R s m args below meth c H locs cells slots kc ks Z la hC h1 h2 h3 h4 hR hS hl hG
  exact lv_dup2_11 (xc_exec hC) (xc_code hC) hd hv hw (kk p e R s m args below meth c H locs cells slots kc ks Z la hC h1 h2 h3 h4 hR hS hl hG)
theorem xw_if_eq {x : Int32} {off : Int} {tgt : Nat} (hd : decode M.2.1 pc = .ok (.ifCond .eq off, 3)) (ht : (pc : Int) + off = (tgt : Int)) (kt : x = 0 → XW l E M d k n (tgt) ls (st) h Q) (kf : ¬ x = 0 → XW l E M d k n (pc + 3) ls (st) h Q) : XW l E M d k n (pc) ls (.int x :: st) h Q := by
  intro p e R s m args below meth c H locs cells slots kc ks Z la hC h1 h2 h3 h4 hR hS hl hG
  exact lv_if_eq (xc_exec hC) (xc_code hC) hd ht (fun z => (kt z) p e R s m args below meth c H locs cells slots kc ks Z la hC h1 h2 h3 h4 hR hS hl hG) (fun z => (kf z) p e R s m args below meth c H locs cells slots kc ks Z la hC h1 h2 h3 h4 hR hS hl hG)
theorem xw_if_ne {x : Int32} {off : Int} {tgt : Nat} (hd : decode M.2.1 pc = .ok (.ifCond .ne off, 3)) (ht : (pc : Int) + off = (tgt : Int)) (kt : x ≠ 0 → XW l E M d k n (tgt) ls (st) h Q) (kf : x = 0 → XW l E M d k n (pc + 3) ls (st) h Q) : XW l E M d k n (pc) ls (.int x :: st) h Q := by
  intro p e R s m args below meth c H locs cells slots kc ks Z la hC h1 h2 h3 h4 hR hS hl hG
  exact lv_if_ne (xc_exec hC) (xc_code hC) hd ht (fun z => (kt z) p e R s m args below meth c H locs cells slots kc ks Z la hC h1 h2 h3 h4 hR hS hl hG) (fun z => (kf z) p e R s m args below meth c H locs cells slots kc ks Z la hC h1 h2 h3 h4 hR hS hl hG)
theorem xw_if_lt {x : Int32} {off : Int} {tgt : Nat} (hd : decode M.2.1 pc = .ok (.ifCond .lt off, 3)) (ht : (pc : Int) + off = (tgt : Int)) (kt : x < 0 → XW l E M d k n (tgt) ls (st) h Q) (kf : ¬ x < 0 → XW l E M d k n (pc + 3) ls (st) h Q) : XW l E M d k n (pc) ls (.int x :: st) h Q := by
  intro p e R s m args below meth c H locs cells slots kc ks Z la hC h1 h2 h3 h4 hR hS hl hG
  exact lv_if_lt (xc_exec hC) (xc_code hC) hd ht (fun z => (kt z) p e R s m args below meth c H locs cells slots kc ks Z la hC h1 h2 h3 h4 hR hS hl hG) (fun z => (kf z) p e R s m args below meth c H locs cells slots kc ks Z la hC h1 h2 h3 h4 hR hS hl hG)
theorem xw_if_ge {x : Int32} {off : Int} {tgt : Nat} (hd : decode M.2.1 pc = .ok (.ifCond .ge off, 3)) (ht : (pc : Int) + off = (tgt : Int)) (kt : x ≥ 0 → XW l E M d k n (tgt) ls (st) h Q) (kf : ¬ x ≥ 0 → XW l E M d k n (pc + 3) ls (st) h Q) : XW l E M d k n (pc) ls (.int x :: st) h Q := by
  intro p e R s m args below meth c H locs cells slots kc ks Z la hC h1 h2 h3 h4 hR hS hl hG
  exact lv_if_ge (xc_exec hC) (xc_code hC) hd ht (fun z => (kt z) p e R s m args below meth c H locs cells slots kc ks Z la hC h1 h2 h3 h4 hR hS hl hG) (fun z => (kf z) p e R s m args below meth c H locs cells slots kc ks Z la hC h1 h2 h3 h4 hR hS hl hG)
theorem xw_if_gt {x : Int32} {off : Int} {tgt : Nat} (hd : decode M.2.1 pc = .ok (.ifCond .gt off, 3)) (ht : (pc : Int) + off = (tgt : Int)) (kt : x > 0 → XW l E M d k n (tgt) ls (st) h Q) (kf : ¬ x > 0 → XW l E M d k n (pc + 3) ls (st) h Q) : XW l E M d k n (pc) ls (.int x :: st) h Q := by
  intro p e R s m args below meth c H locs cells slots kc ks Z la hC h1 h2 h3 h4 hR hS hl hG
  exact lv_if_gt (xc_exec hC) (xc_code hC) hd ht (fun z => (kt z) p e R s m args below meth c H locs cells slots kc ks Z la hC h1 h2 h3 h4 hR hS hl hG) (fun z => (kf z) p e R s m args below meth c H locs cells slots kc ks Z la hC h1 h2 h3 h4 hR hS hl hG)
theorem xw_if_le {x : Int32} {off : Int} {tgt : Nat} (hd : decode M.2.1 pc = .ok (.ifCond .le off, 3)) (ht : (pc : Int) + off = (tgt : Int)) (kt : x ≤ 0 → XW l E M d k n (tgt) ls (st) h Q) (kf : ¬ x ≤ 0 → XW l E M d k n (pc + 3) ls (st) h Q) : XW l E M d k n (pc) ls (.int x :: st) h Q := by
  intro p e R s m args below meth c H locs cells slots kc ks Z la hC h1 h2 h3 h4 hR hS hl hG
  exact lv_if_le (xc_exec hC) (xc_code hC) hd ht (fun z => (kt z) p e R s m args below meth c H locs cells slots kc ks Z la hC h1 h2 h3 h4 hR hS hl hG) (fun z => (kf z) p e R s m args below meth c H locs cells slots kc ks Z la hC h1 h2 h3 h4 hR hS hl hG)
theorem xw_icmp_eq {x y : Int32} {off : Int} {tgt : Nat} (hd : decode M.2.1 pc = .ok (.if_icmp .eq off, 3)) (ht : (pc : Int) + off = (tgt : Int)) (kt : x = y → XW l E M d k n (tgt) ls (st) h Q) (kf : ¬ x = y → XW l E M d k n (pc + 3) ls (st) h Q) : XW l E M d k n (pc) ls (.int y :: .int x :: st) h Q := by
  intro p e R s m args below meth c H locs cells slots kc ks Z la hC h1 h2 h3 h4 hR hS hl hG
  exact lv_icmp_eq (xc_exec hC) (xc_code hC) hd ht (fun z => (kt z) p e R s m args below meth c H locs cells slots kc ks Z la hC h1 h2 h3 h4 hR hS hl hG) (fun z => (kf z) p e R s m args below meth c H locs cells slots kc ks Z la hC h1 h2 h3 h4 hR hS hl hG)
theorem xw_icmp_ne {x y : Int32} {off : Int} {tgt : Nat} (hd : decode M.2.1 pc = .ok (.if_icmp .ne off, 3)) (ht : (pc : Int) + off = (tgt : Int)) (kt : x ≠ y → XW l E M d k n (tgt) ls (st) h Q) (kf : x = y → XW l E M d k n (pc + 3) ls (st) h Q) : XW l E M d k n (pc) ls (.int y :: .int x :: st) h Q := by
  intro p e R s m args below meth c H locs cells slots kc ks Z la hC h1 h2 h3 h4 hR hS hl hG
  exact lv_icmp_ne (xc_exec hC) (xc_code hC) hd ht (fun z => (kt z) p e R s m args below meth c H locs cells slots kc ks Z la hC h1 h2 h3 h4 hR hS hl hG) (fun z => (kf z) p e R s m args below meth c H locs cells slots kc ks Z la hC h1 h2 h3 h4 hR hS hl hG)
theorem xw_icmp_lt {x y : Int32} {off : Int} {tgt : Nat} (hd : decode M.2.1 pc = .ok (.if_icmp .lt off, 3)) (ht : (pc : Int) + off = (tgt : Int)) (kt : x < y → XW l E M d k n (tgt) ls (st) h Q) (kf : ¬ x < y → XW l E M d k n (pc + 3) ls (st) h Q) : XW l E M d k n (pc) ls (.int y :: .int x :: st) h Q := by
  intro p e R s m args below meth c H locs cells slots kc ks Z la hC h1 h2 h3 h4 hR hS hl hG
  exact lv_icmp_lt (xc_exec hC) (xc_code hC) hd ht (fun z => (kt z) p e R s m args below meth c H locs cells slots kc ks Z la hC h1 h2 h3 h4 hR hS hl hG) (fun z => (kf z) p e R s m args below meth c H locs cells slots kc ks Z la hC h1 h2 h3 h4 hR hS hl hG)
theorem xw_icmp_ge {x y : Int32} {off : Int} {tgt : Nat} (hd : decode M.2.1 pc = .ok (.if_icmp .ge off, 3)) (ht : (pc : Int) + off = (tgt : Int)) (kt : x ≥ y → XW l E M d k n (tgt) ls (st) h Q) (kf : ¬ x ≥ y → XW l E M d k n (pc + 3) ls (st) h Q) : XW l E M d k n (pc) ls (.int y :: .int x :: st) h Q := by
  intro p e R s m args below meth c H locs cells slots kc ks Z la hC h1 h2 h3 h4 hR hS hl hG
  exact lv_icmp_ge (xc_exec hC) (xc_code hC) hd ht (fun z => (kt z) p e R s m args below meth c H locs cells slots kc ks Z la hC h1 h2 h3 h4 hR hS hl hG) (fun z => (kf z) p e R s m args below meth c H locs cells slots kc ks Z la hC h1 h2 h3 h4 hR hS hl hG)
theorem xw_icmp_gt {x y : Int32} {off : Int} {tgt : Nat} (hd : decode M.2.1 pc = .ok (.if_icmp .gt off, 3)) (ht : (pc : Int) + off = (tgt : Int)) (kt : x > y → XW l E M d k n (tgt) ls (st) h Q) (kf : ¬ x > y → XW l E M d k n (pc + 3) ls (st) h Q) : XW l E M d k n (pc) ls (.int y :: .int x :: st) h Q := by
  intro p e R s m args below meth c H locs cells slots kc ks Z la hC h1 h2 h3 h4 hR hS hl hG
  exact lv_icmp_gt (xc_exec hC) (xc_code hC) hd ht (fun z => (kt z) p e R s m args below meth c H locs cells slots kc ks Z la hC h1 h2 h3 h4 hR hS hl hG) (fun z => (kf z) p e R s m args below meth c H locs cells slots kc ks Z la hC h1 h2 h3 h4 hR hS hl hG)
theorem xw_icmp_le {x y : Int32} {off : Int} {tgt : Nat} (hd : decode M.2.1 pc = .ok (.if_icmp .le off, 3)) (ht : (pc : Int) + off = (tgt : Int)) (kt : x ≤ y → XW l E M d k n (tgt) ls (st) h Q) (kf : ¬ x ≤ y → XW l E M d k n (pc + 3) ls (st) h Q) : XW l E M d k n (pc) ls (.int y :: .int x :: st) h Q := by
  intro p e R s m args below meth c H locs cells slots kc ks Z la hC h1 h2 h3 h4 hR hS hl hG
  exact lv_icmp_le (xc_exec hC) (xc_code hC) hd ht (fun z => (kt z) p e R s m args below meth c H locs cells slots kc ks Z la hC h1 h2 h3 h4 hR hS hl hG) (fun z => (kf z) p e R s m args below meth c H locs cells slots kc ks Z la hC h1 h2 h3 h4 hR hS hl hG)
theorem xw_goto {off : Int} {tgt : Nat} (hd : decode M.2.1 pc = .ok (.goto off, 3)) (ht : (pc : Int) + off = (tgt : Int)) (kk : XW l E M d k n (tgt) ls (st) h Q) : XW l E M d k n (pc) ls (st) h Q := by
  intro p e R s m args below meth c H locs cells slots kc ks Z la hC h1 h2 h3 h4 hR hS hl hG
  exact lv_goto (xc_exec hC) (xc_code hC) hd ht (kk p e R s m args below meth c H locs cells slots kc ks Z la hC h1 h2 h3 h4 hR hS hl hG)
theorem xw_ifnull_r {a : Nat} {off : Int} (hd : decode M.2.1 pc = .ok (.ifnull off, 3)) (kk : XW l E M d k n (pc + 3) ls (st) h Q) : XW l E M d k n (pc) ls (.ref a :: st) h Q := by
  intro p e R s m args below meth c H locs cells slots kc ks Z la hC h1 h2 h3 h4 hR hS hl hG
  exact lv_ifnull (xc_exec hC) (xc_code hC) hd (kk p e R s m args below meth c H locs cells slots kc ks Z la hC h1 h2 h3 h4 hR hS hl hG)
theorem xw_ifnull_n {off : Int} {tgt : Nat} (hd : decode M.2.1 pc = .ok (.ifnull off, 3)) (ht : (pc : Int) + off = (tgt : Int)) (kk : XW l E M d k n (tgt) ls (st) h Q) : XW l E M d k n (pc) ls (.null :: st) h Q := by
  intro p e R s m args below meth c H locs cells slots kc ks Z la hC h1 h2 h3 h4 hR hS hl hG
  exact lv_ifnullN (xc_exec hC) (xc_code hC) hd ht (kk p e R s m args below meth c H locs cells slots kc ks Z la hC h1 h2 h3 h4 hR hS hl hG)
theorem xw_ifnonnull_n {off : Int} (hd : decode M.2.1 pc = .ok (.ifnonnull off, 3)) (kk : XW l E M d k n (pc + 3) ls (st) h Q) : XW l E M d k n (pc) ls (.null :: st) h Q := by
  intro p e R s m args below meth c H locs cells slots kc ks Z la hC h1 h2 h3 h4 hR hS hl hG
  exact lv_ifnonnullN (xc_exec hC) (xc_code hC) hd (kk p e R s m args below meth c H locs cells slots kc ks Z la hC h1 h2 h3 h4 hR hS hl hG)
theorem xw_ifnonnull_r {a : Nat} {off : Int} {tgt : Nat} (hd : decode M.2.1 pc = .ok (.ifnonnull off, 3)) (ht : (pc : Int) + off = (tgt : Int)) (kk : XW l E M d k n (tgt) ls (st) h Q) : XW l E M d k n (pc) ls (.ref a :: st) h Q := by
  intro p e R s m args below meth c H locs cells slots kc ks Z la hC h1 h2 h3 h4 hR hS hl hG
  exact lv_ifnonnull (xc_exec hC) (xc_code hC) hd ht (kk p e R s m args below meth c H locs cells slots kc ks Z la hC h1 h2 h3 h4 hR hS hl hG)
theorem xw_acmp_ne {a b : Nat} {off : Int} {tgt : Nat} (hd : decode M.2.1 pc = .ok (.if_acmp .ne off, 3)) (ht : (pc : Int) + off = (tgt : Int)) (kt : a ≠ b → XW l E M d k n (tgt) ls (st) h Q) (kf : a = b → XW l E M d k n (pc + 3) ls (st) h Q) : XW l E M d k n (pc) ls (.ref b :: .ref a :: st) h Q := by
  intro p e R s m args below meth c H locs cells slots kc ks Z la hC h1 h2 h3 h4 hR hS hl hG
  exact lv_acmp_ne (rx := some a) (ry := some b) (xc_exec hC) (xc_code hC) hd ht (fun z => (kt (fun q => z (by rw [q]))) p e R s m args below meth c H locs cells slots kc ks Z la hC h1 h2 h3 h4 hR hS hl hG) (fun z => (kf (Option.some.inj z)) p e R s m args below meth c H locs cells slots kc ks Z la hC h1 h2 h3 h4 hR hS hl hG)
theorem xw_acmp_eq {a b : Nat} {off : Int} {tgt : Nat} (hd : decode M.2.1 pc = .ok (.if_acmp .eq off, 3)) (ht : (pc : Int) + off = (tgt : Int)) (kt : a = b → XW l E M d k n (tgt) ls (st) h Q) (kf : a ≠ b → XW l E M d k n (pc + 3) ls (st) h Q) : XW l E M d k n (pc) ls (.ref b :: .ref a :: st) h Q := by
  intro p e R s m args below meth c H locs cells slots kc ks Z la hC h1 h2 h3 h4 hR hS hl hG
  exact lv_acmp_eq (rx := some a) (ry := some b) (xc_exec hC) (xc_code hC) hd ht (fun z => (kt (Option.some.inj z)) p e R s m args below meth c H locs cells slots kc ks Z la hC h1 h2 h3 h4 hR hS hl hG) (fun z => (kf (fun q => z (by rw [q]))) p e R s m args below meth c H locs cells slots kc ks Z la hC h1 h2 h3 h4 hR hS hl hG)
theorem xw_tableIn {dflt lo hi : Int} {offs : Array Int} {len : Nat} {x : Int32} {off : Int} {tgt : Nat} (hd : decode M.2.1 pc = .ok (.tableswitch dflt lo hi offs, len)) (g1 : ¬ x.toInt < lo) (g2 : ¬ hi < x.toInt) (ho : offs[(x.toInt - lo).toNat]? = some off) (ht : (pc : Int) + off = (tgt : Int)) (kk : XW l E M d k n (tgt) ls (st) h Q) : XW l E M d k n (pc) ls (.int x :: st) h Q := by
  intro p e R s m args below meth c H locs cells slots kc ks Z la hC h1 h2 h3 h4 hR hS hl hG
  exact lv_tableIn (xc_exec hC) (xc_code hC) hd g1 g2 ho ht (kk p e R s m args below meth c H locs cells slots kc ks Z la hC h1 h2 h3 h4 hR hS hl hG)
theorem xw_tableOut {dflt lo hi : Int} {offs : Array Int} {len : Nat} {x : Int32} {tgt : Nat} (hd : decode M.2.1 pc = .ok (.tableswitch dflt lo hi offs, len)) (g : x.toInt < lo ∨ hi < x.toInt) (ht : (pc : Int) + dflt = (tgt : Int)) (kk : XW l E M d k n (tgt) ls (st) h Q) : XW l E M d k n (pc) ls (.int x :: st) h Q := by
  intro p e R s m args below meth c H locs cells slots kc ks Z la hC h1 h2 h3 h4 hR hS hl hG
  exact lv_tableOut (xc_exec hC) (xc_code hC) hd g ht (kk p e R s m args below meth c H locs cells slots kc ks Z la hC h1 h2 h3 h4 hR hS hl hG)
theorem xw_lookup {dflt : Int} {ps : Array (Int × Int)} {len : Nat} {x : Int32} {off : Int} {tgt : Nat} (hd : decode M.2.1 pc = .ok (.lookupswitch dflt ps, len)) (hp : (ps.toList.zip (ps.toList.drop 1)).all (fun (a, next) => a.1 < next.1) = true) (ho : Op.lookupswitch.offset ps.toList dflt x.toInt = off) (ht : (pc : Int) + off = (tgt : Int)) (kk : XW l E M d k n (tgt) ls (st) h Q) : XW l E M d k n (pc) ls (.int x :: st) h Q := by
  intro p e R s m args below meth c H locs cells slots kc ks Z la hC h1 h2 h3 h4 hR hS hl hG
  exact lv_lookup (xc_exec hC) (xc_code hC) hd hp ho ht (kk p e R s m args below meth c H locs cells slots kc ks Z la hC h1 h2 h3 h4 hR hS hl hG)
theorem xw_cond {A : Array Value} {w : Cond} {p : Program} {R : Room} {s : State} {m : MethodId} {args : Array Value} {meth : Method} {c : Code} (hC : XCtx l E M d p R s m args meth c) (hw : w ∈ lw_all) : w.before A s = true := by
  have hg : goodWord w = true := (List.mem_filter.mp hw).2
  have h1 := xc_w hC w hw
  refine word_at (U := s) (State.WarmedH.refl s) ?_ h1
  cases w <;> first | (exact Or.inr ⟨_, rfl⟩) | (exact Or.inl hg)
end XROWS
theorem x_obj.kept {E : XEnv} {H H' : Heap} {a k n : Nat} {v : Nat → Value} (h : x_obj E H a k n v) (hq : H'[a]? = H[a]?) : x_obj E H' a k n v := by
  obtain ⟨r, h1, h2, h3⟩ := h
  exact ⟨r, h1, h2, h3.kept hq⟩
theorem x_arr.kept {E : XEnv} {H H' : Heap} {a t n : Nat} {v : Nat → Value} (h : x_arr E H a t n v) (hq : H'[a]? = H[a]?) : x_arr E H' a t n v := by
  obtain ⟨c, h1, h2⟩ := h
  exact ⟨c, hq.trans h1, h2⟩
theorem x_str.kept {E : XEnv} {H H' : Heap} {a : Nat} {v : Nat → Value} (h : x_str E H a v) (hq : H'[a]? = H[a]?) : x_str E H' a v := by
  obtain ⟨⟨c1, g1, g2⟩, ⟨cf, k, i, f, c2, q1, q2, q3, q4⟩, ⟨cf', k', i', f', c3, w1, w2, w3, w4⟩⟩ := h
  exact ⟨⟨c1, hq.trans g1, g2⟩, ⟨cf, k, i, f, c2, q1, q2, hq.trans q3, q4⟩, ⟨cf', k', i', f', c3, w1, w2, hq.trans w3, w4⟩⟩
theorem x_cell.kept {E : XEnv} {H H' : Heap} {a k n : Nat} {v : Nat → Value} (h : x_cell E H a k n v) (hz : H.size ≤ H'.size) (hq : H'[a]? = H[a]?) : x_cell E H' a k n v := ⟨fun g => (h.1 g).kept hq, fun g => (h.2.1 g).kept hq, fun g => (h.2.2.1 g).kept hq, Nat.lt_of_lt_of_le h.2.2.2 hz⟩
theorem x_cell.lt {E : XEnv} {H : Heap} {a k n : Nat} {v : Nat → Value} (h : x_cell E H a k n v) : a < H.size := h.2.2.2
/-- what a tag says, elsewhere -/
def x_tag (E : XEnv) (H : Heap) (a k t : Nat) : Prop := (t ≠ 0 → E.1.heap.size ≤ a) ∧ (100 ≤ k → t ≠ 0 ∨ k = 104 → ∃ cell, H[a]? = some cell ∧ cell.cls = E.2.2.1 (k - 100))
theorem x_tag.kept {E : XEnv} {H H' : Heap} {a k t : Nat} (h : x_tag E H a k t) (hq : H'[a]? = H[a]?) : x_tag E H' a k t := by
  refine ⟨h.1, fun g gt => ?_⟩
  obtain ⟨c, h1, h2⟩ := h.2 g gt
  exact ⟨c, hq.trans h1, h2⟩
theorem XR.kept {E : XEnv} {h : XH} {H H' : Heap} (hR : XR E h H) (hz : H'.size = H.size) (hq : ∀ a : Nat, a < H.size → H'[a]? = H[a]?) : XR E h H' := ⟨hz.trans hR.1, fun a k n t e => ⟨(hR.2 a k n t e).1.kept (Nat.le_of_eq hz.symm) (hq a (hR.2 a k n t e).1.lt), x_tag.kept (hR.2 a k n t e).2 (hq a (hR.2 a k n t e).1.lt)⟩⟩
theorem XR.put {E : XEnv} {h : XH} {H H' : Heap} {a i : Nat} {v : Value} (hR : XR E h H) (hz : H'.size = H.size) (hn : ∀ k n t, h.1 a = some (k, n, t) → x_cell E H' a k n (fun j => if j = i then v else h.2.1 a j) ∧ x_tag E H' a k t) (ho : ∀ q : Nat, q ≠ a → H'[q]? = H[q]?) : XR E (xup h a i v) H' := by
  refine ⟨hz.trans hR.1, fun b k n t hb => ?_⟩
  by_cases e : b = a
  · subst e
    have h1 := hn k n t hb
    have h2 : (xup h b i v).2.1 b = fun j => if j = i then v else h.2.1 b j := by
      funext j
      simp [xup]
    rw [h2]
    exact h1
  · have h2 : (xup h a i v).2.1 b = h.2.1 b := by
      funext j
      simp [xup, e]
    rw [h2]
    exact ⟨(hR.2 b k n t hb).1.kept (Nat.le_of_eq hz.symm) (ho b e), x_tag.kept (hR.2 b k n t hb).2 (ho b e)⟩
theorem XR.new {E : XEnv} {h : XH} {H H' : Heap} {k n t N : Nat} {f : Nat → Value} (hR : XR E h H) (hz : H'.size = H.size + 1) (hn : x_cell E H' H.size k n f ∧ x_tag E H' H.size k t) (ho : ∀ q : Nat, q < H.size → H'[q]? = H[q]?) : XR E (xnew h k n t N f) H' := by
  refine ⟨by rw [hz, hR.1]; rfl, fun b k' n' t' hb => ?_⟩
  by_cases e : b = h.2.2.1
  · subst e
    have h1 : (xnew h k n t N f).1 h.2.2.1 = some (k, n, t) := by simp [xnew]
    rw [h1] at hb
    cases hb
    have h2 : (xnew h k n t N f).2.1 h.2.2.1 = f := by
      funext j
      simp [xnew]
    rw [h2, ← hR.1]
    exact hn
  · have h1 : (xnew h k n t N f).1 b = h.1 b := by simp [xnew, e]
    have h2 : (xnew h k n t N f).2.1 b = h.2.1 b := by
      funext j
      simp [xnew, e]
    rw [h1] at hb
    rw [h2]
    have h3 := (hR.2 b k' n' t' hb).1.lt
    exact ⟨(hR.2 b k' n' t' hb).1.kept (by omega) (ho b h3), x_tag.kept (hR.2 b k' n' t' hb).2 (ho b h3)⟩
/-- another tag -/
def xtag (h : XH) (a t : Nat) : XH := (fun b => if b = a then (h.1 b).map (fun q => (q.1, q.2.1, t)) else h.1 b, h.2)
theorem XR.tag {E : XEnv} {h : XH} {H : Heap} {a t k n t0 : Nat} (hR : XR E h H) (hk : h.1 a = some (k, n, t0)) (h0 : t0 ≠ 0) : XR E (xtag h a t) H := by
  refine ⟨hR.1, fun b k' n' t' hb => ?_⟩
  by_cases e : b = a
  · subst e
    have h1 : (xtag h b t).1 b = some (k, n, t) := by simp [xtag, hk]
    rw [h1] at hb
    cases hb
    exact ⟨(hR.2 b _ _ _ hk).1, ⟨fun _ => (hR.2 b _ _ _ hk).2.1 h0, fun g _ => (hR.2 b _ _ _ hk).2.2 g (Or.inl h0)⟩⟩
  · have h1 : (xtag h a t).1 b = h.1 b := by simp [xtag, e]
    rw [h1] at hb
    exact hR.2 b k' n' t' hb
/-- a field, by the class's constant pool: kind and place -/
def XFld (own : String) (index ci fi : Nat) : Prop := ∃ (C : String) (T : u_T) (N : Nat) (ref : String), xcl[ci]? = some (C, T, N) ∧ ci < 90 ∧ fi < N ∧ (∀ w ∈ u_ws C T N, w ∈ lw_all) ∧ (Cond.fieldLink own index ref (T fi).2.1 (T fi).2.2.1 ∈ lw_all ∨ ∃ host, Cond.fieldLinkNest own index ref (T fi).2.1 (T fi).2.2.1 host ∈ lw_tbl) ∧ (ref = (T fi).1 ∨ Cond.sameField ref (T fi).1 (T fi).2.1 (T fi).2.2.1 ∈ lw_all)
/-- the same, to be written: its type; final: in a constructor of its class -/
def XPut (own nm : String) (index ci fi : Nat) (ty : FieldType) : Prop := ∃ (C : String) (T : u_T) (N : Nat) (ref : String) (ty0 : Nat → FieldType), xcl[ci]? = some (C, T, N) ∧ ci < 90 ∧ fi < N ∧ (∀ w ∈ u_ws C T N, w ∈ lw_all) ∧ ((Cond.fieldLink own index ref (T fi).2.1 (T fi).2.2.1 ∈ lw_all ∧ ((T fi).2.2.2 = false ∨ ((T fi).2.2.2 = true ∧ (T fi).1 = own ∧ nm = "<init>"))) ∨ ((T fi).2.2.2 = false ∧ ∃ host, Cond.fieldLinkNest own index ref (T fi).2.1 (T fi).2.2.1 host ∈ lw_tbl)) ∧ (ref = (T fi).1 ∨ Cond.sameField ref (T fi).1 (T fi).2.1 (T fi).2.2.1 ∈ lw_all) ∧ (∀ k, k < N → parseFieldDescriptor (T k).2.2.1 = some (ty0 k)) ∧ (∀ a, a < N → ∀ b, b < N → a ≠ b → (T a).2.1 ≠ (T b).2.1) ∧ ty0 fi = ty
section XROWS2
variable {l : Launch} {E : XEnv} {M : XMeth} {d k n : Nat} {pc : Nat} {ls : List (Nat × Value)} {st : List Value} {h : XH} {Q : XO → XH → Prop}
theorem xw_same {p : Program} {R : Room} {s : State} {m : MethodId} {args : Array Value} {meth : Method} {c : Code} (hC : XCtx l E M d p R s m args meth c) {ref o f ds : String} (hsm : ref = o ∨ Cond.sameField ref o f ds ∈ lw_all) : ∀ x, s.fieldFound? o f ds = some x → s.fieldFound? ref f ds = some x := by
  rcases hsm with rfl | hsm
  · exact fun _ z => z
  · exact fun x z => u_same (xc_w hC _ hsm) x z
theorem xw_tbl {p : Program} {R : Room} {s : State} {m : MethodId} {args : Array Value} {meth : Method} {c : Code} (hC : XCtx l E M d p R s m args meth c) {w : Cond} (hw : w ∈ lw_tbl) (ho : w.onTables = true) : va_Nw w E.1 := by
  obtain ⟨A, hA⟩ := (xc_ok hC).1
  exact va_Nw.of ho (hA w hw)
theorem xw_getf {ci fi index n' t a : Nat} {v : Value} (hF : XFld M.1.cls index ci fi) (hd : decode M.2.1 pc = .ok (.getfield index, 3)) (hk : h.1 a = some (ci, n', t)) (hv : h.2.1 a fi = v) (kk : XW l E M d k n (pc + 3) ls (v :: st) h Q) : XW l E M d k n pc ls (.ref a :: st) h Q := by
  intro p e R s m args below meth c H locs cells slots kc ks Z la hC h1 h2 h3 h4 hR hS hl hG
  obtain ⟨C, T, N, ref, hc, hlt, hfi, hin, hlk, hsm⟩ := hF
  obtain ⟨r, g1, g2, cell, q1, q2, q3, q4⟩ := (hR.2 a ci n' t hk).1.1 hlt
  have hr : r = (C, T, N) := Option.some.inj (g1.symm.trans hc)
  subst hr
  dsimp only at g2
  subst g2
  obtain ⟨hSl, hfc, kC, hkC, hkind⟩ := (xc_K hC).1 ci _ hc
  obtain ⟨cf, kf, fi', f, hi, hsl⟩ := hSl fi hfi
  have hst := (u_facts hfc hkC (u_lays (xc_w hC) hin hfi) hi).1
  have hslot : cell.slots[f.slot]? = some v := by rw [hsl, q4 fi hfi, hv]
  have hkk := kk p e R s m args below meth c H locs cells slots kc ks Z la hC h1 h2 h3 h4 hR hS hl hG
  rcases hlk with hlk | ⟨host, hlk⟩
  · exact W.getf (xc_exec hC) (xc_code hC) (xc_own hC) (xc_w hC _ hlk) (xw_same hC hsm _ hi) hst q1 (by rw [q3]; exact fun z => by cases z) hslot rfl rfl hd hkk
  · exact va_Wgetf (xc_exec hC) (xc_code hC) (xc_own hC) ((va_Nw.warmF (xc_warm hC) (xw_tbl hC hlk rfl)).use rfl) (xw_same hC hsm _ hi) hst q1 (by rw [q3]; exact fun z => by cases z) hslot rfl rfl hd hkk
theorem xw_putf {ci fi index n' t a : Nat} {ty : FieldType} {v : Value} (hF : XPut M.1.cls M.1.name index ci fi ty) (hd : decode M.2.1 pc = .ok (.putfield index, 3)) (hk : h.1 a = some (ci, n', t)) (ht : t ≠ 0) (hn : narrow ty v = v) (hfit : fits ty v = true) (kk : XW l E M d k n (pc + 3) ls st (xup h a fi v) Q) : XW l E M d k n pc ls (v :: .ref a :: st) h Q := by
  intro p e R s m args below meth c H locs cells slots kc ks Z la hC h1 h2 h3 h4 hR hS hl hG
  obtain ⟨C, T, N, ref, ty0, hc, hlt, hfi, hin, hlk, hsm, hty, hnm, rfl⟩ := hF
  obtain ⟨r, g1, g2, cell, q1, q2, q3, q4⟩ := (hR.2 a ci n' t hk).1.1 hlt
  have hr : r = (C, T, N) := Option.some.inj (g1.symm.trans hc)
  subst hr
  dsimp only at g2
  subst g2
  have hap := va_apart (own := M.1.cls) (xc_w hC) hin ty0 hty hnm (xc_K hC) hc
  obtain ⟨hSl, hfc, kC, hkC, hkind⟩ := (xc_K hC).1 ci _ hc
  obtain ⟨cf, kf, fi', f, hi, hsl⟩ := hSl fi hfi
  have hst := (u_facts hfc hkC (u_lays (xc_w hC) hin hfi) hi).1
  have hlay := xc_w hC _ (hin _ (u_in_lay hfi))
  have hb : E.1.heap.size ≤ a := ((hR.2 a ci _ t hk).2.1 ht)
  have go : ∀ H' : Heap, H'[a]? = some (cell.setSlot f.slot v) → H'.size = H.size → (∀ q, q ≠ a → H'[q]? = H[q]?) → W p l e R s m args below meth c H' (locs ++ [⟨a, f.slot⟩]) cells slots Z (F0 m (pc + 3) la st) := by
    intro H' e1 e2 e3
    rw [hsl] at e1
    refine kk p e R s m args below meth c H' _ cells slots kc ks Z la hC h1 h2 h3 h4 (hR.put e2 (fun k' n'' t' hz => ?_) e3) (hS.put e2 e3 hb) hl hG
    cases hk.symm.trans hz
    refine ⟨⟨fun _ => ⟨_, hc, rfl, ?_⟩, fun z => absurd hlt (by omega), fun z => absurd hlt (by omega), by rw [e2]; exact (hR.2 a ci _ t hk).1.lt⟩, ⟨fun _ => hb, fun z _ => absurd hlt (by omega)⟩⟩
    exact ⟨_, e1, q2, q3, t_set q4 hap hfi v⟩
  rcases hlk with ⟨hlk, hfin | ⟨hfin, hdecl, hnam⟩⟩ | ⟨hfin, host, hlk⟩
  · unfold u_lay at hlay
    rw [if_neg (by rw [hfin]; decide)] at hlay
    have h6 := u_store hfc hkC hkind hlay hi (hty fi hfi) hn hfit
    exact W.putK (xc_exec hC) (xc_code hC) (f := f) ⟨xc_own hC, xc_w hC _ hlk, ⟨_, _, _, xw_same hC hsm _ hi⟩, hst⟩ (by rw [q2]; exact h6) q1 q3 (by rw [hsl]; exact k2_hasslot (q4 fi hfi)) rfl rfl hd go
  · unfold u_lay at hlay
    rw [if_pos hfin] at hlay
    have hcf : m.cls = cf := by
      obtain ⟨_, _, c', _, _, _, -, -, hf', -, -, -, hown2, -⟩ := Cond.laysFinal_spec hlay
      have e1 : c' = cf := by have := hi.symm.trans hf'; simp at this; exact this.1.symm
      rw [hdecl] at hown2
      rw [← e1]; exact Option.some.inj ((xc_own hC).symm.trans hown2)
    have h6 := u_fits hfc hkC hkind (Or.inr hlay) hi (hty fi hfi) hn hfit
    exact W.putFinK (xc_exec hC) (xc_code hC) (xc_own hC) (xc_w hC _ hlk) (xw_same hC hsm _ hi) hst hcf ((xc_name hC).trans hnam) (by rw [q2]; exact h6) q1 q3 (by rw [hsl]; exact k2_hasslot (q4 fi hfi)) rfl rfl hd go
  · unfold u_lay at hlay
    rw [if_neg (by rw [hfin]; decide)] at hlay
    have h6 := u_store hfc hkC hkind hlay hi (hty fi hfi) hn hfit
    exact va_WputK (xc_exec hC) (xc_code hC) (f := f) (xc_own hC) ((va_Nw.warmF (xc_warm hC) (xw_tbl hC hlk rfl)).use rfl) (xw_same hC hsm _ hi) hst (by rw [q2]; exact h6) q1 q3 (by rw [hsl]; exact k2_hasslot (q4 fi hfi)) rfl rfl hd go
/-- new of the class of kind ci -/
def XNew (own : String) (index ci N : Nat) (f : Nat → Value) : Prop := ∃ (C : String) (T : u_T) (ty : Nat → FieldType), xcl[ci]? = some (C, T, N) ∧ ci < 90 ∧ Cond.classLink own index C ∈ lw_all ∧ Cond.instantiable C N ∈ lw_all ∧ Cond.initialized C ∈ lw_all ∧ (∀ w ∈ u_ws C T N, w ∈ lw_all) ∧ (∀ k, k < N → parseFieldDescriptor (T k).2.2.1 = some (ty k)) ∧ ∀ j, j < N → defaultValue (ty j) = f j
theorem xw_new {ci N index : Nat} {f : Nat → Value} (t k' n' : Nat) (hF : XNew M.1.cls index ci N f) (hd : decode M.2.1 pc = .ok (.new index, 3)) (hk : k' + 1 ≤ k) (hn : n' + N ≤ n) (kk : XW l E M d k' n' (pc + 3) ls (.ref h.2.2.1 :: st) (xnew h ci N t N f) Q) : XW l E M d k n pc ls st h Q := by
  intro p e R s m args below meth c H locs cells slots kc ks Z la hC h1 h2 h3 h4 hR hS hl hG
  obtain ⟨C, T, ty, hc, hlt, hcl, hins, hini, hin, hty, hfs⟩ := hF
  have hKn := (xc_K hC).1 ci _ hc
  refine W.newcK (xc_exec hC) (xc_code hC) (xc_own hC) (xc_w hC _ hcl) (xc_w hC _ hins) (xc_w hC _ hini) rfl hd (by omega) (by omega) hKn.2.1 rfl fun H1 kC hkC e1 z1 o1 => ?_
  have hsz : E.1.heap.size ≤ H.size := Nat.le_trans (xc_F hC).1 hS.1
  have hcell : x_cell E H1 H.size ci N f := ⟨fun _ => ⟨_, hc, rfl, (u_born ty (xc_w hC) hin hKn hkC e1 hty).to hfs⟩, fun z => absurd hlt (by omega), fun z => absurd hlt (by omega), by omega⟩
  have hR1 := hR.new (t := t) (N := N) z1 ⟨hcell, ⟨fun _ => hsz, fun z _ => absurd hlt (by omega)⟩⟩ o1
  rw [hR.1]
  exact kk p e R s m args below meth c H1 locs (cells + 1) (slots + N) kc ks Z la hC h1 h2 (by omega) (by omega) hR1 ⟨Nat.le_trans hS.1 (by omega), fun x g1 g2 => (o1 x (Nat.lt_of_lt_of_le g1 hS.1)).trans (hS.2.1 x g1 g2), hS.2.2⟩ hl hG
end XROWS2
section XROWS
variable {l : Launch} {E : XEnv} {M : XMeth} {d k n : Nat} {pc : Nat} {ls : List (Nat × Value)} {st : List Value} {h : XH} {Q : XO → XH → Prop}
end XROWS
section XROWS3
variable {l : Launch} {E : XEnv} {M : XMeth} {d k n : Nat} {pc : Nat} {ls : List (Nat × Value)} {st : List Value} {h : XH} {Q : XO → XH → Prop}
theorem xa_arr {t : Nat} {s : State} (hW : E.1.WarmedH s.vm) {cell : Cell} (ha : E.1.isArrayOf cell (xty t)) : s.isArrayOf cell (xty t) := State.isArrayOf_alike hW.alike ha
theorem xa_in {x : Int32} {n' : Nat} {m : Nat} (h : vp_in x n') (e : n' ≤ m) : ¬ (x < 0 ∨ m ≤ x.toNatClampNeg) := by
  rintro (q | q)
  · exact h (Or.inl q)
  · exact h (Or.inr (Nat.le_trans e q))
theorem xa_lt {x : Int32} {n' : Nat} (h : vp_in x n') : x.toNatClampNeg < n' := Nat.not_le.mp fun q => h (Or.inr q)
/-- the array's cell, read at the place x -/
theorem xa_cell {H : Heap} {a t n' tg : Nat} (ht : t < 8) (hR : XR E h H) (hk : h.1 a = some (100 + t, n', tg)) : ∃ cell : Cell, H[a]? = some cell ∧ E.1.isArrayOf cell (xty t) ∧ True ∧ cell.vm ≠ .unknown ∧ (n' ≤ cell.slots.size ∧ cell.slots.size.toInt32 = Int32.ofNat n') ∧ ∀ j, j < n' → cell.slots[j]? = some (h.2.1 a j) := by
  obtain ⟨c, h1, h2, h3, h4, h5⟩ := (hR.2 a _ n' tg hk).1.2.2.1 (Nat.le_add_right 100 t)
  rw [Nat.add_sub_cancel_left] at h2
  exact ⟨c, h1, h2, trivial, h3, h4, h5⟩
theorem xw_alen {a t n' tg : Nat} (ht : t < 8) (hd : decode M.2.1 pc = .ok (.arraylength, 1)) (hk : h.1 a = some (100 + t, n', tg)) (kk : XW l E M d k n (pc + 1) ls (.int (Int32.ofNat n') :: st) h Q) : XW l E M d k n pc ls (.ref a :: st) h Q := by
  intro p e R s m args below meth c H locs cells slots kc ks Z la hC h1 h2 h3 h4 hR hS hl hG
  obtain ⟨cell, q1, q2, q3, q4, q5, q6⟩ := xa_cell ht hR hk
  exact W.alen (n := Int32.ofNat n') (xc_exec hC) (xc_code hC) q1 (xa_arr (xc_warm hC) q2) q5.2 rfl rfl hd (kk p e R s m args below meth c H locs cells slots kc ks Z la hC h1 h2 h3 h4 hR hS hl hG)
theorem xw_iald {a n' tg : Nat} {x : Int32} {v : Value} (hd : decode M.2.1 pc = .ok (.iaload, 1)) (hk : h.1 a = some (100, n', tg)) (hx : vp_in x n') (hv : h.2.1 a x.toNatClampNeg = v) (kk : XW l E M d k n (pc + 1) ls (v :: st) h Q) : XW l E M d k n pc ls (.int x :: .ref a :: st) h Q := by
  intro p e R s m args below meth c H locs cells slots kc ks Z la hC h1 h2 h3 h4 hR hS hl hG
  obtain ⟨cell, q1, q2, q3, q4, q5, q6⟩ := xa_cell (t := 0) (by decide) hR hk
  exact W.iald (xc_exec hC) (xc_code hC) q1 (xa_arr (xc_warm hC) q2) q4 (xa_in hx q5.1) (by rw [q6 _ (xa_lt hx), hv]) rfl rfl hd (kk p e R s m args below meth c H locs cells slots kc ks Z la hC h1 h2 h3 h4 hR hS hl hG)
theorem xw_bald {a n' tg : Nat} {x : Int32} {v : Value} (hd : decode M.2.1 pc = .ok (.baload, 1)) (hk : h.1 a = some (101, n', tg)) (hx : vp_in x n') (hv : h.2.1 a x.toNatClampNeg = v) (kk : XW l E M d k n (pc + 1) ls (v :: st) h Q) : XW l E M d k n pc ls (.int x :: .ref a :: st) h Q := by
  intro p e R s m args below meth c H locs cells slots kc ks Z la hC h1 h2 h3 h4 hR hS hl hG
  obtain ⟨cell, q1, q2, q3, q4, q5, q6⟩ := xa_cell (t := 1) (by decide) hR hk
  exact W.bald (xc_exec hC) (xc_code hC) q1 (xa_arr (xc_warm hC) q2) q4 (xa_in hx q5.1) (by rw [q6 _ (xa_lt hx), hv]) rfl rfl hd (kk p e R s m args below meth c H locs cells slots kc ks Z la hC h1 h2 h3 h4 hR hS hl hG)
theorem xw_zald {a n' tg : Nat} {x : Int32} {v : Value} (hd : decode M.2.1 pc = .ok (.baload, 1)) (hk : h.1 a = some (102, n', tg)) (hx : vp_in x n') (hv : h.2.1 a x.toNatClampNeg = v) (kk : XW l E M d k n (pc + 1) ls (v :: st) h Q) : XW l E M d k n pc ls (.int x :: .ref a :: st) h Q := by
  intro p e R s m args below meth c H locs cells slots kc ks Z la hC h1 h2 h3 h4 hR hS hl hG
  obtain ⟨cell, q1, q2, q3, q4, q5, q6⟩ := xa_cell (t := 2) (by decide) hR hk
  exact W.zald (xc_exec hC) (xc_code hC) q1 (xa_arr (xc_warm hC) q2) q4 (xa_in hx q5.1) (by rw [q6 _ (xa_lt hx), hv]) rfl rfl hd (kk p e R s m args below meth c H locs cells slots kc ks Z la hC h1 h2 h3 h4 hR hS hl hG)
theorem xw_lald {a n' tg : Nat} {x : Int32} {v : Value} (hd : decode M.2.1 pc = .ok (.laload, 1)) (hk : h.1 a = some (103, n', tg)) (hx : vp_in x n') (hv : h.2.1 a x.toNatClampNeg = v) (kk : XW l E M d k n (pc + 1) ls (v :: st) h Q) : XW l E M d k n pc ls (.int x :: .ref a :: st) h Q := by
  intro p e R s m args below meth c H locs cells slots kc ks Z la hC h1 h2 h3 h4 hR hS hl hG
  obtain ⟨cell, q1, q2, q3, q4, q5, q6⟩ := xa_cell (t := 3) (by decide) hR hk
  exact W.lald (xc_exec hC) (xc_code hC) q1 (xa_arr (xc_warm hC) q2) q4 (xa_in hx q5.1) (by rw [q6 _ (xa_lt hx), hv]) rfl rfl hd (kk p e R s m args below meth c H locs cells slots kc ks Z la hC h1 h2 h3 h4 hR hS hl hG)
theorem xw_aald {a t n' tg : Nat} {x : Int32} {v : Value} (ht : 4 ≤ t ∧ t < 8) (hd : decode M.2.1 pc = .ok (.aaload, 1)) (hk : h.1 a = some (100 + t, n', tg)) (hx : vp_in x n') (hv : h.2.1 a x.toNatClampNeg = v) (kk : XW l E M d k n (pc + 1) ls (v :: st) h Q) : XW l E M d k n pc ls (.int x :: .ref a :: st) h Q := by
  intro p e R s m args below meth c H locs cells slots kc ks Z la hC h1 h2 h3 h4 hR hS hl hG
  obtain ⟨cell, q1, q2, q3, q4, q5, q6⟩ := xa_cell ht.2 hR hk
  have hr : (xty t).isReference = true := by
    obtain ⟨g1, g2⟩ := ht
    rcases (show t = 4 ∨ t = 5 ∨ t = 6 ∨ t = 7 by omega) with rfl | rfl | rfl | rfl <;> rfl
  exact W.aald (xc_exec hC) (xc_code hC) q1 (xa_arr (xc_warm hC) q2) hr q4 (xa_in hx q5.1) (by rw [q6 _ (xa_lt hx), hv]) rfl rfl hd (kk p e R s m args below meth c H locs cells slots kc ks Z la hC h1 h2 h3 h4 hR hS hl hG)
/-- an array's cell behind a store -/
theorem xa_put {H H' : Heap} {a t n' tg j : Nat} {w : Value} {cell : Cell} (ht9 : tg ≠ 0) (hR : XR E h H) (hk : h.1 a = some (100 + t, n', tg)) (hj : j < n') (q1 : H[a]? = some cell) (q2 : E.1.isArrayOf cell (xty t)) (q4 : cell.vm ≠ .unknown) (q5 : n' ≤ cell.slots.size ∧ cell.slots.size.toInt32 = Int32.ofNat n') (q6 : ∀ j, j < n' → cell.slots[j]? = some (h.2.1 a j)) (e : H'[a]? = some (cell.setSlot j w)) (hz9 : H'.size = H.size) (ho : ∀ q : Nat, q ≠ a → H'[q]? = H[q]?) : XR E (xup h a j w) H' := by
  refine hR.put hz9 (fun k' n'' t' hz => ?_) ho
  cases hk.symm.trans hz
  have hb := (hR.2 a _ _ _ hk).2.1 ht9
  have hcl := fun g => (hR.2 a _ _ _ hk).2.2 g (Or.inl ht9)
  obtain ⟨c9, w1, w2⟩ := hcl (Nat.le_add_right 100 t)
  cases q1.symm.trans w1
  refine ⟨⟨fun z => absurd z (by omega), fun z => absurd z (by omega), fun _ => ?_, by rw [hz9]; exact (hR.2 a _ _ _ hk).1.lt⟩, ⟨fun _ => hb, fun _ _ => ⟨_, e, w2⟩⟩⟩
  rw [Nat.add_sub_cancel_left]
  have hsz : (cell.setSlot j w).slots.size = cell.slots.size := by simp [Cell.setSlot]
  refine ⟨_, e, q2, q4, by rw [hsz]; exact q5, fun i hi => ?_⟩
  show (cell.slots.setIfInBounds j w)[i]? = _
  by_cases ei : i = j
  · subst ei
    dsimp only
    rw [if_pos rfl, Array.getElem?_setIfInBounds_self_of_lt (by omega)]
  · dsimp only
    rw [if_neg ei, Array.getElem?_setIfInBounds_ne (fun z => ei z.symm), q6 i hi]
theorem xw_iast {a n' tg : Nat} {x w : Int32} (hd : decode M.2.1 pc = .ok (.iastore, 1)) (hk : h.1 a = some (100, n', tg)) (ht : tg ≠ 0) (hx : vp_in x n') (kk : XW l E M d k n (pc + 1) ls st (xup h a x.toNatClampNeg (.int w)) Q) : XW l E M d k n pc ls (.int w :: .int x :: .ref a :: st) h Q := by
  intro p e R s m args below meth c H locs cells slots kc ks Z la hC h1 h2 h3 h4 hR hS hl hG
  obtain ⟨cell, q1, q2, q3, q4, q5, q6⟩ := xa_cell (t := 0) (by decide) hR hk
  exact W.iast (xc_exec hC) (xc_code hC) q1 (xa_arr (xc_warm hC) q2) q4 (xa_in hx q5.1) rfl rfl hd fun H' e1 e2 e3 =>
    kk p e R s m args below meth c H' _ cells slots kc ks Z la hC h1 h2 h3 h4 (xa_put (t := 0) ht hR hk (xa_lt hx) q1 q2 q4 q5 q6 e1 e2 e3) (hS.put e2 e3 ((hR.2 a _ _ _ hk).2.1 ht)) hl hG
theorem xw_bast {a n' tg : Nat} {x w : Int32} (hd : decode M.2.1 pc = .ok (.bastore, 1)) (hk : h.1 a = some (101, n', tg)) (ht : tg ≠ 0) (hx : vp_in x n') (kk : XW l E M d k n (pc + 1) ls st (xup h a x.toNatClampNeg (narrow .byte (.int w))) Q) : XW l E M d k n pc ls (.int w :: .int x :: .ref a :: st) h Q := by
  intro p e R s m args below meth c H locs cells slots kc ks Z la hC h1 h2 h3 h4 hR hS hl hG
  obtain ⟨cell, q1, q2, q3, q4, q5, q6⟩ := xa_cell (t := 1) (by decide) hR hk
  exact W.bast (xc_exec hC) (xc_code hC) q1 (xa_arr (xc_warm hC) q2) q4 (xa_in hx q5.1) rfl rfl hd fun H' e1 e2 e3 =>
    kk p e R s m args below meth c H' _ cells slots kc ks Z la hC h1 h2 h3 h4 (xa_put (t := 1) ht hR hk (xa_lt hx) q1 q2 q4 q5 q6 e1 e2 e3) (hS.put e2 e3 ((hR.2 a _ _ _ hk).2.1 ht)) hl hG
theorem xw_zast {a n' tg : Nat} {x w : Int32} (hd : decode M.2.1 pc = .ok (.bastore, 1)) (hk : h.1 a = some (102, n', tg)) (ht : tg ≠ 0) (hx : vp_in x n') (kk : XW l E M d k n (pc + 1) ls st (xup h a x.toNatClampNeg (narrow .boolean (.int w))) Q) : XW l E M d k n pc ls (.int w :: .int x :: .ref a :: st) h Q := by
  intro p e R s m args below meth c H locs cells slots kc ks Z la hC h1 h2 h3 h4 hR hS hl hG
  obtain ⟨cell, q1, q2, q3, q4, q5, q6⟩ := xa_cell (t := 2) (by decide) hR hk
  exact W.zast (xc_exec hC) (xc_code hC) q1 (xa_arr (xc_warm hC) q2) q4 (xa_in hx q5.1) rfl rfl hd fun H' e1 e2 e3 =>
    kk p e R s m args below meth c H' _ cells slots kc ks Z la hC h1 h2 h3 h4 (xa_put (t := 2) ht hR hk (xa_lt hx) q1 q2 q4 q5 q6 e1 e2 e3) (hS.put e2 e3 ((hR.2 a _ _ _ hk).2.1 ht)) hl hG
theorem xw_last {a n' tg : Nat} {x : Int32} {w : Int64} (hd : decode M.2.1 pc = .ok (.lastore, 1)) (hk : h.1 a = some (103, n', tg)) (ht : tg ≠ 0) (hx : vp_in x n') (kk : XW l E M d k n (pc + 1) ls st (xup h a x.toNatClampNeg (.long w)) Q) : XW l E M d k n pc ls (.long w :: .int x :: .ref a :: st) h Q := by
  intro p e R s m args below meth c H locs cells slots kc ks Z la hC h1 h2 h3 h4 hR hS hl hG
  obtain ⟨cell, q1, q2, q3, q4, q5, q6⟩ := xa_cell (t := 3) (by decide) hR hk
  exact W.last (xc_exec hC) (xc_code hC) q1 (xa_arr (xc_warm hC) q2) q4 (xa_in hx q5.1) rfl rfl hd fun H' e1 e2 e3 =>
    kk p e R s m args below meth c H' _ cells slots kc ks Z la hC h1 h2 h3 h4 (xa_put (t := 3) ht hR hk (xa_lt hx) q1 q2 q4 q5 q6 e1 e2 e3) (hS.put e2 e3 ((hR.2 a _ _ _ hk).2.1 ht)) hl hG
/-- null into an array of objects -/
theorem xw_aastN {a t n' tg : Nat} {x : Int32} {C : String} (ht8 : t < 8) (hty : xty t = .object C) (hd : decode M.2.1 pc = .ok (.aastore, 1)) (hk : h.1 a = some (100 + t, n', tg)) (ht : tg ≠ 0) (hx : vp_in x n') (kk : XW l E M d k n (pc + 1) ls st (xup h a x.toNatClampNeg .null) Q) : XW l E M d k n pc ls (.null :: .int x :: .ref a :: st) h Q := by
  intro p e R s m args below meth c H locs cells slots kc ks Z la hC h1 h2 h3 h4 hR hS hl hG
  obtain ⟨cell, q1, q2, q3, q4, q5, q6⟩ := xa_cell ht8 hR hk
  have harr := xa_arr (xc_warm hC) q2
  rw [hty] at harr
  exact va_WaastN (xc_exec hC) (xc_code hC) q1 harr q4 (xa_in hx q5.1) rfl rfl hd fun H' e1 e2 e3 =>
    kk p e R s m args below meth c H' _ cells slots kc ks Z la hC h1 h2 h3 h4 (xa_put ht hR hk (xa_lt hx) q1 q2 q4 q5 q6 e1 e2 e3) (hS.put e2 e3 ((hR.2 a _ _ _ hk).2.1 ht)) hl hG
/-- what a value stored into an array of references must be, in the tables -/
def XAny (E : XEnv) (t : Nat) (s : State) (H : Heap) (b : Nat) : Prop := ∃ cv : Cell, H[b]? = some cv ∧ (∀ q, cv.vm ≠ .statics q) ∧ (∃ kv, s.vm.classes[cv.cls]? = some kv) ∧ ∀ comp, (∃ kA, E.1.vm.classes[E.2.2.1 t]? = some kA ∧ kA.kind = .array comp (xty t)) → s.vm.assignable cv.cls comp = true
theorem xw_aast {a b t n' tg : Nat} {x : Int32} (ht8 : t < 8) (ht4 : 4 ≤ t) (hd : decode M.2.1 pc = .ok (.aastore, 1)) (hk : h.1 a = some (100 + t, n', tg)) (ht : tg ≠ 0) (hx : vp_in x n') (hb : ∀ (p : Program) (R : Room) (s : State) (m : MethodId) (args : Array Value) (meth : Method) (c : Code) (H : Heap), XCtx l E M d p R s m args meth c → XR E h H → E.1.heap.size ≤ H.size → (∀ q : Nat, q < E.1.heap.size → H[q]? = E.1.heap[q]?) → XAny E t s H b) (kk : XW l E M d k n (pc + 1) ls st (xup h a x.toNatClampNeg (.ref b)) Q) : XW l E M d k n pc ls (.ref b :: .int x :: .ref a :: st) h Q := by
  intro p e R s m args below meth c H locs cells slots kc ks Z la hC h1 h2 h3 h4 hR hS hl hG
  obtain ⟨cell, q1, q2, q3, q4, q5, q6⟩ := xa_cell ht8 hR hk
  obtain ⟨kA, comp, g1, g2, ⟨kc9, g3⟩, -⟩ := (xc_ok hC).2.2.1 t ht8
  have hal := (xc_warm hC).alike
  obtain ⟨kA', g1', ge⟩ := hal.2.2 _ _ g1
  obtain ⟨kc', g3', -⟩ := hal.2.2 _ _ g3
  have hF := xc_F hC
  obtain ⟨cv, w1, w2, ⟨kv, w3⟩, w4⟩ := hb p R s m args meth c H hC hR (Nat.le_trans hF.1 hS.1) (fun q hq => (hS.2.1 q (Nat.lt_of_lt_of_le hq hF.1) (Nat.not_le.mpr hq)).trans (hF.2 q hq (Nat.not_le.mpr hq)))
  have hr : (xty t).isReference = true := by
    rcases (show t = 4 ∨ t = 5 ∨ t = 6 ∨ t = 7 by omega) with rfl | rfl | rfl | rfl <;> rfl
  have hx1 : ¬ x < 0 := fun z => hx (Or.inl z)
  have hb9 := (hR.2 a _ _ _ hk).2.1 ht
  have hcl9 := fun g => (hR.2 a _ _ _ hk).2.2 g (Or.inl ht)
  obtain ⟨c9, u1, u2⟩ := hcl9 (Nat.le_add_right 100 t)
  cases q1.symm.trans u1
  rw [Nat.add_sub_cancel_left] at u2
  exact W.aast (xc_exec hC) (xc_code hC) q1 q2.1 q4 (k := kA') (by rw [u2]; exact g1') (by rw [ge]; exact g2) hr g3' ⟨hx1, Nat.lt_of_lt_of_le (xa_lt hx) q5.1⟩ w1 w2 w3 (w4 comp ⟨kA, g1, g2⟩) rfl rfl hd fun H' e1 e2 e3 =>
    kk p e R s m args below meth c H' _ cells slots kc ks Z la hC h1 h2 h3 h4 (xa_put ht hR hk (xa_lt hx) q1 q2 q4 q5 q6 e1 e2 e3) (hS.put e2 e3 ((hR.2 a _ _ _ hk).2.1 ht)) hl hG
/-- newarray of the t-th element type -/
theorem xw_newa {atype : ArrayType} {x : Int32} {N : Nat} (tt t k' n' : Nat) (ht8 : t < 4) (hw : Cond.arrayClass (xty t) ∈ lw_all) (hty : newarray.typeOf atype = xty t) (hd : decode M.2.1 pc = .ok (.newarray atype, 2)) (hx : ¬ x < 0) (hN : x.toNatClampNeg = N) (hb : N ≤ 60000000) (hk : k' + 1 ≤ k) (hn : n' + N ≤ n) (kk : XW l E M d k' n' (pc + 2) ls (.ref h.2.2.1 :: st) (xnew h (100 + t) N tt N (fun _ => defaultValue (xty t))) Q) : XW l E M d k n pc ls (.int x :: st) h Q := by
  intro p e R s m args below meth c H locs cells slots kc ks Z la hC h1 h2 h3 h4 hR hS hl hG
  have hbytes : N * componentBytes (newarray.typeOf atype) ≤ 536870912 := by
    rw [hty]
    rcases (show t = 0 ∨ t = 1 ∨ t = 2 ∨ t = 3 by omega) with rfl | rfl | rfl | rfl <;> (show N * _ ≤ _) <;> simp only [componentBytes, xty] <;> omega
  refine va_newaK (xc_exec hC) (xc_code hC) (by rw [hty]; exact xc_w hC _ hw) rfl hd rfl hx hN hbytes (by omega) (by omega) rfl fun H1 cA e1 z1 o1 hAr hNm => ?_
  have hsz : E.1.heap.size ≤ H.size := Nat.le_trans (xc_F hC).1 hS.1
  obtain ⟨kA, comp, g1, g2, -, g4, -⟩ := (xc_ok hC).2.2.1 t (by omega)
  have hcA : cA = E.2.2.1 t := by
    have g5 := g4 (by omega)
    rw [← (xc_warm hC).alike.findClass, ← hty] at g5
    exact Option.some.inj (hNm.symm.trans g5)
  subst hcA
  have hcell : x_cell E H1 H.size (100 + t) N (fun _ => defaultValue (xty t)) := by
    refine ⟨fun z => absurd z (by omega), fun z => absurd z (by omega), fun _ => ?_, by omega⟩
    rw [Nat.add_sub_cancel_left, ← hty]
    exact ⟨_, e1, ⟨(fun q z => by cases z), kA, g1, comp, g2⟩, (fun z => by cases z), ⟨Nat.le_of_eq (arrV_size _ _ _).symm, by rw [arrV_size]⟩, fun j hj => arrV_read _ _ hj⟩
  have hR1 := hR.new (t := tt) (N := N) z1 ⟨hcell, ⟨fun _ => hsz, fun _ _ => ⟨_, e1, by rw [Nat.add_sub_cancel_left]; rfl⟩⟩⟩ o1
  rw [hR.1]
  exact kk p e R s m args below meth c H1 locs (cells + 1) (slots + N) kc ks Z la hC h1 h2 (by omega) (by omega) hR1 ⟨Nat.le_trans hS.1 (by omega), fun y g1 g2 => (o1 y (Nat.lt_of_lt_of_le g1 hS.1)).trans (hS.2.1 y g1 g2), hS.2.2⟩ hl hG
/-- anewarray of objects -/
theorem xw_anew {index : Nat} {x : Int32} {N : Nat} {C : String} (tt t k' n' : Nat) (ht : t = 4 ∨ t = 5) (hty : xty t = .object C) (hw : Cond.classLink M.1.cls index C ∈ lw_all) (hv : Cond.arrayOver (.object C) ∈ lw_tbl) (hd : decode M.2.1 pc = .ok (.anewarray index, 3)) (hx : ¬ x < 0) (hN : x.toNatClampNeg = N) (hb : N ≤ 60000000) (hk : k' + 1 ≤ k) (hn : n' + N ≤ n) (kk : XW l E M d k' n' (pc + 3) ls (.ref h.2.2.1 :: st) (xnew h (100 + t) N tt N (fun _ => .null)) Q) : XW l E M d k n pc ls (.int x :: st) h Q := by
  intro p e R s m args below meth c H locs cells slots kc ks Z la hC h1 h2 h3 h4 hR hS hl hG
  obtain ⟨A9, hA9⟩ := (xc_ok hC).1
  subst hN
  refine W.anew (xc_exec hC) (xc_code hC) (xc_own hC) (xc_w hC _ hw) (va_AO.moved (xc_warm hC).alike (va_AO.of (hA9 _ hv))).use rfl hd rfl hx (by omega) (by omega) (by omega) fun cA kA comp g1 g2 g3 g4 => ?_
  have hsz : E.1.heap.size ≤ H.size := Nat.le_trans (xc_F hC).1 hS.1
  obtain ⟨kA9, comp9, f1, f2, -, g5, -⟩ := (xc_ok hC).2.2.1 t (by omega)
  have hcA : cA = E.2.2.1 t := by
    have g6 := g5 (by omega)
    rw [← (xc_warm hC).alike.findClass, hty] at g6
    exact Option.some.inj (g1.symm.trans g6)
  subst hcA
  have o1 : ∀ q : Nat, q < H.size → (H.push { cls := E.2.2.1 t, slots := Array.replicate x.toNatClampNeg .null, vm := .none })[q]? = H[q]? := fun q hq => by
    rw [Array.getElem?_push, if_neg (Nat.ne_of_lt hq)]
  have hpu : (H.push { cls := E.2.2.1 t, slots := Array.replicate x.toNatClampNeg .null, vm := .none })[H.size]? = some { cls := E.2.2.1 t, slots := Array.replicate x.toNatClampNeg .null, vm := .none } := by simp
  have hcell : x_cell E (H.push { cls := E.2.2.1 t, slots := Array.replicate x.toNatClampNeg .null, vm := .none }) H.size (100 + t) x.toNatClampNeg (fun _ => .null) := by
    refine ⟨fun z => absurd z (by omega), fun z => absurd z (by omega), fun _ => ?_, by simp⟩
    rw [Nat.add_sub_cancel_left]
    exact ⟨_, hpu, ⟨(fun q z => by cases z), kA9, f1, comp9, f2⟩, (fun z => by cases z), by simp, fun j hj => by simp [hj]⟩
  have hR1 := hR.new (t := tt) (N := x.toNatClampNeg) (by simp) ⟨hcell, ⟨fun _ => hsz, fun _ _ => ⟨_, hpu, by rw [Nat.add_sub_cancel_left]⟩⟩⟩ o1
  rw [hR.1]
  exact kk p e R s m args below meth c _ locs (cells + 1) (slots + x.toNatClampNeg) kc ks Z la hC h1 h2 (by omega) (by omega) hR1 ⟨Nat.le_trans hS.1 (by simp), fun y g1 g2 => (o1 y (Nat.lt_of_lt_of_le g1 hS.1)).trans (hS.2.1 y g1 g2), hS.2.2⟩ hl hG
/-! ends, exceptions, weakening -/
theorem xw_ret {v : Option Value} (hr : xRet M pc v) (hq : Q (.inl v) h) : XW l E M d k n pc ls v.toList h Q := by
  intro p e R s m args below meth c H locs cells slots kc ks Z la hC h1 h2 h3 h4 hR hS hl hG
  exact hG.1 v h H locs cells slots pc la hq hR hS (by omega) (by omega) hr
theorem xw_iret {x : Int32} {ty : FieldType} (hd : decode M.2.1 pc = .ok (.ireturn, 1)) (ht : M.2.2.2.1 = some ty) (hn : narrow ty (.int x) = .int x) (hq : Q (.inl (some (.int x))) h) : XW l E M d k n pc ls [.int x] h Q := xw_ret (v := some (.int x)) ⟨hd, ty, ht, hn⟩ hq
theorem xw_lret {x : Int64} (hd : decode M.2.1 pc = .ok (.lreturn, 1)) (ht : M.2.2.2.1 = some .long) (hq : Q (.inl (some (.long x))) h) : XW l E M d k n pc ls [.long x] h Q := xw_ret (v := some (.long x)) ⟨hd, ht⟩ hq
theorem xw_vret (hd : decode M.2.1 pc = .ok (.return_, 1)) (ht : M.2.2.2.1 = none) (hq : Q (.inl none) h) : XW l E M d k n pc ls [] h Q := xw_ret (v := none) ⟨hd, ht⟩ hq
theorem xw_aret {v : Value} {rt : FieldType} (hd : decode M.2.1 pc = .ok (.areturn, 1)) (hv : xisr v = true) (ht : M.2.2.2.1 = some rt) (hrt : (∃ nm, rt = .object nm) ∨ ∃ t, rt = .array t) (hq : Q (.inl (some v)) h) : XW l E M d k n pc ls [v] h Q := by
  refine xw_ret (v := some v) ?_ hq
  cases v <;> first | (exact ⟨hd, hv, rt, ht, hrt⟩) | (cases hv)
theorem xw_mono {k' n' : Nat} (hk : k' ≤ k) (hn : n' ≤ n) (kk : XW l E M d k' n' pc ls st h Q) : XW l E M d k n pc ls st h Q := by
  intro p e R s m args below meth c H locs cells slots kc ks Z la hC h1 h2 h3 h4 hR hS hl hG
  exact kk p e R s m args below meth c H locs cells slots kc ks Z la hC h1 h2 (by omega) (by omega) hR hS hl hG
theorem xg_conseq {p : Program} {e : Env} {R : Room} {s : State} {m : MethodId} {args : Array Value} {below : List Frame} {meth : Method} {c : Code} {kc ks : Nat} {Z : State → Prop} {Q' : XO → XH → Prop} (hq : ∀ o h, Q' o h → Q o h) (hG : XGoal p l e R s m args below meth c E M kc ks Z Q) : XGoal p l e R s m args below meth c E M kc ks Z Q' :=
  ⟨fun v h H locs cells slots pc la z => hG.1 v h H locs cells slots pc la (hq _ _ z), fun C q h H locs cells slots pc la st ce z => hG.2 C q h H locs cells slots pc la st ce (hq _ _ z)⟩
theorem xw_conseq {Q' : XO → XH → Prop} (hq : ∀ o h, Q' o h → Q o h) (kk : XW l E M d k n pc ls st h Q') : XW l E M d k n pc ls st h Q := by
  intro p e R s m args below meth c H locs cells slots kc ks Z la hC h1 h2 h3 h4 hR hS hl hG
  exact kk p e R s m args below meth c H locs cells slots kc ks Z la hC h1 h2 h3 h4 hR hS hl (xg_conseq hq hG)
theorem xw_ls {L : List (Nat × Value)} (hs : xsub L ls) (kk : XW l E M d k n pc L st h Q) : XW l E M d k n pc ls st h Q := by
  intro p e R s m args below meth c H locs cells slots kc ks Z la hC h1 h2 h3 h4 hR hS hl hG
  exact kk p e R s m args below meth c H locs cells slots kc ks Z la hC h1 h2 h3 h4 hR hS (xsub_has hl hs) hG
theorem xw_eq {pc' : Nat} {ls' : List (Nat × Value)} {st' : List Value} (e1 : pc = pc') (e2 : ls = ls') (e3 : st = st') (kk : XW l E M d k n pc' ls' st' h Q) : XW l E M d k n pc ls st h Q := by
  subst e1 e2 e3
  exact kk
theorem xt_out {C : String} {q : Nat} (hq : Q (.inr (C, q)) h) (hc : ∀ x ∈ tableOf M.2.2.2.2, covers x pc = false) : XT l E M d k n pc ls C q h Q := by
  intro p e R s m args below meth c H locs cells slots kc ks Z la st ce hC h1 h2 h3 h4 hR hS hl hG e1 e2 e3
  exact hG.2 C q h H locs cells slots pc la st ce hq hR hS (by omega) (by omega) e1 e2 e3 hc
theorem xt_catch {C name : String} {q : Nat} (pre suf : List ExceptionTableEntry) (x : ExceptionTableEntry) (hsp : tableOf M.2.2.2.2 = pre ++ x :: suf) (hpre : ∀ z ∈ pre, covers z pc = false ∨ (z.catchType ≠ 0 ∧ ∃ nm : String, Cond.classLink M.1.cls z.catchType nm ∈ lw_all ∧ va_Nc C nm E.1)) (hx : covers x pc = true) (h0 : x.catchType ≠ 0) (hlk : Cond.classLink M.1.cls x.catchType name ∈ lw_all) (hca : Cond.castable C name ∈ lw_tbl) (kk : XW l E M d k n x.handlerPc ls [.ref q] h Q) : XT l E M d k n pc ls C q h Q := by
  intro p e R s m args below meth c H locs cells slots kc ks Z la st ce hC h1 h2 h3 h4 hR hS hl hG e1 e2 e3
  refine vx_catch (xc_own hC) pre x suf ((xc_tab hC).trans hsp) (fun z hz => ?_) hx h0 (xc_w hC _ hlk) ((va_Nw.warmC (xc_warm hC) (xw_tbl hC hca rfl)).use rfl) e1 e2 e3 (kk p e R s m args below meth c H locs cells slots kc ks Z la hC h1 h2 h3 h4 hR hS hl hG)
  rcases hpre z hz with g | ⟨g1, nm, g2, g3⟩
  · exact Or.inl g
  · exact Or.inr ⟨g1, nm, xc_w hC _ g2, va_Nc.moved (xc_warm hC).alike g3⟩
theorem xw_athrow {q ci n' t : Nat} {C : String} {T : u_T} {N : Nat} (hd : decode M.2.1 pc = .ok (.athrow, 1)) (hk : h.1 q = some (ci, n', t)) (hlt : ci < 90) (hc : xcl[ci]? = some (C, T, N)) (kk : XT l E M d k n pc ls C q h Q) : XW l E M d k n pc ls (.ref q :: st) h Q := by
  intro p e R s m args below meth c H locs cells slots kc ks Z la hC h1 h2 h3 h4 hR hS hl hG
  obtain ⟨r, g1, g2, cell, q1, q2, q3, q4⟩ := (hR.2 q ci n' t hk).1.1 hlt
  obtain ⟨hSl, hfc, -⟩ := (xc_K hC).1 ci _ hc
  exact vx_athrow (xc_exec hC) (xc_code hC) hd (kk p e R s m args below meth c H locs cells slots kc ks Z la st cell hC h1 h2 h3 h4 hR hS hl hG q1 q3 (by rw [q2]; exact hfc))
end XROWS3
/-! contracts -/
def xws (M : XMeth) : List Cond := (match M.2.2.2.2 with
  | [] => Cond.code M.1 M.2.1 M.2.2.1 M.2.2.2.1
  | hh => Cond.codeWith M.1 M.2.1 M.2.2.1 M.2.2.2.1 hh) :: lw_all
def xQc (E : XEnv) (Q : XO → XH → Prop) : Array Value → State → Outcome → State → Prop := fun _ st oc t => (∃ v h, oc = .returned v ∧ Q (.inl v) h ∧ XR E h t.heap) ∧ va_F (xA E) st t
def xXC (E : XEnv) (Q : XO → XH → Prop) : String → Addr → State → State → Prop := fun C q st t => (∃ h, Q (.inr (C, q)) h ∧ XR E h t.heap) ∧ va_F (xA E) st t
def xPc (E : XEnv) (av : List Value) (h : XH) : Array Value → State → Prop := va_Pc av (fun U => XOK E ∧ E.1.WarmedH U.vm ∧ va_F (xA E) E.1 U ∧ XR E h U.heap)
def XM (l : Launch) (E : XEnv) (M : XMeth) (d k n : Nat) (av : List Value) (h : XH) (Q : XO → XH → Prop) : Prop :=
  l.stackTraces = false → vx_Met l M.1 (xws M) { frames := d, cells := k, slots := n, locals := 100 * d } (xPc E av h) (xQc E Q) (xXC E Q) k n (xA E)
theorem xg_of {l : Launch} {E : XEnv} {M : XMeth} {d k n : Nat} {Q : XO → XH → Prop} {p : Program} {e : Env} {R : Room} {s : State} {m : MethodId} {args : Array Value} {below : List Frame} {meth : Method} {c : Code} (hC : XCtx l E M d p R s m args meth c) : XGoal p l e R s m args below meth c E M k n (vx_MQ below (xQc E Q) (xXC E Q) args s k n (xA E)) Q := by
  refine ⟨fun v h H locs cells slots pc la hq hR hS hc hs hr => ?_, fun C q h H locs cells slots pc la st ce hq hR hS hc hs e1 e2 e3 hout => ?_⟩
  · refine W.widen hc hs (vx_ret ?_)
    have hQ : ∀ t : State, t.heap = H → xQc E Q args s (.returned v) t := fun t ht => ⟨⟨v, h, rfl, hq, by rw [ht]; exact hR⟩, hS.F ht⟩
    cases v with
    | none => exact W.vret (xc_exec hC) (xc_code hC) ((xc_ret hC).trans hr.2) (fun t ht _ => hQ t ht) hS.2.2 hr.1 (xc_locks hC)
    | some w =>
      cases w with
      | int x =>
        obtain ⟨g1, ty, g2, g3⟩ := hr
        exact W.zret (xc_exec hC) (xc_code hC) ((xc_ret hC).trans g2) g3 (fun t ht _ => hQ t ht) hS.2.2 g1 (xc_locks hC)
      | long x => exact W.lret (xc_exec hC) (xc_code hC) ((xc_ret hC).trans hr.2) (fun t ht _ => hQ t ht) hS.2.2 hr.1 (xc_locks hC)
      | ref a =>
        obtain ⟨g1, g2, rt, g3, g4⟩ := hr
        exact W.aret (xc_exec hC) (xc_code hC) ((xc_ret hC).trans g3) g4 (Or.inr ⟨a, rfl⟩) (fun t ht _ => hQ t ht) hS.2.2 g1 (xc_locks hC)
      | null =>
        obtain ⟨g1, g2, rt, g3, g4⟩ := hr
        exact W.aret (xc_exec hC) (xc_code hC) ((xc_ret hC).trans g3) g4 (Or.inl rfl) (fun t ht _ => hQ t ht) hS.2.2 g1 (xc_locks hC)
      | float x => exact absurd hr.2.1 (by intro z; cases z)
      | double x => exact absurd hr.2.1 (by intro z; cases z)
      | retAddr x => exact absurd hr.2.1 (by intro z; cases z)
  · exact vx_out (by rw [xc_tab hC]; exact hout) (xc_locks hC) e1 e2 e3 (fun t ht _ => ⟨⟨h, hq, by rw [ht]; exact hR⟩, hS.F ht⟩) hS.2.2 hc hs
theorem xm_of {l : Launch} {E : XEnv} {M : XMeth} {d k n : Nat} {av : List Value} {h : XH} {Q : XO → XH → Prop} (hy : plainName M.1.cls = true) (hh : M.2.2.2.2 = []) (hL : (lg_sl av).length ≤ M.2.2.1) (body : XW l E M d k n 0 (lv_args 0 av) [] h Q) : XM l E M d k n av h Q := by
  intro hl0
  refine vx_ofW (cc := M.2.1) (maxL := M.2.2.1) (ret := M.2.2.2.1) hy (ws' := lw_all) (by unfold xws; rw [hh]) ?_
  intro p e s m args below meth c s₁ B hml htab hv
  obtain ⟨rfl, hok, hW, hF, hR⟩ := hv
  have hts := atoms_spec (ws := xws M) B.pre
  have hown : s.vm.findClass M.1.cls = some m.cls := findClass_of_methodNamed B.named
  have hC : XCtx l E M d p { frames := d, cells := k, slots := n, locals := 100 * d } s m av.toArray meth c := by
    refine ⟨⟨hl0, B.exec, B.bytes, hml, B.returns, hown, fun w hw => hts w (List.mem_cons_of_mem _ hw), B.notSynchronized, (name_of_methodNamed B.named B.method).1, ?_⟩, hok, hW, hF, Nat.le_refl _, Nat.le_refl _⟩
    rw [hh]
    cases e9 : c.exceptionTable.toList with
    | nil => rfl
    | cons x t => exact absurd (htab x (by rw [e9]; exact List.mem_cons_self)) (fun z => z)
  have hl := lv_entry av (n := M.2.2.1) hL
  rw [lg_entry_eq]
  exact body p e _ s m av.toArray below meth c s.heap [] 0 0 k n _ _ hC (Nat.le_refl _) (Nat.le_refl _) (by omega) (by omega) hR va_S.rf hl (xg_of hC)
theorem xm_ofH {l : Launch} {E : XEnv} {M : XMeth} {d k n : Nat} {av : List Value} {h : XH} {Q : XO → XH → Prop} (hy : plainName M.1.cls = true) (hh : M.2.2.2.2 ≠ []) (hL : (lg_sl av).length ≤ M.2.2.1) (body : XW l E M d k n 0 (lv_args 0 av) [] h Q) : XM l E M d k n av h Q := by
  intro hl0
  have hws : xws M = Cond.codeWith M.1 M.2.1 M.2.2.1 M.2.2.2.1 M.2.2.2.2 :: lw_all := by
    unfold xws
    cases e9 : M.2.2.2.2 with
    | nil => exact absurd e9 hh
    | cons x t => rfl
  refine vx_ofWH (cc := M.2.1) (maxL := M.2.2.1) (ret := M.2.2.2.1) hy (ws' := lw_all) hws ?_
  intro p e s m args below meth c s₁ B hml hv
  obtain ⟨rfl, hok, hW, hF, hR⟩ := hv
  have hts := atoms_spec (ws := xws M) B.pre
  have hown : s.vm.findClass M.1.cls = some m.cls := findClass_of_methodNamed B.named
  have hC : XCtx l E M d p { frames := d, cells := k, slots := n, locals := 100 * d } s m av.toArray meth c := by
    refine ⟨⟨hl0, B.exec, B.bytes, hml, B.returns, hown, fun w hw => hts w (List.mem_cons_of_mem _ hw), B.notSynchronized, (name_of_methodNamed B.named B.method).1, ?_⟩, hok, hW, hF, Nat.le_refl _, Nat.le_refl _⟩
    exact vx_table (x := M.1) B (hts _ (by rw [hws]; exact List.mem_cons_self))
  have hl := lv_entry av (n := M.2.2.1) hL
  rw [lg_entry_eq]
  exact body p e _ s m av.toArray below meth c s.heap [] 0 0 k n _ _ hC (Nat.le_refl _) (Nat.le_refl _) (by omega) (by omega) hR va_S.rf hl (xg_of hC)

/-! calls: what the tables say of a call, once for each entry of a constant pool -/
section XCALLS
variable {l : Launch} {E : XEnv} {M M' : XMeth} {d k n : Nat} {pc : Nat} {ls : List (Nat × Value)} {st : List Value} {h : XH} {Q Q' : XO → XH → Prop}
/-- a method without handlers, that can be called -/
def XCd (M' : XMeth) (np : Nat) : Prop := M'.2.2.2.2 = [] ∧ M'.2.2.1 ≤ 80 ∧ Cond.code M'.1 M'.2.1 M'.2.2.1 M'.2.2.2.1 ∈ lw_all ∧ Cond.initialized M'.1.cls ∈ lw_all ∧ M'.1.cls ≠ "java/lang/invoke/MethodHandle" ∧ M'.1.cls ≠ "java/lang/invoke/VarHandle" ∧ (parseMethodDescriptor M'.1.desc).map (fun d => d.parameters.length) = some np
/-- with handlers -/
def XCdH (M' : XMeth) (np : Nat) : Prop := M'.2.2.2.2 ≠ [] ∧ M'.2.2.1 ≤ 80 ∧ Cond.codeWith M'.1 M'.2.1 M'.2.2.1 M'.2.2.2.1 M'.2.2.2.2 ∈ lw_all ∧ Cond.initialized M'.1.cls ∈ lw_all ∧ M'.1.cls ≠ "java/lang/invoke/MethodHandle" ∧ M'.1.cls ≠ "java/lang/invoke/VarHandle" ∧ (parseMethodDescriptor M'.1.desc).map (fun d => d.parameters.length) = some np
def XLkV (own : String) (index : Nat) (M' : XMeth) : Prop := (Cond.methodLink own index M'.1 ∈ lw_all ∨ ∃ host, Cond.methodLinkNest own index M'.1 host ∈ lw_tbl) ∧ Cond.instanceMethod M'.1 ∈ lw_all ∧ Cond.selects M'.1.cls M'.1 M'.1 ∈ lw_all
def XLkS (own : String) (index : Nat) (M' : XMeth) : Prop := (Cond.methodLink own index M'.1 ∈ lw_all ∨ ∃ host, Cond.methodLinkNest own index M'.1 host ∈ lw_tbl) ∧ Cond.static M'.1 ∈ lw_all
def XLkI (own : String) (index : Nat) (M' : XMeth) : Prop := (Cond.methodLink own index M'.1 ∈ lw_all ∨ ∃ host, Cond.methodLinkNest own index M'.1 host ∈ lw_tbl) ∧ Cond.instanceMethod M'.1 ∈ lw_all ∧ M'.1.name = "<init>"
/-- through an interface, or by a superclass's name: x is what is named, C the receiver's class -/
def XLkF (own : String) (index : Nat) (C : String) (x : MethodName) (M' : XMeth) (np : Nat) : Prop := Cond.methodLink own index x ∈ lw_all ∧ Cond.selects C x M'.1 ∈ lw_all ∧ Cond.instanceMethod M'.1 ∈ lw_all ∧ Cond.initialized M'.1.cls ∈ lw_all ∧ Cond.declares x ∈ lw_tbl ∧ Cond.interfaceMethod x.cls x.cls x.name x.desc ∈ lw_tbl ∧ Cond.publicMethod M'.1 ∈ lw_tbl ∧ Cond.unhidden C x.name x.desc ∈ lw_tbl ∧ Cond.castable C x.cls ∈ lw_tbl ∧ x.cls ≠ "java/lang/invoke/MethodHandle" ∧ x.cls ≠ "java/lang/invoke/VarHandle" ∧ (parseMethodDescriptor x.desc).map (fun d => d.parameters.length) = some np
/-- inherited: called by x, found in owner, selected in C: M' -/
def XLkU (own : String) (index : Nat) (C owner : String) (x : MethodName) (M' : XMeth) (np : Nat) : Prop := (Cond.methodLink own index x ∈ lw_all ∧ Cond.sameMethod x.cls owner x.name x.desc ∈ lw_all ∧ Cond.selects C x M'.1 ∈ lw_all ∧ Cond.instanceMethod M'.1 ∈ lw_all ∧ Cond.initialized M'.1.cls ∈ lw_all) ∧ (Cond.declares ⟨owner, x.name, x.desc⟩ ∈ lw_tbl ∨ (Cond.instanceMethod ⟨owner, x.name, x.desc⟩ ∈ lw_all ∧ ∃ b m9 r9, Cond.code ⟨owner, x.name, x.desc⟩ b m9 r9 ∈ lw_all)) ∧ owner ≠ "java/lang/invoke/MethodHandle" ∧ owner ≠ "java/lang/invoke/VarHandle" ∧ (parseMethodDescriptor x.desc).map (fun d => d.parameters.length) = some np
theorem xp_blind {av : List Value} : FrameBlind (xPc E av h) := fun _ _ _ _ q => q
theorem xp_at {p : Program} {R : Room} {s : State} {m : MethodId} {args : Array Value} {meth : Method} {c : Code} {H : Heap} {locs : List Loc} (hC : XCtx l E M d p R s m args meth c) (hR : XR E h H) (hS : va_S (xA E) s.heap H locs) (av : List Value) : ∀ U : State, U.heap = H → s.WarmedH U.vm → xPc E av h av.toArray U := by
  intro U hU hW
  have hF := xc_F hC
  refine ⟨rfl, xc_ok hC, State.WarmedH.trans (xc_warm hC) hW, ⟨by rw [hU]; exact Nat.le_trans hF.1 hS.1, fun q h1 h2 => by rw [hU, hS.2.1 q (Nat.lt_of_lt_of_le h1 hF.1) h2]; exact hF.2 q h1 h2⟩, by rw [hU]; exact hR⟩
theorem xp_good {s : State} {args : Array Value} (hts : ∀ w ∈ lw_all, w.before args s = true) {ws : List Cond} (hw : ∀ w ∈ ws, w ∈ lw_all) : ∀ w ∈ ws, ∀ (a' : Array Value) (U : State), s.WarmedH U.vm → w.before a' U = true := by
  intro w hx a' U hW
  have hg : goodWord w = true := (List.mem_filter.mp (hw w hx)).2
  refine word_at hW ?_ (hts w (hw w hx))
  cases w <;> first | (exact Or.inr ⟨_, rfl⟩) | (exact Or.inl hg)
theorem xws_in {np : Nat} (hc : XCd M' np) : ∀ w ∈ xws M', w ∈ lw_all := by
  intro w hw
  unfold xws at hw
  rw [hc.1] at hw
  rcases List.mem_cons.mp hw with rfl | hw
  · exact hc.2.2.1
  · exact hw
theorem xws_cd {np : Nat} (hc : XCd M' np) : Cond.code M'.1 M'.2.1 M'.2.2.1 M'.2.2.2.1 ∈ xws M' := by
  unfold xws
  rw [hc.1]
  exact List.mem_cons_self
theorem xwsH_in {np : Nat} (hc : XCdH M' np) : ∀ w ∈ xws M', w ∈ lw_all := by
  intro w hw
  unfold xws at hw
  cases e9 : M'.2.2.2.2 with
  | nil => exact absurd e9 hc.1
  | cons x t =>
    rw [e9] at hw
    rcases List.mem_cons.mp hw with rfl | hw
    · have h9 := hc.2.2.1
      rw [e9] at h9
      exact h9
    · exact hw
theorem xwsH_cd {np : Nat} (hc : XCdH M' np) : Cond.codeWith M'.1 M'.2.1 M'.2.2.1 M'.2.2.2.1 M'.2.2.2.2 ∈ xws M' := by
  unfold xws
  cases e9 : M'.2.2.2.2 with
  | nil => exact absurd e9 hc.1
  | cons x t => exact List.mem_cons_self
theorem xp_len {desc : String} {np : Nat} (h : (parseMethodDescriptor desc).map (fun d => d.parameters.length) = some np) : ∀ sig, parseMethodDescriptor desc = some sig → np = sig.parameters.length := by
  intro sig hs
  rw [hs] at h
  exact (Option.some.inj h).symm
/-- what class a kind is of -/
def XRcv (ci : Nat) (C : String) : Prop := (ci < 90 ∧ ∃ T N, xcl[ci]? = some (C, T, N)) ∨ (ci = 90 ∧ C = "java/lang/String")
/-- the receiver's cell -/
theorem xp_recv {p : Program} {R : Room} {s : State} {m : MethodId} {args : Array Value} {meth : Method} {c : Code} {H : Heap} (hC : XCtx l E M d p R s m args meth c) (hR : XR E h H) {b ci n' t : Nat} {C : String} (hk : h.1 b = some (ci, n', t)) (hr : XRcv ci C) : ∃ cellB : Cell, H[b]? = some cellB ∧ cellB.vm.isStatics = false ∧ s.vm.findClass C = some cellB.cls := by
  rcases hr with ⟨hlt, T, N, hc⟩ | ⟨rfl, rfl⟩
  · obtain ⟨r', g1, g2, cell, q1, q2, q3, q4⟩ := (hR.2 b ci n' t hk).1.1 hlt
    have hr : r' = (C, T, N) := Option.some.inj (g1.symm.trans hc)
    subst hr
    obtain ⟨hSl, hfc, -⟩ := (xc_K hC).1 ci _ hc
    exact ⟨cell, q1, by rw [q3]; rfl, by rw [q2]; exact hfc⟩
  · obtain ⟨⟨cell, g1, g2, g3, -⟩, -⟩ := (hR.2 b 90 n' t hk).1.2.1 rfl
    exact ⟨cell, g1, g2, by rw [(xc_warm hC).alike.findClass]; exact g3⟩
/-- behind a call -/
theorem xw_back {p : Program} {e : Env} {R : Room} {s : State} {m : MethodId} {args : Array Value} {below : List Frame} {meth : Method} {c : Code} {H : Heap} {locs : List Loc} {cells slots kc ks : Nat} {Z : State → Prop} {la : Array Slot} {k' n' mc ms : Nat} {st0 : List Value} {a9 : Array Value}
    (hr : vx_Run p l e R s m args below meth c H locs cells slots mc ms (F0 m pc la st0) st (xQc E Q' a9) (xXC E Q') (xA E))
    (hC : XCtx l E M d p R s m args meth c) (h1 : kc ≤ R.cells) (h2 : ks ≤ R.slots) (h3 : cells + mc + k' ≤ kc) (h4 : slots + ms + n' ≤ ks) (hS : va_S (xA E) s.heap H locs) (hl : lv_has la M.2.2.1 ls) (hG : XGoal p l e R s m args below meth c E M kc ks Z Q)
    (kk : ∀ v h', Q' (.inl v) h' → XW l E M d k' n' (pc + 3) ls (v.toList ++ st) h' Q) (kx : ∀ C q h', Q' (.inr (C, q)) h' → XT l E M d k' n' pc ls C q h' Q) : W p l e R s m args below meth c H locs cells slots Z (F0 m pc la st0) := by
  intro T hT X
  rcases hr T hT X with ⟨v, st₀, t, T', L, h0, X', hL, e1, e2, ⟨⟨v', h', hv, hq, hR'⟩, hF⟩, stp⟩ | ⟨q, st₀, t, T', L, C, ce, h0, X', hL, e1, e2, ⟨⟨h', hq, hR'⟩, hF⟩, hce, hcv, hcl, stp⟩
  · cases hv
    obtain ⟨k1, k2, k3⟩ := vx_keep h0 e1 hS (fun _ _ z => z) (fun _ z => z) hL hF
    obtain ⟨t2, a1, b1⟩ := kk v h' hq p e R s m args below meth c T'.heap (locs ++ L) (cells + mc) (slots + ms) kc ks Z la hC h1 h2 h3 h4 (by rw [e1]; exact hR') k3 hl hG T' rfl X'
    exact ⟨t2, stp t2 a1, b1⟩
  · obtain ⟨k1, k2, k3⟩ := vx_keep h0 e1 hS (fun _ _ z => z) (fun _ z => z) hL hF
    obtain ⟨t2, a1, b1⟩ := kx C q h' hq p e R s m args below meth c T'.heap (locs ++ L) (cells + mc) (slots + ms) kc ks Z la st ce hC h1 h2 h3 h4 (by rw [e1]; exact hR') k3 hl hG (by rw [e1]; exact hce) hcv hcl T' rfl X'
    exact ⟨t2, stp.trans a1, b1⟩
theorem xw_back5 {p : Program} {e : Env} {R : Room} {s : State} {m : MethodId} {args : Array Value} {below : List Frame} {meth : Method} {c : Code} {H : Heap} {locs : List Loc} {cells slots kc ks : Nat} {Z : State → Prop} {la : Array Slot} {k' n' mc ms : Nat} {st0 : List Value} {a9 : Array Value}
    (hr : vx_Run5 p l e R s m args below meth c H locs cells slots mc ms (F0 m pc la st0) st (xQc E Q' a9) (xXC E Q') (xA E))
    (hC : XCtx l E M d p R s m args meth c) (h1 : kc ≤ R.cells) (h2 : ks ≤ R.slots) (h3 : cells + mc + k' ≤ kc) (h4 : slots + ms + n' ≤ ks) (hS : va_S (xA E) s.heap H locs) (hl : lv_has la M.2.2.1 ls) (hG : XGoal p l e R s m args below meth c E M kc ks Z Q)
    (kk : ∀ v h', Q' (.inl v) h' → XW l E M d k' n' (pc + 5) ls (v.toList ++ st) h' Q) (kx : ∀ C q h', Q' (.inr (C, q)) h' → XT l E M d k' n' pc ls C q h' Q) : W p l e R s m args below meth c H locs cells slots Z (F0 m pc la st0) := by
  intro T hT X
  rcases hr T hT X with ⟨v, st₀, t, T', L, h0, X', hL, e1, e2, ⟨⟨v', h', hv, hq, hR'⟩, hF⟩, stp⟩ | ⟨q, st₀, t, T', L, C, ce, h0, X', hL, e1, e2, ⟨⟨h', hq, hR'⟩, hF⟩, hce, hcv, hcl, stp⟩
  · cases hv
    obtain ⟨k1, k2, k3⟩ := vx_keep h0 e1 hS (fun _ _ z => z) (fun _ z => z) hL hF
    obtain ⟨t2, a1, b1⟩ := kk v h' hq p e R s m args below meth c T'.heap (locs ++ L) (cells + mc) (slots + ms) kc ks Z la hC h1 h2 h3 h4 (by rw [e1]; exact hR') k3 hl hG T' rfl X'
    exact ⟨t2, stp t2 a1, b1⟩
  · obtain ⟨k1, k2, k3⟩ := vx_keep h0 e1 hS (fun _ _ z => z) (fun _ z => z) hL hF
    obtain ⟨t2, a1, b1⟩ := kx C q h' hq p e R s m args below meth c T'.heap (locs ++ L) (cells + mc) (slots + ms) kc ks Z la st ce hC h1 h2 h3 h4 (by rw [e1]; exact hR') k3 hl hG (by rw [e1]; exact hce) hcv hcl T' rfl X'
    exact ⟨t2, stp.trans a1, b1⟩
theorem xw_room {p : Program} {R : Room} {s : State} {m : MethodId} {args : Array Value} {meth : Method} {c : Code} (hC : XCtx l E M d p R s m args meth c) {d' nL k' n' : Nat} (hd : d' + 1 ≤ d) (hL : nL ≤ 80) : ({ frames := d', cells := k', slots := n', locals := 100 * d' } : Room).frames + 1 ≤ R.frames ∧ 8 + (nL + 11) + ({ frames := d', cells := k', slots := n', locals := 100 * d' } : Room).locals ≤ R.locals := by
  have h1 := xc_d hC
  have h2 := xc_dl hC
  constructor
  · show d' + 1 ≤ R.frames
    omega
  · show 8 + (nL + 11) + 100 * d' ≤ R.locals
    omega
/-- invokevirtual of a method of the receiver's own class -/
theorem xw_callV {index np d' mc ms k' n' ci n'' t b : Nat} {As : List Value} (hX : XM l E M' d' mc ms (.ref b :: As) h Q') (hL : XLkV M.1.cls index M') (hc : XCd M' np) (hd : decode M.2.1 pc = .ok (.invokevirtual index, 3)) (hk : h.1 b = some (ci, n'', t)) (hr : XRcv ci M'.1.cls) (hn : As.length = np) (hdd : d' + 1 ≤ d) (hmc : mc + k' ≤ k) (hms : ms + n' ≤ n) (hst : (st.map fun v => v.category).sum ≤ 8)
    (kk : ∀ v h', Q' (.inl v) h' → XW l E M d k' n' (pc + 3) ls (v.toList ++ st) h' Q) (kx : ∀ C q h', Q' (.inr (C, q)) h' → XT l E M d k' n' pc ls C q h' Q) : XW l E M d k n pc ls (As.reverse ++ .ref b :: st) h Q := by
  intro p e R s m args below meth c H locs cells slots kc ks Z la hC h1 h2 h3 h4 hR hS hl hG
  have hrm := xw_room (k' := mc) (n' := ms) hC hdd hc.2.1
  have hrv := xp_recv hC hR hk hr
  have hfix : CallFix p m c M.2.1 M.2.2.1 s args lw_all M.1.cls := ⟨xc_exec hC, xc_code hC, xc_ml hC, xc_own hC, xc_w hC⟩
  have hpre : PreV s H M'.1.cls b (xPc E (.ref b :: As) h) As := ⟨xp_blind, hrv, xp_at hC hR hS _⟩
  rcases hL.1 with hlk | ⟨host, hlk⟩
  · exact xw_back (vx_runV (g := F0 m pc la _) hfix (hX (xc_l hC)) ⟨⟨rfl, rfl, hrm.1, hrm.2, xp_good (xc_w hC) (xws_in hc), xws_cd hc, xc_w hC _ hc.2.2.1, xc_w hC _ hc.2.2.2.1, ⟨hc.2.2.2.2.1, hc.2.2.2.2.2.1⟩, xp_len hc.2.2.2.2.2.2, xc_w hC _ hlk⟩, xc_w hC _ hL.2.1, xc_w hC _ hL.2.2⟩ hpre rfl hn hl.1 rfl (by simpa [JFrame.monitorRoom] using hst) hd ⟨by omega, by omega⟩) hC h1 h2 (by omega) (by omega) hS hl hG kk kx
  · exact xw_back (vx_runVN (host := host) (g := F0 m pc la _) hfix (hX (xc_l hC)) ⟨⟨⟨rfl, rfl, hrm.1, hrm.2, xp_good (xc_w hC) (xws_in hc), xws_cd hc⟩, xc_w hC _ hc.2.2.1, xc_w hC _ hc.2.2.2.1, ⟨hc.2.2.2.2.1, hc.2.2.2.2.2.1⟩, xp_len hc.2.2.2.2.2.2, (va_Nw.warmM (xc_warm hC) (xw_tbl hC hlk rfl)).use rfl⟩, xc_w hC _ hL.2.1, xc_w hC _ hL.2.2⟩ hpre rfl hn hl.1 rfl (by simpa [JFrame.monitorRoom] using hst) hd ⟨by omega, by omega⟩) hC h1 h2 (by omega) (by omega) hS hl hG kk kx
/-- the same, the callee has handlers -/
theorem xw_callVH {index np d' mc ms k' n' ci n'' t b : Nat} {As : List Value} (hX : XM l E M' d' mc ms (.ref b :: As) h Q') (hlk : Cond.methodLink M.1.cls index M'.1 ∈ lw_all) (hin : Cond.instanceMethod M'.1 ∈ lw_all) (hse : Cond.selects M'.1.cls M'.1 M'.1 ∈ lw_all) (hc : XCdH M' np) (hd : decode M.2.1 pc = .ok (.invokevirtual index, 3)) (hk : h.1 b = some (ci, n'', t)) (hr : XRcv ci M'.1.cls) (hn : As.length = np) (hdd : d' + 1 ≤ d) (hmc : mc + k' ≤ k) (hms : ms + n' ≤ n) (hst : (st.map fun v => v.category).sum ≤ 8)
    (kk : ∀ v h', Q' (.inl v) h' → XW l E M d k' n' (pc + 3) ls (v.toList ++ st) h' Q) (kx : ∀ C q h', Q' (.inr (C, q)) h' → XT l E M d k' n' pc ls C q h' Q) : XW l E M d k n pc ls (As.reverse ++ .ref b :: st) h Q := by
  intro p e R s m args below meth c H locs cells slots kc ks Z la hC h1 h2 h3 h4 hR hS hl hG
  have hrm := xw_room (k' := mc) (n' := ms) hC hdd hc.2.1
  have hrv := xp_recv hC hR hk hr
  have hfix : CallFix p m c M.2.1 M.2.2.1 s args lw_all M.1.cls := ⟨xc_exec hC, xc_code hC, xc_ml hC, xc_own hC, xc_w hC⟩
  have hpre : PreV s H M'.1.cls b (xPc E (.ref b :: As) h) As := ⟨xp_blind, hrv, xp_at hC hR hS _⟩
  exact xw_back (vx_runVX (g := F0 m pc la _) hfix (hX (xc_l hC)) ⟨⟨rfl, rfl, hrm.1, hrm.2, xp_good (xc_w hC) (xwsH_in hc), xwsH_cd hc⟩, xc_w hC _ hc.2.2.1, xc_w hC _ hc.2.2.2.1, ⟨hc.2.2.2.2.1, hc.2.2.2.2.2.1⟩, xp_len hc.2.2.2.2.2.2, xc_w hC _ hlk, xc_w hC _ hin, xc_w hC _ hse⟩ hpre rfl hn hl.1 rfl (by simpa [JFrame.monitorRoom] using hst) hd ⟨by omega, by omega⟩) hC h1 h2 (by omega) (by omega) hS hl hG kk kx
theorem xw_callS {index np d' mc ms k' n' : Nat} {As : List Value} (hX : XM l E M' d' mc ms As h Q') (hL : XLkS M.1.cls index M') (hc : XCd M' np) (hd : decode M.2.1 pc = .ok (.invokestatic index, 3)) (hn : As.length = np) (hdd : d' + 1 ≤ d) (hmc : mc + k' ≤ k) (hms : ms + n' ≤ n) (hst : (st.map fun v => v.category).sum ≤ 8)
    (kk : ∀ v h', Q' (.inl v) h' → XW l E M d k' n' (pc + 3) ls (v.toList ++ st) h' Q) (kx : ∀ C q h', Q' (.inr (C, q)) h' → XT l E M d k' n' pc ls C q h' Q) : XW l E M d k n pc ls (As.reverse ++ st) h Q := by
  intro p e R s m args below meth c H locs cells slots kc ks Z la hC h1 h2 h3 h4 hR hS hl hG
  have hrm := xw_room (k' := mc) (n' := ms) hC hdd hc.2.1
  have hfix : CallFix p m c M.2.1 M.2.2.1 s args lw_all M.1.cls := ⟨xc_exec hC, xc_code hC, xc_ml hC, xc_own hC, xc_w hC⟩
  have hpre : PreS s H (xPc E As h) As := ⟨xp_blind, xp_at hC hR hS _⟩
  rcases hL.1 with hlk | ⟨host, hlk⟩
  · exact xw_back (vx_runS (g := F0 m pc la _) hfix (hX (xc_l hC)) ⟨⟨rfl, rfl, hrm.1, hrm.2, xp_good (xc_w hC) (xws_in hc), xws_cd hc, xc_w hC _ hc.2.2.1, xc_w hC _ hc.2.2.2.1, ⟨hc.2.2.2.2.1, hc.2.2.2.2.2.1⟩, xp_len hc.2.2.2.2.2.2, xc_w hC _ hlk⟩, xc_w hC _ hL.2⟩ hpre rfl hn hl.1 rfl (by simpa [JFrame.monitorRoom] using hst) hd ⟨by omega, by omega⟩) hC h1 h2 (by omega) (by omega) hS hl hG kk kx
  · exact xw_back (vx_runSN (host := host) (g := F0 m pc la _) hfix (hX (xc_l hC)) ⟨⟨⟨rfl, rfl, hrm.1, hrm.2, xp_good (xc_w hC) (xws_in hc), xws_cd hc⟩, xc_w hC _ hc.2.2.1, xc_w hC _ hc.2.2.2.1, ⟨hc.2.2.2.2.1, hc.2.2.2.2.2.1⟩, xp_len hc.2.2.2.2.2.2, (va_Nw.warmM (xc_warm hC) (xw_tbl hC hlk rfl)).use rfl⟩, xc_w hC _ hL.2, trivial⟩ hpre rfl hn hl.1 rfl (by simpa [JFrame.monitorRoom] using hst) hd ⟨by omega, by omega⟩) hC h1 h2 (by omega) (by omega) hS hl hG kk kx
theorem xw_callSH {index np d' mc ms k' n' : Nat} {As : List Value} (hX : XM l E M' d' mc ms As h Q') (hlk : Cond.methodLink M.1.cls index M'.1 ∈ lw_all) (hsm : Cond.static M'.1 ∈ lw_all) (hc : XCdH M' np) (hd : decode M.2.1 pc = .ok (.invokestatic index, 3)) (hn : As.length = np) (hdd : d' + 1 ≤ d) (hmc : mc + k' ≤ k) (hms : ms + n' ≤ n) (hst : (st.map fun v => v.category).sum ≤ 8)
    (kk : ∀ v h', Q' (.inl v) h' → XW l E M d k' n' (pc + 3) ls (v.toList ++ st) h' Q) (kx : ∀ C q h', Q' (.inr (C, q)) h' → XT l E M d k' n' pc ls C q h' Q) : XW l E M d k n pc ls (As.reverse ++ st) h Q := by
  intro p e R s m args below meth c H locs cells slots kc ks Z la hC h1 h2 h3 h4 hR hS hl hG
  have hrm := xw_room (k' := mc) (n' := ms) hC hdd hc.2.1
  have hfix : CallFix p m c M.2.1 M.2.2.1 s args lw_all M.1.cls := ⟨xc_exec hC, xc_code hC, xc_ml hC, xc_own hC, xc_w hC⟩
  have hpre : PreS s H (xPc E As h) As := ⟨xp_blind, xp_at hC hR hS _⟩
  exact xw_back (vx_runSX (g := F0 m pc la _) hfix (hX (xc_l hC)) ⟨⟨rfl, rfl, hrm.1, hrm.2, xp_good (xc_w hC) (xwsH_in hc), xwsH_cd hc⟩, xc_w hC _ hc.2.2.1, xc_w hC _ hc.2.2.2.1, ⟨hc.2.2.2.2.1, hc.2.2.2.2.2.1⟩, xp_len hc.2.2.2.2.2.2, xc_w hC _ hlk, xc_w hC _ hsm⟩ hpre rfl hn hl.1 rfl (by simpa [JFrame.monitorRoom] using hst) hd ⟨by omega, by omega⟩) hC h1 h2 (by omega) (by omega) hS hl hG kk kx
/-- a constructor -/
theorem xw_callI {index np d' mc ms k' n' b : Nat} {As : List Value} (hX : XM l E M' d' mc ms (.ref b :: As) h Q') (hL : XLkI M.1.cls index M') (hv : M'.2.2.2.1 = none) (hc : XCd M' np) (hd : decode M.2.1 pc = .ok (.invokespecial index, 3)) (hn : As.length = np) (hdd : d' + 1 ≤ d) (hmc : mc + k' ≤ k) (hms : ms + n' ≤ n) (hst : (st.map fun v => v.category).sum ≤ 8)
    (kk : ∀ v h', Q' (.inl v) h' → XW l E M d k' n' (pc + 3) ls (v.toList ++ st) h' Q) (kx : ∀ C q h', Q' (.inr (C, q)) h' → XT l E M d k' n' pc ls C q h' Q) : XW l E M d k n pc ls (As.reverse ++ .ref b :: st) h Q := by
  intro p e R s m args below meth c H locs cells slots kc ks Z la hC h1 h2 h3 h4 hR hS hl hG
  have hrm := xw_room (k' := mc) (n' := ms) hC hdd hc.2.1
  have hfix : CallFix p m c M.2.1 M.2.2.1 s args lw_all M.1.cls := ⟨xc_exec hC, xc_code hC, xc_ml hC, xc_own hC, xc_w hC⟩
  have hpre : PreS s H (xPc E (.ref b :: As) h) (.ref b :: As) := ⟨xp_blind, xp_at hC hR hS _⟩
  have hcd := xws_cd hc
  have hcw := xc_w hC _ hc.2.2.1
  rw [hv] at hcd hcw
  rcases hL.1 with hlk | ⟨host, hlk⟩
  · exact xw_back (vx_runI (g := F0 m pc la _) hfix (hX (xc_l hC)) ⟨⟨rfl, rfl, hrm.1, hrm.2, xp_good (xc_w hC) (xws_in hc), hcd, hcw, xc_w hC _ hc.2.2.2.1, ⟨hc.2.2.2.2.1, hc.2.2.2.2.2.1⟩, xp_len hc.2.2.2.2.2.2, xc_w hC _ hlk⟩, hL.2.2, xc_w hC _ hL.2.1⟩ hpre rfl hn hl.1 rfl (by simpa [JFrame.monitorRoom] using hst) hd ⟨by omega, by omega⟩) hC h1 h2 (by omega) (by omega) hS hl hG kk kx
  · exact xw_back (vx_runIN (host := host) (g := F0 m pc la _) hfix (hX (xc_l hC)) ⟨⟨⟨rfl, rfl, hrm.1, hrm.2, xp_good (xc_w hC) (xws_in hc), hcd⟩, hcw, xc_w hC _ hc.2.2.2.1, ⟨hc.2.2.2.2.1, hc.2.2.2.2.2.1⟩, xp_len hc.2.2.2.2.2.2, (va_Nw.warmM (xc_warm hC) (xw_tbl hC hlk rfl)).use rfl⟩, hL.2.2, xc_w hC _ hL.2.1⟩ hpre rfl hn hl.1 rfl (by simpa [JFrame.monitorRoom] using hst) hd ⟨by omega, by omega⟩) hC h1 h2 (by omega) (by omega) hS hl hG kk kx
/-- Object's constructor -/
theorem xw_objInit {index b : Nat} (hlk : Cond.methodLink M.1.cls index Lib.objectInit ∈ lw_all) (hin : Cond.instanceMethod Lib.objectInit ∈ lw_all) (hcd : Cond.code Lib.objectInit ⟨#[0xb1]⟩ 1 none ∈ lw_all) (hd : decode M.2.1 pc = .ok (.invokespecial index, 3)) (hdd : 1 ≤ d) (hst : (st.map fun v => v.category).sum ≤ 8) (kk : XW l E M d k n (pc + 3) ls st h Q) : XW l E M d k n pc ls (.ref b :: st) h Q := by
  intro p e R s m args below meth c H locs cells slots kc ks Z la hC h1 h2 h3 h4 hR hS hl hG
  have hb1 := xc_d hC
  have hb2 := xc_dl hC
  exact W.objInit (xc_exec hC) (xc_code hC) (xc_own hC) (xc_w hC _ hlk) (xc_w hC _ hin) (xc_w hC _ hcd) rfl (by rw [xc_ml hC]; exact hl.1) rfl hd (by omega) (by simp only [JFrame.monitorRoom]; simp; omega) (kk p e R s m args below meth c H locs cells slots kc ks Z la hC h1 h2 h3 h4 hR hS hl hG)
/-- invokeinterface -/
theorem xw_callF {index np count d' mc ms k' n' ci n'' t b : Nat} {As : List Value} {r : vw_C} {x : MethodName} (hX : XM l E M' d' mc ms (.ref b :: As) h Q') (hL : XLkF M.1.cls index r.1 x M' np) (hc : XCd M' np) (hd : decode M.2.1 pc = .ok (.invokeinterface index count, 5)) (hk : h.1 b = some (ci, n'', t)) (hlt : ci < 90) (hr : xcl[ci]? = some r) (hn : As.length = np) (hdd : d' + 1 ≤ d) (hmc : mc + k' ≤ k) (hms : ms + n' ≤ n) (hst : (st.map fun v => v.category).sum ≤ 8)
    (kk : ∀ v h', Q' (.inl v) h' → XW l E M d k' n' (pc + 5) ls (v.toList ++ st) h' Q) (kx : ∀ C q h', Q' (.inr (C, q)) h' → XT l E M d k' n' pc ls C q h' Q) : XW l E M d k n pc ls (As.reverse ++ .ref b :: st) h Q := by
  intro p e R s m args below meth c H locs cells slots kc ks Z la hC h1 h2 h3 h4 hR hS hl hG
  have hrm := xw_room (k' := mc) (n' := ms) hC hdd hc.2.1
  have hrv := xp_recv (C := r.1) hC hR hk (Or.inl ⟨hlt, r.2.1, r.2.2, hr⟩)
  have hfix : CallFix p m c M.2.1 M.2.2.1 s args lw_all M.1.cls := ⟨xc_exec hC, xc_code hC, xc_ml hC, xc_own hC, xc_w hC⟩
  have hpre : PreV s H r.1 b (xPc E (.ref b :: As) h) As := ⟨xp_blind, hrv, xp_at hC hR hS _⟩
  obtain ⟨g1, g2, g3, g4, g5, g6, g7, g8, g9, g10, g11, g12⟩ := hL
  obtain ⟨A, hA⟩ := (xc_ok hC).1
  have hFw : va_Fw r.1 x M'.1 s := va_Fw.moved ⟨g10, g11⟩ (xc_warm hC).alike (va_Fw.of (hA _ g5) (hA _ g6) (hA _ g7) (hA _ g8) (hA _ g9))
  obtain ⟨f1, f2, f3, f4, f5⟩ := hFw
  exact xw_back5 (vx_runF (g := F0 m pc la _) ((xc_K hC).1 ci _ hr).2 hfix (hX (xc_l hC)) ⟨⟨rfl, rfl, hrm.1, hrm.2, xp_good (xc_w hC) (xws_in hc), xws_cd hc⟩, xc_w hC _ g1, va_any rfl f1, va_any rfl f2, xc_w hC _ g2, xc_w hC _ g3, va_any rfl f3, va_any rfl f4, va_any rfl f5, xc_w hC _ g4, xc_w hC _ hc.2.2.1, ⟨g10, g11⟩, xp_len g12⟩ hpre rfl hn hl.1 rfl (by simpa [JFrame.monitorRoom] using hst) hd ⟨by omega, by omega⟩) hC h1 h2 (by omega) (by omega) hS hl hG kk kx
end XCALLS
