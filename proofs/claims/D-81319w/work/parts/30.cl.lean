/-! THE CLASS'S LAYER: what of the tables it stands on; arrays of references; calls through interfaces, of inherited and overriding methods, of nest mates -/
set_option maxRecDepth 100000
/-- the list's methods: called by the interface's name -/
def nvFw : List (MethodName × MethodName) := [(⟨"java/util/List", "size", "()I"⟩, ⟨"java/util/ArrayList", "size", "()I"⟩), (⟨"java/util/List", "get", "(I)Ljava/lang/Object;"⟩, ⟨"java/util/ArrayList", "get", "(I)Ljava/lang/Object;"⟩), (⟨"java/util/List", "isEmpty", "()Z"⟩, ⟨"java/util/ArrayList", "isEmpty", "()Z"⟩), (⟨"java/util/List", "remove", "(I)Ljava/lang/Object;"⟩, ⟨"java/util/ArrayList", "remove", "(I)Ljava/lang/Object;"⟩), (⟨"java/util/List", "set", "(ILjava/lang/Object;)Ljava/lang/Object;"⟩, ⟨"java/util/ArrayList", "set", "(ILjava/lang/Object;)Ljava/lang/Object;"⟩), (⟨"java/util/List", "add", "(Ljava/lang/Object;)Z"⟩, ⟨"java/util/ArrayList", "add", "(Ljava/lang/Object;)Z"⟩), (⟨"java/util/List", "clear", "()V"⟩, ⟨"java/util/ArrayList", "clear", "()V"⟩), (⟨"java/util/List", "addAll", "(Ljava/util/Collection;)Z"⟩, ⟨"java/util/ArrayList", "addAll", "(Ljava/util/Collection;)Z"⟩), (⟨"java/util/Collection", "toArray", "()[Ljava/lang/Object;"⟩, ⟨"java/util/ArrayList", "toArray", "()[Ljava/lang/Object;"⟩)]
theorem nvFw_n : ∀ q ∈ nvFw, q.1.cls ≠ "java/lang/invoke/MethodHandle" ∧ q.1.cls ≠ "java/lang/invoke/VarHandle" := by decide +kernel
/-- what may be cast -/
def nvCs : List (String × String) := [("OneLongRow$Plain", "java/lang/Object"), ("OneLongRow$Both", "java/lang/Object"), ("OneLongRow$Turned", "java/lang/Object"), ("OneLongRow$Reading", "java/lang/Object"), ("OneLongRow$Both", "OneLongRow$Plain"), ("OneLongRow$Turned", "OneLongRow$Plain"), ("OneLongRow$Turned", "OneLongRow$Both"), ("[I", "java/lang/Cloneable")]
/-- private fields and methods of nest mates -/
def nvNf : List (String × Nat × String × String × String × String) := [("OneLongRow", 225, "OneLongRow$Reading", "w", "I", "OneLongRow"), ("OneLongRow", 228, "OneLongRow$Reading", "row", "[I", "OneLongRow"), ("OneLongRow", 231, "OneLongRow$Reading", "stands", "Z", "OneLongRow"), ("OneLongRow$Act", 15, "OneLongRow", "fault", "I", "OneLongRow"), ("OneLongRow$Plain", 23, "OneLongRow", "trace", "I", "OneLongRow")]
def nvNm : List (String × Nat × MethodName × String) := [("OneLongRow$Noting", 20, (⟨"OneLongRow", "readBy", "(I[II)I"⟩ : MethodName), "OneLongRow"), ("OneLongRow$Copying", 29, (⟨"OneLongRow", "rowIn", "(I)Ljava/lang/Object;"⟩ : MethodName), "OneLongRow"), ("OneLongRow$Copying", 7, (⟨"OneLongRow$Act", "<init>", "(LOneLongRow;)V"⟩ : MethodName), "OneLongRow"), ("OneLongRow$Taking", 7, (⟨"OneLongRow$Act", "<init>", "(LOneLongRow;)V"⟩ : MethodName), "OneLongRow"), ("OneLongRow$Act", 25, (⟨"OneLongRow", "fails", "(I)I"⟩ : MethodName), "OneLongRow"), ("OneLongRow$Looking", 7, (⟨"OneLongRow$Act", "<init>", "(LOneLongRow;)V"⟩ : MethodName), "OneLongRow"), ("OneLongRow$Looking", 26, (⟨"OneLongRow", "rowIn", "(I)Ljava/lang/Object;"⟩ : MethodName), "OneLongRow"), ("OneLongRow$Looking", 32, (⟨"OneLongRow", "cellsOf", "(Ljava/lang/Object;III)[I"⟩ : MethodName), "OneLongRow"), ("OneLongRow$Founding", 13, (⟨"OneLongRow", "newWords", "([I)I"⟩ : MethodName), "OneLongRow"), ("OneLongRow$Hearing", 17, (⟨"OneLongRow", "rowBy", "([II)I"⟩ : MethodName), "OneLongRow")]
/-- the class's ground -/
def nvE (a0 ez : Nat) (U : State) : Prop :=
  (∀ q ∈ nvFw, va_Fw "java/util/ArrayList" q.1 q.2 U) ∧ (∀ q ∈ nvCs, va_Nw (.castable q.1 q.2) U) ∧ va_AO "java/lang/Object" U ∧ va_AO "OneLongRow$Sheet" U ∧
  va_Z "java/util/ArrayList" "DEFAULTCAPACITY_EMPTY_ELEMENTDATA" "[Ljava/lang/Object;" (.ref ez) (nvA a0) U U.heap ∧ (∃ f, va_T (.object "java/lang/Object") ez 0 f (nvA a0) U U.heap) ∧ ez < a0 ∧ (∀ q ∈ nvNf, va_Nw (.fieldLinkNest q.1 q.2.1 q.2.2.1 q.2.2.2.1 q.2.2.2.2.1 q.2.2.2.2.2) U) ∧ (∀ q ∈ nvNm, va_Nw (.methodLinkNest q.1 q.2.1 q.2.2.1 q.2.2.2) U)
theorem nvE_b (a0 ez : Nat) : nvGb (nvE a0 ez) := fun _ _ _ _ h => h
theorem nvE_keep {a0 ez : Nat} {s : State} (h : nvE a0 ez s) {D : va_G} {w : va_W} {H : Heap} {locs : List Loc} (hX : nvS D a0 w s.heap H locs) : ∀ U : State, U.heap = H → s.WarmedH U.vm → nvE a0 ez U := by
  intro U hU hW
  have hq : ∀ a : Nat, a < s.heap.size → ¬ nvA a0 a → U.heap[a]? = s.heap[a]? := fun a h1 h2 => by rw [hU]; exact hX.2.2.2.1 a h1 h2
  obtain ⟨h1, h2, h3, h4, h5, ⟨f, h6⟩, h7, h8, h9⟩ := h
  exact ⟨fun q hq => (h1 q hq).moved (nvFw_n q hq) hW.alike, fun q hq => va_Nw.warmC hW (h2 q hq), h3.moved hW.alike, h4.moved hW.alike, (h5.moved hW.alike).kept hq, ⟨f, (h6.moved hW.alike).kept hq⟩, h7, fun q hq => va_Nw.warmF hW (h8 q hq), fun q hq => va_Nw.warmM hW (h9 q hq)⟩
theorem nvE_f0 {a0 ez : Nat} {s : State} (h : nvE a0 ez s) : va_Fw RJ2 (⟨"java/util/List", "size", "()I"⟩ : MethodName) yJ2_size s := h.1 (⟨"java/util/List", "size", "()I"⟩, ⟨"java/util/ArrayList", "size", "()I"⟩) (List.mem_of_getElem? (i := 0) rfl)
theorem nvE_f1 {a0 ez : Nat} {s : State} (h : nvE a0 ez s) : va_Fw RJ2 (⟨"java/util/List", "get", "(I)Ljava/lang/Object;"⟩ : MethodName) yJ2_get s := h.1 (⟨"java/util/List", "get", "(I)Ljava/lang/Object;"⟩, ⟨"java/util/ArrayList", "get", "(I)Ljava/lang/Object;"⟩) (List.mem_of_getElem? (i := 1) rfl)
theorem nvE_f2 {a0 ez : Nat} {s : State} (h : nvE a0 ez s) : va_Fw RJ2 (⟨"java/util/List", "isEmpty", "()Z"⟩ : MethodName) yJ2_isEmpty s := h.1 (⟨"java/util/List", "isEmpty", "()Z"⟩, ⟨"java/util/ArrayList", "isEmpty", "()Z"⟩) (List.mem_of_getElem? (i := 2) rfl)
theorem nvE_f3 {a0 ez : Nat} {s : State} (h : nvE a0 ez s) : va_Fw RJ2 (⟨"java/util/List", "remove", "(I)Ljava/lang/Object;"⟩ : MethodName) yJ2_remove s := h.1 (⟨"java/util/List", "remove", "(I)Ljava/lang/Object;"⟩, ⟨"java/util/ArrayList", "remove", "(I)Ljava/lang/Object;"⟩) (List.mem_of_getElem? (i := 3) rfl)
theorem nvE_f4 {a0 ez : Nat} {s : State} (h : nvE a0 ez s) : va_Fw RJ2 (⟨"java/util/List", "set", "(ILjava/lang/Object;)Ljava/lang/Object;"⟩ : MethodName) yJ2_set s := h.1 (⟨"java/util/List", "set", "(ILjava/lang/Object;)Ljava/lang/Object;"⟩, ⟨"java/util/ArrayList", "set", "(ILjava/lang/Object;)Ljava/lang/Object;"⟩) (List.mem_of_getElem? (i := 4) rfl)
theorem nvE_f5 {a0 ez : Nat} {s : State} (h : nvE a0 ez s) : va_Fw RJ2 (⟨"java/util/List", "add", "(Ljava/lang/Object;)Z"⟩ : MethodName) yJ2_add s := h.1 (⟨"java/util/List", "add", "(Ljava/lang/Object;)Z"⟩, ⟨"java/util/ArrayList", "add", "(Ljava/lang/Object;)Z"⟩) (List.mem_of_getElem? (i := 5) rfl)
theorem nvE_f6 {a0 ez : Nat} {s : State} (h : nvE a0 ez s) : va_Fw RJ2 (⟨"java/util/List", "clear", "()V"⟩ : MethodName) yJ2_clear s := h.1 (⟨"java/util/List", "clear", "()V"⟩, ⟨"java/util/ArrayList", "clear", "()V"⟩) (List.mem_of_getElem? (i := 6) rfl)
theorem nvE_f7 {a0 ez : Nat} {s : State} (h : nvE a0 ez s) : va_Fw RJ2 (⟨"java/util/List", "addAll", "(Ljava/util/Collection;)Z"⟩ : MethodName) yJ2_addAll s := h.1 (⟨"java/util/List", "addAll", "(Ljava/util/Collection;)Z"⟩, ⟨"java/util/ArrayList", "addAll", "(Ljava/util/Collection;)Z"⟩) (List.mem_of_getElem? (i := 7) rfl)
theorem nvE_f8 {a0 ez : Nat} {s : State} (h : nvE a0 ez s) : va_Fw RJ2 (⟨"java/util/Collection", "toArray", "()[Ljava/lang/Object;"⟩ : MethodName) yJ2_toArray s := h.1 (⟨"java/util/Collection", "toArray", "()[Ljava/lang/Object;"⟩, ⟨"java/util/ArrayList", "toArray", "()[Ljava/lang/Object;"⟩) (List.mem_of_getElem? (i := 8) rfl)
section NCL
variable {p : Program} {l : Launch} {e : Env} {R : Room} {s : State} {m : MethodId} {args : Array Value} {below : List Frame} {meth : Method} {c : Code} {H : Heap} {locs : List Loc} {cells slots : Nat} {Q : State → Prop}
variable {cc : ByteArray} {nM : Nat} {own : String} {D : va_G} {dA : Nat → ClassId} {a0 : Nat} {w : va_W} {pc : Nat} {ls : Array Slot} {rest : List Value}
/-- shifts to the right; the last bit -/
theorem sh_n : ∀ b : Nat, b < 31 → ((nI b &&& 31).toBitVec.smod 32).toNat = b := by decide +kernel
theorem nv_ishr (hx : p.tables.exec = Jvm.exec) (hb : c.code = cc) {x y : Nat} (h1 : x < 2 ^ 31) (h2 : y < 31) (d : decode cc pc = .ok (.ishr, 1)) (k : W p l e R s m args below meth c H locs cells slots Q (F0 m (pc + 1) ls (.int (nI (x / 2 ^ y)) :: rest))) : W p l e R s m args below meth c H locs cells slots Q (F0 m pc ls (.int (nI y) :: .int (nI x) :: rest)) :=
  lv_ishr hx hb d (by rw [pk_shrN h1 _ y (sh_n y h2)]; exact k)
theorem nv_iand1 (hx : p.tables.exec = Jvm.exec) (hb : c.code = cc) {x : Nat} (h1 : x < 2 ^ 31) (d : decode cc pc = .ok (.iand, 1)) (k : W p l e R s m args below meth c H locs cells slots Q (F0 m (pc + 1) ls (.int (nI (x % 2)) :: rest))) : W p l e R s m args below meth c H locs cells slots Q (F0 m pc ls (.int (nI 1) :: .int (nI x) :: rest)) :=
  lv_iand hx hb d (by rw [pk_andN (by omega) 1 (by decide)]; exact k)
/-- a reference on the top -/
theorem nv_asR {v : Option Nat} {x : Nat} (h : v = some x) (k : W p l e R s m args below meth c H locs cells slots Q (F0 m pc ls (.ref x :: rest))) : W p l e R s m args below meth c H locs cells slots Q (F0 m pc ls (va_rf v :: rest)) := by
  subst h
  exact k
/-- cells that are somewhere in the world -/
theorem nv_ialdM (hC : nvC p s m args c cc nM own D dA a0) (hX : nvS D a0 w s.heap H locs) {a n i : Nat} {f : Nat → Int32} (h : (a, aI dA n f) ∈ w) (hi : i < n) (hn : n < 2 ^ 31) {v : Int32} (hv : f i = v) (d : decode cc pc = .ok (.iaload, 1))
    (kk : W p l e R s m args below meth c H locs cells slots Q (F0 m (pc + 1) ls (.int v :: rest))) : W p l e R s m args below meth c H locs cells slots Q (F0 m pc ls (.int (nI i) :: .ref a :: rest)) := by
  obtain ⟨q, hq⟩ := List.getElem?_of_mem h
  exact nv_iald hC hX q hq hi hn hv d kk
theorem nv_alenM (hC : nvC p s m args c cc nM own D dA a0) (hX : nvS D a0 w s.heap H locs) (t0 : Nat) {a n : Nat} {cA : ClassId} {x : (Nat → Int32) ⊕ (Nat → Int64) ⊕ (Nat → UInt32) ⊕ (Nat → UInt64) ⊕ (Nat → Option Nat)} (h : (a, .inl (cA, n, x)) ∈ w) {ty : FieldType} (ht : (nvT dA)[t0]? = some (cA, ty)) (d : decode cc pc = .ok (.arraylength, 1))
    (kk : W p l e R s m args below meth c H locs cells slots Q (F0 m (pc + 1) ls (.int (nI n) :: rest))) : W p l e R s m args below meth c H locs cells slots Q (F0 m pc ls (.ref a :: rest)) := by
  obtain ⟨q, hq⟩ := List.getElem?_of_mem h
  exact nv_alen hC hX q t0 hq ht d kk
theorem nv_getM (hC : nvC p s m args c cc nM own D dA a0) (hX : nvS D a0 w s.heap H locs) {ref C : String} {T : u_T} {N ci index : Nat} (hin : ∀ x ∈ u_ws C T N, x ∈ lw_all) {a : Nat} {fs : List Value} (h : (a, .inr (ci, fs)) ∈ w) (hc : vwCl[ci]? = some (C, T, N)) (k : Nat) (hk : k < N) (hl : Cond.fieldLink own index ref (T k).2.1 (T k).2.2.1 ∈ lw_all) (hsame : ∀ x, s.fieldFound? (T k).1 (T k).2.1 (T k).2.2.1 = some x → s.fieldFound? ref (T k).2.1 (T k).2.2.1 = some x) {v : Value} (hv : fs[k]? = some v) (d : decode cc pc = .ok (.getfield index, 3))
    (kk : W p l e R s m args below meth c H locs cells slots Q (F0 m (pc + 3) ls (v :: rest))) : W p l e R s m args below meth c H locs cells slots Q (F0 m pc ls (.ref a :: rest)) := by
  obtain ⟨q, hq⟩ := List.getElem?_of_mem h
  exact nv_get hC hX hin q hq hc k hk hl hsame hv d kk
/-- a nest mate's private field -/
theorem nv_getNM (hC : nvC p s m args c cc nM own D dA a0) (hX : nvS D a0 w s.heap H locs) {ref C host : String} {T : u_T} {N ci index : Nat} (hin : ∀ x ∈ u_ws C T N, x ∈ lw_all) {a : Nat} {fs : List Value} (h : (a, .inr (ci, fs)) ∈ w) (hc : vwCl[ci]? = some (C, T, N)) (k : Nat) (hk : k < N) (hl : va_Nw (.fieldLinkNest own index ref (T k).2.1 (T k).2.2.1 host) s) (hsame : ∀ x, s.fieldFound? (T k).1 (T k).2.1 (T k).2.2.1 = some x → s.fieldFound? ref (T k).2.1 (T k).2.2.1 = some x) {v : Value} (hv : fs[k]? = some v) (d : decode cc pc = .ok (.getfield index, 3))
    (kk : W p l e R s m args below meth c H locs cells slots Q (F0 m (pc + 3) ls (v :: rest))) : W p l e R s m args below meth c H locs cells slots Q (F0 m pc ls (.ref a :: rest)) := by
  obtain ⟨q, hq⟩ := List.getElem?_of_mem h
  exact va_getN hC.1 hC.2.1 hC.2.2.2.2.1 hin hC.2.2.2.1 hC.2.2.2.2.2.1 hX.1 q hq hc k hk (va_Nw.use rfl hl) hsame hv d kk
/-- arrays of references -/
theorem nv_aald (hC : nvC p s m args c cc nM own D dA a0) (hX : nvS D a0 w s.heap H locs) (q0 t0 : Nat) {a n i : Nat} {cA : ClassId} {E : String} {f : Nat → Option Nat} (he : w[q0]? = some (a, .inl (cA, n, .inr (.inr (.inr (.inr f)))))) (ht : (nvT dA)[t0]? = some (cA, .object E)) (hi : i < n) (hn : n < 2 ^ 31) {v : Option Nat} (hv : f i = v) (d : decode cc pc = .ok (.aaload, 1))
    (kk : W p l e R s m args below meth c H locs cells slots Q (F0 m (pc + 1) ls (va_rf v :: rest))) : W p l e R s m args below meth c H locs cells slots Q (F0 m pc ls (.int (nI i) :: .ref a :: rest)) := by
  subst hv
  refine va_aldq hC.1 hC.2.1 hC.2.2.2.2.2.1 hX.1 q0 t0 he ht (vp_in_nI hi hn) d ?_
  rw [nI_clamp (by omega)]
  exact kk
theorem nv_aastN (hC : nvC p s m args c cc nM own D dA a0) (hX : nvS D a0 w s.heap H locs) (q0 t0 : Nat) {a n i : Nat} {cA : ClassId} {E : String} {f : Nat → Option Nat} (he : w[q0]? = some (a, .inl (cA, n, .inr (.inr (.inr (.inr f)))))) (ht : (nvT dA)[t0]? = some (cA, .object E)) (hi : i < n) (hn : n < 2 ^ 31) (d : decode cc pc = .ok (.aastore, 1))
    (kk : ∀ (H1 : Heap) (locs1 : List Loc), nvS D a0 (w.set q0 (a, .inl (cA, n, .inr (.inr (.inr (.inr (va_up f i none))))))) s.heap H1 locs1 → W p l e R s m args below meth c H1 locs1 cells slots Q (F0 m (pc + 1) ls rest)) : W p l e R s m args below meth c H locs cells slots Q (F0 m pc ls (.null :: .int (nI i) :: .ref a :: rest)) := by
  refine va_astqN hC.1 hC.2.1 hC.2.2.2.2.2.1 hX.1 hX.2.1 hX.2.2 q0 t0 he ht (vp_in_nI hi hn) d ?_
  rw [nI_clamp (by omega)]
  exact fun H1 locs1 h1 h2 h3 => kk H1 locs1 ⟨h1, h2, h3⟩
theorem nv_aast (hC : nvC p s m args c cc nM own D dA a0) (hX : nvS D a0 w s.heap H locs) (q0 t0 qk : Nat) {a n i v ci : Nat} {cA : ClassId} {E : String} {f : Nat → Option Nat} {vs : List Value} {q : vw_C} (he : w[q0]? = some (a, .inl (cA, n, .inr (.inr (.inr (.inr f)))))) (ht : (nvT dA)[t0]? = some (cA, .object E)) (hv : w[qk]? = some (v, .inr (ci, vs))) (hc : vwCl[ci]? = some q) (hca : va_Nw (.castable q.1 E) s) (hi : i < n) (hn : n < 2 ^ 31) (d : decode cc pc = .ok (.aastore, 1))
    (kk : ∀ (H1 : Heap) (locs1 : List Loc), nvS D a0 (w.set q0 (a, .inl (cA, n, .inr (.inr (.inr (.inr (va_up f i (some v)))))))) s.heap H1 locs1 → W p l e R s m args below meth c H1 locs1 cells slots Q (F0 m (pc + 1) ls rest)) : W p l e R s m args below meth c H locs cells slots Q (F0 m pc ls (.ref v :: .int (nI i) :: .ref a :: rest)) := by
  refine vb_astq hC.1 hC.2.1 hC.2.2.2.2.2.1 hX.1 hX.2.1 hX.2.2 q0 t0 he ht (va_recv hC.2.2.2.2.2.1 hX.1 hc hv) (vb_asgC hca) (vp_in_nI hi hn) d ?_
  rw [nI_clamp (by omega)]
  exact fun H1 locs1 h1 h2 h3 => kk H1 locs1 ⟨h1, h2, h3⟩
theorem nv_newq (hC : nvC p s m args c cc nM own D dA a0) {l1 l2 : va_W} (hX : nvS D a0 (l1 ++ l2) s.heap H locs) {E : String} {idx : Nat} (t0 : Nat) {cB : ClassId} (ht : (nvT dA)[t0]? = some (cB, .object E)) (hO : va_AO E s) (h1 : Cond.classLink own idx E ∈ lw_all) {n : Nat} (hn : n < 100000) (hc : cells + 1 ≤ R.cells) (hs : slots + n ≤ R.slots) (d : decode cc pc = .ok (.anewarray idx, 3))
    (kk : ∀ (q : Nat) (H1 : Heap), nvS D a0 (l1 ++ (q, .inl (cB, n, .inr (.inr (.inr (.inr (fun _ => none)))))) :: l2) s.heap H1 locs → W p l e R s m args below meth c H1 locs (cells + 1) (slots + n) Q (F0 m (pc + 3) ls (.ref q :: rest))) : W p l e R s m args below meth c H locs cells slots Q (F0 m pc ls (.int (nI n) :: rest)) := by
  refine va_newq hC.1 hC.2.1 hC.2.2.2.1 (hC.2.2.2.2.1 _ h1) hO hC.2.2.2.2.2.1 hX.1 hX.2.1 hX.2.2 (nv_hA hC) (nI_pos (by omega)) (nI_clamp (by omega)) (by omega) hc hs d ?_
  intro q cA H1 hK hP hD hS
  have e : cA = cB := by
    obtain ⟨-, -, -, -, -, h2⟩ := (hK.2 (nvT dA).length _ (by rw [List.getElem?_append_right (Nat.le_refl _), Nat.sub_self]; rfl)).2
    obtain ⟨-, -, -, -, -, h3⟩ := (hC.2.2.2.2.2.1.2 t0 _ ht).2
    exact Option.some.inj (h2.symm.trans h3)
  subst e
  exact kk q H1 (nvS.ins ⟨hP, hD, hS⟩)
/-- Math.min, Math.max -/
theorem mn_n {x y : Nat} (hx : x < 2 ^ 31) (hy : y < 2 ^ 31) : (if nI y < nI x then nI y else nI x) = nI (min x y) := by
  by_cases h : y < x
  · rw [if_pos (nI_lt h hx), Nat.min_eq_right (by omega)]
  · rw [if_neg (fun z => h ((nI_ltI hy hx).mp z)), Nat.min_eq_left (by omega)]
theorem mx_n {x y : Nat} (hx : x < 2 ^ 31) (hy : y < 2 ^ 31) : (if nI x < nI y then nI y else nI x) = nI (max x y) := by
  by_cases h : x < y
  · rw [if_pos (nI_lt h hy), Nat.max_eq_right (by omega)]
  · rw [if_neg (fun z => h ((nI_ltI hx hy).mp z)), Nat.max_eq_left (by omega)]
theorem nv_min (hC : nvC p s m args c cc nM own D dA a0) (hz : ls.size = nM) {idx x y : Nat} (h1 : Cond.methodLink own idx ⟨"java/lang/Math", "min", "(II)I"⟩ ∈ lw_all) (hx : x < 2 ^ 31) (hy : y < 2 ^ 31) (hf : 1 ≤ R.frames ∧ 30 ≤ R.locals) (hro : (rest.map fun v => v.category).sum ≤ 8) (hcs : cells ≤ R.cells ∧ slots ≤ R.slots) (d : decode cc pc = .ok (.invokestatic idx, 3))
    (k : W p l e R s m args below meth c H locs cells slots Q (F0 m (pc + 3) ls (.int (nI (min x y)) :: rest))) : W p l e R s m args below meth c H locs cells slots Q (F0 m pc ls (.int (nI y) :: .int (nI x) :: rest)) :=
  va_mmin hC.1 hC.2.1 (hC.2.2.1.trans hz.symm) hC.2.2.2.1 (hC.2.2.2.2.1 _ h1) (hC.2.2.2.2.1 _ q354) (hC.2.2.2.2.1 _ q78) (hC.2.2.2.2.1 _ q355) hf.1 (by omega) hcs.1 hcs.2 d (by rw [mn_n hx hy]; exact k)
theorem nv_max (hC : nvC p s m args c cc nM own D dA a0) (hz : ls.size = nM) {idx x y : Nat} (h1 : Cond.methodLink own idx ⟨"java/lang/Math", "max", "(II)I"⟩ ∈ lw_all) (hx : x < 2 ^ 31) (hy : y < 2 ^ 31) (hf : 1 ≤ R.frames ∧ 30 ≤ R.locals) (hro : (rest.map fun v => v.category).sum ≤ 8) (hcs : cells ≤ R.cells ∧ slots ≤ R.slots) (d : decode cc pc = .ok (.invokestatic idx, 3))
    (k : W p l e R s m args below meth c H locs cells slots Q (F0 m (pc + 3) ls (.int (nI (max x y)) :: rest))) : W p l e R s m args below meth c H locs cells slots Q (F0 m pc ls (.int (nI y) :: .int (nI x) :: rest)) :=
  va_mmax hC.1 hC.2.1 (hC.2.2.1.trans hz.symm) hC.2.2.2.1 (hC.2.2.2.2.1 _ h1) (hC.2.2.2.2.1 _ q877) (hC.2.2.2.2.1 _ q78) (hC.2.2.2.2.1 _ q878) hf.1 (by omega) hcs.1 hcs.2 d (by rw [mx_n hx hy]; exact k)
/-- calls through an interface -/
theorem nv_rF {x y : MethodName} {b : ByteArray} {L idx cnt n fr lo mc ms : Nat} {ret : Option FieldType} {G : State → Prop} {As rest : List Value} {bb q0 ci : Nat} {fs : List Value} {q : vw_C} {Qc : Array Value → State → Outcome → State → Prop}
    (hC : nvC p s m args c cc nM own D dA a0) (hX : nvS D a0 w s.heap H locs) (hM : nMt l D dA a0 y b L ret fr lo mc ms G (.ref bb :: As) w Qc) (hG : nvGb G) (hg : ∀ U : State, U.heap = H → s.WarmedH U.vm → G U) (hF : va_Fw q.1 x y s)
    (he : w[q0]? = some (bb, .inr (ci, fs))) (hc : vwCl[ci]? = some q) (h1 : Cond.methodLink own idx x ∈ lw_all) (h2 : Cond.instanceMethod y ∈ lw_all) (h3 : Cond.selects q.1 x y ∈ lw_all) (h4 : Cond.initialized y.cls ∈ lw_all) (h5 : Cond.code y b L ret ∈ lw_all)
    (hd : x.cls ≠ "java/lang/invoke/MethodHandle" ∧ x.cls ≠ "java/lang/invoke/VarHandle" ∧ (parseMethodDescriptor x.desc).map (fun d => d.parameters.length) = some n) (hn : As.length = n) (hR : fr + 1 ≤ R.frames ∧ 8 + (L + 11) + lo ≤ R.locals) (hs : ls.size = nM) (hro : (rest.map fun v => v.category).sum ≤ 8) (d : decode cc pc = .ok (.invokeinterface idx cnt, 5)) (hf : cells + mc ≤ R.cells ∧ slots + ms ≤ R.slots) :
    va_Run5 p l e R s m args below meth c H locs cells slots mc ms (F0 m pc ls (As.reverse ++ .ref bb :: rest)) rest (Qc (Value.ref bb :: As).toArray) (nvA a0) := by
  refine va_runF (As := As) (rest := rest) (hC.2.2.2.2.2.1.1 ci q hc).2 ⟨hC.1, hC.2.1, hC.2.2.1, hC.2.2.2.1, hC.2.2.2.2.1⟩ hM (va_cwF n hC.2.2.2.2.1 ?_ rfl rfl rfl hF hd hR) ⟨(nv_pre hC hX hG hg).1, va_recv hC.2.2.2.2.2.1 hX.1 hc he, (nv_pre hC hX hG hg).2⟩ rfl hn hs rfl (lv_room hro) d hf
  refine lw_app ?_ (lw_meth h5)
  intro z hz
  simp only [List.mem_cons, List.not_mem_nil, or_false] at hz
  rcases hz with e | e | e | e
  · rw [e]; exact h1
  · rw [e]; exact h3
  · rw [e]; exact h2
  · rw [e]; exact h4
/-- calls through an object: an inherited method -/
theorem nv_rU {x y : MethodName} {owner : String} {b : ByteArray} {L idx n fr lo mc ms : Nat} {ret : Option FieldType} {G : State → Prop} {As rest : List Value} {bb q0 ci : Nat} {fs : List Value} {q : vw_C} {Qc : Array Value → State → Outcome → State → Prop}
    (hC : nvC p s m args c cc nM own D dA a0) (hX : nvS D a0 w s.heap H locs) (hM : nMt l D dA a0 y b L ret fr lo mc ms G (.ref bb :: As) w Qc) (hG : nvGb G) (hg : ∀ U : State, U.heap = H → s.WarmedH U.vm → G U)
    (he : w[q0]? = some (bb, .inr (ci, fs))) (hc : vwCl[ci]? = some q) (hyx : y = ⟨owner, x.name, x.desc⟩) (h1 : Cond.methodLink own idx x ∈ lw_all) (h0 : Cond.sameMethod x.cls owner x.name x.desc ∈ lw_all) (h2 : Cond.instanceMethod y ∈ lw_all) (h3 : Cond.selects q.1 x y ∈ lw_all) (h4 : Cond.initialized y.cls ∈ lw_all) (h5 : Cond.code y b L ret ∈ lw_all)
    (hd : owner ≠ "java/lang/invoke/MethodHandle" ∧ owner ≠ "java/lang/invoke/VarHandle" ∧ (parseMethodDescriptor x.desc).map (fun d => d.parameters.length) = some n) (hn : As.length = n) (hR : fr + 1 ≤ R.frames ∧ 8 + (L + 11) + lo ≤ R.locals) (hs : ls.size = nM) (hro : (rest.map fun v => v.category).sum ≤ 8) (d : decode cc pc = .ok (.invokevirtual idx, 3)) (hf : cells + mc ≤ R.cells ∧ slots + ms ≤ R.slots) :
    va_Run p l e R s m args below meth c H locs cells slots mc ms (F0 m pc ls (As.reverse ++ .ref bb :: rest)) rest (Qc (Value.ref bb :: As).toArray) (nvA a0) := by
  refine va_runU (As := As) (rest := rest) (C := q.1) (owner := owner) ⟨hC.1, hC.2.1, hC.2.2.1, hC.2.2.2.1, hC.2.2.2.2.1⟩ hM (va_cwU n hC.2.2.2.2.1 ?_ rfl rfl rfl hyx hd hR) ⟨(nv_pre hC hX hG hg).1, va_recv hC.2.2.2.2.2.1 hX.1 hc he, (nv_pre hC hX hG hg).2⟩ rfl hn hs rfl (lv_room hro) d hf
  refine lw_app ?_ (lw_meth h5)
  intro z hz
  simp only [List.mem_cons, List.not_mem_nil, or_false] at hz
  rcases hz with e | e | e | e | e
  · rw [e]; exact h1
  · rw [e]; exact h0
  · rw [e]; exact h3
  · rw [e]; exact h2
  · rw [e]; exact h4
/-- an overriding method -/
theorem nv_rO {x y : MethodName} {owner : String} {b b0 : ByteArray} {L m0 idx n fr lo mc ms : Nat} {ret r0 : Option FieldType} {G : State → Prop} {As rest : List Value} {bb q0 ci : Nat} {fs : List Value} {q : vw_C} {Qc : Array Value → State → Outcome → State → Prop}
    (hC : nvC p s m args c cc nM own D dA a0) (hX : nvS D a0 w s.heap H locs) (hM : nMt l D dA a0 y b L ret fr lo mc ms G (.ref bb :: As) w Qc) (hG : nvGb G) (hg : ∀ U : State, U.heap = H → s.WarmedH U.vm → G U)
    (he : w[q0]? = some (bb, .inr (ci, fs))) (hc : vwCl[ci]? = some q) (h1 : Cond.methodLink own idx x ∈ lw_all) (h0 : Cond.sameMethod x.cls owner x.name x.desc ∈ lw_all) (hi0 : Cond.instanceMethod ⟨owner, x.name, x.desc⟩ ∈ lw_all) (hc0 : Cond.code ⟨owner, x.name, x.desc⟩ b0 m0 r0 ∈ lw_all) (h2 : Cond.instanceMethod y ∈ lw_all) (h3 : Cond.selects q.1 x y ∈ lw_all) (h4 : Cond.initialized y.cls ∈ lw_all) (h5 : Cond.code y b L ret ∈ lw_all)
    (hd : owner ≠ "java/lang/invoke/MethodHandle" ∧ owner ≠ "java/lang/invoke/VarHandle" ∧ (parseMethodDescriptor x.desc).map (fun d => d.parameters.length) = some n) (hn : As.length = n) (hR : fr + 1 ≤ R.frames ∧ 8 + (L + 11) + lo ≤ R.locals) (hs : ls.size = nM) (hro : (rest.map fun v => v.category).sum ≤ 8) (d : decode cc pc = .ok (.invokevirtual idx, 3)) (hf : cells + mc ≤ R.cells ∧ slots + ms ≤ R.slots) :
    va_Run p l e R s m args below meth c H locs cells slots mc ms (F0 m pc ls (As.reverse ++ .ref bb :: rest)) rest (Qc (Value.ref bb :: As).toArray) (nvA a0) := by
  refine va_runU (As := As) (rest := rest) (C := q.1) (owner := owner) ⟨hC.1, hC.2.1, hC.2.2.1, hC.2.2.2.1, hC.2.2.2.2.1⟩ hM (va_cwO n hC.2.2.2.2.1 ?_ rfl rfl rfl hc0 hd hR) ⟨(nv_pre hC hX hG hg).1, va_recv hC.2.2.2.2.2.1 hX.1 hc he, (nv_pre hC hX hG hg).2⟩ rfl hn hs rfl (lv_room hro) d hf
  refine lw_app ?_ (lw_meth h5)
  intro z hz
  simp only [List.mem_cons, List.not_mem_nil, or_false] at hz
  rcases hz with e | e | e | e | e | e
  · rw [e]; exact h1
  · rw [e]; exact h0
  · rw [e]; exact hi0
  · rw [e]; exact h3
  · rw [e]; exact h2
  · rw [e]; exact h4
/-- super's method -/
theorem nv_rSU {y : MethodName} {b : ByteArray} {L idx n fr lo mc ms : Nat} {ret : Option FieldType} {G : State → Prop} {As rest : List Value} {bb q0 ci : Nat} {fs : List Value} {q : vw_C} {Qc : Array Value → State → Outcome → State → Prop}
    (hC : nvC p s m args c cc nM own D dA a0) (hX : nvS D a0 w s.heap H locs) (hM : nMt l D dA a0 y b L ret fr lo mc ms G (.ref bb :: As) w Qc) (hG : nvGb G) (hg : ∀ U : State, U.heap = H → s.WarmedH U.vm → G U)
    (he : w[q0]? = some (bb, .inr (ci, fs))) (hc : vwCl[ci]? = some q) (h1 : Cond.methodLink own idx y ∈ lw_all) (h0 : Cond.sameMethod y.cls y.cls y.name y.desc ∈ lw_all) (h6 : Cond.superclass own y.cls ∈ lw_all) (h2 : Cond.instanceMethod y ∈ lw_all) (h4 : Cond.initialized y.cls ∈ lw_all) (h5 : Cond.code y b L ret ∈ lw_all)
    (hd : y.name ≠ "<init>" ∧ (parseMethodDescriptor y.desc).map (fun d => d.parameters.length) = some n) (hn : As.length = n) (hR : fr + 1 ≤ R.frames ∧ 8 + (L + 11) + lo ≤ R.locals) (hs : ls.size = nM) (hro : (rest.map fun v => v.category).sum ≤ 8) (d : decode cc pc = .ok (.invokespecial idx, 3)) (hf : cells + mc ≤ R.cells ∧ slots + ms ≤ R.slots) :
    va_Run p l e R s m args below meth c H locs cells slots mc ms (F0 m pc ls (As.reverse ++ .ref bb :: rest)) rest (Qc (Value.ref bb :: As).toArray) (nvA a0) := by
  refine va_runSU (As := As) (rest := rest) (hC.2.2.2.2.2.1.1 ci q hc).2 ⟨hC.1, hC.2.1, hC.2.2.1, hC.2.2.2.1, hC.2.2.2.2.1⟩ hM (va_cwSU n hC.2.2.2.2.1 ?_ rfl rfl rfl hd hR) ⟨(nv_pre hC hX hG hg).1, va_recv hC.2.2.2.2.2.1 hX.1 hc he, (nv_pre hC hX hG hg).2⟩ rfl hn hs rfl (lv_room hro) d hf
  refine lw_app ?_ (lw_meth h5)
  intro z hz
  simp only [List.mem_cons, List.not_mem_nil, or_false] at hz
  rcases hz with e | e | e | e | e
  · rw [e]; exact h1
  · rw [e]; exact h0
  · rw [e]; exact h6
  · rw [e]; exact h2
  · rw [e]; exact h4
/-- behind a call through an interface -/
theorem nv_kFi {S : Type} {post : Int32 → S → Prop} {w' : S → va_W} {mc ms : Nat} {a : Array Value} {st0 : List Value} (hC : nvC p s m args c cc nM own D dA a0) (hX : nvS D a0 w s.heap H locs) (hr : va_Run5 p l e R s m args below meth c H locs cells slots mc ms (F0 m pc ls st0) rest (nQi D a0 post w' a) (nvA a0))
    (kk : ∀ (r : Int32) (u : S) (H1 : Heap) (locs1 : List Loc), post r u → nvS D a0 (w' u) s.heap H1 locs1 → W p l e R s m args below meth c H1 locs1 (cells + mc) (slots + ms) Q (F0 m (pc + 5) ls (.int r :: rest))) : W p l e R s m args below meth c H locs cells slots Q (F0 m pc ls st0) :=
  va_callFi hr hX.2.2 (fun _ _ h => h) (fun _ h => h) fun r u t H1 locs1 ht hvm hp hB hz hk hS => by
    subst ht
    exact kk r u _ _ hp ⟨hB.1, hB.2, hS⟩
theorem nv_kFv {S : Type} {post : S → Prop} {w' : S → va_W} {mc ms : Nat} {a : Array Value} {st0 : List Value} (hC : nvC p s m args c cc nM own D dA a0) (hX : nvS D a0 w s.heap H locs) (hr : va_Run5 p l e R s m args below meth c H locs cells slots mc ms (F0 m pc ls st0) rest (nQv D a0 post w' a) (nvA a0))
    (kk : ∀ (u : S) (H1 : Heap) (locs1 : List Loc), post u → nvS D a0 (w' u) s.heap H1 locs1 → W p l e R s m args below meth c H1 locs1 (cells + mc) (slots + ms) Q (F0 m (pc + 5) ls rest)) : W p l e R s m args below meth c H locs cells slots Q (F0 m pc ls st0) :=
  va_callFv hr hX.2.2 (fun _ _ h => h) (fun _ h => h) fun u t H1 locs1 ht hvm hp hB hz hk hS => by
    subst ht
    exact kk u _ _ hp ⟨hB.1, hB.2, hS⟩
theorem nv_kFr {S : Type} {post : S → Prop} {w' : S → Nat → va_W} {mc ms : Nat} {a : Array Value} {st0 : List Value} (hC : nvC p s m args c cc nM own D dA a0) (hX : nvS D a0 w s.heap H locs) (hr : va_Run5 p l e R s m args below meth c H locs cells slots mc ms (F0 m pc ls st0) rest (nQr D a0 post w' a) (nvA a0))
    (kk : ∀ (u : S) (ra : Nat) (H1 : Heap) (locs1 : List Loc), post u → nvS D a0 (w' u ra) s.heap H1 locs1 → W p l e R s m args below meth c H1 locs1 (cells + mc) (slots + ms) Q (F0 m (pc + 5) ls (.ref ra :: rest))) : W p l e R s m args below meth c H locs cells slots Q (F0 m pc ls st0) :=
  va_callFr hr hX.2.2 (fun _ _ h => h) (fun _ h => h) fun u ra t H1 locs1 ht hvm hp hB hz hk hS => by
    subst ht
    exact kk u ra _ _ hp ⟨hB.1, hB.2, hS⟩
theorem nv_kFq {S : Type} {post : Option Nat → S → Prop} {w' : S → va_W} {mc ms : Nat} {a : Array Value} {st0 : List Value} (hC : nvC p s m args c cc nM own D dA a0) (hX : nvS D a0 w s.heap H locs) (hr : va_Run5 p l e R s m args below meth c H locs cells slots mc ms (F0 m pc ls st0) rest (nQq D a0 post w' a) (nvA a0))
    (kk : ∀ (r : Option Nat) (u : S) (H1 : Heap) (locs1 : List Loc), post r u → nvS D a0 (w' u) s.heap H1 locs1 → W p l e R s m args below meth c H1 locs1 (cells + mc) (slots + ms) Q (F0 m (pc + 5) ls (va_rf r :: rest))) : W p l e R s m args below meth c H locs cells slots Q (F0 m pc ls st0) :=
  va_callFq hr hX.2.2 (fun _ _ h => h) (fun _ h => h) fun r u t H1 locs1 ht hvm hp hB hz hk hS => by
    subst ht
    exact kk r u _ _ hp ⟨hB.1, hB.2, hS⟩
/-- checkcast of an object -/
theorem nv_cast (hC : nvC p s m args c cc nM own D dA a0) (hX : nvS D a0 w s.heap H locs) (q0 : Nat) {a ci idx : Nat} {fs : List Value} {q : vw_C} {nm : String} (he : w[q0]? = some (a, .inr (ci, fs))) (hc : vwCl[ci]? = some q) (h1 : Cond.classLink own idx nm ∈ lw_all) (hca : va_Nw (.castable q.1 nm) s) (d : decode cc pc = .ok (.checkcast idx, 3))
    (k : W p l e R s m args below meth c H locs cells slots Q (F0 m (pc + 3) ls (.ref a :: rest))) : W p l e R s m args below meth c H locs cells slots Q (F0 m pc ls (.ref a :: rest)) :=
  va_castY hC.1 hC.2.1 hC.2.2.2.1 (hC.2.2.2.2.1 _ h1) hca (va_recv hC.2.2.2.2.2.1 hX.1 hc he) d k
theorem nv_castS (hC : nvC p s m args c cc nM own D dA a0) (hX : nvS D a0 w s.heap H locs) (q0 : Nat) {a ci idx : Nat} {fs : List Value} {q : vw_C} (he : w[q0]? = some (a, .inr (ci, fs))) (hc : vwCl[ci]? = some q) (h1 : Cond.classLink own idx q.1 ∈ lw_all) (d : decode cc pc = .ok (.checkcast idx, 3))
    (k : W p l e R s m args below meth c H locs cells slots Q (F0 m (pc + 3) ls (.ref a :: rest))) : W p l e R s m args below meth c H locs cells slots Q (F0 m pc ls (.ref a :: rest)) :=
  va_castS hC.1 hC.2.1 hC.2.2.2.1 (hC.2.2.2.2.1 _ h1) (hC.2.2.2.2.2.1.1 ci q hc).2 (va_recv hC.2.2.2.2.2.1 hX.1 hc he) d k
end NCL
