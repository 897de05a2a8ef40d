/-! THE LAYER: one context, one world, calls of the whole world -/
set_option maxRecDepth 100000
/-- the classes whose objects the worlds hold -/
def vwCl : List vw_C := [(RX0, TX0, 15), (RX1, TX1, 30), (RX5, TX5, 2), (RX6, TX6, 3), (RX7, TX7, 4), (RX8, TX8, 3), (RX11, TX11, 1), (RX4, TX4, 7), (RX9, TX9, 8), (RX10, TX10, 9), (RX12, TX12, 7), (RX13, TX13, 4), (RJ2, TJ2, 3)]
def nF (g : Nat → Nat) : Nat → Int32 := fun j => nI (g j)
def nL (g : Nat → Nat) : Nat → Int64 := fun j => lN (g j)
def nB (b : Bool) : Int32 := if b then 1 else 0
theorem nB_t : nB true = 1 := rfl
theorem nB_f : nB false = 0 := rfl
theorem nB_1 {b : Bool} : nB b = 1 ↔ b = true := by cases b <;> decide
theorem nB_0 {b : Bool} : nB b = 0 ↔ b = false := by cases b <;> decide
theorem nB_and (a b : Bool) : nB a &&& nB b = nB (a && b) := by cases a <;> cases b <;> decide
theorem nB_or (a b : Bool) : nB a ||| nB b = nB (a || b) := by cases a <;> cases b <;> decide
theorem nB_n (b : Bool) : nB b = nI b.toNat := by cases b <;> decide
theorem nF_up (g : Nat → Nat) (i v : Nat) : upd (nF g) i (nI v) = nF (va_up g i v) := by
  funext j
  by_cases h : j = i
  · simp [upd, nF, va_up, h]
  · simp [upd, nF, va_up, h]
theorem nL_up (g : Nat → Nat) (i v : Nat) : vp_updL (nL g) i (lN v) = nL (va_up g i v) := by
  funext j
  by_cases h : j = i
  · simp [vp_updL, nL, va_up, h]
  · simp [vp_updL, nL, va_up, h]
/-- the addresses that may change: all from the law's start on -/
abbrev nvA (a0 : Nat) : Nat → Prop := fun q => a0 ≤ q
/-- the classes of arrays: int, long, byte, short, Object, Sheet -/
def nvT (dA : Nat → ClassId) : List (ClassId × FieldType) := [(dA 0, .int), (dA 1, .long), (dA 2, .byte), (dA 3, .short), (dA 4, .object "java/lang/Object"), (dA 5, .object "OneLongRow$Sheet")]
/-- cells of arrays -/
abbrev aI (dA : Nat → ClassId) (n : Nat) (f : Nat → Int32) : va_E := .inl (dA 0, n, .inl f)
abbrev aL (dA : Nat → ClassId) (n : Nat) (f : Nat → Int64) : va_E := .inl (dA 1, n, .inr (.inl f))
abbrev aB (dA : Nat → ClassId) (n : Nat) (f : Nat → Int32) : va_E := .inl (dA 2, n, .inl f)
abbrev aH (dA : Nat → ClassId) (n : Nat) (f : Nat → Int32) : va_E := .inl (dA 3, n, .inl f)
abbrev aO (dA : Nat → ClassId) (n : Nat) (f : Nat → Option Nat) : va_E := .inl (dA 4, n, .inr (.inr (.inr (.inr f))))
abbrev aS (dA : Nat → ClassId) (n : Nat) (f : Nat → Option Nat) : va_E := .inl (dA 5, n, .inr (.inr (.inr (.inr f))))
/-- a world, held in H, nothing else written since H0 -/
def nvS (D : va_G) (a0 : Nat) (w : va_W) (H0 H : Heap) (locs : List Loc) : Prop := va_P D vwCl w H ∧ va_D (nvA a0) w ∧ va_S (nvA a0) H0 H locs
/-- the context of a method's body -/
def nvC (p : Program) (s : State) (m : MethodId) (args : Array Value) (c : Code) (cc : ByteArray) (nM : Nat) (own : String) (D : va_G) (dA : Nat → ClassId) (a0 : Nat) : Prop := p.tables.exec = Jvm.exec ∧ c.code = cc ∧ c.maxLocals = nM ∧ s.vm.findClass own = some m.cls ∧ (∀ w ∈ lw_all, w.before args s = true) ∧ va_K D vwCl (nvT dA) s ∧ a0 ≤ s.heap.size
/-- a method's start -/
def nvU (D : va_G) (dA : Nat → ClassId) (a0 : Nat) (w : va_W) (G : State → Prop) (U : State) : Prop := a0 ≤ U.heap.size ∧ va_P D vwCl w U.heap ∧ va_K D vwCl (nvT dA) U ∧ va_D (nvA a0) w ∧ G U
/-- a method's end -/
def nvB (D : va_G) (a0 : Nat) {S : Type} (w' : S → va_W) (u : S) (t : State) : Prop := va_P D vwCl (w' u) t.heap ∧ va_D (nvA a0) (w' u)
/-- nothing more is asked of the start -/
def nvG0 : State → Prop := fun _ => True
/-- what is asked of the start beside: no frame matters, and it lasts -/
def nvGb (G : State → Prop) : Prop := ∀ (U : State) (g : JFrame) (mk : MethodId) (a : Array Value), G U → G (U.calling g mk a)
theorem nvGb0 : nvGb nvG0 := fun _ _ _ _ h => h
abbrev rm_ (fr lo mc ms : Nat) : Room := { frames := fr, cells := mc, slots := ms, locals := lo }
/-- contracts: the answer an int, a long, none, a cell -/
abbrev nMt (l : Launch) (D : va_G) (dA : Nat → ClassId) (a0 : Nat) (y : MethodName) (b : ByteArray) (nM : Nat) (ret : Option FieldType) (fr lo mc ms : Nat) (G : State → Prop) (As : List Value) (w : va_W) (Qc : Array Value → State → Outcome → State → Prop) : Prop :=
  Met l y (ws_ y b nM ret) (rm_ fr lo mc ms) (va_Pc As (nvU D dA a0 w G)) Qc mc ms (nvA a0)
abbrev nQi (D : va_G) (a0 : Nat) {S : Type} (post : Int32 → S → Prop) (w' : S → va_W) : Array Value → State → Outcome → State → Prop := va_Qi post (nvB D a0 w') (nvA a0)
abbrev nQl (D : va_G) (a0 : Nat) {S : Type} (post : Int64 → S → Prop) (w' : S → va_W) : Array Value → State → Outcome → State → Prop := va_Ql post (nvB D a0 w') (nvA a0)
abbrev nQv (D : va_G) (a0 : Nat) {S : Type} (post : S → Prop) (w' : S → va_W) : Array Value → State → Outcome → State → Prop := va_Qv post (nvB D a0 w') (nvA a0)
abbrev nQq (D : va_G) (a0 : Nat) {S : Type} (post : Option Nat → S → Prop) (w' : S → va_W) : Array Value → State → Outcome → State → Prop := va_Qq post (nvB D a0 w') (nvA a0)
abbrev nQr (D : va_G) (a0 : Nat) {S : Type} (post : S → Prop) (w' : S → Nat → va_W) : Array Value → State → Outcome → State → Prop := va_Qr post (fun u a t => va_P D vwCl (w' u a) t.heap ∧ va_D (nvA a0) (w' u a)) (nvA a0)
/-- the way into a method -/
theorem nv_start {l : Launch} {D : va_G} {dA : Nat → ClassId} {a0 : Nat} {y : MethodName} {b : ByteArray} {nM : Nat} {ret : Option FieldType} {fr lo mc ms : Nat} {G : State → Prop} {As : List Value} {w : va_W} {Qc : Array Value → State → Outcome → State → Prop}
    (hy : plainName y.cls = true) (hlen : (lg_sl As).length ≤ nM)
    (body : ∀ (p : Program) (e : Env) (s : State) (m : MethodId) (below : List Frame) (meth : Method) (c : Code) (ls : Array Slot), nvC p s m As.toArray c b nM y.cls D dA a0 → meth.sig.returnType = ret → meth.locks = false → meth.name = y.name → nvS D a0 w s.heap s.heap [] → G s → lv_has ls nM (lv_args 0 As) →
      W p l e (rm_ fr lo mc ms) s m As.toArray below meth c s.heap [] 0 0 (MQ below Qc As.toArray s mc ms (nvA a0)) (F0 m 0 ls [])) : nMt l D dA a0 y b nM ret fr lo mc ms G As w Qc := by
  refine Met.ofW (cc := b) (maxL := nM) (ret := ret) hy rfl ?_
  intro p e s m args below meth c s₁ B hml hv
  obtain ⟨rfl, h0, hP, hK, hD, hG⟩ := hv
  have hts := atoms_spec (ws := ws_ y b nM ret) B.pre
  have hts : ∀ w ∈ lw_all, w.before _ s = true := fun w h => hts w (List.mem_cons_of_mem _ h)
  rw [lg_entry_eq]
  exact body p e s m below meth c _ ⟨B.exec, B.bytes, hml, findClass_of_methodNamed B.named, hts, hK, h0⟩ B.returns B.notSynchronized (name_of_methodNamed B.named B.method).1 ⟨hP, hD, va_S.rf⟩ hG (lv_entry As hlen)
theorem lcN_eq {a b : Nat} (ha : a < 2 ^ 63) (hb : b < 2 ^ 63) : lg_cmp (lN a) (lN b) = 0 ↔ a = b := (lg_cmp_eq _ _).trans (pk_lEQ ha hb)
theorem lcN_le {a b : Nat} (ha : a < 2 ^ 63) (hb : b < 2 ^ 63) : lg_cmp (lN a) (lN b) ≤ 0 ↔ a ≤ b := (lg_cmp_le _ _).trans (pk_lLE ha hb)
theorem lcN_lt {a b : Nat} (ha : a < 2 ^ 63) (hb : b < 2 ^ 63) : lg_cmp (lN a) (lN b) < 0 ↔ a < b := (lg_cmp_lt _ _).trans (pk_lLT ha hb)
theorem lcN_ge {a b : Nat} (ha : a < 2 ^ 63) (hb : b < 2 ^ 63) : 0 ≤ lg_cmp (lN a) (lN b) ↔ b ≤ a := (lg_cmp_ge _ _).trans (pk_lLE hb ha)
theorem lcN_gt {a b : Nat} (ha : a < 2 ^ 63) (hb : b < 2 ^ 63) : 0 < lg_cmp (lN a) (lN b) ↔ b < a := (lg_cmp_gt _ _).trans (pk_lLT hb ha)
theorem sw_lt (x : Int32) {n : Nat} (hn : n < 2 ^ 31) : (∃ i : Nat, i < n ∧ x = nI i) ∨ (x.toInt < 0 ∨ (n : Int) ≤ x.toInt) := by
  by_cases h : x < 0
  · exact Or.inr (Or.inl (by have := Int32.lt_iff_toInt_lt.mp h; simpa using this))
  · obtain ⟨j, hj, rfl⟩ := nI_of h
    rw [nI_toInt hj]
    by_cases q : j < n
    · exact Or.inl ⟨j, q, rfl⟩
    · exact Or.inr (Or.inr (by omega))
section NV
variable {p : Program} {l : Launch} {e : Env} {R : Room} {s : State} {m : MethodId} {args : Array Value} {below : List Frame} {meth : Method} {c : Code} {H : Heap} {locs : List Loc} {cells slots : Nat} {Q : State → Prop}
variable {cc : ByteArray} {nM : Nat} {own : String} {D : va_G} {dA : Nat → ClassId} {a0 : Nat} {w : va_W} {pc : Nat} {ls : Array Slot} {rest : List Value}
theorem nv_hA (hC : nvC p s m args c cc nM own D dA a0) : ∀ q, s.heap.size ≤ q → nvA a0 q := fun _ h => Nat.le_trans hC.2.2.2.2.2.2 h
/-- the value on the top by another name -/
theorem nv_as {x y : Int32} (h : x = y) (k : W p l e R s m args below meth c H locs cells slots Q (F0 m pc ls (.int y :: rest))) : W p l e R s m args below meth c H locs cells slots Q (F0 m pc ls (.int x :: rest)) := h ▸ k
theorem nv_asl {x y : Int64} (h : x = y) (k : W p l e R s m args below meth c H locs cells slots Q (F0 m pc ls (.long y :: rest))) : W p l e R s m args below meth c H locs cells slots Q (F0 m pc ls (.long x :: rest)) := h ▸ k
/-- the world by another name -/
theorem nvS.as {H0 : Heap} {w w' : va_W} (hX : nvS D a0 w H0 H locs) (h : w = w') : nvS D a0 w' H0 H locs := h ▸ hX
theorem nv_get (hC : nvC p s m args c cc nM own D dA a0) (hX : nvS D a0 w s.heap H locs) {ref C : String} {T : u_T} {N ci index : Nat} (hin : ∀ x ∈ u_ws C T N, x ∈ lw_all) (q0 : Nat) {a : Nat} {fs : List Value} (he : w[q0]? = some (a, .inr (ci, fs))) (hc : vwCl[ci]? = some (C, T, N)) (k : Nat) (hk : k < N) (hl : Cond.fieldLink own index ref (T k).2.1 (T k).2.2.1 ∈ lw_all) (hsame : ∀ x, s.fieldFound? (T k).1 (T k).2.1 (T k).2.2.1 = some x → s.fieldFound? ref (T k).2.1 (T k).2.2.1 = some x) {v : Value} (hv : fs[k]? = some v) (d : decode cc pc = .ok (.getfield index, 3))
    (kk : W p l e R s m args below meth c H locs cells slots Q (F0 m (pc + 3) ls (v :: rest))) : W p l e R s m args below meth c H locs cells slots Q (F0 m pc ls (.ref a :: rest)) :=
  va_get hC.1 hC.2.1 hC.2.2.2.2.1 hin hC.2.2.2.1 hC.2.2.2.2.2.1 hX.1 q0 he hc k hk (hC.2.2.2.2.1 _ hl) hsame hv d kk
theorem nv_put (hC : nvC p s m args c cc nM own D dA a0) (hX : nvS D a0 w s.heap H locs) {ref C : String} {T : u_T} {N ci index : Nat} (hin : ∀ x ∈ u_ws C T N, x ∈ lw_all) (ty0 : Nat → FieldType) (hty : ∀ k, k < N → parseFieldDescriptor (T k).2.2.1 = some (ty0 k)) (hnm : ∀ a, a < N → ∀ b, b < N → a ≠ b → (T a).2.1 ≠ (T b).2.1) (q0 : Nat) {a : Nat} {fs : List Value} (he : w[q0]? = some (a, .inr (ci, fs))) (hc : vwCl[ci]? = some (C, T, N)) (k : Nat) (hk : k < N) (hl : Cond.fieldLink own index ref (T k).2.1 (T k).2.2.1 ∈ lw_all) (hsame : ∀ x, s.fieldFound? (T k).1 (T k).2.1 (T k).2.2.1 = some x → s.fieldFound? ref (T k).2.1 (T k).2.2.1 = some x) (hfin : (T k).2.2.2 = false) {v : Value} (hn : narrow (ty0 k) v = v) (hfit : fits (ty0 k) v = true) (hlen : k < fs.length) {w' : va_W} (hw : w.set q0 (a, .inr (ci, fs.set k v)) = w') (d : decode cc pc = .ok (.putfield index, 3))
    (kk : ∀ (H1 : Heap) (locs1 : List Loc), nvS D a0 w' s.heap H1 locs1 → W p l e R s m args below meth c H1 locs1 cells slots Q (F0 m (pc + 3) ls rest)) : W p l e R s m args below meth c H locs cells slots Q (F0 m pc ls (v :: .ref a :: rest)) := by
  subst hw
  exact va_put hC.1 hC.2.1 hC.2.2.2.2.1 hin ty0 hty hnm hC.2.2.2.1 hC.2.2.2.2.2.1 hX.1 hX.2.1 hX.2.2 q0 he hc k hk (hC.2.2.2.2.1 _ hl) hsame hfin (hty k hk) hn hfit hlen d fun H1 locs1 h1 h2 h3 => kk H1 locs1 ⟨h1, h2, h3⟩
theorem nv_putF (hC : nvC p s m args c cc nM own D dA a0) (hX : nvS D a0 w s.heap H locs) {ref C : String} {T : u_T} {N ci index : Nat} (hin : ∀ x ∈ u_ws C T N, x ∈ lw_all) (ty0 : Nat → FieldType) (hty : ∀ k, k < N → parseFieldDescriptor (T k).2.2.1 = some (ty0 k)) (hnm : ∀ a, a < N → ∀ b, b < N → a ≠ b → (T a).2.1 ≠ (T b).2.1) (q0 : Nat) {a : Nat} {fs : List Value} (he : w[q0]? = some (a, .inr (ci, fs))) (hc : vwCl[ci]? = some (C, T, N)) (k : Nat) (hk : k < N) (hl : Cond.fieldLink own index ref (T k).2.1 (T k).2.2.1 ∈ lw_all) (hsame : ∀ x, s.fieldFound? (T k).1 (T k).2.1 (T k).2.2.1 = some x → s.fieldFound? ref (T k).2.1 (T k).2.2.1 = some x) (hfin : (T k).2.2.2 = true) (hini : meth.name = "<init>") (hdecl : (T k).1 = own) {v : Value} (hn : narrow (ty0 k) v = v) (hfit : fits (ty0 k) v = true) (hlen : k < fs.length) {w' : va_W} (hw : w.set q0 (a, .inr (ci, fs.set k v)) = w') (d : decode cc pc = .ok (.putfield index, 3))
    (kk : ∀ (H1 : Heap) (locs1 : List Loc), nvS D a0 w' s.heap H1 locs1 → W p l e R s m args below meth c H1 locs1 cells slots Q (F0 m (pc + 3) ls rest)) : W p l e R s m args below meth c H locs cells slots Q (F0 m pc ls (v :: .ref a :: rest)) := by
  subst hw
  exact va_putF hC.1 hC.2.1 hC.2.2.2.2.1 hin ty0 hty hnm hC.2.2.2.1 hC.2.2.2.2.2.1 hX.1 hX.2.1 hX.2.2 q0 he hc k hk (hC.2.2.2.2.1 _ hl) hsame hfin hini hdecl (hty k hk) hn hfit hlen d fun H1 locs1 h1 h2 h3 => kk H1 locs1 ⟨h1, h2, h3⟩
/-- int arrays at a place that is a number -/
theorem nv_iald (hC : nvC p s m args c cc nM own D dA a0) (hX : nvS D a0 w s.heap H locs) (q0 : Nat) {a n i : Nat} {f : Nat → Int32} (he : w[q0]? = some (a, aI dA n f)) (hi : i < n) (hn : n < 2 ^ 31) {v : Int32} (hv : f i = v) (d : decode cc pc = .ok (.iaload, 1))
    (kk : W p l e R s m args below meth c H locs cells slots Q (F0 m (pc + 1) ls (.int v :: rest))) : W p l e R s m args below meth c H locs cells slots Q (F0 m pc ls (.int (nI i) :: .ref a :: rest)) := by
  subst hv
  refine va_iald hC.1 hC.2.1 hC.2.2.2.2.2.1 hX.1 q0 0 he rfl (vp_in_nI hi hn) d ?_
  rw [nI_clamp (by omega)]
  exact kk
theorem nv_iast (hC : nvC p s m args c cc nM own D dA a0) (hX : nvS D a0 w s.heap H locs) (q0 : Nat) {a n i : Nat} {f f' : Nat → Int32} (he : w[q0]? = some (a, aI dA n f)) (hi : i < n) (hn : n < 2 ^ 31) {x : Int32} (hf : upd f i x = f') {w' : va_W} (hw : w.set q0 (a, aI dA n f') = w') (d : decode cc pc = .ok (.iastore, 1))
    (kk : ∀ (H1 : Heap) (locs1 : List Loc), nvS D a0 w' s.heap H1 locs1 → W p l e R s m args below meth c H1 locs1 cells slots Q (F0 m (pc + 1) ls rest)) : W p l e R s m args below meth c H locs cells slots Q (F0 m pc ls (.int x :: .int (nI i) :: .ref a :: rest)) := by
  subst hf
  subst hw
  refine va_iast hC.1 hC.2.1 hC.2.2.2.2.2.1 hX.1 hX.2.1 hX.2.2 q0 0 he rfl (vp_in_nI hi hn) d ?_
  rw [nI_clamp (by omega)]
  exact fun H1 locs1 h1 h2 h3 => kk H1 locs1 ⟨h1, h2, h3⟩
theorem nv_lald (hC : nvC p s m args c cc nM own D dA a0) (hX : nvS D a0 w s.heap H locs) (q0 : Nat) {a n i : Nat} {f : Nat → Int64} (he : w[q0]? = some (a, aL dA n f)) (hi : i < n) (hn : n < 2 ^ 31) {v : Int64} (hv : f i = v) (d : decode cc pc = .ok (.laload, 1))
    (kk : W p l e R s m args below meth c H locs cells slots Q (F0 m (pc + 1) ls (.long v :: rest))) : W p l e R s m args below meth c H locs cells slots Q (F0 m pc ls (.int (nI i) :: .ref a :: rest)) := by
  subst hv
  refine va_lald hC.1 hC.2.1 hC.2.2.2.2.2.1 hX.1 q0 1 he rfl (vp_in_nI hi hn) d ?_
  rw [nI_clamp (by omega)]
  exact kk
theorem nv_last (hC : nvC p s m args c cc nM own D dA a0) (hX : nvS D a0 w s.heap H locs) (q0 : Nat) {a n i : Nat} {f f' : Nat → Int64} (he : w[q0]? = some (a, aL dA n f)) (hi : i < n) (hn : n < 2 ^ 31) {x : Int64} (hf : vp_updL f i x = f') {w' : va_W} (hw : w.set q0 (a, aL dA n f') = w') (d : decode cc pc = .ok (.lastore, 1))
    (kk : ∀ (H1 : Heap) (locs1 : List Loc), nvS D a0 w' s.heap H1 locs1 → W p l e R s m args below meth c H1 locs1 cells slots Q (F0 m (pc + 1) ls rest)) : W p l e R s m args below meth c H locs cells slots Q (F0 m pc ls (.long x :: .int (nI i) :: .ref a :: rest)) := by
  subst hf
  subst hw
  refine va_last hC.1 hC.2.1 hC.2.2.2.2.2.1 hX.1 hX.2.1 hX.2.2 q0 1 he rfl (vp_in_nI hi hn) d ?_
  rw [nI_clamp (by omega)]
  exact fun H1 locs1 h1 h2 h3 => kk H1 locs1 ⟨h1, h2, h3⟩
theorem nv_alen (hC : nvC p s m args c cc nM own D dA a0) (hX : nvS D a0 w s.heap H locs) (q0 t0 : Nat) {a n : Nat} {cA : ClassId} {x : (Nat → Int32) ⊕ (Nat → Int64) ⊕ (Nat → UInt32) ⊕ (Nat → UInt64) ⊕ (Nat → Option Nat)} (he : w[q0]? = some (a, .inl (cA, n, x))) {ty : FieldType} (ht : (nvT dA)[t0]? = some (cA, ty)) (d : decode cc pc = .ok (.arraylength, 1))
    (kk : W p l e R s m args below meth c H locs cells slots Q (F0 m (pc + 1) ls (.int (nI n) :: rest))) : W p l e R s m args below meth c H locs cells slots Q (F0 m pc ls (.ref a :: rest)) :=
  va_alen (x := (n, x)) (v := nI n) hC.1 hC.2.1 hC.2.2.2.2.2.1 hX.1 q0 t0 he ht rfl d kk
/-- arithmetic of numbers -/
theorem nv_iadd (hx : p.tables.exec = Jvm.exec) (hb : c.code = cc) {a b : Nat} (d : decode cc pc = .ok (.iadd, 1)) (k : W p l e R s m args below meth c H locs cells slots Q (F0 m (pc + 1) ls (.int (nI (a + b)) :: rest))) : W p l e R s m args below meth c H locs cells slots Q (F0 m pc ls (.int (nI b) :: .int (nI a) :: rest)) :=
  lv_iadd hx hb d (by rw [nI_add]; exact k)
theorem nv_isub (hx : p.tables.exec = Jvm.exec) (hb : c.code = cc) {a b : Nat} (h : b ≤ a) (d : decode cc pc = .ok (.isub, 1)) (k : W p l e R s m args below meth c H locs cells slots Q (F0 m (pc + 1) ls (.int (nI (a - b)) :: rest))) : W p l e R s m args below meth c H locs cells slots Q (F0 m pc ls (.int (nI b) :: .int (nI a) :: rest)) :=
  lv_isub hx hb d (by rw [pk_sub h]; exact k)
theorem nv_imul (hx : p.tables.exec = Jvm.exec) (hb : c.code = cc) {a b : Nat} (d : decode cc pc = .ok (.imul, 1)) (k : W p l e R s m args below meth c H locs cells slots Q (F0 m (pc + 1) ls (.int (nI (a * b)) :: rest))) : W p l e R s m args below meth c H locs cells slots Q (F0 m pc ls (.int (nI b) :: .int (nI a) :: rest)) :=
  lv_imul hx hb d (by rw [pk_mul]; exact k)
theorem nv_idiv (hx : p.tables.exec = Jvm.exec) (hb : c.code = cc) {a b : Nat} (ha : a < 2 ^ 31) (h0 : 0 < b) (hbb : b < 2 ^ 31) (d : decode cc pc = .ok (.idiv, 1)) (k : W p l e R s m args below meth c H locs cells slots Q (F0 m (pc + 1) ls (.int (nI (a / b)) :: rest))) : W p l e R s m args below meth c H locs cells slots Q (F0 m pc ls (.int (nI b) :: .int (nI a) :: rest)) :=
  lv_idiv hx hb d (nI_ne0 h0 hbb) (by rw [pk_div ha h0 hbb]; exact k)
theorem nv_irem (hx : p.tables.exec = Jvm.exec) (hb : c.code = cc) {a b : Nat} (ha : a < 2 ^ 31) (h0 : 0 < b) (hbb : b < 2 ^ 31) (d : decode cc pc = .ok (.irem, 1)) (k : W p l e R s m args below meth c H locs cells slots Q (F0 m (pc + 1) ls (.int (nI (a % b)) :: rest))) : W p l e R s m args below meth c H locs cells slots Q (F0 m pc ls (.int (nI b) :: .int (nI a) :: rest)) :=
  lv_irem hx hb d (nI_ne0 h0 hbb) (by rw [pk_rem ha h0 hbb]; exact k)
theorem nI_or (a b : Nat) : nI a ||| nI b = nI (a ||| b) := by
  apply Int32.toBitVec_inj.mp
  show BitVec.ofNat 32 a ||| BitVec.ofNat 32 b = BitVec.ofNat 32 (a ||| b)
  apply BitVec.eq_of_toNat_eq
  simp [BitVec.toNat_or, Nat.or_mod_two_pow]
theorem nv_ior (hx : p.tables.exec = Jvm.exec) (hb : c.code = cc) {a b : Nat} (d : decode cc pc = .ok (.ior, 1)) (k : W p l e R s m args below meth c H locs cells slots Q (F0 m (pc + 1) ls (.int (nI (a ||| b)) :: rest))) : W p l e R s m args below meth c H locs cells slots Q (F0 m pc ls (.int (nI b) :: .int (nI a) :: rest)) :=
  lv_ior hx hb d (by rw [nI_or]; exact k)
theorem nv_ladd (hx : p.tables.exec = Jvm.exec) (hb : c.code = cc) {a b : Nat} (d : decode cc pc = .ok (.ladd, 1)) (k : W p l e R s m args below meth c H locs cells slots Q (F0 m (pc + 1) ls (.long (lN (a + b)) :: rest))) : W p l e R s m args below meth c H locs cells slots Q (F0 m pc ls (.long (lN b) :: .long (lN a) :: rest)) :=
  lv_ladd hx hb d (by rw [lN_add]; exact k)
theorem nv_lmul (hx : p.tables.exec = Jvm.exec) (hb : c.code = cc) {a b : Nat} (d : decode cc pc = .ok (.lmul, 1)) (k : W p l e R s m args below meth c H locs cells slots Q (F0 m (pc + 1) ls (.long (lN (a * b)) :: rest))) : W p l e R s m args below meth c H locs cells slots Q (F0 m pc ls (.long (lN b) :: .long (lN a) :: rest)) :=
  lv_lmul hx hb d (by rw [lN_mul]; exact k)
theorem lN_ne0 {a : Nat} (h0 : 0 < a) (h : a < 2 ^ 63) : ¬ lN a = 0 := fun z => by
  have := (pk_lEQ (b := 0) h (by decide)).mp z
  omega
theorem nv_ldiv (hx : p.tables.exec = Jvm.exec) (hb : c.code = cc) {a b : Nat} (ha : a < 2 ^ 63) (h0 : 0 < b) (hbb : b < 2 ^ 63) (d : decode cc pc = .ok (.ldiv, 1)) (k : W p l e R s m args below meth c H locs cells slots Q (F0 m (pc + 1) ls (.long (lN (a / b)) :: rest))) : W p l e R s m args below meth c H locs cells slots Q (F0 m pc ls (.long (lN b) :: .long (lN a) :: rest)) :=
  lv_ldiv hx hb d (lN_ne0 h0 hbb) (by rw [pk_lDiv ha h0 hbb]; exact k)
theorem nv_lrem (hx : p.tables.exec = Jvm.exec) (hb : c.code = cc) {a b : Nat} (ha : a < 2 ^ 63) (h0 : 0 < b) (hbb : b < 2 ^ 63) (d : decode cc pc = .ok (.lrem, 1)) (k : W p l e R s m args below meth c H locs cells slots Q (F0 m (pc + 1) ls (.long (lN (a % b)) :: rest))) : W p l e R s m args below meth c H locs cells slots Q (F0 m pc ls (.long (lN b) :: .long (lN a) :: rest)) :=
  lv_lrem hx hb d (lN_ne0 h0 hbb) (by rw [pk_lRem ha h0 hbb]; exact k)
theorem nv_iandB (hx : p.tables.exec = Jvm.exec) (hb : c.code = cc) {a b : Bool} (d : decode cc pc = .ok (.iand, 1)) (k : W p l e R s m args below meth c H locs cells slots Q (F0 m (pc + 1) ls (.int (nB (a && b)) :: rest))) : W p l e R s m args below meth c H locs cells slots Q (F0 m pc ls (.int (nB b) :: .int (nB a) :: rest)) :=
  lv_iand hx hb d (by rw [nB_and]; exact k)
theorem nv_iorB (hx : p.tables.exec = Jvm.exec) (hb : c.code = cc) {a b : Bool} (d : decode cc pc = .ok (.ior, 1)) (k : W p l e R s m args below meth c H locs cells slots Q (F0 m (pc + 1) ls (.int (nB (a || b)) :: rest))) : W p l e R s m args below meth c H locs cells slots Q (F0 m pc ls (.int (nB b) :: .int (nB a) :: rest)) :=
  lv_ior hx hb d (by rw [nB_or]; exact k)
theorem nI_shl1 : ∀ k : Nat, k < 31 → (1 : Int32) <<< (nI k &&& 31) = nI (2 ^ k) := by decide +kernel
theorem nv_ishl1 (hx : p.tables.exec = Jvm.exec) (hb : c.code = cc) {k0 : Nat} (h : k0 < 31) (d : decode cc pc = .ok (.ishl, 1)) (k : W p l e R s m args below meth c H locs cells slots Q (F0 m (pc + 1) ls (.int (nI (2 ^ k0)) :: rest))) : W p l e R s m args below meth c H locs cells slots Q (F0 m pc ls (.int (nI k0) :: .int (nI 1) :: rest)) :=
  lv_ishl hx hb d (by rw [show nI 1 = (1 : Int32) from rfl, nI_shl1 _ h]; exact k)
/-- branches on numbers -/
theorem nv_icmp_eq (hx : p.tables.exec = Jvm.exec) (hb : c.code = cc) {a b : Nat} {off : Int} {tgt : Nat} (ha : a < 2 ^ 31) (hbb : b < 2 ^ 31) (d : decode cc pc = .ok (.if_icmp .eq off, 3)) (ht : (pc : Int) + off = (tgt : Int)) (kt : a = b → W p l e R s m args below meth c H locs cells slots Q (F0 m tgt ls rest)) (kf : a ≠ b → W p l e R s m args below meth c H locs cells slots Q (F0 m (pc + 3) ls rest)) : W p l e R s m args below meth c H locs cells slots Q (F0 m pc ls (.int (nI b) :: .int (nI a) :: rest)) :=
  lv_icmp_eq hx hb d ht (fun h => kt ((nI_eq ha hbb).mp h)) (fun h => kf (fun z => h (by rw [z])))
theorem nv_icmp_ne (hx : p.tables.exec = Jvm.exec) (hb : c.code = cc) {a b : Nat} {off : Int} {tgt : Nat} (ha : a < 2 ^ 31) (hbb : b < 2 ^ 31) (d : decode cc pc = .ok (.if_icmp .ne off, 3)) (ht : (pc : Int) + off = (tgt : Int)) (kt : a ≠ b → W p l e R s m args below meth c H locs cells slots Q (F0 m tgt ls rest)) (kf : a = b → W p l e R s m args below meth c H locs cells slots Q (F0 m (pc + 3) ls rest)) : W p l e R s m args below meth c H locs cells slots Q (F0 m pc ls (.int (nI b) :: .int (nI a) :: rest)) :=
  lv_icmp_ne hx hb d ht (fun h => kt (fun z => h (by rw [z]))) (fun h => kf ((nI_eq ha hbb).mp h))
theorem nv_icmp_lt (hx : p.tables.exec = Jvm.exec) (hb : c.code = cc) {a b : Nat} {off : Int} {tgt : Nat} (ha : a < 2 ^ 31) (hbb : b < 2 ^ 31) (d : decode cc pc = .ok (.if_icmp .lt off, 3)) (ht : (pc : Int) + off = (tgt : Int)) (kt : a < b → W p l e R s m args below meth c H locs cells slots Q (F0 m tgt ls rest)) (kf : b ≤ a → W p l e R s m args below meth c H locs cells slots Q (F0 m (pc + 3) ls rest)) : W p l e R s m args below meth c H locs cells slots Q (F0 m pc ls (.int (nI b) :: .int (nI a) :: rest)) :=
  lv_icmp_lt hx hb d ht (fun h => kt ((nI_ltI ha hbb).mp h)) (fun h => kf (Nat.le_of_not_lt fun z => h ((nI_ltI ha hbb).mpr z)))
theorem nv_icmp_ge (hx : p.tables.exec = Jvm.exec) (hb : c.code = cc) {a b : Nat} {off : Int} {tgt : Nat} (ha : a < 2 ^ 31) (hbb : b < 2 ^ 31) (d : decode cc pc = .ok (.if_icmp .ge off, 3)) (ht : (pc : Int) + off = (tgt : Int)) (kt : b ≤ a → W p l e R s m args below meth c H locs cells slots Q (F0 m tgt ls rest)) (kf : a < b → W p l e R s m args below meth c H locs cells slots Q (F0 m (pc + 3) ls rest)) : W p l e R s m args below meth c H locs cells slots Q (F0 m pc ls (.int (nI b) :: .int (nI a) :: rest)) :=
  lv_icmp_ge hx hb d ht (fun h => kt ((nI_leI hbb ha).mp h)) (fun h => kf (Nat.lt_of_not_le fun z => h ((nI_leI hbb ha).mpr z)))
theorem nv_icmp_gt (hx : p.tables.exec = Jvm.exec) (hb : c.code = cc) {a b : Nat} {off : Int} {tgt : Nat} (ha : a < 2 ^ 31) (hbb : b < 2 ^ 31) (d : decode cc pc = .ok (.if_icmp .gt off, 3)) (ht : (pc : Int) + off = (tgt : Int)) (kt : b < a → W p l e R s m args below meth c H locs cells slots Q (F0 m tgt ls rest)) (kf : a ≤ b → W p l e R s m args below meth c H locs cells slots Q (F0 m (pc + 3) ls rest)) : W p l e R s m args below meth c H locs cells slots Q (F0 m pc ls (.int (nI b) :: .int (nI a) :: rest)) :=
  lv_icmp_gt hx hb d ht (fun h => kt ((nI_ltI hbb ha).mp h)) (fun h => kf (Nat.le_of_not_lt fun z => h ((nI_ltI hbb ha).mpr z)))
theorem nv_icmp_le (hx : p.tables.exec = Jvm.exec) (hb : c.code = cc) {a b : Nat} {off : Int} {tgt : Nat} (ha : a < 2 ^ 31) (hbb : b < 2 ^ 31) (d : decode cc pc = .ok (.if_icmp .le off, 3)) (ht : (pc : Int) + off = (tgt : Int)) (kt : a ≤ b → W p l e R s m args below meth c H locs cells slots Q (F0 m tgt ls rest)) (kf : b < a → W p l e R s m args below meth c H locs cells slots Q (F0 m (pc + 3) ls rest)) : W p l e R s m args below meth c H locs cells slots Q (F0 m pc ls (.int (nI b) :: .int (nI a) :: rest)) :=
  lv_icmp_le hx hb d ht (fun h => kt ((nI_leI ha hbb).mp h)) (fun h => kf (Nat.lt_of_not_le fun z => h ((nI_leI ha hbb).mpr z)))
theorem nv_if_eq (hx : p.tables.exec = Jvm.exec) (hb : c.code = cc) {a : Nat} {off : Int} {tgt : Nat} (ha : a < 2 ^ 31) (d : decode cc pc = .ok (.ifCond .eq off, 3)) (ht : (pc : Int) + off = (tgt : Int)) (kt : a = 0 → W p l e R s m args below meth c H locs cells slots Q (F0 m tgt ls rest)) (kf : 0 < a → W p l e R s m args below meth c H locs cells slots Q (F0 m (pc + 3) ls rest)) : W p l e R s m args below meth c H locs cells slots Q (F0 m pc ls (.int (nI a) :: rest)) :=
  lv_if_eq hx hb d ht (fun h => kt ((nI_eq ha (by decide)).mp (h.trans nI_0.symm))) (fun h => kf (Nat.pos_of_ne_zero fun z => h (by rw [z]; rfl)))
theorem nv_if_ne (hx : p.tables.exec = Jvm.exec) (hb : c.code = cc) {a : Nat} {off : Int} {tgt : Nat} (ha : a < 2 ^ 31) (d : decode cc pc = .ok (.ifCond .ne off, 3)) (ht : (pc : Int) + off = (tgt : Int)) (kt : 0 < a → W p l e R s m args below meth c H locs cells slots Q (F0 m tgt ls rest)) (kf : a = 0 → W p l e R s m args below meth c H locs cells slots Q (F0 m (pc + 3) ls rest)) : W p l e R s m args below meth c H locs cells slots Q (F0 m pc ls (.int (nI a) :: rest)) :=
  lv_if_ne hx hb d ht (fun h => kt (Nat.pos_of_ne_zero fun z => h (by rw [z]; rfl))) (fun h => kf ((nI_eq ha (by decide)).mp (h.trans nI_0.symm)))
theorem nv_if_le (hx : p.tables.exec = Jvm.exec) (hb : c.code = cc) {a : Nat} {off : Int} {tgt : Nat} (ha : a < 2 ^ 31) (d : decode cc pc = .ok (.ifCond .le off, 3)) (ht : (pc : Int) + off = (tgt : Int)) (kt : a = 0 → W p l e R s m args below meth c H locs cells slots Q (F0 m tgt ls rest)) (kf : 0 < a → W p l e R s m args below meth c H locs cells slots Q (F0 m (pc + 3) ls rest)) : W p l e R s m args below meth c H locs cells slots Q (F0 m pc ls (.int (nI a) :: rest)) :=
  lv_if_le hx hb d ht (fun h => kt (Nat.eq_zero_of_not_pos fun z => nI_nle z ha h)) (fun h => kf (Nat.pos_of_ne_zero fun z => h (by rw [z]; decide)))
theorem nv_if_gt (hx : p.tables.exec = Jvm.exec) (hb : c.code = cc) {a : Nat} {off : Int} {tgt : Nat} (ha : a < 2 ^ 31) (d : decode cc pc = .ok (.ifCond .gt off, 3)) (ht : (pc : Int) + off = (tgt : Int)) (kt : 0 < a → W p l e R s m args below meth c H locs cells slots Q (F0 m tgt ls rest)) (kf : a = 0 → W p l e R s m args below meth c H locs cells slots Q (F0 m (pc + 3) ls rest)) : W p l e R s m args below meth c H locs cells slots Q (F0 m pc ls (.int (nI a) :: rest)) :=
  lv_if_gt hx hb d ht (fun h => kt (Nat.pos_of_ne_zero fun z => by rw [z] at h; exact absurd h (by decide))) (fun h => kf (Nat.eq_zero_of_not_pos fun z => h (by have k := nI_lt z ha; rw [nI_0] at k; exact k)))
theorem nv_if_lt (hx : p.tables.exec = Jvm.exec) (hb : c.code = cc) {a : Nat} {off : Int} {tgt : Nat} (ha : a < 2 ^ 31) (d : decode cc pc = .ok (.ifCond .lt off, 3)) (ht : (pc : Int) + off = (tgt : Int)) (k : W p l e R s m args below meth c H locs cells slots Q (F0 m (pc + 3) ls rest)) : W p l e R s m args below meth c H locs cells slots Q (F0 m pc ls (.int (nI a) :: rest)) :=
  lv_if_lt hx hb d ht (fun h => absurd h (nI_pos ha)) (fun _ => k)
theorem nv_if_ge (hx : p.tables.exec = Jvm.exec) (hb : c.code = cc) {a : Nat} {off : Int} {tgt : Nat} (ha : a < 2 ^ 31) (d : decode cc pc = .ok (.ifCond .ge off, 3)) (ht : (pc : Int) + off = (tgt : Int)) (k : W p l e R s m args below meth c H locs cells slots Q (F0 m tgt ls rest)) : W p l e R s m args below meth c H locs cells slots Q (F0 m pc ls (.int (nI a) :: rest)) :=
  lv_if_ge hx hb d ht (fun _ => k) (fun h => absurd (nI_pos' ha) h)
theorem nv_if_eqB (hx : p.tables.exec = Jvm.exec) (hb : c.code = cc) {a : Bool} {off : Int} {tgt : Nat} (d : decode cc pc = .ok (.ifCond .eq off, 3)) (ht : (pc : Int) + off = (tgt : Int)) (kt : a = false → W p l e R s m args below meth c H locs cells slots Q (F0 m tgt ls rest)) (kf : a = true → W p l e R s m args below meth c H locs cells slots Q (F0 m (pc + 3) ls rest)) : W p l e R s m args below meth c H locs cells slots Q (F0 m pc ls (.int (nB a) :: rest)) :=
  lv_if_eq hx hb d ht (fun h => kt (nB_0.mp h)) (fun h => kf (by cases a with | true => rfl | false => exact absurd rfl h))
theorem nv_if_neB (hx : p.tables.exec = Jvm.exec) (hb : c.code = cc) {a : Bool} {off : Int} {tgt : Nat} (d : decode cc pc = .ok (.ifCond .ne off, 3)) (ht : (pc : Int) + off = (tgt : Int)) (kt : a = true → W p l e R s m args below meth c H locs cells slots Q (F0 m tgt ls rest)) (kf : a = false → W p l e R s m args below meth c H locs cells slots Q (F0 m (pc + 3) ls rest)) : W p l e R s m args below meth c H locs cells slots Q (F0 m pc ls (.int (nB a) :: rest)) :=
  lv_if_ne hx hb d ht (fun h => kt (by cases a with | true => rfl | false => exact absurd rfl h)) (fun h => kf (nB_0.mp (h)))
/-- ends -/
theorem nv_endi {S : Type} {post : Int32 → S → Prop} {w' : S → va_W} {mc ms : Nat} (hC : nvC p s m args c cc nM own D dA a0) (hr : meth.sig.returnType = some .int) (hk : meth.locks = false) (u : S) (hX : nvS D a0 (w' u) s.heap H locs) {v : Int32} (hp : post v u) (h1 : cells ≤ mc) (h2 : slots ≤ ms) (d : decode cc pc = .ok (.ireturn, 1)) : W p l e R s m args below meth c H locs cells slots (MQ below (nQi D a0 post w') args s mc ms (nvA a0)) (F0 m pc ls [.int v]) :=
  W.widen h1 h2 (W.iret hC.1 hC.2.1 hr (fun t ht hW => ⟨⟨v, u, rfl, hp, by rw [ht]; exact hX.1, hX.2.1⟩, hX.2.2.F ht⟩) hX.2.2.2.2 d hk)
theorem nv_endz {S : Type} {post : Int32 → S → Prop} {w' : S → va_W} {mc ms : Nat} (hC : nvC p s m args c cc nM own D dA a0) (hr : meth.sig.returnType = some .boolean) (hk : meth.locks = false) (u : S) (hX : nvS D a0 (w' u) s.heap H locs) {v : Bool} (hp : post (nB v) u) (h1 : cells ≤ mc) (h2 : slots ≤ ms) (d : decode cc pc = .ok (.ireturn, 1)) : W p l e R s m args below meth c H locs cells slots (MQ below (nQi D a0 post w') args s mc ms (nvA a0)) (F0 m pc ls [.int (nB v)]) :=
  W.widen h1 h2 (W.zret (v := nB v) hC.1 hC.2.1 hr (by cases v <;> rfl) (fun t ht hW => ⟨⟨nB v, u, rfl, hp, by rw [ht]; exact hX.1, hX.2.1⟩, hX.2.2.F ht⟩) hX.2.2.2.2 d hk)
theorem nv_endl {S : Type} {post : Int64 → S → Prop} {w' : S → va_W} {mc ms : Nat} (hC : nvC p s m args c cc nM own D dA a0) (hr : meth.sig.returnType = some .long) (hk : meth.locks = false) (u : S) (hX : nvS D a0 (w' u) s.heap H locs) {v : Int64} (hp : post v u) (h1 : cells ≤ mc) (h2 : slots ≤ ms) (d : decode cc pc = .ok (.lreturn, 1)) : W p l e R s m args below meth c H locs cells slots (MQ below (nQl D a0 post w') args s mc ms (nvA a0)) (F0 m pc ls [.long v]) :=
  W.widen h1 h2 (W.lret hC.1 hC.2.1 hr (fun t ht hW => ⟨⟨v, u, rfl, hp, by rw [ht]; exact hX.1, hX.2.1⟩, hX.2.2.F ht⟩) hX.2.2.2.2 d hk)
theorem nv_endv {S : Type} {post : S → Prop} {w' : S → va_W} {mc ms : Nat} (hC : nvC p s m args c cc nM own D dA a0) (hr : meth.sig.returnType = none) (hk : meth.locks = false) (u : S) (hX : nvS D a0 (w' u) s.heap H locs) (hp : post u) (h1 : cells ≤ mc) (h2 : slots ≤ ms) (d : decode cc pc = .ok (.return_, 1)) : W p l e R s m args below meth c H locs cells slots (MQ below (nQv D a0 post w') args s mc ms (nvA a0)) (F0 m pc ls []) :=
  W.widen h1 h2 (W.vret hC.1 hC.2.1 hr (fun t ht hW => ⟨⟨u, rfl, hp, by rw [ht]; exact hX.1, hX.2.1⟩, hX.2.2.F ht⟩) hX.2.2.2.2 d hk)
theorem nv_endr {S : Type} {post : S → Prop} {w' : S → Nat → va_W} {mc ms : Nat} {rt : FieldType} (hC : nvC p s m args c cc nM own D dA a0) (hr : meth.sig.returnType = some rt) (hrt : (∃ n, rt = .object n) ∨ ∃ t, rt = .array t) (hk : meth.locks = false) (u : S) {a : Nat} (hX : nvS D a0 (w' u a) s.heap H locs) (hp : post u) (h1 : cells ≤ mc) (h2 : slots ≤ ms) (d : decode cc pc = .ok (.areturn, 1)) : W p l e R s m args below meth c H locs cells slots (MQ below (nQr D a0 post w') args s mc ms (nvA a0)) (F0 m pc ls [.ref a]) :=
  W.widen h1 h2 (W.aret hC.1 hC.2.1 hr hrt (Or.inr ⟨a, rfl⟩) (fun t ht hW => ⟨⟨u, a, rfl, hp, by rw [ht]; exact hX.1, hX.2.1⟩, hX.2.2.F ht⟩) hX.2.2.2.2 d hk)
theorem nv_endq {S : Type} {post : Option Nat → S → Prop} {w' : S → va_W} {mc ms : Nat} {rt : FieldType} (hC : nvC p s m args c cc nM own D dA a0) (hr : meth.sig.returnType = some rt) (hrt : (∃ n, rt = .object n) ∨ ∃ t, rt = .array t) (hk : meth.locks = false) (u : S) {v : Option Nat} (hX : nvS D a0 (w' u) s.heap H locs) (hp : post v u) (h1 : cells ≤ mc) (h2 : slots ≤ ms) (d : decode cc pc = .ok (.areturn, 1)) : W p l e R s m args below meth c H locs cells slots (MQ below (nQq D a0 post w') args s mc ms (nvA a0)) (F0 m pc ls [va_rf v]) :=
  W.widen h1 h2 (W.aret hC.1 hC.2.1 hr hrt (va_rf_or v) (fun t ht hW => ⟨⟨v, u, rfl, hp, by rw [ht]; exact hX.1, hX.2.1⟩, hX.2.2.F ht⟩) hX.2.2.2.2 d hk)
/-- the start of a callee, out of the caller's world -/
theorem nv_pre {G : State → Prop} {As : List Value} (hC : nvC p s m args c cc nM own D dA a0) (hX : nvS D a0 w s.heap H locs) (hG : nvGb G) (hg : ∀ U : State, U.heap = H → s.WarmedH U.vm → G U) : FrameBlind (va_Pc As (nvU D dA a0 w G)) ∧ ∀ U : State, U.heap = H → s.WarmedH U.vm → va_Pc As (nvU D dA a0 w G) As.toArray U :=
  ⟨fun a U g mk q => by obtain ⟨q0, q1, q2, q3, q4, q5⟩ := q; exact ⟨q0, q1, q2, va_K.moved (u := U) (U := U.calling g mk a) (Vm.Alike.refl U.vm) q3, q4, hG U g mk a q5⟩,
   fun U hU hW => ⟨rfl, by rw [hU]; exact Nat.le_trans hC.2.2.2.2.2.2 hX.2.2.1, by rw [hU]; exact hX.1, va_K.moved hW.alike hC.2.2.2.2.2.1, hX.2.1, hg U hU hW⟩⟩
/-- calls: through an object; static; constructors -/
theorem nv_rV {y : MethodName} {b : ByteArray} {L idx n fr lo mc ms : Nat} {ret : Option FieldType} {G : State → Prop} {As rest : List Value} {bb q0 ci N : Nat} {fs : List Value} {T : u_T} {Qc : Array Value → State → Outcome → State → Prop}
    (hC : nvC p s m args c cc nM own D dA a0) (hX : nvS D a0 w s.heap H locs) (hM : nMt l D dA a0 y b L ret fr lo mc ms G (.ref bb :: As) w Qc) (hG : nvGb G) (hg : ∀ U : State, U.heap = H → s.WarmedH U.vm → G U)
    (he : w[q0]? = some (bb, .inr (ci, fs))) (hc : vwCl[ci]? = some (y.cls, T, N)) (h1 : Cond.methodLink own idx y ∈ lw_all) (h2 : Cond.instanceMethod y ∈ lw_all) (h3 : Cond.selects y.cls y y ∈ lw_all) (h4 : Cond.initialized y.cls ∈ lw_all) (h5 : Cond.code y b L ret ∈ lw_all)
    (hd : y.cls = y.cls ∧ y.cls ≠ "java/lang/invoke/MethodHandle" ∧ y.cls ≠ "java/lang/invoke/VarHandle" ∧ (parseMethodDescriptor y.desc).map (fun d => d.parameters.length) = some n) (hn : As.length = n) (hR : fr + 1 ≤ R.frames ∧ 8 + (L + 11) + lo ≤ R.locals) (hs : ls.size = nM) (hro : (rest.map fun v => v.category).sum ≤ 8) (d : decode cc pc = .ok (.invokevirtual idx, 3)) (hf : cells + mc ≤ R.cells ∧ slots + ms ≤ R.slots) :
    va_Run p l e R s m args below meth c H locs cells slots mc ms (F0 m pc ls (As.reverse ++ .ref bb :: rest)) rest (Qc (Value.ref bb :: As).toArray) (nvA a0) :=
  va_runV (As := As) (rest := rest) ⟨hC.1, hC.2.1, hC.2.2.1, hC.2.2.2.1, hC.2.2.2.2.1⟩ hM (cwV n hC.2.2.2.2.1 (lw_V h1 h2 h3 h4 h5) rfl rfl rfl hd hR) ⟨(nv_pre hC hX hG hg).1, va_recv hC.2.2.2.2.2.1 hX.1 hc he, (nv_pre hC hX hG hg).2⟩ rfl hn hs rfl (lv_room hro) d hf
theorem nv_rS {y : MethodName} {b : ByteArray} {L idx n fr lo mc ms : Nat} {ret : Option FieldType} {G : State → Prop} {As rest : List Value} {Qc : Array Value → State → Outcome → State → Prop}
    (hC : nvC p s m args c cc nM own D dA a0) (hX : nvS D a0 w s.heap H locs) (hM : nMt l D dA a0 y b L ret fr lo mc ms G As w Qc) (hG : nvGb G) (hg : ∀ U : State, U.heap = H → s.WarmedH U.vm → G U)
    (h1 : Cond.methodLink own idx y ∈ lw_all) (h2 : Cond.static y ∈ lw_all) (h4 : Cond.initialized y.cls ∈ lw_all) (h5 : Cond.code y b L ret ∈ lw_all)
    (hd : y.cls ≠ "java/lang/invoke/MethodHandle" ∧ y.cls ≠ "java/lang/invoke/VarHandle" ∧ (parseMethodDescriptor y.desc).map (fun d => d.parameters.length) = some n) (hn : As.length = n) (hR : fr + 1 ≤ R.frames ∧ 8 + (L + 11) + lo ≤ R.locals) (hs : ls.size = nM) (hro : (rest.map fun v => v.category).sum ≤ 8) (d : decode cc pc = .ok (.invokestatic idx, 3)) (hf : cells + mc ≤ R.cells ∧ slots + ms ≤ R.slots) :
    va_Run p l e R s m args below meth c H locs cells slots mc ms (F0 m pc ls (As.reverse ++ rest)) rest (Qc As.toArray) (nvA a0) :=
  va_runS (As := As) (rest := rest) ⟨hC.1, hC.2.1, hC.2.2.1, hC.2.2.2.1, hC.2.2.2.2.1⟩ hM (va_cwS n hC.2.2.2.2.1 (lw_S h1 h2 h4 h5) rfl rfl rfl hd hR) (nv_pre hC hX hG hg) rfl hn hs rfl (lv_room hro) d hf
theorem nv_rI {y : MethodName} {b : ByteArray} {L idx n fr lo mc ms : Nat} {G : State → Prop} {As rest : List Value} {bb : Nat} {Qc : Array Value → State → Outcome → State → Prop}
    (hC : nvC p s m args c cc nM own D dA a0) (hX : nvS D a0 w s.heap H locs) (hM : nMt l D dA a0 y b L none fr lo mc ms G (.ref bb :: As) w Qc) (hG : nvGb G) (hg : ∀ U : State, U.heap = H → s.WarmedH U.vm → G U)
    (h1 : Cond.methodLink own idx y ∈ lw_all) (h2 : Cond.instanceMethod y ∈ lw_all) (h4 : Cond.initialized y.cls ∈ lw_all) (h5 : Cond.code y b L none ∈ lw_all) (hnm : y.name = "<init>")
    (hd : y.cls ≠ "java/lang/invoke/MethodHandle" ∧ y.cls ≠ "java/lang/invoke/VarHandle" ∧ (parseMethodDescriptor y.desc).map (fun d => d.parameters.length) = some n) (hn : As.length = n) (hR : fr + 1 ≤ R.frames ∧ 8 + (L + 11) + lo ≤ R.locals) (hs : ls.size = nM) (hro : (rest.map fun v => v.category).sum ≤ 8) (d : decode cc pc = .ok (.invokespecial idx, 3)) (hf : cells + mc ≤ R.cells ∧ slots + ms ≤ R.slots) :
    va_Run p l e R s m args below meth c H locs cells slots mc ms (F0 m pc ls (As.reverse ++ .ref bb :: rest)) rest (Qc (Value.ref bb :: As).toArray) (nvA a0) :=
  va_runI (As := As) (rest := rest) ⟨hC.1, hC.2.1, hC.2.2.1, hC.2.2.2.1, hC.2.2.2.2.1⟩ hM (cwI n hC.2.2.2.2.1 (lw_meth h5) rfl rfl rfl (hC.2.2.2.2.1 _ h4) (hC.2.2.2.2.1 _ h1) (hC.2.2.2.2.1 _ h2) hnm hd hR) (nv_pre hC hX hG hg) rfl hn hs rfl (lv_room hro) d hf
/-- what comes behind a call -/
theorem nv_ki {S : Type} {post : Int32 → S → Prop} {w' : S → va_W} {mc ms : Nat} {a : Array Value} {st0 : List Value} (hC : nvC p s m args c cc nM own D dA a0) (hX : nvS D a0 w s.heap H locs) (hr : va_Run p l e R s m args below meth c H locs cells slots mc ms (F0 m pc ls st0) rest (nQi D a0 post w' a) (nvA a0))
    (kk : ∀ (r : Int32) (u : S) (H1 : Heap) (locs1 : List Loc), post r u → nvS D a0 (w' u) s.heap H1 locs1 → W p l e R s m args below meth c H1 locs1 (cells + mc) (slots + ms) Q (F0 m (pc + 3) ls (.int r :: rest))) : W p l e R s m args below meth c H locs cells slots Q (F0 m pc ls st0) :=
  va_calli hr hX.2.2 (fun _ _ h => h) (fun _ h => h) fun r u t H1 locs1 ht hvm hp hB hz hk hS => by
    subst ht
    exact kk r u _ _ hp ⟨hB.1, hB.2, hS⟩
theorem nv_kl {S : Type} {post : Int64 → S → Prop} {w' : S → va_W} {mc ms : Nat} {a : Array Value} {st0 : List Value} (hC : nvC p s m args c cc nM own D dA a0) (hX : nvS D a0 w s.heap H locs) (hr : va_Run p l e R s m args below meth c H locs cells slots mc ms (F0 m pc ls st0) rest (nQl D a0 post w' a) (nvA a0))
    (kk : ∀ (r : Int64) (u : S) (H1 : Heap) (locs1 : List Loc), post r u → nvS D a0 (w' u) s.heap H1 locs1 → W p l e R s m args below meth c H1 locs1 (cells + mc) (slots + ms) Q (F0 m (pc + 3) ls (.long r :: rest))) : W p l e R s m args below meth c H locs cells slots Q (F0 m pc ls st0) :=
  va_calll hr hX.2.2 (fun _ _ h => h) (fun _ h => h) fun r u t H1 locs1 ht hvm hp hB hz hk hS => by
    subst ht
    exact kk r u _ _ hp ⟨hB.1, hB.2, hS⟩
theorem nv_kv {S : Type} {post : S → Prop} {w' : S → va_W} {mc ms : Nat} {a : Array Value} {st0 : List Value} (hC : nvC p s m args c cc nM own D dA a0) (hX : nvS D a0 w s.heap H locs) (hr : va_Run p l e R s m args below meth c H locs cells slots mc ms (F0 m pc ls st0) rest (nQv D a0 post w' a) (nvA a0))
    (kk : ∀ (u : S) (H1 : Heap) (locs1 : List Loc), post u → nvS D a0 (w' u) s.heap H1 locs1 → W p l e R s m args below meth c H1 locs1 (cells + mc) (slots + ms) Q (F0 m (pc + 3) ls rest)) : W p l e R s m args below meth c H locs cells slots Q (F0 m pc ls st0) :=
  va_callv hr hX.2.2 (fun _ _ h => h) (fun _ h => h) fun u t H1 locs1 ht hvm hp hB hz hk hS => by
    subst ht
    exact kk u _ _ hp ⟨hB.1, hB.2, hS⟩
theorem nv_kr {S : Type} {post : S → Prop} {w' : S → Nat → va_W} {mc ms : Nat} {a : Array Value} {st0 : List Value} (hC : nvC p s m args c cc nM own D dA a0) (hX : nvS D a0 w s.heap H locs) (hr : va_Run p l e R s m args below meth c H locs cells slots mc ms (F0 m pc ls st0) rest (nQr D a0 post w' a) (nvA a0))
    (kk : ∀ (u : S) (ra : Nat) (H1 : Heap) (locs1 : List Loc), post u → nvS D a0 (w' u ra) s.heap H1 locs1 → W p l e R s m args below meth c H1 locs1 (cells + mc) (slots + ms) Q (F0 m (pc + 3) ls (.ref ra :: rest))) : W p l e R s m args below meth c H locs cells slots Q (F0 m pc ls st0) :=
  va_callr hr hX.2.2 (fun _ _ h => h) (fun _ h => h) fun u ra t H1 locs1 ht hvm hp hB hz hk hS => by
    subst ht
    exact kk u ra _ _ hp ⟨hB.1, hB.2, hS⟩
theorem nv_kq {S : Type} {post : Option Nat → S → Prop} {w' : S → va_W} {mc ms : Nat} {a : Array Value} {st0 : List Value} (hC : nvC p s m args c cc nM own D dA a0) (hX : nvS D a0 w s.heap H locs) (hr : va_Run p l e R s m args below meth c H locs cells slots mc ms (F0 m pc ls st0) rest (nQq D a0 post w' a) (nvA a0))
    (kk : ∀ (r : Option Nat) (u : S) (H1 : Heap) (locs1 : List Loc), post r u → nvS D a0 (w' u) s.heap H1 locs1 → W p l e R s m args below meth c H1 locs1 (cells + mc) (slots + ms) Q (F0 m (pc + 3) ls (va_rf r :: rest))) : W p l e R s m args below meth c H locs cells slots Q (F0 m pc ls st0) :=
  va_callq hr hX.2.2 (fun _ _ h => h) (fun _ h => h) fun r u t H1 locs1 ht hvm hp hB hz hk hS => by
    subst ht
    exact kk r u _ _ hp ⟨hB.1, hB.2, hS⟩
end NV
