/-! EXCEPTIONS: the layer over the kit's rows (no traces kept): contracts that return or throw, with one world -/
set_option maxRecDepth 100000
/-- thrown: a class that px allows, the world w as it was -/
abbrev nXb (D : va_G) (a0 : Nat) (px : String → Prop) (w : va_W) : String → State → State → Prop := vx_X (fun _ : Unit => True) (fun E _ t => px E ∧ va_P D vwCl w t.heap ∧ va_D (nvA a0) w) (nvA a0)
abbrev nMx (l : Launch) (D : va_G) (dA : Nat → ClassId) (a0 : Nat) (y : MethodName) (b : ByteArray) (nM : Nat) (ret : Option FieldType) (fr lo mc ms : Nat) (G : State → Prop) (As : List Value) (w : va_W) (Qc : Array Value → State → Outcome → State → Prop) (px : String → Prop) : Prop :=
  vx_Met l y (ws_ y b nM ret) (rm_ fr lo mc ms) (va_Pc As (nvU D dA a0 w G)) Qc (nXb D a0 px w) mc ms (nvA a0)
/-- a method with handlers that throws nothing -/
abbrev nMh (l : Launch) (D : va_G) (dA : Nat → ClassId) (a0 : Nat) (y : MethodName) (b : ByteArray) (nM : Nat) (ret : Option FieldType) (hh : List (Nat × Nat × Nat × Nat)) (fr lo mc ms : Nat) (G : State → Prop) (As : List Value) (w : va_W) (Qc : Array Value → State → Outcome → State → Prop) : Prop :=
  Met l y (wsW_ y b nM ret hh) (rm_ fr lo mc ms) (va_Pc As (nvU D dA a0 w G)) Qc mc ms (nvA a0)
theorem nx_start {l : Launch} {D : va_G} {dA : Nat → ClassId} {a0 : Nat} {y : MethodName} {b : ByteArray} {nM : Nat} {ret : Option FieldType} {fr lo mc ms : Nat} {G : State → Prop} {As : List Value} {w : va_W} {Qc : Array Value → State → Outcome → State → Prop} {px : String → Prop}
    (hy : plainName y.cls = true) (hlen : (lg_sl As).length ≤ nM)
    (body : ∀ (p : Program) (e : Env) (s : State) (m : MethodId) (below : List Frame) (meth : Method) (c : Code) (ls : Array Slot), (∀ x ∈ c.exceptionTable.toList, False) → nvC p s m As.toArray c b nM y.cls D dA a0 → meth.sig.returnType = ret → meth.locks = false → meth.name = y.name → nvS D a0 w s.heap s.heap [] → G s → lv_has ls nM (lv_args 0 As) →
      W p l e (rm_ fr lo mc ms) s m As.toArray below meth c s.heap [] 0 0 (vx_MQ below Qc (nXb D a0 px w) As.toArray s mc ms (nvA a0)) (F0 m 0 ls [])) : nMx l D dA a0 y b nM ret fr lo mc ms G As w Qc px := by
  refine vx_ofW (cc := b) (maxL := nM) (ret := ret) hy rfl ?_
  intro p e s m args below meth c s₁ B hml hto hv
  obtain ⟨rfl, h0, hP, hK, hD, hG⟩ := hv
  have hts := atoms_spec (ws := ws_ y b nM ret) B.pre
  have hts : ∀ w ∈ lw_all, w.before _ s = true := fun w h => hts w (List.mem_cons_of_mem _ h)
  rw [lg_entry_eq]
  exact body p e s m below meth c _ hto ⟨B.exec, B.bytes, hml, findClass_of_methodNamed B.named, hts, hK, h0⟩ B.returns B.notSynchronized (name_of_methodNamed B.named B.method).1 ⟨hP, hD, va_S.rf⟩ hG (lv_entry As hlen)
theorem nx_startH {l : Launch} {D : va_G} {dA : Nat → ClassId} {a0 : Nat} {y : MethodName} {b : ByteArray} {nM : Nat} {ret : Option FieldType} {hh : List (Nat × Nat × Nat × Nat)} {fr lo mc ms : Nat} {G : State → Prop} {As : List Value} {w : va_W} {Qc : Array Value → State → Outcome → State → Prop}
    (hy : plainName y.cls = true) (hlen : (lg_sl As).length ≤ nM)
    (body : ∀ (p : Program) (e : Env) (s : State) (m : MethodId) (below : List Frame) (meth : Method) (c : Code) (ls : Array Slot), c.exceptionTable.toList = tableOf hh → nvC p s m As.toArray c b nM y.cls D dA a0 → meth.sig.returnType = ret → meth.locks = false → meth.name = y.name → nvS D a0 w s.heap s.heap [] → G s → lv_has ls nM (lv_args 0 As) →
      W p l e (rm_ fr lo mc ms) s m As.toArray below meth c s.heap [] 0 0 (vx_MQ below Qc (nXb D a0 (fun _ => False) w) As.toArray s mc ms (nvA a0)) (F0 m 0 ls [])) : nMh l D dA a0 y b nM ret hh fr lo mc ms G As w Qc := by
  have h : vx_Met l y (wsW_ y b nM ret hh) (rm_ fr lo mc ms) (va_Pc As (nvU D dA a0 w G)) Qc (nXb D a0 (fun _ => False) w) mc ms (nvA a0) := by
    refine vx_ofWH (cc := b) (maxL := nM) (ret := ret) (hh := hh) hy rfl ?_
    intro p e s m args below meth c s₁ B hml hv
    obtain ⟨rfl, h0, hP, hK, hD, hG⟩ := hv
    have hts0 := atoms_spec (ws := wsW_ y b nM ret hh) B.pre
    have hts : ∀ w ∈ lw_all, w.before _ s = true := fun w h => hts0 w (List.mem_cons_of_mem _ h)
    rw [lg_entry_eq]
    exact body p e s m below meth c _ (vx_table (x := y) B (hts0 _ List.mem_cons_self)) ⟨B.exec, B.bytes, hml, findClass_of_methodNamed B.named, hts, hK, h0⟩ B.returns B.notSynchronized (name_of_methodNamed B.named B.method).1 ⟨hP, hD, va_S.rf⟩ hG (lv_entry As hlen)
  refine Jvm.Free.MetFree.mono h (fun _ _ h => h) (fun _ _ _ _ _ h => h) fun a s o t _ q => ?_
  rcases q with q | ⟨q9, -, E, ce, L, ⟨u, -, ⟨hf, -⟩, -⟩, -⟩
  · exact q
  · exact hf.elim
/-- what of the tables the throws stand on -/
def nvXc : List (String × String) := [("java/lang/ArrayIndexOutOfBoundsException", "java/lang/ArrayIndexOutOfBoundsException"), ("java/lang/ArrayStoreException", "java/lang/ArrayStoreException"), ("java/lang/ClassCastException", "java/lang/ClassCastException"), ("java/lang/IndexOutOfBoundsException", "java/lang/IndexOutOfBoundsException"), ("java/lang/NegativeArraySizeException", "java/lang/NegativeArraySizeException"), ("java/lang/NullPointerException", "java/lang/NullPointerException"), ("java/lang/RuntimeException", "java/lang/Throwable"), ("java/lang/ArrayIndexOutOfBoundsException", "java/lang/IndexOutOfBoundsException")]
def nvXd : List MethodName := [⟨"java/lang/Exception", "<init>", "()V"⟩, ⟨"java/lang/Exception", "<init>", "(Ljava/lang/String;)V"⟩, ⟨"java/lang/IndexOutOfBoundsException", "<init>", "(Ljava/lang/String;)V"⟩, ⟨"java/lang/RuntimeException", "<init>", "()V"⟩, ⟨"java/lang/RuntimeException", "<init>", "(Ljava/lang/String;)V"⟩, ⟨"java/lang/Throwable", "<init>", "()V"⟩, ⟨"java/lang/Throwable", "<init>", "(Ljava/lang/String;)V"⟩, ⟨"OneLongRow$Act", "done", "()I"⟩, ⟨"OneLongRow$Looking", "lookAt", "([I)I"⟩]
def nvXn : List (String × String) := [("java/lang/ClassCastException", "java/lang/NullPointerException"), ("java/lang/ArrayStoreException", "java/lang/NullPointerException"), ("java/lang/ArrayStoreException", "java/lang/ClassCastException"), ("java/lang/NegativeArraySizeException", "java/lang/NullPointerException"), ("java/lang/NegativeArraySizeException", "java/lang/ClassCastException"), ("java/lang/NegativeArraySizeException", "java/lang/ArrayStoreException"),
  ("java/lang/IndexOutOfBoundsException", "java/lang/NullPointerException"), ("java/lang/IndexOutOfBoundsException", "java/lang/ClassCastException"), ("java/lang/IndexOutOfBoundsException", "java/lang/ArrayStoreException"), ("java/lang/IndexOutOfBoundsException", "java/lang/NegativeArraySizeException"),
  ("java/lang/ArrayIndexOutOfBoundsException", "java/lang/NullPointerException"), ("java/lang/ArrayIndexOutOfBoundsException", "java/lang/ClassCastException"), ("java/lang/ArrayIndexOutOfBoundsException", "java/lang/ArrayStoreException"), ("java/lang/ArrayIndexOutOfBoundsException", "java/lang/NegativeArraySizeException"),
  ("[B", "[S"), ("[B", "[I"), ("[S", "[B"), ("[S", "[I"), ("[I", "[B"), ("[I", "[S"), ("OneLongRow$Plain", "OneLongRow$Both"), ("OneLongRow$Plain", "OneLongRow$Turned"), ("OneLongRow$Both", "OneLongRow$Turned")]
def nvX (a0 : Nat) (U : State) : Prop :=
  (∀ q ∈ nvXc, va_Nw (.castable q.1 q.2) U) ∧ (∀ x ∈ nvXd, va_Nw (.declares x) U) ∧ (∀ q ∈ nvXn, va_Nc q.1 q.2 U) ∧ vx_Zq Bundle.tN "UNASSIGNED_STACK" Bundle.steD (nvA a0) U U.heap ∧ vx_Zq Bundle.tN "SUPPRESSED_SENTINEL" Bundle.listD (nvA a0) U U.heap ∧ modulesRight_1 U = true ∧ ∃ sa, vk_R "OneLongRow" 300 "not all there" sa U
theorem nvX_b (a0 : Nat) : nvGb (nvX a0) := fun _ _ _ _ h => ⟨h.1, h.2.1, h.2.2.1, h.2.2.2.1, h.2.2.2.2.1, h.2.2.2.2.2.1, h.2.2.2.2.2.2.elim fun sa z => ⟨sa, vk_R.same rfl z⟩⟩
theorem modR_moved {u U : State} (h : u.vm.Alike U.vm) (hm : modulesRight_1 u = true) : modulesRight_1 U = true := by
  have e : U.vm.modules = u.vm.modules := by rw [h.1]
  unfold modulesRight_1 at hm ⊢
  rw [e]
  exact hm
theorem nvX_keep {a0 : Nat} {s : State} (h : nvX a0 s) {D : va_G} {w : va_W} {H : Heap} {locs : List Loc} (hX : nvS D a0 w s.heap H locs) : ∀ U : State, U.heap = H → s.WarmedH U.vm → nvX a0 U := by
  intro U hU hW
  have hq : ∀ a : Nat, a < s.heap.size → ¬ nvA a0 a → U.heap[a]? = s.heap[a]? := fun a h1 h2 => by rw [hU]; exact hX.2.2.2.1 a h1 h2
  obtain ⟨h1, h2, h3, h4, h5, h6, sa, h7⟩ := h
  exact ⟨fun q hq => va_Nw.warmC hW (h1 q hq), fun q hq => va_Nw.warmD hW (h2 q hq), fun q hq => (h3 q hq).moved hW.alike, (h4.moved hW.alike).kept hq, (h5.moved hW.alike).kept hq, modR_moved hW.alike h6, sa, vk_R.warm hW h7⟩
def nvE4 (a0 ez mo : Nat) (U : State) : Prop := nvE3 a0 ez mo U ∧ nvX a0 U
theorem nvE4_b (a0 ez mo : Nat) : nvGb (nvE4 a0 ez mo) := fun U g mk a h => ⟨h.1, nvX_b a0 U g mk a h.2⟩
theorem nvE4_keep {a0 ez mo : Nat} {s : State} (h : nvE4 a0 ez mo s) {D : va_G} {w : va_W} {H : Heap} {locs : List Loc} (hX : nvS D a0 w s.heap H locs) : ∀ U : State, U.heap = H → s.WarmedH U.vm → nvE4 a0 ez mo U :=
  fun U hU hW => ⟨nvE3_keep h.1 hX U hU hW, nvX_keep h.2 hX U hU hW⟩
theorem nvS.grow {D : va_G} {a0 : Nat} {w : va_W} {H0 H H1 : Heap} {locs : List Loc} (hX : nvS D a0 w H0 H locs) (hq : ∀ q : Nat, q < H.size → H1[q]? = H[q]?) (hS : va_S (nvA a0) H0 H1 locs) : nvS D a0 w H0 H1 locs :=
  ⟨hX.1.kept fun k q hk => hq _ (hX.1 k q hk).lt, hX.2.1, hS⟩
/-- the words of a machine's throw, all at once -/
def nxW (args : Array Value) (s : State) (cls : String) (names : List String) : Prop := Bundle.fit cls = true ∧ (∀ n ∈ names, Bundle.fit n = true) ∧ (cls == "java/lang/StackOverflowError") = false ∧ (cls == "java/lang/OutOfMemoryError") = false ∧ (∀ w ∈ vx_atM cls names, w.before args s = true) ∧ (∀ w ∈ vx_atM cls names, vx_ot w = true) ∧ 13 * names.length + 55 ≤ 10240
section NX
variable {p : Program} {l : Launch} {e : Env} {R : Room} {s : State} {m : MethodId} {args : Array Value} {below : List Frame} {meth : Method} {c : Code} {H : Heap} {locs : List Loc} {cells slots : Nat} {Q : State → Prop}
variable {cc : ByteArray} {nM : Nat} {own : String} {D : va_G} {dA : Nat → ClassId} {a0 : Nat} {w : va_W} {pc : Nat} {ls : Array Slot} {rest : List Value}
theorem nx_vm (hC : nvC p s m args c cc nM own D dA a0) (hX : nvS D a0 w s.heap H locs) (hst : l.stackTraces = false) (hx : nvX a0 s) {cls text : String} {names : List String} (hw : nxW args s cls names) {nb : Nat} (htext : (text == notModelled) = false) (hnb : (stringBytes (stringToUtf16 text)).size ≤ nb) (hnb1 : nb ≤ 1000)
    (hR : names.length + 4 < R.frames ∧ (rest.map fun v => v.category).sum + 10240 ≤ R.locals) (hf : cells + 3 ≤ R.cells ∧ slots + (nb + 10) ≤ R.slots) (hz : ls.size = nM) (hlk : meth.locks = false)
    (k : ∀ (H1 : Heap) (q9 : Addr) (ce : Cell), nvS D a0 w s.heap H1 locs → H1[q9]? = some ce → ce.vm = .none → s.vm.findClass cls = some ce.cls → vx_W p l e R s m args below meth c H1 locs (cells + 3) (slots + (nb + 10)) Q (F0 m pc ls rest) q9) :
    vx_Note p l e R s m args below meth c H locs cells slots Q (F0 m pc ls rest) cls text :=
  vx_vm hC.1 hst hw.1 hw.2.1 hw.2.2.1 hw.2.2.2.1 hw.2.2.2.2.1 hw.2.2.2.2.2.1 hx.2.2.2.1 hx.2.2.2.2.1 hX.2.2 (hz.trans hC.2.2.1.symm) htext hnb hnb1 hR.1 hR.2 hw.2.2.2.2.2.2 hf.1 hf.2 hlk
    fun H1 q9 ce _ h2 h3 h4 h5 h6 => k H1 q9 ce (hX.grow h2 h3) h4 h5 h6
theorem nx_npe (hC : nvC p s m args c cc nM own D dA a0) (hX : nvS D a0 w s.heap H locs) (hst : l.stackTraces = false) (hx : nvX a0 s) (hat : ∀ w ∈ vx_atN 8, w.before args s = true) (hgood : ∀ w ∈ vx_atN 8, vx_ot w = true)
    (hR : 7 < R.frames ∧ (rest.map fun v => v.category).sum + 10240 ≤ R.locals) (hf : cells + 1 ≤ R.cells ∧ slots + 8 ≤ R.slots) (hz : ls.size = nM) (hlk : meth.locks = false)
    (k : ∀ (H1 : Heap) (q9 : Addr) (ce : Cell), nvS D a0 w s.heap H1 locs → H1[q9]? = some ce → ce.vm = .none → s.vm.findClass "java/lang/NullPointerException" = some ce.cls → vx_W p l e R s m args below meth c H1 locs (cells + 1) (slots + 8) Q (F0 m pc ls rest) q9) :
    vx_NoteN p l e R s m args below meth c H locs cells slots Q (F0 m pc ls rest) :=
  vx_npe hC.1 hst hat hgood hx.2.2.2.1 hx.2.2.2.2.1 hX.2.2 (hz.trans hC.2.2.1.symm) hR.1 hR.2 hf.1 hf.2 hlk fun H1 q9 ce _ h2 h3 h4 h5 h6 => k H1 q9 ce (hX.grow h2 h3) h4 h5 h6
/-- out of a method without handlers -/
theorem nx_out {Qc : Array Value → State → Outcome → State → Prop} {px : String → Prop} {E : String} {ce : Cell} {q : Addr} {mc ms : Nat} (hto : ∀ x ∈ c.exceptionTable.toList, False) (hlk : meth.locks = false) (hX : nvS D a0 w s.heap H locs) (hcell : H[q]? = some ce) (hv : ce.vm = .none) (hcl : s.vm.findClass E = some ce.cls) (hp : px E) (hc : cells ≤ mc) (hs : slots ≤ ms) :
    vx_W p l e R s m args below meth c H locs cells slots (vx_MQ below Qc (nXb D a0 px w) args s mc ms (nvA a0)) (F0 m pc ls rest) q :=
  vx_out (fun x h => (hto x h).elim) hlk hcell hv hcl (fun t ht _ => ⟨(), trivial, ⟨hp, by rw [ht]; exact hX.1, hX.2.1⟩, hX.2.2.F ht⟩) hX.2.2.2.2 hc hs
/-- calls of what may throw -/
theorem nx_rV {y : MethodName} {b : ByteArray} {L idx n fr lo mc ms : Nat} {ret : Option FieldType} {G : State → Prop} {As rest : List Value} {bb q0 ci N : Nat} {fs : List Value} {T : u_T} {Qc : Array Value → State → Outcome → State → Prop} {px : String → Prop}
    (hC : nvC p s m args c cc nM own D dA a0) (hX : nvS D a0 w s.heap H locs) (hM : nMx l D dA a0 y b L ret fr lo mc ms G (.ref bb :: As) w Qc px) (hG : nvGb G) (hg : ∀ U : State, U.heap = H → s.WarmedH U.vm → G U)
    (he : w[q0]? = some (bb, .inr (ci, fs))) (hc : vwCl[ci]? = some (y.cls, T, N)) (h1 : Cond.methodLink own idx y ∈ lw_all) (h2 : Cond.instanceMethod y ∈ lw_all) (h3 : Cond.selects y.cls y y ∈ lw_all) (h4 : Cond.initialized y.cls ∈ lw_all) (h5 : Cond.code y b L ret ∈ lw_all)
    (hd : y.cls = y.cls ∧ y.cls ≠ "java/lang/invoke/MethodHandle" ∧ y.cls ≠ "java/lang/invoke/VarHandle" ∧ (parseMethodDescriptor y.desc).map (fun d => d.parameters.length) = some n) (hn : As.length = n) (hR : fr + 1 ≤ R.frames ∧ 8 + (L + 11) + lo ≤ R.locals) (hs : ls.size = nM) (hro : (rest.map fun v => v.category).sum ≤ 8) (d : decode cc pc = .ok (.invokevirtual idx, 3)) (hf : cells + mc ≤ R.cells ∧ slots + ms ≤ R.slots) :
    vx_Run p l e R s m args below meth c H locs cells slots mc ms (F0 m pc ls (As.reverse ++ .ref bb :: rest)) rest (Qc (Value.ref bb :: As).toArray) (nXb D a0 px w) (nvA a0) :=
  vx_runV (As := As) (rest := rest) ⟨hC.1, hC.2.1, hC.2.2.1, hC.2.2.2.1, hC.2.2.2.2.1⟩ hM (cwV n hC.2.2.2.2.1 (lw_V h1 h2 h3 h4 h5) rfl rfl rfl hd hR) ⟨(nv_pre hC hX hG hg).1, va_recv hC.2.2.2.2.2.1 hX.1 hc he, (nv_pre hC hX hG hg).2⟩ rfl hn hs rfl (lv_room hro) d hf
theorem nx_rS {y : MethodName} {b : ByteArray} {L idx n fr lo mc ms : Nat} {ret : Option FieldType} {G : State → Prop} {As rest : List Value} {Qc : Array Value → State → Outcome → State → Prop} {px : String → Prop}
    (hC : nvC p s m args c cc nM own D dA a0) (hX : nvS D a0 w s.heap H locs) (hM : nMx l D dA a0 y b L ret fr lo mc ms G As w Qc px) (hG : nvGb G) (hg : ∀ U : State, U.heap = H → s.WarmedH U.vm → G U)
    (h1 : Cond.methodLink own idx y ∈ lw_all) (h2 : Cond.static y ∈ lw_all) (h4 : Cond.initialized y.cls ∈ lw_all) (h5 : Cond.code y b L ret ∈ lw_all)
    (hd : y.cls ≠ "java/lang/invoke/MethodHandle" ∧ y.cls ≠ "java/lang/invoke/VarHandle" ∧ (parseMethodDescriptor y.desc).map (fun d => d.parameters.length) = some n) (hn : As.length = n) (hR : fr + 1 ≤ R.frames ∧ 8 + (L + 11) + lo ≤ R.locals) (hs : ls.size = nM) (hro : (rest.map fun v => v.category).sum ≤ 8) (d : decode cc pc = .ok (.invokestatic idx, 3)) (hf : cells + mc ≤ R.cells ∧ slots + ms ≤ R.slots) :
    vx_Run p l e R s m args below meth c H locs cells slots mc ms (F0 m pc ls (As.reverse ++ rest)) rest (Qc As.toArray) (nXb D a0 px w) (nvA a0) :=
  vx_runS (As := As) (rest := rest) ⟨hC.1, hC.2.1, hC.2.2.1, hC.2.2.2.1, hC.2.2.2.2.1⟩ hM (va_cwS n hC.2.2.2.2.1 (lw_S h1 h2 h4 h5) rfl rfl rfl hd hR) (nv_pre hC hX hG hg) rfl hn hs rfl (lv_room hro) d hf
/-- a method with handlers, called -/
theorem nv_rVh {y : MethodName} {b : ByteArray} {L idx n fr lo mc ms : Nat} {ret : Option FieldType} {hh : List (Nat × Nat × Nat × Nat)} {G : State → Prop} {As rest : List Value} {bb q0 ci N : Nat} {fs : List Value} {T : u_T} {Qc : Array Value → State → Outcome → State → Prop}
    (hC : nvC p s m args c cc nM own D dA a0) (hX : nvS D a0 w s.heap H locs) (hM : nMh l D dA a0 y b L ret hh fr lo mc ms G (.ref bb :: As) w Qc) (hG : nvGb G) (hg : ∀ U : State, U.heap = H → s.WarmedH U.vm → G U)
    (he : w[q0]? = some (bb, .inr (ci, fs))) (hc : vwCl[ci]? = some (y.cls, T, N)) (h1 : Cond.methodLink own idx y ∈ lw_all) (h2 : Cond.instanceMethod y ∈ lw_all) (h3 : Cond.selects y.cls y y ∈ lw_all) (h4 : Cond.initialized y.cls ∈ lw_all) (h5 : Cond.codeWith y b L ret hh ∈ lw_all)
    (hd : y.cls = y.cls ∧ y.cls ≠ "java/lang/invoke/MethodHandle" ∧ y.cls ≠ "java/lang/invoke/VarHandle" ∧ (parseMethodDescriptor y.desc).map (fun d => d.parameters.length) = some n) (hn : As.length = n) (hR : fr + 1 ≤ R.frames ∧ 8 + (L + 11) + lo ≤ R.locals) (hs : ls.size = nM) (hro : (rest.map fun v => v.category).sum ≤ 8) (d : decode cc pc = .ok (.invokevirtual idx, 3)) (hf : cells + mc ≤ R.cells ∧ slots + ms ≤ R.slots) :
    va_Run p l e R s m args below meth c H locs cells slots mc ms (F0 m pc ls (As.reverse ++ .ref bb :: rest)) rest (Qc (Value.ref bb :: As).toArray) (nvA a0) :=
  vx_runVW (As := As) (rest := rest) ⟨hC.1, hC.2.1, hC.2.2.1, hC.2.2.2.1, hC.2.2.2.2.1⟩ hM (vx_cwVW n hC.2.2.2.2.1 (lw_VW h1 h2 h3 h4 h5) rfl rfl rfl hd hR) ⟨(nv_pre hC hX hG hg).1, va_recv hC.2.2.2.2.2.1 hX.1 hc he, (nv_pre hC hX hG hg).2⟩ rfl hn hs rfl (lv_room hro) d hf
/-- behind a call of what may throw -/
theorem nx_ki {S : Type} {post : Int32 → S → Prop} {w' : S → va_W} {mc ms : Nat} {a : Array Value} {st0 : List Value} {px : String → Prop} (hC : nvC p s m args c cc nM own D dA a0) (hX : nvS D a0 w s.heap H locs) (hr : vx_Run p l e R s m args below meth c H locs cells slots mc ms (F0 m pc ls st0) rest (nQi D a0 post w' a) (nXb D a0 px w) (nvA a0))
    (kx : ∀ (E : String) (q9 : Addr) (ce : Cell) (H1 : Heap) (locs1 : List Loc), px E → nvS D a0 w s.heap H1 locs1 → H1[q9]? = some ce → ce.vm = .none → s.vm.findClass E = some ce.cls → vx_W p l e R s m args below meth c H1 locs1 (cells + mc) (slots + ms) Q (F0 m pc ls rest) q9)
    (kk : ∀ (r : Int32) (u : S) (H1 : Heap) (locs1 : List Loc), post r u → nvS D a0 (w' u) s.heap H1 locs1 → W p l e R s m args below meth c H1 locs1 (cells + mc) (slots + ms) Q (F0 m (pc + 3) ls (.int r :: rest))) : W p l e R s m args below meth c H locs cells slots Q (F0 m pc ls st0) :=
  vx_calli hr hX.2.2 (fun _ _ h => h) (fun _ h => h) (fun _ _ h => h) (fun E ce q9 u t H1 locs1 ht hvm hp hB hz hk hS h1 h2 h3 => by
    subst ht
    exact kx E q9 ce _ _ hB.1 ⟨hB.2.1, hB.2.2, hS⟩ h1 h2 h3) fun r u t H1 locs1 ht hvm hp hB hz hk hS => by
    subst ht
    exact kk r u _ _ hp ⟨hB.1, hB.2, hS⟩
theorem nx_kv {S : Type} {post : S → Prop} {w' : S → va_W} {mc ms : Nat} {a : Array Value} {st0 : List Value} {px : String → Prop} (hC : nvC p s m args c cc nM own D dA a0) (hX : nvS D a0 w s.heap H locs) (hr : vx_Run p l e R s m args below meth c H locs cells slots mc ms (F0 m pc ls st0) rest (nQv D a0 post w' a) (nXb D a0 px w) (nvA a0))
    (kx : ∀ (E : String) (q9 : Addr) (ce : Cell) (H1 : Heap) (locs1 : List Loc), px E → nvS D a0 w s.heap H1 locs1 → H1[q9]? = some ce → ce.vm = .none → s.vm.findClass E = some ce.cls → vx_W p l e R s m args below meth c H1 locs1 (cells + mc) (slots + ms) Q (F0 m pc ls rest) q9)
    (kk : ∀ (u : S) (H1 : Heap) (locs1 : List Loc), post u → nvS D a0 (w' u) s.heap H1 locs1 → W p l e R s m args below meth c H1 locs1 (cells + mc) (slots + ms) Q (F0 m (pc + 3) ls rest)) : W p l e R s m args below meth c H locs cells slots Q (F0 m pc ls st0) :=
  vx_callv hr hX.2.2 (fun _ _ h => h) (fun _ h => h) (fun _ _ h => h) (fun E ce q9 u t H1 locs1 ht hvm hp hB hz hk hS h1 h2 h3 => by
    subst ht
    exact kx E q9 ce _ _ hB.1 ⟨hB.2.1, hB.2.2, hS⟩ h1 h2 h3) fun u t H1 locs1 ht hvm hp hB hz hk hS => by
    subst ht
    exact kk u _ _ hp ⟨hB.1, hB.2, hS⟩
theorem nx_kr {S : Type} {post : S → Prop} {w' : S → Nat → va_W} {mc ms : Nat} {a : Array Value} {st0 : List Value} {px : String → Prop} (hC : nvC p s m args c cc nM own D dA a0) (hX : nvS D a0 w s.heap H locs) (hr : vx_Run p l e R s m args below meth c H locs cells slots mc ms (F0 m pc ls st0) rest (nQr D a0 post w' a) (nXb D a0 px w) (nvA a0))
    (kx : ∀ (E : String) (q9 : Addr) (ce : Cell) (H1 : Heap) (locs1 : List Loc), px E → nvS D a0 w s.heap H1 locs1 → H1[q9]? = some ce → ce.vm = .none → s.vm.findClass E = some ce.cls → vx_W p l e R s m args below meth c H1 locs1 (cells + mc) (slots + ms) Q (F0 m pc ls rest) q9)
    (kk : ∀ (u : S) (ra : Nat) (H1 : Heap) (locs1 : List Loc), post u → nvS D a0 (w' u ra) s.heap H1 locs1 → W p l e R s m args below meth c H1 locs1 (cells + mc) (slots + ms) Q (F0 m (pc + 3) ls (.ref ra :: rest))) : W p l e R s m args below meth c H locs cells slots Q (F0 m pc ls st0) := by
  intro T0 hT X
  rcases hr T0 hT X with ⟨v, st₀, t, T', L, h0, X', hL, e1, e2, ⟨⟨u, ra, hv, hp, hb⟩, hF⟩, st⟩ | ⟨q, st₀, t, T', L, E, ce, h0, X', hL, e1, e2, ⟨u, -, hb, hF⟩, hce, hcv, hcl, st⟩
  · cases hv
    obtain ⟨k1, k2, k3⟩ := vx_keep h0 e1 hX.2.2 (fun _ _ h => h) (fun _ h => h) hL hF
    obtain ⟨t2, a1, b1⟩ := kk u ra T'.heap (locs ++ L) hp ⟨by rw [e1]; exact hb.1, hb.2, k3⟩ T' rfl X'
    exact ⟨t2, st t2 a1, b1⟩
  · obtain ⟨k1, k2, k3⟩ := vx_keep h0 e1 hX.2.2 (fun _ _ h => h) (fun _ h => h) hL hF
    obtain ⟨t2, a1, b1⟩ := kx E q ce T'.heap (locs ++ L) hb.1 ⟨by rw [e1]; exact hb.2.1, hb.2.2, k3⟩ (by rw [e1]; exact hce) hcv hcl T' rfl X'
    exact ⟨t2, st.trans a1, b1⟩
end NX
