/-! the words' traces; a default method called through its interface; the third ground -/
set_option maxRecDepth 100000
theorem nvE_n4 {a0 ez : Nat} {s : State} (h : nvE a0 ez s) : va_Nw (.fieldLinkNest "OneLongRow$Plain" 23 "OneLongRow" "trace" "I" "OneLongRow") s := h.2.2.2.2.2.2.2.1 ("OneLongRow$Plain", 23, "OneLongRow", "trace", "I", "OneLongRow") (List.mem_of_getElem? (i := 4) rfl)
theorem nvE_n3 {a0 ez : Nat} {s : State} (h : nvE a0 ez s) : va_Nw (.fieldLinkNest "OneLongRow$Act" 15 "OneLongRow" "fault" "I" "OneLongRow") s := h.2.2.2.2.2.2.2.1 ("OneLongRow$Act", 15, "OneLongRow", "fault", "I", "OneLongRow") (List.mem_of_getElem? (i := 3) rfl)
/-- a call through the interface that lands in its own default -/
def va_Fd (C : String) (x : MethodName) (U : State) : Prop := (Cond.declares x).before #[] U = true ∧ (Cond.interfaceMethod x.cls x.cls x.name x.desc).before #[] U = true ∧ (Cond.publicMethod x).before #[] U = true ∧ (Cond.castable C x.cls).before #[] U = true ∧ (Cond.landsInDefault C x x).before #[] U = true
theorem va_Ld {C : String} {x y : MethodName} {A A' : Array Value} {u U : State} (e : u.vm = U.vm) (h : (Cond.landsInDefault C x y).before A u = true) : (Cond.landsInDefault C x y).before A' U = true := by
  have e1 : u.methodFound? x.cls x.name x.desc = U.methodFound? x.cls x.name x.desc := by unfold State.methodFound?; rw [e]
  have e2 : u.methodNamed? y = U.methodNamed? y := by unfold State.methodNamed?; rw [e]
  simp only [Cond.before, Cond.holds, Cond.value, e, e1, e2] at h ⊢
  exact h
theorem va_Fd.moved {C : String} {x : MethodName} (hx : x.cls ≠ "java/lang/invoke/MethodHandle" ∧ x.cls ≠ "java/lang/invoke/VarHandle") {u U : State} (hvm : u.vm.Alike U.vm) (h : va_Fd C x u) : va_Fd C x U := by
  obtain ⟨h1, h2, h3, h4, h5⟩ := h
  obtain ⟨r, meth, hn, -⟩ := Cond.declares_spec h1
  have tr : ∀ {c : Cond}, c.onTables = true → c.before #[] (u.setVm U.vm) = true → c.before #[] U = true := by
    intro c hc h
    have e := Cond.onTables_vm (A := #[]) (A' := #[]) (U := u) (U' := U) U.vm c hc
    have hU : U.setVm U.vm = U := rfl
    rw [hU] at e
    rw [← e]
    exact h
  exact ⟨tr rfl (by rw [Cond.declares_setVm hvm]; exact h1), tr rfl (by rw [Cond.interfaceMethod_setVm hvm (r := r) hn hx]; exact h2), tr rfl (by rw [Cond.publicMethod_setVm hvm]; exact h3), tr rfl (by rw [Cond.castable_setVm hvm]; exact h4), va_Ld (A := #[]) (u := u.setVm U.vm) rfl (by rw [Cond.landsInDefault_setVm (args := #[]) hvm (State.methodFound?_setVm_of_named hvm hn hx)]; exact h5)⟩
def nvSx : MethodName := ⟨"OneLongRow$Spelt", "spelling", "()I"⟩
def nvFs : List (String × MethodName × MethodName) := [("OneLongRow$Plain", ⟨"OneLongRow$Spelt", "tracedBy", "(I)I"⟩, ⟨"OneLongRow$Plain", "tracedBy", "(I)I"⟩), ("OneLongRow$Both", ⟨"OneLongRow$Spelt", "tracedBy", "(I)I"⟩, ⟨"OneLongRow$Plain", "tracedBy", "(I)I"⟩), ("OneLongRow$Plain", ⟨"OneLongRow$Spelt", "firstLetter", "()I"⟩, ⟨"OneLongRow$Plain", "firstLetter", "()I"⟩), ("OneLongRow$Both", ⟨"OneLongRow$Spelt", "firstLetter", "()I"⟩, ⟨"OneLongRow$Plain", "firstLetter", "()I"⟩), ("OneLongRow$Turned", ⟨"OneLongRow$Spelt", "spelling", "()I"⟩, ⟨"OneLongRow$Turned", "spelling", "()I"⟩)]
theorem nvFs_n : ∀ q ∈ nvFs, q.2.1.cls ≠ "java/lang/invoke/MethodHandle" ∧ q.2.1.cls ≠ "java/lang/invoke/VarHandle" := by decide +kernel
/-- the ground of the words' spelling -/
def nvSp (U : State) : Prop := (∀ q ∈ nvFs, va_Fw q.1 q.2.1 q.2.2 U) ∧ va_Fd "OneLongRow$Plain" nvSx U ∧ va_Fd "OneLongRow$Both" nvSx U
theorem nvSp.moved {u U : State} (hvm : u.vm.Alike U.vm) (h : nvSp u) : nvSp U :=
  ⟨fun q hq => (h.1 q hq).moved (nvFs_n q hq) hvm, h.2.1.moved (by decide +kernel) hvm, h.2.2.moved (by decide +kernel) hvm⟩
def nvE3 (a0 ez mo : Nat) (U : State) : Prop := nvE2 a0 ez mo U ∧ nvSp U
theorem nvE3_b (a0 ez mo : Nat) : nvGb (nvE3 a0 ez mo) := fun _ _ _ _ h => h
theorem nvE3_keep {a0 ez mo : Nat} {s : State} (h : nvE3 a0 ez mo s) {D : va_G} {w : va_W} {H : Heap} {locs : List Loc} (hX : nvS D a0 w s.heap H locs) : ∀ U : State, U.heap = H → s.WarmedH U.vm → nvE3 a0 ez mo U :=
  fun U hU hW => ⟨nvE2_keep h.1 hX U hU hW, h.2.moved hW.alike⟩
theorem nvSp_f0 {s : State} (h : nvSp s) : va_Fw RX5 (⟨"OneLongRow$Spelt", "tracedBy", "(I)I"⟩ : MethodName) yX5_tracedBy s := h.1 ("OneLongRow$Plain", ⟨"OneLongRow$Spelt", "tracedBy", "(I)I"⟩, ⟨"OneLongRow$Plain", "tracedBy", "(I)I"⟩) (List.mem_of_getElem? (i := 0) rfl)
theorem nvSp_f1 {s : State} (h : nvSp s) : va_Fw RX6 (⟨"OneLongRow$Spelt", "tracedBy", "(I)I"⟩ : MethodName) yX5_tracedBy s := h.1 ("OneLongRow$Both", ⟨"OneLongRow$Spelt", "tracedBy", "(I)I"⟩, ⟨"OneLongRow$Plain", "tracedBy", "(I)I"⟩) (List.mem_of_getElem? (i := 1) rfl)
theorem nvSp_f2 {s : State} (h : nvSp s) : va_Fw RX5 (⟨"OneLongRow$Spelt", "firstLetter", "()I"⟩ : MethodName) yX5_firstLetter s := h.1 ("OneLongRow$Plain", ⟨"OneLongRow$Spelt", "firstLetter", "()I"⟩, ⟨"OneLongRow$Plain", "firstLetter", "()I"⟩) (List.mem_of_getElem? (i := 2) rfl)
theorem nvSp_f3 {s : State} (h : nvSp s) : va_Fw RX6 (⟨"OneLongRow$Spelt", "firstLetter", "()I"⟩ : MethodName) yX5_firstLetter s := h.1 ("OneLongRow$Both", ⟨"OneLongRow$Spelt", "firstLetter", "()I"⟩, ⟨"OneLongRow$Plain", "firstLetter", "()I"⟩) (List.mem_of_getElem? (i := 3) rfl)
theorem nvSp_f4 {s : State} (h : nvSp s) : va_Fw RX7 (⟨"OneLongRow$Spelt", "spelling", "()I"⟩ : MethodName) yX7_spelling s := h.1 ("OneLongRow$Turned", ⟨"OneLongRow$Spelt", "spelling", "()I"⟩, ⟨"OneLongRow$Turned", "spelling", "()I"⟩) (List.mem_of_getElem? (i := 4) rfl)
section NPH
variable {p : Program} {l : Launch} {e : Env} {R : Room} {s : State} {m : MethodId} {args : Array Value} {below : List Frame} {meth : Method} {c : Code} {H : Heap} {locs : List Loc} {cells slots : Nat} {Q : State → Prop}
variable {cc : ByteArray} {nM : Nat} {own : String} {D : va_G} {dA : Nat → ClassId} {a0 : Nat} {w : va_W} {pc : Nat} {ls : Array Slot} {rest : List Value}
/-- a nest mate's private field, written -/
theorem nv_putN (hC : nvC p s m args c cc nM own D dA a0) (hX : nvS D a0 w s.heap H locs) {ref C host : String} {T : u_T} {N ci index : Nat} (hin : ∀ x ∈ u_ws C T N, x ∈ lw_all) (ty0 : Nat → FieldType) (hty : ∀ k, k < N → parseFieldDescriptor (T k).2.2.1 = some (ty0 k)) (hnm : ∀ a, a < N → ∀ b, b < N → a ≠ b → (T a).2.1 ≠ (T b).2.1) (q0 : Nat) {a : Nat} {fs : List Value} (he : w[q0]? = some (a, .inr (ci, fs))) (hc : vwCl[ci]? = some (C, T, N)) (k : Nat) (hk : k < N) (hl : va_Nw (.fieldLinkNest own index ref (T k).2.1 (T k).2.2.1 host) s) (hsame : ∀ x, s.fieldFound? (T k).1 (T k).2.1 (T k).2.2.1 = some x → s.fieldFound? ref (T k).2.1 (T k).2.2.1 = some x) (hfin : (T k).2.2.2 = false) {v : Value} (hn : narrow (ty0 k) v = v) (hfit : fits (ty0 k) v = true) (hlen : k < fs.length) {w' : va_W} (hw : w.set q0 (a, .inr (ci, fs.set k v)) = w') (d : decode cc pc = .ok (.putfield index, 3))
    (kk : ∀ (H1 : Heap) (locs1 : List Loc), nvS D a0 w' s.heap H1 locs1 → W p l e R s m args below meth c H1 locs1 cells slots Q (F0 m (pc + 3) ls rest)) : W p l e R s m args below meth c H locs cells slots Q (F0 m pc ls (v :: .ref a :: rest)) := by
  subst hw
  exact va_putN hC.1 hC.2.1 hC.2.2.2.2.1 hin ty0 hty hnm hC.2.2.2.1 hC.2.2.2.2.2.1 hX.1 hX.2.1 hX.2.2 q0 he hc k hk (va_Nw.use rfl hl) hsame hfin (hty k hk) hn hfit hlen d fun H1 locs1 h1 h2 h3 => kk H1 locs1 ⟨h1, h2, h3⟩
/-- a call through an interface that lands in its default method -/
theorem va_runFD {x : MethodName} {bytes : ByteArray} {maxL nL mc ms n index count : Nat} {ret : Option FieldType} {ws ws' : List Cond} {rm : Room} {Pc : Array Value → State → Prop} {Qc : Array Value → State → Outcome → State → Prop} {free : Addr → Prop} {Ts : List Cond} {C : String} {cC : ClassId} {b : Addr} {As rest : List Value} {g : JFrame}
    (hat : ClassAt s C cC) (S : CallFix p m c cc nL s args Ts own) (hM : Met l x ws rm Pc Qc mc ms free) (hF : va_Fd C x s) (hw : ws = Cond.code x bytes maxL ret :: ws') (hGt : GoodIn Ts (([.methodLink own index x, .instanceMethod x, .initialized x.cls] : List Cond) ++ ws)) (hrc : rm.cells = mc) (hrs : rm.slots = ms)
    (hd : x.cls ≠ "java/lang/invoke/MethodHandle" ∧ x.cls ≠ "java/lang/invoke/VarHandle" ∧ (parseMethodDescriptor x.desc).map (fun d => d.parameters.length) = some n) (hR : rm.frames + 1 ≤ R.frames ∧ 8 + (maxL + 11) + rm.locals ≤ R.locals) (hp : PreV s H C b Pc As)
    (hg : g.method = m) (hn : As.length = n) (hsize : g.locals.size = nL) (hstack : g.stack = As.reverse ++ .ref b :: rest) (hW : 2 * g.monitorRoom + (rest.map fun v => v.category).sum ≤ 8) (hdg : decode cc g.pc = .ok (.invokeinterface index count, 5)) (hf : cells + mc ≤ R.cells ∧ slots + ms ≤ R.slots) :
    va_Run5 p l e R s m args below meth c H locs cells slots mc ms g rest (Qc (Value.ref b :: As).toArray) (free) := by
  obtain ⟨hx, hb, hml, ho, ht⟩ := S
  have ok : ∀ w ∈ (([.methodLink own index x, .instanceMethod x, .initialized x.cls] : List Cond) ++ ws), w.before args s = true := fun w h => ht w (hGt w h).1
  have hG : GoodIn Ts ws := fun w h => hGt w (List.mem_append_right _ h)
  have hcw : Cond.code x bytes maxL ret ∈ ws := by rw [hw]; exact List.mem_cons_self
  have hini : (Cond.initialized x.cls).before args s = true := ok _ (by simp)
  have hK : Back l R p e below s args x 5 8 (PreOf R mc ms Pc) (PostOf Qc mc ms free) := back_of (bytes := bytes) (maxL := maxL) (ret := ret) hM hp.1 hrc hrs hR.1 hR.2 (pay_in ht hG) hcw (fun a' U hW => word_at hW (Or.inl (by first | rfl | simp [Cond.onTables, Cond.keeps, Cond.steady])) hini)
  obtain ⟨-, ⟨cellB, hcB, hoB, hclB⟩, hPc⟩ := hp
  obtain ⟨hfc, kB, hkB, -⟩ := hat
  cases hfc.symm.trans hclB
  have hlen : ∀ sig, parseMethodDescriptor x.desc = some sig → As.length = sig.parameters.length := by
    intro sig h
    have h2 := hd.2.2
    rw [h] at h2
    rw [hn]
    exact (Option.some.inj h2).symm
  intro T hT X
  have hcT : T.heap[b]? = some cellB := by rw [hT]; exact hcB
  obtain ⟨v, vm₁, ⟨U', l2, c2, s2⟩, hW₁, X', ⟨g', mk, t, L, e1, e2, hq, h1, hL, h2, h3⟩, st⟩ := X.interfaceBackD hx (C := C) (xi := x) (y := x) (index := index) (count := count) ho (ok _ (by simp)) (va_any rfl hF.1) (va_any rfl hF.2.1) (va_Ld rfl hF.2.2.2.2) (ok _ (by simp)) (va_any rfl hF.2.2.1) (va_any rfl hF.2.2.2.1) ⟨hd.1, hd.2.1⟩ hK hclB hkB ⟨cellB, hcT, rfl, hoB⟩ hg (hsize.trans hml.symm) (Steps.refl _) (argsL := As) (rest := rest) hlen hstack hW (by rw [hb]; exact hdg)
    (fun vm₁ hW₁ => ⟨hf.1, hf.2, hPc (T.setVm vm₁) hT hW₁⟩)
  dsimp only [Pt.U, Pt.locs, Pt.cells, Pt.slots] at X' e1 e2 h1 h2 h3 st
  subst h1; subst h2; subst h3
  exact ⟨v, (T.setVm vm₁).calling g' mk (Value.ref b :: As).toArray, t, U', L, hT, X', hL, e1, e2, hq, fun _ h => st.trans h⟩
theorem nv_rFD {x : MethodName} {b : ByteArray} {L idx cnt n fr lo mc ms : Nat} {ret : Option FieldType} {G : State → Prop} {As : List Value} {bb q0 ci : Nat} {fs : List Value} {q : vw_C} {Qc : Array Value → State → Outcome → State → Prop}
    (hC : nvC p s m args c cc nM own D dA a0) (hX : nvS D a0 w s.heap H locs) (hM : nMt l D dA a0 x b L ret fr lo mc ms G (.ref bb :: As) w Qc) (hG : nvGb G) (hg : ∀ U : State, U.heap = H → s.WarmedH U.vm → G U) (hF : va_Fd q.1 x s)
    (he : w[q0]? = some (bb, .inr (ci, fs))) (hc : vwCl[ci]? = some q) (h1 : Cond.methodLink own idx x ∈ lw_all) (h2 : Cond.instanceMethod x ∈ lw_all) (h4 : Cond.initialized x.cls ∈ lw_all) (h5 : Cond.code x b L ret ∈ lw_all)
    (hd : x.cls ≠ "java/lang/invoke/MethodHandle" ∧ x.cls ≠ "java/lang/invoke/VarHandle" ∧ (parseMethodDescriptor x.desc).map (fun d => d.parameters.length) = some n) (hn : As.length = n) (hR : fr + 1 ≤ R.frames ∧ 8 + (L + 11) + lo ≤ R.locals) (hs : ls.size = nM) (hro : (rest.map fun v => v.category).sum ≤ 8) (d : decode cc pc = .ok (.invokeinterface idx cnt, 5)) (hf : cells + mc ≤ R.cells ∧ slots + ms ≤ R.slots) :
    va_Run5 p l e R s m args below meth c H locs cells slots mc ms (F0 m pc ls (As.reverse ++ .ref bb :: rest)) rest (Qc (Value.ref bb :: As).toArray) (nvA a0) := by
  refine va_runFD (As := As) (rest := rest) (hC.2.2.2.2.2.1.1 ci q hc).2 ⟨hC.1, hC.2.1, hC.2.2.1, hC.2.2.2.1, hC.2.2.2.2.1⟩ hM hF rfl (lw_app ?_ (lw_meth h5)) rfl rfl hd hR ⟨(nv_pre hC hX hG hg).1, va_recv hC.2.2.2.2.2.1 hX.1 hc he, (nv_pre hC hX hG hg).2⟩ rfl hn hs rfl (lv_room hro) d hf
  intro z hz
  simp only [List.mem_cons, List.not_mem_nil, or_false] at hz
  rcases hz with e | e | e
  · rw [e]; exact h1
  · rw [e]; exact h2
  · rw [e]; exact h4
end NPH
theorem xW_9x {dA : Nat → ClassId} {a : Nat → Nat} {rn rt : Nat} {trace : Int32} {len stand : Nat} {first allh : Option Nat} {hAll : Nat} {fault : Int32} {row hOf : Nat → Nat} {farOf : Nat → Option Nat} {rowsN rowsT : Nat → Nat} {mcW : Int32} {edW words : Nat} {mcR : Int32} {edR rdgs : Nat} {sh : Nat → Option Nat} {ex : va_W} {k : Nat} {x : Nat × va_E} (hk : ex[k]? = some x) :
    (xW dA a rn rt trace len stand first allh hAll fault row hOf farOf rowsN rowsT mcW edW words mcR edR rdgs sh ex)[k + 9]? = some x := hk
theorem nvSp_c0 {s : State} (h : nvSp s) : va_Nw (.castable "OneLongRow$Plain" "OneLongRow$Spelt") s := h.2.1.2.2.2.1
theorem nvSp_c1 {s : State} (h : nvSp s) : va_Nw (.castable "OneLongRow$Both" "OneLongRow$Spelt") s := h.2.2.2.2.2.1
theorem nvSp_c2 {s : State} (h : nvSp s) : va_Nw (.castable "OneLongRow$Turned" "OneLongRow$Spelt") s := (nvSp_f4 h).2.2.2.2
