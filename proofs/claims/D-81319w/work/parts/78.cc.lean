/-! a cast that fails: its text, and the throw -/
set_option maxRecDepth 100000
theorem findClass_full {vm : Vm} {name : String} {c : ClassId} (h : vm.findClass name = some c) : ∃ k, vm.classes[c]? = some k ∧ k.name = name ∧ k.hidden = none ∧ k.loader = none := by
  obtain ⟨hlt, hp, _⟩ := Array.findIdx?_eq_some_iff_getElem.mp h
  refine ⟨vm.classes[c], by simp [hlt], ?_⟩
  simp only [Bool.and_eq_true, beq_iff_eq, Option.isNone_iff_eq_none] at hp
  exact ⟨hp.1.1.1, hp.1.1.2, hp.2⟩
theorem ccBase {vm : Vm} (hm : (vm.modules.all fun m => m.loader.isSome || m.name == "java.base" || !(castPackages_1.any fun p => m.packages.contains p)) = true) {k : Class} (hl : k.loader = none) (hp : castPackages_1.contains (packageOf k.name) = true) {m : ModuleInfo} (h : vm.moduleOf k = some m) : m.name = "java.base" := by
  unfold Vm.moduleOf at h
  split at h
  · have h1 := List.find?_some h
    simpa using h1
  · have h1 := List.find?_some h
    have h2 := List.mem_of_find?_eq_some h
    have h3 := List.all_eq_true.mp hm m h2
    rw [hl] at h1
    simp only [Bool.and_eq_true, beq_iff_eq] at h1
    rw [h1.1] at h3
    simp only [Option.isSome_none, Bool.false_or, Bool.or_eq_true, beq_iff_eq, Bool.not_eq_true'] at h3
    rcases h3 with h3 | h3
    · exact h3
    · have h4 := List.any_eq_false.mp h3 (packageOf k.name) (by simpa using hp)
      exact absurd h1.2 h4
theorem ccHome {vm : Vm} (hm : (vm.modules.all fun m => m.loader.isSome || m.name == "java.base" || !(castPackages_1.any fun p => m.packages.contains p)) = true) {k : Class} (hl : k.loader = none) (hp : castPackages_1.contains (packageOf k.name) = true) : (vm.home k).toList.length ≤ 38 := by
  unfold Vm.home
  rw [hl]
  simp only [Vm.loaderName, String.toList_append, List.length_append]
  have a1 : " of loader ".toList.length = 11 := by decide
  have a2 : "'bootstrap'".toList.length = 11 := by decide
  have a3 : "module ".toList.length = 7 := by decide
  have a4 : "unnamed module".toList.length = 14 := by decide
  have a5 : "java.base".toList.length = 9 := by decide
  cases h : vm.moduleOf k with
  | none => simp only; omega
  | some m =>
    simp only [String.toList_append, List.length_append]
    rw [ccBase hm hl hp h]
    omega
theorem ccShown {k : Class} (hh : k.hidden = none) : k.shown = dotted k.name := by unfold Class.shown; rw [hh]
theorem ccText {vm : Vm} (hm : (vm.modules.all fun m => m.loader.isSome || m.name == "java.base" || !(castPackages_1.any fun p => m.packages.contains p)) = true) {ks kt : Class} (h1 : ks.hidden = none ∧ ks.loader = none ∧ castPackages_1.contains (packageOf ks.name) = true ∧ (dotted ks.name).toList.length ≤ 20) (h2 : kt.hidden = none ∧ kt.loader = none ∧ castPackages_1.contains (packageOf kt.name) = true ∧ (dotted kt.name).toList.length ≤ 20) :
    (Op.checkcast.message vm ks kt == notModelled) = false ∧ (stringBytes (stringToUtf16 (Op.checkcast.message vm ks kt))).size ≤ 840 := by
  have e : Op.checkcast.message vm ks kt = toString "class " ++ toString ks.shown ++ toString " cannot be cast to class " ++ toString kt.shown ++ toString " (" ++ toString (vm.homes ks kt) ++ toString ")" := rfl
  constructor
  · rw [beq_eq_false_iff_ne]
    intro h
    have h3 := congrArg String.toList h
    have h4 : (Op.checkcast.message vm ks kt).toList = 'c' :: ("lass ".toList ++ (toString ks.shown).toList ++ " cannot be cast to class ".toList ++ (toString kt.shown).toList ++ " (".toList ++ (toString (vm.homes ks kt)).toList ++ ")".toList) := by
      rw [e]
      simp only [String.toList_append]
      rfl
    rw [h4] at h3
    have h5 : notModelled.toList = '\u0000' :: " a message that is not modelled".toList := by decide
    rw [h5] at h3
    simp at h3
  · have b1 := stringBytes_size_le (stringToUtf16 (Op.checkcast.message vm ks kt))
    have b2 := utf16_size_le (Op.checkcast.message vm ks kt)
    have b3 : (Op.checkcast.message vm ks kt).toList.length ≤ 210 := by
      rw [e]
      simp only [String.toList_append, List.length_append]
      have c1 := ccHome hm h1.2.1 h1.2.2.1
      have c2 := ccHome hm h2.2.1 h2.2.2.1
      have s1 : (toString ks.shown).toList.length ≤ 20 := by show ks.shown.toList.length ≤ 20; rw [ccShown h1.1]; exact h1.2.2.2
      have s2 : (toString kt.shown).toList.length ≤ 20 := by show kt.shown.toList.length ≤ 20; rw [ccShown h2.1]; exact h2.2.2.2
      have c3 : (toString (vm.homes ks kt)).toList.length ≤ 132 := by
        show (vm.homes ks kt).toList.length ≤ 132
        unfold Vm.homes
        split
        · show (toString ks.shown ++ toString " and " ++ toString kt.shown ++ toString " are in " ++ toString (vm.home ks)).toList.length ≤ 132
          simp only [String.toList_append, List.length_append]
          have a1 : (toString " and ").toList.length = 5 := by decide
          have a2 : (toString " are in ").toList.length = 8 := by decide
          have a3 : (toString (vm.home ks)).toList.length ≤ 38 := c1
          omega
        · show (toString ks.shown ++ toString " is in " ++ toString (vm.home ks) ++ toString "; " ++ toString kt.shown ++ toString " is in " ++ toString (vm.home kt)).toList.length ≤ 132
          simp only [String.toList_append, List.length_append]
          have a1 : (toString " is in ").toList.length = 7 := by decide
          have a2 : (toString "; ").toList.length = 2 := by decide
          have a3 : (toString (vm.home ks)).toList.length ≤ 38 := c1
          have a4 : (toString (vm.home kt)).toList.length ≤ 38 := c2
          omega
      have a1 : (toString "class ").toList.length = 6 := by decide
      have a2 : (toString " cannot be cast to class ").toList.length = 25 := by decide
      have a3 : (toString " (").toList.length = 2 := by decide
      have a4 : (toString ")").toList.length = 1 := by decide
      omega
    omega
/-- what a class's name must be like -/
def ccN (n : String) : Bool := castPackages_1.contains (packageOf n) && decide ((dotted n).toList.length ≤ 20)
section CCZ
variable {p : Program} {l : Launch} {e : Env} {R : Room} {s : State} {m : MethodId} {args : Array Value} {below : List Frame} {meth : Method} {c : Code} {H : Heap} {locs : List Loc} {cells slots : Nat} {Q : State → Prop}
variable {cc : ByteArray} {nM : Nat} {own : String} {D : va_G} {dA : Nat → ClassId} {a0 : Nat} {w : va_W} {pc : Nat} {ls : Array Slot} {rest : List Value}
theorem cc_fails {T : State} (X : Stand p l e R s m args below meth c T locs cells slots) (hexec : p.tables.exec = Jvm.exec)
    {C name : String} {index : Nat} (hown : s.vm.findClass own = some m.cls) (hlink : (Cond.classLink own index name).before args s = true)
    {a : Addr} {cell : Cell} {cT : ClassId} (hcell : T.heap[a]? = some cell) (hobj : cell.vm.isStatics = false) (hC : s.vm.findClass C = some cell.cls) (hcT : s.vm.findClass name = some cT) (hasg : s.vm.assignable cell.cls cT = false) (hm : modulesRight_1 s = true) (hn1 : ccN C = true) (hn2 : ccN name = true)
    {g : JFrame} (hg : g.method = m) {rest : List Value} (hstack : g.stack = .ref a :: rest) (hdg : decode c.code g.pc = .ok (.checkcast index, 3)) :
    ∃ (vm' : Vm) (tx : String), Stand p l e R s m args below meth c (T.setVm vm') locs cells slots ∧ (tx == notModelled) = false ∧ (stringBytes (stringToUtf16 tx)).size ≤ 840 ∧
      ∀ target, Steps p.tables e below (((T.setVm vm').setTop g).pushFrame (.throwNew "java/lang/ClassCastException" (some tx) none)) target → Steps p.tables e below (T.setTop g) target := by
  have hpl : e.platform.magicAccessors = ({} : Platform).magicAccessors := by rw [X.admits.platform]
  obtain ⟨c', hc', hcl⟩ := Cond.classLink_spec hown hlink e.platform hpl
  cases hcT.symm.trans hc'
  obtain ⟨dk, _, _, kt, hd, _, _, _, _, hkt, _, hopen⟩ := hcl.here
  have hcl₀ := X.warmed.classLinks hcl
  have hW' : s.WarmedH (T.vm.noted m.cls index (.cls cT)) := X.warmed.noted hd hopen (State.rightAt_cls hcl)
  have f1 : (T.vm.noted m.cls index (.cls cT)).findClass C = some cell.cls := by rw [hW'.alike.findClass]; exact hC
  have f2 : (T.vm.noted m.cls index (.cls cT)).findClass name = some cT := by rw [hW'.alike.findClass]; exact hcT
  obtain ⟨ks', hks', n1, n2, n3⟩ := findClass_full f1
  obtain ⟨kt', hkt', m1, m2, m3⟩ := findClass_full f2
  have hm' := modR_moved (u := s) (U := T.setVm (T.vm.noted m.cls index (.cls cT))) hW'.alike hm
  simp only [ccN, Bool.and_eq_true, decide_eq_true_eq] at hn1 hn2
  obtain ⟨t1, t2⟩ := ccText (vm := T.vm.noted m.cls index (.cls cT)) hm' (ks := ks') (kt := kt') ⟨n2, n3, by rw [n1]; exact hn1⟩ ⟨m2, m3, by rw [m1]; exact hn2⟩
  refine ⟨_, Op.checkcast.message (T.vm.noted m.cls index (.cls cT)) ks' kt', X.noted hW', t1, t2, fun target hrest => ?_⟩
  subst hg
  jvm_step X.here [hexec, hdg, Op.checkcast.wp_cold (e := e) (s := T) (f := g) X.here.top hstack (resolveClass_links e.toSetting hcl₀) hcl₀.ready,
    Op.checkcast.wp_ready (e := e) (s := T.setVm (T.vm.noted g.method.cls index (.cls cT))) (f := g) X.here.top hcl₀.ready hstack]
  refine ⟨cell, hcell, VmData.noStatics_of hobj, ks', hks', kt', hkt', ?_⟩
  have h1 : (T.vm.noted g.method.cls index (Resolved.cls cT)).assignable cell.cls cT = false := by rw [hW'.alike.assignable]; exact hasg
  simp only [h1]
  exact hrest
theorem nx_castZ (hC : nvC p s m args c cc nM own D dA a0) (hx : nvX a0 s) {a : Nat} {C nm : String} {idx : Nat} (h1 : Cond.classLink own idx nm ∈ lw_all) (hn : (C, nm) ∈ nvXn) (hr : ∃ cell : Cell, H[a]? = some cell ∧ cell.vm.isStatics = false ∧ s.vm.findClass C = some cell.cls) (n1 : ccN C = true) (n2 : ccN nm = true) (d : decode cc pc = .ok (.checkcast idx, 3))
    (k : ∀ tx : String, (tx == notModelled) = false → (stringBytes (stringToUtf16 tx)).size ≤ 840 → vx_Note p l e R s m args below meth c H locs cells slots Q (F0 m pc ls (.ref a :: rest)) "java/lang/ClassCastException" tx) : W p l e R s m args below meth c H locs cells slots Q (F0 m pc ls (.ref a :: rest)) := by
  obtain ⟨cell, e1, e2, e3⟩ := hr
  obtain ⟨c0, t0, f1, f2, f3⟩ := hx.2.2.1 _ hn
  cases e3.symm.trans f1
  intro T hT X
  obtain ⟨vm', tx, X', t1, t2, st⟩ := cc_fails X hC.1 hC.2.2.2.1 (hC.2.2.2.2.1 _ h1) (by rw [hT]; exact e1) e2 e3 f2 f3 hx.2.2.2.2.2.1 n1 n2 (g := F0 m pc ls (.ref a :: rest)) rfl rfl (by rw [hC.2.1]; exact d)
  obtain ⟨t, a1, b1⟩ := k tx t1 t2 (T.setVm vm') hT X'
  exact ⟨t, st t a1, b1⟩
end CCZ
