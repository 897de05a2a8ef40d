/-! printed by klass.py -/
set_option maxRecDepth 100000
section CL_34_c2
variable {l : Launch} {D : va_G} {dA : Nat → ClassId} {a0 ez : Nat} {ex : va_W}
section
variable {p : Program} {l : Launch} {e_ : Env} {R : Room} {s : State} {m : MethodId} {args : Array Value} {below : List Frame} {meth : Method} {cd : Code} {H : Heap} {locs : List Loc} {cells slots : Nat} {cc : ByteArray} {nM : Nat} {w : va_W} {pc : Nat} {ls : Array Slot} {rest : List Value}
theorem nd_endsBy {kd : Nat} {zh : Nat} {la : Nat} {x0 : Nat} {ln : Nat} {lt : Nat → Nat} {e : Nat} {c : Nat} (hkd : kd < 3) (hm : (zh, plF kd la x0) ∈ w) (ha : (la, aI dA ln (nF lt)) ∈ w) (hl1 : 1 ≤ ln) (hl4 : ln ≤ 4) (hlt : ∀ j, lt j < 3) (he : e < 54) (hc : c < 3) (hC : nvC p s m args cd cc nM "OneLongRow" D dA a0) (hX : nvS D a0 w s.heap H locs) {idx : Nat} (h1 : Cond.methodLink "OneLongRow" idx ⟨"OneLongRow$Plain", "endsBy", "(II)Z"⟩ ∈ lw_all) (d : decode cc pc = .ok (.invokevirtual idx, 3)) (hs : ls.size = nM) (hro : (rest.map fun v => v.category).sum ≤ 8) (hR : 5 ≤ R.frames ∧ 104 ≤ R.locals) (hf : cells + 0 ≤ R.cells ∧ slots + 0 ≤ R.slots) : va_Run p l e_ R s m args below meth cd H locs cells slots 0 0 (F0 m pc ls (.int (nI c) :: .int (nI e) :: .ref zh :: rest)) rest (nQi D a0 (fun (r_ : Int32) (_ : Unit) => r_ = nB (edB kd ln lt (3 * e + c))) (fun (_ : Unit) => w) (Value.ref zh :: [.int (nI e), .int (nI c)]).toArray) (nvA a0) := by
  obtain ⟨hR1, hR2⟩ := hR
  obtain ⟨yq, yhq⟩ := List.getElem?_of_mem hm
  rcases (by omega : kd = 0 ∨ kd = 1 ∨ kd = 2) with rfl | rfl | rfl
  · exact nv_rV (n := 2) (As := [.int (nI e), .int (nI c)]) (rest := rest) (q0 := yq) hC hX (mp_X5_endsBy_0 (zh := zh) (la := la) (x0 := x0) (ln := ln) (lt := lt) (e := e) (c := c) hm ha hl1 hl4 hlt he hc) nvGb0 (fun _ _ _ => trivial) yhq rfl h1 q268 q269 q80 q281 (by decide +kernel) rfl ⟨by omega, by omega⟩ hs hro d hf
  · exact nv_rO (q := (RX6, TX6, 3)) (owner := "OneLongRow$Plain") (x := ⟨"OneLongRow$Plain", "endsBy", "(II)Z"⟩) (n := 2) (As := [.int (nI e), .int (nI c)]) (rest := rest) (q0 := yq) hC hX (mp_X6_endsBy_1 (zh := zh) (la := la) (x0 := x0) (ln := ln) (lt := lt) (e := e) (c := c) hm ha hl1 hl4 hlt he hc) nvGb0 (fun _ _ _ => trivial) yhq rfl h1 q270 q268 q281 q272 q271 q81 q273 (by decide +kernel) rfl ⟨by omega, by omega⟩ hs hro d hf
  · exact nv_rO (q := (RX7, TX7, 4)) (owner := "OneLongRow$Plain") (x := ⟨"OneLongRow$Plain", "endsBy", "(II)Z"⟩) (n := 2) (As := [.int (nI e), .int (nI c)]) (rest := rest) (q0 := yq) hC hX (mp_X7_endsBy_2 (zh := zh) (la := la) (x0 := x0) (ln := ln) (lt := lt) (e := e) (c := c) hm ha hl1 hl4 hlt he hc) nvGb0 (fun _ _ _ => trivial) yhq rfl h1 q270 q268 q281 q297 q296 q82 q298 (by decide +kernel) rfl ⟨by omega, by omega⟩ hs hro d hf
end

section
variable {p : Program} {l : Launch} {e_ : Env} {R : Room} {s : State} {m : MethodId} {args : Array Value} {below : List Frame} {meth : Method} {cd : Code} {H : Heap} {locs : List Loc} {cells slots : Nat} {cc : ByteArray} {nM : Nat} {w : va_W} {pc : Nat} {ls : Array Slot} {rest : List Value}
theorem nd_kind {kd : Nat} {zh : Nat} {la : Nat} {x0 : Nat} {ln : Nat} {lt : Nat → Nat} (hkd : kd < 3) (hm : (zh, plF kd la x0) ∈ w) (ha : (la, aI dA ln (nF lt)) ∈ w) (hl1 : 1 ≤ ln) (hl4 : ln ≤ 4) (hlt : ∀ j, lt j < 3) (hC : nvC p s m args cd cc nM "OneLongRow" D dA a0) (hX : nvS D a0 w s.heap H locs) {idx : Nat} (h1 : Cond.methodLink "OneLongRow" idx ⟨"OneLongRow$Plain", "kind", "()I"⟩ ∈ lw_all) (d : decode cc pc = .ok (.invokevirtual idx, 3)) (hs : ls.size = nM) (hro : (rest.map fun v => v.category).sum ≤ 8) (hR : 2 ≤ R.frames ∧ 32 ≤ R.locals) (hf : cells + 0 ≤ R.cells ∧ slots + 0 ≤ R.slots) : va_Run p l e_ R s m args below meth cd H locs cells slots 0 0 (F0 m pc ls (.ref zh :: rest)) rest (nQi D a0 (fun (r_ : Int32) (_ : Unit) => r_ = nI kd) (fun (_ : Unit) => w) (Value.ref zh :: []).toArray) (nvA a0) := by
  obtain ⟨hR1, hR2⟩ := hR
  obtain ⟨yq, yhq⟩ := List.getElem?_of_mem hm
  rcases (by omega : kd = 0 ∨ kd = 1 ∨ kd = 2) with rfl | rfl | rfl
  · exact nv_rV (n := 0) (As := []) (rest := rest) (q0 := yq) hC hX (mp_X5_kind_0 (zh := zh) (la := la) (x0 := x0) (ln := ln) (lt := lt)  hm ha hl1 hl4 hlt ) nvGb0 (fun _ _ _ => trivial) yhq rfl h1 q223 q224 q80 q232 (by decide +kernel) rfl ⟨by omega, by omega⟩ hs hro d hf
  · exact nv_rO (q := (RX6, TX6, 3)) (owner := "OneLongRow$Plain") (x := ⟨"OneLongRow$Plain", "kind", "()I"⟩) (n := 0) (As := []) (rest := rest) (q0 := yq) hC hX (mp_X6_kind_1 (zh := zh) (la := la) (x0 := x0) (ln := ln) (lt := lt)  hm ha hl1 hl4 hlt ) nvGb0 (fun _ _ _ => trivial) yhq rfl h1 q225 q223 q232 q227 q226 q81 q228 (by decide +kernel) rfl ⟨by omega, by omega⟩ hs hro d hf
  · exact nv_rO (q := (RX7, TX7, 4)) (owner := "OneLongRow$Plain") (x := ⟨"OneLongRow$Plain", "kind", "()I"⟩) (n := 0) (As := []) (rest := rest) (q0 := yq) hC hX (mp_X7_kind_2 (zh := zh) (la := la) (x0 := x0) (ln := ln) (lt := lt)  hm ha hl1 hl4 hlt ) nvGb0 (fun _ _ _ => trivial) yhq rfl h1 q225 q223 q232 q230 q229 q82 q231 (by decide +kernel) rfl ⟨by omega, by omega⟩ hs hro d hf
end

section
variable {p : Program} {l : Launch} {e_ : Env} {R : Room} {s : State} {m : MethodId} {args : Array Value} {below : List Frame} {meth : Method} {cd : Code} {H : Heap} {locs : List Loc} {cells slots : Nat} {cc : ByteArray} {nM : Nat} {w : va_W} {pc : Nat} {ls : Array Slot} {rest : List Value}
theorem nd_forms {kd : Nat} {zh : Nat} {la : Nat} {x0 : Nat} {ln : Nat} {lt : Nat → Nat} (hkd : kd < 3) (hm : (zh, plF kd la x0) ∈ w) (ha : (la, aI dA ln (nF lt)) ∈ w) (hl1 : 1 ≤ ln) (hl4 : ln ≤ 4) (hlt : ∀ j, lt j < 3) (hC : nvC p s m args cd cc nM "OneLongRow" D dA a0) (hX : nvS D a0 w s.heap H locs) {idx : Nat} (h1 : Cond.methodLink "OneLongRow" idx ⟨"OneLongRow$Plain", "forms", "()I"⟩ ∈ lw_all) (d : decode cc pc = .ok (.invokevirtual idx, 3)) (hs : ls.size = nM) (hro : (rest.map fun v => v.category).sum ≤ 8) (hR : 4 ≤ R.frames ∧ 74 ≤ R.locals) (hf : cells + 0 ≤ R.cells ∧ slots + 0 ≤ R.slots) : va_Run p l e_ R s m args below meth cd H locs cells slots 0 0 (F0 m pc ls (.ref zh :: rest)) rest (nQi D a0 (fun (r_ : Int32) (_ : Unit) => r_ = nI (fmN kd ln lt)) (fun (_ : Unit) => w) (Value.ref zh :: []).toArray) (nvA a0) := by
  obtain ⟨hR1, hR2⟩ := hR
  obtain ⟨yq, yhq⟩ := List.getElem?_of_mem hm
  rcases (by omega : kd = 0 ∨ kd = 1 ∨ kd = 2) with rfl | rfl | rfl
  · exact nv_rV (n := 0) (As := []) (rest := rest) (q0 := yq) hC hX (mp_X5_forms_0 (zh := zh) (la := la) (x0 := x0) (ln := ln) (lt := lt)  hm ha hl1 hl4 hlt ) nvGb0 (fun _ _ _ => trivial) yhq rfl h1 q234 q235 q80 q248 (by decide +kernel) rfl ⟨by omega, by omega⟩ hs hro d hf
  · exact nv_rO (q := (RX6, TX6, 3)) (owner := "OneLongRow$Plain") (x := ⟨"OneLongRow$Plain", "forms", "()I"⟩) (n := 0) (As := []) (rest := rest) (q0 := yq) hC hX (mp_X6_forms_1 (zh := zh) (la := la) (x0 := x0) (ln := ln) (lt := lt)  hm ha hl1 hl4 hlt ) nvGb0 (fun _ _ _ => trivial) yhq rfl h1 q236 q234 q248 q238 q237 q81 q239 (by decide +kernel) rfl ⟨by omega, by omega⟩ hs hro d hf
  · exact nv_rO (q := (RX7, TX7, 4)) (owner := "OneLongRow$Plain") (x := ⟨"OneLongRow$Plain", "forms", "()I"⟩) (n := 0) (As := []) (rest := rest) (q0 := yq) hC hX (mp_X7_forms_2 (zh := zh) (la := la) (x0 := x0) (ln := ln) (lt := lt)  hm ha hl1 hl4 hlt ) nvGb0 (fun _ _ _ => trivial) yhq rfl h1 q236 q234 q248 q250 q249 q82 q251 (by decide +kernel) rfl ⟨by omega, by omega⟩ hs hro d hf
end
end CL_34_c2
