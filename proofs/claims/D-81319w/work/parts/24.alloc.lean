/-! worlds in another order; new cells -/
set_option maxRecDepth 100000
theorem va_P_mem {D : va_G} {cl : List vw_C} {ws : va_W} {H : Heap} : va_P D cl ws H ↔ ∀ q, q ∈ ws → va_at D cl q H := by
  constructor
  · intro h q hq
    obtain ⟨k, hk⟩ := List.getElem?_of_mem hq
    exact h k q hk
  · intro h k q hk
    exact h q (List.mem_of_getElem? hk)
theorem va_D_nd {A : Nat → Prop} {ws : va_W} : va_D A ws ↔ (ws.map Prod.fst).Nodup ∧ ∀ q, q ∈ ws → A q.1 := by
  constructor
  · intro h
    refine ⟨?_, fun q hq => ?_⟩
    · rw [List.nodup_iff_pairwise_ne, List.pairwise_iff_getElem]
      intro i j hi hj hij e
      simp only [List.length_map] at hi hj
      simp only [List.getElem_map] at e
      have := h.1 i j _ _ (List.getElem?_eq_getElem hi) (List.getElem?_eq_getElem hj) e
      omega
    · obtain ⟨k, hk⟩ := List.getElem?_of_mem hq
      exact h.2 k q hk
  · intro h
    refine ⟨fun i j p q hi hj e => ?_, fun k q hk => h.2 q (List.mem_of_getElem? hk)⟩
    have hnd := h.1
    rw [List.nodup_iff_pairwise_ne, List.pairwise_iff_getElem] at hnd
    obtain ⟨hi1, hi2⟩ := List.getElem?_eq_some_iff.mp hi
    obtain ⟨hj1, hj2⟩ := List.getElem?_eq_some_iff.mp hj
    rcases Nat.lt_trichotomy i j with q1 | q1 | q1
    · have hx := hnd i j (by simpa using hi1) (by simpa using hj1) q1
      rw [List.getElem_map, List.getElem_map, hi2, hj2] at hx
      exact absurd e hx
    · exact q1
    · have hx := hnd j i (by simpa using hj1) (by simpa using hi1) q1
      rw [List.getElem_map, List.getElem_map, hi2, hj2] at hx
      exact absurd e.symm hx
theorem nvS.perm {D : va_G} {a0 : Nat} {w w' : va_W} {H0 H : Heap} {locs : List Loc} (h : nvS D a0 w H0 H locs) (p : w.Perm w') : nvS D a0 w' H0 H locs := by
  refine ⟨va_P_mem.mpr fun q hq => va_P_mem.mp h.1 q (p.mem_iff.mpr hq), va_D_nd.mpr ⟨?_, fun q hq => (va_D_nd.mp h.2.1).2 q (p.mem_iff.mpr hq)⟩, h.2.2⟩
  exact (p.map Prod.fst).nodup_iff.mp (va_D_nd.mp h.2.1).1
theorem nvS.ins {D : va_G} {a0 : Nat} {l1 l2 : va_W} {c : Nat × va_E} {H0 H : Heap} {locs : List Loc} (h : nvS D a0 ((l1 ++ l2) ++ [c]) H0 H locs) : nvS D a0 (l1 ++ c :: l2) H0 H locs := by
  refine h.perm ?_
  rw [List.append_assoc]
  exact List.Perm.append_left l1 List.perm_append_comm
/-- fewer cells -/
theorem nvS.less {D : va_G} {a0 : Nat} {w w' : va_W} {H0 H : Heap} {locs : List Loc} (h : nvS D a0 w H0 H locs) (p : w'.Sublist w) : nvS D a0 w' H0 H locs := by
  refine ⟨va_P_mem.mpr fun q hq => va_P_mem.mp h.1 q (p.subset hq), va_D_nd.mpr ⟨?_, fun q hq => (va_D_nd.mp h.2.1).2 q (p.subset hq)⟩, h.2.2⟩
  exact (p.map Prod.fst).nodup (va_D_nd.mp h.2.1).1
section NW
variable {p : Program} {l : Launch} {e : Env} {R : Room} {s : State} {m : MethodId} {args : Array Value} {below : List Frame} {meth : Method} {c : Code} {H : Heap} {locs : List Loc} {cells slots : Nat} {Q : State → Prop}
variable {cc : ByteArray} {nM : Nat} {own : String} {D : va_G} {dA : Nat → ClassId} {a0 : Nat} {w : va_W} {pc : Nat} {ls : Array Slot} {rest : List Value}
/-- the class of an array's type is one of the known -/
theorem nv_arrId (hC : nvC p s m args c cc nM own D dA a0) {ty : FieldType} {t0 : Nat} {cA cB : ClassId} (ht : (nvT dA)[t0]? = some (cB, ty)) (hp : ∀ C, ty ≠ .object C) (h : va_RA s cA ty) : cA = cB := by
  have h2 := (hC.2.2.2.2.2.1.2 t0 _ ht).2
  cases ty with
  | object C => exact absurd rfl (hp C)
  | _ => exact Option.some.inj ((show s.vm.findClass _ = some cA from h).symm.trans (show s.vm.findClass _ = some cB from h2))
theorem nv_newa (hC : nvC p s m args c cc nM own D dA a0) {l1 l2 : va_W} (hX : nvS D a0 (l1 ++ l2) s.heap H locs) {atype : ArrayType} {ty : FieldType} (hty : newarray.typeOf atype = ty) (t0 : Nat) {cB : ClassId} (ht : (nvT dA)[t0]? = some (cB, ty)) (hp : ∀ C, ty ≠ .object C) (hw : Cond.arrayClass ty ∈ lw_all) {n : Nat} {x : (Nat → Int32) ⊕ (Nat → Int64) ⊕ (Nat → UInt32) ⊕ (Nat → UInt64) ⊕ (Nat → Option Nat)} (hx : ∀ cA : ClassId, vp_cell cA (n, x) = arrV cA n (fun _ => defaultValue ty)) (hn : n < 100000) (hb : n * componentBytes ty ≤ 536870912) (hc : cells + 1 ≤ R.cells) (hs : slots + n ≤ R.slots) (d : decode cc pc = .ok (.newarray atype, 2))
    (kk : ∀ (q : Nat) (H1 : Heap), nvS D a0 (l1 ++ (q, .inl (cB, n, x)) :: l2) s.heap H1 locs → W p l e R s m args below meth c H1 locs (cells + 1) (slots + n) Q (F0 m (pc + 2) ls (.ref q :: rest))) : W p l e R s m args below meth c H locs cells slots Q (F0 m pc ls (.int (nI n) :: rest)) := by
  refine va_newa (a0 := (n, x)) hC.1 hC.2.1 (by rw [hty]; exact hC.2.2.2.2.1 _ hw) hty hC.2.2.2.2.2.1 hX.1 hX.2.1 hX.2.2 (nv_hA hC) hx (nI_pos (by omega)) (nI_clamp (by omega)) hb hc hs d ?_
  intro q cA H1 hK hP hD hS
  have e : cA = cB := nv_arrId hC ht hp (hK.2 (nvT dA).length _ (by rw [List.getElem?_append_right (Nat.le_refl _), Nat.sub_self]; rfl)).2
  subst e
  exact kk q H1 (nvS.ins ⟨hP, hD, hS⟩)
theorem arr0i (cA : ClassId) (n : Nat) : vp_cell cA (n, .inl (fun _ => 0)) = arrV cA n (fun _ => defaultValue .int) := rfl
theorem arr0l (cA : ClassId) (n : Nat) : vp_cell cA (n, .inr (.inl (fun _ => 0))) = arrV cA n (fun _ => defaultValue .long) := rfl
theorem arr0b (cA : ClassId) (n : Nat) : vp_cell cA (n, .inl (fun _ => 0)) = arrV cA n (fun _ => defaultValue .byte) := rfl
theorem arr0s (cA : ClassId) (n : Nat) : vp_cell cA (n, .inl (fun _ => 0)) = arrV cA n (fun _ => defaultValue .short) := rfl
/-- a new object -/
theorem nv_new (hC : nvC p s m args c cc nM own D dA a0) {l1 l2 : va_W} (hX : nvS D a0 (l1 ++ l2) s.heap H locs) {C : String} {T : u_T} {N ci idx : Nat} (hin : ∀ x ∈ u_ws C T N, x ∈ lw_all) (ty : Nat → FieldType) (hty : ∀ k, k < N → parseFieldDescriptor (T k).2.2.1 = some (ty k)) (h1 : Cond.classLink own idx C ∈ lw_all) (h2 : Cond.instantiable C N ∈ lw_all) (h3 : Cond.initialized C ∈ lw_all) (hc : vwCl[ci]? = some (C, T, N)) {fs : List Value} (hfs : ∀ j, j < N → defaultValue (ty j) = vp_V fs j) (hcells : cells + 1 ≤ R.cells) (hslots : slots + N ≤ R.slots) (d : decode cc pc = .ok (.new idx, 3))
    (kk : ∀ (q : Nat) (H1 : Heap), nvS D a0 (l1 ++ (q, .inr (ci, fs)) :: l2) s.heap H1 locs → W p l e R s m args below meth c H1 locs (cells + 1) (slots + N) Q (F0 m (pc + 3) ls (.ref q :: rest))) : W p l e R s m args below meth c H locs cells slots Q (F0 m pc ls rest) :=
  va_new hC.1 hC.2.1 hC.2.2.2.2.1 hin ty hty hC.2.2.2.1 (hC.2.2.2.2.1 _ h1) (hC.2.2.2.2.1 _ h2) (hC.2.2.2.2.1 _ h3) hC.2.2.2.2.2.1 hX.1 hX.2.1 hX.2.2 (nv_hA hC) hc hfs hcells hslots d fun q H1 hP hD hS => kk q H1 (nvS.ins ⟨hP, hD, hS⟩)
end NW
theorem nF_0 : nF (fun _ => 0) = fun _ => (0 : Int32) := rfl
theorem oF_4 : upd (upd (upd (upd (fun _ => (0 : Int32)) 0 (-9)) 1 (-9)) 2 (-9)) 3 (-9) 0 = -9 := rfl
/-- the same cell -/
theorem aI_cg {dA : Nat → ClassId} {n : Nat} {f g : Nat → Int32} (h : ∀ j, j < n → f j = g j) : ∀ (D : va_G) (cl : List vw_C) (a : Nat) (H : Heap), va_at D cl (a, aI dA n f) H ↔ va_at D cl (a, aI dA n g) H := by
  intro D cl a H
  have e : vp_cell (dA 0) (n, .inl f) = vp_cell (dA 0) (n, .inl g) := by
    rw [vp_cell_i, vp_cell_i]
    unfold arrV
    congr 1
    congr 1
    funext j
    show Value.int (f j.val) = Value.int (g j.val)
    rw [h j.val j.isLt]
  show H[a]? = some (vp_cell (dA 0) (n, .inl f)) ↔ H[a]? = some (vp_cell (dA 0) (n, .inl g))
  rw [e]
