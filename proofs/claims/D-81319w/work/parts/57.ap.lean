/-! fields of one name in a class and its superclass: their slots differ -/
set_option maxRecDepth 100000
theorem lay_nm {args : Array Value} {s : State} {C O f d : String} {cC cf fi : Nat} {kf : Class} {fd : Field} (hfc : s.vm.findClass C = some cC) (h : (Cond.lays C O f d).before args s = true ∨ (Cond.laysFinal C O f d).before args s = true) (hi : s.fieldFound? O f d = some (cf, kf, fi, fd)) :
    s.vm.findClass O = some cf ∧ ∃ dd, Jmm.declares? s.vm fd.slot (cC + 1) cC = some dd ∧ dd.1.name = kf.name ∧ dd.2.name = fd.name := by
  constructor
  · rcases h with h | h
    · simp only [Cond.before, Cond.holds, Cond.value, hfc, hi] at h
      cases hk : s.vm.classes[cC]? with
      | none => rw [hk] at h; simp at h
      | some k => rw [hk] at h; simp at h; exact h.1.1.2
    · simp only [Cond.before, Cond.holds, Cond.value, hfc, hi] at h
      cases hk : s.vm.classes[cC]? with
      | none => rw [hk] at h; simp at h
      | some k => rw [hk] at h; simp at h; exact h.1.1.2
  · rcases h with hl | hl
    · obtain ⟨c, k, c', k', i, x, r1, -, r3, -, -, -, -, dd, q1, q2, q3, -⟩ := Cond.lays_spec hl
      cases hfc.symm.trans r1
      cases hi.symm.trans r3
      exact ⟨dd, q1, q2, q3⟩
    · obtain ⟨c, k, c', k', i, x, r1, -, r3, -, -, -, -, -, dd, q1, q2, q3, -⟩ := Cond.laysFinal_spec hl
      cases hfc.symm.trans r1
      cases hi.symm.trans r3
      exact ⟨dd, q1, q2, q3⟩
theorem u_apart2 {args : Array Value} {s : State} {C O f d O' f' d' : String} {cC cf fi cf' fi' : Nat} {kf kf' : Class} {fd fd' : Field} (hfc : s.vm.findClass C = some cC) (h : (Cond.lays C O f d).before args s = true ∨ (Cond.laysFinal C O f d).before args s = true) (h' : (Cond.lays C O' f' d').before args s = true ∨ (Cond.laysFinal C O' f' d').before args s = true)
    (hi : s.fieldFound? O f d = some (cf, kf, fi, fd)) (hi' : s.fieldFound? O' f' d' = some (cf', kf', fi', fd')) (hne : O ≠ O' ∨ fd.name ≠ fd'.name) : fd.slot ≠ fd'.slot := by
  intro e
  obtain ⟨a1, dd, a2, a3, a4⟩ := lay_nm hfc h hi
  obtain ⟨b1, dd', b2, b3, b4⟩ := lay_nm hfc h' hi'
  rw [e] at a2
  cases a2.symm.trans b2
  rcases hne with q | q
  · obtain ⟨k1, g1, g2⟩ := Vm.findClass_spec a1
    obtain ⟨k2, g3, g4⟩ := Vm.findClass_spec b1
    have e1 : k1 = kf := Option.some.inj (g1.symm.trans (State.fieldFound?_spec hi).1)
    have e2 : k2 = kf' := Option.some.inj (g3.symm.trans (State.fieldFound?_spec hi').1)
    subst e1
    subst e2
    exact q (g2.symm.trans ((a3.symm.trans b3).trans g4))
  · exact q (a4.symm.trans b4)
section NAP
variable {p : Program} {l : Launch} {e : Env} {R : Room} {s : State} {m : MethodId} {args : Array Value} {below : List Frame} {meth : Method} {c : Code} {H : Heap} {locs : List Loc} {cells slots : Nat} {Q : State → Prop}
variable {cc : ByteArray} {nM : Nat} {own : String} {D : va_G} {dA : Nat → ClassId} {a0 : Nat} {w : va_W} {pc : Nat} {ls : Array Slot} {rest : List Value}
/-- the slots of a class of ours differ, also where names are the same -/
theorem nv_apart (hC : nvC p s m args c cc nM own D dA a0) {C : String} {T : u_T} {N ci : Nat} (hin : ∀ x ∈ u_ws C T N, x ∈ lw_all) (ty0 : Nat → FieldType) (hty : ∀ k, k < N → parseFieldDescriptor (T k).2.2.1 = some (ty0 k)) (hnm : ∀ a, a < N → ∀ b, b < N → a ≠ b → (T a).1 ≠ (T b).1 ∨ (T a).2.1 ≠ (T b).2.1) (hc : vwCl[ci]? = some (C, T, N)) : ∀ x y, x < N → y < N → x ≠ y → (D.2 ci) x ≠ (D.2 ci) y := by
  intro x y hx hy hne
  obtain ⟨hS, hfc, -⟩ := hC.2.2.2.2.2.1.1 ci _ hc
  obtain ⟨_, _, _, fa, hia, ea⟩ := hS x hx
  obtain ⟨_, _, _, fb, hib, eb⟩ := hS y hy
  rw [← ea, ← eb]
  refine u_apart2 hfc (u_lays hC.2.2.2.2.1 hin hx) (u_lays hC.2.2.2.2.1 hin hy) hia hib ?_
  rw [(State.fieldFound?_type hia (hty x hx)).1, (State.fieldFound?_type hib (hty y hy)).1]
  exact hnm x hx y hy hne
/-- a final field of the method's own class, in its constructor -/
theorem nv_putF2 (hC : nvC p s m args c cc nM own D dA a0) (hX : nvS D a0 w s.heap H locs) {ref C : String} {T : u_T} {N ci index : Nat} (hin : ∀ x ∈ u_ws C T N, x ∈ lw_all) (ty0 : Nat → FieldType) (hty : ∀ k, k < N → parseFieldDescriptor (T k).2.2.1 = some (ty0 k)) (hnm : ∀ a, a < N → ∀ b, b < N → a ≠ b → (T a).1 ≠ (T b).1 ∨ (T a).2.1 ≠ (T b).2.1) (q0 : Nat) {a : Nat} {fs : List Value} (he : w[q0]? = some (a, .inr (ci, fs))) (hc : vwCl[ci]? = some (C, T, N)) (k : Nat) (hk : k < N) (hl : Cond.fieldLink own index ref (T k).2.1 (T k).2.2.1 ∈ lw_all) (hsame : ∀ x, s.fieldFound? (T k).1 (T k).2.1 (T k).2.2.1 = some x → s.fieldFound? ref (T k).2.1 (T k).2.2.1 = some x) (hfin : (T k).2.2.2 = true) (hini : meth.name = "<init>") (hdecl : (T k).1 = own) {v : Value} (hn : narrow (ty0 k) v = v) (hfit : fits (ty0 k) v = true) (hlen : k < fs.length) {w' : va_W} (hw : w.set q0 (a, .inr (ci, fs.set k v)) = w') (d : decode cc pc = .ok (.putfield index, 3))
    (kk : ∀ (H1 : Heap) (locs1 : List Loc), nvS D a0 w' s.heap H1 locs1 → W p l e R s m args below meth c H1 locs1 cells slots Q (F0 m (pc + 3) ls rest)) : W p l e R s m args below meth c H locs cells slots Q (F0 m pc ls (v :: .ref a :: rest)) := by
  subst hw
  have hap := nv_apart hC hin ty0 hty hnm hc
  obtain ⟨r, h1, cell, q1, q2, q3, q4⟩ := hX.1 q0 _ he
  have hr : r = (C, T, N) := Option.some.inj (h1.symm.trans hc)
  subst hr
  obtain ⟨hS, hfc, kC, hkC, hkind⟩ := hC.2.2.2.2.2.1.1 ci _ hc
  obtain ⟨cf, kf, fi, f, hi, hsl⟩ := hS k hk
  have hlay := u_lays hC.2.2.2.2.1 hin hk
  have hcf : m.cls = cf := by
    have z := (lay_nm hfc hlay hi).1
    rw [hdecl] at z
    exact Option.some.inj (hC.2.2.2.1.symm.trans z)
  have h6 := u_fits hfc hkC hkind hlay hi (hty k hk) hn hfit
  refine W.putFinK hC.1 hC.2.1 hC.2.2.2.1 (hC.2.2.2.2.1 _ hl) (hsame _ hi) (u_facts hfc hkC hlay hi).1 hcf hini (by rw [q2]; exact h6) q1 q3 (by rw [hsl]; exact k2_hasslot (q4 k hk)) rfl rfl d fun H' e1 e2 e3 => ?_
  rw [hsl] at e1 ⊢
  exact kk H' _ ⟨hX.1.set hX.2.1 he ⟨_, hc, t_OB.to (V := updV (vp_V fs) k v) ⟨_, e1, q2, q3, t_set q4 hap hk v⟩ (fun j _ => vp_updV_set hlen v j)⟩ e3, hX.2.1.set he, hX.2.2.put e2 e3 (hX.2.1.2 q0 _ he)⟩
end NAP
