/-! rows for what writes the tail: places, arrays, lists, class objects; more of the ground -/
set_option maxRecDepth 100000
/-- the ground, with the class object of Object[] -/
def nvE2 (a0 ez mo : Nat) (U : State) : Prop := nvE a0 ez U ∧ va_Mi "[Ljava/lang/Object;" mo U ∧ va_Dc U
theorem nvE2_b (a0 ez mo : Nat) : nvGb (nvE2 a0 ez mo) := fun _ _ _ _ h => h
theorem nvE2_keep {a0 ez mo : Nat} {s : State} (h : nvE2 a0 ez mo s) {D : va_G} {w : va_W} {H : Heap} {locs : List Loc} (hX : nvS D a0 w s.heap H locs) : ∀ U : State, U.heap = H → s.WarmedH U.vm → nvE2 a0 ez mo U :=
  fun U hU hW => ⟨nvE_keep h.1 hX U hU hW, h.2.1.moved hW.alike, h.2.2.moved hW.alike⟩
section RWP
variable {D : va_G} {dA : Nat → ClassId} {a0 : Nat} {H0 H : Heap} {locs : List Loc}
theorem nvS.push {f : va_W → va_W} (hf : ∀ c tl, (c :: f tl).Perm (f (c :: tl))) {c : Nat × va_E} {tl : va_W} (h : nvS D a0 (c :: f tl) H0 H locs) : nvS D a0 (f (c :: tl)) H0 H locs := h.perm (hf c tl)
theorem nvS.pull {f : va_W → va_W} (hf : ∀ c tl, (c :: f tl).Perm (f (c :: tl))) {c : Nat × va_E} {tl : va_W} (h : nvS D a0 (f (c :: tl)) H0 H locs) : nvS D a0 (c :: f tl) H0 H locs := h.perm (hf c tl).symm
theorem xW_app {a : Nat → Nat} {rn rt : Nat} {trace : Int32} {len stand : Nat} {first allh : Option Nat} {hAll : Nat} {fault : Int32} {row hOf : Nat → Nat} {farOf : Nat → Option Nat} {rowsN rowsT : Nat → Nat} {mcW : Int32} {edW words : Nat} {mcR : Int32} {edR rdgs : Nat} {sh : Nat → Option Nat} {ex : va_W} :
    xW dA a rn rt trace len stand first allh hAll fault row hOf farOf rowsN rowsT mcW edW words mcR edR rdgs sh ex = xW dA a rn rt trace len stand first allh hAll fault row hOf farOf rowsN rowsT mcW edW words mcR edR rdgs sh [] ++ ex := rfl
theorem xW_pm {a : Nat → Nat} {rn rt : Nat} {trace : Int32} {len stand : Nat} {first allh : Option Nat} {hAll : Nat} {fault : Int32} {row hOf : Nat → Nat} {farOf : Nat → Option Nat} {rowsN rowsT : Nat → Nat} {mcW : Int32} {edW words : Nat} {mcR : Int32} {edR rdgs : Nat} {sh : Nat → Option Nat} (c : Nat × va_E) (tl : va_W) :
    (c :: xW dA a rn rt trace len stand first allh hAll fault row hOf farOf rowsN rowsT mcW edW words mcR edR rdgs sh tl).Perm (xW dA a rn rt trace len stand first allh hAll fault row hOf farOf rowsN rowsT mcW edW words mcR edR rdgs sh (c :: tl)) := by
  rw [xW_app (ex := tl), xW_app (ex := c :: tl)]
  exact List.perm_middle.symm
theorem xW_pl {a : Nat → Nat} {rn rt : Nat} {trace : Int32} {len stand : Nat} {first allh : Option Nat} {hAll : Nat} {fault : Int32} {row hOf : Nat → Nat} {farOf : Nat → Option Nat} {rowsN rowsT : Nat → Nat} {mcW : Int32} {edW words : Nat} {mcR : Int32} {edR rdgs : Nat} {sh : Nat → Option Nat} (l tl : va_W) :
    (l ++ xW dA a rn rt trace len stand first allh hAll fault row hOf farOf rowsN rowsT mcW edW words mcR edR rdgs sh tl).Perm (xW dA a rn rt trace len stand first allh hAll fault row hOf farOf rowsN rowsT mcW edW words mcR edR rdgs sh (l ++ tl)) := by
  rw [xW_app (ex := tl), xW_app (ex := l ++ tl), ← List.append_assoc, ← List.append_assoc]
  exact List.Perm.append_right tl List.perm_append_comm
theorem xW_9 {a : Nat → Nat} {rn rt : Nat} {trace : Int32} {len stand : Nat} {first allh : Option Nat} {hAll : Nat} {fault : Int32} {row hOf : Nat → Nat} {farOf : Nat → Option Nat} {rowsN rowsT : Nat → Nat} {mcW : Int32} {edW words : Nat} {mcR : Int32} {edR rdgs : Nat} {sh : Nat → Option Nat} {ow ex : va_W} {k : Nat} {x : Nat × va_E} (hk : ow[k]? = some x) :
    (xW dA a rn rt trace len stand first allh hAll fault row hOf farOf rowsN rowsT mcW edW words mcR edR rdgs sh (ow ++ ex))[k + 9]? = some x := app_at hk
theorem xW_s9 {a : Nat → Nat} {rn rt : Nat} {trace : Int32} {len stand : Nat} {first allh : Option Nat} {hAll : Nat} {fault : Int32} {row hOf : Nat → Nat} {farOf : Nat → Option Nat} {rowsN rowsT : Nat → Nat} {mcW : Int32} {edW words : Nat} {mcR : Int32} {edR rdgs : Nat} {sh : Nat → Option Nat} {ow ex : va_W} {k : Nat} {x : Nat × va_E} (hk : ow[k]? = some x) (y : Nat × va_E) :
    (xW dA a rn rt trace len stand first allh hAll fault row hOf farOf rowsN rowsT mcW edW words mcR edR rdgs sh (ow ++ ex)).set (k + 9) y = xW dA a rn rt trace len stand first allh hAll fault row hOf farOf rowsN rowsT mcW edW words mcR edR rdgs sh (ow.set k y ++ ex) := by
  rw [← app_set hk]
  rfl
theorem xw_own {a : Nat → Nat} {rn rt : Nat} {trace : Int32} {len stand : Nat} {first allh : Option Nat} {hAll : Nat} {fault : Int32} {row hOf : Nat → Nat} {farOf : Nat → Option Nat} {rowsN rowsT : Nat → Nat} {mcW : Int32} {edW words : Nat} {mcR : Int32} {edR rdgs : Nat} {sh : Nat → Option Nat} {ow ex : va_W} : ∀ z, z ∈ ow → z ∈ xW dA a rn rt trace len stand first allh hAll fault row hOf farOf rowsN rowsT mcW edW words mcR edR rdgs sh (ow ++ ex) := fun _ h => xw_m (mem_app _ h)
theorem plF_12 {kd la x : Nat} {y : List Value} (h : kd < 3) : plF kd la x ≠ .inr (12, y) := fun e => by
  unfold plF at e
  injection e with e
  injection e with e _
  omega
theorem nv_nez {ez : Nat} {s : State} {w : va_W} (zG : nvE a0 ez s) (hX : nvS D a0 w H0 H locs) {q : Nat} {c : va_E} (h : (q, c) ∈ w) : q ≠ ez := by
  have h1 : a0 ≤ q := (va_D_nd.mp hX.2.1).2 _ h
  have h2 := zG.2.2.2.2.2.2.1
  omega
/-- a list's object and its array, written -/
def jW (dA : Nat → ClassId) (q0 q1 zh : Nat) (mc : Int32) (ed n cp : Nat) (f : Nat → Option Nat) (w : va_W) : va_W := (w.set q0 (zh, .inr (12, [.int mc, .ref ed, .int (nI n)]))).set q1 (ed, aO dA cp f)
def lW (q0 zh : Nat) (mc : Int32) (ed n : Nat) (w : va_W) : va_W := w.set q0 (zh, .inr (12, [.int mc, .ref ed, .int (nI n)]))
variable {q0 q1 zh ed n cp : Nat} {mc mc' : Int32} {n' : Nat} {f f' : Nat → Option Nat} {w : va_W}
theorem jW_q (h0 : w[q0]? = some (zh, .inr (12, [.int mc, .ref ed, .int (nI n)]))) (h1 : w[q1]? = some (ed, aO dA cp f)) : q0 ≠ q1 := fun e => by
  rw [e, h1] at h0
  cases Option.some.inj h0
theorem jW_0 (h0 : w[q0]? = some (zh, .inr (12, [.int mc, .ref ed, .int (nI n)]))) (h1 : w[q1]? = some (ed, aO dA cp f)) : w = jW dA q0 q1 zh mc ed n cp f w := by
  unfold jW
  rw [← set_me h0]
  exact set_me h1
theorem jW_a0 (hne : q0 ≠ q1) (h0 : w[q0]? = some (zh, .inr (12, [.int mc', .ref ed, .int (nI n')]))) : (jW dA q0 q1 zh mc ed n cp f w)[q0]? = some (zh, .inr (12, [.int mc, .ref ed, .int (nI n)])) := by
  unfold jW
  rw [List.getElem?_set_ne hne.symm]
  exact set_get h0
theorem jW_a1 (hne : q0 ≠ q1) (h1 : w[q1]? = some (ed, aO dA cp f')) : (jW dA q0 q1 zh mc ed n cp f w)[q1]? = some (ed, aO dA cp f) := by
  unfold jW
  exact set_get (x := (ed, aO dA cp f')) (by rw [List.getElem?_set_ne hne]; exact h1)
theorem jW_s0 (hne : q0 ≠ q1) : (jW dA q0 q1 zh mc ed n cp f w).set q0 (zh, .inr (12, [.int mc', .ref ed, .int (nI n')])) = jW dA q0 q1 zh mc' ed n' cp f w := by
  unfold jW
  rw [List.set_comm _ _ hne.symm, List.set_set]
theorem jW_s1 : (jW dA q0 q1 zh mc ed n cp f w).set q1 (ed, aO dA cp f') = jW dA q0 q1 zh mc ed n cp f' w := by
  unfold jW
  rw [List.set_set]
theorem jW_jW (hne : q0 ≠ q1) : jW dA q0 q1 zh mc' ed n' cp f' (jW dA q0 q1 zh mc ed n cp f w) = jW dA q0 q1 zh mc' ed n' cp f' w := by
  show ((jW dA q0 q1 zh mc ed n cp f w).set q0 _).set q1 _ = _
  rw [jW_s0 hne, jW_s1]
theorem jW_xW2 {a : Nat → Nat} {rn rt : Nat} {trace : Int32} {len stand : Nat} {first allh : Option Nat} {hAll : Nat} {fault : Int32} {row hOf : Nat → Nat} {farOf : Nat → Option Nat} {rowsN rowsT : Nat → Nat} {mcW : Int32} {edW words : Nat} {mcR : Int32} {edR rdgs : Nat} {sh : Nat → Option Nat} {ow ex : va_W} {k : Nat} {x : Nat × va_E} (hk : ow[k]? = some x) :
    jW dA 2 (k + 9) (a 2) mc ed n cp f (xW dA a rn rt trace len stand first allh hAll fault row hOf farOf rowsN rowsT mcW edW words mcR edR rdgs sh (ow ++ ex)) = xW dA a rn rt trace len stand first allh hAll fault row hOf farOf rowsN rowsT mc ed n mcR edR rdgs sh (ow.set k (ed, aO dA cp f) ++ ex) := xW_s9 (edW := ed) (words := n) (mcW := mc) hk _
theorem jW_xW7 {a : Nat → Nat} {rn rt : Nat} {trace : Int32} {len stand : Nat} {first allh : Option Nat} {hAll : Nat} {fault : Int32} {row hOf : Nat → Nat} {farOf : Nat → Option Nat} {rowsN rowsT : Nat → Nat} {mcW : Int32} {edW words : Nat} {mcR : Int32} {edR rdgs : Nat} {sh : Nat → Option Nat} {ow ex : va_W} {k : Nat} {x : Nat × va_E} (hk : ow[k]? = some x) :
    jW dA 7 (k + 9) (a 5) mc ed n cp f (xW dA a rn rt trace len stand first allh hAll fault row hOf farOf rowsN rowsT mcW edW words mcR edR rdgs sh (ow ++ ex)) = xW dA a rn rt trace len stand first allh hAll fault row hOf farOf rowsN rowsT mcW edW words mc ed n sh (ow.set k (ed, aO dA cp f) ++ ex) := xW_s9 (edR := ed) (rdgs := n) (mcR := mc) hk _
theorem jW_m {z : Nat × va_E} {k0 k1 : Nat × va_E} (hz : z ∈ w) (h0 : w[q0]? = some k0) (h1 : w[q1]? = some k1) (hne : q0 ≠ q1) (e0 : k0.1 = zh) (e1 : k1.1 = ed) (n0 : z.1 ≠ zh) (n1 : z.1 ≠ ed) : z ∈ jW dA q0 q1 zh mc ed n cp f w := by
  unfold jW
  have s1 : z ∈ w.set q0 (zh, .inr (12, [.int mc, .ref ed, .int (nI n)])) := set_kp (c := k0.2) (by rw [h0, ← e0]) z hz n0
  exact set_kp (c := k1.2) (by rw [List.getElem?_set_ne hne, h1, ← e1]) z s1 n1
theorem lW_a {c0 : va_E} (h0 : w[q0]? = some (zh, c0)) : (lW q0 zh mc ed n w)[q0]? = some (zh, .inr (12, [.int mc, .ref ed, .int (nI n)])) := set_get h0
theorem lW_s {ed' : Nat} : (lW q0 zh mc ed n w).set q0 (zh, .inr (12, [.int mc', .ref ed', .int (nI n')])) = lW q0 zh mc' ed' n' w := List.set_set _
theorem lW_lW {ed' : Nat} : lW q0 zh mc' ed' n' (lW q0 zh mc ed n w) = lW q0 zh mc' ed' n' w := List.set_set _
theorem jW_B {r : Nat} {X : va_E} : jW dA (q0 + 1) 0 zh mc' r n' cp f' ((r, X) :: lW q0 zh mc ed n w) = (r, aO dA cp f') :: lW q0 zh mc' r n' w := congrArg (List.cons _) lW_s
end RWP
section RWR
variable {p : Program} {l : Launch} {e : Env} {R : Room} {s : State} {m : MethodId} {args : Array Value} {below : List Frame} {meth : Method} {c : Code} {H : Heap} {locs : List Loc} {cells slots : Nat} {Q : State → Prop}
variable {cc : ByteArray} {nM : Nat} {own : String} {D : va_G} {dA : Nat → ClassId} {a0 : Nat} {w : va_W} {pc : Nat} {ls : Array Slot} {rest : List Value}
/-- comparing references -/
theorem nv_acmp_ne (hx : p.tables.exec = Jvm.exec) (hb : c.code = cc) {x y : Nat} {off : Int} {tgt : Nat} (d : decode cc pc = .ok (.if_acmp .ne off, 3)) (ht : (pc : Int) + off = (tgt : Int))
    (kt : x ≠ y → W p l e R s m args below meth c H locs cells slots Q (F0 m tgt ls rest)) (kf : x = y → W p l e R s m args below meth c H locs cells slots Q (F0 m (pc + 3) ls rest)) : W p l e R s m args below meth c H locs cells slots Q (F0 m pc ls (.ref y :: .ref x :: rest)) :=
  lv_acmp_ne (rx := some x) (ry := some y) hx hb d ht (fun z => kt fun q => z (by rw [q])) (fun z => kf (Option.some.inj z))
theorem nv_acmp_eq (hx : p.tables.exec = Jvm.exec) (hb : c.code = cc) {x y : Nat} {off : Int} {tgt : Nat} (d : decode cc pc = .ok (.if_acmp .eq off, 3)) (ht : (pc : Int) + off = (tgt : Int))
    (kt : x = y → W p l e R s m args below meth c H locs cells slots Q (F0 m tgt ls rest)) (kf : x ≠ y → W p l e R s m args below meth c H locs cells slots Q (F0 m (pc + 3) ls rest)) : W p l e R s m args below meth c H locs cells slots Q (F0 m pc ls (.ref y :: .ref x :: rest)) :=
  lv_acmp_eq (rx := some x) (ry := some y) hx hb d ht (fun z => kt (Option.some.inj z)) (fun z => kf fun q => z (by rw [q]))
theorem va_rf_cat (v : Option Nat) : (va_rf v).category = 1 := by cases v <;> rfl
/-- a reference or none, kept and taken -/
theorem nv_astore_nQ (hx : p.tables.exec = Jvm.exec) (hb : c.code = cc) {k : Fin 4} {i nL : Nat} {v : Option Nat} {lv lv' : List (Nat × Value)} (d : decode cc pc = .ok (.astore_n k, 1)) (hi : (k : Nat) = i) (h : lv_has ls nL lv) (hn : i < nL) (hl : (i, va_rf v) :: lv.filter (fun q => !(q.1 == i) && !(q.1 + 1 == i && q.2.category == 2)) = lv')
    (kk : ∀ ls' : Array Slot, lv_has ls' nL lv' → W p l e R s m args below meth c H locs cells slots Q (F0 m (pc + 1) ls' rest)) : W p l e R s m args below meth c H locs cells slots Q (F0 m pc ls (va_rf v :: rest)) := by
  subst hl
  cases v with
  | none => exact lv_astore_nN hx hb d hi h hn rfl kk
  | some x => exact lv_astore_n hx hb d hi h hn rfl kk
theorem nv_aload_nQ (hx : p.tables.exec = Jvm.exec) (hb : c.code = cc) {k : Fin 4} {i : Nat} {v : Option Nat} (d : decode cc pc = .ok (.aload_n k, 1)) (hi : (k : Nat) = i) (h : ls[i]? = some (.val (va_rf v)))
    (kk : W p l e R s m args below meth c H locs cells slots Q (F0 m (pc + 1) ls (va_rf v :: rest))) : W p l e R s m args below meth c H locs cells slots Q (F0 m pc ls rest) := by
  cases v with
  | none => exact lv_aload_nN hx hb d hi h kk
  | some x => exact lv_aload_n hx hb d hi h kk
/-- the empty list's array -/
theorem nv_tlen {ez : Nat} (hC : nvC p s m args c cc nM own D dA a0) (zG : nvE a0 ez s) (hX : nvS D a0 w s.heap H locs) (d : decode cc pc = .ok (.arraylength, 1))
    (k : W p l e R s m args below meth c H locs cells slots Q (F0 m (pc + 1) ls (.int (nI 0) :: rest))) : W p l e R s m args below meth c H locs cells slots Q (F0 m pc ls (.ref ez :: rest)) := by
  obtain ⟨f, h⟩ := zG.2.2.2.2.2.1
  exact va_tlen hC.1 hC.2.1 h hX.2.2 rfl d k
/-- an object fits an array -/
theorem nv_any (hC : nvC p s m args c cc nM own D dA a0) (hX : nvS D a0 w s.heap H locs) {v ci : Nat} {vs : List Value} {q : vw_C} {E : String} (hv : (v, .inr (ci, vs)) ∈ w) (hc : vwCl[ci]? = some q) (hca : va_Nw (.castable q.1 E) s) : va_Any E s H v := by
  obtain ⟨k, hk⟩ := List.getElem?_of_mem hv
  obtain ⟨cell, h1, h2, h3⟩ := va_recv hC.2.2.2.2.2.1 hX.1 hc hk
  obtain ⟨k9, h9, -⟩ := Vm.findClass_spec h3
  exact ⟨cell, h1, h2, ⟨k9, h9⟩, fun comp hcomp => vb_asgC hca _ _ hcomp h3⟩
theorem i0_nn (n : Nat) (h : n < 2 ^ 31) : ¬ nI n < 0 := nI_pos h
/-- System.arraycopy of numbers -/
theorem nv_copyi (hC : nvC p s m args c cc nM own D dA a0) (hX : nvS D a0 w s.heap H locs) (hz : ls.size = nM) {idx : Nat} (h1 : Cond.methodLink own idx arraycopyName ∈ lw_all) (q0 q1 t0 : Nat) {b a n0 n1 sp dp n : Nat} {c0 : ClassId} {ty : FieldType} {f g : Nat → Int32} (ha0 : w[q0]? = some (b, .inl (c0, n0, .inl f))) (ha1 : w[q1]? = some (a, .inl (c0, n1, .inl g))) (ht : (nvT dA)[t0]? = some (c0, ty)) (hp : refKind ty = false) (hn0 : n0 < 2 ^ 31) (hn1 : n1 < 2 ^ 31) (h4 : sp + n ≤ n0) (h5 : dp + n ≤ n1) (hfit : ∀ i, i < n → fits ty (.int (f (sp + i))) = true) (hf : 1 ≤ R.frames ∧ 26 ≤ R.locals) (hro : (rest.map fun v => v.category).sum ≤ 8) (d : decode cc pc = .ok (.invokestatic idx, 3))
    (kk : ∀ (H1 : Heap) (locs1 : List Loc), nvS D a0 (w.set q1 (a, .inl (c0, n1, .inl (va_cpy f g sp dp n)))) s.heap H1 locs1 → W p l e R s m args below meth c H1 locs1 cells slots Q (F0 m (pc + 3) ls rest)) : W p l e R s m args below meth c H locs cells slots Q (F0 m pc ls (.int (nI n) :: .int (nI dp) :: .ref a :: .int (nI sp) :: .ref b :: rest)) := by
  have e1 : (nI sp).toNatClampNeg = sp := nI_clamp (by omega)
  have e2 : (nI dp).toNatClampNeg = dp := nI_clamp (by omega)
  have e3 : (nI n).toNatClampNeg = n := nI_clamp (by omega)
  have hw7 : nativeFrameWords "java/lang/System" "arraycopy" 5 = 7 := by decide
  refine va_copyi hC.1 hC.2.1 (hC.2.2.1.trans hz.symm) hC.2.2.2.1 (hC.2.2.2.2.1 _ h1) (hC.2.2.2.2.1 _ q430) (hC.2.2.2.2.1 _ q429) (hC.2.2.2.2.1 _ q77) hC.2.2.2.2.2.1 hX.1 hX.2.1 hX.2.2 q0 q1 t0 t0 ha0 ha1 ht ht hp (i0_nn sp (by omega)) (i0_nn dp (by omega)) (i0_nn n (by omega)) (by rw [e1, e3]; exact h4) (by rw [e2, e3]; exact h5) (by rw [e1, e3]; exact hfit) hf.1 (by rw [hw7]; omega) d ?_
  rw [e1, e2, e3]
  exact fun H1 locs1 h1 h2 h3 => kk H1 locs1 ⟨h1, h2, h3⟩
/-- .. of references -/
theorem nv_copyM (hC : nvC p s m args c cc nM own D dA a0) (hX : nvS D a0 w s.heap H locs) (hz : ls.size = nM) {idx : Nat} (h1 : Cond.methodLink own idx arraycopyName ∈ lw_all) (q0 q1 : Nat) {b a n0 n1 sp dp n : Nat} {f g : Nat → Option Nat} (ha0 : w[q0]? = some (b, aO dA n0 f)) (ha1 : w[q1]? = some (a, aO dA n1 g)) (hn0 : n0 < 2 ^ 31) (hn1 : n1 < 2 ^ 31) (h4 : sp + n ≤ n0) (h5 : dp + n ≤ n1) (hel : ∀ i : Nat, i < n → ∀ y : Nat, f (sp + i) = some y → va_Any "java/lang/Object" s H y) (hf : 1 ≤ R.frames ∧ 26 ≤ R.locals) (hro : (rest.map fun v => v.category).sum ≤ 8) (d : decode cc pc = .ok (.invokestatic idx, 3))
    (kk : ∀ (H1 : Heap) (locs1 : List Loc), nvS D a0 (w.set q1 (a, aO dA n1 (va_cpy f g sp dp n))) s.heap H1 locs1 → W p l e R s m args below meth c H1 locs1 cells slots Q (F0 m (pc + 3) ls rest)) : W p l e R s m args below meth c H locs cells slots Q (F0 m pc ls (.int (nI n) :: .int (nI dp) :: .ref a :: .int (nI sp) :: .ref b :: rest)) := by
  have e1 : (nI sp).toNatClampNeg = sp := nI_clamp (by omega)
  have e2 : (nI dp).toNatClampNeg = dp := nI_clamp (by omega)
  have e3 : (nI n).toNatClampNeg = n := nI_clamp (by omega)
  have hw7 : nativeFrameWords "java/lang/System" "arraycopy" 5 = 7 := by decide
  refine va_copyM hC.1 hC.2.1 (hC.2.2.1.trans hz.symm) hC.2.2.2.1 (hC.2.2.2.2.1 _ h1) (hC.2.2.2.2.1 _ q430) (hC.2.2.2.2.1 _ q429) (hC.2.2.2.2.1 _ q77) hC.2.2.2.2.2.1 hX.1 hX.2.1 hX.2.2 q0 q1 4 4 ha0 ha1 rfl rfl (i0_nn sp (by omega)) (i0_nn dp (by omega)) (i0_nn n (by omega)) (by rw [e1, e3]; exact h4) (by rw [e2, e3]; exact h5) (by rw [e1, e3]; exact hel) hf.1 (by rw [hw7]; omega) d ?_
  rw [e1, e2, e3]
  exact fun H1 locs1 h1 h2 h3 => kk H1 locs1 ⟨h1, h2, h3⟩
/-- an int array's clone -/
theorem nv_cloneI (hC : nvC p s m args c cc nM own D dA a0) {ez : Nat} (zG : nvE a0 ez s) (hX : nvS D a0 w s.heap H locs) (hz : ls.size = nM) {idx : Nat} (h1 : Cond.methodLink own idx ⟨"[I", "clone", "()Ljava/lang/Object;"⟩ ∈ lw_all) (h2 : Cond.sameMethod "[I" "java/lang/Object" "clone" "()Ljava/lang/Object;" ∈ lw_all) (h3 : Cond.native ⟨"java/lang/Object", "clone", "()Ljava/lang/Object;"⟩ ∈ lw_all) (h4 : Cond.instanceMethod ⟨"java/lang/Object", "clone", "()Ljava/lang/Object;"⟩ ∈ lw_all) (h5 : Cond.selects "[I" ⟨"[I", "clone", "()Ljava/lang/Object;"⟩ ⟨"java/lang/Object", "clone", "()Ljava/lang/Object;"⟩ ∈ lw_all) {a n : Nat} {f : Nat → Int32} (ha : (a, aI dA n f) ∈ w) (hf : 1 ≤ R.frames ∧ 26 ≤ R.locals) (hro : (rest.map fun v => v.category).sum ≤ 8) (hc : cells + 1 ≤ R.cells) (hs : slots + n ≤ R.slots) (d : decode cc pc = .ok (.invokevirtual idx, 3))
    (kk : ∀ (q : Nat) (H1 : Heap), nvS D a0 ((q, aI dA n f) :: w) s.heap H1 locs → W p l e R s m args below meth c H1 locs (cells + 1) (slots + n) Q (F0 m (pc + 3) ls (.ref q :: rest))) : W p l e R s m args below meth c H locs cells slots Q (F0 m pc ls (.ref a :: rest)) := by
  obtain ⟨q0, hq⟩ := List.getElem?_of_mem ha
  refine va_clone hC.1 hC.2.1 (hC.2.2.1.trans hz.symm) hC.2.2.2.1 (hC.2.2.2.2.1 _ h1) (hC.2.2.2.2.1 _ h2) (hC.2.2.2.2.1 _ h3) (hC.2.2.2.2.1 _ h4) (hC.2.2.2.2.1 _ h5) (zG.2.1 _ (List.mem_of_getElem? (i := 7) rfl)) hC.2.2.2.2.2.1 hX.1 hX.2.1 hX.2.2 (nv_hA hC) q0 0 hq rfl (hC.2.2.2.2.2.1.2 0 _ rfl).2 (fun i v hv => ?_) hf.1 (by omega) hc hs d fun q H1 hK hP hD hS => kk q H1 (nvS.perm ⟨hP, hD, hS⟩ List.perm_append_comm)
  rw [vp_cell_i] at hv
  have hv' : (arrV (dA 0) n (fun j => Value.int (f j))).slots[i]? = some v := hv
  unfold arrV at hv'
  simp only [Array.getElem?_ofFn] at hv'
  split at hv'
  · cases Option.some.inj hv'
    rfl
  · cases hv'
theorem nv_castI (hC : nvC p s m args c cc nM own D dA a0) (hX : nvS D a0 w s.heap H locs) {idx a n : Nat} {f : Nat → Int32} (h1 : Cond.classLink own idx "[I" ∈ lw_all) (ha : (a, aI dA n f) ∈ w) (d : decode cc pc = .ok (.checkcast idx, 3))
    (k : W p l e R s m args below meth c H locs cells slots Q (F0 m (pc + 3) ls (.ref a :: rest))) : W p l e R s m args below meth c H locs cells slots Q (F0 m pc ls (.ref a :: rest)) := by
  obtain ⟨q0, hq⟩ := List.getElem?_of_mem ha
  exact va_castA hC.1 hC.2.1 hC.2.2.2.1 (hC.2.2.2.2.1 _ h1) hX.1 q0 hq (hC.2.2.2.2.2.1.2 0 _ rfl).2 d k
/-- Object[]'s class object -/
theorem nv_getC (hC : nvC p s m args c cc nM own D dA a0) {ez mo : Nat} (zG : nvE2 a0 ez mo s) (hX : nvS D a0 w s.heap H locs) (hz : ls.size = nM) {idx : Nat} (h1 : Cond.methodLink own idx ⟨"java/lang/Object", "getClass", "()Ljava/lang/Class;"⟩ ∈ lw_all) (h2 : Cond.selects "[Ljava/lang/Object;" ⟨"java/lang/Object", "getClass", "()Ljava/lang/Class;"⟩ ⟨"java/lang/Object", "getClass", "()Ljava/lang/Class;"⟩ ∈ lw_all) (h3 : Cond.instanceMethod ⟨"java/lang/Object", "getClass", "()Ljava/lang/Class;"⟩ ∈ lw_all) (h4 : Cond.native ⟨"java/lang/Object", "getClass", "()Ljava/lang/Class;"⟩ ∈ lw_all) {a n : Nat} {f : Nat → Option Nat} (ha : (a, aO dA n f) ∈ w) (hf : 1 ≤ R.frames ∧ 26 ≤ R.locals) (hro : (rest.map fun v => v.category).sum ≤ 8) (d : decode cc pc = .ok (.invokevirtual idx, 3))
    (k : W p l e R s m args below meth c H locs cells slots Q (F0 m (pc + 3) ls (.ref mo :: rest))) : W p l e R s m args below meth c H locs cells slots Q (F0 m pc ls (.ref a :: rest)) := by
  obtain ⟨q0, hq⟩ := List.getElem?_of_mem ha
  refine va_getC hC.1 hC.2.1 (hC.2.2.1.trans hz.symm) hC.2.2.2.1 (hC.2.2.2.2.1 _ h1) zG.2.2.use (hC.2.2.2.2.1 _ h2) (hC.2.2.2.2.1 _ h3) (hC.2.2.2.2.1 _ h4) zG.2.1 ⟨_, hX.1 q0 _ hq, rfl, va_nmO (hC.2.2.2.2.2.1.2 4 _ rfl).2 (by decide)⟩ hf.1 (by omega) d k
theorem nv_ldcM (hC : nvC p s m args c cc nM own D dA a0) {ez mo : Nat} (zG : nvE2 a0 ez mo s) {idx : Nat} (h1 : Cond.classLink own idx "[Ljava/lang/Object;" ∈ lw_all) (d : decode cc pc = .ok (.ldc idx, 2))
    (k : W p l e R s m args below meth c H locs cells slots Q (F0 m (pc + 2) ls (.ref mo :: rest))) : W p l e R s m args below meth c H locs cells slots Q (F0 m pc ls rest) :=
  va_ldcM hC.1 hC.2.1 hC.2.2.2.1 (hC.2.2.2.2.1 _ h1) zG.2.1 d k
end RWR
