/-! printed by klass2.py -/
set_option maxRecDepth 100000
section CL_62_e1
variable {l : Launch} {D : va_G} {dA : Nat → ClassId} {a0 ez : Nat} {ex : va_W} {a : Nat → Nat} {rn : Nat} {rt : Nat} {trace : Int32} {len : Nat} {stand : Nat} {first : Option Nat} {allh : Option Nat} {hAll : Nat} {fault : Int32} {row : Nat → Nat} {hOf : Nat → Nat} {farOf : Nat → Option Nat} {rowsN : Nat → Nat} {rowsT : Nat → Nat} {mcW : Int32} {edW : Nat} {words : Nat} {mcR : Int32} {edR : Nat} {rdgs : Nat} {sh : Nat → Option Nat} {kind longOf letters : Nat → Nat} {fW : Nat → Option Nat} {pa la : Nat → Nat} {rWord rMany rStands rRow : Nat → Nat} {fR : Nat → Option Nat} {pr lr : Nat → Nat} {so : Nat → Option Nat} {shL : Nat → Nat} {cl : Nat → Int32} {pS lS col : Nat → Nat} {ow : va_W} {mo : Nat}
set_option maxHeartbeats 4000000 in
theorem mj_add2A  (q0 : Nat) (q1 : Nat) (cp : Nat) (f : Nat → Option Nat) (mc : Int32) (zh : Nat) (ci : Nat) (vs : List Value) (cq : vw_C) (v : Nat) (ed : Nat) (n : Nat) (h0 : (ex)[q0]? = some (zh, .inr (12, [.int mc, .ref ed, .int (nI n)]))) (h1 : (ex)[q1]? = some (ed, aO dA cp f)) (hv : (v, .inr (ci, vs)) ∈ ex) (hvz : v ≠ zh) (hve : v ≠ ed) (hc : vwCl[ci]? = some cq) (hcs : (cq.1, "java/lang/Object") ∈ nvCs) (hn : n < cp) (hcp : cp ≤ 10) : nMt l D dA a0 yJ2_add_2 cJ2_add_2 4 (none) 1 12 0 0 (nvE a0 ez) [.ref zh, .ref v, .ref ed, .int (nI n)] (ex) (nQv D a0 (fun (_ : Unit) => True) (fun (_ : Unit) => jW dA q0 q1 zh mc ed (n + 1) cp (va_up f n (some v)) (ex))) := by
  refine nv_start (by decide) (Nat.le_of_ble_eq_true rfl) fun zp ze s zm zlo zme zcd ls zC zr zk znm hX zG hl => ?_
  have zx := zC.1
  have zb := zC.2.1
  generalize zargs : ([.ref zh, .ref v, .ref ed, .int (nI n)] : List Value).toArray = zar at zC ⊢
  generalize zQ : MQ zlo _ zar s _ _ _ = Q
  have hX : nvS D a0 (ex) s.heap s.heap [] := hX
  have hl : lv_has ls 4 [(0, .ref zh), (1, .ref v), (2, .ref ed), (3, .int (nI n))] := hl
  obtain ⟨H, zH⟩ : ∃ H, H = s.heap := ⟨_, rfl⟩
  have hX : nvS D a0 (ex) s.heap H [] := by rw [zH]; exact hX
  rw [show W zp l ze (rm_ 1 12 0 0) s zm zar zlo zme zcd s.heap [] 0 0 Q = W zp l ze (rm_ 1 12 0 0) s zm zar zlo zme zcd H [] 0 0 Q by rw [zH]]
  generalize ([] : List Loc) = locs at hX ⊢
  have hne := jW_q h0 h1
  have hX : nvS D a0 (jW dA q0 q1 zh mc ed n cp f ex) s.heap H locs := hX.as (jW_0 h0 h1)
  refine lv_iload_n zx zb dJ2_add_2_0 rfl (lv_at hl 3 rfl) ?_
  refine lv_aload_n zx zb dJ2_add_2_1 rfl (lv_at hl 2 rfl) ?_
  refine nv_alen zC hX q1 4 (jW_a1 hne h1) rfl dJ2_add_2_2 ?_
  refine nv_icmp_ne (tgt := 11) zx zb (by omega) (by omega) dJ2_add_2_3 (by decide) (fun c3 => ?_) (fun c3 => ?_)
  · refine lv_aload_n zx zb dJ2_add_2_11 rfl (lv_at hl 2 rfl) ?_
    refine lv_iload_n zx zb dJ2_add_2_12 rfl (lv_at hl 3 rfl) ?_
    refine lv_aload_n zx zb dJ2_add_2_13 rfl (lv_at hl 1 rfl) ?_
    obtain ⟨yk, hyk⟩ := List.getElem?_of_mem (jW_m hv h0 h1 hne rfl rfl hvz hve)
    refine nv_aast zC hX q1 4 yk (jW_a1 hne h1) rfl hyk hc (zG.2.1 _ hcs) (by omega) (by omega) dJ2_add_2_14 (fun H locs hX => ?_)
    have hX : nvS D a0 (jW dA q0 q1 zh mc ed n cp (va_up f n (some v)) ex) s.heap H locs := hX.as jW_s1
    refine lv_aload_n zx zb dJ2_add_2_15 rfl (lv_at hl 0 rfl) ?_
    refine lv_iload_n zx zb dJ2_add_2_16 rfl (lv_at hl 3 rfl) ?_
    refine lv_iconst (v := nI 1) zx zb dJ2_add_2_17 (by decide) ?_
    refine nv_iadd zx zb dJ2_add_2_18 ?_
    refine nv_put zC hX in_J2 tyJ2 tyJ2_ok nmJ2 q0 (jW_a0 hne h0) rfl 2 (by decide) q116 (fun _ h => h) rfl rfl rfl (Nat.le_of_ble_eq_true rfl) (w' := jW dA q0 q1 zh mc ed (n + 1) cp (va_up f n (some v)) ex) (jW_s0 hne) dJ2_add_2_19 (fun H locs hX => ?_)
    rw [← zQ]
    exact nv_endv zC zr zk () hX (by first | rfl | trivial) (by omega) (by omega) dJ2_add_2_22
  · exact absurd c3 (by omega)

set_option maxHeartbeats 4000000 in
theorem mj_addA  (q0 : Nat) (q1 : Nat) (cp : Nat) (f : Nat → Option Nat) (mc : Int32) (zh : Nat) (ed : Nat) (n : Nat) (ci : Nat) (vs : List Value) (cq : vw_C) (v : Nat) (h0 : (ex)[q0]? = some (zh, .inr (12, [.int mc, .ref ed, .int (nI n)]))) (h1 : (ex)[q1]? = some (ed, aO dA cp f)) (hv : (v, .inr (ci, vs)) ∈ ex) (hvz : v ≠ zh) (hve : v ≠ ed) (hc : vwCl[ci]? = some cq) (hcs : (cq.1, "java/lang/Object") ∈ nvCs) (hn : n < cp) (hcp : cp ≤ 10) : nMt l D dA a0 yJ2_add cJ2_add 2 (some .boolean) 2 35 0 0 (nvE a0 ez) [.ref zh, .ref v] (ex) (nQi D a0 (fun (r : Int32) (_ : Unit) => r = nB true) (fun (_ : Unit) => jW dA q0 q1 zh (mc + nI 1) ed (n + 1) cp (va_up f n (some v)) (ex))) := by
  refine nv_start (by decide) (Nat.le_of_ble_eq_true rfl) fun zp ze s zm zlo zme zcd ls zC zr zk znm hX zG hl => ?_
  have zx := zC.1
  have zb := zC.2.1
  generalize zargs : ([.ref zh, .ref v] : List Value).toArray = zar at zC ⊢
  generalize zQ : MQ zlo _ zar s _ _ _ = Q
  have hX : nvS D a0 (ex) s.heap s.heap [] := hX
  have hl : lv_has ls 2 [(0, .ref zh), (1, .ref v)] := hl
  obtain ⟨H, zH⟩ : ∃ H, H = s.heap := ⟨_, rfl⟩
  have hX : nvS D a0 (ex) s.heap H [] := by rw [zH]; exact hX
  rw [show W zp l ze (rm_ 2 35 0 0) s zm zar zlo zme zcd s.heap [] 0 0 Q = W zp l ze (rm_ 2 35 0 0) s zm zar zlo zme zcd H [] 0 0 Q by rw [zH]]
  generalize ([] : List Loc) = locs at hX ⊢
  have hne := jW_q h0 h1
  have hX : nvS D a0 (jW dA q0 q1 zh mc ed n cp f ex) s.heap H locs := hX.as (jW_0 h0 h1)
  refine lv_aload_n zx zb dJ2_add_0 rfl (lv_at hl 0 rfl) ?_
  refine lv_dup zx zb dJ2_add_1 rfl ?_
  refine nv_get zC hX in_J2 q0 (jW_a0 hne h0) rfl 0 (by decide) q118 (u_same (zC.2.2.2.2.1 _ q119)) rfl dJ2_add_2 ?_
  refine lv_iconst (v := nI 1) zx zb dJ2_add_5 (by decide) ?_
  refine lv_iadd zx zb dJ2_add_6 ?_
  refine nv_put zC hX in_J2 tyJ2 tyJ2_ok nmJ2 q0 (jW_a0 hne h0) rfl 0 (by decide) q118 (u_same (zC.2.2.2.2.1 _ q119)) rfl rfl rfl (Nat.le_of_ble_eq_true rfl) (w' := jW dA q0 q1 zh (mc + (nI 1)) ed n cp f ex) (jW_s0 hne) dJ2_add_7 (fun H locs hX => ?_)
  refine lv_aload_n zx zb dJ2_add_10 rfl (lv_at hl 0 rfl) ?_
  refine lv_aload_n zx zb dJ2_add_11 rfl (lv_at hl 1 rfl) ?_
  refine lv_aload_n zx zb dJ2_add_12 rfl (lv_at hl 0 rfl) ?_
  refine nv_get zC hX in_J2 q0 (jW_a0 hne h0) rfl 1 (by decide) q115 (fun _ h => h) rfl dJ2_add_13 ?_
  refine lv_aload_n zx zb dJ2_add_16 rfl (lv_at hl 0 rfl) ?_
  refine nv_get zC hX in_J2 q0 (jW_a0 hne h0) rfl 2 (by decide) q116 (fun _ h => h) rfl dJ2_add_17 ?_
  refine nv_kv zC hX (nv_rV (n := 3) (As := [.ref v, .ref ed, .int (nI n)]) (rest := []) (q0 := q0) zC hX (mj_add2A (q0 := q0) (q1 := q1) (cp := cp) (f := f) (mc := mc + (nI 1)) (zh := zh) (ci := ci) (vs := vs) (cq := cq) (v := v) (ed := ed) (n := n) (h0 := (jW_a0 hne h0)) (h1 := (jW_a1 hne h1)) (hv := (jW_m hv h0 h1 hne rfl rfl hvz hve)) (hvz := (by first | assumption | omega)) (hve := (by first | assumption | omega)) (hc := (by first | assumption | omega)) (hcs := (by first | assumption | omega)) (hn := hn) (hcp := hcp)) (nvE_b a0 ez) (nvE_keep zG hX) (jW_a0 hne h0) rfl q861 q863 qs24 q62 q864 (by decide +kernel) rfl ⟨Nat.le_of_ble_eq_true rfl, Nat.le_of_ble_eq_true rfl⟩ hl.1 (Nat.le_of_ble_eq_true rfl) dJ2_add_20 ⟨by first | exact Nat.le_of_ble_eq_true rfl | omega, by first | exact Nat.le_of_ble_eq_true rfl | omega⟩) (fun u H locs hp hX => ?_)
  have hX : nvS D a0 (jW dA q0 q1 zh (mc + (nI 1)) ed (n + 1) cp (va_up f n (some v)) (jW dA q0 q1 zh (mc + (nI 1)) ed n cp f ex)) s.heap H locs := hX
  refine W.cs (cells' := 0) (slots' := 0) (Nat.add_zero _) (Nat.add_zero _) ?_
  have hX : nvS D a0 (jW dA q0 q1 zh (mc + nI 1) ed (n + 1) cp (va_up f n (some v)) ex) s.heap H locs := hX.as (jW_jW hne)
  refine lv_iconst (v := nI 1) zx zb dJ2_add_23 (by decide) ?_
  rw [← zQ]
  refine nv_as (y := nB true) rfl ?_
  exact nv_endz zC zr zk () hX (by first | rfl | trivial) (by omega) (by omega) dJ2_add_24

set_option maxHeartbeats 4000000 in
theorem mj_grow2  (q0 : Nat) (mc : Int32) (n : Nat) (zh : Nat) (k_ : Nat) (h0 : (ex)[q0]? = some (zh, .inr (12, [.int mc, .ref ez, .int (nI n)]))) (hk : k_ ≤ 10) : nMt l D dA a0 yJ2_grow_2 cJ2_grow_2 4 (some (.array (.object "java/lang/Object"))) 1 30 1 10 (nvE a0 ez) [.ref zh, .int (nI k_)] (ex) (nQr D a0 (fun (_ : Unit) => True) (fun (_ : Unit) (ra : Nat) => (ra, aO dA 10 (fun _ => none)) :: lW q0 zh mc ra n (ex))) := by
  refine nv_start (by decide) (Nat.le_of_ble_eq_true rfl) fun zp ze s zm zlo zme zcd ls zC zr zk znm hX zG hl => ?_
  have zx := zC.1
  have zb := zC.2.1
  generalize zargs : ([.ref zh, .int (nI k_)] : List Value).toArray = zar at zC ⊢
  generalize zQ : MQ zlo _ zar s _ _ _ = Q
  have hX : nvS D a0 (ex) s.heap s.heap [] := hX
  have hl : lv_has ls 4 [(0, .ref zh), (1, .int (nI k_))] := hl
  obtain ⟨H, zH⟩ : ∃ H, H = s.heap := ⟨_, rfl⟩
  have hX : nvS D a0 (ex) s.heap H [] := by rw [zH]; exact hX
  rw [show W zp l ze (rm_ 1 30 1 10) s zm zar zlo zme zcd s.heap [] 0 0 Q = W zp l ze (rm_ 1 30 1 10) s zm zar zlo zme zcd H [] 0 0 Q by rw [zH]]
  generalize ([] : List Loc) = locs at hX ⊢
  have hX : nvS D a0 (lW q0 zh mc ez n ex) s.heap H locs := hX.as (set_me h0)
  refine lv_aload_n zx zb dJ2_grow_2_0 rfl (lv_at hl 0 rfl) ?_
  refine nv_get zC hX in_J2 q0 (lW_a h0) rfl 1 (by decide) q115 (fun _ h => h) rfl dJ2_grow_2_1 ?_
  refine nv_tlen zC zG hX dJ2_grow_2_4 ?_
  refine lv_istore_n (lv' := [(2, .int (nI 0)), (0, .ref zh), (1, .int (nI k_))]) zx zb dJ2_grow_2_5 rfl hl (by decide) rfl (fun ls hl => ?_)
  refine lv_iload_n zx zb dJ2_grow_2_6 rfl (lv_at hl 0 rfl) ?_
  refine nv_if_gt (tgt := 20) zx zb (by omega) dJ2_grow_2_7 (by decide) (fun c7 => ?_) (fun c7 => ?_)
  · exact absurd c7 (Nat.lt_irrefl 0)
  · refine lv_aload_n zx zb dJ2_grow_2_10 rfl (lv_at hl 1 rfl) ?_
    refine nv_get zC hX in_J2 q0 (lW_a h0) rfl 1 (by decide) q115 (fun _ h => h) rfl dJ2_grow_2_11 ?_
    refine va_gets zx zb zG.2.2.2.2.1 hX.2.2 zC.2.2.2.1 (zC.2.2.2.2.1 _ q113) (fun _ h => h) dJ2_grow_2_14 ?_
    refine nv_acmp_eq (x := ez) (y := ez) (tgt := 45) zx zb dJ2_grow_2_17 (by decide) (fun c17 => ?_) (fun c17 => ?_)
    · refine lv_aload_n zx zb dJ2_grow_2_45 rfl (lv_at hl 1 rfl) ?_
      refine lv_bipush (v := nI 10) zx zb dJ2_grow_2_46 (by decide) ?_
      refine lv_iload_n zx zb dJ2_grow_2_48 rfl (lv_at hl 2 rfl) ?_
      refine nv_max zC hl.1 q914 (by decide) (by omega) ⟨Nat.le_of_ble_eq_true rfl, Nat.le_of_ble_eq_true rfl⟩ (Nat.le_of_ble_eq_true rfl) ⟨by first | exact Nat.le_of_ble_eq_true rfl | omega, by first | exact Nat.le_of_ble_eq_true rfl | omega⟩ dJ2_grow_2_49 ?_
      refine nv_as (show nI (max 10 k_) = nI 10 from (congrArg nI (Nat.max_eq_left hk))) ?_
      refine nv_newq zC (l1 := []) (l2 := lW q0 zh mc ez n ex) hX (E := "java/lang/Object") 4 rfl zG.2.2.1 q832 (by decide) (by first | exact Nat.le_of_ble_eq_true rfl | omega) (by first | exact Nat.le_of_ble_eq_true rfl | omega) dJ2_grow_2_52 (fun r_1 H hX => ?_)
      refine lv_dup_x1 zx zb dJ2_grow_2_55 rfl rfl ?_
      refine nv_put zC hX in_J2 tyJ2 tyJ2_ok nmJ2 (q0 + 1) (lW_a h0) rfl 1 (by decide) q115 (fun _ h => h) rfl rfl rfl (Nat.le_of_ble_eq_true rfl) (w' := (r_1, aO dA 10 (fun _ => none)) :: lW q0 zh mc r_1 n ex) (congrArg (List.cons _) (lW_s)) dJ2_grow_2_56 (fun H locs hX => ?_)
      rw [← zQ]
      exact nv_endr zC zr (Or.inr ⟨_, rfl⟩) zk () hX (by first | rfl | trivial) (by omega) (by omega) dJ2_grow_2_59
    · exact absurd rfl c17

set_option maxHeartbeats 4000000 in
theorem mj_grow  (q0 : Nat) (mc : Int32) (n : Nat) (zh : Nat) (h0 : (ex)[q0]? = some (zh, .inr (12, [.int mc, .ref ez, .int (nI n)]))) (hk : n + 1 ≤ 10) : nMt l D dA a0 yJ2_grow cJ2_grow 1 (some (.array (.object "java/lang/Object"))) 2 53 1 10 (nvE a0 ez) [.ref zh] (ex) (nQr D a0 (fun (_ : Unit) => True) (fun (_ : Unit) (ra : Nat) => (ra, aO dA 10 (fun _ => none)) :: lW q0 zh mc ra n (ex))) := by
  refine nv_start (by decide) (Nat.le_of_ble_eq_true rfl) fun zp ze s zm zlo zme zcd ls zC zr zk znm hX zG hl => ?_
  have zx := zC.1
  have zb := zC.2.1
  generalize zargs : ([.ref zh] : List Value).toArray = zar at zC ⊢
  generalize zQ : MQ zlo _ zar s _ _ _ = Q
  have hX : nvS D a0 (ex) s.heap s.heap [] := hX
  have hl : lv_has ls 1 [(0, .ref zh)] := hl
  obtain ⟨H, zH⟩ : ∃ H, H = s.heap := ⟨_, rfl⟩
  have hX : nvS D a0 (ex) s.heap H [] := by rw [zH]; exact hX
  rw [show W zp l ze (rm_ 2 53 1 10) s zm zar zlo zme zcd s.heap [] 0 0 Q = W zp l ze (rm_ 2 53 1 10) s zm zar zlo zme zcd H [] 0 0 Q by rw [zH]]
  generalize ([] : List Loc) = locs at hX ⊢
  have hX : nvS D a0 (lW q0 zh mc ez n ex) s.heap H locs := hX.as (set_me h0)
  refine lv_aload_n zx zb dJ2_grow_0 rfl (lv_at hl 0 rfl) ?_
  refine lv_aload_n zx zb dJ2_grow_1 rfl (lv_at hl 0 rfl) ?_
  refine nv_get zC hX in_J2 q0 (lW_a h0) rfl 2 (by decide) q116 (fun _ h => h) rfl dJ2_grow_2 ?_
  refine lv_iconst (v := nI 1) zx zb dJ2_grow_5 (by decide) ?_
  refine nv_iadd zx zb dJ2_grow_6 ?_
  refine nv_kr zC hX (nv_rV (n := 1) (As := [.int (nI (n + 1))]) (rest := []) (q0 := q0) zC hX (mj_grow2 (q0 := q0) (mc := mc) (n := n) (zh := zh) (k_ := n + 1) (h0 := (lW_a h0)) (hk := (by first | assumption | omega))) (nvE_b a0 ez) (nvE_keep zG hX) (lW_a h0) rfl q869 q871 qs26 q62 q872 (by decide +kernel) rfl ⟨Nat.le_of_ble_eq_true rfl, Nat.le_of_ble_eq_true rfl⟩ hl.1 (Nat.le_of_ble_eq_true rfl) dJ2_grow_7 ⟨by first | exact Nat.le_of_ble_eq_true rfl | omega, by first | exact Nat.le_of_ble_eq_true rfl | omega⟩) (fun u ra H locs hp hX => ?_)
  obtain ⟨ra_7, rfl⟩ : ∃ z, z = ra := ⟨_, rfl⟩
  have hX : nvS D a0 ((ra_7, aO dA 10 (fun _ => none)) :: lW q0 zh mc ra_7 n (lW q0 zh mc ez n ex)) s.heap H locs := hX
  have hX : nvS D a0 ((ra_7, aO dA 10 (fun _ => none)) :: lW q0 zh mc ra_7 n ex) s.heap H locs := hX.as (congrArg (List.cons _) lW_lW)
  rw [← zQ]
  exact nv_endr zC zr (Or.inr ⟨_, rfl⟩) zk () hX (by first | rfl | trivial) (by omega) (by omega) dJ2_grow_10

set_option maxHeartbeats 4000000 in
theorem mj_add2B  (q0 : Nat) (mc : Int32) (zh : Nat) (ci : Nat) (vs : List Value) (cq : vw_C) (v : Nat) (zed_ : Nat) (zn_ : Nat) (h0 : (ex)[q0]? = some (zh, .inr (12, [.int mc, .ref ez, .int (nI 0)]))) (hv : (v, .inr (ci, vs)) ∈ ex) (hvz : v ≠ zh) (hc : vwCl[ci]? = some cq) (hcs : (cq.1, "java/lang/Object") ∈ nvCs) : nMt l D dA a0 yJ2_add_2 cJ2_add_2 4 (none) 3 73 1 10 (nvE a0 ez) [.ref zh, .ref v, .ref ez, .int (nI 0)] (ex) (nQv D a0 (fun (ra : Nat) => True) (fun (ra : Nat) => (ra, aO dA 10 (va_up (fun _ => none) 0 (some v))) :: lW q0 zh mc ra 1 (ex))) := by
  refine nv_start (by decide) (Nat.le_of_ble_eq_true rfl) fun zp ze s zm zlo zme zcd ls zC zr zk znm hX zG hl => ?_
  have zx := zC.1
  have zb := zC.2.1
  generalize zargs : ([.ref zh, .ref v, .ref ez, .int (nI 0)] : List Value).toArray = zar at zC ⊢
  generalize zQ : MQ zlo _ zar s _ _ _ = Q
  have hX : nvS D a0 (ex) s.heap s.heap [] := hX
  have hl : lv_has ls 4 [(0, .ref zh), (1, .ref v), (2, .ref ez), (3, .int (nI 0))] := hl
  obtain ⟨H, zH⟩ : ∃ H, H = s.heap := ⟨_, rfl⟩
  have hX : nvS D a0 (ex) s.heap H [] := by rw [zH]; exact hX
  rw [show W zp l ze (rm_ 3 73 1 10) s zm zar zlo zme zcd s.heap [] 0 0 Q = W zp l ze (rm_ 3 73 1 10) s zm zar zlo zme zcd H [] 0 0 Q by rw [zH]]
  generalize ([] : List Loc) = locs at hX ⊢
  have hX : nvS D a0 (lW q0 zh mc ez 0 ex) s.heap H locs := hX.as (set_me h0)
  refine lv_iload_n zx zb dJ2_add_2_0 rfl (lv_at hl 3 rfl) ?_
  refine lv_aload_n zx zb dJ2_add_2_1 rfl (lv_at hl 2 rfl) ?_
  refine nv_tlen zC zG hX dJ2_add_2_2 ?_
  refine nv_icmp_ne (tgt := 11) zx zb (by omega) (by omega) dJ2_add_2_3 (by decide) (fun c3 => ?_) (fun c3 => ?_)
  · exact absurd rfl c3
  · refine lv_aload_n zx zb dJ2_add_2_6 rfl (lv_at hl 0 rfl) ?_
    refine nv_kr zC hX (nv_rV (n := 0) (As := []) (rest := []) (q0 := q0) zC hX (mj_grow (q0 := q0) (mc := mc) (n := 0) (zh := zh) (h0 := (lW_a h0)) (hk := (by decide))) (nvE_b a0 ez) (nvE_keep zG hX) (lW_a h0) rfl q865 q867 qs25 q62 q868 (by decide +kernel) rfl ⟨Nat.le_of_ble_eq_true rfl, Nat.le_of_ble_eq_true rfl⟩ hl.1 (Nat.le_of_ble_eq_true rfl) dJ2_add_2_7 ⟨by first | exact Nat.le_of_ble_eq_true rfl | omega, by first | exact Nat.le_of_ble_eq_true rfl | omega⟩) (fun u ra H locs hp hX => ?_)
    obtain ⟨ra_7, rfl⟩ : ∃ z, z = ra := ⟨_, rfl⟩
    have hX : nvS D a0 ((ra_7, aO dA 10 (fun _ => none)) :: lW q0 zh mc ra_7 0 (lW q0 zh mc ez 0 ex)) s.heap H locs := hX
    have hX : nvS D a0 ((ra_7, aO dA 10 (fun _ => none)) :: lW q0 zh mc ra_7 0 ex) s.heap H locs := hX.as (congrArg (List.cons _) lW_lW)
    have hvB : (v, .inr (ci, vs)) ∈ ((ra_7, aO dA 10 (fun _ => none)) :: lW q0 zh mc ra_7 0 ex) := List.mem_cons_of_mem _ (set_kp h0 _ hv hvz)
    have hvr : v ≠ ra_7 := hX.un.ne hvB List.mem_cons_self ni_ne
    have h0' : (((ra_7, aO dA 10 (fun _ => none)) :: lW q0 zh mc ra_7 0 ex))[q0 + 1]? = some (zh, .inr (12, [.int mc, .ref ra_7, .int (nI 0)])) := lW_a h0
    have h1' : (((ra_7, aO dA 10 (fun _ => none)) :: lW q0 zh mc ra_7 0 ex))[0]? = some (ra_7, aO dA 10 (fun _ => none)) := rfl
    have hne := jW_q h0' h1'
    have hX : nvS D a0 (jW dA (q0 + 1) 0 zh mc ra_7 0 10 (fun _ => none) ((ra_7, aO dA 10 (fun _ => none)) :: lW q0 zh mc ra_7 0 ex)) s.heap H locs := hX.as (jW_0 h0' h1')
    refine lv_astore_n (lv' := [(2, .ref ra_7), (0, .ref zh), (1, .ref v), (3, .int (nI 0))]) zx zb dJ2_add_2_10 rfl hl (by decide) rfl (fun ls hl => ?_)
    refine lv_aload_n zx zb dJ2_add_2_11 rfl (lv_at hl 0 rfl) ?_
    refine lv_iload_n zx zb dJ2_add_2_12 rfl (lv_at hl 3 rfl) ?_
    refine lv_aload_n zx zb dJ2_add_2_13 rfl (lv_at hl 2 rfl) ?_
    obtain ⟨yk, hyk⟩ := List.getElem?_of_mem (jW_m hvB h0' h1' hne rfl rfl hvz hvr)
    refine nv_aast zC hX 0 4 yk (jW_a1 hne h1') rfl hyk hc (zG.2.1 _ hcs) (by decide) (by omega) dJ2_add_2_14 (fun H locs hX => ?_)
    have hX : nvS D a0 (jW dA (q0 + 1) 0 zh mc ra_7 0 10 (va_up (fun _ => none) 0 (some v)) ((ra_7, aO dA 10 (fun _ => none)) :: lW q0 zh mc ra_7 0 ex)) s.heap H locs := hX.as jW_s1
    refine lv_aload_n zx zb dJ2_add_2_15 rfl (lv_at hl 1 rfl) ?_
    refine lv_iload_n zx zb dJ2_add_2_16 rfl (lv_at hl 3 rfl) ?_
    refine lv_iconst (v := nI 1) zx zb dJ2_add_2_17 (by decide) ?_
    refine nv_iadd zx zb dJ2_add_2_18 ?_
    refine nv_put zC hX in_J2 tyJ2 tyJ2_ok nmJ2 (q0 + 1) (jW_a0 hne h0') rfl 2 (by decide) q116 (fun _ h => h) rfl rfl rfl (Nat.le_of_ble_eq_true rfl) (w' := jW dA (q0 + 1) 0 zh mc ra_7 (0 + 1) 10 (va_up (fun _ => none) 0 (some v)) ((ra_7, aO dA 10 (fun _ => none)) :: lW q0 zh mc ra_7 0 ex)) (jW_s0 hne) dJ2_add_2_19 (fun H locs hX => ?_)
    have hX := hX.as jW_B
    rw [← zQ]
    exact nv_endv zC zr zk ra_7 hX (by first | rfl | trivial) (by omega) (by omega) dJ2_add_2_22

set_option maxHeartbeats 4000000 in
theorem mj_addB  (q0 : Nat) (mc : Int32) (zh : Nat) (ci : Nat) (vs : List Value) (cq : vw_C) (v : Nat) (h0 : (ex)[q0]? = some (zh, .inr (12, [.int mc, .ref ez, .int (nI 0)]))) (hv : (v, .inr (ci, vs)) ∈ ex) (hvz : v ≠ zh) (hc : vwCl[ci]? = some cq) (hcs : (cq.1, "java/lang/Object") ∈ nvCs) : nMt l D dA a0 yJ2_add cJ2_add 2 (some .boolean) 4 96 1 10 (nvE a0 ez) [.ref zh, .ref v] (ex) (nQi D a0 (fun (r : Int32) (ra : Nat) => r = nB true) (fun (ra : Nat) => (ra, aO dA 10 (va_up (fun _ => none) 0 (some v))) :: lW q0 zh (mc + nI 1) ra 1 (ex))) := by
  refine nv_start (by decide) (Nat.le_of_ble_eq_true rfl) fun zp ze s zm zlo zme zcd ls zC zr zk znm hX zG hl => ?_
  have zx := zC.1
  have zb := zC.2.1
  generalize zargs : ([.ref zh, .ref v] : List Value).toArray = zar at zC ⊢
  generalize zQ : MQ zlo _ zar s _ _ _ = Q
  have hX : nvS D a0 (ex) s.heap s.heap [] := hX
  have hl : lv_has ls 2 [(0, .ref zh), (1, .ref v)] := hl
  obtain ⟨H, zH⟩ : ∃ H, H = s.heap := ⟨_, rfl⟩
  have hX : nvS D a0 (ex) s.heap H [] := by rw [zH]; exact hX
  rw [show W zp l ze (rm_ 4 96 1 10) s zm zar zlo zme zcd s.heap [] 0 0 Q = W zp l ze (rm_ 4 96 1 10) s zm zar zlo zme zcd H [] 0 0 Q by rw [zH]]
  generalize ([] : List Loc) = locs at hX ⊢
  have hX : nvS D a0 (lW q0 zh mc ez 0 ex) s.heap H locs := hX.as (set_me h0)
  refine lv_aload_n zx zb dJ2_add_0 rfl (lv_at hl 0 rfl) ?_
  refine lv_dup zx zb dJ2_add_1 rfl ?_
  refine nv_get zC hX in_J2 q0 (lW_a h0) rfl 0 (by decide) q118 (u_same (zC.2.2.2.2.1 _ q119)) rfl dJ2_add_2 ?_
  refine lv_iconst (v := nI 1) zx zb dJ2_add_5 (by decide) ?_
  refine lv_iadd zx zb dJ2_add_6 ?_
  refine nv_put zC hX in_J2 tyJ2 tyJ2_ok nmJ2 q0 (lW_a h0) rfl 0 (by decide) q118 (u_same (zC.2.2.2.2.1 _ q119)) rfl rfl rfl (Nat.le_of_ble_eq_true rfl) (w' := lW q0 zh (mc + (nI 1)) ez 0 ex) lW_s dJ2_add_7 (fun H locs hX => ?_)
  refine lv_aload_n zx zb dJ2_add_10 rfl (lv_at hl 0 rfl) ?_
  refine lv_aload_n zx zb dJ2_add_11 rfl (lv_at hl 1 rfl) ?_
  refine lv_aload_n zx zb dJ2_add_12 rfl (lv_at hl 0 rfl) ?_
  refine nv_get zC hX in_J2 q0 (lW_a h0) rfl 1 (by decide) q115 (fun _ h => h) rfl dJ2_add_13 ?_
  refine lv_aload_n zx zb dJ2_add_16 rfl (lv_at hl 0 rfl) ?_
  refine nv_get zC hX in_J2 q0 (lW_a h0) rfl 2 (by decide) q116 (fun _ h => h) rfl dJ2_add_17 ?_
  refine nv_kv zC hX (nv_rV (n := 3) (As := [.ref v, .ref ez, .int (nI 0)]) (rest := []) (q0 := q0) zC hX (mj_add2B (q0 := q0) (mc := mc + nI 1) (zh := zh) (ci := ci) (vs := vs) (cq := cq) (v := v) (zed_ := ez) (zn_ := 0) (h0 := (lW_a h0)) (hv := (set_kp h0 _ hv hvz)) (hvz := (by first | assumption | omega)) (hc := (by first | assumption | omega)) (hcs := (by first | assumption | omega))) (nvE_b a0 ez) (nvE_keep zG hX) (lW_a h0) rfl q861 q863 qs24 q62 q864 (by decide +kernel) rfl ⟨Nat.le_of_ble_eq_true rfl, Nat.le_of_ble_eq_true rfl⟩ hl.1 (Nat.le_of_ble_eq_true rfl) dJ2_add_20 ⟨by first | exact Nat.le_of_ble_eq_true rfl | omega, by first | exact Nat.le_of_ble_eq_true rfl | omega⟩) (fun u H locs hp hX => ?_)
  obtain ⟨ra_1, rfl⟩ : ∃ z, z = u := ⟨_, rfl⟩
  have hX : nvS D a0 ((ra_1, aO dA 10 (va_up (fun _ => none) 0 (some v))) :: lW q0 zh (mc + nI 1) ra_1 1 (lW q0 zh (mc + (nI 1)) ez 0 ex)) s.heap H locs := hX
  have hX : nvS D a0 ((ra_1, aO dA 10 (va_up (fun _ => none) 0 (some v))) :: lW q0 zh (mc + nI 1) ra_1 1 ex) s.heap H locs := hX.as (congrArg (List.cons _) lW_lW)
  refine lv_iconst (v := nI 1) zx zb dJ2_add_23 (by decide) ?_
  rw [← zQ]
  refine nv_as (y := nB true) rfl ?_
  exact nv_endz zC zr zk ra_1 hX (by first | rfl | trivial) (by omega) (by omega) dJ2_add_24

set_option maxHeartbeats 4000000 in
theorem mj_clearA  (q0 : Nat) (q1 : Nat) (cp : Nat) (f : Nat → Option Nat) (mc : Int32) (ed : Nat) (n : Nat) (zh : Nat) (h0 : (ex)[q0]? = some (zh, .inr (12, [.int mc, .ref ed, .int (nI n)]))) (h1 : (ex)[q1]? = some (ed, aO dA cp f)) (hn : n ≤ cp) (hcp : cp ≤ 10) : nMt l D dA a0 yJ2_clear cJ2_clear 4 (none) 1 12 0 0 (nvE a0 ez) [.ref zh] (ex) (nQv D a0 (fun (f' : Nat → Option Nat) => True) (fun (f' : Nat → Option Nat) => jW dA q0 q1 zh (mc + nI 1) ed 0 cp f' (ex))) := by
  refine nv_start (by decide) (Nat.le_of_ble_eq_true rfl) fun zp ze s zm zlo zme zcd ls zC zr zk znm hX zG hl => ?_
  have zx := zC.1
  have zb := zC.2.1
  generalize zargs : ([.ref zh] : List Value).toArray = zar at zC ⊢
  generalize zQ : MQ zlo _ zar s _ _ _ = Q
  have hX : nvS D a0 (ex) s.heap s.heap [] := hX
  have hl : lv_has ls 4 [(0, .ref zh)] := hl
  obtain ⟨H, zH⟩ : ∃ H, H = s.heap := ⟨_, rfl⟩
  have hX : nvS D a0 (ex) s.heap H [] := by rw [zH]; exact hX
  rw [show W zp l ze (rm_ 1 12 0 0) s zm zar zlo zme zcd s.heap [] 0 0 Q = W zp l ze (rm_ 1 12 0 0) s zm zar zlo zme zcd H [] 0 0 Q by rw [zH]]
  generalize ([] : List Loc) = locs at hX ⊢
  have hne := jW_q h0 h1
  have hX : nvS D a0 (jW dA q0 q1 zh mc ed n cp f ex) s.heap H locs := hX.as (jW_0 h0 h1)
  refine lv_aload_n zx zb dJ2_clear_0 rfl (lv_at hl 0 rfl) ?_
  refine lv_dup zx zb dJ2_clear_1 rfl ?_
  refine nv_get zC hX in_J2 q0 (jW_a0 hne h0) rfl 0 (by decide) q118 (u_same (zC.2.2.2.2.1 _ q119)) rfl dJ2_clear_2 ?_
  refine lv_iconst (v := nI 1) zx zb dJ2_clear_5 (by decide) ?_
  refine lv_iadd zx zb dJ2_clear_6 ?_
  refine nv_put zC hX in_J2 tyJ2 tyJ2_ok nmJ2 q0 (jW_a0 hne h0) rfl 0 (by decide) q118 (u_same (zC.2.2.2.2.1 _ q119)) rfl rfl rfl (Nat.le_of_ble_eq_true rfl) (w' := jW dA q0 q1 zh (mc + (nI 1)) ed n cp f ex) (jW_s0 hne) dJ2_clear_7 (fun H locs hX => ?_)
  refine lv_aload_n zx zb dJ2_clear_10 rfl (lv_at hl 0 rfl) ?_
  refine nv_get zC hX in_J2 q0 (jW_a0 hne h0) rfl 1 (by decide) q115 (fun _ h => h) rfl dJ2_clear_11 ?_
  refine lv_astore_n (lv' := [(1, .ref ed), (0, .ref zh)]) zx zb dJ2_clear_14 rfl hl (by decide) rfl (fun ls hl => ?_)
  refine lv_aload_n zx zb dJ2_clear_15 rfl (lv_at hl 1 rfl) ?_
  refine nv_get zC hX in_J2 q0 (jW_a0 hne h0) rfl 2 (by decide) q116 (fun _ h => h) rfl dJ2_clear_16 ?_
  refine lv_istore_n (lv' := [(2, .int (nI n)), (1, .ref ed), (0, .ref zh)]) zx zb dJ2_clear_19 rfl hl (by decide) rfl (fun ls hl => ?_)
  refine lv_aload_n zx zb dJ2_clear_20 rfl (lv_at hl 2 rfl) ?_
  refine lv_iconst (v := nI 0) zx zb dJ2_clear_21 (by decide) ?_
  refine lv_dup_x1 zx zb dJ2_clear_22 rfl rfl ?_
  refine nv_put zC hX in_J2 tyJ2 tyJ2_ok nmJ2 q0 (jW_a0 hne h0) rfl 2 (by decide) q116 (fun _ h => h) rfl rfl rfl (Nat.le_of_ble_eq_true rfl) (w' := jW dA q0 q1 zh (mc + (nI 1)) ed 0 cp f ex) (jW_s0 hne) dJ2_clear_23 (fun H locs hX => ?_)
  refine lv_istore_n (lv' := [(3, .int (nI 0)), (2, .int (nI n)), (1, .ref ed), (0, .ref zh)]) zx zb dJ2_clear_26 rfl hl (by decide) rfl (fun ls hl => ?_)
  have L27 : ∀ (zn : Nat) (i : Nat) (g : Nat → Option Nat) (hi : i ≤ n), n - i < zn → ∀ (H : Heap) (locs : List Loc) (ls : Array Slot), nvS D a0 (jW dA q0 q1 zh (mc + (nI 1)) ed 0 cp g ex) s.heap H locs → lv_has ls 4 [(3, .int (nI i)), (2, .int (nI n)), (1, .ref ed), (0, .ref zh)] → W zp l ze (rm_ 1 12 0 0) s zm zar zlo zme zcd H locs 0 0 Q (F0 zm 27 ls []) := by
    intro zn
    induction zn with
    | zero => intro i g hi zf; exact absurd zf (Nat.not_lt_zero _)
    | succ zn ih27 =>
      intro i g hi zf H locs ls hX hl
      refine lv_iload_n zx zb dJ2_clear_27 rfl (lv_at hl 0 rfl) ?_
      refine lv_iload_n zx zb dJ2_clear_28 rfl (lv_at hl 1 rfl) ?_
      refine nv_icmp_ge (tgt := 42) zx zb (by omega) (by omega) dJ2_clear_29 (by decide) (fun c29 => ?_) (fun c29 => ?_)
      · rw [← zQ]
        exact nv_endv zC zr zk g hX (by first | rfl | trivial) (by omega) (by omega) dJ2_clear_42
      · refine lv_aload_n zx zb dJ2_clear_32 rfl (lv_at hl 2 rfl) ?_
        refine lv_iload_n zx zb dJ2_clear_33 rfl (lv_at hl 0 rfl) ?_
        refine lv_null zx zb dJ2_clear_34 ?_
        refine nv_aastN zC hX q1 4 (jW_a1 hne h1) rfl (by omega) (by omega) dJ2_clear_35 (fun H locs hX => ?_)
        have hX : nvS D a0 (jW dA q0 q1 zh (mc + (nI 1)) ed 0 cp (va_up g i none) ex) s.heap H locs := hX.as jW_s1
        refine lv_iinc (v := nI (i + 1)) (lv' := [(3, .int (nI (i + 1))), (2, .int (nI n)), (1, .ref ed), (0, .ref zh)]) zx zb dJ2_clear_36 hl (k := 0) rfl (nI_1 _) (by decide) rfl (fun ls hl => ?_)
        refine lv_goto (tgt := 27) zx zb dJ2_clear_39 (by decide) ?_
        exact ih27 (i + 1) (va_up g i none) (by omega) (by omega) _ _ _ hX (lv_sub hl [0, 1, 2, 3] rfl)
  exact L27 _ 0 f (by omega) (Nat.lt_succ_self _) _ _ _ hX (lv_sub hl [0, 1, 2, 3] rfl)

set_option maxHeartbeats 4000000 in
theorem mj_clearB  (q0 : Nat) (mc : Int32) (ed : Nat) (n : Nat) (zh : Nat) (h0 : (ex)[q0]? = some (zh, .inr (12, [.int mc, .ref ed, .int (nI n)]))) (hn0 : n = 0) : nMt l D dA a0 yJ2_clear cJ2_clear 4 (none) 1 12 0 0 (nvE a0 ez) [.ref zh] (ex) (nQv D a0 (fun (_ : Unit) => True) (fun (_ : Unit) => lW q0 zh (mc + nI 1) ed 0 (ex))) := by
  refine nv_start (by decide) (Nat.le_of_ble_eq_true rfl) fun zp ze s zm zlo zme zcd ls zC zr zk znm hX zG hl => ?_
  have zx := zC.1
  have zb := zC.2.1
  generalize zargs : ([.ref zh] : List Value).toArray = zar at zC ⊢
  generalize zQ : MQ zlo _ zar s _ _ _ = Q
  have hX : nvS D a0 (ex) s.heap s.heap [] := hX
  have hl : lv_has ls 4 [(0, .ref zh)] := hl
  obtain ⟨H, zH⟩ : ∃ H, H = s.heap := ⟨_, rfl⟩
  have hX : nvS D a0 (ex) s.heap H [] := by rw [zH]; exact hX
  rw [show W zp l ze (rm_ 1 12 0 0) s zm zar zlo zme zcd s.heap [] 0 0 Q = W zp l ze (rm_ 1 12 0 0) s zm zar zlo zme zcd H [] 0 0 Q by rw [zH]]
  generalize ([] : List Loc) = locs at hX ⊢
  subst hn0
  have hX : nvS D a0 (lW q0 zh mc ed 0 ex) s.heap H locs := hX.as (set_me h0)
  refine lv_aload_n zx zb dJ2_clear_0 rfl (lv_at hl 0 rfl) ?_
  refine lv_dup zx zb dJ2_clear_1 rfl ?_
  refine nv_get zC hX in_J2 q0 (lW_a h0) rfl 0 (by decide) q118 (u_same (zC.2.2.2.2.1 _ q119)) rfl dJ2_clear_2 ?_
  refine lv_iconst (v := nI 1) zx zb dJ2_clear_5 (by decide) ?_
  refine lv_iadd zx zb dJ2_clear_6 ?_
  refine nv_put zC hX in_J2 tyJ2 tyJ2_ok nmJ2 q0 (lW_a h0) rfl 0 (by decide) q118 (u_same (zC.2.2.2.2.1 _ q119)) rfl rfl rfl (Nat.le_of_ble_eq_true rfl) (w' := lW q0 zh (mc + (nI 1)) ed 0 ex) lW_s dJ2_clear_7 (fun H locs hX => ?_)
  refine lv_aload_n zx zb dJ2_clear_10 rfl (lv_at hl 0 rfl) ?_
  refine nv_get zC hX in_J2 q0 (lW_a h0) rfl 1 (by decide) q115 (fun _ h => h) rfl dJ2_clear_11 ?_
  refine lv_astore_n (lv' := [(1, .ref ed), (0, .ref zh)]) zx zb dJ2_clear_14 rfl hl (by decide) rfl (fun ls hl => ?_)
  refine lv_aload_n zx zb dJ2_clear_15 rfl (lv_at hl 1 rfl) ?_
  refine nv_get zC hX in_J2 q0 (lW_a h0) rfl 2 (by decide) q116 (fun _ h => h) rfl dJ2_clear_16 ?_
  refine lv_istore_n (lv' := [(2, .int (nI 0)), (1, .ref ed), (0, .ref zh)]) zx zb dJ2_clear_19 rfl hl (by decide) rfl (fun ls hl => ?_)
  refine lv_aload_n zx zb dJ2_clear_20 rfl (lv_at hl 2 rfl) ?_
  refine lv_iconst (v := nI 0) zx zb dJ2_clear_21 (by decide) ?_
  refine lv_dup_x1 zx zb dJ2_clear_22 rfl rfl ?_
  refine nv_put zC hX in_J2 tyJ2 tyJ2_ok nmJ2 q0 (lW_a h0) rfl 2 (by decide) q116 (fun _ h => h) rfl rfl rfl (Nat.le_of_ble_eq_true rfl) (w' := lW q0 zh (mc + (nI 1)) ed 0 ex) lW_s dJ2_clear_23 (fun H locs hX => ?_)
  refine lv_istore_n (lv' := [(3, .int (nI 0)), (2, .int (nI 0)), (1, .ref ed), (0, .ref zh)]) zx zb dJ2_clear_26 rfl hl (by decide) rfl (fun ls hl => ?_)
  refine lv_iload_n zx zb dJ2_clear_27 rfl (lv_at hl 0 rfl) ?_
  refine lv_iload_n zx zb dJ2_clear_28 rfl (lv_at hl 1 rfl) ?_
  refine nv_icmp_ge (tgt := 42) zx zb (by omega) (by omega) dJ2_clear_29 (by decide) (fun c29 => ?_) (fun c29 => ?_)
  · rw [← zQ]
    exact nv_endv zC zr zk () hX (by first | rfl | trivial) (by omega) (by omega) dJ2_clear_42
  · exact absurd c29 (Nat.lt_irrefl 0)

set_option maxHeartbeats 4000000 in
theorem mj_set  (q0 : Nat) (q1 : Nat) (cp : Nat) (f : Nat → Option Nat) (mc : Int32) (ed : Nat) (n : Nat) (zh : Nat) (ci : Nat) (vs : List Value) (cq : vw_C) (i : Nat) (v : Nat) (h0 : (ex)[q0]? = some (zh, .inr (12, [.int mc, .ref ed, .int (nI n)]))) (h1 : (ex)[q1]? = some (ed, aO dA cp f)) (hv : (v, .inr (ci, vs)) ∈ ex) (hvz : v ≠ zh) (hve : v ≠ ed) (hc : vwCl[ci]? = some cq) (hcs : (cq.1, "java/lang/Object") ∈ nvCs) (hi : i < n) (hn : n ≤ 10) (hcp : cp = 10) : nMt l D dA a0 yJ2_set cJ2_set 4 (some (.object "java/lang/Object")) 3 55 0 0 (nvE a0 ez) [.ref zh, .int (nI i), .ref v] (ex) (nQq D a0 (fun (r : Option Nat) (_ : Unit) => r = f i) (fun (_ : Unit) => jW dA q0 q1 zh mc ed n cp (va_up f i (some v)) (ex))) := by
  refine nv_start (by decide) (Nat.le_of_ble_eq_true rfl) fun zp ze s zm zlo zme zcd ls zC zr zk znm hX zG hl => ?_
  have zx := zC.1
  have zb := zC.2.1
  generalize zargs : ([.ref zh, .int (nI i), .ref v] : List Value).toArray = zar at zC ⊢
  generalize zQ : MQ zlo _ zar s _ _ _ = Q
  have hX : nvS D a0 (ex) s.heap s.heap [] := hX
  have hl : lv_has ls 4 [(0, .ref zh), (1, .int (nI i)), (2, .ref v)] := hl
  obtain ⟨H, zH⟩ : ∃ H, H = s.heap := ⟨_, rfl⟩
  have hX : nvS D a0 (ex) s.heap H [] := by rw [zH]; exact hX
  rw [show W zp l ze (rm_ 3 55 0 0) s zm zar zlo zme zcd s.heap [] 0 0 Q = W zp l ze (rm_ 3 55 0 0) s zm zar zlo zme zcd H [] 0 0 Q by rw [zH]]
  generalize ([] : List Loc) = locs at hX ⊢
  subst hcp
  have hne := jW_q h0 h1
  have hX : nvS D a0 (jW dA q0 q1 zh mc ed n 10 f ex) s.heap H locs := hX.as (jW_0 h0 h1)
  refine lv_iload_n zx zb dJ2_set_0 rfl (lv_at hl 1 rfl) ?_
  refine lv_aload_n zx zb dJ2_set_1 rfl (lv_at hl 0 rfl) ?_
  refine nv_get zC hX in_J2 q0 (jW_a0 hne h0) rfl 2 (by decide) q116 (fun _ h => h) rfl dJ2_set_2 ?_
  refine nv_ki zC hX (nv_rS (n := 2) (As := [.int (nI i), .int (nI n)]) (rest := []) zC hX (mj_chk (i := i) (n := n) (hi := (by first | assumption | omega)) (hn := (by omega))) nvGb0 (fun _ _ _ => trivial) q209 q210 q84 q211 (by decide +kernel) rfl ⟨Nat.le_of_ble_eq_true rfl, Nat.le_of_ble_eq_true rfl⟩ hl.1 (Nat.le_of_ble_eq_true rfl) dJ2_set_5 ⟨by first | exact Nat.le_of_ble_eq_true rfl | omega, by first | exact Nat.le_of_ble_eq_true rfl | omega⟩) (fun r u H locs hp hX => ?_)
  have hr_ : r = nI i := hp
  subst hr_
  have hX : nvS D a0 (jW dA q0 q1 zh mc ed n 10 f ex) s.heap H locs := hX
  refine W.cs (cells' := 0) (slots' := 0) (Nat.add_zero _) (Nat.add_zero _) ?_
  refine lv_pop zx zb dJ2_set_8 rfl ?_
  refine lv_aload_n zx zb dJ2_set_9 rfl (lv_at hl 0 rfl) ?_
  refine lv_iload_n zx zb dJ2_set_10 rfl (lv_at hl 1 rfl) ?_
  refine nv_kq zC hX (nv_rV (n := 1) (As := [.int (nI i)]) (rest := []) (q0 := q0) zC hX (mj_elementData (zh := zh) (mc := mc) (ed := ed) (n := n) (f := f) (i := i) (hm := (List.mem_of_getElem? (jW_a0 hne h0))) (ha := (List.mem_of_getElem? (jW_a1 hne h1))) (hi := (by omega))) nvGb0 (fun _ _ _ => trivial) (jW_a0 hne h0) rfl q215 q216 q217 q62 q218 (by decide +kernel) rfl ⟨Nat.le_of_ble_eq_true rfl, Nat.le_of_ble_eq_true rfl⟩ hl.1 (Nat.le_of_ble_eq_true rfl) dJ2_set_11 ⟨by first | exact Nat.le_of_ble_eq_true rfl | omega, by first | exact Nat.le_of_ble_eq_true rfl | omega⟩) (fun r u H locs hp hX => ?_)
  have hr_ : r = f i := hp
  subst hr_
  have hX : nvS D a0 (jW dA q0 q1 zh mc ed n 10 f ex) s.heap H locs := hX
  refine W.cs (cells' := 0) (slots' := 0) (Nat.add_zero _) (Nat.add_zero _) ?_
  refine nv_astore_nQ (lv' := [(3, va_rf (f i)), (0, .ref zh), (1, .int (nI i)), (2, .ref v)]) zx zb dJ2_set_14 rfl hl (by decide) rfl (fun ls hl => ?_)
  refine lv_aload_n zx zb dJ2_set_15 rfl (lv_at hl 1 rfl) ?_
  refine nv_get zC hX in_J2 q0 (jW_a0 hne h0) rfl 1 (by decide) q115 (fun _ h => h) rfl dJ2_set_16 ?_
  refine lv_iload_n zx zb dJ2_set_19 rfl (lv_at hl 2 rfl) ?_
  refine lv_aload_n zx zb dJ2_set_20 rfl (lv_at hl 3 rfl) ?_
  obtain ⟨yk, hyk⟩ := List.getElem?_of_mem (jW_m hv h0 h1 hne rfl rfl hvz hve)
  refine nv_aast zC hX q1 4 yk (jW_a1 hne h1) rfl hyk hc (zG.2.1 _ hcs) (by omega) (by omega) dJ2_set_21 (fun H locs hX => ?_)
  have hX : nvS D a0 (jW dA q0 q1 zh mc ed n 10 (va_up f i (some v)) ex) s.heap H locs := hX.as jW_s1
  refine nv_aload_nQ zx zb dJ2_set_22 rfl (lv_at hl 0 rfl) ?_
  rw [← zQ]
  exact nv_endq zC zr (Or.inl ⟨_, rfl⟩) zk () hX (by first | rfl | trivial) (by omega) (by omega) dJ2_set_23

set_option maxHeartbeats 4000000 in
theorem mj_fastR  (q0 : Nat) (q1 : Nat) (cp : Nat) (f : Nat → Option Nat) (mc : Int32) (zh : Nat) (n : Nat) (ed : Nat) (i : Nat) (h0 : (ex)[q0]? = some (zh, .inr (12, [.int mc, .ref ed, .int (nI n)]))) (h1 : (ex)[q1]? = some (ed, aO dA cp f)) (hi : n = i + 1) (hn : n ≤ cp) (hcp : cp ≤ 10) : nMt l D dA a0 yJ2_fastRemove cJ2_fastRemove 4 (none) 1 12 0 0 (nvE a0 ez) [.ref zh, .ref ed, .int (nI i)] (ex) (nQv D a0 (fun (_ : Unit) => True) (fun (_ : Unit) => jW dA q0 q1 zh (mc + nI 1) ed i cp (va_up f i none) (ex))) := by
  refine nv_start (by decide) (Nat.le_of_ble_eq_true rfl) fun zp ze s zm zlo zme zcd ls zC zr zk znm hX zG hl => ?_
  have zx := zC.1
  have zb := zC.2.1
  generalize zargs : ([.ref zh, .ref ed, .int (nI i)] : List Value).toArray = zar at zC ⊢
  generalize zQ : MQ zlo _ zar s _ _ _ = Q
  have hX : nvS D a0 (ex) s.heap s.heap [] := hX
  have hl : lv_has ls 4 [(0, .ref zh), (1, .ref ed), (2, .int (nI i))] := hl
  obtain ⟨H, zH⟩ : ∃ H, H = s.heap := ⟨_, rfl⟩
  have hX : nvS D a0 (ex) s.heap H [] := by rw [zH]; exact hX
  rw [show W zp l ze (rm_ 1 12 0 0) s zm zar zlo zme zcd s.heap [] 0 0 Q = W zp l ze (rm_ 1 12 0 0) s zm zar zlo zme zcd H [] 0 0 Q by rw [zH]]
  generalize ([] : List Loc) = locs at hX ⊢
  subst hi
  have hne := jW_q h0 h1
  have hX : nvS D a0 (jW dA q0 q1 zh mc ed (i + 1) cp f ex) s.heap H locs := hX.as (jW_0 h0 h1)
  refine lv_aload_n zx zb dJ2_fastRemove_0 rfl (lv_at hl 0 rfl) ?_
  refine lv_dup zx zb dJ2_fastRemove_1 rfl ?_
  refine nv_get zC hX in_J2 q0 (jW_a0 hne h0) rfl 0 (by decide) q118 (u_same (zC.2.2.2.2.1 _ q119)) rfl dJ2_fastRemove_2 ?_
  refine lv_iconst (v := nI 1) zx zb dJ2_fastRemove_5 (by decide) ?_
  refine lv_iadd zx zb dJ2_fastRemove_6 ?_
  refine nv_put zC hX in_J2 tyJ2 tyJ2_ok nmJ2 q0 (jW_a0 hne h0) rfl 0 (by decide) q118 (u_same (zC.2.2.2.2.1 _ q119)) rfl rfl rfl (Nat.le_of_ble_eq_true rfl) (w' := jW dA q0 q1 zh (mc + (nI 1)) ed (i + 1) cp f ex) (jW_s0 hne) dJ2_fastRemove_7 (fun H locs hX => ?_)
  refine lv_aload_n zx zb dJ2_fastRemove_10 rfl (lv_at hl 0 rfl) ?_
  refine nv_get zC hX in_J2 q0 (jW_a0 hne h0) rfl 2 (by decide) q116 (fun _ h => h) rfl dJ2_fastRemove_11 ?_
  refine lv_iconst (v := nI 1) zx zb dJ2_fastRemove_14 (by decide) ?_
  refine nv_isub zx zb (by omega) dJ2_fastRemove_15 ?_
  refine nv_as (show nI ((i + 1) - 1) = nI i from (congrArg nI (Nat.add_sub_cancel i 1))) ?_
  refine lv_dup zx zb dJ2_fastRemove_16 rfl ?_
  refine lv_istore_n (lv' := [(3, .int (nI i)), (0, .ref zh), (1, .ref ed), (2, .int (nI i))]) zx zb dJ2_fastRemove_17 rfl hl (by decide) rfl (fun ls hl => ?_)
  refine lv_iload_n zx zb dJ2_fastRemove_18 rfl (lv_at hl 3 rfl) ?_
  refine nv_icmp_le (tgt := 34) zx zb (by omega) (by omega) dJ2_fastRemove_19 (by decide) (fun c19 => ?_) (fun c19 => ?_)
  · refine lv_aload_n zx zb dJ2_fastRemove_34 rfl (lv_at hl 2 rfl) ?_
    refine lv_aload_n zx zb dJ2_fastRemove_35 rfl (lv_at hl 1 rfl) ?_
    refine lv_iload_n zx zb dJ2_fastRemove_36 rfl (lv_at hl 0 rfl) ?_
    refine lv_dup_x1 zx zb dJ2_fastRemove_37 rfl rfl ?_
    refine nv_put zC hX in_J2 tyJ2 tyJ2_ok nmJ2 q0 (jW_a0 hne h0) rfl 2 (by decide) q116 (fun _ h => h) rfl rfl rfl (Nat.le_of_ble_eq_true rfl) (w' := jW dA q0 q1 zh (mc + (nI 1)) ed i cp f ex) (jW_s0 hne) dJ2_fastRemove_38 (fun H locs hX => ?_)
    refine lv_null zx zb dJ2_fastRemove_41 ?_
    refine nv_aastN zC hX q1 4 (jW_a1 hne h1) rfl (by omega) (by omega) dJ2_fastRemove_42 (fun H locs hX => ?_)
    have hX : nvS D a0 (jW dA q0 q1 zh (mc + (nI 1)) ed i cp (va_up f i none) ex) s.heap H locs := hX.as jW_s1
    rw [← zQ]
    exact nv_endv zC zr zk () hX (by first | rfl | trivial) (by omega) (by omega) dJ2_fastRemove_43
  · exact absurd (Nat.le_refl i) (by omega)

set_option maxHeartbeats 4000000 in
theorem mj_remove  (q0 : Nat) (q1 : Nat) (cp : Nat) (f : Nat → Option Nat) (mc : Int32) (ed : Nat) (n : Nat) (zh : Nat) (i : Nat) (h0 : (ex)[q0]? = some (zh, .inr (12, [.int mc, .ref ed, .int (nI n)]))) (h1 : (ex)[q1]? = some (ed, aO dA cp f)) (hi : n = i + 1) (hn : n ≤ cp) (hcp : cp ≤ 10) : nMt l D dA a0 yJ2_remove cJ2_remove 4 (some (.object "java/lang/Object")) 3 55 0 0 (nvE a0 ez) [.ref zh, .int (nI i)] (ex) (nQq D a0 (fun (r : Option Nat) (_ : Unit) => r = f i) (fun (_ : Unit) => jW dA q0 q1 zh (mc + nI 1) ed i cp (va_up f i none) (ex))) := by
  refine nv_start (by decide) (Nat.le_of_ble_eq_true rfl) fun zp ze s zm zlo zme zcd ls zC zr zk znm hX zG hl => ?_
  have zx := zC.1
  have zb := zC.2.1
  generalize zargs : ([.ref zh, .int (nI i)] : List Value).toArray = zar at zC ⊢
  generalize zQ : MQ zlo _ zar s _ _ _ = Q
  have hX : nvS D a0 (ex) s.heap s.heap [] := hX
  have hl : lv_has ls 4 [(0, .ref zh), (1, .int (nI i))] := hl
  obtain ⟨H, zH⟩ : ∃ H, H = s.heap := ⟨_, rfl⟩
  have hX : nvS D a0 (ex) s.heap H [] := by rw [zH]; exact hX
  rw [show W zp l ze (rm_ 3 55 0 0) s zm zar zlo zme zcd s.heap [] 0 0 Q = W zp l ze (rm_ 3 55 0 0) s zm zar zlo zme zcd H [] 0 0 Q by rw [zH]]
  generalize ([] : List Loc) = locs at hX ⊢
  have hne := jW_q h0 h1
  have hX : nvS D a0 (jW dA q0 q1 zh mc ed n cp f ex) s.heap H locs := hX.as (jW_0 h0 h1)
  refine lv_iload_n zx zb dJ2_remove_0 rfl (lv_at hl 1 rfl) ?_
  refine lv_aload_n zx zb dJ2_remove_1 rfl (lv_at hl 0 rfl) ?_
  refine nv_get zC hX in_J2 q0 (jW_a0 hne h0) rfl 2 (by decide) q116 (fun _ h => h) rfl dJ2_remove_2 ?_
  refine nv_ki zC hX (nv_rS (n := 2) (As := [.int (nI i), .int (nI n)]) (rest := []) zC hX (mj_chk (i := i) (n := n) (hi := (by omega)) (hn := (by omega))) nvGb0 (fun _ _ _ => trivial) q209 q210 q84 q211 (by decide +kernel) rfl ⟨Nat.le_of_ble_eq_true rfl, Nat.le_of_ble_eq_true rfl⟩ hl.1 (Nat.le_of_ble_eq_true rfl) dJ2_remove_5 ⟨by first | exact Nat.le_of_ble_eq_true rfl | omega, by first | exact Nat.le_of_ble_eq_true rfl | omega⟩) (fun r u H locs hp hX => ?_)
  have hr_ : r = nI i := hp
  subst hr_
  have hX : nvS D a0 (jW dA q0 q1 zh mc ed n cp f ex) s.heap H locs := hX
  refine W.cs (cells' := 0) (slots' := 0) (Nat.add_zero _) (Nat.add_zero _) ?_
  refine lv_pop zx zb dJ2_remove_8 rfl ?_
  refine lv_aload_n zx zb dJ2_remove_9 rfl (lv_at hl 0 rfl) ?_
  refine nv_get zC hX in_J2 q0 (jW_a0 hne h0) rfl 1 (by decide) q115 (fun _ h => h) rfl dJ2_remove_10 ?_
  refine lv_astore_n (lv' := [(2, .ref ed), (0, .ref zh), (1, .int (nI i))]) zx zb dJ2_remove_13 rfl hl (by decide) rfl (fun ls hl => ?_)
  refine lv_aload_n zx zb dJ2_remove_14 rfl (lv_at hl 0 rfl) ?_
  refine lv_iload_n zx zb dJ2_remove_15 rfl (lv_at hl 2 rfl) ?_
  refine nv_aald (v := f i) zC hX q1 4 (jW_a1 hne h1) rfl (by omega) (by omega) rfl dJ2_remove_16 ?_
  refine nv_astore_nQ (lv' := [(3, va_rf (f i)), (2, .ref ed), (0, .ref zh), (1, .int (nI i))]) zx zb dJ2_remove_17 rfl hl (by decide) rfl (fun ls hl => ?_)
  refine lv_aload_n zx zb dJ2_remove_18 rfl (lv_at hl 2 rfl) ?_
  refine lv_aload_n zx zb dJ2_remove_19 rfl (lv_at hl 1 rfl) ?_
  refine lv_iload_n zx zb dJ2_remove_20 rfl (lv_at hl 3 rfl) ?_
  refine nv_kv zC hX (nv_rV (n := 2) (As := [.ref ed, .int (nI i)]) (rest := []) (q0 := q0) zC hX (mj_fastR (q0 := q0) (q1 := q1) (cp := cp) (f := f) (mc := mc) (zh := zh) (n := n) (ed := ed) (i := i) (h0 := (jW_a0 hne h0)) (h1 := (jW_a1 hne h1)) (hi := (by first | assumption | omega)) (hn := (by first | assumption | omega)) (hcp := (by first | assumption | omega))) (nvE_b a0 ez) (nvE_keep zG hX) (jW_a0 hne h0) rfl q424 q426 qs12 q62 q427 (by decide +kernel) rfl ⟨Nat.le_of_ble_eq_true rfl, Nat.le_of_ble_eq_true rfl⟩ hl.1 (Nat.le_of_ble_eq_true rfl) dJ2_remove_21 ⟨by first | exact Nat.le_of_ble_eq_true rfl | omega, by first | exact Nat.le_of_ble_eq_true rfl | omega⟩) (fun u H locs hp hX => ?_)
  have hX : nvS D a0 (jW dA q0 q1 zh (mc + nI 1) ed i cp (va_up f i none) (jW dA q0 q1 zh mc ed n cp f ex)) s.heap H locs := hX
  refine W.cs (cells' := 0) (slots' := 0) (Nat.add_zero _) (Nat.add_zero _) ?_
  have hX : nvS D a0 (jW dA q0 q1 zh (mc + nI 1) ed i cp (va_up f i none) ex) s.heap H locs := hX.as (jW_jW hne)
  refine nv_aload_nQ zx zb dJ2_remove_24 rfl (lv_at hl 0 rfl) ?_
  rw [← zQ]
  exact nv_endq zC zr (Or.inl ⟨_, rfl⟩) zk () hX (by first | rfl | trivial) (by omega) (by omega) dJ2_remove_25

set_option maxHeartbeats 4000000 in
theorem mx_madeOf  (x0 : Nat) (kd : Nat) (la : Nat) (hkd : kd < 3) : nMt l D dA a0 yX0_madeOf cX0_madeOf 3 (some (.object "OneLongRow$Plain")) 4 86 1 4 nvG0 [.ref x0, .int (nI kd), .ref la] (ex) (nQr D a0 (fun (_ : Unit) => True) (fun (_ : Unit) (ra : Nat) => (ra, plF kd la x0) :: ex)) := by
  refine nv_start (by decide) (Nat.le_of_ble_eq_true rfl) fun zp ze s zm zlo zme zcd ls zC zr zk znm hX zG hl => ?_
  have zx := zC.1
  have zb := zC.2.1
  generalize zargs : ([.ref x0, .int (nI kd), .ref la] : List Value).toArray = zar at zC ⊢
  generalize zQ : MQ zlo _ zar s _ _ _ = Q
  have hX : nvS D a0 (ex) s.heap s.heap [] := hX
  have hl : lv_has ls 3 [(0, .ref x0), (1, .int (nI kd)), (2, .ref la)] := hl
  obtain ⟨H, zH⟩ : ∃ H, H = s.heap := ⟨_, rfl⟩
  have hX : nvS D a0 (ex) s.heap H [] := by rw [zH]; exact hX
  rw [show W zp l ze (rm_ 4 86 1 4) s zm zar zlo zme zcd s.heap [] 0 0 Q = W zp l ze (rm_ 4 86 1 4) s zm zar zlo zme zcd H [] 0 0 Q by rw [zH]]
  generalize ([] : List Loc) = locs at hX ⊢
  refine lv_iload_n zx zb dX0_madeOf_0 rfl (lv_at hl 1 rfl) ?_
  refine nv_if_ne (tgt := 16) zx zb (by omega) dX0_madeOf_1 (by decide) (fun c1 => ?_) (fun c1 => ?_)
  · refine lv_iload_n zx zb dX0_madeOf_16 rfl (lv_at hl 1 rfl) ?_
    refine lv_iconst (v := nI 1) zx zb dX0_madeOf_17 (by decide) ?_
    refine nv_icmp_ne (tgt := 33) zx zb (by omega) (by decide) dX0_madeOf_18 (by decide) (fun c18 => ?_) (fun c18 => ?_)
    · have c18 : kd = 2 := by omega
      subst c18
      refine nv_new zC (l1 := []) (l2 := ex) hX in_X7 tyX7 tyX7_ok q470 q471 q82 (ci := 4) rfl (fs := [.null, .null, .null, .null]) (fun j hj => by rcases (show j = 0 ∨ j = 1 ∨ j = 2 ∨ j = 3 by omega) with rfl | rfl | rfl | rfl <;> rfl) (by first | exact Nat.le_of_ble_eq_true rfl | omega) (by first | exact Nat.le_of_ble_eq_true rfl | omega) dX0_madeOf_33 (fun n_1 H hX => ?_)
      have hX : nvS D a0 ((n_1, .inr (4, [.null, .null, .null, .null])) :: ex) s.heap H locs := hX
      refine lv_dup zx zb dX0_madeOf_36 rfl ?_
      refine lv_aload_n zx zb dX0_madeOf_37 rfl (lv_at hl 0 rfl) ?_
      refine lv_aload_n zx zb dX0_madeOf_38 rfl (lv_at hl 2 rfl) ?_
      refine nv_kv zC hX (nv_rI (n := 2) (As := [.ref x0, .ref la]) (rest := [.ref n_1]) zC hX (mp_X7_init_2 (x0 := x0) (la := la)) nvGb0 (fun _ _ _ => trivial) q472 q473 q82 q474 rfl (by decide +kernel) rfl ⟨Nat.le_of_ble_eq_true rfl, Nat.le_of_ble_eq_true rfl⟩ hl.1 (Nat.le_of_ble_eq_true rfl) dX0_madeOf_39 ⟨by first | exact Nat.le_of_ble_eq_true rfl | omega, by first | exact Nat.le_of_ble_eq_true rfl | omega⟩) (fun u H locs hp hX => ?_)
      have hX : nvS D a0 ((n_1, .inr (4, [.ref la, .ref x0, .ref x0, .ref x0])) :: ex) s.heap H locs := hX
      refine W.cs (cells' := 0 + 1) (slots' := 0 + 4) (Nat.add_zero _) (Nat.add_zero _) ?_
      rw [← zQ]
      exact nv_endr zC zr (Or.inl ⟨_, rfl⟩) zk () hX (by trivial) (by omega) (by omega) dX0_madeOf_42
    · have c18 : kd = 1 := by omega
      subst c18
      refine nv_new zC (l1 := []) (l2 := ex) hX in_X6 tyX6 tyX6_ok q459 q460 q81 (ci := 3) rfl (fs := [.null, .null, .null]) (fun j hj => by rcases (show j = 0 ∨ j = 1 ∨ j = 2 by omega) with rfl | rfl | rfl <;> rfl) (by first | exact Nat.le_of_ble_eq_true rfl | omega) (by first | exact Nat.le_of_ble_eq_true rfl | omega) dX0_madeOf_21 (fun n_3 H hX => ?_)
      have hX : nvS D a0 ((n_3, .inr (3, [.null, .null, .null])) :: ex) s.heap H locs := hX
      refine lv_dup zx zb dX0_madeOf_24 rfl ?_
      refine lv_aload_n zx zb dX0_madeOf_25 rfl (lv_at hl 0 rfl) ?_
      refine lv_aload_n zx zb dX0_madeOf_26 rfl (lv_at hl 2 rfl) ?_
      refine nv_kv zC hX (nv_rI (n := 2) (As := [.ref x0, .ref la]) (rest := [.ref n_3]) zC hX (mp_X6_init_1 (x0 := x0) (la := la)) nvGb0 (fun _ _ _ => trivial) q461 q462 q81 q463 rfl (by decide +kernel) rfl ⟨Nat.le_of_ble_eq_true rfl, Nat.le_of_ble_eq_true rfl⟩ hl.1 (Nat.le_of_ble_eq_true rfl) dX0_madeOf_27 ⟨by first | exact Nat.le_of_ble_eq_true rfl | omega, by first | exact Nat.le_of_ble_eq_true rfl | omega⟩) (fun u H locs hp hX => ?_)
      have hX : nvS D a0 ((n_3, .inr (3, [.ref la, .ref x0, .ref x0])) :: ex) s.heap H locs := hX
      refine W.cs (cells' := 0 + 1) (slots' := 0 + 3) (Nat.add_zero _) (Nat.add_zero _) ?_
      refine lv_goto (tgt := 42) zx zb dX0_madeOf_30 (by decide) ?_
      rw [← zQ]
      exact nv_endr zC zr (Or.inl ⟨_, rfl⟩) zk () hX (by trivial) (by omega) (by omega) dX0_madeOf_42
  · have c1 : kd = 0 := by omega
    subst c1
    refine nv_new zC (l1 := []) (l2 := ex) hX in_X5 tyX5 tyX5_ok q219 q439 q80 (ci := 2) rfl (fs := [.null, .null]) (fun j hj => by rcases (show j = 0 ∨ j = 1 by omega) with rfl | rfl <;> rfl) (by first | exact Nat.le_of_ble_eq_true rfl | omega) (by first | exact Nat.le_of_ble_eq_true rfl | omega) dX0_madeOf_4 (fun n_5 H hX => ?_)
    have hX : nvS D a0 ((n_5, .inr (2, [.null, .null])) :: ex) s.heap H locs := hX
    refine lv_dup zx zb dX0_madeOf_7 rfl ?_
    refine lv_aload_n zx zb dX0_madeOf_8 rfl (lv_at hl 0 rfl) ?_
    refine lv_aload_n zx zb dX0_madeOf_9 rfl (lv_at hl 2 rfl) ?_
    refine nv_kv zC hX (nv_rI (n := 2) (As := [.ref x0, .ref la]) (rest := [.ref n_5]) zC hX (mp_X5_init_0 (x0 := x0) (la := la)) nvGb0 (fun _ _ _ => trivial) q440 q441 q80 q442 rfl (by decide +kernel) rfl ⟨Nat.le_of_ble_eq_true rfl, Nat.le_of_ble_eq_true rfl⟩ hl.1 (Nat.le_of_ble_eq_true rfl) dX0_madeOf_10 ⟨by first | exact Nat.le_of_ble_eq_true rfl | omega, by first | exact Nat.le_of_ble_eq_true rfl | omega⟩) (fun u H locs hp hX => ?_)
    have hX : nvS D a0 ((n_5, .inr (2, [.ref la, .ref x0])) :: ex) s.heap H locs := hX
    refine W.cs (cells' := 0 + 1) (slots' := 0 + 2) (Nat.add_zero _) (Nat.add_zero _) ?_
    refine lv_goto (tgt := 42) zx zb dX0_madeOf_13 (by decide) ?_
    rw [← zQ]
    exact nv_endr zC zr (Or.inl ⟨_, rfl⟩) zk () hX (by trivial) (by omega) (by omega) dX0_madeOf_42

set_option maxHeartbeats 4000000 in
theorem mj_copyI  (ln : Nat) (f : Nat → Int32) (ra_ : Nat) (n : Nat) (ha : (ra_, aI dA ln f) ∈ ex) (hn : n ≤ ln) (hl4 : ln ≤ 4) : nMt l D dA a0 yJ14_copyOf cJ14_copyOf 3 (some (.array .int)) 1 30 1 4 (nvE a0 ez) [.ref ra_, .int (nI n)] (ex) (nQr D a0 (fun (g : Nat → Int32) => (∀ zj, zj < n → g zj = f zj)) (fun (g : Nat → Int32) (rb : Nat) => (rb, aI dA n g) :: ex)) := by
  refine nv_start (by decide) (Nat.le_of_ble_eq_true rfl) fun zp ze s zm zlo zme zcd ls zC zr zk znm hX zG hl => ?_
  have zx := zC.1
  have zb := zC.2.1
  generalize zargs : ([.ref ra_, .int (nI n)] : List Value).toArray = zar at zC ⊢
  generalize zQ : MQ zlo _ zar s _ _ _ = Q
  have hX : nvS D a0 (ex) s.heap s.heap [] := hX
  have hl : lv_has ls 3 [(0, .ref ra_), (1, .int (nI n))] := hl
  obtain ⟨H, zH⟩ : ∃ H, H = s.heap := ⟨_, rfl⟩
  have hX : nvS D a0 (ex) s.heap H [] := by rw [zH]; exact hX
  rw [show W zp l ze (rm_ 1 30 1 4) s zm zar zlo zme zcd s.heap [] 0 0 Q = W zp l ze (rm_ 1 30 1 4) s zm zar zlo zme zcd H [] 0 0 Q by rw [zH]]
  generalize ([] : List Loc) = locs at hX ⊢
  refine lv_iload_n zx zb dJ14_copyOf_0 rfl (lv_at hl 1 rfl) ?_
  refine lv_aload_n zx zb dJ14_copyOf_1 rfl (lv_at hl 0 rfl) ?_
  refine nv_alenM zC hX 0 ha rfl dJ14_copyOf_2 ?_
  refine nv_icmp_ne (tgt := 14) zx zb (by omega) (by omega) dJ14_copyOf_3 (by decide) (fun c3 => ?_) (fun c3 => ?_)
  · refine lv_iload_n zx zb dJ14_copyOf_14 rfl (lv_at hl 1 rfl) ?_
    refine nv_newa zC (l1 := []) (l2 := ex) hX (ty := .int) rfl 0 rfl (fun _ h => by cases h) q127 (fun cA => arr0i cA _) (by omega) (by show n * 4 ≤ _; omega) (Nat.le_of_ble_eq_true rfl) (by show 0 + n ≤ 4; omega) dJ14_copyOf_15 (fun q_1 H hX => ?_)
    have hX : nvS D a0 ((q_1, aI dA n (fun _ => 0)) :: ex) s.heap H locs := hX
    refine lv_astore_n (lv' := [(2, .ref q_1), (0, .ref ra_), (1, .int (nI n))]) zx zb dJ14_copyOf_17 rfl hl (by decide) rfl (fun ls hl => ?_)
    refine lv_aload_n zx zb dJ14_copyOf_18 rfl (lv_at hl 1 rfl) ?_
    refine lv_iconst (v := nI 0) zx zb dJ14_copyOf_19 (by decide) ?_
    refine lv_aload_n zx zb dJ14_copyOf_20 rfl (lv_at hl 0 rfl) ?_
    refine lv_iconst (v := nI 0) zx zb dJ14_copyOf_21 (by decide) ?_
    refine lv_aload_n zx zb dJ14_copyOf_22 rfl (lv_at hl 1 rfl) ?_
    refine nv_alenM zC hX 0 (List.mem_cons_of_mem _ ha) rfl dJ14_copyOf_23 ?_
    refine lv_iload_n zx zb dJ14_copyOf_24 rfl (lv_at hl 2 rfl) ?_
    refine nv_min zC hl.1 q850 (by omega) (by omega) ⟨Nat.le_of_ble_eq_true rfl, Nat.le_of_ble_eq_true rfl⟩ (Nat.le_of_ble_eq_true rfl) ⟨Nat.le_of_ble_eq_true rfl, by show 0 + n ≤ 4; omega⟩ dJ14_copyOf_25 ?_
    refine nv_as (show nI (min ln n) = nI n from (congrArg nI (Nat.min_eq_right hn))) ?_
    obtain ⟨yq, yhq⟩ := List.getElem?_of_mem (show (ra_, aI dA ln f) ∈ (q_1, aI dA n (fun _ => 0)) :: ex from List.mem_cons_of_mem _ ha)
    refine nv_copyi zC hX hl.1 q851 yq 0 0 yhq rfl rfl rfl (by omega) (by omega) (by omega) (by omega) (fun _ _ => rfl) ⟨Nat.le_of_ble_eq_true rfl, Nat.le_of_ble_eq_true rfl⟩ (Nat.le_of_ble_eq_true rfl) dJ14_copyOf_28 (fun H locs hX => ?_)
    have hX : nvS D a0 ((q_1, aI dA n (va_cpy f (fun _ => 0) 0 0 n)) :: ex) s.heap H locs := hX
    refine lv_aload_n zx zb dJ14_copyOf_31 rfl (lv_at hl 0 rfl) ?_
    rw [← zQ]
    exact nv_endr zC zr (Or.inr ⟨_, rfl⟩) zk (va_cpy f (fun _ => 0) 0 0 n) hX (fun j hj => sb_cpy0 hj) (by omega) (by omega) dJ14_copyOf_32
  · refine lv_aload_n zx zb dJ14_copyOf_6 rfl (lv_at hl 0 rfl) ?_
    refine nv_cloneI zC zG hX hl.1 q843 q844 q845 q846 q847 ha ⟨Nat.le_of_ble_eq_true rfl, Nat.le_of_ble_eq_true rfl⟩ (Nat.le_of_ble_eq_true rfl) (by show 0 + 1 ≤ 1; omega) (by show 0 + ln ≤ 4; omega) dJ14_copyOf_7 (fun n_2 H hX => ?_)
    refine nv_castI zC hX q849 List.mem_cons_self dJ14_copyOf_10 ?_
    rw [← c3] at hX
    rw [← zQ]
    exact nv_endr zC zr (Or.inr ⟨_, rfl⟩) zk f hX (fun _ _ => rfl) (by omega) (by omega) dJ14_copyOf_13
end CL_62_e1
