/-! printed by klass.py -/
set_option maxRecDepth 100000
section CL_36_c3
variable {l : Launch} {D : va_G} {dA : Nat → ClassId} {a0 ez : Nat} {ex : va_W} {a : Nat → Nat} {rn : Nat} {rt : Nat} {trace : Int32} {len : Nat} {stand : Nat} {first : Option Nat} {allh : Option Nat} {hAll : Nat} {fault : Int32} {row : Nat → Nat} {hOf : Nat → Nat} {farOf : Nat → Option Nat} {rowsN : Nat → Nat} {rowsT : Nat → Nat} {mcW : Int32} {edW : Nat} {words : Nat} {mcR : Int32} {edR : Nat} {rdgs : Nat} {sh : Nat → Option Nat} {kind longOf letters : Nat → Nat} {fW : Nat → Option Nat} {pa la : Nat → Nat} {rWord rMany rStands rRow : Nat → Nat} {fR : Nat → Option Nat} {pr lr : Nat → Nat}
set_option maxHeartbeats 4000000 in
theorem mx_in  (v : Int64) (lo : Int64) (hi : Int64)  : nMt l D dA a0 yX0_in cX0_in 6 (some .boolean) 1 12 0 0 nvG0 [.long v, .long lo, .long hi] (ex) (nQi D a0 (fun (r : Int32) (_ : Unit) => r = nB (decide (lo ≤ v) && decide (v ≤ hi))) (fun (_ : Unit) => ex)) := by
  refine nv_start (by decide) (Nat.le_of_ble_eq_true rfl) fun zp ze s zm zlo zme zcd ls zC zr zk znm hX zG hl => ?_
  have zx := zC.1
  have zb := zC.2.1
  generalize zargs : ([.long v, .long lo, .long hi] : List Value).toArray = zar at zC ⊢
  generalize zQ : MQ zlo _ zar s _ _ _ = Q
  have hX : nvS D a0 (ex) s.heap s.heap [] := hX
  have hl : lv_has ls 6 [(0, .long v), (2, .long lo), (4, .long hi)] := hl
  obtain ⟨H, zH⟩ : ∃ H, H = s.heap := ⟨_, rfl⟩
  have hX : nvS D a0 (ex) s.heap H [] := by rw [zH]; exact hX
  rw [show W zp l ze (rm_ 1 12 0 0) s zm zar zlo zme zcd s.heap [] 0 0 Q = W zp l ze (rm_ 1 12 0 0) s zm zar zlo zme zcd H [] 0 0 Q by rw [zH]]
  generalize ([] : List Loc) = locs at hX ⊢
  refine lv_lload_n zx zb dX0_in_0 rfl (lv_at hl 0 rfl) ?_
  refine lv_lload_n zx zb dX0_in_1 rfl (lv_at hl 1 rfl) ?_
  refine W.lcmp zx zb dX0_in_2 ?_
  refine lv_if_lt (x := lg_cmp (v) (lo)) (tgt := 17) zx zb dX0_in_3 (by decide) (fun c3 => ?_) (fun c3 => ?_)
  · have c3 := (lg_cmp_lt _ _).mp c3
    refine lv_iconst (v := nI 0) zx zb dX0_in_17 (by decide) ?_
    rw [← zQ]
    refine nv_as (y := nB false) rfl ?_
    exact nv_endz zC zr zk () hX (by have h := Int64.not_le.mpr c3; simp [nB, h]) (by omega) (by omega) dX0_in_18
  · have c3 := (fun z => c3 ((lg_cmp_lt _ _).mpr z))
    refine lv_lload_n zx zb dX0_in_6 rfl (lv_at hl 0 rfl) ?_
    refine lv_lload zx zb dX0_in_7 (lv_at hl 2 rfl) ?_
    refine W.lcmp zx zb dX0_in_9 ?_
    refine lv_if_gt (x := lg_cmp (v) (hi)) (tgt := 17) zx zb dX0_in_10 (by decide) (fun c10 => ?_) (fun c10 => ?_)
    · have c10 := (lg_cmp_gt _ _).mp c10
      refine lv_iconst (v := nI 0) zx zb dX0_in_17 (by decide) ?_
      rw [← zQ]
      refine nv_as (y := nB false) rfl ?_
      exact nv_endz zC zr zk () hX (by have h := Int64.not_le.mpr c10; simp [nB, h]) (by omega) (by omega) dX0_in_18
    · have c10 := (fun z => c10 ((lg_cmp_gt _ _).mpr z))
      refine lv_iconst (v := nI 1) zx zb dX0_in_13 (by decide) ?_
      refine lv_goto (tgt := 18) zx zb dX0_in_14 (by decide) ?_
      rw [← zQ]
      refine nv_as (y := nB true) rfl ?_
      exact nv_endz zC zr zk () hX (by have h := Int64.not_lt.mp c3; have h2 := Int64.not_lt.mp c10; simp [nB, h, h2]) (by omega) (by omega) dX0_in_18

set_option maxHeartbeats 4000000 in
theorem mx_isSign  (v : Int32)  : nMt l D dA a0 yX0_isSign cX0_isSign 1 (some .boolean) 2 37 0 0 nvG0 [.int v] (ex) (nQi D a0 (fun (r : Int32) (_ : Unit) => r = nB (inN v 0 2)) (fun (_ : Unit) => ex)) := by
  refine nv_start (by decide) (Nat.le_of_ble_eq_true rfl) fun zp ze s zm zlo zme zcd ls zC zr zk znm hX zG hl => ?_
  have zx := zC.1
  have zb := zC.2.1
  generalize zargs : ([.int v] : List Value).toArray = zar at zC ⊢
  generalize zQ : MQ zlo _ zar s _ _ _ = Q
  have hX : nvS D a0 (ex) s.heap s.heap [] := hX
  have hl : lv_has ls 1 [(0, .int v)] := hl
  obtain ⟨H, zH⟩ : ∃ H, H = s.heap := ⟨_, rfl⟩
  have hX : nvS D a0 (ex) s.heap H [] := by rw [zH]; exact hX
  rw [show W zp l ze (rm_ 2 37 0 0) s zm zar zlo zme zcd s.heap [] 0 0 Q = W zp l ze (rm_ 2 37 0 0) s zm zar zlo zme zcd H [] 0 0 Q by rw [zH]]
  generalize ([] : List Loc) = locs at hX ⊢
  refine lv_iload_n zx zb dX0_isSign_0 rfl (lv_at hl 0 rfl) ?_
  refine lv_i2l zx zb dX0_isSign_1 rfl ?_
  refine lv_lconst (v := lN 0) zx zb dX0_isSign_2 (by decide) ?_
  refine lv_ldc2 (v := lN 2) zx zb zC.2.2.2.1 (zC.2.2.2.2.1 _ q327) dX0_isSign_3 ?_
  refine nv_ki zC hX (nv_rS (n := 3) (As := [.long v.toInt64, .long (lN 0), .long (lN 2)]) (rest := []) zC hX (mx_in (v := v.toInt64) (lo := lN 0) (hi := lN 2)) nvGb0 (fun _ _ _ => trivial) q197 q198 q59 q199 (by decide +kernel) rfl ⟨Nat.le_of_ble_eq_true rfl, Nat.le_of_ble_eq_true rfl⟩ hl.1 (Nat.le_of_ble_eq_true rfl) dX0_isSign_6 ⟨by first | exact Nat.le_of_ble_eq_true rfl | omega, by first | exact Nat.le_of_ble_eq_true rfl | omega⟩) (fun r u H locs hp hX => ?_)
  have hr_ : r = nB (decide (lN 0 ≤ v.toInt64) && decide (v.toInt64 ≤ lN 2)) := hp
  subst hr_
  have hX : nvS D a0 (ex) s.heap H locs := hX
  refine W.cs (cells' := 0) (slots' := 0) (Nat.add_zero _) (Nat.add_zero _) ?_
  refine nv_as (show nB (decide (lN 0 ≤ v.toInt64) && decide (v.toInt64 ≤ lN 2)) = nB (inN v 0 2) from (congrArg nB (inN_l (by decide) (by decide)))) ?_
  rw [← zQ]
  exact nv_endz zC zr zk () hX (by first | rfl | trivial) (by omega) (by omega) dX0_isSign_9

set_option maxHeartbeats 4000000 in
theorem mx_endWith  (e : Nat) (c : Nat) (he : e < 1000) (hc : c < 3) : nMt l D dA a0 yX0_endWith cX0_endWith 3 (some .int) 1 12 0 0 nvG0 [.int (nI e), .int (nI c)] (ex) (nQi D a0 (fun (r : Int32) (_ : Unit) => r = nI (nxE e c)) (fun (_ : Unit) => ex)) := by
  refine nv_start (by decide) (Nat.le_of_ble_eq_true rfl) fun zp ze s zm zlo zme zcd ls zC zr zk znm hX zG hl => ?_
  have zx := zC.1
  have zb := zC.2.1
  generalize zargs : ([.int (nI e), .int (nI c)] : List Value).toArray = zar at zC ⊢
  generalize zQ : MQ zlo _ zar s _ _ _ = Q
  have hX : nvS D a0 (ex) s.heap s.heap [] := hX
  have hl : lv_has ls 3 [(0, .int (nI e)), (1, .int (nI c))] := hl
  obtain ⟨H, zH⟩ : ∃ H, H = s.heap := ⟨_, rfl⟩
  have hX : nvS D a0 (ex) s.heap H [] := by rw [zH]; exact hX
  rw [show W zp l ze (rm_ 1 12 0 0) s zm zar zlo zme zcd s.heap [] 0 0 Q = W zp l ze (rm_ 1 12 0 0) s zm zar zlo zme zcd H [] 0 0 Q by rw [zH]]
  generalize ([] : List Loc) = locs at hX ⊢
  refine lv_iconst (v := nI 3) zx zb dX0_endWith_0 (by decide) ?_
  refine lv_iload_n zx zb dX0_endWith_1 rfl (lv_at hl 0 rfl) ?_
  refine nv_imul zx zb dX0_endWith_2 ?_
  refine lv_iload_n zx zb dX0_endWith_3 rfl (lv_at hl 1 rfl) ?_
  refine nv_iadd zx zb dX0_endWith_4 ?_
  refine lv_istore_n (lv' := [(2, .int (nI ((3 * e) + c))), (0, .int (nI e)), (1, .int (nI c))]) zx zb dX0_endWith_5 rfl hl (by decide) rfl (fun ls hl => ?_)
  refine lv_iload_n zx zb dX0_endWith_6 rfl (lv_at hl 0 rfl) ?_
  refine lv_bipush (v := nI 54) zx zb dX0_endWith_7 (by decide) ?_
  refine nv_icmp_ge (tgt := 16) zx zb (by omega) (by omega) dX0_endWith_9 (by decide) (fun c9 => ?_) (fun c9 => ?_)
  · refine lv_bipush (v := nI 27) zx zb dX0_endWith_16 (by decide) ?_
    refine lv_iload_n zx zb dX0_endWith_18 rfl (lv_at hl 0 rfl) ?_
    refine lv_bipush (v := nI 27) zx zb dX0_endWith_19 (by decide) ?_
    refine nv_irem zx zb (by omega) (by decide) (by decide) dX0_endWith_21 ?_
    refine nv_iadd zx zb dX0_endWith_22 ?_
    rw [← zQ]
    exact nv_endi zC zr zk () hX (by unfold nxE; rw [if_neg (by omega)]) (by omega) (by omega) dX0_endWith_23
  · refine lv_iload_n zx zb dX0_endWith_12 rfl (lv_at hl 0 rfl) ?_
    refine lv_goto (tgt := 23) zx zb dX0_endWith_13 (by decide) ?_
    rw [← zQ]
    exact nv_endi zC zr zk () hX (by unfold nxE; rw [if_pos c9]) (by omega) (by omega) dX0_endWith_23

set_option maxHeartbeats 4000000 in
theorem mx_noWords   (hw : words ≤ 4) : nMt l D dA a0 yX0_noWords cX0_noWords 1 (some .boolean) 2 32 0 0 (nvE a0 ez) [.ref (a 0)] (xW dA a rn rt trace len stand first allh hAll fault row hOf farOf rowsN rowsT mcW edW words mcR edR rdgs sh ex) (nQi D a0 (fun (r : Int32) (_ : Unit) => r = nB (decide (words = 0))) (fun (_ : Unit) => xW dA a rn rt trace len stand first allh hAll fault row hOf farOf rowsN rowsT mcW edW words mcR edR rdgs sh ex)) := by
  refine nv_start (by decide) (Nat.le_of_ble_eq_true rfl) fun zp ze s zm zlo zme zcd ls zC zr zk znm hX zG hl => ?_
  have zx := zC.1
  have zb := zC.2.1
  generalize zargs : ([.ref (a 0)] : List Value).toArray = zar at zC ⊢
  generalize zQ : MQ zlo _ zar s _ _ _ = Q
  have hX : nvS D a0 (xW dA a rn rt trace len stand first allh hAll fault row hOf farOf rowsN rowsT mcW edW words mcR edR rdgs sh ex) s.heap s.heap [] := hX
  have hl : lv_has ls 1 [(0, .ref (a 0))] := hl
  obtain ⟨H, zH⟩ : ∃ H, H = s.heap := ⟨_, rfl⟩
  have hX : nvS D a0 (xW dA a rn rt trace len stand first allh hAll fault row hOf farOf rowsN rowsT mcW edW words mcR edR rdgs sh ex) s.heap H [] := by rw [zH]; exact hX
  rw [show W zp l ze (rm_ 2 32 0 0) s zm zar zlo zme zcd s.heap [] 0 0 Q = W zp l ze (rm_ 2 32 0 0) s zm zar zlo zme zcd H [] 0 0 Q by rw [zH]]
  generalize ([] : List Loc) = locs at hX ⊢
  refine lv_aload_n zx zb dX0_noWords_0 rfl (lv_at hl 0 rfl) ?_
  refine nv_get zC hX in_X0 0 rfl rfl 3 (by decide) q134 (fun _ h => h) rfl dX0_noWords_1 ?_
  refine nv_kFi zC hX (nv_rF (q := (RJ2, TJ2, 3)) (x := ⟨"java/util/List", "isEmpty", "()Z"⟩) (y := yJ2_isEmpty) (n := 0) (As := []) (rest := []) (q0 := 2) zC hX (mj_isEmpty (zh := a 2) (mc := mcW) (ed := edW) (n := words) (hm := (List.mem_of_getElem? (i := 2) rfl)) (hn := (by omega))) nvGb0 (fun _ _ _ => trivial) (nvE_f2 zG) rfl rfl q337 q342 q340 q62 q344 (by decide +kernel) rfl ⟨Nat.le_of_ble_eq_true rfl, Nat.le_of_ble_eq_true rfl⟩ hl.1 (Nat.le_of_ble_eq_true rfl) dX0_noWords_4 ⟨by first | exact Nat.le_of_ble_eq_true rfl | omega, by first | exact Nat.le_of_ble_eq_true rfl | omega⟩) (fun r u H locs hp hX => ?_)
  have hr_ : r = nB (decide (words = 0)) := hp
  subst hr_
  have hX : nvS D a0 (xW dA a rn rt trace len stand first allh hAll fault row hOf farOf rowsN rowsT mcW edW words mcR edR rdgs sh ex) s.heap H locs := hX
  refine W.cs (cells' := 0) (slots' := 0) (Nat.add_zero _) (Nat.add_zero _) ?_
  rw [← zQ]
  exact nv_endz zC zr zk () hX (by first | rfl | trivial) (by omega) (by omega) dX0_noWords_9

set_option maxHeartbeats 4000000 in
theorem mx_noWord  (v : Int32) (hw : words ≤ 4) : nMt l D dA a0 yX0_noWord cX0_noWord 2 (some .boolean) 2 37 0 0 (nvE a0 ez) [.ref (a 0), .int v] (xW dA a rn rt trace len stand first allh hAll fault row hOf farOf rowsN rowsT mcW edW words mcR edR rdgs sh ex) (nQi D a0 (fun (r : Int32) (_ : Unit) => r = nB (!isW words v)) (fun (_ : Unit) => xW dA a rn rt trace len stand first allh hAll fault row hOf farOf rowsN rowsT mcW edW words mcR edR rdgs sh ex)) := by
  refine nv_start (by decide) (Nat.le_of_ble_eq_true rfl) fun zp ze s zm zlo zme zcd ls zC zr zk znm hX zG hl => ?_
  have zx := zC.1
  have zb := zC.2.1
  generalize zargs : ([.ref (a 0), .int v] : List Value).toArray = zar at zC ⊢
  generalize zQ : MQ zlo _ zar s _ _ _ = Q
  have hX : nvS D a0 (xW dA a rn rt trace len stand first allh hAll fault row hOf farOf rowsN rowsT mcW edW words mcR edR rdgs sh ex) s.heap s.heap [] := hX
  have hl : lv_has ls 2 [(0, .ref (a 0)), (1, .int v)] := hl
  obtain ⟨H, zH⟩ : ∃ H, H = s.heap := ⟨_, rfl⟩
  have hX : nvS D a0 (xW dA a rn rt trace len stand first allh hAll fault row hOf farOf rowsN rowsT mcW edW words mcR edR rdgs sh ex) s.heap H [] := by rw [zH]; exact hX
  rw [show W zp l ze (rm_ 2 37 0 0) s zm zar zlo zme zcd s.heap [] 0 0 Q = W zp l ze (rm_ 2 37 0 0) s zm zar zlo zme zcd H [] 0 0 Q by rw [zH]]
  generalize ([] : List Loc) = locs at hX ⊢
  refine lv_iload_n zx zb dX0_noWord_0 rfl (lv_at hl 1 rfl) ?_
  refine lv_i2l zx zb dX0_noWord_1 rfl ?_
  refine lv_lconst (v := lN 0) zx zb dX0_noWord_2 (by decide) ?_
  refine lv_aload_n zx zb dX0_noWord_3 rfl (lv_at hl 0 rfl) ?_
  refine nv_get zC hX in_X0 0 rfl rfl 3 (by decide) q134 (fun _ h => h) rfl dX0_noWord_4 ?_
  refine nv_kFi zC hX (nv_rF (q := (RJ2, TJ2, 3)) (x := ⟨"java/util/List", "size", "()I"⟩) (y := yJ2_size) (n := 0) (As := []) (rest := [.long (lN 0), .long v.toInt64]) (q0 := 2) zC hX (mj_size (zh := a 2) (mc := mcW) (ed := edW) (n := words) (hm := (List.mem_of_getElem? (i := 2) rfl))) nvGb0 (fun _ _ _ => trivial) (nvE_f0 zG) rfl rfl q188 q194 q192 q62 q196 (by decide +kernel) rfl ⟨Nat.le_of_ble_eq_true rfl, Nat.le_of_ble_eq_true rfl⟩ hl.1 (Nat.le_of_ble_eq_true rfl) dX0_noWord_7 ⟨by first | exact Nat.le_of_ble_eq_true rfl | omega, by first | exact Nat.le_of_ble_eq_true rfl | omega⟩) (fun r u H locs hp hX => ?_)
  have hr_ : r = nI words := hp
  subst hr_
  have hX : nvS D a0 (xW dA a rn rt trace len stand first allh hAll fault row hOf farOf rowsN rowsT mcW edW words mcR edR rdgs sh ex) s.heap H locs := hX
  refine W.cs (cells' := 0) (slots' := 0) (Nat.add_zero _) (Nat.add_zero _) ?_
  refine lv_iconst (v := nI 1) zx zb dX0_noWord_12 (by decide) ?_
  refine lv_isub zx zb dX0_noWord_13 ?_
  refine lv_i2l zx zb dX0_noWord_14 rfl ?_
  refine nv_ki zC hX (nv_rS (n := 3) (As := [.long v.toInt64, .long (lN 0), .long (((nI words) - (nI 1)).toInt64)]) (rest := []) zC hX (mx_in (v := v.toInt64) (lo := lN 0) (hi := ((nI words) - (nI 1)).toInt64)) nvGb0 (fun _ _ _ => trivial) q197 q198 q59 q199 (by decide +kernel) rfl ⟨Nat.le_of_ble_eq_true rfl, Nat.le_of_ble_eq_true rfl⟩ hl.1 (Nat.le_of_ble_eq_true rfl) dX0_noWord_15 ⟨by first | exact Nat.le_of_ble_eq_true rfl | omega, by first | exact Nat.le_of_ble_eq_true rfl | omega⟩) (fun r u H locs hp hX => ?_)
  have hr_ : r = nB (decide (lN 0 ≤ v.toInt64) && decide (v.toInt64 ≤ ((nI words) - (nI 1)).toInt64)) := hp
  subst hr_
  have hX : nvS D a0 (xW dA a rn rt trace len stand first allh hAll fault row hOf farOf rowsN rowsT mcW edW words mcR edR rdgs sh ex) s.heap H locs := hX
  refine W.cs (cells' := 0) (slots' := 0) (Nat.add_zero _) (Nat.add_zero _) ?_
  refine nv_as (show nB (decide (lN 0 ≤ v.toInt64) && decide (v.toInt64 ≤ ((nI words) - (nI 1)).toInt64)) = nB (isW words v) from (congrArg nB (isW_l (by omega)))) ?_
  refine nv_if_neB (tgt := 25) zx zb dX0_noWord_18 (by decide) (fun c18 => ?_) (fun c18 => ?_)
  · refine lv_iconst (v := nI 0) zx zb dX0_noWord_25 (by decide) ?_
    refine nv_as (show nI 0 = nB (!isW words v) from (nB_as0 (by rw [c18]; rfl))) ?_
    rw [← zQ]
    exact nv_endz zC zr zk () hX (by first | rfl | trivial) (by omega) (by omega) dX0_noWord_26
  · refine lv_iconst (v := nI 1) zx zb dX0_noWord_21 (by decide) ?_
    refine lv_goto (tgt := 26) zx zb dX0_noWord_22 (by decide) ?_
    refine nv_as (show nI 1 = nB (!isW words v) from (nB_as1 (by rw [c18]; rfl))) ?_
    rw [← zQ]
    exact nv_endz zC zr zk () hX (by first | rfl | trivial) (by omega) (by omega) dX0_noWord_26

set_option maxHeartbeats 4000000 in
theorem mx_everyWord   (hw : words ≤ 4) : nMt l D dA a0 yX0_everyWord cX0_everyWord 1 (some .int) 2 32 0 0 (nvE a0 ez) [.ref (a 0)] (xW dA a rn rt trace len stand first allh hAll fault row hOf farOf rowsN rowsT mcW edW words mcR edR rdgs sh ex) (nQi D a0 (fun (r : Int32) (_ : Unit) => r = nI (2 ^ words - 1)) (fun (_ : Unit) => xW dA a rn rt trace len stand first allh hAll fault row hOf farOf rowsN rowsT mcW edW words mcR edR rdgs sh ex)) := by
  refine nv_start (by decide) (Nat.le_of_ble_eq_true rfl) fun zp ze s zm zlo zme zcd ls zC zr zk znm hX zG hl => ?_
  have zx := zC.1
  have zb := zC.2.1
  generalize zargs : ([.ref (a 0)] : List Value).toArray = zar at zC ⊢
  generalize zQ : MQ zlo _ zar s _ _ _ = Q
  have hX : nvS D a0 (xW dA a rn rt trace len stand first allh hAll fault row hOf farOf rowsN rowsT mcW edW words mcR edR rdgs sh ex) s.heap s.heap [] := hX
  have hl : lv_has ls 1 [(0, .ref (a 0))] := hl
  obtain ⟨H, zH⟩ : ∃ H, H = s.heap := ⟨_, rfl⟩
  have hX : nvS D a0 (xW dA a rn rt trace len stand first allh hAll fault row hOf farOf rowsN rowsT mcW edW words mcR edR rdgs sh ex) s.heap H [] := by rw [zH]; exact hX
  rw [show W zp l ze (rm_ 2 32 0 0) s zm zar zlo zme zcd s.heap [] 0 0 Q = W zp l ze (rm_ 2 32 0 0) s zm zar zlo zme zcd H [] 0 0 Q by rw [zH]]
  generalize ([] : List Loc) = locs at hX ⊢
  refine lv_iconst (v := nI 1) zx zb dX0_everyWord_0 (by decide) ?_
  refine lv_aload_n zx zb dX0_everyWord_1 rfl (lv_at hl 0 rfl) ?_
  refine nv_get zC hX in_X0 0 rfl rfl 3 (by decide) q134 (fun _ h => h) rfl dX0_everyWord_2 ?_
  refine nv_kFi zC hX (nv_rF (q := (RJ2, TJ2, 3)) (x := ⟨"java/util/List", "size", "()I"⟩) (y := yJ2_size) (n := 0) (As := []) (rest := [.int (nI 1)]) (q0 := 2) zC hX (mj_size (zh := a 2) (mc := mcW) (ed := edW) (n := words) (hm := (List.mem_of_getElem? (i := 2) rfl))) nvGb0 (fun _ _ _ => trivial) (nvE_f0 zG) rfl rfl q188 q194 q192 q62 q196 (by decide +kernel) rfl ⟨Nat.le_of_ble_eq_true rfl, Nat.le_of_ble_eq_true rfl⟩ hl.1 (Nat.le_of_ble_eq_true rfl) dX0_everyWord_5 ⟨by first | exact Nat.le_of_ble_eq_true rfl | omega, by first | exact Nat.le_of_ble_eq_true rfl | omega⟩) (fun r u H locs hp hX => ?_)
  have hr_ : r = nI words := hp
  subst hr_
  have hX : nvS D a0 (xW dA a rn rt trace len stand first allh hAll fault row hOf farOf rowsN rowsT mcW edW words mcR edR rdgs sh ex) s.heap H locs := hX
  refine W.cs (cells' := 0) (slots' := 0) (Nat.add_zero _) (Nat.add_zero _) ?_
  refine nv_ishl1 zx zb (by omega) dX0_everyWord_10 ?_
  refine lv_iconst (v := nI 1) zx zb dX0_everyWord_11 (by decide) ?_
  refine nv_isub zx zb (Nat.one_le_two_pow) dX0_everyWord_12 ?_
  rw [← zQ]
  exact nv_endi zC zr zk () hX (by first | rfl | trivial) (by omega) (by omega) dX0_everyWord_13

set_option maxHeartbeats 4000000 in
theorem mx_heardBy  (e : Nat) (c : Nat) (hW : wdIn dA (a 0) words kind longOf letters edW ez fW pa la ex) (hok : wOK words kind longOf letters) (he : e < 54) (hc : c < 3) : nMt l D dA a0 yX0_heardBy cX0_heardBy 5 (some .int) 5 104 0 0 (nvE a0 ez) [.ref (a 0), .int (nI e), .int (nI c)] (xW dA a rn rt trace len stand first allh hAll fault row hOf farOf rowsN rowsT mcW edW words mcR edR rdgs sh ex) (nQi D a0 (fun (r : Int32) (_ : Unit) => r = nI (hbE kind longOf letters words (3 * e + c))) (fun (_ : Unit) => xW dA a rn rt trace len stand first allh hAll fault row hOf farOf rowsN rowsT mcW edW words mcR edR rdgs sh ex)) := by
  refine nv_start (by decide) (Nat.le_of_ble_eq_true rfl) fun zp ze s zm zlo zme zcd ls zC zr zk znm hX zG hl => ?_
  have zx := zC.1
  have zb := zC.2.1
  generalize zargs : ([.ref (a 0), .int (nI e), .int (nI c)] : List Value).toArray = zar at zC ⊢
  generalize zQ : MQ zlo _ zar s _ _ _ = Q
  have hX : nvS D a0 (xW dA a rn rt trace len stand first allh hAll fault row hOf farOf rowsN rowsT mcW edW words mcR edR rdgs sh ex) s.heap s.heap [] := hX
  have hl : lv_has ls 5 [(0, .ref (a 0)), (1, .int (nI e)), (2, .int (nI c))] := hl
  obtain ⟨H, zH⟩ : ∃ H, H = s.heap := ⟨_, rfl⟩
  have hX : nvS D a0 (xW dA a rn rt trace len stand first allh hAll fault row hOf farOf rowsN rowsT mcW edW words mcR edR rdgs sh ex) s.heap H [] := by rw [zH]; exact hX
  rw [show W zp l ze (rm_ 5 104 0 0) s zm zar zlo zme zcd s.heap [] 0 0 Q = W zp l ze (rm_ 5 104 0 0) s zm zar zlo zme zcd H [] 0 0 Q by rw [zH]]
  generalize ([] : List Loc) = locs at hX ⊢
  have hw4 := hok.1
  refine lv_iconst (v := nI 0) zx zb dX0_heardBy_0 (by decide) ?_
  refine lv_istore_n (lv' := [(3, .int (nI 0)), (0, .ref (a 0)), (1, .int (nI e)), (2, .int (nI c))]) zx zb dX0_heardBy_1 rfl hl (by decide) rfl (fun ls hl => ?_)
  refine lv_iconst (v := nI 0) zx zb dX0_heardBy_2 (by decide) ?_
  refine lv_istore (lv' := [(4, .int (nI 0)), (3, .int (nI 0)), (0, .ref (a 0)), (1, .int (nI e)), (2, .int (nI c))]) zx zb dX0_heardBy_3 hl (by decide) rfl (fun ls hl => ?_)
  have L5 : ∀ (zn : Nat) (k : Nat) (hk : k ≤ words), words - k < zn → ∀ (H : Heap) (locs : List Loc) (ls : Array Slot), nvS D a0 (xW dA a rn rt trace len stand first allh hAll fault row hOf farOf rowsN rowsT mcW edW words mcR edR rdgs sh ex) s.heap H locs → lv_has ls 5 [(4, .int (nI k)), (3, .int (nI (hbE kind longOf letters k (3 * e + c)))), (0, .ref (a 0)), (1, .int (nI e)), (2, .int (nI c))] → W zp l ze (rm_ 5 104 0 0) s zm zar zlo zme zcd H locs 0 0 Q (F0 zm 5 ls []) := by
    intro zn
    induction zn with
    | zero => intro k hk zf; exact absurd zf (Nat.not_lt_zero _)
    | succ zn ih5 =>
      intro k hk zf H locs ls hX hl
      refine lv_iload zx zb dX0_heardBy_5 (lv_at hl 0 rfl) ?_
      refine lv_aload_n zx zb dX0_heardBy_7 rfl (lv_at hl 2 rfl) ?_
      refine nv_get zC hX in_X0 0 rfl rfl 3 (by decide) q134 (fun _ h => h) rfl dX0_heardBy_8 ?_
      refine nv_kFi zC hX (nv_rF (q := (RJ2, TJ2, 3)) (x := ⟨"java/util/List", "size", "()I"⟩) (y := yJ2_size) (n := 0) (As := []) (rest := [.int (nI k)]) (q0 := 2) zC hX (mj_size (zh := a 2) (mc := mcW) (ed := edW) (n := words) (hm := (List.mem_of_getElem? (i := 2) rfl))) nvGb0 (fun _ _ _ => trivial) (nvE_f0 zG) rfl rfl q188 q194 q192 q62 q196 (by decide +kernel) rfl ⟨Nat.le_of_ble_eq_true rfl, Nat.le_of_ble_eq_true rfl⟩ hl.1 (Nat.le_of_ble_eq_true rfl) dX0_heardBy_11 ⟨by first | exact Nat.le_of_ble_eq_true rfl | omega, by first | exact Nat.le_of_ble_eq_true rfl | omega⟩) (fun r u H locs hp hX => ?_)
      have hr_ : r = nI words := hp
      subst hr_
      have hX : nvS D a0 (xW dA a rn rt trace len stand first allh hAll fault row hOf farOf rowsN rowsT mcW edW words mcR edR rdgs sh ex) s.heap H locs := hX
      refine W.cs (cells' := 0) (slots' := 0) (Nat.add_zero _) (Nat.add_zero _) ?_
      refine nv_icmp_ge (tgt := 58) zx zb (by omega) (by omega) dX0_heardBy_16 (by decide) (fun c16 => ?_) (fun c16 => ?_)
      · refine lv_iload_n zx zb dX0_heardBy_58 rfl (lv_at hl 1 rfl) ?_
        rw [← zQ]
        exact nv_endi zC zr zk () hX (by have e_ : k = words := (by omega); rw [e_]) (by omega) (by omega) dX0_heardBy_59
      · refine lv_iload_n zx zb dX0_heardBy_19 rfl (lv_at hl 1 rfl) ?_
        refine lv_aload_n zx zb dX0_heardBy_20 rfl (lv_at hl 2 rfl) ?_
        refine nv_get zC hX in_X0 0 rfl rfl 3 (by decide) q134 (fun _ h => h) rfl dX0_heardBy_21 ?_
        refine lv_iload zx zb dX0_heardBy_24 (lv_at hl 0 rfl) ?_
        refine nv_kFq zC hX (nv_rF (q := (RJ2, TJ2, 3)) (x := ⟨"java/util/List", "get", "(I)Ljava/lang/Object;"⟩) (y := yJ2_get) (n := 1) (As := [.int (nI k)]) (rest := [.int (nI (hbE kind longOf letters k (3 * e + c)))]) (q0 := 2) zC hX (mj_get (zh := a 2) (mc := mcW) (ed := edW) (n := words) (f := fW) (i := k) (hm := (List.mem_of_getElem? (i := 2) rfl)) (ha := (xw_m (hW.ed c16))) (hi := c16) (hn := (by have := hok.1; omega))) nvGb0 (fun _ _ _ => trivial) (nvE_f1 zG) rfl rfl q201 q206 q204 q62 q208 (by decide +kernel) rfl ⟨Nat.le_of_ble_eq_true rfl, Nat.le_of_ble_eq_true rfl⟩ hl.1 (Nat.le_of_ble_eq_true rfl) dX0_heardBy_26 ⟨by first | exact Nat.le_of_ble_eq_true rfl | omega, by first | exact Nat.le_of_ble_eq_true rfl | omega⟩) (fun r u H locs hp hX => ?_)
        have hr_ : r = fW k := hp
        subst hr_
        have hX : nvS D a0 (xW dA a rn rt trace len stand first allh hAll fault row hOf farOf rowsN rowsT mcW edW words mcR edR rdgs sh ex) s.heap H locs := hX
        refine W.cs (cells' := 0) (slots' := 0) (Nat.add_zero _) (Nat.add_zero _) ?_
        refine nv_asR (show fW k = some (pa k) from (hW.w c16)) ?_
        refine nv_castP zC zG hX (hok.2.1 _) (xw_m (hW.p c16)) q219 dX0_heardBy_31 ?_
        refine lv_iload_n zx zb dX0_heardBy_34 rfl (lv_at hl 3 rfl) ?_
        refine lv_iload_n zx zb dX0_heardBy_35 rfl (lv_at hl 4 rfl) ?_
        refine nv_ki zC hX (nd_endsBy (kd := kind k) (zh := pa k) (la := la k) (x0 := a 0) (ln := longOf k) (lt := fun k_ => letters (4 * k + k_)) (e := e) (c := c) (hkd := (hok.2.1 _)) (hm := (xw_m (hW.p c16))) (ha := (xw_m (hW.l c16))) (hl1 := (hok.2.2.2.2 _ c16)) (hl4 := (hok.2.2.1 _)) (hlt := (fun j => hok.2.2.2.1 _)) (he := (by first | assumption | omega)) (hc := (by first | assumption | omega)) (rest := [.int (nI (hbE kind longOf letters k (3 * e + c)))]) zC hX q267 dX0_heardBy_36 hl.1 (Nat.le_of_ble_eq_true rfl) ⟨Nat.le_of_ble_eq_true rfl, Nat.le_of_ble_eq_true rfl⟩ ⟨by first | exact Nat.le_of_ble_eq_true rfl | omega, by first | exact Nat.le_of_ble_eq_true rfl | omega⟩) (fun r u H locs hp hX => ?_)
        have hr_ : r = nB (edB (kind k) (longOf k) (fun k_ => letters (4 * k + k_)) (3 * e + c)) := hp
        subst hr_
        have hX : nvS D a0 (xW dA a rn rt trace len stand first allh hAll fault row hOf farOf rowsN rowsT mcW edW words mcR edR rdgs sh ex) s.heap H locs := hX
        refine W.cs (cells' := 0) (slots' := 0) (Nat.add_zero _) (Nat.add_zero _) ?_
        refine nv_if_eqB (tgt := 49) zx zb dX0_heardBy_39 (by decide) (fun c39 => ?_) (fun c39 => ?_)
        · refine lv_iconst (v := nI 0) zx zb dX0_heardBy_49 (by decide) ?_
          refine nv_ior zx zb dX0_heardBy_50 ?_
          refine nv_as (show nI ((hbE kind longOf letters k (3 * e + c)) ||| 0) = nI (hbE kind longOf letters (k + 1) (3 * e + c)) from (congrArg nI (bitsUp_f (P := fun w => edB (kind w) (longOf w) (fun k => letters (4 * w + k)) (3 * e + c)) c39))) ?_
          refine lv_istore_n (lv' := [(3, .int (nI (hbE kind longOf letters (k + 1) (3 * e + c)))), (4, .int (nI k)), (0, .ref (a 0)), (1, .int (nI e)), (2, .int (nI c))]) zx zb dX0_heardBy_51 rfl hl (by decide) rfl (fun ls hl => ?_)
          refine lv_iinc (v := nI (k + 1)) (lv' := [(4, .int (nI (k + 1))), (3, .int (nI (hbE kind longOf letters (k + 1) (3 * e + c)))), (0, .ref (a 0)), (1, .int (nI e)), (2, .int (nI c))]) zx zb dX0_heardBy_52 hl (k := 1) rfl (nI_1 _) (by decide) rfl (fun ls hl => ?_)
          refine lv_goto (tgt := 5) zx zb dX0_heardBy_55 (by decide) ?_
          exact ih5 (k + 1) (by omega) (by omega) _ _ _ hX (lv_sub hl [0, 1, 2, 3, 4] rfl)
        · refine lv_iconst (v := nI 1) zx zb dX0_heardBy_42 (by decide) ?_
          refine lv_iload zx zb dX0_heardBy_43 (lv_at hl 0 rfl) ?_
          refine nv_ishl1 zx zb (by omega) dX0_heardBy_45 ?_
          refine lv_goto (tgt := 50) zx zb dX0_heardBy_46 (by decide) ?_
          refine nv_ior zx zb dX0_heardBy_50 ?_
          refine nv_as (show nI ((hbE kind longOf letters k (3 * e + c)) ||| (2 ^ k)) = nI (hbE kind longOf letters (k + 1) (3 * e + c)) from (congrArg nI (bitsUp_t (P := fun w => edB (kind w) (longOf w) (fun k => letters (4 * w + k)) (3 * e + c)) c39))) ?_
          refine lv_istore_n (lv' := [(3, .int (nI (hbE kind longOf letters (k + 1) (3 * e + c)))), (4, .int (nI k)), (0, .ref (a 0)), (1, .int (nI e)), (2, .int (nI c))]) zx zb dX0_heardBy_51 rfl hl (by decide) rfl (fun ls hl => ?_)
          refine lv_iinc (v := nI (k + 1)) (lv' := [(4, .int (nI (k + 1))), (3, .int (nI (hbE kind longOf letters (k + 1) (3 * e + c)))), (0, .ref (a 0)), (1, .int (nI e)), (2, .int (nI c))]) zx zb dX0_heardBy_52 hl (k := 1) rfl (nI_1 _) (by decide) rfl (fun ls hl => ?_)
          refine lv_goto (tgt := 5) zx zb dX0_heardBy_55 (by decide) ?_
          exact ih5 (k + 1) (by omega) (by omega) _ _ _ hX (lv_sub hl [0, 1, 2, 3, 4] rfl)
  have hl := hl
  exact L5 _ 0 (by omega) (Nat.lt_succ_self _) _ _ _ hX (lv_sub hl [0, 1, 2, 3, 4] rfl)
end CL_36_c3
