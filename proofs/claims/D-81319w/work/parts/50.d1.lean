/-! printed by klass.py -/
set_option maxRecDepth 100000
section CL_50_d1
variable {l : Launch} {D : va_G} {dA : Nat → ClassId} {a0 ez : Nat} {ex : va_W} {a : Nat → Nat} {rn : Nat} {rt : Nat} {trace : Int32} {len : Nat} {stand : Nat} {first : Option Nat} {allh : Option Nat} {hAll : Nat} {fault : Int32} {row : Nat → Nat} {hOf : Nat → Nat} {farOf : Nat → Option Nat} {rowsN : Nat → Nat} {rowsT : Nat → Nat} {mcW : Int32} {edW : Nat} {words : Nat} {mcR : Int32} {edR : Nat} {rdgs : Nat} {sh : Nat → Option Nat} {kind longOf letters : Nat → Nat} {fW : Nat → Option Nat} {pa la : Nat → Nat} {rWord rMany rStands rRow : Nat → Nat} {fR : Nat → Option Nat} {pr lr : Nat → Nat}
set_option maxHeartbeats 4000000 in
theorem mx_trace    : nMt l D dA a0 yX0_trace cX0_trace 1 (some .int) 1 12 0 0 nvG0 [.ref (a 0)] (xW dA a rn rt trace len stand first allh hAll fault row hOf farOf rowsN rowsT mcW edW words mcR edR rdgs sh ex) (nQi D a0 (fun (r : Int32) (_ : Unit) => r = trace) (fun (_ : Unit) => xW dA a rn rt trace len stand first allh hAll fault row hOf farOf rowsN rowsT mcW edW words mcR edR rdgs sh ex)) := by
  refine nv_start (by decide) (Nat.le_of_ble_eq_true rfl) fun zp ze s zm zlo zme zcd ls zC zr zk znm hX zG hl => ?_
  have zx := zC.1
  have zb := zC.2.1
  generalize zargs : ([.ref (a 0)] : List Value).toArray = zar at zC ⊢
  generalize zQ : MQ zlo _ zar s _ _ _ = Q
  have hX : nvS D a0 (xW dA a rn rt trace len stand first allh hAll fault row hOf farOf rowsN rowsT mcW edW words mcR edR rdgs sh ex) s.heap s.heap [] := hX
  have hl : lv_has ls 1 [(0, .ref (a 0))] := hl
  obtain ⟨H, zH⟩ : ∃ H, H = s.heap := ⟨_, rfl⟩
  have hX : nvS D a0 (xW dA a rn rt trace len stand first allh hAll fault row hOf farOf rowsN rowsT mcW edW words mcR edR rdgs sh ex) s.heap H [] := by rw [zH]; exact hX
  rw [show W zp l ze (rm_ 1 12 0 0) s zm zar zlo zme zcd s.heap [] 0 0 Q = W zp l ze (rm_ 1 12 0 0) s zm zar zlo zme zcd H [] 0 0 Q by rw [zH]]
  generalize ([] : List Loc) = locs at hX ⊢
  refine lv_aload_n zx zb dX0_trace_0 rfl (lv_at hl 0 rfl) ?_
  refine nv_get zC hX in_X0 0 rfl rfl 0 (by decide) q131 (fun _ h => h) rfl dX0_trace_1 ?_
  rw [← zQ]
  exact nv_endi zC zr zk () hX (by first | rfl | trivial) (by omega) (by omega) dX0_trace_4

set_option maxHeartbeats 4000000 in
theorem mx_fault    : nMt l D dA a0 yX0_fault cX0_fault 1 (some .int) 1 12 0 0 nvG0 [.ref (a 0)] (xW dA a rn rt trace len stand first allh hAll fault row hOf farOf rowsN rowsT mcW edW words mcR edR rdgs sh ex) (nQi D a0 (fun (r : Int32) (_ : Unit) => r = fault) (fun (_ : Unit) => xW dA a rn rt trace len stand first allh hAll fault row hOf farOf rowsN rowsT mcW edW words mcR edR rdgs sh ex)) := by
  refine nv_start (by decide) (Nat.le_of_ble_eq_true rfl) fun zp ze s zm zlo zme zcd ls zC zr zk znm hX zG hl => ?_
  have zx := zC.1
  have zb := zC.2.1
  generalize zargs : ([.ref (a 0)] : List Value).toArray = zar at zC ⊢
  generalize zQ : MQ zlo _ zar s _ _ _ = Q
  have hX : nvS D a0 (xW dA a rn rt trace len stand first allh hAll fault row hOf farOf rowsN rowsT mcW edW words mcR edR rdgs sh ex) s.heap s.heap [] := hX
  have hl : lv_has ls 1 [(0, .ref (a 0))] := hl
  obtain ⟨H, zH⟩ : ∃ H, H = s.heap := ⟨_, rfl⟩
  have hX : nvS D a0 (xW dA a rn rt trace len stand first allh hAll fault row hOf farOf rowsN rowsT mcW edW words mcR edR rdgs sh ex) s.heap H [] := by rw [zH]; exact hX
  rw [show W zp l ze (rm_ 1 12 0 0) s zm zar zlo zme zcd s.heap [] 0 0 Q = W zp l ze (rm_ 1 12 0 0) s zm zar zlo zme zcd H [] 0 0 Q by rw [zH]]
  generalize ([] : List Loc) = locs at hX ⊢
  refine lv_aload_n zx zb dX0_fault_0 rfl (lv_at hl 0 rfl) ?_
  refine nv_get zC hX in_X0 0 rfl rfl 13 (by decide) q145 (fun _ h => h) rfl dX0_fault_1 ?_
  rw [← zQ]
  exact nv_endi zC zr zk () hX (by first | rfl | trivial) (by omega) (by omega) dX0_fault_4

set_option maxHeartbeats 4000000 in
theorem mx_refused  (k : Int32)  : nMt l D dA a0 yX0_refused cX0_refused 2 (some .int) 1 12 0 0 nvG0 [.ref (a 0), .int k] (xW dA a rn rt trace len stand first allh hAll fault row hOf farOf rowsN rowsT mcW edW words mcR edR rdgs sh ex) (nQi D a0 (fun (r : Int32) (_ : Unit) => r = k) (fun (_ : Unit) => xW dA a rn rt trace len stand first allh hAll (nI 0) row hOf farOf rowsN rowsT mcW edW words mcR edR rdgs sh ex)) := by
  refine nv_start (by decide) (Nat.le_of_ble_eq_true rfl) fun zp ze s zm zlo zme zcd ls zC zr zk znm hX zG hl => ?_
  have zx := zC.1
  have zb := zC.2.1
  generalize zargs : ([.ref (a 0), .int k] : List Value).toArray = zar at zC ⊢
  generalize zQ : MQ zlo _ zar s _ _ _ = Q
  have hX : nvS D a0 (xW dA a rn rt trace len stand first allh hAll fault row hOf farOf rowsN rowsT mcW edW words mcR edR rdgs sh ex) s.heap s.heap [] := hX
  have hl : lv_has ls 2 [(0, .ref (a 0)), (1, .int k)] := hl
  obtain ⟨H, zH⟩ : ∃ H, H = s.heap := ⟨_, rfl⟩
  have hX : nvS D a0 (xW dA a rn rt trace len stand first allh hAll fault row hOf farOf rowsN rowsT mcW edW words mcR edR rdgs sh ex) s.heap H [] := by rw [zH]; exact hX
  rw [show W zp l ze (rm_ 1 12 0 0) s zm zar zlo zme zcd s.heap [] 0 0 Q = W zp l ze (rm_ 1 12 0 0) s zm zar zlo zme zcd H [] 0 0 Q by rw [zH]]
  generalize ([] : List Loc) = locs at hX ⊢
  refine lv_aload_n zx zb dX0_refused_0 rfl (lv_at hl 0 rfl) ?_
  refine lv_iconst (v := nI 0) zx zb dX0_refused_1 (by decide) ?_
  refine nv_put zC hX in_X0 tyX0 tyX0_ok nmX0 0 rfl rfl 13 (by decide) q145 (fun _ h => h) rfl rfl rfl (Nat.le_of_ble_eq_true rfl) (w' := xW dA a rn rt trace len stand first allh hAll (nI 0) row hOf farOf rowsN rowsT mcW edW words mcR edR rdgs sh ex) rfl dX0_refused_2 (fun H locs hX => ?_)
  refine lv_iload_n zx zb dX0_refused_5 rfl (lv_at hl 1 rfl) ?_
  rw [← zQ]
  exact nv_endi zC zr zk () hX (by first | rfl | trivial) (by omega) (by omega) dX0_refused_6

set_option maxHeartbeats 4000000 in
theorem mx_fails  (k : Nat)  : nMt l D dA a0 yX0_fails cX0_fails 2 (some .int) 1 12 0 0 nvG0 [.ref (a 0), .int (nI k)] (xW dA a rn rt trace len stand first allh hAll fault row hOf farOf rowsN rowsT mcW edW words mcR edR rdgs sh ex) (nQi D a0 (fun (r : Int32) (_ : Unit) => r = (-10) - nI k) (fun (_ : Unit) => xW dA a rn rt trace len stand first allh hAll (nI k) row hOf farOf rowsN rowsT mcW edW words mcR edR rdgs sh ex)) := by
  refine nv_start (by decide) (Nat.le_of_ble_eq_true rfl) fun zp ze s zm zlo zme zcd ls zC zr zk znm hX zG hl => ?_
  have zx := zC.1
  have zb := zC.2.1
  generalize zargs : ([.ref (a 0), .int (nI k)] : List Value).toArray = zar at zC ⊢
  generalize zQ : MQ zlo _ zar s _ _ _ = Q
  have hX : nvS D a0 (xW dA a rn rt trace len stand first allh hAll fault row hOf farOf rowsN rowsT mcW edW words mcR edR rdgs sh ex) s.heap s.heap [] := hX
  have hl : lv_has ls 2 [(0, .ref (a 0)), (1, .int (nI k))] := hl
  obtain ⟨H, zH⟩ : ∃ H, H = s.heap := ⟨_, rfl⟩
  have hX : nvS D a0 (xW dA a rn rt trace len stand first allh hAll fault row hOf farOf rowsN rowsT mcW edW words mcR edR rdgs sh ex) s.heap H [] := by rw [zH]; exact hX
  rw [show W zp l ze (rm_ 1 12 0 0) s zm zar zlo zme zcd s.heap [] 0 0 Q = W zp l ze (rm_ 1 12 0 0) s zm zar zlo zme zcd H [] 0 0 Q by rw [zH]]
  generalize ([] : List Loc) = locs at hX ⊢
  refine lv_aload_n zx zb dX0_fails_0 rfl (lv_at hl 0 rfl) ?_
  refine lv_iload_n zx zb dX0_fails_1 rfl (lv_at hl 1 rfl) ?_
  refine nv_put zC hX in_X0 tyX0 tyX0_ok nmX0 0 rfl rfl 13 (by decide) q145 (fun _ h => h) rfl rfl rfl (Nat.le_of_ble_eq_true rfl) (w' := xW dA a rn rt trace len stand first allh hAll (nI k) row hOf farOf rowsN rowsT mcW edW words mcR edR rdgs sh ex) rfl dX0_fails_2 (fun H locs hX => ?_)
  refine lv_bipush (v := (-10)) zx zb dX0_fails_5 (by decide) ?_
  refine lv_iload_n zx zb dX0_fails_7 rfl (lv_at hl 1 rfl) ?_
  refine lv_isub zx zb dX0_fails_8 ?_
  rw [← zQ]
  exact nv_endi zC zr zk () hX (by first | rfl | trivial) (by omega) (by omega) dX0_fails_9

set_option maxHeartbeats 4000000 in
theorem mx_failsLong  (k : Nat)  : nMt l D dA a0 yX0_failsLong cX0_failsLong 2 (some .long) 1 12 0 0 nvG0 [.ref (a 0), .int (nI k)] (xW dA a rn rt trace len stand first allh hAll fault row hOf farOf rowsN rowsT mcW edW words mcR edR rdgs sh ex) (nQl D a0 (fun (r : Int64) (_ : Unit) => r = (-9223372036854775808)) (fun (_ : Unit) => xW dA a rn rt trace len stand first allh hAll (nI k) row hOf farOf rowsN rowsT mcW edW words mcR edR rdgs sh ex)) := by
  refine nv_start (by decide) (Nat.le_of_ble_eq_true rfl) fun zp ze s zm zlo zme zcd ls zC zr zk znm hX zG hl => ?_
  have zx := zC.1
  have zb := zC.2.1
  generalize zargs : ([.ref (a 0), .int (nI k)] : List Value).toArray = zar at zC ⊢
  generalize zQ : MQ zlo _ zar s _ _ _ = Q
  have hX : nvS D a0 (xW dA a rn rt trace len stand first allh hAll fault row hOf farOf rowsN rowsT mcW edW words mcR edR rdgs sh ex) s.heap s.heap [] := hX
  have hl : lv_has ls 2 [(0, .ref (a 0)), (1, .int (nI k))] := hl
  obtain ⟨H, zH⟩ : ∃ H, H = s.heap := ⟨_, rfl⟩
  have hX : nvS D a0 (xW dA a rn rt trace len stand first allh hAll fault row hOf farOf rowsN rowsT mcW edW words mcR edR rdgs sh ex) s.heap H [] := by rw [zH]; exact hX
  rw [show W zp l ze (rm_ 1 12 0 0) s zm zar zlo zme zcd s.heap [] 0 0 Q = W zp l ze (rm_ 1 12 0 0) s zm zar zlo zme zcd H [] 0 0 Q by rw [zH]]
  generalize ([] : List Loc) = locs at hX ⊢
  refine lv_aload_n zx zb dX0_failsLong_0 rfl (lv_at hl 0 rfl) ?_
  refine lv_iload_n zx zb dX0_failsLong_1 rfl (lv_at hl 1 rfl) ?_
  refine nv_put zC hX in_X0 tyX0 tyX0_ok nmX0 0 rfl rfl 13 (by decide) q145 (fun _ h => h) rfl rfl rfl (Nat.le_of_ble_eq_true rfl) (w' := xW dA a rn rt trace len stand first allh hAll (nI k) row hOf farOf rowsN rowsT mcW edW words mcR edR rdgs sh ex) rfl dX0_failsLong_2 (fun H locs hX => ?_)
  refine lv_ldc2 (v := (-9223372036854775808)) zx zb zC.2.2.2.1 (zC.2.2.2.2.1 _ q371) dX0_failsLong_5 ?_
  rw [← zQ]
  exact nv_endl zC zr zk () hX (by first | rfl | trivial) (by omega) (by omega) dX0_failsLong_8

set_option maxHeartbeats 4000000 in
theorem mx_noSheet  (v : Int32)  : nMt l D dA a0 yX0_noSheet cX0_noSheet 1 (some .boolean) 2 37 0 0 nvG0 [.int v] (ex) (nQi D a0 (fun (r : Int32) (_ : Unit) => r = nB (!inN v 0 3)) (fun (_ : Unit) => ex)) := by
  refine nv_start (by decide) (Nat.le_of_ble_eq_true rfl) fun zp ze s zm zlo zme zcd ls zC zr zk znm hX zG hl => ?_
  have zx := zC.1
  have zb := zC.2.1
  generalize zargs : ([.int v] : List Value).toArray = zar at zC ⊢
  generalize zQ : MQ zlo _ zar s _ _ _ = Q
  have hX : nvS D a0 (ex) s.heap s.heap [] := hX
  have hl : lv_has ls 1 [(0, .int v)] := hl
  obtain ⟨H, zH⟩ : ∃ H, H = s.heap := ⟨_, rfl⟩
  have hX : nvS D a0 (ex) s.heap H [] := by rw [zH]; exact hX
  rw [show W zp l ze (rm_ 2 37 0 0) s zm zar zlo zme zcd s.heap [] 0 0 Q = W zp l ze (rm_ 2 37 0 0) s zm zar zlo zme zcd H [] 0 0 Q by rw [zH]]
  generalize ([] : List Loc) = locs at hX ⊢
  refine lv_iload_n zx zb dX0_noSheet_0 rfl (lv_at hl 0 rfl) ?_
  refine lv_i2l zx zb dX0_noSheet_1 rfl ?_
  refine lv_lconst (v := lN 0) zx zb dX0_noSheet_2 (by decide) ?_
  refine lv_ldc2 (v := lN 3) zx zb zC.2.2.2.1 (zC.2.2.2.2.1 _ q506) dX0_noSheet_3 ?_
  refine nv_ki zC hX (nv_rS (n := 3) (As := [.long v.toInt64, .long (lN 0), .long (lN 3)]) (rest := []) zC hX (mx_in (v := v.toInt64) (lo := lN 0) (hi := lN 3)) nvGb0 (fun _ _ _ => trivial) q197 q198 q59 q199 (by decide +kernel) rfl ⟨Nat.le_of_ble_eq_true rfl, Nat.le_of_ble_eq_true rfl⟩ hl.1 (Nat.le_of_ble_eq_true rfl) dX0_noSheet_6 ⟨by first | exact Nat.le_of_ble_eq_true rfl | omega, by first | exact Nat.le_of_ble_eq_true rfl | omega⟩) (fun r u H locs hp hX => ?_)
  have hr_ : r = nB (decide (lN 0 ≤ v.toInt64) && decide (v.toInt64 ≤ lN 3)) := hp
  subst hr_
  have hX : nvS D a0 (ex) s.heap H locs := hX
  refine W.cs (cells' := 0) (slots' := 0) (Nat.add_zero _) (Nat.add_zero _) ?_
  refine nv_as (show nB (decide (lN 0 ≤ v.toInt64) && decide (v.toInt64 ≤ lN 3)) = nB (inN v 0 3) from (congrArg nB (inN_l (by decide) (by decide)))) ?_
  refine nv_if_neB (tgt := 16) zx zb dX0_noSheet_9 (by decide) (fun c9 => ?_) (fun c9 => ?_)
  · refine lv_iconst (v := nI 0) zx zb dX0_noSheet_16 (by decide) ?_
    refine nv_as (show nI 0 = nB (!inN v 0 3) from (nB_as0 (by rw [c9]; rfl))) ?_
    rw [← zQ]
    exact nv_endz zC zr zk () hX (by first | rfl | trivial) (by omega) (by omega) dX0_noSheet_17
  · refine lv_iconst (v := nI 1) zx zb dX0_noSheet_12 (by decide) ?_
    refine lv_goto (tgt := 17) zx zb dX0_noSheet_13 (by decide) ?_
    refine nv_as (show nI 1 = nB (!inN v 0 3) from (nB_as1 (by rw [c9]; rfl))) ?_
    rw [← zQ]
    exact nv_endz zC zr zk () hX (by first | rfl | trivial) (by omega) (by omega) dX0_noSheet_17

set_option maxHeartbeats 4000000 in
theorem mx_codeAt  (cl_ : Nat → Int32) (p_ : Nat) (m_ : Nat) (ra_ : Nat) (at_ : Nat) (hr : (ra_, aI dA m_ (cfN cl_ p_ m_)) ∈ ex) (hm : m_ ≤ 60) (hat : at_ < 1000) : nMt l D dA a0 yX0_codeAt cX0_codeAt 2 (some .int) 1 12 0 0 nvG0 [.ref ra_, .int (nI at_)] (ex) (nQi D a0 (fun (r : Int32) (_ : Unit) => r = cdA cl_ p_ m_ at_) (fun (_ : Unit) => ex)) := by
  refine nv_start (by decide) (Nat.le_of_ble_eq_true rfl) fun zp ze s zm zlo zme zcd ls zC zr zk znm hX zG hl => ?_
  have zx := zC.1
  have zb := zC.2.1
  generalize zargs : ([.ref ra_, .int (nI at_)] : List Value).toArray = zar at zC ⊢
  generalize zQ : MQ zlo _ zar s _ _ _ = Q
  have hX : nvS D a0 (ex) s.heap s.heap [] := hX
  have hl : lv_has ls 2 [(0, .ref ra_), (1, .int (nI at_))] := hl
  obtain ⟨H, zH⟩ : ∃ H, H = s.heap := ⟨_, rfl⟩
  have hX : nvS D a0 (ex) s.heap H [] := by rw [zH]; exact hX
  rw [show W zp l ze (rm_ 1 12 0 0) s zm zar zlo zme zcd s.heap [] 0 0 Q = W zp l ze (rm_ 1 12 0 0) s zm zar zlo zme zcd H [] 0 0 Q by rw [zH]]
  generalize ([] : List Loc) = locs at hX ⊢
  refine lv_iload_n zx zb dX0_codeAt_0 rfl (lv_at hl 1 rfl) ?_
  refine lv_aload_n zx zb dX0_codeAt_1 rfl (lv_at hl 0 rfl) ?_
  refine nv_alenM zC hX 0 hr rfl dX0_codeAt_2 ?_
  refine nv_icmp_ge (tgt := 12) zx zb (by omega) (by omega) dX0_codeAt_3 (by decide) (fun c3 => ?_) (fun c3 => ?_)
  · refine lv_bipush (v := (-9)) zx zb dX0_codeAt_12 (by decide) ?_
    rw [← zQ]
    exact nv_endi zC zr zk () hX (by exact (if_neg (by omega)).symm) (by omega) (by omega) dX0_codeAt_14
  · refine lv_aload_n zx zb dX0_codeAt_6 rfl (lv_at hl 0 rfl) ?_
    refine lv_iload_n zx zb dX0_codeAt_7 rfl (lv_at hl 1 rfl) ?_
    refine nv_ialdM (v := cl_ (p_ + at_)) zC hX hr c3 (by omega) (if_pos c3) dX0_codeAt_8 ?_
    refine lv_goto (tgt := 14) zx zb dX0_codeAt_9 (by decide) ?_
    rw [← zQ]
    exact nv_endi zC zr zk () hX (by exact (if_pos c3).symm) (by omega) (by omega) dX0_codeAt_14

set_option maxHeartbeats 4000000 in
theorem mx_many  (what : Int32) (hW : wdIn dA (a 0) words kind longOf letters edW ez fW pa la ex) (hok : wOK words kind longOf letters) (hl60 : len ≤ 60) (h3 : ∀ j, row j < 3) : nMt l D dA a0 yX0_many cX0_many 2 (some .int) 7 154 0 0 (nvE a0 ez) [.ref (a 0), .int what] (xW dA a rn rt trace len stand first allh hAll fault row hOf farOf rowsN rowsT mcW edW words mcR edR rdgs sh ex) (nQi D a0 (fun (r : Int32) (u : Nat × Option Nat × Option Nat × Nat × (Nat → Nat)) => r = F_many words len kind longOf letters row rdgs what) (fun (u : Nat × Option Nat × Option Nat × Nat × (Nat → Nat)) => xW dA a rn rt trace len u.1 u.2.1 u.2.2.1 u.2.2.2.1 fault row u.2.2.2.2 farOf rowsN rowsT mcW edW words mcR edR rdgs sh ex)) := by
  refine nv_start (by decide) (Nat.le_of_ble_eq_true rfl) fun zp ze s zm zlo zme zcd ls zC zr zk znm hX zG hl => ?_
  have zx := zC.1
  have zb := zC.2.1
  generalize zargs : ([.ref (a 0), .int what] : List Value).toArray = zar at zC ⊢
  generalize zQ : MQ zlo _ zar s _ _ _ = Q
  have hX : nvS D a0 (xW dA a rn rt trace len stand first allh hAll fault row hOf farOf rowsN rowsT mcW edW words mcR edR rdgs sh ex) s.heap s.heap [] := hX
  have hl : lv_has ls 2 [(0, .ref (a 0)), (1, .int what)] := hl
  obtain ⟨H, zH⟩ : ∃ H, H = s.heap := ⟨_, rfl⟩
  have hX : nvS D a0 (xW dA a rn rt trace len stand first allh hAll fault row hOf farOf rowsN rowsT mcW edW words mcR edR rdgs sh ex) s.heap H [] := by rw [zH]; exact hX
  rw [show W zp l ze (rm_ 7 154 0 0) s zm zar zlo zme zcd s.heap [] 0 0 Q = W zp l ze (rm_ 7 154 0 0) s zm zar zlo zme zcd H [] 0 0 Q by rw [zH]]
  generalize ([] : List Loc) = locs at hX ⊢
  have hw4 := hok.1
  refine lv_iload_n zx zb dX0_many_0 rfl (lv_at hl 1 rfl) ?_
  rcases sw_lt (what) (n := 4) (by decide) with ⟨sw, swh, swe⟩ | swo
  · rcases (by omega : sw = 0 ∨ sw = 1 ∨ sw = 2 ∨ sw = 3) with swi | swi | swi | swi
    · rw [swi] at swe
      subst swe
      refine lv_tableIn (tgt := 32) zx zb dX0_many_1 (by decide) (by decide) rfl (by decide) ?_
      refine lv_aload_n zx zb dX0_many_32 rfl (lv_at hl 0 rfl) ?_
      refine nv_get zC hX in_X0 0 rfl rfl 3 (by decide) q134 (fun _ h => h) rfl dX0_many_33 ?_
      refine nv_kFi zC hX (nv_rF (q := (RJ2, TJ2, 3)) (x := ⟨"java/util/List", "size", "()I"⟩) (y := yJ2_size) (n := 0) (As := []) (rest := []) (q0 := 2) zC hX (mj_size (zh := a 2) (mc := mcW) (ed := edW) (n := words) (hm := (List.mem_of_getElem? (i := 2) rfl))) nvGb0 (fun _ _ _ => trivial) (nvE_f0 zG) rfl rfl q188 q194 q192 q62 q196 (by decide +kernel) rfl ⟨Nat.le_of_ble_eq_true rfl, Nat.le_of_ble_eq_true rfl⟩ hl.1 (Nat.le_of_ble_eq_true rfl) dX0_many_36 ⟨by first | exact Nat.le_of_ble_eq_true rfl | omega, by first | exact Nat.le_of_ble_eq_true rfl | omega⟩) (fun r u H locs hp hX => ?_)
      have hr_ : r = nI words := hp
      subst hr_
      have hX : nvS D a0 (xW dA a rn rt trace len stand first allh hAll fault row hOf farOf rowsN rowsT mcW edW words mcR edR rdgs sh ex) s.heap H locs := hX
      refine W.cs (cells' := 0) (slots' := 0) (Nat.add_zero _) (Nat.add_zero _) ?_
      rw [← zQ]
      exact nv_endi zC zr zk (stand, first, allh, hAll, hOf) hX (by (try dsimp only); unfold F_many; rw [if_pos rfl]) (by omega) (by omega) dX0_many_41
    · rw [swi] at swe
      subst swe
      refine lv_tableIn (tgt := 42) zx zb dX0_many_1 (by decide) (by decide) rfl (by decide) ?_
      refine lv_aload_n zx zb dX0_many_42 rfl (lv_at hl 0 rfl) ?_
      refine nv_get zC hX in_X0 0 rfl rfl 1 (by decide) q132 (fun _ h => h) rfl dX0_many_43 ?_
      rw [← zQ]
      exact nv_endi zC zr zk (stand, first, allh, hAll, hOf) hX (by (try dsimp only); unfold F_many; rw [if_neg (by decide), if_pos rfl]) (by omega) (by omega) dX0_many_46
    · rw [swi] at swe
      subst swe
      refine lv_tableIn (tgt := 47) zx zb dX0_many_1 (by decide) (by decide) rfl (by decide) ?_
      refine lv_aload_n zx zb dX0_many_47 rfl (lv_at hl 0 rfl) ?_
      refine lv_aload_n zx zb dX0_many_48 rfl (lv_at hl 0 rfl) ?_
      refine nv_get zC hX in_X0 0 rfl rfl 2 (by decide) q133 (fun _ h => h) rfl dX0_many_49 ?_
      refine lv_aload_n zx zb dX0_many_52 rfl (lv_at hl 0 rfl) ?_
      refine nv_get zC hX in_X0 0 rfl rfl 1 (by decide) q132 (fun _ h => h) rfl dX0_many_53 ?_
      refine nv_kv zC hX (nv_rV (n := 2) (As := [.ref (a 1), .int (nI len)]) (rest := []) (q0 := 0) zC hX (mx_hears (m_ := 60) (rw := row) (ra_ := a 1) (n := len) (hW := (by first | assumption | omega)) (hok := (by first | assumption | omega)) (hr := (List.mem_cons_self)) (hn := hl60) (hm := (by decide)) (h3 := h3)) (nvE_b a0 ez) (nvE_keep zG hX) rfl rfl q256 q258 qs1 q59 q259 (by decide +kernel) rfl ⟨Nat.le_of_ble_eq_true rfl, Nat.le_of_ble_eq_true rfl⟩ hl.1 (Nat.le_of_ble_eq_true rfl) dX0_many_56 ⟨by first | exact Nat.le_of_ble_eq_true rfl | omega, by first | exact Nat.le_of_ble_eq_true rfl | omega⟩) (fun u H locs hp hX => ?_)
      obtain ⟨hOf'_2, rfl⟩ : ∃ z, z = u := ⟨_, rfl⟩
      have h56 : (∀ w, w < words → hOf'_2 w = tmW kind longOf letters row len w) := hp
      have hX : nvS D a0 (xW dA a rn rt trace len (orUp (fun j => hbW kind longOf letters row words (j + 1)) len) (fstUp (fun j => decide (0 < hbW kind longOf letters row words (j + 1))) len) (fstUp (fun j => decide (orUp (fun j => hbW kind longOf letters row words (j + 1)) (j + 1) = 2 ^ words - 1)) len) (sumUp (fun j => popN (hbW kind longOf letters row words (j + 1))) len) fault row hOf'_2 farOf rowsN rowsT mcW edW words mcR edR rdgs sh ex) s.heap H locs := hX
      refine W.cs (cells' := 0) (slots' := 0) (Nat.add_zero _) (Nat.add_zero _) ?_
      refine lv_aload_n zx zb dX0_many_59 rfl (lv_at hl 0 rfl) ?_
      refine nv_get zC hX in_X0 0 rfl rfl 4 (by decide) q135 (fun _ h => h) rfl dX0_many_60 ?_
      rw [← zQ]
      exact nv_endi zC zr zk (orUp (fun j => hbW kind longOf letters row words (j + 1)) len, fstUp (fun j => decide (0 < hbW kind longOf letters row words (j + 1))) len, fstUp (fun j => decide (orUp (fun j => hbW kind longOf letters row words (j + 1)) (j + 1) = 2 ^ words - 1)) len, sumUp (fun j => popN (hbW kind longOf letters row words (j + 1))) len, hOf'_2) hX (by (try dsimp only); unfold F_many; rw [if_neg (by decide), if_neg (by decide), if_pos rfl]; exact congrArg nI or_ORU) (by omega) (by omega) dX0_many_63
    · rw [swi] at swe
      subst swe
      refine lv_tableIn (tgt := 64) zx zb dX0_many_1 (by decide) (by decide) rfl (by decide) ?_
      refine lv_aload_n zx zb dX0_many_64 rfl (lv_at hl 0 rfl) ?_
      refine nv_get zC hX in_X0 0 rfl rfl 12 (by decide) q143 (fun _ h => h) rfl dX0_many_65 ?_
      refine nv_kFi zC hX (nv_rF (q := (RJ2, TJ2, 3)) (x := ⟨"java/util/List", "size", "()I"⟩) (y := yJ2_size) (n := 0) (As := []) (rest := []) (q0 := 7) zC hX (mj_size (zh := a 5) (mc := mcR) (ed := edR) (n := rdgs) (hm := (List.mem_of_getElem? (i := 7) rfl))) nvGb0 (fun _ _ _ => trivial) (nvE_f0 zG) rfl rfl q188 q194 q192 q62 q196 (by decide +kernel) rfl ⟨Nat.le_of_ble_eq_true rfl, Nat.le_of_ble_eq_true rfl⟩ hl.1 (Nat.le_of_ble_eq_true rfl) dX0_many_68 ⟨by first | exact Nat.le_of_ble_eq_true rfl | omega, by first | exact Nat.le_of_ble_eq_true rfl | omega⟩) (fun r u H locs hp hX => ?_)
      have hr_ : r = nI rdgs := hp
      subst hr_
      have hX : nvS D a0 (xW dA a rn rt trace len stand first allh hAll fault row hOf farOf rowsN rowsT mcW edW words mcR edR rdgs sh ex) s.heap H locs := hX
      refine W.cs (cells' := 0) (slots' := 0) (Nat.add_zero _) (Nat.add_zero _) ?_
      rw [← zQ]
      exact nv_endi zC zr zk (stand, first, allh, hAll, hOf) hX (by (try dsimp only); unfold F_many; rw [if_neg (by decide), if_neg (by decide), if_neg (by decide), if_pos rfl]) (by omega) (by omega) dX0_many_73
  · refine lv_tableOut (tgt := 74) zx zb dX0_many_1 (by omega) (by decide) ?_
    refine lv_bipush (v := (-2)) zx zb dX0_many_74 (by decide) ?_
    rw [← zQ]
    exact nv_endi zC zr zk (stand, first, allh, hAll, hOf) hX (by (try dsimp only); unfold F_many; have q : ∀ i : Nat, i < 4 → what ≠ nI i := fun i hi z => (by rw [z, nI_toInt (show i < 2 ^ 31 by omega)] at swo; omega); rw [if_neg (q 0 (by decide)), if_neg (q 1 (by decide)), if_neg (q 2 (by decide)), if_neg (q 3 (by decide))]) (by omega) (by omega) dX0_many_76
end CL_50_d1
