/-! printed by klass2.py -/
set_option maxRecDepth 100000
section CL_74_e7
variable {l : Launch} {D : va_G} {dA : Nat → ClassId} {a0 ez : Nat} {ex : va_W} {a : Nat → Nat} {rn : Nat} {rt : Nat} {trace : Int32} {len : Nat} {stand : Nat} {first : Option Nat} {allh : Option Nat} {hAll : Nat} {fault : Int32} {row : Nat → Nat} {hOf : Nat → Nat} {farOf : Nat → Option Nat} {rowsN : Nat → Nat} {rowsT : Nat → Nat} {mcW : Int32} {edW : Nat} {words : Nat} {mcR : Int32} {edR : Nat} {rdgs : Nat} {sh : Nat → Option Nat} {kind longOf letters : Nat → Nat} {fW : Nat → Option Nat} {pa la : Nat → Nat} {rWord rMany rStands rRow : Nat → Nat} {fR : Nat → Option Nat} {pr lr : Nat → Nat} {so : Nat → Option Nat} {shL : Nat → Nat} {cl : Nat → Int32} {pS lS col : Nat → Nat} {ow : va_W} {mo : Nat}
set_option maxHeartbeats 4000000 in
theorem mt_X5_tracedBy_0  (zh : Nat) (la : Nat) (ln : Nat) (lt : Nat → Nat) (n : Int32) (hm : (zh, .inr (2, [.ref la, .ref (a 0)])) ∈ ex) (ha : (la, aI dA ln (nF lt)) ∈ ex) : nMt l D dA a0 yX5_tracedBy cX5_tracedBy 2 (some .int) 1 12 0 0 (nvE a0 ez) [.ref zh, .int n] (xW dA a rn rt trace len stand first allh hAll fault row hOf farOf rowsN rowsT mcW edW words mcR edR rdgs sh ex) (nQi D a0 (fun (r : Int32) (_ : Unit) => r = nI 0) (fun (_ : Unit) => xW dA a rn rt (nI 31 * trace + n) len stand first allh hAll fault row hOf farOf rowsN rowsT mcW edW words mcR edR rdgs sh ex)) := by
  refine nv_start (by decide) (Nat.le_of_ble_eq_true rfl) fun zp ze s zm zlo zme zcd ls zC zr zk znm hX zG hl => ?_
  have zx := zC.1
  have zb := zC.2.1
  generalize zargs : ([.ref zh, .int n] : List Value).toArray = zar at zC ⊢
  generalize zQ : MQ zlo _ zar s _ _ _ = Q
  have hX : nvS D a0 (xW dA a rn rt trace len stand first allh hAll fault row hOf farOf rowsN rowsT mcW edW words mcR edR rdgs sh ex) s.heap s.heap [] := hX
  have hl : lv_has ls 2 [(0, .ref zh), (1, .int n)] := hl
  obtain ⟨H, zH⟩ : ∃ H, H = s.heap := ⟨_, rfl⟩
  have hX : nvS D a0 (xW dA a rn rt trace len stand first allh hAll fault row hOf farOf rowsN rowsT mcW edW words mcR edR rdgs sh ex) s.heap H [] := by rw [zH]; exact hX
  rw [show W zp l ze (rm_ 1 12 0 0) s zm zar zlo zme zcd s.heap [] 0 0 Q = W zp l ze (rm_ 1 12 0 0) s zm zar zlo zme zcd H [] 0 0 Q by rw [zH]]
  generalize ([] : List Loc) = locs at hX ⊢
  obtain ⟨yq, yhq⟩ := List.getElem?_of_mem hm
  obtain ⟨yr, yhr⟩ := List.getElem?_of_mem ha
  refine lv_aload_n zx zb dX5_tracedBy_0 rfl (lv_at hl 0 rfl) ?_
  refine nv_get zC hX in_X5 (yq + 9) (xW_9x yhq) rfl 1 (by decide) q453 (fun _ h => h) rfl dX5_tracedBy_1 ?_
  refine lv_bipush (v := nI 31) zx zb dX5_tracedBy_4 (by decide) ?_
  refine lv_aload_n zx zb dX5_tracedBy_6 rfl (lv_at hl 0 rfl) ?_
  refine nv_get zC hX in_X5 (yq + 9) (xW_9x yhq) rfl 1 (by decide) q453 (fun _ h => h) rfl dX5_tracedBy_7 ?_
  refine nv_getNM zC hX in_X0 (List.mem_of_getElem? (i := 0) rfl) rfl 0 (by decide) (nvE_n4 zG) (fun _ h => h) rfl dX5_tracedBy_10 ?_
  refine lv_imul zx zb dX5_tracedBy_13 ?_
  refine lv_iload_n zx zb dX5_tracedBy_14 rfl (lv_at hl 1 rfl) ?_
  refine lv_iadd zx zb dX5_tracedBy_15 ?_
  refine nv_putN zC hX in_X0 tyX0 tyX0_ok nmX0 0 rfl rfl 0 (by decide) (nvE_n4 zG) (fun _ h => h) rfl rfl rfl (Nat.le_of_ble_eq_true rfl) (w' := xW dA a rn rt (((nI 31) * trace) + n) len stand first allh hAll fault row hOf farOf rowsN rowsT mcW edW words mcR edR rdgs sh ex) rfl dX5_tracedBy_16 (fun H locs hX => ?_)
  refine lv_iconst (v := nI 0) zx zb dX5_tracedBy_19 (by decide) ?_
  rw [← zQ]
  exact nv_endi zC zr zk () hX (by first | rfl | trivial) (by omega) (by omega) dX5_tracedBy_20

set_option maxHeartbeats 4000000 in
theorem mt_X5_tracedBy_1  (zh : Nat) (la : Nat) (ln : Nat) (lt : Nat → Nat) (n : Int32) (hm : (zh, .inr (3, [.ref la, .ref (a 0), .ref (a 0)])) ∈ ex) (ha : (la, aI dA ln (nF lt)) ∈ ex) : nMt l D dA a0 yX5_tracedBy cX5_tracedBy 2 (some .int) 1 12 0 0 (nvE a0 ez) [.ref zh, .int n] (xW dA a rn rt trace len stand first allh hAll fault row hOf farOf rowsN rowsT mcW edW words mcR edR rdgs sh ex) (nQi D a0 (fun (r : Int32) (_ : Unit) => r = nI 0) (fun (_ : Unit) => xW dA a rn rt (nI 31 * trace + n) len stand first allh hAll fault row hOf farOf rowsN rowsT mcW edW words mcR edR rdgs sh ex)) := by
  refine nv_start (by decide) (Nat.le_of_ble_eq_true rfl) fun zp ze s zm zlo zme zcd ls zC zr zk znm hX zG hl => ?_
  have zx := zC.1
  have zb := zC.2.1
  generalize zargs : ([.ref zh, .int n] : List Value).toArray = zar at zC ⊢
  generalize zQ : MQ zlo _ zar s _ _ _ = Q
  have hX : nvS D a0 (xW dA a rn rt trace len stand first allh hAll fault row hOf farOf rowsN rowsT mcW edW words mcR edR rdgs sh ex) s.heap s.heap [] := hX
  have hl : lv_has ls 2 [(0, .ref zh), (1, .int n)] := hl
  obtain ⟨H, zH⟩ : ∃ H, H = s.heap := ⟨_, rfl⟩
  have hX : nvS D a0 (xW dA a rn rt trace len stand first allh hAll fault row hOf farOf rowsN rowsT mcW edW words mcR edR rdgs sh ex) s.heap H [] := by rw [zH]; exact hX
  rw [show W zp l ze (rm_ 1 12 0 0) s zm zar zlo zme zcd s.heap [] 0 0 Q = W zp l ze (rm_ 1 12 0 0) s zm zar zlo zme zcd H [] 0 0 Q by rw [zH]]
  generalize ([] : List Loc) = locs at hX ⊢
  obtain ⟨yq, yhq⟩ := List.getElem?_of_mem hm
  obtain ⟨yr, yhr⟩ := List.getElem?_of_mem ha
  refine lv_aload_n zx zb dX5_tracedBy_0 rfl (lv_at hl 0 rfl) ?_
  refine nv_get zC hX in_X6 (yq + 9) (xW_9x yhq) rfl 1 (by decide) q453 (fun _ h => h) rfl dX5_tracedBy_1 ?_
  refine lv_bipush (v := nI 31) zx zb dX5_tracedBy_4 (by decide) ?_
  refine lv_aload_n zx zb dX5_tracedBy_6 rfl (lv_at hl 0 rfl) ?_
  refine nv_get zC hX in_X6 (yq + 9) (xW_9x yhq) rfl 1 (by decide) q453 (fun _ h => h) rfl dX5_tracedBy_7 ?_
  refine nv_getNM zC hX in_X0 (List.mem_of_getElem? (i := 0) rfl) rfl 0 (by decide) (nvE_n4 zG) (fun _ h => h) rfl dX5_tracedBy_10 ?_
  refine lv_imul zx zb dX5_tracedBy_13 ?_
  refine lv_iload_n zx zb dX5_tracedBy_14 rfl (lv_at hl 1 rfl) ?_
  refine lv_iadd zx zb dX5_tracedBy_15 ?_
  refine nv_putN zC hX in_X0 tyX0 tyX0_ok nmX0 0 rfl rfl 0 (by decide) (nvE_n4 zG) (fun _ h => h) rfl rfl rfl (Nat.le_of_ble_eq_true rfl) (w' := xW dA a rn rt (((nI 31) * trace) + n) len stand first allh hAll fault row hOf farOf rowsN rowsT mcW edW words mcR edR rdgs sh ex) rfl dX5_tracedBy_16 (fun H locs hX => ?_)
  refine lv_iconst (v := nI 0) zx zb dX5_tracedBy_19 (by decide) ?_
  rw [← zQ]
  exact nv_endi zC zr zk () hX (by first | rfl | trivial) (by omega) (by omega) dX5_tracedBy_20

set_option maxHeartbeats 4000000 in
theorem mt_X5_tracedBy_2  (zh : Nat) (la : Nat) (ln : Nat) (lt : Nat → Nat) (n : Int32) (hm : (zh, .inr (4, [.ref la, .ref (a 0), .ref (a 0), .ref (a 0)])) ∈ ex) (ha : (la, aI dA ln (nF lt)) ∈ ex) : nMt l D dA a0 yX5_tracedBy cX5_tracedBy 2 (some .int) 1 12 0 0 (nvE a0 ez) [.ref zh, .int n] (xW dA a rn rt trace len stand first allh hAll fault row hOf farOf rowsN rowsT mcW edW words mcR edR rdgs sh ex) (nQi D a0 (fun (r : Int32) (_ : Unit) => r = nI 0) (fun (_ : Unit) => xW dA a rn rt (nI 31 * trace + n) len stand first allh hAll fault row hOf farOf rowsN rowsT mcW edW words mcR edR rdgs sh ex)) := by
  refine nv_start (by decide) (Nat.le_of_ble_eq_true rfl) fun zp ze s zm zlo zme zcd ls zC zr zk znm hX zG hl => ?_
  have zx := zC.1
  have zb := zC.2.1
  generalize zargs : ([.ref zh, .int n] : List Value).toArray = zar at zC ⊢
  generalize zQ : MQ zlo _ zar s _ _ _ = Q
  have hX : nvS D a0 (xW dA a rn rt trace len stand first allh hAll fault row hOf farOf rowsN rowsT mcW edW words mcR edR rdgs sh ex) s.heap s.heap [] := hX
  have hl : lv_has ls 2 [(0, .ref zh), (1, .int n)] := hl
  obtain ⟨H, zH⟩ : ∃ H, H = s.heap := ⟨_, rfl⟩
  have hX : nvS D a0 (xW dA a rn rt trace len stand first allh hAll fault row hOf farOf rowsN rowsT mcW edW words mcR edR rdgs sh ex) s.heap H [] := by rw [zH]; exact hX
  rw [show W zp l ze (rm_ 1 12 0 0) s zm zar zlo zme zcd s.heap [] 0 0 Q = W zp l ze (rm_ 1 12 0 0) s zm zar zlo zme zcd H [] 0 0 Q by rw [zH]]
  generalize ([] : List Loc) = locs at hX ⊢
  obtain ⟨yq, yhq⟩ := List.getElem?_of_mem hm
  obtain ⟨yr, yhr⟩ := List.getElem?_of_mem ha
  refine lv_aload_n zx zb dX5_tracedBy_0 rfl (lv_at hl 0 rfl) ?_
  refine nv_get zC hX in_X7 (yq + 9) (xW_9x yhq) rfl 1 (by decide) q453 (fun _ h => h) rfl dX5_tracedBy_1 ?_
  refine lv_bipush (v := nI 31) zx zb dX5_tracedBy_4 (by decide) ?_
  refine lv_aload_n zx zb dX5_tracedBy_6 rfl (lv_at hl 0 rfl) ?_
  refine nv_get zC hX in_X7 (yq + 9) (xW_9x yhq) rfl 1 (by decide) q453 (fun _ h => h) rfl dX5_tracedBy_7 ?_
  refine nv_getNM zC hX in_X0 (List.mem_of_getElem? (i := 0) rfl) rfl 0 (by decide) (nvE_n4 zG) (fun _ h => h) rfl dX5_tracedBy_10 ?_
  refine lv_imul zx zb dX5_tracedBy_13 ?_
  refine lv_iload_n zx zb dX5_tracedBy_14 rfl (lv_at hl 1 rfl) ?_
  refine lv_iadd zx zb dX5_tracedBy_15 ?_
  refine nv_putN zC hX in_X0 tyX0 tyX0_ok nmX0 0 rfl rfl 0 (by decide) (nvE_n4 zG) (fun _ h => h) rfl rfl rfl (Nat.le_of_ble_eq_true rfl) (w' := xW dA a rn rt (((nI 31) * trace) + n) len stand first allh hAll fault row hOf farOf rowsN rowsT mcW edW words mcR edR rdgs sh ex) rfl dX5_tracedBy_16 (fun H locs hX => ?_)
  refine lv_iconst (v := nI 0) zx zb dX5_tracedBy_19 (by decide) ?_
  rw [← zQ]
  exact nv_endi zC zr zk () hX (by first | rfl | trivial) (by omega) (by omega) dX5_tracedBy_20

set_option maxHeartbeats 4000000 in
theorem mt_X5_said_0  (zh : Nat) (la : Nat) (ln : Nat) (lt : Nat → Nat) (hm : (zh, .inr (2, [.ref la, .ref (a 0)])) ∈ ex) (ha : (la, aI dA ln (nF lt)) ∈ ex) (hl4 : ln ≤ 4) : nMt l D dA a0 yX5_said cX5_said 1 (some .int) 2 33 0 0 (nvE a0 ez) [.ref zh] (xW dA a rn rt trace len stand first allh hAll fault row hOf farOf rowsN rowsT mcW edW words mcR edR rdgs sh ex) (nQi D a0 (fun (r : Int32) (_ : Unit) => r = nI ln) (fun (_ : Unit) => xW dA a rn rt (nI 31 * trace + nI 1) len stand first allh hAll fault row hOf farOf rowsN rowsT mcW edW words mcR edR rdgs sh ex)) := by
  refine nv_start (by decide) (Nat.le_of_ble_eq_true rfl) fun zp ze s zm zlo zme zcd ls zC zr zk znm hX zG hl => ?_
  have zx := zC.1
  have zb := zC.2.1
  generalize zargs : ([.ref zh] : List Value).toArray = zar at zC ⊢
  generalize zQ : MQ zlo _ zar s _ _ _ = Q
  have hX : nvS D a0 (xW dA a rn rt trace len stand first allh hAll fault row hOf farOf rowsN rowsT mcW edW words mcR edR rdgs sh ex) s.heap s.heap [] := hX
  have hl : lv_has ls 1 [(0, .ref zh)] := hl
  obtain ⟨H, zH⟩ : ∃ H, H = s.heap := ⟨_, rfl⟩
  have hX : nvS D a0 (xW dA a rn rt trace len stand first allh hAll fault row hOf farOf rowsN rowsT mcW edW words mcR edR rdgs sh ex) s.heap H [] := by rw [zH]; exact hX
  rw [show W zp l ze (rm_ 2 33 0 0) s zm zar zlo zme zcd s.heap [] 0 0 Q = W zp l ze (rm_ 2 33 0 0) s zm zar zlo zme zcd H [] 0 0 Q by rw [zH]]
  generalize ([] : List Loc) = locs at hX ⊢
  obtain ⟨yq, yhq⟩ := List.getElem?_of_mem hm
  obtain ⟨yr, yhr⟩ := List.getElem?_of_mem ha
  refine lv_aload_n zx zb dX5_said_0 rfl (lv_at hl 0 rfl) ?_
  refine lv_iconst (v := nI 1) zx zb dX5_said_1 (by decide) ?_
  refine nv_ki zC hX (nv_rV (n := 1) (As := [.int (nI 1)]) (rest := []) (q0 := (yq + 9)) zC hX (mt_X5_tracedBy_0 (zh := zh) (la := la) (ln := ln) (lt := lt) (n := nI 1) (hm := (by first | assumption | omega)) (ha := (by first | assumption | omega))) (nvE_b a0 ez) (nvE_keep zG hX) (xW_9x yhq) rfl q1090 q1086 q1528 q80 q1087 (by decide +kernel) rfl ⟨Nat.le_of_ble_eq_true rfl, Nat.le_of_ble_eq_true rfl⟩ hl.1 (Nat.le_of_ble_eq_true rfl) dX5_said_2 ⟨by first | exact Nat.le_of_ble_eq_true rfl | omega, by first | exact Nat.le_of_ble_eq_true rfl | omega⟩) (fun r u H locs hp hX => ?_)
  have hr_ : r = nI 0 := hp
  subst hr_
  have hX : nvS D a0 (xW dA a rn rt (nI 31 * trace + (nI 1)) len stand first allh hAll fault row hOf farOf rowsN rowsT mcW edW words mcR edR rdgs sh ex) s.heap H locs := hX
  refine W.cs (cells' := 0) (slots' := 0) (Nat.add_zero _) (Nat.add_zero _) ?_
  refine lv_aload_n zx zb dX5_said_5 rfl (lv_at hl 0 rfl) ?_
  refine nv_get zC hX in_X5 (yq + 9) (xW_9x yhq) rfl 0 (by decide) q444 (fun _ h => h) rfl dX5_said_6 ?_
  refine nv_alen zC hX (yr + 9) 0 (xW_9x yhr) rfl dX5_said_9 ?_
  refine nv_iadd zx zb dX5_said_10 ?_
  refine nv_as (show nI (0 + ln) = nI ln from (congrArg nI (Nat.zero_add _))) ?_
  rw [← zQ]
  exact nv_endi zC zr zk () hX (by first | rfl | trivial) (by omega) (by omega) dX5_said_11

set_option maxHeartbeats 4000000 in
theorem mt_X5_said_1  (zh : Nat) (la : Nat) (ln : Nat) (lt : Nat → Nat) (hm : (zh, .inr (3, [.ref la, .ref (a 0), .ref (a 0)])) ∈ ex) (ha : (la, aI dA ln (nF lt)) ∈ ex) (hl4 : ln ≤ 4) : nMt l D dA a0 yX5_said cX5_said 1 (some .int) 2 33 0 0 (nvE a0 ez) [.ref zh] (xW dA a rn rt trace len stand first allh hAll fault row hOf farOf rowsN rowsT mcW edW words mcR edR rdgs sh ex) (nQi D a0 (fun (r : Int32) (_ : Unit) => r = nI ln) (fun (_ : Unit) => xW dA a rn rt (nI 31 * trace + nI 1) len stand first allh hAll fault row hOf farOf rowsN rowsT mcW edW words mcR edR rdgs sh ex)) := by
  refine nv_start (by decide) (Nat.le_of_ble_eq_true rfl) fun zp ze s zm zlo zme zcd ls zC zr zk znm hX zG hl => ?_
  have zx := zC.1
  have zb := zC.2.1
  generalize zargs : ([.ref zh] : List Value).toArray = zar at zC ⊢
  generalize zQ : MQ zlo _ zar s _ _ _ = Q
  have hX : nvS D a0 (xW dA a rn rt trace len stand first allh hAll fault row hOf farOf rowsN rowsT mcW edW words mcR edR rdgs sh ex) s.heap s.heap [] := hX
  have hl : lv_has ls 1 [(0, .ref zh)] := hl
  obtain ⟨H, zH⟩ : ∃ H, H = s.heap := ⟨_, rfl⟩
  have hX : nvS D a0 (xW dA a rn rt trace len stand first allh hAll fault row hOf farOf rowsN rowsT mcW edW words mcR edR rdgs sh ex) s.heap H [] := by rw [zH]; exact hX
  rw [show W zp l ze (rm_ 2 33 0 0) s zm zar zlo zme zcd s.heap [] 0 0 Q = W zp l ze (rm_ 2 33 0 0) s zm zar zlo zme zcd H [] 0 0 Q by rw [zH]]
  generalize ([] : List Loc) = locs at hX ⊢
  obtain ⟨yq, yhq⟩ := List.getElem?_of_mem hm
  obtain ⟨yr, yhr⟩ := List.getElem?_of_mem ha
  refine lv_aload_n zx zb dX5_said_0 rfl (lv_at hl 0 rfl) ?_
  refine lv_iconst (v := nI 1) zx zb dX5_said_1 (by decide) ?_
  refine nv_ki zC hX (nv_rU (n := 1) (As := [.int (nI 1)]) (rest := []) (q0 := (yq + 9)) zC hX (mt_X5_tracedBy_1 (zh := zh) (la := la) (ln := ln) (lt := lt) (n := nI 1) (hm := (by first | assumption | omega)) (ha := (by first | assumption | omega))) (nvE_b a0 ez) (nvE_keep zG hX) (xW_9x yhq) rfl rfl q1090 q1526 q1086 q1527 q80 q1087 (by decide +kernel) rfl ⟨Nat.le_of_ble_eq_true rfl, Nat.le_of_ble_eq_true rfl⟩ hl.1 (Nat.le_of_ble_eq_true rfl) dX5_said_2 ⟨by first | exact Nat.le_of_ble_eq_true rfl | omega, by first | exact Nat.le_of_ble_eq_true rfl | omega⟩) (fun r u H locs hp hX => ?_)
  have hr_ : r = nI 0 := hp
  subst hr_
  have hX : nvS D a0 (xW dA a rn rt (nI 31 * trace + (nI 1)) len stand first allh hAll fault row hOf farOf rowsN rowsT mcW edW words mcR edR rdgs sh ex) s.heap H locs := hX
  refine W.cs (cells' := 0) (slots' := 0) (Nat.add_zero _) (Nat.add_zero _) ?_
  refine lv_aload_n zx zb dX5_said_5 rfl (lv_at hl 0 rfl) ?_
  refine nv_get zC hX in_X6 (yq + 9) (xW_9x yhq) rfl 0 (by decide) q444 (fun _ h => h) rfl dX5_said_6 ?_
  refine nv_alen zC hX (yr + 9) 0 (xW_9x yhr) rfl dX5_said_9 ?_
  refine nv_iadd zx zb dX5_said_10 ?_
  refine nv_as (show nI (0 + ln) = nI ln from (congrArg nI (Nat.zero_add _))) ?_
  rw [← zQ]
  exact nv_endi zC zr zk () hX (by first | rfl | trivial) (by omega) (by omega) dX5_said_11

set_option maxHeartbeats 4000000 in
theorem mt_X5_said_2  (zh : Nat) (la : Nat) (ln : Nat) (lt : Nat → Nat) (hm : (zh, .inr (4, [.ref la, .ref (a 0), .ref (a 0), .ref (a 0)])) ∈ ex) (ha : (la, aI dA ln (nF lt)) ∈ ex) (hl4 : ln ≤ 4) : nMt l D dA a0 yX5_said cX5_said 1 (some .int) 2 33 0 0 (nvE a0 ez) [.ref zh] (xW dA a rn rt trace len stand first allh hAll fault row hOf farOf rowsN rowsT mcW edW words mcR edR rdgs sh ex) (nQi D a0 (fun (r : Int32) (_ : Unit) => r = nI ln) (fun (_ : Unit) => xW dA a rn rt (nI 31 * trace + nI 1) len stand first allh hAll fault row hOf farOf rowsN rowsT mcW edW words mcR edR rdgs sh ex)) := by
  refine nv_start (by decide) (Nat.le_of_ble_eq_true rfl) fun zp ze s zm zlo zme zcd ls zC zr zk znm hX zG hl => ?_
  have zx := zC.1
  have zb := zC.2.1
  generalize zargs : ([.ref zh] : List Value).toArray = zar at zC ⊢
  generalize zQ : MQ zlo _ zar s _ _ _ = Q
  have hX : nvS D a0 (xW dA a rn rt trace len stand first allh hAll fault row hOf farOf rowsN rowsT mcW edW words mcR edR rdgs sh ex) s.heap s.heap [] := hX
  have hl : lv_has ls 1 [(0, .ref zh)] := hl
  obtain ⟨H, zH⟩ : ∃ H, H = s.heap := ⟨_, rfl⟩
  have hX : nvS D a0 (xW dA a rn rt trace len stand first allh hAll fault row hOf farOf rowsN rowsT mcW edW words mcR edR rdgs sh ex) s.heap H [] := by rw [zH]; exact hX
  rw [show W zp l ze (rm_ 2 33 0 0) s zm zar zlo zme zcd s.heap [] 0 0 Q = W zp l ze (rm_ 2 33 0 0) s zm zar zlo zme zcd H [] 0 0 Q by rw [zH]]
  generalize ([] : List Loc) = locs at hX ⊢
  obtain ⟨yq, yhq⟩ := List.getElem?_of_mem hm
  obtain ⟨yr, yhr⟩ := List.getElem?_of_mem ha
  refine lv_aload_n zx zb dX5_said_0 rfl (lv_at hl 0 rfl) ?_
  refine lv_iconst (v := nI 1) zx zb dX5_said_1 (by decide) ?_
  refine nv_ki zC hX (nv_rU (n := 1) (As := [.int (nI 1)]) (rest := []) (q0 := (yq + 9)) zC hX (mt_X5_tracedBy_2 (zh := zh) (la := la) (ln := ln) (lt := lt) (n := nI 1) (hm := (by first | assumption | omega)) (ha := (by first | assumption | omega))) (nvE_b a0 ez) (nvE_keep zG hX) (xW_9x yhq) rfl rfl q1090 q1526 q1086 q1529 q80 q1087 (by decide +kernel) rfl ⟨Nat.le_of_ble_eq_true rfl, Nat.le_of_ble_eq_true rfl⟩ hl.1 (Nat.le_of_ble_eq_true rfl) dX5_said_2 ⟨by first | exact Nat.le_of_ble_eq_true rfl | omega, by first | exact Nat.le_of_ble_eq_true rfl | omega⟩) (fun r u H locs hp hX => ?_)
  have hr_ : r = nI 0 := hp
  subst hr_
  have hX : nvS D a0 (xW dA a rn rt (nI 31 * trace + (nI 1)) len stand first allh hAll fault row hOf farOf rowsN rowsT mcW edW words mcR edR rdgs sh ex) s.heap H locs := hX
  refine W.cs (cells' := 0) (slots' := 0) (Nat.add_zero _) (Nat.add_zero _) ?_
  refine lv_aload_n zx zb dX5_said_5 rfl (lv_at hl 0 rfl) ?_
  refine nv_get zC hX in_X7 (yq + 9) (xW_9x yhq) rfl 0 (by decide) q444 (fun _ h => h) rfl dX5_said_6 ?_
  refine nv_alen zC hX (yr + 9) 0 (xW_9x yhr) rfl dX5_said_9 ?_
  refine nv_iadd zx zb dX5_said_10 ?_
  refine nv_as (show nI (0 + ln) = nI ln from (congrArg nI (Nat.zero_add _))) ?_
  rw [← zQ]
  exact nv_endi zC zr zk () hX (by first | rfl | trivial) (by omega) (by omega) dX5_said_11

set_option maxHeartbeats 4000000 in
theorem mt_X6_said_1  (zh : Nat) (la : Nat) (ln : Nat) (lt : Nat → Nat) (hm : (zh, .inr (3, [.ref la, .ref (a 0), .ref (a 0)])) ∈ ex) (ha : (la, aI dA ln (nF lt)) ∈ ex) (hl4 : ln ≤ 4) : nMt l D dA a0 yX6_said cX6_said 1 (some .int) 3 53 0 0 (nvE a0 ez) [.ref zh] (xW dA a rn rt trace len stand first allh hAll fault row hOf farOf rowsN rowsT mcW edW words mcR edR rdgs sh ex) (nQi D a0 (fun (r : Int32) (_ : Unit) => r = nI (ln + 100)) (fun (_ : Unit) => xW dA a rn rt (nI 31 * (nI 31 * trace + nI 2) + nI 1) len stand first allh hAll fault row hOf farOf rowsN rowsT mcW edW words mcR edR rdgs sh ex)) := by
  refine nv_start (by decide) (Nat.le_of_ble_eq_true rfl) fun zp ze s zm zlo zme zcd ls zC zr zk znm hX zG hl => ?_
  have zx := zC.1
  have zb := zC.2.1
  generalize zargs : ([.ref zh] : List Value).toArray = zar at zC ⊢
  generalize zQ : MQ zlo _ zar s _ _ _ = Q
  have hX : nvS D a0 (xW dA a rn rt trace len stand first allh hAll fault row hOf farOf rowsN rowsT mcW edW words mcR edR rdgs sh ex) s.heap s.heap [] := hX
  have hl : lv_has ls 1 [(0, .ref zh)] := hl
  obtain ⟨H, zH⟩ : ∃ H, H = s.heap := ⟨_, rfl⟩
  have hX : nvS D a0 (xW dA a rn rt trace len stand first allh hAll fault row hOf farOf rowsN rowsT mcW edW words mcR edR rdgs sh ex) s.heap H [] := by rw [zH]; exact hX
  rw [show W zp l ze (rm_ 3 53 0 0) s zm zar zlo zme zcd s.heap [] 0 0 Q = W zp l ze (rm_ 3 53 0 0) s zm zar zlo zme zcd H [] 0 0 Q by rw [zH]]
  generalize ([] : List Loc) = locs at hX ⊢
  obtain ⟨yq, yhq⟩ := List.getElem?_of_mem hm
  obtain ⟨yr, yhr⟩ := List.getElem?_of_mem ha
  refine lv_aload_n zx zb dX6_said_0 rfl (lv_at hl 0 rfl) ?_
  refine lv_iconst (v := nI 2) zx zb dX6_said_1 (by decide) ?_
  refine nv_ki zC hX (nv_rU (n := 1) (As := [.int (nI 2)]) (rest := []) (q0 := (yq + 9)) zC hX (mt_X5_tracedBy_1 (zh := zh) (la := la) (ln := ln) (lt := lt) (n := nI 2) (hm := (by first | assumption | omega)) (ha := (by first | assumption | omega))) (nvE_b a0 ez) (nvE_keep zG hX) (xW_9x yhq) rfl rfl q1081 q1082 q1086 q1084 q80 q1087 (by decide +kernel) rfl ⟨Nat.le_of_ble_eq_true rfl, Nat.le_of_ble_eq_true rfl⟩ hl.1 (Nat.le_of_ble_eq_true rfl) dX6_said_2 ⟨by first | exact Nat.le_of_ble_eq_true rfl | omega, by first | exact Nat.le_of_ble_eq_true rfl | omega⟩) (fun r u H locs hp hX => ?_)
  have hr_ : r = nI 0 := hp
  subst hr_
  have hX : nvS D a0 (xW dA a rn rt (nI 31 * trace + (nI 2)) len stand first allh hAll fault row hOf farOf rowsN rowsT mcW edW words mcR edR rdgs sh ex) s.heap H locs := hX
  refine W.cs (cells' := 0) (slots' := 0) (Nat.add_zero _) (Nat.add_zero _) ?_
  refine lv_aload_n zx zb dX6_said_5 rfl (lv_at hl 0 rfl) ?_
  refine nv_ki zC hX (nv_rSU (n := 0) (As := []) (rest := [.int (nI 0)]) (q0 := (yq + 9)) zC hX (mt_X5_said_1 (zh := zh) (la := la) (ln := ln) (lt := lt) (hm := (by first | assumption | omega)) (ha := (by first | assumption | omega)) (hl4 := (by first | assumption | omega))) (nvE_b a0 ez) (nvE_keep zG hX) (xW_9x yhq) rfl q1088 q1077 q247 q1075 q80 q1089 (by decide +kernel) rfl ⟨Nat.le_of_ble_eq_true rfl, Nat.le_of_ble_eq_true rfl⟩ hl.1 (Nat.le_of_ble_eq_true rfl) dX6_said_6 ⟨by first | exact Nat.le_of_ble_eq_true rfl | omega, by first | exact Nat.le_of_ble_eq_true rfl | omega⟩) (fun r u H locs hp hX => ?_)
  have hr_ : r = nI ln := hp
  subst hr_
  have hX : nvS D a0 (xW dA a rn rt (nI 31 * (nI 31 * trace + (nI 2)) + nI 1) len stand first allh hAll fault row hOf farOf rowsN rowsT mcW edW words mcR edR rdgs sh ex) s.heap H locs := hX
  refine W.cs (cells' := 0) (slots' := 0) (Nat.add_zero _) (Nat.add_zero _) ?_
  refine nv_iadd zx zb dX6_said_9 ?_
  refine lv_bipush (v := nI 100) zx zb dX6_said_10 (by decide) ?_
  refine nv_iadd zx zb dX6_said_12 ?_
  refine nv_as (show nI ((0 + ln) + 100) = nI (ln + 100) from (congrArg nI (by omega))) ?_
  rw [← zQ]
  exact nv_endi zC zr zk () hX (by first | rfl | trivial) (by omega) (by omega) dX6_said_13

set_option maxHeartbeats 4000000 in
theorem mt_X6_said_2  (zh : Nat) (la : Nat) (ln : Nat) (lt : Nat → Nat) (hm : (zh, .inr (4, [.ref la, .ref (a 0), .ref (a 0), .ref (a 0)])) ∈ ex) (ha : (la, aI dA ln (nF lt)) ∈ ex) (hl4 : ln ≤ 4) : nMt l D dA a0 yX6_said cX6_said 1 (some .int) 3 53 0 0 (nvE a0 ez) [.ref zh] (xW dA a rn rt trace len stand first allh hAll fault row hOf farOf rowsN rowsT mcW edW words mcR edR rdgs sh ex) (nQi D a0 (fun (r : Int32) (_ : Unit) => r = nI (ln + 100)) (fun (_ : Unit) => xW dA a rn rt (nI 31 * (nI 31 * trace + nI 2) + nI 1) len stand first allh hAll fault row hOf farOf rowsN rowsT mcW edW words mcR edR rdgs sh ex)) := by
  refine nv_start (by decide) (Nat.le_of_ble_eq_true rfl) fun zp ze s zm zlo zme zcd ls zC zr zk znm hX zG hl => ?_
  have zx := zC.1
  have zb := zC.2.1
  generalize zargs : ([.ref zh] : List Value).toArray = zar at zC ⊢
  generalize zQ : MQ zlo _ zar s _ _ _ = Q
  have hX : nvS D a0 (xW dA a rn rt trace len stand first allh hAll fault row hOf farOf rowsN rowsT mcW edW words mcR edR rdgs sh ex) s.heap s.heap [] := hX
  have hl : lv_has ls 1 [(0, .ref zh)] := hl
  obtain ⟨H, zH⟩ : ∃ H, H = s.heap := ⟨_, rfl⟩
  have hX : nvS D a0 (xW dA a rn rt trace len stand first allh hAll fault row hOf farOf rowsN rowsT mcW edW words mcR edR rdgs sh ex) s.heap H [] := by rw [zH]; exact hX
  rw [show W zp l ze (rm_ 3 53 0 0) s zm zar zlo zme zcd s.heap [] 0 0 Q = W zp l ze (rm_ 3 53 0 0) s zm zar zlo zme zcd H [] 0 0 Q by rw [zH]]
  generalize ([] : List Loc) = locs at hX ⊢
  obtain ⟨yq, yhq⟩ := List.getElem?_of_mem hm
  obtain ⟨yr, yhr⟩ := List.getElem?_of_mem ha
  refine lv_aload_n zx zb dX6_said_0 rfl (lv_at hl 0 rfl) ?_
  refine lv_iconst (v := nI 2) zx zb dX6_said_1 (by decide) ?_
  refine nv_ki zC hX (nv_rU (n := 1) (As := [.int (nI 2)]) (rest := []) (q0 := (yq + 9)) zC hX (mt_X5_tracedBy_2 (zh := zh) (la := la) (ln := ln) (lt := lt) (n := nI 2) (hm := (by first | assumption | omega)) (ha := (by first | assumption | omega))) (nvE_b a0 ez) (nvE_keep zG hX) (xW_9x yhq) rfl rfl q1081 q1082 q1086 q1085 q80 q1087 (by decide +kernel) rfl ⟨Nat.le_of_ble_eq_true rfl, Nat.le_of_ble_eq_true rfl⟩ hl.1 (Nat.le_of_ble_eq_true rfl) dX6_said_2 ⟨by first | exact Nat.le_of_ble_eq_true rfl | omega, by first | exact Nat.le_of_ble_eq_true rfl | omega⟩) (fun r u H locs hp hX => ?_)
  have hr_ : r = nI 0 := hp
  subst hr_
  have hX : nvS D a0 (xW dA a rn rt (nI 31 * trace + (nI 2)) len stand first allh hAll fault row hOf farOf rowsN rowsT mcW edW words mcR edR rdgs sh ex) s.heap H locs := hX
  refine W.cs (cells' := 0) (slots' := 0) (Nat.add_zero _) (Nat.add_zero _) ?_
  refine lv_aload_n zx zb dX6_said_5 rfl (lv_at hl 0 rfl) ?_
  refine nv_ki zC hX (nv_rSU (n := 0) (As := []) (rest := [.int (nI 0)]) (q0 := (yq + 9)) zC hX (mt_X5_said_2 (zh := zh) (la := la) (ln := ln) (lt := lt) (hm := (by first | assumption | omega)) (ha := (by first | assumption | omega)) (hl4 := (by first | assumption | omega))) (nvE_b a0 ez) (nvE_keep zG hX) (xW_9x yhq) rfl q1088 q1077 q247 q1075 q80 q1089 (by decide +kernel) rfl ⟨Nat.le_of_ble_eq_true rfl, Nat.le_of_ble_eq_true rfl⟩ hl.1 (Nat.le_of_ble_eq_true rfl) dX6_said_6 ⟨by first | exact Nat.le_of_ble_eq_true rfl | omega, by first | exact Nat.le_of_ble_eq_true rfl | omega⟩) (fun r u H locs hp hX => ?_)
  have hr_ : r = nI ln := hp
  subst hr_
  have hX : nvS D a0 (xW dA a rn rt (nI 31 * (nI 31 * trace + (nI 2)) + nI 1) len stand first allh hAll fault row hOf farOf rowsN rowsT mcW edW words mcR edR rdgs sh ex) s.heap H locs := hX
  refine W.cs (cells' := 0) (slots' := 0) (Nat.add_zero _) (Nat.add_zero _) ?_
  refine nv_iadd zx zb dX6_said_9 ?_
  refine lv_bipush (v := nI 100) zx zb dX6_said_10 (by decide) ?_
  refine nv_iadd zx zb dX6_said_12 ?_
  refine nv_as (show nI ((0 + ln) + 100) = nI (ln + 100) from (congrArg nI (by omega))) ?_
  rw [← zQ]
  exact nv_endi zC zr zk () hX (by first | rfl | trivial) (by omega) (by omega) dX6_said_13

set_option maxHeartbeats 4000000 in
theorem mt_X6_plainly_2  (zh : Nat) (la : Nat) (ln : Nat) (lt : Nat → Nat) (hm : (zh, .inr (4, [.ref la, .ref (a 0), .ref (a 0), .ref (a 0)])) ∈ ex) (ha : (la, aI dA ln (nF lt)) ∈ ex) (hl4 : ln ≤ 4) : nMt l D dA a0 yX6_plainly cX6_plainly 1 (some .int) 3 53 0 0 (nvE a0 ez) [.ref zh] (xW dA a rn rt trace len stand first allh hAll fault row hOf farOf rowsN rowsT mcW edW words mcR edR rdgs sh ex) (nQi D a0 (fun (r : Int32) (_ : Unit) => r = nI ln) (fun (_ : Unit) => xW dA a rn rt (nI 31 * trace + nI 1) len stand first allh hAll fault row hOf farOf rowsN rowsT mcW edW words mcR edR rdgs sh ex)) := by
  refine nv_start (by decide) (Nat.le_of_ble_eq_true rfl) fun zp ze s zm zlo zme zcd ls zC zr zk znm hX zG hl => ?_
  have zx := zC.1
  have zb := zC.2.1
  generalize zargs : ([.ref zh] : List Value).toArray = zar at zC ⊢
  generalize zQ : MQ zlo _ zar s _ _ _ = Q
  have hX : nvS D a0 (xW dA a rn rt trace len stand first allh hAll fault row hOf farOf rowsN rowsT mcW edW words mcR edR rdgs sh ex) s.heap s.heap [] := hX
  have hl : lv_has ls 1 [(0, .ref zh)] := hl
  obtain ⟨H, zH⟩ : ∃ H, H = s.heap := ⟨_, rfl⟩
  have hX : nvS D a0 (xW dA a rn rt trace len stand first allh hAll fault row hOf farOf rowsN rowsT mcW edW words mcR edR rdgs sh ex) s.heap H [] := by rw [zH]; exact hX
  rw [show W zp l ze (rm_ 3 53 0 0) s zm zar zlo zme zcd s.heap [] 0 0 Q = W zp l ze (rm_ 3 53 0 0) s zm zar zlo zme zcd H [] 0 0 Q by rw [zH]]
  generalize ([] : List Loc) = locs at hX ⊢
  obtain ⟨yq, yhq⟩ := List.getElem?_of_mem hm
  obtain ⟨yr, yhr⟩ := List.getElem?_of_mem ha
  refine lv_aload_n zx zb dX6_plainly_0 rfl (lv_at hl 0 rfl) ?_
  refine nv_ki zC hX (nv_rSU (n := 0) (As := []) (rest := []) (q0 := (yq + 9)) zC hX (mt_X5_said_2 (zh := zh) (la := la) (ln := ln) (lt := lt) (hm := (by first | assumption | omega)) (ha := (by first | assumption | omega)) (hl4 := (by first | assumption | omega))) (nvE_b a0 ez) (nvE_keep zG hX) (xW_9x yhq) rfl q1088 q1077 q247 q1075 q80 q1089 (by decide +kernel) rfl ⟨Nat.le_of_ble_eq_true rfl, Nat.le_of_ble_eq_true rfl⟩ hl.1 (Nat.le_of_ble_eq_true rfl) dX6_plainly_1 ⟨by first | exact Nat.le_of_ble_eq_true rfl | omega, by first | exact Nat.le_of_ble_eq_true rfl | omega⟩) (fun r u H locs hp hX => ?_)
  have hr_ : r = nI ln := hp
  subst hr_
  have hX : nvS D a0 (xW dA a rn rt (nI 31 * trace + nI 1) len stand first allh hAll fault row hOf farOf rowsN rowsT mcW edW words mcR edR rdgs sh ex) s.heap H locs := hX
  refine W.cs (cells' := 0) (slots' := 0) (Nat.add_zero _) (Nat.add_zero _) ?_
  rw [← zQ]
  exact nv_endi zC zr zk () hX (by first | rfl | trivial) (by omega) (by omega) dX6_plainly_4

set_option maxHeartbeats 4000000 in
theorem mt_X7_said_2  (zh : Nat) (la : Nat) (ln : Nat) (lt : Nat → Nat) (hm : (zh, .inr (4, [.ref la, .ref (a 0), .ref (a 0), .ref (a 0)])) ∈ ex) (ha : (la, aI dA ln (nF lt)) ∈ ex) (hl4 : ln ≤ 4) : nMt l D dA a0 yX7_said cX7_said 1 (some .int) 4 73 0 0 (nvE a0 ez) [.ref zh] (xW dA a rn rt trace len stand first allh hAll fault row hOf farOf rowsN rowsT mcW edW words mcR edR rdgs sh ex) (nQi D a0 (fun (r : Int32) (_ : Unit) => r = nI (2 * ln + 100)) (fun (_ : Unit) => xW dA a rn rt (nI 31 * (nI 31 * (nI 31 * (nI 31 * trace + nI 3) + nI 2) + nI 1) + nI 1) len stand first allh hAll fault row hOf farOf rowsN rowsT mcW edW words mcR edR rdgs sh ex)) := by
  refine nv_start (by decide) (Nat.le_of_ble_eq_true rfl) fun zp ze s zm zlo zme zcd ls zC zr zk znm hX zG hl => ?_
  have zx := zC.1
  have zb := zC.2.1
  generalize zargs : ([.ref zh] : List Value).toArray = zar at zC ⊢
  generalize zQ : MQ zlo _ zar s _ _ _ = Q
  have hX : nvS D a0 (xW dA a rn rt trace len stand first allh hAll fault row hOf farOf rowsN rowsT mcW edW words mcR edR rdgs sh ex) s.heap s.heap [] := hX
  have hl : lv_has ls 1 [(0, .ref zh)] := hl
  obtain ⟨H, zH⟩ : ∃ H, H = s.heap := ⟨_, rfl⟩
  have hX : nvS D a0 (xW dA a rn rt trace len stand first allh hAll fault row hOf farOf rowsN rowsT mcW edW words mcR edR rdgs sh ex) s.heap H [] := by rw [zH]; exact hX
  rw [show W zp l ze (rm_ 4 73 0 0) s zm zar zlo zme zcd s.heap [] 0 0 Q = W zp l ze (rm_ 4 73 0 0) s zm zar zlo zme zcd H [] 0 0 Q by rw [zH]]
  generalize ([] : List Loc) = locs at hX ⊢
  obtain ⟨yq, yhq⟩ := List.getElem?_of_mem hm
  obtain ⟨yr, yhr⟩ := List.getElem?_of_mem ha
  refine lv_aload_n zx zb dX7_said_0 rfl (lv_at hl 0 rfl) ?_
  refine lv_iconst (v := nI 3) zx zb dX7_said_1 (by decide) ?_
  refine nv_ki zC hX (nv_rU (n := 1) (As := [.int (nI 3)]) (rest := []) (q0 := (yq + 9)) zC hX (mt_X5_tracedBy_2 (zh := zh) (la := la) (ln := ln) (lt := lt) (n := nI 3) (hm := (by first | assumption | omega)) (ha := (by first | assumption | omega))) (nvE_b a0 ez) (nvE_keep zG hX) (xW_9x yhq) rfl rfl q1094 q1095 q1086 q1096 q80 q1087 (by decide +kernel) rfl ⟨Nat.le_of_ble_eq_true rfl, Nat.le_of_ble_eq_true rfl⟩ hl.1 (Nat.le_of_ble_eq_true rfl) dX7_said_2 ⟨by first | exact Nat.le_of_ble_eq_true rfl | omega, by first | exact Nat.le_of_ble_eq_true rfl | omega⟩) (fun r u H locs hp hX => ?_)
  have hr_ : r = nI 0 := hp
  subst hr_
  have hX : nvS D a0 (xW dA a rn rt (nI 31 * trace + (nI 3)) len stand first allh hAll fault row hOf farOf rowsN rowsT mcW edW words mcR edR rdgs sh ex) s.heap H locs := hX
  refine W.cs (cells' := 0) (slots' := 0) (Nat.add_zero _) (Nat.add_zero _) ?_
  refine lv_aload_n zx zb dX7_said_5 rfl (lv_at hl 0 rfl) ?_
  refine nv_ki zC hX (nv_rSU (n := 0) (As := []) (rest := [.int (nI 0)]) (q0 := (yq + 9)) zC hX (mt_X6_said_2 (zh := zh) (la := la) (ln := ln) (lt := lt) (hm := (by first | assumption | omega)) (ha := (by first | assumption | omega)) (hl4 := (by first | assumption | omega))) (nvE_b a0 ez) (nvE_keep zG hX) (xW_9x yhq) rfl q1097 q1530 q482 q1079 q81 q1080 (by decide +kernel) rfl ⟨Nat.le_of_ble_eq_true rfl, Nat.le_of_ble_eq_true rfl⟩ hl.1 (Nat.le_of_ble_eq_true rfl) dX7_said_6 ⟨by first | exact Nat.le_of_ble_eq_true rfl | omega, by first | exact Nat.le_of_ble_eq_true rfl | omega⟩) (fun r u H locs hp hX => ?_)
  have hr_ : r = nI (ln + 100) := hp
  subst hr_
  have hX : nvS D a0 (xW dA a rn rt (nI 31 * (nI 31 * (nI 31 * trace + (nI 3)) + nI 2) + nI 1) len stand first allh hAll fault row hOf farOf rowsN rowsT mcW edW words mcR edR rdgs sh ex) s.heap H locs := hX
  refine W.cs (cells' := 0) (slots' := 0) (Nat.add_zero _) (Nat.add_zero _) ?_
  refine nv_iadd zx zb dX7_said_9 ?_
  refine lv_aload_n zx zb dX7_said_10 rfl (lv_at hl 0 rfl) ?_
  refine nv_ki zC hX (nv_rU (n := 0) (As := []) (rest := [.int (nI (0 + (ln + 100)))]) (q0 := (yq + 9)) zC hX (mt_X6_plainly_2 (zh := zh) (la := la) (ln := ln) (lt := lt) (hm := (by first | assumption | omega)) (ha := (by first | assumption | omega)) (hl4 := (by first | assumption | omega))) (nvE_b a0 ez) (nvE_keep zG hX) (xW_9x yhq) rfl rfl q1098 q1099 q1102 q1101 q81 q1103 (by decide +kernel) rfl ⟨Nat.le_of_ble_eq_true rfl, Nat.le_of_ble_eq_true rfl⟩ hl.1 (Nat.le_of_ble_eq_true rfl) dX7_said_11 ⟨by first | exact Nat.le_of_ble_eq_true rfl | omega, by first | exact Nat.le_of_ble_eq_true rfl | omega⟩) (fun r u H locs hp hX => ?_)
  have hr_ : r = nI ln := hp
  subst hr_
  have hX : nvS D a0 (xW dA a rn rt (nI 31 * (nI 31 * (nI 31 * (nI 31 * trace + (nI 3)) + nI 2) + nI 1) + nI 1) len stand first allh hAll fault row hOf farOf rowsN rowsT mcW edW words mcR edR rdgs sh ex) s.heap H locs := hX
  refine W.cs (cells' := 0) (slots' := 0) (Nat.add_zero _) (Nat.add_zero _) ?_
  refine nv_iadd zx zb dX7_said_14 ?_
  refine nv_as (show nI ((0 + (ln + 100)) + ln) = nI (2 * ln + 100) from (congrArg nI (by omega))) ?_
  rw [← zQ]
  exact nv_endi zC zr zk () hX (by first | rfl | trivial) (by omega) (by omega) dX7_said_15

set_option maxHeartbeats 4000000 in
theorem mt_X7_spelling_2  (zh : Nat) (la : Nat) (ln : Nat) (lt : Nat → Nat) (hm : (zh, .inr (4, [.ref la, .ref (a 0), .ref (a 0), .ref (a 0)])) ∈ ex) (ha : (la, aI dA ln (nF lt)) ∈ ex) : nMt l D dA a0 yX7_spelling cX7_spelling 1 (some .int) 2 33 0 0 (nvE a0 ez) [.ref zh] (xW dA a rn rt trace len stand first allh hAll fault row hOf farOf rowsN rowsT mcW edW words mcR edR rdgs sh ex) (nQi D a0 (fun (r : Int32) (_ : Unit) => r = nI 30) (fun (_ : Unit) => xW dA a rn rt (nI 31 * trace + nI 5) len stand first allh hAll fault row hOf farOf rowsN rowsT mcW edW words mcR edR rdgs sh ex)) := by
  refine nv_start (by decide) (Nat.le_of_ble_eq_true rfl) fun zp ze s zm zlo zme zcd ls zC zr zk znm hX zG hl => ?_
  have zx := zC.1
  have zb := zC.2.1
  generalize zargs : ([.ref zh] : List Value).toArray = zar at zC ⊢
  generalize zQ : MQ zlo _ zar s _ _ _ = Q
  have hX : nvS D a0 (xW dA a rn rt trace len stand first allh hAll fault row hOf farOf rowsN rowsT mcW edW words mcR edR rdgs sh ex) s.heap s.heap [] := hX
  have hl : lv_has ls 1 [(0, .ref zh)] := hl
  obtain ⟨H, zH⟩ : ∃ H, H = s.heap := ⟨_, rfl⟩
  have hX : nvS D a0 (xW dA a rn rt trace len stand first allh hAll fault row hOf farOf rowsN rowsT mcW edW words mcR edR rdgs sh ex) s.heap H [] := by rw [zH]; exact hX
  rw [show W zp l ze (rm_ 2 33 0 0) s zm zar zlo zme zcd s.heap [] 0 0 Q = W zp l ze (rm_ 2 33 0 0) s zm zar zlo zme zcd H [] 0 0 Q by rw [zH]]
  generalize ([] : List Loc) = locs at hX ⊢
  obtain ⟨yq, yhq⟩ := List.getElem?_of_mem hm
  obtain ⟨yr, yhr⟩ := List.getElem?_of_mem ha
  refine lv_aload_n zx zb dX7_spelling_0 rfl (lv_at hl 0 rfl) ?_
  refine lv_iconst (v := nI 5) zx zb dX7_spelling_1 (by decide) ?_
  refine nv_ki zC hX (nv_rU (n := 1) (As := [.int (nI 5)]) (rest := []) (q0 := (yq + 9)) zC hX (mt_X5_tracedBy_2 (zh := zh) (la := la) (ln := ln) (lt := lt) (n := nI 5) (hm := (by first | assumption | omega)) (ha := (by first | assumption | omega))) (nvE_b a0 ez) (nvE_keep zG hX) (xW_9x yhq) rfl rfl q1094 q1095 q1086 q1096 q80 q1087 (by decide +kernel) rfl ⟨Nat.le_of_ble_eq_true rfl, Nat.le_of_ble_eq_true rfl⟩ hl.1 (Nat.le_of_ble_eq_true rfl) dX7_spelling_2 ⟨by first | exact Nat.le_of_ble_eq_true rfl | omega, by first | exact Nat.le_of_ble_eq_true rfl | omega⟩) (fun r u H locs hp hX => ?_)
  have hr_ : r = nI 0 := hp
  subst hr_
  have hX : nvS D a0 (xW dA a rn rt (nI 31 * trace + (nI 5)) len stand first allh hAll fault row hOf farOf rowsN rowsT mcW edW words mcR edR rdgs sh ex) s.heap H locs := hX
  refine W.cs (cells' := 0) (slots' := 0) (Nat.add_zero _) (Nat.add_zero _) ?_
  refine lv_bipush (v := nI 30) zx zb dX7_spelling_5 (by decide) ?_
  refine nv_iadd zx zb dX7_spelling_7 ?_
  rw [← zQ]
  exact nv_endi zC zr zk () hX (by first | rfl | trivial) (by omega) (by omega) dX7_spelling_8

set_option maxHeartbeats 4000000 in
theorem mt_X5_firstLetter_0  (zh : Nat) (la : Nat) (ln : Nat) (lt : Nat → Nat) (hm : (zh, .inr (2, [.ref la, .ref (a 0)])) ∈ ex) (ha : (la, aI dA ln (nF lt)) ∈ ex) (hl1 : 1 ≤ ln) (hl4 : ln ≤ 4) : nMt l D dA a0 yX5_firstLetter cX5_firstLetter 1 (some .int) 1 12 0 0 (nvE a0 ez) [.ref zh] (xW dA a rn rt trace len stand first allh hAll fault row hOf farOf rowsN rowsT mcW edW words mcR edR rdgs sh ex) (nQi D a0 (fun (r : Int32) (_ : Unit) => r = nI (lt 0)) (fun (_ : Unit) => xW dA a rn rt trace len stand first allh hAll fault row hOf farOf rowsN rowsT mcW edW words mcR edR rdgs sh ex)) := by
  refine nv_start (by decide) (Nat.le_of_ble_eq_true rfl) fun zp ze s zm zlo zme zcd ls zC zr zk znm hX zG hl => ?_
  have zx := zC.1
  have zb := zC.2.1
  generalize zargs : ([.ref zh] : List Value).toArray = zar at zC ⊢
  generalize zQ : MQ zlo _ zar s _ _ _ = Q
  have hX : nvS D a0 (xW dA a rn rt trace len stand first allh hAll fault row hOf farOf rowsN rowsT mcW edW words mcR edR rdgs sh ex) s.heap s.heap [] := hX
  have hl : lv_has ls 1 [(0, .ref zh)] := hl
  obtain ⟨H, zH⟩ : ∃ H, H = s.heap := ⟨_, rfl⟩
  have hX : nvS D a0 (xW dA a rn rt trace len stand first allh hAll fault row hOf farOf rowsN rowsT mcW edW words mcR edR rdgs sh ex) s.heap H [] := by rw [zH]; exact hX
  rw [show W zp l ze (rm_ 1 12 0 0) s zm zar zlo zme zcd s.heap [] 0 0 Q = W zp l ze (rm_ 1 12 0 0) s zm zar zlo zme zcd H [] 0 0 Q by rw [zH]]
  generalize ([] : List Loc) = locs at hX ⊢
  obtain ⟨yq, yhq⟩ := List.getElem?_of_mem hm
  obtain ⟨yr, yhr⟩ := List.getElem?_of_mem ha
  refine lv_aload_n zx zb dX5_firstLetter_0 rfl (lv_at hl 0 rfl) ?_
  refine nv_get zC hX in_X5 (yq + 9) (xW_9x yhq) rfl 0 (by decide) q444 (fun _ h => h) rfl dX5_firstLetter_1 ?_
  refine lv_iconst (v := nI 0) zx zb dX5_firstLetter_4 (by decide) ?_
  refine nv_iald (v := nI (lt 0)) zC hX (yr + 9) (xW_9x yhr) (by omega) (by omega) rfl dX5_firstLetter_5 ?_
  rw [← zQ]
  exact nv_endi zC zr zk () hX (by first | rfl | trivial) (by omega) (by omega) dX5_firstLetter_6

set_option maxHeartbeats 4000000 in
theorem mt_X5_firstLetter_1  (zh : Nat) (la : Nat) (ln : Nat) (lt : Nat → Nat) (hm : (zh, .inr (3, [.ref la, .ref (a 0), .ref (a 0)])) ∈ ex) (ha : (la, aI dA ln (nF lt)) ∈ ex) (hl1 : 1 ≤ ln) (hl4 : ln ≤ 4) : nMt l D dA a0 yX5_firstLetter cX5_firstLetter 1 (some .int) 1 12 0 0 (nvE a0 ez) [.ref zh] (xW dA a rn rt trace len stand first allh hAll fault row hOf farOf rowsN rowsT mcW edW words mcR edR rdgs sh ex) (nQi D a0 (fun (r : Int32) (_ : Unit) => r = nI (lt 0)) (fun (_ : Unit) => xW dA a rn rt trace len stand first allh hAll fault row hOf farOf rowsN rowsT mcW edW words mcR edR rdgs sh ex)) := by
  refine nv_start (by decide) (Nat.le_of_ble_eq_true rfl) fun zp ze s zm zlo zme zcd ls zC zr zk znm hX zG hl => ?_
  have zx := zC.1
  have zb := zC.2.1
  generalize zargs : ([.ref zh] : List Value).toArray = zar at zC ⊢
  generalize zQ : MQ zlo _ zar s _ _ _ = Q
  have hX : nvS D a0 (xW dA a rn rt trace len stand first allh hAll fault row hOf farOf rowsN rowsT mcW edW words mcR edR rdgs sh ex) s.heap s.heap [] := hX
  have hl : lv_has ls 1 [(0, .ref zh)] := hl
  obtain ⟨H, zH⟩ : ∃ H, H = s.heap := ⟨_, rfl⟩
  have hX : nvS D a0 (xW dA a rn rt trace len stand first allh hAll fault row hOf farOf rowsN rowsT mcW edW words mcR edR rdgs sh ex) s.heap H [] := by rw [zH]; exact hX
  rw [show W zp l ze (rm_ 1 12 0 0) s zm zar zlo zme zcd s.heap [] 0 0 Q = W zp l ze (rm_ 1 12 0 0) s zm zar zlo zme zcd H [] 0 0 Q by rw [zH]]
  generalize ([] : List Loc) = locs at hX ⊢
  obtain ⟨yq, yhq⟩ := List.getElem?_of_mem hm
  obtain ⟨yr, yhr⟩ := List.getElem?_of_mem ha
  refine lv_aload_n zx zb dX5_firstLetter_0 rfl (lv_at hl 0 rfl) ?_
  refine nv_get zC hX in_X6 (yq + 9) (xW_9x yhq) rfl 0 (by decide) q444 (fun _ h => h) rfl dX5_firstLetter_1 ?_
  refine lv_iconst (v := nI 0) zx zb dX5_firstLetter_4 (by decide) ?_
  refine nv_iald (v := nI (lt 0)) zC hX (yr + 9) (xW_9x yhr) (by omega) (by omega) rfl dX5_firstLetter_5 ?_
  rw [← zQ]
  exact nv_endi zC zr zk () hX (by first | rfl | trivial) (by omega) (by omega) dX5_firstLetter_6

set_option maxHeartbeats 4000000 in
theorem mt_X14_spelling_0  (zh : Nat) (la : Nat) (ln : Nat) (lt : Nat → Nat) (hm : (zh, .inr (2, [.ref la, .ref (a 0)])) ∈ ex) (ha : (la, aI dA ln (nF lt)) ∈ ex) (hl1 : 1 ≤ ln) (hl4 : ln ≤ 4) : nMt l D dA a0 yX14_spelling cX14_spelling 1 (some .int) 2 33 0 0 (nvE3 a0 ez mo) [.ref zh] (xW dA a rn rt trace len stand first allh hAll fault row hOf farOf rowsN rowsT mcW edW words mcR edR rdgs sh ex) (nQi D a0 (fun (r : Int32) (_ : Unit) => r = nI (lt 0)) (fun (_ : Unit) => xW dA a rn rt (nI 31 * trace + nI 4) len stand first allh hAll fault row hOf farOf rowsN rowsT mcW edW words mcR edR rdgs sh ex)) := by
  refine nv_start (by decide) (Nat.le_of_ble_eq_true rfl) fun zp ze s zm zlo zme zcd ls zC zr zk znm hX zG hl => ?_
  have zx := zC.1
  have zb := zC.2.1
  generalize zargs : ([.ref zh] : List Value).toArray = zar at zC ⊢
  generalize zQ : MQ zlo _ zar s _ _ _ = Q
  have hX : nvS D a0 (xW dA a rn rt trace len stand first allh hAll fault row hOf farOf rowsN rowsT mcW edW words mcR edR rdgs sh ex) s.heap s.heap [] := hX
  have hl : lv_has ls 1 [(0, .ref zh)] := hl
  obtain ⟨H, zH⟩ : ∃ H, H = s.heap := ⟨_, rfl⟩
  have hX : nvS D a0 (xW dA a rn rt trace len stand first allh hAll fault row hOf farOf rowsN rowsT mcW edW words mcR edR rdgs sh ex) s.heap H [] := by rw [zH]; exact hX
  rw [show W zp l ze (rm_ 2 33 0 0) s zm zar zlo zme zcd s.heap [] 0 0 Q = W zp l ze (rm_ 2 33 0 0) s zm zar zlo zme zcd H [] 0 0 Q by rw [zH]]
  generalize ([] : List Loc) = locs at hX ⊢
  have zG3 := zG
  have zG2 := zG3.1
  have zG := zG2.1
  obtain ⟨yq, yhq⟩ := List.getElem?_of_mem hm
  obtain ⟨yr, yhr⟩ := List.getElem?_of_mem ha
  refine lv_aload_n zx zb dX14_spelling_0 rfl (lv_at hl 0 rfl) ?_
  refine lv_iconst (v := nI 4) zx zb dX14_spelling_1 (by decide) ?_
  refine nv_kFi zC hX (nv_rF (q := (RX5, TX5, 2)) (x := ⟨"OneLongRow$Spelt", "tracedBy", "(I)I"⟩) (y := yX5_tracedBy) (n := 1) (As := [.int (nI 4)]) (rest := []) (q0 := (yq + 9)) zC hX (mt_X5_tracedBy_0 (zh := zh) (la := la) (ln := ln) (lt := lt) (n := nI 4) (hm := (by first | assumption | omega)) (ha := (by first | assumption | omega))) (nvE_b a0 ez) (nvE_keep zG hX) (nvSp_f0 zG3.2) (xW_9x yhq) rfl q1119 q1086 q1126 q80 q1087 (by decide +kernel) rfl ⟨Nat.le_of_ble_eq_true rfl, Nat.le_of_ble_eq_true rfl⟩ hl.1 (Nat.le_of_ble_eq_true rfl) dX14_spelling_2 ⟨by first | exact Nat.le_of_ble_eq_true rfl | omega, by first | exact Nat.le_of_ble_eq_true rfl | omega⟩) (fun r u H locs hp hX => ?_)
  have hr_ : r = nI 0 := hp
  subst hr_
  have hX : nvS D a0 (xW dA a rn rt (nI 31 * trace + (nI 4)) len stand first allh hAll fault row hOf farOf rowsN rowsT mcW edW words mcR edR rdgs sh ex) s.heap H locs := hX
  refine W.cs (cells' := 0) (slots' := 0) (Nat.add_zero _) (Nat.add_zero _) ?_
  refine lv_aload_n zx zb dX14_spelling_7 rfl (lv_at hl 0 rfl) ?_
  refine nv_kFi zC hX (nv_rF (q := (RX5, TX5, 2)) (x := ⟨"OneLongRow$Spelt", "firstLetter", "()I"⟩) (y := yX5_firstLetter) (n := 0) (As := []) (rest := [.int (nI 0)]) (q0 := (yq + 9)) zC hX (mt_X5_firstLetter_0 (zh := zh) (la := la) (ln := ln) (lt := lt) (hm := (by first | assumption | omega)) (ha := (by first | assumption | omega)) (hl1 := (by first | assumption | omega)) (hl4 := (by first | assumption | omega))) (nvE_b a0 ez) (nvE_keep zG hX) (nvSp_f2 zG3.2) (xW_9x yhq) rfl q1132 q1137 q1140 q80 q1139 (by decide +kernel) rfl ⟨Nat.le_of_ble_eq_true rfl, Nat.le_of_ble_eq_true rfl⟩ hl.1 (Nat.le_of_ble_eq_true rfl) dX14_spelling_8 ⟨by first | exact Nat.le_of_ble_eq_true rfl | omega, by first | exact Nat.le_of_ble_eq_true rfl | omega⟩) (fun r u H locs hp hX => ?_)
  have hr_ : r = nI (lt 0) := hp
  subst hr_
  have hX : nvS D a0 (xW dA a rn rt (nI 31 * trace + (nI 4)) len stand first allh hAll fault row hOf farOf rowsN rowsT mcW edW words mcR edR rdgs sh ex) s.heap H locs := hX
  refine W.cs (cells' := 0) (slots' := 0) (Nat.add_zero _) (Nat.add_zero _) ?_
  refine nv_iadd zx zb dX14_spelling_13 ?_
  refine nv_as (show nI (0 + (lt 0)) = nI (lt 0) from (congrArg nI (Nat.zero_add _))) ?_
  rw [← zQ]
  exact nv_endi zC zr zk () hX (by first | rfl | trivial) (by omega) (by omega) dX14_spelling_14

set_option maxHeartbeats 4000000 in
theorem mt_X14_spelling_1  (zh : Nat) (la : Nat) (ln : Nat) (lt : Nat → Nat) (hm : (zh, .inr (3, [.ref la, .ref (a 0), .ref (a 0)])) ∈ ex) (ha : (la, aI dA ln (nF lt)) ∈ ex) (hl1 : 1 ≤ ln) (hl4 : ln ≤ 4) : nMt l D dA a0 yX14_spelling cX14_spelling 1 (some .int) 2 33 0 0 (nvE3 a0 ez mo) [.ref zh] (xW dA a rn rt trace len stand first allh hAll fault row hOf farOf rowsN rowsT mcW edW words mcR edR rdgs sh ex) (nQi D a0 (fun (r : Int32) (_ : Unit) => r = nI (lt 0)) (fun (_ : Unit) => xW dA a rn rt (nI 31 * trace + nI 4) len stand first allh hAll fault row hOf farOf rowsN rowsT mcW edW words mcR edR rdgs sh ex)) := by
  refine nv_start (by decide) (Nat.le_of_ble_eq_true rfl) fun zp ze s zm zlo zme zcd ls zC zr zk znm hX zG hl => ?_
  have zx := zC.1
  have zb := zC.2.1
  generalize zargs : ([.ref zh] : List Value).toArray = zar at zC ⊢
  generalize zQ : MQ zlo _ zar s _ _ _ = Q
  have hX : nvS D a0 (xW dA a rn rt trace len stand first allh hAll fault row hOf farOf rowsN rowsT mcW edW words mcR edR rdgs sh ex) s.heap s.heap [] := hX
  have hl : lv_has ls 1 [(0, .ref zh)] := hl
  obtain ⟨H, zH⟩ : ∃ H, H = s.heap := ⟨_, rfl⟩
  have hX : nvS D a0 (xW dA a rn rt trace len stand first allh hAll fault row hOf farOf rowsN rowsT mcW edW words mcR edR rdgs sh ex) s.heap H [] := by rw [zH]; exact hX
  rw [show W zp l ze (rm_ 2 33 0 0) s zm zar zlo zme zcd s.heap [] 0 0 Q = W zp l ze (rm_ 2 33 0 0) s zm zar zlo zme zcd H [] 0 0 Q by rw [zH]]
  generalize ([] : List Loc) = locs at hX ⊢
  have zG3 := zG
  have zG2 := zG3.1
  have zG := zG2.1
  obtain ⟨yq, yhq⟩ := List.getElem?_of_mem hm
  obtain ⟨yr, yhr⟩ := List.getElem?_of_mem ha
  refine lv_aload_n zx zb dX14_spelling_0 rfl (lv_at hl 0 rfl) ?_
  refine lv_iconst (v := nI 4) zx zb dX14_spelling_1 (by decide) ?_
  refine nv_kFi zC hX (nv_rF (q := (RX6, TX6, 3)) (x := ⟨"OneLongRow$Spelt", "tracedBy", "(I)I"⟩) (y := yX5_tracedBy) (n := 1) (As := [.int (nI 4)]) (rest := []) (q0 := (yq + 9)) zC hX (mt_X5_tracedBy_1 (zh := zh) (la := la) (ln := ln) (lt := lt) (n := nI 4) (hm := (by first | assumption | omega)) (ha := (by first | assumption | omega))) (nvE_b a0 ez) (nvE_keep zG hX) (nvSp_f1 zG3.2) (xW_9x yhq) rfl q1119 q1086 q1122 q80 q1087 (by decide +kernel) rfl ⟨Nat.le_of_ble_eq_true rfl, Nat.le_of_ble_eq_true rfl⟩ hl.1 (Nat.le_of_ble_eq_true rfl) dX14_spelling_2 ⟨by first | exact Nat.le_of_ble_eq_true rfl | omega, by first | exact Nat.le_of_ble_eq_true rfl | omega⟩) (fun r u H locs hp hX => ?_)
  have hr_ : r = nI 0 := hp
  subst hr_
  have hX : nvS D a0 (xW dA a rn rt (nI 31 * trace + (nI 4)) len stand first allh hAll fault row hOf farOf rowsN rowsT mcW edW words mcR edR rdgs sh ex) s.heap H locs := hX
  refine W.cs (cells' := 0) (slots' := 0) (Nat.add_zero _) (Nat.add_zero _) ?_
  refine lv_aload_n zx zb dX14_spelling_7 rfl (lv_at hl 0 rfl) ?_
  refine nv_kFi zC hX (nv_rF (q := (RX6, TX6, 3)) (x := ⟨"OneLongRow$Spelt", "firstLetter", "()I"⟩) (y := yX5_firstLetter) (n := 0) (As := []) (rest := [.int (nI 0)]) (q0 := (yq + 9)) zC hX (mt_X5_firstLetter_1 (zh := zh) (la := la) (ln := ln) (lt := lt) (hm := (by first | assumption | omega)) (ha := (by first | assumption | omega)) (hl1 := (by first | assumption | omega)) (hl4 := (by first | assumption | omega))) (nvE_b a0 ez) (nvE_keep zG hX) (nvSp_f3 zG3.2) (xW_9x yhq) rfl q1132 q1137 q1135 q80 q1139 (by decide +kernel) rfl ⟨Nat.le_of_ble_eq_true rfl, Nat.le_of_ble_eq_true rfl⟩ hl.1 (Nat.le_of_ble_eq_true rfl) dX14_spelling_8 ⟨by first | exact Nat.le_of_ble_eq_true rfl | omega, by first | exact Nat.le_of_ble_eq_true rfl | omega⟩) (fun r u H locs hp hX => ?_)
  have hr_ : r = nI (lt 0) := hp
  subst hr_
  have hX : nvS D a0 (xW dA a rn rt (nI 31 * trace + (nI 4)) len stand first allh hAll fault row hOf farOf rowsN rowsT mcW edW words mcR edR rdgs sh ex) s.heap H locs := hX
  refine W.cs (cells' := 0) (slots' := 0) (Nat.add_zero _) (Nat.add_zero _) ?_
  refine nv_iadd zx zb dX14_spelling_13 ?_
  refine nv_as (show nI (0 + (lt 0)) = nI (lt 0) from (congrArg nI (Nat.zero_add _))) ?_
  rw [← zQ]
  exact nv_endi zC zr zk () hX (by first | rfl | trivial) (by omega) (by omega) dX14_spelling_14

set_option maxHeartbeats 4000000 in
theorem mx_tell  (x : Int32) (hW : wdIn dA (a 0) words kind longOf letters edW ez fW pa la ex) (hok : wOK words kind longOf letters) : nMt l D dA a0 yX0_tell cX0_tell 2 (some .int) 5 93 0 0 (nvE a0 ez) [.ref (a 0), .int x] (xW dA a rn rt trace len stand first allh hAll fault row hOf farOf rowsN rowsT mcW edW words mcR edR rdgs sh ex) (nQi D a0 (fun (r : Int32) (_ : Unit) => r = F_tell words kind longOf x) (fun (_ : Unit) => xW dA a rn rt (G_tell words kind trace x) len stand first allh hAll fault row hOf farOf rowsN rowsT mcW edW words mcR edR rdgs sh ex)) := by
  refine nv_start (by decide) (Nat.le_of_ble_eq_true rfl) fun zp ze s zm zlo zme zcd ls zC zr zk znm hX zG hl => ?_
  have zx := zC.1
  have zb := zC.2.1
  generalize zargs : ([.ref (a 0), .int x] : List Value).toArray = zar at zC ⊢
  generalize zQ : MQ zlo _ zar s _ _ _ = Q
  have hX : nvS D a0 (xW dA a rn rt trace len stand first allh hAll fault row hOf farOf rowsN rowsT mcW edW words mcR edR rdgs sh ex) s.heap s.heap [] := hX
  have hl : lv_has ls 2 [(0, .ref (a 0)), (1, .int x)] := hl
  obtain ⟨H, zH⟩ : ∃ H, H = s.heap := ⟨_, rfl⟩
  have hX : nvS D a0 (xW dA a rn rt trace len stand first allh hAll fault row hOf farOf rowsN rowsT mcW edW words mcR edR rdgs sh ex) s.heap H [] := by rw [zH]; exact hX
  rw [show W zp l ze (rm_ 5 93 0 0) s zm zar zlo zme zcd s.heap [] 0 0 Q = W zp l ze (rm_ 5 93 0 0) s zm zar zlo zme zcd H [] 0 0 Q by rw [zH]]
  generalize ([] : List Loc) = locs at hX ⊢
  have hw4 := hok.1
  refine lv_aload_n zx zb dX0_tell_0 rfl (lv_at hl 0 rfl) ?_
  refine lv_iload_n zx zb dX0_tell_1 rfl (lv_at hl 1 rfl) ?_
  refine nv_ki zC hX (nv_rV (n := 1) (As := [.int x]) (rest := []) (q0 := 0) zC hX (mx_noWord (v := x) (hw := (by first | assumption | omega))) (nvE_b a0 ez) (nvE_keep zG hX) rfl rfl q183 q185 qs0 q59 q186 (by decide +kernel) rfl ⟨Nat.le_of_ble_eq_true rfl, Nat.le_of_ble_eq_true rfl⟩ hl.1 (Nat.le_of_ble_eq_true rfl) dX0_tell_2 ⟨by first | exact Nat.le_of_ble_eq_true rfl | omega, by first | exact Nat.le_of_ble_eq_true rfl | omega⟩) (fun r u H locs hp hX => ?_)
  have hr_ : r = nB (!isW words x) := hp
  subst hr_
  have hX : nvS D a0 (xW dA a rn rt trace len stand first allh hAll fault row hOf farOf rowsN rowsT mcW edW words mcR edR rdgs sh ex) s.heap H locs := hX
  refine W.cs (cells' := 0) (slots' := 0) (Nat.add_zero _) (Nat.add_zero _) ?_
  refine nv_if_eqB (tgt := 12) zx zb dX0_tell_5 (by decide) (fun c5 => ?_) (fun c5 => ?_)
  · obtain ⟨ii, hi, rfl⟩ := isW_t (by omega) (by simpa using c5 : isW words x = true)
    have eii : i2n (nI ii) = ii := i2n_nI (by omega)
    have hwi : isW words (nI ii) = true := by rw [isW_n (by omega) (by omega)]; exact decide_eq_true hi
    have hli := hok.2.2.1 ii
    have hli1 := hok.2.2.2.2 ii hi
    have hk3 := hok.2.1 ii
    refine lv_aload_n zx zb dX0_tell_12 rfl (lv_at hl 0 rfl) ?_
    refine nv_get zC hX in_X0 0 rfl rfl 3 (by decide) q134 (fun _ h => h) rfl dX0_tell_13 ?_
    refine lv_iload_n zx zb dX0_tell_16 rfl (lv_at hl 1 rfl) ?_
    refine nv_kFq zC hX (nv_rF (q := (RJ2, TJ2, 3)) (x := ⟨"java/util/List", "get", "(I)Ljava/lang/Object;"⟩) (y := yJ2_get) (n := 1) (As := [.int (nI ii)]) (rest := []) (q0 := 2) zC hX (mj_get (zh := a 2) (mc := mcW) (ed := edW) (n := words) (f := fW) (i := ii) (hm := (List.mem_of_getElem? (i := 2) rfl)) (ha := (xw_m (hW.ed hi))) (hi := hi) (hn := (by omega))) nvGb0 (fun _ _ _ => trivial) (nvE_f1 zG) rfl rfl q201 q206 q204 q62 q208 (by decide +kernel) rfl ⟨Nat.le_of_ble_eq_true rfl, Nat.le_of_ble_eq_true rfl⟩ hl.1 (Nat.le_of_ble_eq_true rfl) dX0_tell_17 ⟨by first | exact Nat.le_of_ble_eq_true rfl | omega, by first | exact Nat.le_of_ble_eq_true rfl | omega⟩) (fun r u H locs hp hX => ?_)
    have hr_ : r = fW ii := hp
    subst hr_
    have hX : nvS D a0 (xW dA a rn rt trace len stand first allh hAll fault row hOf farOf rowsN rowsT mcW edW words mcR edR rdgs sh ex) s.heap H locs := hX
    refine W.cs (cells' := 0) (slots' := 0) (Nat.add_zero _) (Nat.add_zero _) ?_
    refine nv_asR (show fW ii = some (pa ii) from (hW.w hi)) ?_
    refine nv_castP zC zG hX (hok.2.1 _) (xw_m (hW.p hi)) q219 dX0_tell_22 ?_
    rcases (show kind ii = 0 ∨ kind ii = 1 ∨ kind ii = 2 by omega) with hk_ | hk_ | hk_
    · have hm : (pa ii, .inr (2, [.ref (la ii), .ref (a 0)])) ∈ ex := by have z := hW.p hi; rw [hk_] at z; exact z
      obtain ⟨yq, yhq⟩ := List.getElem?_of_mem hm
      refine nv_ki zC hX (nv_rV (n := 0) (As := []) (rest := []) (q0 := (yq + 9)) zC hX (mt_X5_said_0 (zh := pa ii) (la := la ii) (ln := longOf ii) (lt := fun k_ => letters (4 * ii + k_)) (hm := hm) (ha := (hW.l hi)) (hl4 := hli)) (nvE_b a0 ez) (nvE_keep zG hX) (xW_9x yhq) rfl q1074 q1075 q1076 q80 q1089 (by decide +kernel) rfl ⟨Nat.le_of_ble_eq_true rfl, Nat.le_of_ble_eq_true rfl⟩ hl.1 (Nat.le_of_ble_eq_true rfl) dX0_tell_25 ⟨by first | exact Nat.le_of_ble_eq_true rfl | omega, by first | exact Nat.le_of_ble_eq_true rfl | omega⟩) (fun r u H locs hp hX => ?_)
      have hr_ : r = nI (longOf ii) := hp
      subst hr_
      have hX : nvS D a0 (xW dA a rn rt (nI 31 * trace + nI 1) len stand first allh hAll fault row hOf farOf rowsN rowsT mcW edW words mcR edR rdgs sh ex) s.heap H locs := hX
      refine W.cs (cells' := 0) (slots' := 0) (Nat.add_zero _) (Nat.add_zero _) ?_
      have hX : nvS D a0 (xW dA a rn rt (G_tell words kind trace (nI ii)) len stand first allh hAll fault row hOf farOf rowsN rowsT mcW edW words mcR edR rdgs sh ex) s.heap H locs := by rw [show G_tell words kind trace (nI ii) = nI 31 * trace + nI 1 from by unfold G_tell; rw [if_pos hwi, eii, if_pos hk_]; rfl]; exact hX
      rw [← zQ]
      exact nv_endi zC zr zk () hX (by unfold F_tell; rw [if_pos hwi, eii, if_pos hk_]) (by omega) (by omega) dX0_tell_28
    · have hm : (pa ii, .inr (3, [.ref (la ii), .ref (a 0), .ref (a 0)])) ∈ ex := by have z := hW.p hi; rw [hk_] at z; exact z
      obtain ⟨yq, yhq⟩ := List.getElem?_of_mem hm
      refine nv_ki zC hX (nv_rO (n := 0) (As := []) (rest := []) (q0 := (yq + 9)) zC hX (mt_X6_said_1 (zh := pa ii) (la := la ii) (ln := longOf ii) (lt := fun k_ => letters (4 * ii + k_)) (hm := hm) (ha := (hW.l hi)) (hl4 := hli)) (nvE_b a0 ez) (nvE_keep zG hX) (xW_9x yhq) rfl q1074 q1077 q1075 q1089 q1079 q1078 q81 q1080 (by decide +kernel) rfl ⟨Nat.le_of_ble_eq_true rfl, Nat.le_of_ble_eq_true rfl⟩ hl.1 (Nat.le_of_ble_eq_true rfl) dX0_tell_25 ⟨by first | exact Nat.le_of_ble_eq_true rfl | omega, by first | exact Nat.le_of_ble_eq_true rfl | omega⟩) (fun r u H locs hp hX => ?_)
      have hr_ : r = nI (longOf ii + 100) := hp
      subst hr_
      have hX : nvS D a0 (xW dA a rn rt (nI 31 * (nI 31 * trace + nI 2) + nI 1) len stand first allh hAll fault row hOf farOf rowsN rowsT mcW edW words mcR edR rdgs sh ex) s.heap H locs := hX
      refine W.cs (cells' := 0) (slots' := 0) (Nat.add_zero _) (Nat.add_zero _) ?_
      have hX : nvS D a0 (xW dA a rn rt (G_tell words kind trace (nI ii)) len stand first allh hAll fault row hOf farOf rowsN rowsT mcW edW words mcR edR rdgs sh ex) s.heap H locs := by rw [show G_tell words kind trace (nI ii) = nI 31 * (nI 31 * trace + nI 2) + nI 1 from by unfold G_tell; rw [if_pos hwi, eii, if_neg (show ¬ kind ii = 0 by omega), if_pos hk_]; rfl]; exact hX
      rw [← zQ]
      exact nv_endi zC zr zk () hX (by unfold F_tell; rw [if_pos hwi, eii, if_neg (show ¬ kind ii = 0 by omega), if_pos hk_]) (by omega) (by omega) dX0_tell_28
    · have hm : (pa ii, .inr (4, [.ref (la ii), .ref (a 0), .ref (a 0), .ref (a 0)])) ∈ ex := by have z := hW.p hi; rw [hk_] at z; exact z
      obtain ⟨yq, yhq⟩ := List.getElem?_of_mem hm
      refine nv_ki zC hX (nv_rO (n := 0) (As := []) (rest := []) (q0 := (yq + 9)) zC hX (mt_X7_said_2 (zh := pa ii) (la := la ii) (ln := longOf ii) (lt := fun k_ => letters (4 * ii + k_)) (hm := hm) (ha := (hW.l hi)) (hl4 := hli)) (nvE_b a0 ez) (nvE_keep zG hX) (xW_9x yhq) rfl q1074 q1077 q1075 q1089 q1092 q1091 q82 q1093 (by decide +kernel) rfl ⟨Nat.le_of_ble_eq_true rfl, Nat.le_of_ble_eq_true rfl⟩ hl.1 (Nat.le_of_ble_eq_true rfl) dX0_tell_25 ⟨by first | exact Nat.le_of_ble_eq_true rfl | omega, by first | exact Nat.le_of_ble_eq_true rfl | omega⟩) (fun r u H locs hp hX => ?_)
      have hr_ : r = nI (2 * (longOf ii) + 100) := hp
      subst hr_
      have hX : nvS D a0 (xW dA a rn rt (nI 31 * (nI 31 * (nI 31 * (nI 31 * trace + nI 3) + nI 2) + nI 1) + nI 1) len stand first allh hAll fault row hOf farOf rowsN rowsT mcW edW words mcR edR rdgs sh ex) s.heap H locs := hX
      refine W.cs (cells' := 0) (slots' := 0) (Nat.add_zero _) (Nat.add_zero _) ?_
      have hX : nvS D a0 (xW dA a rn rt (G_tell words kind trace (nI ii)) len stand first allh hAll fault row hOf farOf rowsN rowsT mcW edW words mcR edR rdgs sh ex) s.heap H locs := by rw [show G_tell words kind trace (nI ii) = nI 31 * (nI 31 * (nI 31 * (nI 31 * trace + nI 3) + nI 2) + nI 1) + nI 1 from by unfold G_tell; rw [if_pos hwi, eii, if_neg (show ¬ kind ii = 0 by omega), if_neg (show ¬ kind ii = 1 by omega)]; rfl]; exact hX
      rw [← zQ]
      exact nv_endi zC zr zk () hX (by unfold F_tell; rw [if_pos hwi, eii, if_neg (show ¬ kind ii = 0 by omega), if_neg (show ¬ kind ii = 1 by omega)]) (by omega) (by omega) dX0_tell_28
  · have hno : isW words x = false := (by simpa using c5)
    refine lv_iconst (v := (-1)) zx zb dX0_tell_8 (by decide) ?_
    refine lv_goto (tgt := 28) zx zb dX0_tell_9 (by decide) ?_
    have hX : nvS D a0 (xW dA a rn rt (G_tell words kind trace x) len stand first allh hAll fault row hOf farOf rowsN rowsT mcW edW words mcR edR rdgs sh ex) s.heap H locs := by rw [show G_tell words kind trace x = trace from by unfold G_tell; rw [if_neg (show ¬ isW words x = true by rw [hno]; decide)]]; exact hX
    rw [← zQ]
    exact nv_endi zC zr zk () hX (by unfold F_tell; rw [if_neg (show ¬ isW words x = true by rw [hno]; decide)]) (by omega) (by omega) dX0_tell_28

set_option maxHeartbeats 4000000 in
theorem mx_spelt  (x : Int32) (hW : wdIn dA (a 0) words kind longOf letters edW ez fW pa la ex) (hok : wOK words kind longOf letters) : nMt l D dA a0 yX0_spelt cX0_spelt 3 (some .int) 4 76 0 0 (nvE3 a0 ez mo) [.ref (a 0), .int x] (xW dA a rn rt trace len stand first allh hAll fault row hOf farOf rowsN rowsT mcW edW words mcR edR rdgs sh ex) (nQi D a0 (fun (r : Int32) (_ : Unit) => r = F_spelt words kind letters x) (fun (_ : Unit) => xW dA a rn rt (G_spelt words kind trace x) len stand first allh hAll fault row hOf farOf rowsN rowsT mcW edW words mcR edR rdgs sh ex)) := by
  refine nv_start (by decide) (Nat.le_of_ble_eq_true rfl) fun zp ze s zm zlo zme zcd ls zC zr zk znm hX zG hl => ?_
  have zx := zC.1
  have zb := zC.2.1
  generalize zargs : ([.ref (a 0), .int x] : List Value).toArray = zar at zC ⊢
  generalize zQ : MQ zlo _ zar s _ _ _ = Q
  have hX : nvS D a0 (xW dA a rn rt trace len stand first allh hAll fault row hOf farOf rowsN rowsT mcW edW words mcR edR rdgs sh ex) s.heap s.heap [] := hX
  have hl : lv_has ls 3 [(0, .ref (a 0)), (1, .int x)] := hl
  obtain ⟨H, zH⟩ : ∃ H, H = s.heap := ⟨_, rfl⟩
  have hX : nvS D a0 (xW dA a rn rt trace len stand first allh hAll fault row hOf farOf rowsN rowsT mcW edW words mcR edR rdgs sh ex) s.heap H [] := by rw [zH]; exact hX
  rw [show W zp l ze (rm_ 4 76 0 0) s zm zar zlo zme zcd s.heap [] 0 0 Q = W zp l ze (rm_ 4 76 0 0) s zm zar zlo zme zcd H [] 0 0 Q by rw [zH]]
  generalize ([] : List Loc) = locs at hX ⊢
  have zG3 := zG
  have zG2 := zG3.1
  have zG := zG2.1
  have hw4 := hok.1
  refine lv_aload_n zx zb dX0_spelt_0 rfl (lv_at hl 0 rfl) ?_
  refine lv_iload_n zx zb dX0_spelt_1 rfl (lv_at hl 1 rfl) ?_
  refine nv_ki zC hX (nv_rV (n := 1) (As := [.int x]) (rest := []) (q0 := 0) zC hX (mx_noWord (v := x) (hw := (by first | assumption | omega))) (nvE_b a0 ez) (nvE_keep zG hX) rfl rfl q183 q185 qs0 q59 q186 (by decide +kernel) rfl ⟨Nat.le_of_ble_eq_true rfl, Nat.le_of_ble_eq_true rfl⟩ hl.1 (Nat.le_of_ble_eq_true rfl) dX0_spelt_2 ⟨by first | exact Nat.le_of_ble_eq_true rfl | omega, by first | exact Nat.le_of_ble_eq_true rfl | omega⟩) (fun r u H locs hp hX => ?_)
  have hr_ : r = nB (!isW words x) := hp
  subst hr_
  have hX : nvS D a0 (xW dA a rn rt trace len stand first allh hAll fault row hOf farOf rowsN rowsT mcW edW words mcR edR rdgs sh ex) s.heap H locs := hX
  refine W.cs (cells' := 0) (slots' := 0) (Nat.add_zero _) (Nat.add_zero _) ?_
  refine nv_if_eqB (tgt := 10) zx zb dX0_spelt_5 (by decide) (fun c5 => ?_) (fun c5 => ?_)
  · obtain ⟨ii, hi, rfl⟩ := isW_t (by omega) (by simpa using c5 : isW words x = true)
    have eii : i2n (nI ii) = ii := i2n_nI (by omega)
    have hwi : isW words (nI ii) = true := by rw [isW_n (by omega) (by omega)]; exact decide_eq_true hi
    have hli := hok.2.2.1 ii
    have hli1 := hok.2.2.2.2 ii hi
    have hk3 := hok.2.1 ii
    refine lv_aload_n zx zb dX0_spelt_10 rfl (lv_at hl 0 rfl) ?_
    refine nv_get zC hX in_X0 0 rfl rfl 3 (by decide) q134 (fun _ h => h) rfl dX0_spelt_11 ?_
    refine lv_iload_n zx zb dX0_spelt_14 rfl (lv_at hl 1 rfl) ?_
    refine nv_kFq zC hX (nv_rF (q := (RJ2, TJ2, 3)) (x := ⟨"java/util/List", "get", "(I)Ljava/lang/Object;"⟩) (y := yJ2_get) (n := 1) (As := [.int (nI ii)]) (rest := []) (q0 := 2) zC hX (mj_get (zh := a 2) (mc := mcW) (ed := edW) (n := words) (f := fW) (i := ii) (hm := (List.mem_of_getElem? (i := 2) rfl)) (ha := (xw_m (hW.ed hi))) (hi := hi) (hn := (by omega))) nvGb0 (fun _ _ _ => trivial) (nvE_f1 zG) rfl rfl q201 q206 q204 q62 q208 (by decide +kernel) rfl ⟨Nat.le_of_ble_eq_true rfl, Nat.le_of_ble_eq_true rfl⟩ hl.1 (Nat.le_of_ble_eq_true rfl) dX0_spelt_15 ⟨by first | exact Nat.le_of_ble_eq_true rfl | omega, by first | exact Nat.le_of_ble_eq_true rfl | omega⟩) (fun r u H locs hp hX => ?_)
    have hr_ : r = fW ii := hp
    subst hr_
    have hX : nvS D a0 (xW dA a rn rt trace len stand first allh hAll fault row hOf farOf rowsN rowsT mcW edW words mcR edR rdgs sh ex) s.heap H locs := hX
    refine W.cs (cells' := 0) (slots' := 0) (Nat.add_zero _) (Nat.add_zero _) ?_
    rcases (show kind ii = 0 ∨ kind ii = 1 ∨ kind ii = 2 by omega) with hk_ | hk_ | hk_
    · have hm : (pa ii, .inr (2, [.ref (la ii), .ref (a 0)])) ∈ ex := by have z := hW.p hi; rw [hk_] at z; exact z
      obtain ⟨yq, yhq⟩ := List.getElem?_of_mem hm
      refine nv_asR (show fW ii = some (pa ii) from (hW.w hi)) ?_
      refine nv_cast zC hX (yq + 9) (xW_9x yhq) rfl q1108 (nvSp_c0 zG3.2) dX0_spelt_20 ?_
      refine lv_astore_n (lv' := [(2, .ref (pa ii)), (0, .ref (a 0)), (1, .int (nI ii))]) zx zb dX0_spelt_23 rfl hl (by decide) rfl (fun ls hl => ?_)
      refine lv_aload_n zx zb dX0_spelt_24 rfl (lv_at hl 0 rfl) ?_
      refine nv_kFi zC hX (nv_rFD (q := (RX5, TX5, 2)) (x := yX14_spelling) (n := 0) (As := []) (rest := []) (q0 := (yq + 9)) zC hX (mt_X14_spelling_0 (zh := pa ii) (la := la ii) (ln := longOf ii) (lt := fun k_ => letters (4 * ii + k_)) (hm := hm) (ha := (hW.l hi)) (hl1 := hli1) (hl4 := hli)) (nvE3_b a0 ez mo) (nvE3_keep zG3 hX) (zG3.2.2.1) (xW_9x yhq) rfl q1110 q1115 q1532 q1117 (by decide +kernel) rfl ⟨Nat.le_of_ble_eq_true rfl, Nat.le_of_ble_eq_true rfl⟩ hl.1 (Nat.le_of_ble_eq_true rfl) dX0_spelt_25 ⟨by first | exact Nat.le_of_ble_eq_true rfl | omega, by first | exact Nat.le_of_ble_eq_true rfl | omega⟩) (fun r u H locs hp hX => ?_)
      have hr_ : r = nI ((fun k_ => letters (4 * ii + k_)) 0) := hp
      subst hr_
      have hX : nvS D a0 (xW dA a rn rt (nI 31 * trace + nI 4) len stand first allh hAll fault row hOf farOf rowsN rowsT mcW edW words mcR edR rdgs sh ex) s.heap H locs := hX
      refine W.cs (cells' := 0) (slots' := 0) (Nat.add_zero _) (Nat.add_zero _) ?_
      have hX : nvS D a0 (xW dA a rn rt (G_spelt words kind trace (nI ii)) len stand first allh hAll fault row hOf farOf rowsN rowsT mcW edW words mcR edR rdgs sh ex) s.heap H locs := by rw [show G_spelt words kind trace (nI ii) = nI 31 * trace + nI 4 from by unfold G_spelt; rw [if_pos hwi, eii, if_neg (show ¬ kind ii = 2 by omega)]; rfl]; exact hX
      rw [← zQ]
      exact nv_endi zC zr zk () hX (by unfold F_spelt; rw [if_pos hwi, eii, if_neg (show ¬ kind ii = 2 by omega)]; rfl) (by omega) (by omega) dX0_spelt_30
    · have hm : (pa ii, .inr (3, [.ref (la ii), .ref (a 0), .ref (a 0)])) ∈ ex := by have z := hW.p hi; rw [hk_] at z; exact z
      obtain ⟨yq, yhq⟩ := List.getElem?_of_mem hm
      refine nv_asR (show fW ii = some (pa ii) from (hW.w hi)) ?_
      refine nv_cast zC hX (yq + 9) (xW_9x yhq) rfl q1108 (nvSp_c1 zG3.2) dX0_spelt_20 ?_
      refine lv_astore_n (lv' := [(2, .ref (pa ii)), (0, .ref (a 0)), (1, .int (nI ii))]) zx zb dX0_spelt_23 rfl hl (by decide) rfl (fun ls hl => ?_)
      refine lv_aload_n zx zb dX0_spelt_24 rfl (lv_at hl 0 rfl) ?_
      refine nv_kFi zC hX (nv_rFD (q := (RX6, TX6, 3)) (x := yX14_spelling) (n := 0) (As := []) (rest := []) (q0 := (yq + 9)) zC hX (mt_X14_spelling_1 (zh := pa ii) (la := la ii) (ln := longOf ii) (lt := fun k_ => letters (4 * ii + k_)) (hm := hm) (ha := (hW.l hi)) (hl1 := hli1) (hl4 := hli)) (nvE3_b a0 ez mo) (nvE3_keep zG3 hX) (zG3.2.2.2) (xW_9x yhq) rfl q1110 q1115 q1532 q1117 (by decide +kernel) rfl ⟨Nat.le_of_ble_eq_true rfl, Nat.le_of_ble_eq_true rfl⟩ hl.1 (Nat.le_of_ble_eq_true rfl) dX0_spelt_25 ⟨by first | exact Nat.le_of_ble_eq_true rfl | omega, by first | exact Nat.le_of_ble_eq_true rfl | omega⟩) (fun r u H locs hp hX => ?_)
      have hr_ : r = nI ((fun k_ => letters (4 * ii + k_)) 0) := hp
      subst hr_
      have hX : nvS D a0 (xW dA a rn rt (nI 31 * trace + nI 4) len stand first allh hAll fault row hOf farOf rowsN rowsT mcW edW words mcR edR rdgs sh ex) s.heap H locs := hX
      refine W.cs (cells' := 0) (slots' := 0) (Nat.add_zero _) (Nat.add_zero _) ?_
      have hX : nvS D a0 (xW dA a rn rt (G_spelt words kind trace (nI ii)) len stand first allh hAll fault row hOf farOf rowsN rowsT mcW edW words mcR edR rdgs sh ex) s.heap H locs := by rw [show G_spelt words kind trace (nI ii) = nI 31 * trace + nI 4 from by unfold G_spelt; rw [if_pos hwi, eii, if_neg (show ¬ kind ii = 2 by omega)]; rfl]; exact hX
      rw [← zQ]
      exact nv_endi zC zr zk () hX (by unfold F_spelt; rw [if_pos hwi, eii, if_neg (show ¬ kind ii = 2 by omega)]; rfl) (by omega) (by omega) dX0_spelt_30
    · have hm : (pa ii, .inr (4, [.ref (la ii), .ref (a 0), .ref (a 0), .ref (a 0)])) ∈ ex := by have z := hW.p hi; rw [hk_] at z; exact z
      obtain ⟨yq, yhq⟩ := List.getElem?_of_mem hm
      refine nv_asR (show fW ii = some (pa ii) from (hW.w hi)) ?_
      refine nv_cast zC hX (yq + 9) (xW_9x yhq) rfl q1108 (nvSp_c2 zG3.2) dX0_spelt_20 ?_
      refine lv_astore_n (lv' := [(2, .ref (pa ii)), (0, .ref (a 0)), (1, .int (nI ii))]) zx zb dX0_spelt_23 rfl hl (by decide) rfl (fun ls hl => ?_)
      refine lv_aload_n zx zb dX0_spelt_24 rfl (lv_at hl 0 rfl) ?_
      refine nv_kFi zC hX (nv_rF (q := (RX7, TX7, 4)) (x := ⟨"OneLongRow$Spelt", "spelling", "()I"⟩) (y := yX7_spelling) (n := 0) (As := []) (rest := []) (q0 := (yq + 9)) zC hX (mt_X7_spelling_2 (zh := pa ii) (la := la ii) (ln := longOf ii) (lt := fun k_ => letters (4 * ii + k_)) (hm := hm) (ha := (hW.l hi))) (nvE_b a0 ez) (nvE_keep zG hX) (nvSp_f4 zG3.2) (xW_9x yhq) rfl q1110 q1147 q1145 q82 q1149 (by decide +kernel) rfl ⟨Nat.le_of_ble_eq_true rfl, Nat.le_of_ble_eq_true rfl⟩ hl.1 (Nat.le_of_ble_eq_true rfl) dX0_spelt_25 ⟨by first | exact Nat.le_of_ble_eq_true rfl | omega, by first | exact Nat.le_of_ble_eq_true rfl | omega⟩) (fun r u H locs hp hX => ?_)
      have hr_ : r = nI 30 := hp
      subst hr_
      have hX : nvS D a0 (xW dA a rn rt (nI 31 * trace + nI 5) len stand first allh hAll fault row hOf farOf rowsN rowsT mcW edW words mcR edR rdgs sh ex) s.heap H locs := hX
      refine W.cs (cells' := 0) (slots' := 0) (Nat.add_zero _) (Nat.add_zero _) ?_
      have hX : nvS D a0 (xW dA a rn rt (G_spelt words kind trace (nI ii)) len stand first allh hAll fault row hOf farOf rowsN rowsT mcW edW words mcR edR rdgs sh ex) s.heap H locs := by rw [show G_spelt words kind trace (nI ii) = nI 31 * trace + nI 5 from by unfold G_spelt; rw [if_pos hwi, eii, if_pos hk_]; rfl]; exact hX
      rw [← zQ]
      exact nv_endi zC zr zk () hX (by unfold F_spelt; rw [if_pos hwi, eii, if_pos hk_]) (by omega) (by omega) dX0_spelt_30
  · have hno : isW words x = false := (by simpa using c5)
    refine lv_iconst (v := (-1)) zx zb dX0_spelt_8 (by decide) ?_
    have hX : nvS D a0 (xW dA a rn rt (G_spelt words kind trace x) len stand first allh hAll fault row hOf farOf rowsN rowsT mcW edW words mcR edR rdgs sh ex) s.heap H locs := by rw [show G_spelt words kind trace x = trace from by unfold G_spelt; rw [if_neg (show ¬ isW words x = true by rw [hno]; decide)]]; exact hX
    rw [← zQ]
    exact nv_endi zC zr zk () hX (by unfold F_spelt; rw [if_neg (show ¬ isW words x = true by rw [hno]; decide)]) (by omega) (by omega) dX0_spelt_9
end CL_74_e7
