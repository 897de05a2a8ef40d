/-! printed by klass.py -/
set_option maxRecDepth 100000
section CL_58_d4
variable {l : Launch} {D : va_G} {dA : Nat → ClassId} {a0 ez : Nat} {ex : va_W} {a : Nat → Nat} {rn : Nat} {rt : Nat} {trace : Int32} {len : Nat} {stand : Nat} {first : Option Nat} {allh : Option Nat} {hAll : Nat} {fault : Int32} {row : Nat → Nat} {hOf : Nat → Nat} {farOf : Nat → Option Nat} {rowsN : Nat → Nat} {rowsT : Nat → Nat} {mcW : Int32} {edW : Nat} {words : Nat} {mcR : Int32} {edR : Nat} {rdgs : Nat} {sh : Nat → Option Nat} {kind longOf letters : Nat → Nat} {fW : Nat → Option Nat} {pa la : Nat → Nat} {rWord rMany rStands rRow : Nat → Nat} {fR : Nat → Option Nat} {pr lr : Nat → Nat}
set_option maxHeartbeats 4000000 in
theorem mp_X5_init_0 {zh : Nat} (x0 : Nat) (la : Nat)  : nMt l D dA a0 yX5_init cX5_init 3 (none) 1 20 0 0 nvG0 [.ref zh, .ref x0, .ref la] ((zh, .inr (2, [.null, .null])) :: ex) (nQv D a0 (fun (_ : Unit) => True) (fun (_ : Unit) => (zh, .inr (2, [.ref la, .ref x0])) :: ex)) := by
  refine nv_start (by decide) (Nat.le_of_ble_eq_true rfl) fun zp ze s zm zlo zme zcd ls zC zr zk znm hX zG hl => ?_
  have zx := zC.1
  have zb := zC.2.1
  generalize zargs : ([.ref zh, .ref x0, .ref la] : List Value).toArray = zar at zC ⊢
  generalize zQ : MQ zlo _ zar s _ _ _ = Q
  have hX : nvS D a0 ((zh, .inr (2, [.null, .null])) :: ex) s.heap s.heap [] := hX
  have hl : lv_has ls 3 [(0, .ref zh), (1, .ref x0), (2, .ref la)] := hl
  obtain ⟨H, zH⟩ : ∃ H, H = s.heap := ⟨_, rfl⟩
  have hX : nvS D a0 ((zh, .inr (2, [.null, .null])) :: ex) s.heap H [] := by rw [zH]; exact hX
  rw [show W zp l ze (rm_ 1 20 0 0) s zm zar zlo zme zcd s.heap [] 0 0 Q = W zp l ze (rm_ 1 20 0 0) s zm zar zlo zme zcd H [] 0 0 Q by rw [zH]]
  generalize ([] : List Loc) = locs at hX ⊢
  refine lv_aload_n zx zb dX5_init_0 rfl (lv_at hl 0 rfl) ?_
  refine lv_aload_n zx zb dX5_init_1 rfl (lv_at hl 1 rfl) ?_
  refine nv_putF zC hX in_X5 tyX5 tyX5_ok nmX5 0 rfl rfl 1 (by decide) q453 (fun _ h => h) rfl znm rfl rfl rfl (Nat.le_of_ble_eq_true rfl) (w' := (zh, .inr (2, [.null, .ref x0])) :: ex) rfl dX5_init_2 (fun H locs hX => ?_)
  refine lv_aload_n zx zb dX5_init_5 rfl (lv_at hl 0 rfl) ?_
  refine W.objInit zx zb zC.2.2.2.1 (zC.2.2.2.2.1 _ q443) (zC.2.2.2.2.1 _ q99) (zC.2.2.2.2.1 _ q100) rfl (hl.1.trans zC.2.2.1.symm) rfl dX5_init_6 (Nat.le_of_ble_eq_true rfl) (Nat.le_of_ble_eq_true rfl) ?_
  refine W.eq (g2 := F0 zm 9 ls []) rfl ?_
  refine lv_aload_n zx zb dX5_init_9 rfl (lv_at hl 0 rfl) ?_
  refine lv_aload_n zx zb dX5_init_10 rfl (lv_at hl 2 rfl) ?_
  refine nv_putF zC hX in_X5 tyX5 tyX5_ok nmX5 0 rfl rfl 0 (by decide) q444 (fun _ h => h) rfl znm rfl rfl rfl (Nat.le_of_ble_eq_true rfl) (w' := (zh, .inr (2, [.ref la, .ref x0])) :: ex) rfl dX5_init_11 (fun H locs hX => ?_)
  rw [← zQ]
  exact nv_endv zC zr zk () hX (by first | rfl | trivial) (by omega) (by omega) dX5_init_14

set_option maxHeartbeats 4000000 in
theorem mp_X5_init_1 {zh : Nat} (x0 : Nat) (la : Nat)  : nMt l D dA a0 yX5_init cX5_init 3 (none) 1 20 0 0 nvG0 [.ref zh, .ref x0, .ref la] ((zh, .inr (3, [.null, .null, .ref x0])) :: ex) (nQv D a0 (fun (_ : Unit) => True) (fun (_ : Unit) => (zh, .inr (3, [.ref la, .ref x0, .ref x0])) :: ex)) := by
  refine nv_start (by decide) (Nat.le_of_ble_eq_true rfl) fun zp ze s zm zlo zme zcd ls zC zr zk znm hX zG hl => ?_
  have zx := zC.1
  have zb := zC.2.1
  generalize zargs : ([.ref zh, .ref x0, .ref la] : List Value).toArray = zar at zC ⊢
  generalize zQ : MQ zlo _ zar s _ _ _ = Q
  have hX : nvS D a0 ((zh, .inr (3, [.null, .null, .ref x0])) :: ex) s.heap s.heap [] := hX
  have hl : lv_has ls 3 [(0, .ref zh), (1, .ref x0), (2, .ref la)] := hl
  obtain ⟨H, zH⟩ : ∃ H, H = s.heap := ⟨_, rfl⟩
  have hX : nvS D a0 ((zh, .inr (3, [.null, .null, .ref x0])) :: ex) s.heap H [] := by rw [zH]; exact hX
  rw [show W zp l ze (rm_ 1 20 0 0) s zm zar zlo zme zcd s.heap [] 0 0 Q = W zp l ze (rm_ 1 20 0 0) s zm zar zlo zme zcd H [] 0 0 Q by rw [zH]]
  generalize ([] : List Loc) = locs at hX ⊢
  refine lv_aload_n zx zb dX5_init_0 rfl (lv_at hl 0 rfl) ?_
  refine lv_aload_n zx zb dX5_init_1 rfl (lv_at hl 1 rfl) ?_
  refine nv_putF2 zC hX in_X6 tyX6 tyX6_ok (by decide +kernel) 0 rfl rfl 1 (by decide) q453 (fun _ h => h) rfl znm rfl rfl rfl (Nat.le_of_ble_eq_true rfl) (w' := (zh, .inr (3, [.null, .ref x0, .ref x0])) :: ex) rfl dX5_init_2 (fun H locs hX => ?_)
  refine lv_aload_n zx zb dX5_init_5 rfl (lv_at hl 0 rfl) ?_
  refine W.objInit zx zb zC.2.2.2.1 (zC.2.2.2.2.1 _ q443) (zC.2.2.2.2.1 _ q99) (zC.2.2.2.2.1 _ q100) rfl (hl.1.trans zC.2.2.1.symm) rfl dX5_init_6 (Nat.le_of_ble_eq_true rfl) (Nat.le_of_ble_eq_true rfl) ?_
  refine W.eq (g2 := F0 zm 9 ls []) rfl ?_
  refine lv_aload_n zx zb dX5_init_9 rfl (lv_at hl 0 rfl) ?_
  refine lv_aload_n zx zb dX5_init_10 rfl (lv_at hl 2 rfl) ?_
  refine nv_putF2 zC hX in_X6 tyX6 tyX6_ok (by decide +kernel) 0 rfl rfl 0 (by decide) q444 (fun _ h => h) rfl znm rfl rfl rfl (Nat.le_of_ble_eq_true rfl) (w' := (zh, .inr (3, [.ref la, .ref x0, .ref x0])) :: ex) rfl dX5_init_11 (fun H locs hX => ?_)
  rw [← zQ]
  exact nv_endv zC zr zk () hX (by first | rfl | trivial) (by omega) (by omega) dX5_init_14

set_option maxHeartbeats 4000000 in
theorem mp_X6_init_1 {zh : Nat} (x0 : Nat) (la : Nat)  : nMt l D dA a0 yX6_init cX6_init 3 (none) 2 42 0 0 nvG0 [.ref zh, .ref x0, .ref la] ((zh, .inr (3, [.null, .null, .null])) :: ex) (nQv D a0 (fun (_ : Unit) => True) (fun (_ : Unit) => (zh, .inr (3, [.ref la, .ref x0, .ref x0])) :: ex)) := by
  refine nv_start (by decide) (Nat.le_of_ble_eq_true rfl) fun zp ze s zm zlo zme zcd ls zC zr zk znm hX zG hl => ?_
  have zx := zC.1
  have zb := zC.2.1
  generalize zargs : ([.ref zh, .ref x0, .ref la] : List Value).toArray = zar at zC ⊢
  generalize zQ : MQ zlo _ zar s _ _ _ = Q
  have hX : nvS D a0 ((zh, .inr (3, [.null, .null, .null])) :: ex) s.heap s.heap [] := hX
  have hl : lv_has ls 3 [(0, .ref zh), (1, .ref x0), (2, .ref la)] := hl
  obtain ⟨H, zH⟩ : ∃ H, H = s.heap := ⟨_, rfl⟩
  have hX : nvS D a0 ((zh, .inr (3, [.null, .null, .null])) :: ex) s.heap H [] := by rw [zH]; exact hX
  rw [show W zp l ze (rm_ 2 42 0 0) s zm zar zlo zme zcd s.heap [] 0 0 Q = W zp l ze (rm_ 2 42 0 0) s zm zar zlo zme zcd H [] 0 0 Q by rw [zH]]
  generalize ([] : List Loc) = locs at hX ⊢
  refine lv_aload_n zx zb dX6_init_0 rfl (lv_at hl 0 rfl) ?_
  refine lv_aload_n zx zb dX6_init_1 rfl (lv_at hl 1 rfl) ?_
  refine nv_putF2 zC hX in_X6 tyX6 tyX6_ok (by decide +kernel) 0 rfl rfl 2 (by decide) q465 (fun _ h => h) rfl znm rfl rfl rfl (Nat.le_of_ble_eq_true rfl) (w' := (zh, .inr (3, [.null, .null, .ref x0])) :: ex) rfl dX6_init_2 (fun H locs hX => ?_)
  refine lv_aload_n zx zb dX6_init_5 rfl (lv_at hl 0 rfl) ?_
  refine lv_aload_n zx zb dX6_init_6 rfl (lv_at hl 1 rfl) ?_
  refine lv_aload_n zx zb dX6_init_7 rfl (lv_at hl 2 rfl) ?_
  refine nv_kv zC hX (nv_rI (n := 2) (As := [.ref x0, .ref la]) (rest := []) zC hX (mp_X5_init_1 (x0 := x0) (la := la)) nvGb0 (fun _ _ _ => trivial) q464 q441 q80 q442 rfl (by decide +kernel) rfl ⟨Nat.le_of_ble_eq_true rfl, Nat.le_of_ble_eq_true rfl⟩ hl.1 (Nat.le_of_ble_eq_true rfl) dX6_init_8 ⟨by first | exact Nat.le_of_ble_eq_true rfl | omega, by first | exact Nat.le_of_ble_eq_true rfl | omega⟩) (fun u H locs hp hX => ?_)
  have hX : nvS D a0 ((zh, .inr (3, [.ref la, .ref x0, .ref x0])) :: ex) s.heap H locs := hX
  refine W.cs (cells' := 0) (slots' := 0) (Nat.add_zero _) (Nat.add_zero _) ?_
  rw [← zQ]
  exact nv_endv zC zr zk () hX (by first | rfl | trivial) (by omega) (by omega) dX6_init_11

set_option maxHeartbeats 4000000 in
theorem mp_X5_init_2 {zh : Nat} (x0 : Nat) (la : Nat)  : nMt l D dA a0 yX5_init cX5_init 3 (none) 1 20 0 0 nvG0 [.ref zh, .ref x0, .ref la] ((zh, .inr (4, [.null, .null, .ref x0, .ref x0])) :: ex) (nQv D a0 (fun (_ : Unit) => True) (fun (_ : Unit) => (zh, .inr (4, [.ref la, .ref x0, .ref x0, .ref x0])) :: ex)) := by
  refine nv_start (by decide) (Nat.le_of_ble_eq_true rfl) fun zp ze s zm zlo zme zcd ls zC zr zk znm hX zG hl => ?_
  have zx := zC.1
  have zb := zC.2.1
  generalize zargs : ([.ref zh, .ref x0, .ref la] : List Value).toArray = zar at zC ⊢
  generalize zQ : MQ zlo _ zar s _ _ _ = Q
  have hX : nvS D a0 ((zh, .inr (4, [.null, .null, .ref x0, .ref x0])) :: ex) s.heap s.heap [] := hX
  have hl : lv_has ls 3 [(0, .ref zh), (1, .ref x0), (2, .ref la)] := hl
  obtain ⟨H, zH⟩ : ∃ H, H = s.heap := ⟨_, rfl⟩
  have hX : nvS D a0 ((zh, .inr (4, [.null, .null, .ref x0, .ref x0])) :: ex) s.heap H [] := by rw [zH]; exact hX
  rw [show W zp l ze (rm_ 1 20 0 0) s zm zar zlo zme zcd s.heap [] 0 0 Q = W zp l ze (rm_ 1 20 0 0) s zm zar zlo zme zcd H [] 0 0 Q by rw [zH]]
  generalize ([] : List Loc) = locs at hX ⊢
  refine lv_aload_n zx zb dX5_init_0 rfl (lv_at hl 0 rfl) ?_
  refine lv_aload_n zx zb dX5_init_1 rfl (lv_at hl 1 rfl) ?_
  refine nv_putF2 zC hX in_X7 tyX7 tyX7_ok (by decide +kernel) 0 rfl rfl 1 (by decide) q453 (fun _ h => h) rfl znm rfl rfl rfl (Nat.le_of_ble_eq_true rfl) (w' := (zh, .inr (4, [.null, .ref x0, .ref x0, .ref x0])) :: ex) rfl dX5_init_2 (fun H locs hX => ?_)
  refine lv_aload_n zx zb dX5_init_5 rfl (lv_at hl 0 rfl) ?_
  refine W.objInit zx zb zC.2.2.2.1 (zC.2.2.2.2.1 _ q443) (zC.2.2.2.2.1 _ q99) (zC.2.2.2.2.1 _ q100) rfl (hl.1.trans zC.2.2.1.symm) rfl dX5_init_6 (Nat.le_of_ble_eq_true rfl) (Nat.le_of_ble_eq_true rfl) ?_
  refine W.eq (g2 := F0 zm 9 ls []) rfl ?_
  refine lv_aload_n zx zb dX5_init_9 rfl (lv_at hl 0 rfl) ?_
  refine lv_aload_n zx zb dX5_init_10 rfl (lv_at hl 2 rfl) ?_
  refine nv_putF2 zC hX in_X7 tyX7 tyX7_ok (by decide +kernel) 0 rfl rfl 0 (by decide) q444 (fun _ h => h) rfl znm rfl rfl rfl (Nat.le_of_ble_eq_true rfl) (w' := (zh, .inr (4, [.ref la, .ref x0, .ref x0, .ref x0])) :: ex) rfl dX5_init_11 (fun H locs hX => ?_)
  rw [← zQ]
  exact nv_endv zC zr zk () hX (by first | rfl | trivial) (by omega) (by omega) dX5_init_14

set_option maxHeartbeats 4000000 in
theorem mp_X6_init_2 {zh : Nat} (x0 : Nat) (la : Nat)  : nMt l D dA a0 yX6_init cX6_init 3 (none) 2 42 0 0 nvG0 [.ref zh, .ref x0, .ref la] ((zh, .inr (4, [.null, .null, .null, .ref x0])) :: ex) (nQv D a0 (fun (_ : Unit) => True) (fun (_ : Unit) => (zh, .inr (4, [.ref la, .ref x0, .ref x0, .ref x0])) :: ex)) := by
  refine nv_start (by decide) (Nat.le_of_ble_eq_true rfl) fun zp ze s zm zlo zme zcd ls zC zr zk znm hX zG hl => ?_
  have zx := zC.1
  have zb := zC.2.1
  generalize zargs : ([.ref zh, .ref x0, .ref la] : List Value).toArray = zar at zC ⊢
  generalize zQ : MQ zlo _ zar s _ _ _ = Q
  have hX : nvS D a0 ((zh, .inr (4, [.null, .null, .null, .ref x0])) :: ex) s.heap s.heap [] := hX
  have hl : lv_has ls 3 [(0, .ref zh), (1, .ref x0), (2, .ref la)] := hl
  obtain ⟨H, zH⟩ : ∃ H, H = s.heap := ⟨_, rfl⟩
  have hX : nvS D a0 ((zh, .inr (4, [.null, .null, .null, .ref x0])) :: ex) s.heap H [] := by rw [zH]; exact hX
  rw [show W zp l ze (rm_ 2 42 0 0) s zm zar zlo zme zcd s.heap [] 0 0 Q = W zp l ze (rm_ 2 42 0 0) s zm zar zlo zme zcd H [] 0 0 Q by rw [zH]]
  generalize ([] : List Loc) = locs at hX ⊢
  refine lv_aload_n zx zb dX6_init_0 rfl (lv_at hl 0 rfl) ?_
  refine lv_aload_n zx zb dX6_init_1 rfl (lv_at hl 1 rfl) ?_
  refine nv_putF2 zC hX in_X7 tyX7 tyX7_ok (by decide +kernel) 0 rfl rfl 2 (by decide) q465 (fun _ h => h) rfl znm rfl rfl rfl (Nat.le_of_ble_eq_true rfl) (w' := (zh, .inr (4, [.null, .null, .ref x0, .ref x0])) :: ex) rfl dX6_init_2 (fun H locs hX => ?_)
  refine lv_aload_n zx zb dX6_init_5 rfl (lv_at hl 0 rfl) ?_
  refine lv_aload_n zx zb dX6_init_6 rfl (lv_at hl 1 rfl) ?_
  refine lv_aload_n zx zb dX6_init_7 rfl (lv_at hl 2 rfl) ?_
  refine nv_kv zC hX (nv_rI (n := 2) (As := [.ref x0, .ref la]) (rest := []) zC hX (mp_X5_init_2 (x0 := x0) (la := la)) nvGb0 (fun _ _ _ => trivial) q464 q441 q80 q442 rfl (by decide +kernel) rfl ⟨Nat.le_of_ble_eq_true rfl, Nat.le_of_ble_eq_true rfl⟩ hl.1 (Nat.le_of_ble_eq_true rfl) dX6_init_8 ⟨by first | exact Nat.le_of_ble_eq_true rfl | omega, by first | exact Nat.le_of_ble_eq_true rfl | omega⟩) (fun u H locs hp hX => ?_)
  have hX : nvS D a0 ((zh, .inr (4, [.ref la, .ref x0, .ref x0, .ref x0])) :: ex) s.heap H locs := hX
  refine W.cs (cells' := 0) (slots' := 0) (Nat.add_zero _) (Nat.add_zero _) ?_
  rw [← zQ]
  exact nv_endv zC zr zk () hX (by first | rfl | trivial) (by omega) (by omega) dX6_init_11

set_option maxHeartbeats 4000000 in
theorem mp_X7_init_2 {zh : Nat} (x0 : Nat) (la : Nat)  : nMt l D dA a0 yX7_init cX7_init 3 (none) 3 64 0 0 nvG0 [.ref zh, .ref x0, .ref la] ((zh, .inr (4, [.null, .null, .null, .null])) :: ex) (nQv D a0 (fun (_ : Unit) => True) (fun (_ : Unit) => (zh, .inr (4, [.ref la, .ref x0, .ref x0, .ref x0])) :: ex)) := by
  refine nv_start (by decide) (Nat.le_of_ble_eq_true rfl) fun zp ze s zm zlo zme zcd ls zC zr zk znm hX zG hl => ?_
  have zx := zC.1
  have zb := zC.2.1
  generalize zargs : ([.ref zh, .ref x0, .ref la] : List Value).toArray = zar at zC ⊢
  generalize zQ : MQ zlo _ zar s _ _ _ = Q
  have hX : nvS D a0 ((zh, .inr (4, [.null, .null, .null, .null])) :: ex) s.heap s.heap [] := hX
  have hl : lv_has ls 3 [(0, .ref zh), (1, .ref x0), (2, .ref la)] := hl
  obtain ⟨H, zH⟩ : ∃ H, H = s.heap := ⟨_, rfl⟩
  have hX : nvS D a0 ((zh, .inr (4, [.null, .null, .null, .null])) :: ex) s.heap H [] := by rw [zH]; exact hX
  rw [show W zp l ze (rm_ 3 64 0 0) s zm zar zlo zme zcd s.heap [] 0 0 Q = W zp l ze (rm_ 3 64 0 0) s zm zar zlo zme zcd H [] 0 0 Q by rw [zH]]
  generalize ([] : List Loc) = locs at hX ⊢
  refine lv_aload_n zx zb dX7_init_0 rfl (lv_at hl 0 rfl) ?_
  refine lv_aload_n zx zb dX7_init_1 rfl (lv_at hl 1 rfl) ?_
  refine nv_putF2 zC hX in_X7 tyX7 tyX7_ok (by decide +kernel) 0 rfl rfl 3 (by decide) q476 (fun _ h => h) rfl znm rfl rfl rfl (Nat.le_of_ble_eq_true rfl) (w' := (zh, .inr (4, [.null, .null, .null, .ref x0])) :: ex) rfl dX7_init_2 (fun H locs hX => ?_)
  refine lv_aload_n zx zb dX7_init_5 rfl (lv_at hl 0 rfl) ?_
  refine lv_aload_n zx zb dX7_init_6 rfl (lv_at hl 1 rfl) ?_
  refine lv_aload_n zx zb dX7_init_7 rfl (lv_at hl 2 rfl) ?_
  refine nv_kv zC hX (nv_rI (n := 2) (As := [.ref x0, .ref la]) (rest := []) zC hX (mp_X6_init_2 (x0 := x0) (la := la)) nvGb0 (fun _ _ _ => trivial) q475 q462 q81 q463 rfl (by decide +kernel) rfl ⟨Nat.le_of_ble_eq_true rfl, Nat.le_of_ble_eq_true rfl⟩ hl.1 (Nat.le_of_ble_eq_true rfl) dX7_init_8 ⟨by first | exact Nat.le_of_ble_eq_true rfl | omega, by first | exact Nat.le_of_ble_eq_true rfl | omega⟩) (fun u H locs hp hX => ?_)
  have hX : nvS D a0 ((zh, .inr (4, [.ref la, .ref x0, .ref x0, .ref x0])) :: ex) s.heap H locs := hX
  refine W.cs (cells' := 0) (slots' := 0) (Nat.add_zero _) (Nat.add_zero _) ?_
  rw [← zQ]
  exact nv_endv zC zr zk () hX (by first | rfl | trivial) (by omega) (by omega) dX7_init_11
end CL_58_d4
