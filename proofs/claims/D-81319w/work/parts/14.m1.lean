/-! THE MODEL: contracts, printed by tools/model.py -/
set_option maxRecDepth 100000
section
variable {l : Launch} {D : va_G} {dA : Nat → ClassId} {a0 : Nat} {a : Nat → Nat} {ex : va_W} {fault : Int32} {trace : Int32} {sorts : Nat → Option Nat} {shL : Nat → Nat} {cells : Nat → Int32} {words : Nat} {said : Nat} {kind : Nat → Nat} {longOf : Nat → Nat} {letters : Nat → Nat} {saidRow : Nat → Nat} {at_ : Nat} {rdW : Nat} {rKind : Nat → Option Nat} {rLong : Nat → Nat} {rLet : Nat → Nat} {looked : Nat → Nat} {lkL : Nat} {next : Nat → Nat} {heard : Nat → Nat} {far : Nat → Option Nat} {ways : Nat → Nat} {waysT : Nat → Nat} {free : Nat → Nat} {freeT : Nat → Nat} {rdgs : Nat} {rWord : Nat → Nat} {rMany : Nat → Nat} {rStands : Nat → Nat} {rRow : Nat → Nat}
set_option maxHeartbeats 4000000 in
theorem mm_fails  (k : Nat)  : nMt l D dA a0 yX1_fails cX1_fails 2 (some .int) 1 12 0 0 nvG0 [.ref (a 0), .int (nI k)] (mW dA a fault trace sorts shL cells words said kind longOf letters saidRow at_ rdW rKind rLong rLet looked lkL next heard far ways waysT free freeT rdgs rWord rMany rStands rRow ex) (nQi D a0 (fun (r : Int32) (_ : Unit) => r = (-10) - nI k) (fun (_ : Unit) => mW dA a (nI k) trace sorts shL cells words said kind longOf letters saidRow at_ rdW rKind rLong rLet looked lkL next heard far ways waysT free freeT rdgs rWord rMany rStands rRow ex)) := by
  refine nv_start (by decide) (Nat.le_of_ble_eq_true rfl) fun zp ze s zm zlo zme zcd ls zC zr zk znm hX zG hl => ?_
  have zx := zC.1
  have zb := zC.2.1
  generalize zargs : ([.ref (a 0), .int (nI k)] : List Value).toArray = zar at zC ⊢
  generalize zQ : MQ zlo _ zar s _ _ _ = Q
  have hX : nvS D a0 (mW dA a fault trace sorts shL cells words said kind longOf letters saidRow at_ rdW rKind rLong rLet looked lkL next heard far ways waysT free freeT rdgs rWord rMany rStands rRow ex) s.heap s.heap [] := hX
  have hl : lv_has ls 2 [(0, .ref (a 0)), (1, .int (nI k))] := hl
  obtain ⟨H, zH⟩ : ∃ H, H = s.heap := ⟨_, rfl⟩
  have hX : nvS D a0 (mW dA a fault trace sorts shL cells words said kind longOf letters saidRow at_ rdW rKind rLong rLet looked lkL next heard far ways waysT free freeT rdgs rWord rMany rStands rRow ex) s.heap H [] := by rw [zH]; exact hX
  rw [show W zp l ze (rm_ 1 12 0 0) s zm zar zlo zme zcd s.heap [] 0 0 Q = W zp l ze (rm_ 1 12 0 0) s zm zar zlo zme zcd H [] 0 0 Q by rw [zH]]
  generalize ([] : List Loc) = locs at hX ⊢
  refine lv_aload_n zx zb dX1_fails_0 rfl (lv_at hl 0 rfl) ?_
  refine lv_iload_n zx zb dX1_fails_1 rfl (lv_at hl 1 rfl) ?_
  refine nv_put zC hX in_X1 tyX1 tyX1_ok nmX1 0 rfl rfl 0 (by decide) q1192 (fun _ h => h) rfl rfl rfl (Nat.le_of_ble_eq_true rfl) (w' := mW dA a (nI k) trace sorts shL cells words said kind longOf letters saidRow at_ rdW rKind rLong rLet looked lkL next heard far ways waysT free freeT rdgs rWord rMany rStands rRow ex) rfl dX1_fails_2 (fun H locs hX => ?_)
  refine lv_bipush (v := (-10)) zx zb dX1_fails_5 (by decide) ?_
  refine lv_iload_n zx zb dX1_fails_7 rfl (lv_at hl 1 rfl) ?_
  refine lv_isub zx zb dX1_fails_8 ?_
  rw [← zQ]
  exact nv_endi zC zr zk () hX (by first | rfl | trivial) (by omega) (by omega) dX1_fails_9

set_option maxHeartbeats 4000000 in
theorem mm_lost  (k : Nat)  : nMt l D dA a0 yX1_lost cX1_lost 2 (some .long) 1 12 0 0 nvG0 [.ref (a 0), .int (nI k)] (mW dA a fault trace sorts shL cells words said kind longOf letters saidRow at_ rdW rKind rLong rLet looked lkL next heard far ways waysT free freeT rdgs rWord rMany rStands rRow ex) (nQl D a0 (fun (r : Int64) (_ : Unit) => r = (-9223372036854775808)) (fun (_ : Unit) => mW dA a (nI k) trace sorts shL cells words said kind longOf letters saidRow at_ rdW rKind rLong rLet looked lkL next heard far ways waysT free freeT rdgs rWord rMany rStands rRow ex)) := by
  refine nv_start (by decide) (Nat.le_of_ble_eq_true rfl) fun zp ze s zm zlo zme zcd ls zC zr zk znm hX zG hl => ?_
  have zx := zC.1
  have zb := zC.2.1
  generalize zargs : ([.ref (a 0), .int (nI k)] : List Value).toArray = zar at zC ⊢
  generalize zQ : MQ zlo _ zar s _ _ _ = Q
  have hX : nvS D a0 (mW dA a fault trace sorts shL cells words said kind longOf letters saidRow at_ rdW rKind rLong rLet looked lkL next heard far ways waysT free freeT rdgs rWord rMany rStands rRow ex) s.heap s.heap [] := hX
  have hl : lv_has ls 2 [(0, .ref (a 0)), (1, .int (nI k))] := hl
  obtain ⟨H, zH⟩ : ∃ H, H = s.heap := ⟨_, rfl⟩
  have hX : nvS D a0 (mW dA a fault trace sorts shL cells words said kind longOf letters saidRow at_ rdW rKind rLong rLet looked lkL next heard far ways waysT free freeT rdgs rWord rMany rStands rRow ex) s.heap H [] := by rw [zH]; exact hX
  rw [show W zp l ze (rm_ 1 12 0 0) s zm zar zlo zme zcd s.heap [] 0 0 Q = W zp l ze (rm_ 1 12 0 0) s zm zar zlo zme zcd H [] 0 0 Q by rw [zH]]
  generalize ([] : List Loc) = locs at hX ⊢
  refine lv_aload_n zx zb dX1_lost_0 rfl (lv_at hl 0 rfl) ?_
  refine lv_iload_n zx zb dX1_lost_1 rfl (lv_at hl 1 rfl) ?_
  refine nv_put zC hX in_X1 tyX1 tyX1_ok nmX1 0 rfl rfl 0 (by decide) q1192 (fun _ h => h) rfl rfl rfl (Nat.le_of_ble_eq_true rfl) (w' := mW dA a (nI k) trace sorts shL cells words said kind longOf letters saidRow at_ rdW rKind rLong rLet looked lkL next heard far ways waysT free freeT rdgs rWord rMany rStands rRow ex) rfl dX1_lost_2 (fun H locs hX => ?_)
  refine lv_ldc2 (v := (-9223372036854775808)) zx zb zC.2.2.2.1 (zC.2.2.2.2.1 _ q1416) dX1_lost_5 ?_
  rw [← zQ]
  exact nv_endl zC zr zk () hX (by first | rfl | trivial) (by omega) (by omega) dX1_lost_8

set_option maxHeartbeats 4000000 in
theorem mm_begins  (k : Nat)  : nMt l D dA a0 yX1_begins cX1_begins 2 (none) 1 12 0 0 nvG0 [.ref (a 0), .int (nI k)] (mW dA a fault trace sorts shL cells words said kind longOf letters saidRow at_ rdW rKind rLong rLet looked lkL next heard far ways waysT free freeT rdgs rWord rMany rStands rRow ex) (nQv D a0 (fun (_ : Unit) => True) (fun (_ : Unit) => mW dA a fault (nI 31 * trace + nI k) sorts shL cells words said kind longOf letters saidRow at_ rdW rKind rLong rLet looked lkL next heard far ways waysT free freeT rdgs rWord rMany rStands rRow ex)) := by
  refine nv_start (by decide) (Nat.le_of_ble_eq_true rfl) fun zp ze s zm zlo zme zcd ls zC zr zk znm hX zG hl => ?_
  have zx := zC.1
  have zb := zC.2.1
  generalize zargs : ([.ref (a 0), .int (nI k)] : List Value).toArray = zar at zC ⊢
  generalize zQ : MQ zlo _ zar s _ _ _ = Q
  have hX : nvS D a0 (mW dA a fault trace sorts shL cells words said kind longOf letters saidRow at_ rdW rKind rLong rLet looked lkL next heard far ways waysT free freeT rdgs rWord rMany rStands rRow ex) s.heap s.heap [] := hX
  have hl : lv_has ls 2 [(0, .ref (a 0)), (1, .int (nI k))] := hl
  obtain ⟨H, zH⟩ : ∃ H, H = s.heap := ⟨_, rfl⟩
  have hX : nvS D a0 (mW dA a fault trace sorts shL cells words said kind longOf letters saidRow at_ rdW rKind rLong rLet looked lkL next heard far ways waysT free freeT rdgs rWord rMany rStands rRow ex) s.heap H [] := by rw [zH]; exact hX
  rw [show W zp l ze (rm_ 1 12 0 0) s zm zar zlo zme zcd s.heap [] 0 0 Q = W zp l ze (rm_ 1 12 0 0) s zm zar zlo zme zcd H [] 0 0 Q by rw [zH]]
  generalize ([] : List Loc) = locs at hX ⊢
  refine lv_aload_n zx zb dX1_begins_0 rfl (lv_at hl 0 rfl) ?_
  refine lv_bipush (v := nI 31) zx zb dX1_begins_1 (by decide) ?_
  refine lv_aload_n zx zb dX1_begins_3 rfl (lv_at hl 0 rfl) ?_
  refine nv_get zC hX in_X1 0 rfl rfl 1 (by decide) q1193 (fun _ h => h) rfl dX1_begins_4 ?_
  refine lv_imul zx zb dX1_begins_7 ?_
  refine lv_iload_n zx zb dX1_begins_8 rfl (lv_at hl 1 rfl) ?_
  refine lv_iadd zx zb dX1_begins_9 ?_
  refine nv_put zC hX in_X1 tyX1 tyX1_ok nmX1 0 rfl rfl 1 (by decide) q1193 (fun _ h => h) rfl rfl rfl (Nat.le_of_ble_eq_true rfl) (w' := mW dA a fault (((nI 31) * trace) + (nI k)) sorts shL cells words said kind longOf letters saidRow at_ rdW rKind rLong rLet looked lkL next heard far ways waysT free freeT rdgs rWord rMany rStands rRow ex) rfl dX1_begins_10 (fun H locs hX => ?_)
  rw [← zQ]
  exact nv_endv zC zr zk () hX (by first | rfl | trivial) (by omega) (by omega) dX1_begins_13

set_option maxHeartbeats 4000000 in
theorem mm_within  (v : Int32) (lo : Int32) (hi : Int32)  : nMt l D dA a0 yX1_within cX1_within 3 (some .boolean) 1 12 0 0 nvG0 [.int v, .int lo, .int hi] (mW dA a fault trace sorts shL cells words said kind longOf letters saidRow at_ rdW rKind rLong rLet looked lkL next heard far ways waysT free freeT rdgs rWord rMany rStands rRow ex) (nQi D a0 (fun (r : Int32) (_ : Unit) => r = nB (decide (lo ≤ v) && decide (v ≤ hi))) (fun (_ : Unit) => mW dA a fault trace sorts shL cells words said kind longOf letters saidRow at_ rdW rKind rLong rLet looked lkL next heard far ways waysT free freeT rdgs rWord rMany rStands rRow ex)) := by
  refine nv_start (by decide) (Nat.le_of_ble_eq_true rfl) fun zp ze s zm zlo zme zcd ls zC zr zk znm hX zG hl => ?_
  have zx := zC.1
  have zb := zC.2.1
  generalize zargs : ([.int v, .int lo, .int hi] : List Value).toArray = zar at zC ⊢
  generalize zQ : MQ zlo _ zar s _ _ _ = Q
  have hX : nvS D a0 (mW dA a fault trace sorts shL cells words said kind longOf letters saidRow at_ rdW rKind rLong rLet looked lkL next heard far ways waysT free freeT rdgs rWord rMany rStands rRow ex) s.heap s.heap [] := hX
  have hl : lv_has ls 3 [(0, .int v), (1, .int lo), (2, .int hi)] := hl
  obtain ⟨H, zH⟩ : ∃ H, H = s.heap := ⟨_, rfl⟩
  have hX : nvS D a0 (mW dA a fault trace sorts shL cells words said kind longOf letters saidRow at_ rdW rKind rLong rLet looked lkL next heard far ways waysT free freeT rdgs rWord rMany rStands rRow ex) s.heap H [] := by rw [zH]; exact hX
  rw [show W zp l ze (rm_ 1 12 0 0) s zm zar zlo zme zcd s.heap [] 0 0 Q = W zp l ze (rm_ 1 12 0 0) s zm zar zlo zme zcd H [] 0 0 Q by rw [zH]]
  generalize ([] : List Loc) = locs at hX ⊢
  refine lv_iload_n zx zb dX1_within_0 rfl (lv_at hl 0 rfl) ?_
  refine lv_iload_n zx zb dX1_within_1 rfl (lv_at hl 1 rfl) ?_
  refine lv_icmp_lt (x := v) (y := lo) (tgt := 14) zx zb dX1_within_2 (by decide) (fun c2 => ?_) (fun c2 => ?_)
  · refine lv_iconst (v := nI 0) zx zb dX1_within_14 (by decide) ?_
    rw [← zQ]
    refine nv_as (y := nB false) rfl ?_
    exact nv_endz zC zr zk () hX (by have h := Int32.not_le.mpr c2; simp [nB, h]) (by omega) (by omega) dX1_within_15
  · refine lv_iload_n zx zb dX1_within_5 rfl (lv_at hl 0 rfl) ?_
    refine lv_iload_n zx zb dX1_within_6 rfl (lv_at hl 2 rfl) ?_
    refine lv_icmp_gt (x := v) (y := hi) (tgt := 14) zx zb dX1_within_7 (by decide) (fun c7 => ?_) (fun c7 => ?_)
    · refine lv_iconst (v := nI 0) zx zb dX1_within_14 (by decide) ?_
      rw [← zQ]
      refine nv_as (y := nB false) rfl ?_
      exact nv_endz zC zr zk () hX (by have h := Int32.not_le.mpr c7; simp [nB, h]) (by omega) (by omega) dX1_within_15
    · refine lv_iconst (v := nI 1) zx zb dX1_within_10 (by decide) ?_
      refine lv_goto (tgt := 15) zx zb dX1_within_11 (by decide) ?_
      rw [← zQ]
      refine nv_as (y := nB true) rfl ?_
      exact nv_endz zC zr zk () hX (by have h := Int32.not_lt.mp c2; have h2 := Int32.not_lt.mp c7; simp [nB, h, h2]) (by omega) (by omega) dX1_within_15

set_option maxHeartbeats 4000000 in
theorem mm_isSheet  (v : Int32)  : nMt l D dA a0 yX1_isSheet cX1_isSheet 1 (some .boolean) 2 34 0 0 nvG0 [.int v] (mW dA a fault trace sorts shL cells words said kind longOf letters saidRow at_ rdW rKind rLong rLet looked lkL next heard far ways waysT free freeT rdgs rWord rMany rStands rRow ex) (nQi D a0 (fun (r : Int32) (_ : Unit) => r = nB (inN v 0 3)) (fun (_ : Unit) => mW dA a fault trace sorts shL cells words said kind longOf letters saidRow at_ rdW rKind rLong rLet looked lkL next heard far ways waysT free freeT rdgs rWord rMany rStands rRow ex)) := by
  refine nv_start (by decide) (Nat.le_of_ble_eq_true rfl) fun zp ze s zm zlo zme zcd ls zC zr zk znm hX zG hl => ?_
  have zx := zC.1
  have zb := zC.2.1
  generalize zargs : ([.int v] : List Value).toArray = zar at zC ⊢
  generalize zQ : MQ zlo _ zar s _ _ _ = Q
  have hX : nvS D a0 (mW dA a fault trace sorts shL cells words said kind longOf letters saidRow at_ rdW rKind rLong rLet looked lkL next heard far ways waysT free freeT rdgs rWord rMany rStands rRow ex) s.heap s.heap [] := hX
  have hl : lv_has ls 1 [(0, .int v)] := hl
  obtain ⟨H, zH⟩ : ∃ H, H = s.heap := ⟨_, rfl⟩
  have hX : nvS D a0 (mW dA a fault trace sorts shL cells words said kind longOf letters saidRow at_ rdW rKind rLong rLet looked lkL next heard far ways waysT free freeT rdgs rWord rMany rStands rRow ex) s.heap H [] := by rw [zH]; exact hX
  rw [show W zp l ze (rm_ 2 34 0 0) s zm zar zlo zme zcd s.heap [] 0 0 Q = W zp l ze (rm_ 2 34 0 0) s zm zar zlo zme zcd H [] 0 0 Q by rw [zH]]
  generalize ([] : List Loc) = locs at hX ⊢
  refine lv_iload_n zx zb dX1_isSheet_0 rfl (lv_at hl 0 rfl) ?_
  refine lv_iconst (v := nI 0) zx zb dX1_isSheet_1 (by decide) ?_
  refine lv_iconst (v := nI 3) zx zb dX1_isSheet_2 (by decide) ?_
  refine nv_ki zC hX (nv_rS (n := 3) (As := [.int v, .int (nI 0), .int (nI 3)]) (rest := []) zC hX (mm_within (v := v) (lo := nI 0) (hi := nI 3)) nvGb0 (fun _ _ _ => trivial) q1290 q1291 q63 q1292 (by decide +kernel) rfl ⟨Nat.le_of_ble_eq_true rfl, Nat.le_of_ble_eq_true rfl⟩ hl.1 (Nat.le_of_ble_eq_true rfl) dX1_isSheet_3 ⟨by first | exact Nat.le_of_ble_eq_true rfl | omega, by first | exact Nat.le_of_ble_eq_true rfl | omega⟩) (fun r u H locs hp hX => ?_)
  have hr_ : r = nB (inN v 0 3) := hp
  subst hr_
  have hX : nvS D a0 (mW dA a fault trace sorts shL cells words said kind longOf letters saidRow at_ rdW rKind rLong rLet looked lkL next heard far ways waysT free freeT rdgs rWord rMany rStands rRow ex) s.heap H locs := hX
  refine W.cs (cells' := 0) (slots' := 0) (Nat.add_zero _) (Nat.add_zero _) ?_
  rw [← zQ]
  exact nv_endz zC zr zk () hX (by first | rfl | trivial) (by omega) (by omega) dX1_isSheet_6

set_option maxHeartbeats 4000000 in
theorem mm_isSort  (v : Int32)  : nMt l D dA a0 yX1_isSort cX1_isSort 1 (some .boolean) 2 34 0 0 nvG0 [.int v] (mW dA a fault trace sorts shL cells words said kind longOf letters saidRow at_ rdW rKind rLong rLet looked lkL next heard far ways waysT free freeT rdgs rWord rMany rStands rRow ex) (nQi D a0 (fun (r : Int32) (_ : Unit) => r = nB (inN v 0 2)) (fun (_ : Unit) => mW dA a fault trace sorts shL cells words said kind longOf letters saidRow at_ rdW rKind rLong rLet looked lkL next heard far ways waysT free freeT rdgs rWord rMany rStands rRow ex)) := by
  refine nv_start (by decide) (Nat.le_of_ble_eq_true rfl) fun zp ze s zm zlo zme zcd ls zC zr zk znm hX zG hl => ?_
  have zx := zC.1
  have zb := zC.2.1
  generalize zargs : ([.int v] : List Value).toArray = zar at zC ⊢
  generalize zQ : MQ zlo _ zar s _ _ _ = Q
  have hX : nvS D a0 (mW dA a fault trace sorts shL cells words said kind longOf letters saidRow at_ rdW rKind rLong rLet looked lkL next heard far ways waysT free freeT rdgs rWord rMany rStands rRow ex) s.heap s.heap [] := hX
  have hl : lv_has ls 1 [(0, .int v)] := hl
  obtain ⟨H, zH⟩ : ∃ H, H = s.heap := ⟨_, rfl⟩
  have hX : nvS D a0 (mW dA a fault trace sorts shL cells words said kind longOf letters saidRow at_ rdW rKind rLong rLet looked lkL next heard far ways waysT free freeT rdgs rWord rMany rStands rRow ex) s.heap H [] := by rw [zH]; exact hX
  rw [show W zp l ze (rm_ 2 34 0 0) s zm zar zlo zme zcd s.heap [] 0 0 Q = W zp l ze (rm_ 2 34 0 0) s zm zar zlo zme zcd H [] 0 0 Q by rw [zH]]
  generalize ([] : List Loc) = locs at hX ⊢
  refine lv_iload_n zx zb dX1_isSort_0 rfl (lv_at hl 0 rfl) ?_
  refine lv_iconst (v := nI 0) zx zb dX1_isSort_1 (by decide) ?_
  refine lv_iconst (v := nI 2) zx zb dX1_isSort_2 (by decide) ?_
  refine nv_ki zC hX (nv_rS (n := 3) (As := [.int v, .int (nI 0), .int (nI 2)]) (rest := []) zC hX (mm_within (v := v) (lo := nI 0) (hi := nI 2)) nvGb0 (fun _ _ _ => trivial) q1290 q1291 q63 q1292 (by decide +kernel) rfl ⟨Nat.le_of_ble_eq_true rfl, Nat.le_of_ble_eq_true rfl⟩ hl.1 (Nat.le_of_ble_eq_true rfl) dX1_isSort_3 ⟨by first | exact Nat.le_of_ble_eq_true rfl | omega, by first | exact Nat.le_of_ble_eq_true rfl | omega⟩) (fun r u H locs hp hX => ?_)
  have hr_ : r = nB (inN v 0 2) := hp
  subst hr_
  have hX : nvS D a0 (mW dA a fault trace sorts shL cells words said kind longOf letters saidRow at_ rdW rKind rLong rLet looked lkL next heard far ways waysT free freeT rdgs rWord rMany rStands rRow ex) s.heap H locs := hX
  refine W.cs (cells' := 0) (slots' := 0) (Nat.add_zero _) (Nat.add_zero _) ?_
  rw [← zQ]
  exact nv_endz zC zr zk () hX (by first | rfl | trivial) (by omega) (by omega) dX1_isSort_6

set_option maxHeartbeats 4000000 in
theorem mm_isWord  (v : Int32)  : nMt l D dA a0 yX1_isWord cX1_isWord 2 (some .boolean) 1 12 0 0 nvG0 [.ref (a 0), .int v] (mW dA a fault trace sorts shL cells words said kind longOf letters saidRow at_ rdW rKind rLong rLet looked lkL next heard far ways waysT free freeT rdgs rWord rMany rStands rRow ex) (nQi D a0 (fun (r : Int32) (_ : Unit) => r = nB (isW words v)) (fun (_ : Unit) => mW dA a fault trace sorts shL cells words said kind longOf letters saidRow at_ rdW rKind rLong rLet looked lkL next heard far ways waysT free freeT rdgs rWord rMany rStands rRow ex)) := by
  refine nv_start (by decide) (Nat.le_of_ble_eq_true rfl) fun zp ze s zm zlo zme zcd ls zC zr zk znm hX zG hl => ?_
  have zx := zC.1
  have zb := zC.2.1
  generalize zargs : ([.ref (a 0), .int v] : List Value).toArray = zar at zC ⊢
  generalize zQ : MQ zlo _ zar s _ _ _ = Q
  have hX : nvS D a0 (mW dA a fault trace sorts shL cells words said kind longOf letters saidRow at_ rdW rKind rLong rLet looked lkL next heard far ways waysT free freeT rdgs rWord rMany rStands rRow ex) s.heap s.heap [] := hX
  have hl : lv_has ls 2 [(0, .ref (a 0)), (1, .int v)] := hl
  obtain ⟨H, zH⟩ : ∃ H, H = s.heap := ⟨_, rfl⟩
  have hX : nvS D a0 (mW dA a fault trace sorts shL cells words said kind longOf letters saidRow at_ rdW rKind rLong rLet looked lkL next heard far ways waysT free freeT rdgs rWord rMany rStands rRow ex) s.heap H [] := by rw [zH]; exact hX
  rw [show W zp l ze (rm_ 1 12 0 0) s zm zar zlo zme zcd s.heap [] 0 0 Q = W zp l ze (rm_ 1 12 0 0) s zm zar zlo zme zcd H [] 0 0 Q by rw [zH]]
  generalize ([] : List Loc) = locs at hX ⊢
  refine lv_iload_n zx zb dX1_isWord_0 rfl (lv_at hl 1 rfl) ?_
  refine lv_if_lt (x := v) (tgt := 16) zx zb dX1_isWord_1 (by decide) (fun c1 => ?_) (fun c1 => ?_)
  · refine lv_iconst (v := nI 0) zx zb dX1_isWord_16 (by decide) ?_
    rw [← zQ]
    refine nv_as (y := nB false) rfl ?_
    exact nv_endz zC zr zk () hX (by have h := Int32.not_le.mpr c1; simp [nB, isW, h]) (by omega) (by omega) dX1_isWord_17
  · refine lv_iload_n zx zb dX1_isWord_4 rfl (lv_at hl 1 rfl) ?_
    refine lv_aload_n zx zb dX1_isWord_5 rfl (lv_at hl 0 rfl) ?_
    refine nv_get zC hX in_X1 0 rfl rfl 5 (by decide) q1197 (fun _ h => h) rfl dX1_isWord_6 ?_
    refine lv_icmp_ge (x := v) (y := nI words) (tgt := 16) zx zb dX1_isWord_9 (by decide) (fun c9 => ?_) (fun c9 => ?_)
    · refine lv_iconst (v := nI 0) zx zb dX1_isWord_16 (by decide) ?_
      rw [← zQ]
      refine nv_as (y := nB false) rfl ?_
      exact nv_endz zC zr zk () hX (by have h := Int32.not_lt.mpr c9; simp [nB, isW, h]) (by omega) (by omega) dX1_isWord_17
    · refine lv_iconst (v := nI 1) zx zb dX1_isWord_12 (by decide) ?_
      refine lv_goto (tgt := 17) zx zb dX1_isWord_13 (by decide) ?_
      rw [← zQ]
      refine nv_as (y := nB true) rfl ?_
      exact nv_endz zC zr zk () hX (by have h := Int32.not_lt.mp c1; have h2 := Int32.not_le.mp c9; simp [nB, isW, h, h2]) (by omega) (by omega) dX1_isWord_17

set_option maxHeartbeats 4000000 in
theorem mm_letterOf  (w : Nat) (f : Nat) (k : Nat) (hok : mOK words kind longOf letters) (hw : w < 4) (hf : f < 2) (hk : k < longOf w) : nMt l D dA a0 yX1_letterOf cX1_letterOf 6 (some .int) 1 12 0 0 nvG0 [.ref (a 0), .int (nI w), .int (nI f), .int (nI k)] (mW dA a fault trace sorts shL cells words said kind longOf letters saidRow at_ rdW rKind rLong rLet looked lkL next heard far ways waysT free freeT rdgs rWord rMany rStands rRow ex) (nQi D a0 (fun (r : Int32) (_ : Unit) => r = nI (hdF (kind w) (longOf w) (fun k => letters (4 * w + k)) f k)) (fun (_ : Unit) => mW dA a fault trace sorts shL cells words said kind longOf letters saidRow at_ rdW rKind rLong rLet looked lkL next heard far ways waysT free freeT rdgs rWord rMany rStands rRow ex)) := by
  refine nv_start (by decide) (Nat.le_of_ble_eq_true rfl) fun zp ze s zm zlo zme zcd ls zC zr zk znm hX zG hl => ?_
  have zx := zC.1
  have zb := zC.2.1
  generalize zargs : ([.ref (a 0), .int (nI w), .int (nI f), .int (nI k)] : List Value).toArray = zar at zC ⊢
  generalize zQ : MQ zlo _ zar s _ _ _ = Q
  have hX : nvS D a0 (mW dA a fault trace sorts shL cells words said kind longOf letters saidRow at_ rdW rKind rLong rLet looked lkL next heard far ways waysT free freeT rdgs rWord rMany rStands rRow ex) s.heap s.heap [] := hX
  have hl : lv_has ls 6 [(0, .ref (a 0)), (1, .int (nI w)), (2, .int (nI f)), (3, .int (nI k))] := hl
  obtain ⟨H, zH⟩ : ∃ H, H = s.heap := ⟨_, rfl⟩
  have hX : nvS D a0 (mW dA a fault trace sorts shL cells words said kind longOf letters saidRow at_ rdW rKind rLong rLet looked lkL next heard far ways waysT free freeT rdgs rWord rMany rStands rRow ex) s.heap H [] := by rw [zH]; exact hX
  rw [show W zp l ze (rm_ 1 12 0 0) s zm zar zlo zme zcd s.heap [] 0 0 Q = W zp l ze (rm_ 1 12 0 0) s zm zar zlo zme zcd H [] 0 0 Q by rw [zH]]
  generalize ([] : List Loc) = locs at hX ⊢
  have hw4 := hok.1
  have hlt := hok.2.2.2
  have hkd_w := hok.2.1 w
  have hln_w := hok.2.2.1 w
  refine lv_aload_n zx zb dX1_letterOf_0 rfl (lv_at hl 0 rfl) ?_
  refine nv_get zC hX in_X1 0 rfl rfl 8 (by decide) q1200 (fun _ h => h) rfl dX1_letterOf_1 ?_
  refine lv_iload_n zx zb dX1_letterOf_4 rfl (lv_at hl 1 rfl) ?_
  refine nv_iald (v := nI (longOf w)) zC hX 5 rfl (by omega) (by decide) rfl dX1_letterOf_5 ?_
  refine lv_istore (lv' := [(4, .int (nI (longOf w))), (0, .ref (a 0)), (1, .int (nI w)), (2, .int (nI f)), (3, .int (nI k))]) zx zb dX1_letterOf_6 hl (by decide) rfl (fun ls hl => ?_)
  refine lv_iload_n zx zb dX1_letterOf_8 rfl (lv_at hl 3 rfl) ?_
  refine nv_if_eq (tgt := 21) zx zb (by omega) dX1_letterOf_9 (by decide) (fun c9 => ?_) (fun c9 => ?_)
  · refine lv_iload_n zx zb dX1_letterOf_21 rfl (lv_at hl 4 rfl) ?_
    refine lv_goto (tgt := 50) zx zb dX1_letterOf_22 (by decide) ?_
    refine lv_istore (lv' := [(5, .int (nI k)), (4, .int (nI (longOf w))), (0, .ref (a 0)), (1, .int (nI w)), (2, .int (nI f)), (3, .int (nI k))]) zx zb dX1_letterOf_50 hl (by decide) rfl (fun ls hl => ?_)
    refine lv_aload_n zx zb dX1_letterOf_52 rfl (lv_at hl 2 rfl) ?_
    refine nv_get zC hX in_X1 0 rfl rfl 9 (by decide) q1201 (fun _ h => h) rfl dX1_letterOf_53 ?_
    refine lv_iconst (v := nI 4) zx zb dX1_letterOf_56 (by decide) ?_
    refine lv_iload_n zx zb dX1_letterOf_57 rfl (lv_at hl 3 rfl) ?_
    refine nv_imul zx zb dX1_letterOf_58 ?_
    refine lv_iload zx zb dX1_letterOf_59 (lv_at hl 0 rfl) ?_
    refine nv_iadd zx zb dX1_letterOf_61 ?_
    refine nv_iald (v := nI (letters ((4 * w) + k))) zC hX 6 rfl (by omega) (by decide) rfl dX1_letterOf_62 ?_
    rw [← zQ]
    exact nv_endi zC zr zk () hX (by unfold hdF; first | rw [if_pos (by omega)] | (rw [if_neg (by omega)]; first | rw [if_pos (by omega)] | rw [if_neg (by omega)])) (by omega) (by omega) dX1_letterOf_63
  · refine lv_aload_n zx zb dX1_letterOf_12 rfl (lv_at hl 1 rfl) ?_
    refine nv_get zC hX in_X1 0 rfl rfl 7 (by decide) q1199 (fun _ h => h) rfl dX1_letterOf_13 ?_
    refine lv_iload_n zx zb dX1_letterOf_16 rfl (lv_at hl 2 rfl) ?_
    refine nv_iald (v := nI (kind w)) zC hX 4 rfl (by omega) (by decide) rfl dX1_letterOf_17 ?_
    refine nv_if_ne (tgt := 25) zx zb (by omega) dX1_letterOf_18 (by decide) (fun c18 => ?_) (fun c18 => ?_)
    · refine lv_aload_n zx zb dX1_letterOf_25 rfl (lv_at hl 1 rfl) ?_
      refine nv_get zC hX in_X1 0 rfl rfl 7 (by decide) q1199 (fun _ h => h) rfl dX1_letterOf_26 ?_
      refine lv_iload_n zx zb dX1_letterOf_29 rfl (lv_at hl 2 rfl) ?_
      refine nv_iald (v := nI (kind w)) zC hX 4 rfl (by omega) (by decide) rfl dX1_letterOf_30 ?_
      refine lv_iconst (v := nI 1) zx zb dX1_letterOf_31 (by decide) ?_
      refine nv_icmp_ne (tgt := 44) zx zb (by omega) (by omega) dX1_letterOf_32 (by decide) (fun c32 => ?_) (fun c32 => ?_)
      · refine lv_iload_n zx zb dX1_letterOf_44 rfl (lv_at hl 4 rfl) ?_
        refine lv_iconst (v := nI 1) zx zb dX1_letterOf_45 (by decide) ?_
        refine nv_iadd zx zb dX1_letterOf_46 ?_
        refine lv_iload zx zb dX1_letterOf_47 (lv_at hl 0 rfl) ?_
        have hm := Nat.mod_lt (k + 1) (show longOf w > 0 by omega)
        refine nv_irem zx zb (by omega) (by omega) (by omega) dX1_letterOf_49 ?_
        refine lv_istore (lv' := [(5, .int (nI ((k + 1) % (longOf w)))), (4, .int (nI (longOf w))), (0, .ref (a 0)), (1, .int (nI w)), (2, .int (nI f)), (3, .int (nI k))]) zx zb dX1_letterOf_50 hl (by decide) rfl (fun ls hl => ?_)
        refine lv_aload_n zx zb dX1_letterOf_52 rfl (lv_at hl 2 rfl) ?_
        refine nv_get zC hX in_X1 0 rfl rfl 9 (by decide) q1201 (fun _ h => h) rfl dX1_letterOf_53 ?_
        refine lv_iconst (v := nI 4) zx zb dX1_letterOf_56 (by decide) ?_
        refine lv_iload_n zx zb dX1_letterOf_57 rfl (lv_at hl 3 rfl) ?_
        refine nv_imul zx zb dX1_letterOf_58 ?_
        refine lv_iload zx zb dX1_letterOf_59 (lv_at hl 0 rfl) ?_
        refine nv_iadd zx zb dX1_letterOf_61 ?_
        refine nv_iald (v := nI (letters ((4 * w) + ((k + 1) % (longOf w))))) zC hX 6 rfl (by omega) (by decide) rfl dX1_letterOf_62 ?_
        rw [← zQ]
        exact nv_endi zC zr zk () hX (by unfold hdF; first | rw [if_pos (by omega)] | (rw [if_neg (by omega)]; first | rw [if_pos (by omega)] | rw [if_neg (by omega)])) (by omega) (by omega) dX1_letterOf_63
      · refine lv_iload zx zb dX1_letterOf_35 (lv_at hl 0 rfl) ?_
        refine lv_iconst (v := nI 1) zx zb dX1_letterOf_37 (by decide) ?_
        refine nv_isub zx zb (by omega) dX1_letterOf_38 ?_
        refine lv_iload_n zx zb dX1_letterOf_39 rfl (lv_at hl 4 rfl) ?_
        refine nv_isub zx zb (by omega) dX1_letterOf_40 ?_
        refine lv_goto (tgt := 50) zx zb dX1_letterOf_41 (by decide) ?_
        refine lv_istore (lv' := [(5, .int (nI (((longOf w) - 1) - k))), (4, .int (nI (longOf w))), (0, .ref (a 0)), (1, .int (nI w)), (2, .int (nI f)), (3, .int (nI k))]) zx zb dX1_letterOf_50 hl (by decide) rfl (fun ls hl => ?_)
        refine lv_aload_n zx zb dX1_letterOf_52 rfl (lv_at hl 2 rfl) ?_
        refine nv_get zC hX in_X1 0 rfl rfl 9 (by decide) q1201 (fun _ h => h) rfl dX1_letterOf_53 ?_
        refine lv_iconst (v := nI 4) zx zb dX1_letterOf_56 (by decide) ?_
        refine lv_iload_n zx zb dX1_letterOf_57 rfl (lv_at hl 3 rfl) ?_
        refine nv_imul zx zb dX1_letterOf_58 ?_
        refine lv_iload zx zb dX1_letterOf_59 (lv_at hl 0 rfl) ?_
        refine nv_iadd zx zb dX1_letterOf_61 ?_
        refine nv_iald (v := nI (letters ((4 * w) + (((longOf w) - 1) - k)))) zC hX 6 rfl (by omega) (by decide) rfl dX1_letterOf_62 ?_
        rw [← zQ]
        exact nv_endi zC zr zk () hX (by unfold hdF; first | rw [if_pos (by omega)] | (rw [if_neg (by omega)]; first | rw [if_pos (by omega)] | rw [if_neg (by omega)])) (by omega) (by omega) dX1_letterOf_63
    · refine lv_iload_n zx zb dX1_letterOf_21 rfl (lv_at hl 4 rfl) ?_
      refine lv_goto (tgt := 50) zx zb dX1_letterOf_22 (by decide) ?_
      refine lv_istore (lv' := [(5, .int (nI k)), (4, .int (nI (longOf w))), (0, .ref (a 0)), (1, .int (nI w)), (2, .int (nI f)), (3, .int (nI k))]) zx zb dX1_letterOf_50 hl (by decide) rfl (fun ls hl => ?_)
      refine lv_aload_n zx zb dX1_letterOf_52 rfl (lv_at hl 2 rfl) ?_
      refine nv_get zC hX in_X1 0 rfl rfl 9 (by decide) q1201 (fun _ h => h) rfl dX1_letterOf_53 ?_
      refine lv_iconst (v := nI 4) zx zb dX1_letterOf_56 (by decide) ?_
      refine lv_iload_n zx zb dX1_letterOf_57 rfl (lv_at hl 3 rfl) ?_
      refine nv_imul zx zb dX1_letterOf_58 ?_
      refine lv_iload zx zb dX1_letterOf_59 (lv_at hl 0 rfl) ?_
      refine nv_iadd zx zb dX1_letterOf_61 ?_
      refine nv_iald (v := nI (letters ((4 * w) + k))) zC hX 6 rfl (by omega) (by decide) rfl dX1_letterOf_62 ?_
      rw [← zQ]
      exact nv_endi zC zr zk () hX (by unfold hdF; first | rw [if_pos (by omega)] | (rw [if_neg (by omega)]; first | rw [if_pos (by omega)] | rw [if_neg (by omega)])) (by omega) (by omega) dX1_letterOf_63

set_option maxHeartbeats 4000000 in
theorem mm_areForms  (w : Nat) (hok : mOK words kind longOf letters) (hw : w < 4) : nMt l D dA a0 yX1_areForms cX1_areForms 3 (some .boolean) 2 37 0 0 nvG0 [.ref (a 0), .int (nI w)] (mW dA a fault trace sorts shL cells words said kind longOf letters saidRow at_ rdW rKind rLong rLet looked lkL next heard far ways waysT free freeT rdgs rWord rMany rStands rRow ex) (nQi D a0 (fun (r : Int32) (_ : Unit) => r = nB (!decide (∀ k, k < longOf w → hdF (kind w) (longOf w) (fun k => letters (4 * w + k)) 0 k = hdF (kind w) (longOf w) (fun k => letters (4 * w + k)) 1 k))) (fun (_ : Unit) => mW dA a fault trace sorts shL cells words said kind longOf letters saidRow at_ rdW rKind rLong rLet looked lkL next heard far ways waysT free freeT rdgs rWord rMany rStands rRow ex)) := by
  refine nv_start (by decide) (Nat.le_of_ble_eq_true rfl) fun zp ze s zm zlo zme zcd ls zC zr zk znm hX zG hl => ?_
  have zx := zC.1
  have zb := zC.2.1
  generalize zargs : ([.ref (a 0), .int (nI w)] : List Value).toArray = zar at zC ⊢
  generalize zQ : MQ zlo _ zar s _ _ _ = Q
  have hX : nvS D a0 (mW dA a fault trace sorts shL cells words said kind longOf letters saidRow at_ rdW rKind rLong rLet looked lkL next heard far ways waysT free freeT rdgs rWord rMany rStands rRow ex) s.heap s.heap [] := hX
  have hl : lv_has ls 3 [(0, .ref (a 0)), (1, .int (nI w))] := hl
  obtain ⟨H, zH⟩ : ∃ H, H = s.heap := ⟨_, rfl⟩
  have hX : nvS D a0 (mW dA a fault trace sorts shL cells words said kind longOf letters saidRow at_ rdW rKind rLong rLet looked lkL next heard far ways waysT free freeT rdgs rWord rMany rStands rRow ex) s.heap H [] := by rw [zH]; exact hX
  rw [show W zp l ze (rm_ 2 37 0 0) s zm zar zlo zme zcd s.heap [] 0 0 Q = W zp l ze (rm_ 2 37 0 0) s zm zar zlo zme zcd H [] 0 0 Q by rw [zH]]
  generalize ([] : List Loc) = locs at hX ⊢
  have hw4 := hok.1
  have hlt := hok.2.2.2
  have hkd_w := hok.2.1 w
  have hln_w := hok.2.2.1 w
  refine lv_iconst (v := nI 0) zx zb dX1_areForms_0 (by decide) ?_
  refine lv_istore_n (lv' := [(2, .int (nI 0)), (0, .ref (a 0)), (1, .int (nI w))]) zx zb dX1_areForms_1 rfl hl (by decide) rfl (fun ls hl => ?_)
  have L2 : ∀ (zn : Nat) (k : Nat) (hk : k ≤ longOf w) (hal : ∀ j, j < k → hdF (kind w) (longOf w) (fun k => letters (4 * w + k)) 0 j = hdF (kind w) (longOf w) (fun k => letters (4 * w + k)) 1 j), longOf w - k < zn → ∀ (H : Heap) (locs : List Loc) (ls : Array Slot), nvS D a0 (mW dA a fault trace sorts shL cells words said kind longOf letters saidRow at_ rdW rKind rLong rLet looked lkL next heard far ways waysT free freeT rdgs rWord rMany rStands rRow ex) s.heap H locs → lv_has ls 3 [(2, .int (nI k)), (0, .ref (a 0)), (1, .int (nI w))] → W zp l ze (rm_ 2 37 0 0) s zm zar zlo zme zcd H locs 0 0 Q (F0 zm 2 ls []) := by
    intro zn
    induction zn with
    | zero => intro k hk hal zf; exact absurd zf (Nat.not_lt_zero _)
    | succ zn ih2 =>
      intro k hk hal zf H locs ls hX hl
      refine lv_iload_n zx zb dX1_areForms_2 rfl (lv_at hl 0 rfl) ?_
      refine lv_aload_n zx zb dX1_areForms_3 rfl (lv_at hl 1 rfl) ?_
      refine nv_get zC hX in_X1 0 rfl rfl 8 (by decide) q1200 (fun _ h => h) rfl dX1_areForms_4 ?_
      refine lv_iload_n zx zb dX1_areForms_7 rfl (lv_at hl 2 rfl) ?_
      refine nv_iald (v := nI (longOf w)) zC hX 5 rfl (by omega) (by decide) rfl dX1_areForms_8 ?_
      refine nv_icmp_ge (tgt := 37) zx zb (by omega) (by omega) dX1_areForms_9 (by decide) (fun c9 => ?_) (fun c9 => ?_)
      · refine lv_iconst (v := nI 0) zx zb dX1_areForms_37 (by decide) ?_
        rw [← zQ]
        refine nv_as (y := nB false) rfl ?_
        exact nv_endz zC zr zk () hX (by apply nB_e0; simp only [Bool.not_eq_false', decide_eq_true_eq]; exact fun j hj => hal j (by omega)) (by omega) (by omega) dX1_areForms_38
      · refine lv_aload_n zx zb dX1_areForms_12 rfl (lv_at hl 1 rfl) ?_
        refine lv_iload_n zx zb dX1_areForms_13 rfl (lv_at hl 2 rfl) ?_
        refine lv_iconst (v := nI 0) zx zb dX1_areForms_14 (by decide) ?_
        refine lv_iload_n zx zb dX1_areForms_15 rfl (lv_at hl 0 rfl) ?_
        refine nv_ki zC hX (nv_rV (n := 3) (As := [.int (nI w), .int (nI 0), .int (nI k)]) (rest := []) (q0 := 0) zC hX (mm_letterOf (w := w) (f := 0) (k := k) (hok := (by first | assumption | omega)) (hw := (by first | assumption | omega)) (hf := (by first | assumption | omega)) (hk := (by first | assumption | omega))) nvGb0 (fun _ _ _ => trivial) rfl rfl q1328 q1330 qs36 q63 q1331 (by decide +kernel) rfl ⟨Nat.le_of_ble_eq_true rfl, Nat.le_of_ble_eq_true rfl⟩ hl.1 (Nat.le_of_ble_eq_true rfl) dX1_areForms_16 ⟨by first | exact Nat.le_of_ble_eq_true rfl | omega, by first | exact Nat.le_of_ble_eq_true rfl | omega⟩) (fun r u H locs hp hX => ?_)
        have hr_ : r = nI (hdF (kind w) (longOf w) (fun k => letters (4 * w + k)) 0 k) := hp
        subst hr_
        have hX : nvS D a0 (mW dA a fault trace sorts shL cells words said kind longOf letters saidRow at_ rdW rKind rLong rLet looked lkL next heard far ways waysT free freeT rdgs rWord rMany rStands rRow ex) s.heap H locs := hX
        refine W.cs (cells' := 0) (slots' := 0) (Nat.add_zero _) (Nat.add_zero _) ?_
        refine lv_aload_n zx zb dX1_areForms_19 rfl (lv_at hl 1 rfl) ?_
        refine lv_iload_n zx zb dX1_areForms_20 rfl (lv_at hl 2 rfl) ?_
        refine lv_iconst (v := nI 1) zx zb dX1_areForms_21 (by decide) ?_
        refine lv_iload_n zx zb dX1_areForms_22 rfl (lv_at hl 0 rfl) ?_
        refine nv_ki zC hX (nv_rV (n := 3) (As := [.int (nI w), .int (nI 1), .int (nI k)]) (rest := [.int (nI (hdF (kind w) (longOf w) (fun k => letters (4 * w + k)) 0 k))]) (q0 := 0) zC hX (mm_letterOf (w := w) (f := 1) (k := k) (hok := (by first | assumption | omega)) (hw := (by first | assumption | omega)) (hf := (by first | assumption | omega)) (hk := (by first | assumption | omega))) nvGb0 (fun _ _ _ => trivial) rfl rfl q1328 q1330 qs36 q63 q1331 (by decide +kernel) rfl ⟨Nat.le_of_ble_eq_true rfl, Nat.le_of_ble_eq_true rfl⟩ hl.1 (Nat.le_of_ble_eq_true rfl) dX1_areForms_23 ⟨by first | exact Nat.le_of_ble_eq_true rfl | omega, by first | exact Nat.le_of_ble_eq_true rfl | omega⟩) (fun r u H locs hp hX => ?_)
        have hr_ : r = nI (hdF (kind w) (longOf w) (fun k => letters (4 * w + k)) 1 k) := hp
        subst hr_
        have hX : nvS D a0 (mW dA a fault trace sorts shL cells words said kind longOf letters saidRow at_ rdW rKind rLong rLet looked lkL next heard far ways waysT free freeT rdgs rWord rMany rStands rRow ex) s.heap H locs := hX
        refine W.cs (cells' := 0) (slots' := 0) (Nat.add_zero _) (Nat.add_zero _) ?_
        refine nv_icmp_eq (tgt := 31) zx zb (hdF_b (fun _ => hlt _)) (hdF_b (fun _ => hlt _)) dX1_areForms_26 (by decide) (fun c26 => ?_) (fun c26 => ?_)
        · refine lv_iinc (v := nI (k + 1)) (lv' := [(2, .int (nI (k + 1))), (0, .ref (a 0)), (1, .int (nI w))]) zx zb dX1_areForms_31 hl (k := 0) rfl (nI_1 _) (by decide) rfl (fun ls hl => ?_)
          refine lv_goto (tgt := 2) zx zb dX1_areForms_34 (by decide) ?_
          exact ih2 (k + 1) (by omega) (lt_s hal c26) (by omega) _ _ _ hX (lv_sub hl [0, 1, 2] rfl)
        · refine lv_iconst (v := nI 1) zx zb dX1_areForms_29 (by decide) ?_
          rw [← zQ]
          refine nv_as (y := nB true) rfl ?_
          exact nv_endz zC zr zk () hX (by apply nB_e1; simp only [Bool.not_eq_true', decide_eq_false_iff_not]; exact fun z => c26 (z k (by omega))) (by omega) (by omega) dX1_areForms_30
  exact L2 _ 0 (by omega) lt_0 (Nat.lt_succ_self _) _ _ _ hX (lv_sub hl [0, 1, 2] rfl)

set_option maxHeartbeats 4000000 in
theorem mm_isHeard  (w : Nat) (b : Nat) (hok : mOK words kind longOf letters) (hw : w < 4) (hb : b ≤ 60) (hlk : ∀ j, looked j < 3) : nMt l D dA a0 yX1_isHeard cX1_isHeard 6 (some .boolean) 2 37 0 0 nvG0 [.ref (a 0), .int (nI w), .int (nI b)] (mW dA a fault trace sorts shL cells words said kind longOf letters saidRow at_ rdW rKind rLong rLet looked lkL next heard far ways waysT free freeT rdgs rWord rMany rStands rRow ex) (nQi D a0 (fun (r : Int32) (_ : Unit) => r = nB (hdW kind longOf letters looked w b)) (fun (_ : Unit) => mW dA a fault trace sorts shL cells words said kind longOf letters saidRow at_ rdW rKind rLong rLet looked lkL next heard far ways waysT free freeT rdgs rWord rMany rStands rRow ex)) := by
  refine nv_start (by decide) (Nat.le_of_ble_eq_true rfl) fun zp ze s zm zlo zme zcd ls zC zr zk znm hX zG hl => ?_
  have zx := zC.1
  have zb := zC.2.1
  generalize zargs : ([.ref (a 0), .int (nI w), .int (nI b)] : List Value).toArray = zar at zC ⊢
  generalize zQ : MQ zlo _ zar s _ _ _ = Q
  have hX : nvS D a0 (mW dA a fault trace sorts shL cells words said kind longOf letters saidRow at_ rdW rKind rLong rLet looked lkL next heard far ways waysT free freeT rdgs rWord rMany rStands rRow ex) s.heap s.heap [] := hX
  have hl : lv_has ls 6 [(0, .ref (a 0)), (1, .int (nI w)), (2, .int (nI b))] := hl
  obtain ⟨H, zH⟩ : ∃ H, H = s.heap := ⟨_, rfl⟩
  have hX : nvS D a0 (mW dA a fault trace sorts shL cells words said kind longOf letters saidRow at_ rdW rKind rLong rLet looked lkL next heard far ways waysT free freeT rdgs rWord rMany rStands rRow ex) s.heap H [] := by rw [zH]; exact hX
  rw [show W zp l ze (rm_ 2 37 0 0) s zm zar zlo zme zcd s.heap [] 0 0 Q = W zp l ze (rm_ 2 37 0 0) s zm zar zlo zme zcd H [] 0 0 Q by rw [zH]]
  generalize ([] : List Loc) = locs at hX ⊢
  have hw4 := hok.1
  have hlt := hok.2.2.2
  have hkd_w := hok.2.1 w
  have hln_w := hok.2.2.1 w
  refine lv_iload_n zx zb dX1_isHeard_0 rfl (lv_at hl 2 rfl) ?_
  refine lv_aload_n zx zb dX1_isHeard_1 rfl (lv_at hl 0 rfl) ?_
  refine nv_get zC hX in_X1 0 rfl rfl 8 (by decide) q1200 (fun _ h => h) rfl dX1_isHeard_2 ?_
  refine lv_iload_n zx zb dX1_isHeard_5 rfl (lv_at hl 1 rfl) ?_
  refine nv_iald (v := nI (longOf w)) zC hX 5 rfl (by omega) (by decide) rfl dX1_isHeard_6 ?_
  refine nv_icmp_ge (tgt := 12) zx zb (by omega) (by omega) dX1_isHeard_7 (by decide) (fun c7 => ?_) (fun c7 => ?_)
  · refine lv_iconst (v := nI 0) zx zb dX1_isHeard_12 (by decide) ?_
    refine lv_istore_n (lv' := [(3, .int (nI 0)), (0, .ref (a 0)), (1, .int (nI w)), (2, .int (nI b))]) zx zb dX1_isHeard_13 rfl hl (by decide) rfl (fun ls hl => ?_)
    have L14 : ∀ (zn : Nat) (f : Nat) (hf : f ≤ 2) (hno : ∀ g, g < f → hdU (kind w) (longOf w) (fun k => letters (4 * w + k)) looked b g (longOf w) = false), 2 - f < zn → ∀ (H : Heap) (locs : List Loc) (ls : Array Slot), nvS D a0 (mW dA a fault trace sorts shL cells words said kind longOf letters saidRow at_ rdW rKind rLong rLet looked lkL next heard far ways waysT free freeT rdgs rWord rMany rStands rRow ex) s.heap H locs → lv_has ls 6 [(3, .int (nI f)), (0, .ref (a 0)), (1, .int (nI w)), (2, .int (nI b))] → W zp l ze (rm_ 2 37 0 0) s zm zar zlo zme zcd H locs 0 0 Q (F0 zm 14 ls []) := by
      intro zn
      induction zn with
      | zero => intro f hf hno zf; exact absurd zf (Nat.not_lt_zero _)
      | succ zn ih14 =>
        intro f hf hno zf H locs ls hX hl
        refine lv_iload_n zx zb dX1_isHeard_14 rfl (lv_at hl 0 rfl) ?_
        refine lv_iconst (v := nI 2) zx zb dX1_isHeard_15 (by decide) ?_
        refine nv_icmp_ge (tgt := 94) zx zb (by omega) (by omega) dX1_isHeard_16 (by decide) (fun c16 => ?_) (fun c16 => ?_)
        · refine lv_iconst (v := nI 0) zx zb dX1_isHeard_94 (by decide) ?_
          rw [← zQ]
          refine nv_as (y := nB false) rfl ?_
          exact nv_endz zC zr zk () hX (by have h0 := hno 0 (by omega); have h1 := hno 1 (by omega); apply nB_e0; simp [hdW, hd, h0, h1]) (by omega) (by omega) dX1_isHeard_95
        · refine lv_iconst (v := nI 1) zx zb dX1_isHeard_19 (by decide) ?_
          refine nv_as (show nI 1 = nB (hdU (kind w) (longOf w) (fun k => letters (4 * w + k)) looked b f 0) from (nB_as1 hdU_0)) ?_
          refine lv_istore (lv' := [(4, .int (nB (hdU (kind w) (longOf w) (fun k => letters (4 * w + k)) looked b f 0))), (3, .int (nI f)), (0, .ref (a 0)), (1, .int (nI w)), (2, .int (nI b))]) zx zb dX1_isHeard_20 hl (by decide) rfl (fun ls hl => ?_)
          refine lv_iconst (v := nI 0) zx zb dX1_isHeard_22 (by decide) ?_
          refine lv_istore (lv' := [(5, .int (nI 0)), (4, .int (nB (hdU (kind w) (longOf w) (fun k => letters (4 * w + k)) looked b f 0))), (3, .int (nI f)), (0, .ref (a 0)), (1, .int (nI w)), (2, .int (nI b))]) zx zb dX1_isHeard_23 hl (by decide) rfl (fun ls hl => ?_)
          have L25 : ∀ (zn : Nat) (k : Nat) (hk : k ≤ longOf w), longOf w - k < zn → ∀ (H : Heap) (locs : List Loc) (ls : Array Slot), nvS D a0 (mW dA a fault trace sorts shL cells words said kind longOf letters saidRow at_ rdW rKind rLong rLet looked lkL next heard far ways waysT free freeT rdgs rWord rMany rStands rRow ex) s.heap H locs → lv_has ls 6 [(5, .int (nI k)), (4, .int (nB (hdU (kind w) (longOf w) (fun k => letters (4 * w + k)) looked b f k))), (3, .int (nI f)), (0, .ref (a 0)), (1, .int (nI w)), (2, .int (nI b))] → W zp l ze (rm_ 2 37 0 0) s zm zar zlo zme zcd H locs 0 0 Q (F0 zm 25 ls []) := by
            intro zn
            induction zn with
            | zero => intro k hk zf; exact absurd zf (Nat.not_lt_zero _)
            | succ zn ih25 =>
              intro k hk zf H locs ls hX hl
              refine lv_iload zx zb dX1_isHeard_25 (lv_at hl 0 rfl) ?_
              refine lv_aload_n zx zb dX1_isHeard_27 rfl (lv_at hl 3 rfl) ?_
              refine nv_get zC hX in_X1 0 rfl rfl 8 (by decide) q1200 (fun _ h => h) rfl dX1_isHeard_28 ?_
              refine lv_iload_n zx zb dX1_isHeard_31 rfl (lv_at hl 4 rfl) ?_
              refine nv_iald (v := nI (longOf w)) zC hX 5 rfl (by omega) (by decide) rfl dX1_isHeard_32 ?_
              refine nv_icmp_ge (tgt := 81) zx zb (by omega) (by omega) dX1_isHeard_33 (by decide) (fun c33 => ?_) (fun c33 => ?_)
              · refine lv_iload zx zb dX1_isHeard_81 (lv_at hl 1 rfl) ?_
                refine nv_if_eqB (tgt := 88) zx zb dX1_isHeard_83 (by decide) (fun c83 => ?_) (fun c83 => ?_)
                · refine lv_iinc (v := nI (f + 1)) (lv' := [(3, .int (nI (f + 1))), (5, .int (nI k)), (4, .int (nB (hdU (kind w) (longOf w) (fun k => letters (4 * w + k)) looked b f k))), (0, .ref (a 0)), (1, .int (nI w)), (2, .int (nI b))]) zx zb dX1_isHeard_88 hl (k := 2) rfl (nI_1 _) (by decide) rfl (fun ls hl => ?_)
                  refine lv_goto (tgt := 14) zx zb dX1_isHeard_91 (by decide) ?_
                  exact ih14 (f + 1) (by omega) (lt_s hno (hdU_ff c83 hk)) (by omega) _ _ _ hX (lv_sub hl [0, 3, 4, 5] rfl)
                · refine lv_iconst (v := nI 1) zx zb dX1_isHeard_86 (by decide) ?_
                  rw [← zQ]
                  refine nv_as (y := nB true) rfl ?_
                  exact nv_endz zC zr zk () hX (by first | exact absurd (c83.symm.trans c38) (by decide) | exact nB_e1 (hd_of (by omega) c16 (hdU_tt c83 c33))) (by omega) (by omega) dX1_isHeard_87
              · refine lv_iload zx zb dX1_isHeard_36 (lv_at hl 1 rfl) ?_
                refine nv_if_eqB (tgt := 81) zx zb dX1_isHeard_38 (by decide) (fun c38 => ?_) (fun c38 => ?_)
                · refine lv_iload zx zb dX1_isHeard_81 (lv_at hl 1 rfl) ?_
                  refine nv_if_eqB (tgt := 88) zx zb dX1_isHeard_83 (by decide) (fun c83 => ?_) (fun c83 => ?_)
                  · refine lv_iinc (v := nI (f + 1)) (lv' := [(3, .int (nI (f + 1))), (5, .int (nI k)), (4, .int (nB (hdU (kind w) (longOf w) (fun k => letters (4 * w + k)) looked b f k))), (0, .ref (a 0)), (1, .int (nI w)), (2, .int (nI b))]) zx zb dX1_isHeard_88 hl (k := 2) rfl (nI_1 _) (by decide) rfl (fun ls hl => ?_)
                    refine lv_goto (tgt := 14) zx zb dX1_isHeard_91 (by decide) ?_
                    exact ih14 (f + 1) (by omega) (lt_s hno (hdU_ff c83 hk)) (by omega) _ _ _ hX (lv_sub hl [0, 3, 4, 5] rfl)
                  · refine lv_iconst (v := nI 1) zx zb dX1_isHeard_86 (by decide) ?_
                    rw [← zQ]
                    refine nv_as (y := nB true) rfl ?_
                    exact nv_endz zC zr zk () hX (by first | exact absurd (c83.symm.trans c38) (by decide) | exact nB_e1 (hd_of (by omega) c16 (hdU_tt c83 c33))) (by omega) (by omega) dX1_isHeard_87
                · refine lv_aload_n zx zb dX1_isHeard_41 rfl (lv_at hl 3 rfl) ?_
                  refine nv_get zC hX in_X1 0 rfl rfl 16 (by decide) q1208 (fun _ h => h) rfl dX1_isHeard_42 ?_
                  refine lv_iload_n zx zb dX1_isHeard_45 rfl (lv_at hl 5 rfl) ?_
                  refine lv_aload_n zx zb dX1_isHeard_46 rfl (lv_at hl 3 rfl) ?_
                  refine nv_get zC hX in_X1 0 rfl rfl 8 (by decide) q1200 (fun _ h => h) rfl dX1_isHeard_47 ?_
                  refine lv_iload_n zx zb dX1_isHeard_50 rfl (lv_at hl 4 rfl) ?_
                  refine nv_iald (v := nI (longOf w)) zC hX 5 rfl (by omega) (by decide) rfl dX1_isHeard_51 ?_
                  refine nv_isub zx zb (by omega) dX1_isHeard_52 ?_
                  refine lv_iload zx zb dX1_isHeard_53 (lv_at hl 0 rfl) ?_
                  refine nv_iadd zx zb dX1_isHeard_55 ?_
                  refine nv_iald (v := nI (looked ((b - (longOf w)) + k))) zC hX 11 rfl (by omega) (by decide) rfl dX1_isHeard_56 ?_
                  refine lv_aload_n zx zb dX1_isHeard_57 rfl (lv_at hl 3 rfl) ?_
                  refine lv_iload_n zx zb dX1_isHeard_58 rfl (lv_at hl 4 rfl) ?_
                  refine lv_iload_n zx zb dX1_isHeard_59 rfl (lv_at hl 2 rfl) ?_
                  refine lv_iload zx zb dX1_isHeard_60 (lv_at hl 0 rfl) ?_
                  refine nv_ki zC hX (nv_rV (n := 3) (As := [.int (nI w), .int (nI f), .int (nI k)]) (rest := [.int (nI (looked ((b - (longOf w)) + k)))]) (q0 := 0) zC hX (mm_letterOf (w := w) (f := f) (k := k) (hok := (by first | assumption | omega)) (hw := (by first | assumption | omega)) (hf := (by first | assumption | omega)) (hk := (by first | assumption | omega))) nvGb0 (fun _ _ _ => trivial) rfl rfl q1328 q1330 qs36 q63 q1331 (by decide +kernel) rfl ⟨Nat.le_of_ble_eq_true rfl, Nat.le_of_ble_eq_true rfl⟩ hl.1 (Nat.le_of_ble_eq_true rfl) dX1_isHeard_62 ⟨by first | exact Nat.le_of_ble_eq_true rfl | omega, by first | exact Nat.le_of_ble_eq_true rfl | omega⟩) (fun r u H locs hp hX => ?_)
                  have hr_ : r = nI (hdF (kind w) (longOf w) (fun k => letters (4 * w + k)) f k) := hp
                  subst hr_
                  have hX : nvS D a0 (mW dA a fault trace sorts shL cells words said kind longOf letters saidRow at_ rdW rKind rLong rLet looked lkL next heard far ways waysT free freeT rdgs rWord rMany rStands rRow ex) s.heap H locs := hX
                  refine W.cs (cells' := 0) (slots' := 0) (Nat.add_zero _) (Nat.add_zero _) ?_
                  refine nv_icmp_ne (tgt := 72) zx zb (Nat.lt_of_lt_of_le (hlk _) (by decide)) (hdF_b (fun _ => hlt _)) dX1_isHeard_65 (by decide) (fun c65 => ?_) (fun c65 => ?_)
                  · refine lv_iconst (v := nI 0) zx zb dX1_isHeard_72 (by decide) ?_
                    refine nv_as (show nI 0 = nB (hdU (kind w) (longOf w) (fun k => letters (4 * w + k)) looked b f (k + 1)) from (nB_as0 (hdU_n c65))) ?_
                    refine lv_istore (lv' := [(4, .int (nB (hdU (kind w) (longOf w) (fun k => letters (4 * w + k)) looked b f (k + 1)))), (5, .int (nI k)), (3, .int (nI f)), (0, .ref (a 0)), (1, .int (nI w)), (2, .int (nI b))]) zx zb dX1_isHeard_73 hl (by decide) rfl (fun ls hl => ?_)
                    refine lv_iinc (v := nI (k + 1)) (lv' := [(5, .int (nI (k + 1))), (4, .int (nB (hdU (kind w) (longOf w) (fun k => letters (4 * w + k)) looked b f (k + 1)))), (3, .int (nI f)), (0, .ref (a 0)), (1, .int (nI w)), (2, .int (nI b))]) zx zb dX1_isHeard_75 hl (k := 1) rfl (nI_1 _) (by decide) rfl (fun ls hl => ?_)
                    refine lv_goto (tgt := 25) zx zb dX1_isHeard_78 (by decide) ?_
                    exact ih25 (k + 1) (by omega) (by omega) _ _ _ hX (lv_sub hl [0, 1, 2, 3, 4, 5] rfl)
                  · refine lv_iconst (v := nI 1) zx zb dX1_isHeard_68 (by decide) ?_
                    refine lv_goto (tgt := 73) zx zb dX1_isHeard_69 (by decide) ?_
                    refine nv_as (show nI 1 = nB (hdU (kind w) (longOf w) (fun k => letters (4 * w + k)) looked b f (k + 1)) from (nB_as1 (hdU_s c38 c65))) ?_
                    refine lv_istore (lv' := [(4, .int (nB (hdU (kind w) (longOf w) (fun k => letters (4 * w + k)) looked b f (k + 1)))), (5, .int (nI k)), (3, .int (nI f)), (0, .ref (a 0)), (1, .int (nI w)), (2, .int (nI b))]) zx zb dX1_isHeard_73 hl (by decide) rfl (fun ls hl => ?_)
                    refine lv_iinc (v := nI (k + 1)) (lv' := [(5, .int (nI (k + 1))), (4, .int (nB (hdU (kind w) (longOf w) (fun k => letters (4 * w + k)) looked b f (k + 1)))), (3, .int (nI f)), (0, .ref (a 0)), (1, .int (nI w)), (2, .int (nI b))]) zx zb dX1_isHeard_75 hl (k := 1) rfl (nI_1 _) (by decide) rfl (fun ls hl => ?_)
                    refine lv_goto (tgt := 25) zx zb dX1_isHeard_78 (by decide) ?_
                    exact ih25 (k + 1) (by omega) (by omega) _ _ _ hX (lv_sub hl [0, 1, 2, 3, 4, 5] rfl)
          exact L25 _ 0 (by omega) (Nat.lt_succ_self _) _ _ _ hX (lv_sub hl [0, 1, 2, 3, 4, 5] rfl)
    exact L14 _ 0 (by omega) lt_0 (Nat.lt_succ_self _) _ _ _ hX (lv_sub hl [0, 1, 2, 3] rfl)
  · refine lv_iconst (v := nI 0) zx zb dX1_isHeard_10 (by decide) ?_
    rw [← zQ]
    refine nv_as (y := nB false) rfl ?_
    exact nv_endz zC zr zk () hX (by apply nB_e0; simp [hdW, hd, show ¬ longOf w ≤ b by omega]) (by omega) (by omega) dX1_isHeard_11

set_option maxHeartbeats 4000000 in
theorem mm_heardBehind  (b : Nat) (hok : mOK words kind longOf letters) (hlk : ∀ j, looked j < 3) (hb : b ≤ 60) : nMt l D dA a0 yX1_heardBehind cX1_heardBehind 4 (some .int) 3 62 0 0 nvG0 [.ref (a 0), .int (nI b)] (mW dA a fault trace sorts shL cells words said kind longOf letters saidRow at_ rdW rKind rLong rLet looked lkL next heard far ways waysT free freeT rdgs rWord rMany rStands rRow ex) (nQi D a0 (fun (r : Int32) (_ : Unit) => r = nI (hbW kind longOf letters looked words b)) (fun (_ : Unit) => mW dA a fault trace sorts shL cells words said kind longOf letters saidRow at_ rdW rKind rLong rLet looked lkL next heard far ways waysT free freeT rdgs rWord rMany rStands rRow ex)) := by
  refine nv_start (by decide) (Nat.le_of_ble_eq_true rfl) fun zp ze s zm zlo zme zcd ls zC zr zk znm hX zG hl => ?_
  have zx := zC.1
  have zb := zC.2.1
  generalize zargs : ([.ref (a 0), .int (nI b)] : List Value).toArray = zar at zC ⊢
  generalize zQ : MQ zlo _ zar s _ _ _ = Q
  have hX : nvS D a0 (mW dA a fault trace sorts shL cells words said kind longOf letters saidRow at_ rdW rKind rLong rLet looked lkL next heard far ways waysT free freeT rdgs rWord rMany rStands rRow ex) s.heap s.heap [] := hX
  have hl : lv_has ls 4 [(0, .ref (a 0)), (1, .int (nI b))] := hl
  obtain ⟨H, zH⟩ : ∃ H, H = s.heap := ⟨_, rfl⟩
  have hX : nvS D a0 (mW dA a fault trace sorts shL cells words said kind longOf letters saidRow at_ rdW rKind rLong rLet looked lkL next heard far ways waysT free freeT rdgs rWord rMany rStands rRow ex) s.heap H [] := by rw [zH]; exact hX
  rw [show W zp l ze (rm_ 3 62 0 0) s zm zar zlo zme zcd s.heap [] 0 0 Q = W zp l ze (rm_ 3 62 0 0) s zm zar zlo zme zcd H [] 0 0 Q by rw [zH]]
  generalize ([] : List Loc) = locs at hX ⊢
  have hw4 := hok.1
  have hlt := hok.2.2.2
  refine lv_iconst (v := nI 0) zx zb dX1_heardBehind_0 (by decide) ?_
  refine lv_istore_n (lv' := [(2, .int (nI 0)), (0, .ref (a 0)), (1, .int (nI b))]) zx zb dX1_heardBehind_1 rfl hl (by decide) rfl (fun ls hl => ?_)
  refine lv_iconst (v := nI 0) zx zb dX1_heardBehind_2 (by decide) ?_
  refine lv_istore_n (lv' := [(3, .int (nI 0)), (2, .int (nI 0)), (0, .ref (a 0)), (1, .int (nI b))]) zx zb dX1_heardBehind_3 rfl hl (by decide) rfl (fun ls hl => ?_)
  have L4 : ∀ (zn : Nat) (k : Nat) (hk : k ≤ words), words - k < zn → ∀ (H : Heap) (locs : List Loc) (ls : Array Slot), nvS D a0 (mW dA a fault trace sorts shL cells words said kind longOf letters saidRow at_ rdW rKind rLong rLet looked lkL next heard far ways waysT free freeT rdgs rWord rMany rStands rRow ex) s.heap H locs → lv_has ls 4 [(3, .int (nI k)), (2, .int (nI (bitsUp (fun w => hdW kind longOf letters looked w b) k))), (0, .ref (a 0)), (1, .int (nI b))] → W zp l ze (rm_ 3 62 0 0) s zm zar zlo zme zcd H locs 0 0 Q (F0 zm 4 ls []) := by
    intro zn
    induction zn with
    | zero => intro k hk zf; exact absurd zf (Nat.not_lt_zero _)
    | succ zn ih4 =>
      intro k hk zf H locs ls hX hl
      refine lv_iload_n zx zb dX1_heardBehind_4 rfl (lv_at hl 0 rfl) ?_
      refine lv_aload_n zx zb dX1_heardBehind_5 rfl (lv_at hl 2 rfl) ?_
      refine nv_get zC hX in_X1 0 rfl rfl 5 (by decide) q1197 (fun _ h => h) rfl dX1_heardBehind_6 ?_
      refine nv_icmp_ge (tgt := 37) zx zb (by omega) (by omega) dX1_heardBehind_9 (by decide) (fun c9 => ?_) (fun c9 => ?_)
      · refine lv_iload_n zx zb dX1_heardBehind_37 rfl (lv_at hl 1 rfl) ?_
        rw [← zQ]
        exact nv_endi zC zr zk () hX (by rw [show k = words by omega]) (by omega) (by omega) dX1_heardBehind_38
      · refine lv_iload_n zx zb dX1_heardBehind_12 rfl (lv_at hl 1 rfl) ?_
        refine lv_aload_n zx zb dX1_heardBehind_13 rfl (lv_at hl 2 rfl) ?_
        refine lv_iload_n zx zb dX1_heardBehind_14 rfl (lv_at hl 0 rfl) ?_
        refine lv_iload_n zx zb dX1_heardBehind_15 rfl (lv_at hl 3 rfl) ?_
        refine nv_ki zC hX (nv_rV (n := 2) (As := [.int (nI k), .int (nI b)]) (rest := [.int (nI (bitsUp (fun w => hdW kind longOf letters looked w b) k))]) (q0 := 0) zC hX (mm_isHeard (w := k) (b := b) (hok := (by first | assumption | omega)) (hw := (by first | assumption | omega)) (hb := (by first | assumption | omega)) (hlk := (by first | assumption | omega))) nvGb0 (fun _ _ _ => trivial) rfl rfl q1340 q1342 qs39 q63 q1343 (by decide +kernel) rfl ⟨Nat.le_of_ble_eq_true rfl, Nat.le_of_ble_eq_true rfl⟩ hl.1 (Nat.le_of_ble_eq_true rfl) dX1_heardBehind_16 ⟨by first | exact Nat.le_of_ble_eq_true rfl | omega, by first | exact Nat.le_of_ble_eq_true rfl | omega⟩) (fun r u H locs hp hX => ?_)
        have hr_ : r = nB (hdW kind longOf letters looked k b) := hp
        subst hr_
        have hX : nvS D a0 (mW dA a fault trace sorts shL cells words said kind longOf letters saidRow at_ rdW rKind rLong rLet looked lkL next heard far ways waysT free freeT rdgs rWord rMany rStands rRow ex) s.heap H locs := hX
        refine W.cs (cells' := 0) (slots' := 0) (Nat.add_zero _) (Nat.add_zero _) ?_
        refine nv_if_eqB (tgt := 28) zx zb dX1_heardBehind_19 (by decide) (fun c19 => ?_) (fun c19 => ?_)
        · refine lv_iconst (v := nI 0) zx zb dX1_heardBehind_28 (by decide) ?_
          refine nv_ior zx zb dX1_heardBehind_29 ?_
          refine nv_as (show nI ((bitsUp (fun w => hdW kind longOf letters looked w b) k) ||| 0) = nI (bitsUp (fun w => hdW kind longOf letters looked w b) (k + 1)) from (congrArg nI (bitsUp_f c19))) ?_
          refine lv_istore_n (lv' := [(2, .int (nI (bitsUp (fun w => hdW kind longOf letters looked w b) (k + 1)))), (3, .int (nI k)), (0, .ref (a 0)), (1, .int (nI b))]) zx zb dX1_heardBehind_30 rfl hl (by decide) rfl (fun ls hl => ?_)
          refine lv_iinc (v := nI (k + 1)) (lv' := [(3, .int (nI (k + 1))), (2, .int (nI (bitsUp (fun w => hdW kind longOf letters looked w b) (k + 1)))), (0, .ref (a 0)), (1, .int (nI b))]) zx zb dX1_heardBehind_31 hl (k := 1) rfl (nI_1 _) (by decide) rfl (fun ls hl => ?_)
          refine lv_goto (tgt := 4) zx zb dX1_heardBehind_34 (by decide) ?_
          exact ih4 (k + 1) (by omega) (by omega) _ _ _ hX (lv_sub hl [0, 1, 2, 3] rfl)
        · refine lv_iconst (v := nI 1) zx zb dX1_heardBehind_22 (by decide) ?_
          refine lv_iload_n zx zb dX1_heardBehind_23 rfl (lv_at hl 0 rfl) ?_
          refine nv_ishl1 zx zb (by omega) dX1_heardBehind_24 ?_
          refine lv_goto (tgt := 29) zx zb dX1_heardBehind_25 (by decide) ?_
          refine nv_ior zx zb dX1_heardBehind_29 ?_
          refine nv_as (show nI ((bitsUp (fun w => hdW kind longOf letters looked w b) k) ||| (2 ^ k)) = nI (bitsUp (fun w => hdW kind longOf letters looked w b) (k + 1)) from (congrArg nI (bitsUp_t c19))) ?_
          refine lv_istore_n (lv' := [(2, .int (nI (bitsUp (fun w => hdW kind longOf letters looked w b) (k + 1)))), (3, .int (nI k)), (0, .ref (a 0)), (1, .int (nI b))]) zx zb dX1_heardBehind_30 rfl hl (by decide) rfl (fun ls hl => ?_)
          refine lv_iinc (v := nI (k + 1)) (lv' := [(3, .int (nI (k + 1))), (2, .int (nI (bitsUp (fun w => hdW kind longOf letters looked w b) (k + 1)))), (0, .ref (a 0)), (1, .int (nI b))]) zx zb dX1_heardBehind_31 hl (k := 1) rfl (nI_1 _) (by decide) rfl (fun ls hl => ?_)
          refine lv_goto (tgt := 4) zx zb dX1_heardBehind_34 (by decide) ?_
          exact ih4 (k + 1) (by omega) (by omega) _ _ _ hX (lv_sub hl [0, 1, 2, 3] rfl)
  exact L4 _ 0 (by omega) (Nat.lt_succ_self _) _ _ _ hX (lv_sub hl [0, 1, 2, 3] rfl)

set_option maxHeartbeats 4000000 in
theorem mm_timesHeard  (w : Nat) (hok : mOK words kind longOf letters) (hlk : ∀ j, looked j < 3) (hw : w < 4) (hll : lkL ≤ 60) : nMt l D dA a0 yX1_timesHeard cX1_timesHeard 4 (some .int) 3 62 0 0 nvG0 [.ref (a 0), .int (nI w)] (mW dA a fault trace sorts shL cells words said kind longOf letters saidRow at_ rdW rKind rLong rLet looked lkL next heard far ways waysT free freeT rdgs rWord rMany rStands rRow ex) (nQi D a0 (fun (r : Int32) (_ : Unit) => r = nI (tmW kind longOf letters looked lkL w)) (fun (_ : Unit) => mW dA a fault trace sorts shL cells words said kind longOf letters saidRow at_ rdW rKind rLong rLet looked lkL next heard far ways waysT free freeT rdgs rWord rMany rStands rRow ex)) := by
  refine nv_start (by decide) (Nat.le_of_ble_eq_true rfl) fun zp ze s zm zlo zme zcd ls zC zr zk znm hX zG hl => ?_
  have zx := zC.1
  have zb := zC.2.1
  generalize zargs : ([.ref (a 0), .int (nI w)] : List Value).toArray = zar at zC ⊢
  generalize zQ : MQ zlo _ zar s _ _ _ = Q
  have hX : nvS D a0 (mW dA a fault trace sorts shL cells words said kind longOf letters saidRow at_ rdW rKind rLong rLet looked lkL next heard far ways waysT free freeT rdgs rWord rMany rStands rRow ex) s.heap s.heap [] := hX
  have hl : lv_has ls 4 [(0, .ref (a 0)), (1, .int (nI w))] := hl
  obtain ⟨H, zH⟩ : ∃ H, H = s.heap := ⟨_, rfl⟩
  have hX : nvS D a0 (mW dA a fault trace sorts shL cells words said kind longOf letters saidRow at_ rdW rKind rLong rLet looked lkL next heard far ways waysT free freeT rdgs rWord rMany rStands rRow ex) s.heap H [] := by rw [zH]; exact hX
  rw [show W zp l ze (rm_ 3 62 0 0) s zm zar zlo zme zcd s.heap [] 0 0 Q = W zp l ze (rm_ 3 62 0 0) s zm zar zlo zme zcd H [] 0 0 Q by rw [zH]]
  generalize ([] : List Loc) = locs at hX ⊢
  have hw4 := hok.1
  have hlt := hok.2.2.2
  refine lv_iconst (v := nI 0) zx zb dX1_timesHeard_0 (by decide) ?_
  refine lv_istore_n (lv' := [(2, .int (nI 0)), (0, .ref (a 0)), (1, .int (nI w))]) zx zb dX1_timesHeard_1 rfl hl (by decide) rfl (fun ls hl => ?_)
  refine lv_iconst (v := nI 1) zx zb dX1_timesHeard_2 (by decide) ?_
  refine lv_istore_n (lv' := [(3, .int (nI 1)), (2, .int (nI 0)), (0, .ref (a 0)), (1, .int (nI w))]) zx zb dX1_timesHeard_3 rfl hl (by decide) rfl (fun ls hl => ?_)
  have L4 : ∀ (zn : Nat) (k : Nat) (hk : k ≤ lkL), lkL - k < zn → ∀ (H : Heap) (locs : List Loc) (ls : Array Slot), nvS D a0 (mW dA a fault trace sorts shL cells words said kind longOf letters saidRow at_ rdW rKind rLong rLet looked lkL next heard far ways waysT free freeT rdgs rWord rMany rStands rRow ex) s.heap H locs → lv_has ls 4 [(3, .int (nI (k + 1))), (2, .int (nI (cntUp (fun b => hdW kind longOf letters looked w (b + 1)) k))), (0, .ref (a 0)), (1, .int (nI w))] → W zp l ze (rm_ 3 62 0 0) s zm zar zlo zme zcd H locs 0 0 Q (F0 zm 4 ls []) := by
    intro zn
    induction zn with
    | zero => intro k hk zf; exact absurd zf (Nat.not_lt_zero _)
    | succ zn ih4 =>
      intro k hk zf H locs ls hX hl
      refine lv_iload_n zx zb dX1_timesHeard_4 rfl (lv_at hl 0 rfl) ?_
      refine lv_aload_n zx zb dX1_timesHeard_5 rfl (lv_at hl 2 rfl) ?_
      refine nv_get zC hX in_X1 0 rfl rfl 17 (by decide) q1209 (fun _ h => h) rfl dX1_timesHeard_6 ?_
      refine nv_icmp_gt (tgt := 35) zx zb (by omega) (by omega) dX1_timesHeard_9 (by decide) (fun c9 => ?_) (fun c9 => ?_)
      · refine lv_iload_n zx zb dX1_timesHeard_35 rfl (lv_at hl 1 rfl) ?_
        rw [← zQ]
        exact nv_endi zC zr zk () hX (by rw [show k = lkL by omega]) (by omega) (by omega) dX1_timesHeard_36
      · refine lv_iload_n zx zb dX1_timesHeard_12 rfl (lv_at hl 1 rfl) ?_
        refine lv_aload_n zx zb dX1_timesHeard_13 rfl (lv_at hl 2 rfl) ?_
        refine lv_iload_n zx zb dX1_timesHeard_14 rfl (lv_at hl 3 rfl) ?_
        refine lv_iload_n zx zb dX1_timesHeard_15 rfl (lv_at hl 0 rfl) ?_
        refine nv_ki zC hX (nv_rV (n := 2) (As := [.int (nI w), .int (nI (k + 1))]) (rest := [.int (nI (cntUp (fun b => hdW kind longOf letters looked w (b + 1)) k))]) (q0 := 0) zC hX (mm_isHeard (w := w) (b := k + 1) (hok := (by first | assumption | omega)) (hw := (by first | assumption | omega)) (hb := (by first | assumption | omega)) (hlk := (by first | assumption | omega))) nvGb0 (fun _ _ _ => trivial) rfl rfl q1340 q1342 qs39 q63 q1343 (by decide +kernel) rfl ⟨Nat.le_of_ble_eq_true rfl, Nat.le_of_ble_eq_true rfl⟩ hl.1 (Nat.le_of_ble_eq_true rfl) dX1_timesHeard_16 ⟨by first | exact Nat.le_of_ble_eq_true rfl | omega, by first | exact Nat.le_of_ble_eq_true rfl | omega⟩) (fun r u H locs hp hX => ?_)
        have hr_ : r = nB (hdW kind longOf letters looked w (k + 1)) := hp
        subst hr_
        have hX : nvS D a0 (mW dA a fault trace sorts shL cells words said kind longOf letters saidRow at_ rdW rKind rLong rLet looked lkL next heard far ways waysT free freeT rdgs rWord rMany rStands rRow ex) s.heap H locs := hX
        refine W.cs (cells' := 0) (slots' := 0) (Nat.add_zero _) (Nat.add_zero _) ?_
        refine nv_if_eqB (tgt := 26) zx zb dX1_timesHeard_19 (by decide) (fun c19 => ?_) (fun c19 => ?_)
        · refine lv_iconst (v := nI 0) zx zb dX1_timesHeard_26 (by decide) ?_
          refine nv_iadd zx zb dX1_timesHeard_27 ?_
          refine nv_as (show nI ((cntUp (fun b => hdW kind longOf letters looked w (b + 1)) k) + 0) = nI (cntUp (fun b => hdW kind longOf letters looked w (b + 1)) (k + 1)) from (congrArg nI (cntUp_f c19))) ?_
          refine lv_istore_n (lv' := [(2, .int (nI (cntUp (fun b => hdW kind longOf letters looked w (b + 1)) (k + 1)))), (3, .int (nI (k + 1))), (0, .ref (a 0)), (1, .int (nI w))]) zx zb dX1_timesHeard_28 rfl hl (by decide) rfl (fun ls hl => ?_)
          refine lv_iinc (v := nI (k + 1 + 1)) (lv' := [(3, .int (nI (k + 1 + 1))), (2, .int (nI (cntUp (fun b => hdW kind longOf letters looked w (b + 1)) (k + 1)))), (0, .ref (a 0)), (1, .int (nI w))]) zx zb dX1_timesHeard_29 hl (k := 1) rfl (nI_1 _) (by decide) rfl (fun ls hl => ?_)
          refine lv_goto (tgt := 4) zx zb dX1_timesHeard_32 (by decide) ?_
          exact ih4 (k + 1) (by omega) (by omega) _ _ _ hX (lv_sub hl [0, 1, 2, 3] rfl)
        · refine lv_iconst (v := nI 1) zx zb dX1_timesHeard_22 (by decide) ?_
          refine lv_goto (tgt := 27) zx zb dX1_timesHeard_23 (by decide) ?_
          refine nv_iadd zx zb dX1_timesHeard_27 ?_
          refine nv_as (show nI ((cntUp (fun b => hdW kind longOf letters looked w (b + 1)) k) + 1) = nI (cntUp (fun b => hdW kind longOf letters looked w (b + 1)) (k + 1)) from (congrArg nI (cntUp_t c19))) ?_
          refine lv_istore_n (lv' := [(2, .int (nI (cntUp (fun b => hdW kind longOf letters looked w (b + 1)) (k + 1)))), (3, .int (nI (k + 1))), (0, .ref (a 0)), (1, .int (nI w))]) zx zb dX1_timesHeard_28 rfl hl (by decide) rfl (fun ls hl => ?_)
          refine lv_iinc (v := nI (k + 1 + 1)) (lv' := [(3, .int (nI (k + 1 + 1))), (2, .int (nI (cntUp (fun b => hdW kind longOf letters looked w (b + 1)) (k + 1)))), (0, .ref (a 0)), (1, .int (nI w))]) zx zb dX1_timesHeard_29 hl (k := 1) rfl (nI_1 _) (by decide) rfl (fun ls hl => ?_)
          refine lv_goto (tgt := 4) zx zb dX1_timesHeard_32 (by decide) ?_
          exact ih4 (k + 1) (by omega) (by omega) _ _ _ hX (lv_sub hl [0, 1, 2, 3] rfl)
  exact L4 _ 0 (by omega) (Nat.lt_succ_self _) _ _ _ hX (lv_sub hl [0, 1, 2, 3] rfl)

set_option maxHeartbeats 4000000 in
theorem mm_standing   (hok : mOK words kind longOf letters) (hlk : ∀ j, looked j < 3) (hll : lkL ≤ 60) : nMt l D dA a0 yX1_standing cX1_standing 3 (some .int) 4 85 0 0 nvG0 [.ref (a 0)] (mW dA a fault trace sorts shL cells words said kind longOf letters saidRow at_ rdW rKind rLong rLet looked lkL next heard far ways waysT free freeT rdgs rWord rMany rStands rRow ex) (nQi D a0 (fun (r : Int32) (_ : Unit) => r = nI (bitsUp (fun w => decide (0 < tmW kind longOf letters looked lkL w)) words)) (fun (_ : Unit) => mW dA a fault trace sorts shL cells words said kind longOf letters saidRow at_ rdW rKind rLong rLet looked lkL next heard far ways waysT free freeT rdgs rWord rMany rStands rRow ex)) := by
  refine nv_start (by decide) (Nat.le_of_ble_eq_true rfl) fun zp ze s zm zlo zme zcd ls zC zr zk znm hX zG hl => ?_
  have zx := zC.1
  have zb := zC.2.1
  generalize zargs : ([.ref (a 0)] : List Value).toArray = zar at zC ⊢
  generalize zQ : MQ zlo _ zar s _ _ _ = Q
  have hX : nvS D a0 (mW dA a fault trace sorts shL cells words said kind longOf letters saidRow at_ rdW rKind rLong rLet looked lkL next heard far ways waysT free freeT rdgs rWord rMany rStands rRow ex) s.heap s.heap [] := hX
  have hl : lv_has ls 3 [(0, .ref (a 0))] := hl
  obtain ⟨H, zH⟩ : ∃ H, H = s.heap := ⟨_, rfl⟩
  have hX : nvS D a0 (mW dA a fault trace sorts shL cells words said kind longOf letters saidRow at_ rdW rKind rLong rLet looked lkL next heard far ways waysT free freeT rdgs rWord rMany rStands rRow ex) s.heap H [] := by rw [zH]; exact hX
  rw [show W zp l ze (rm_ 4 85 0 0) s zm zar zlo zme zcd s.heap [] 0 0 Q = W zp l ze (rm_ 4 85 0 0) s zm zar zlo zme zcd H [] 0 0 Q by rw [zH]]
  generalize ([] : List Loc) = locs at hX ⊢
  have hw4 := hok.1
  have hlt := hok.2.2.2
  refine lv_iconst (v := nI 0) zx zb dX1_standing_0 (by decide) ?_
  refine lv_istore_n (lv' := [(1, .int (nI 0)), (0, .ref (a 0))]) zx zb dX1_standing_1 rfl hl (by decide) rfl (fun ls hl => ?_)
  refine lv_iconst (v := nI 0) zx zb dX1_standing_2 (by decide) ?_
  refine lv_istore_n (lv' := [(2, .int (nI 0)), (1, .int (nI 0)), (0, .ref (a 0))]) zx zb dX1_standing_3 rfl hl (by decide) rfl (fun ls hl => ?_)
  have L4 : ∀ (zn : Nat) (k : Nat) (hk : k ≤ words), words - k < zn → ∀ (H : Heap) (locs : List Loc) (ls : Array Slot), nvS D a0 (mW dA a fault trace sorts shL cells words said kind longOf letters saidRow at_ rdW rKind rLong rLet looked lkL next heard far ways waysT free freeT rdgs rWord rMany rStands rRow ex) s.heap H locs → lv_has ls 3 [(2, .int (nI k)), (1, .int (nI (bitsUp (fun w => decide (0 < tmW kind longOf letters looked lkL w)) k))), (0, .ref (a 0))] → W zp l ze (rm_ 4 85 0 0) s zm zar zlo zme zcd H locs 0 0 Q (F0 zm 4 ls []) := by
    intro zn
    induction zn with
    | zero => intro k hk zf; exact absurd zf (Nat.not_lt_zero _)
    | succ zn ih4 =>
      intro k hk zf H locs ls hX hl
      refine lv_iload_n zx zb dX1_standing_4 rfl (lv_at hl 0 rfl) ?_
      refine lv_aload_n zx zb dX1_standing_5 rfl (lv_at hl 2 rfl) ?_
      refine nv_get zC hX in_X1 0 rfl rfl 5 (by decide) q1197 (fun _ h => h) rfl dX1_standing_6 ?_
      refine nv_icmp_ge (tgt := 36) zx zb (by omega) (by omega) dX1_standing_9 (by decide) (fun c9 => ?_) (fun c9 => ?_)
      · refine lv_iload_n zx zb dX1_standing_36 rfl (lv_at hl 1 rfl) ?_
        rw [← zQ]
        exact nv_endi zC zr zk () hX (by rw [show k = words by omega]) (by omega) (by omega) dX1_standing_37
      · refine lv_iload_n zx zb dX1_standing_12 rfl (lv_at hl 1 rfl) ?_
        refine lv_aload_n zx zb dX1_standing_13 rfl (lv_at hl 2 rfl) ?_
        refine lv_iload_n zx zb dX1_standing_14 rfl (lv_at hl 0 rfl) ?_
        refine nv_ki zC hX (nv_rV (n := 1) (As := [.int (nI k)]) (rest := [.int (nI (bitsUp (fun w => decide (0 < tmW kind longOf letters looked lkL w)) k))]) (q0 := 0) zC hX (mm_timesHeard (w := k) (hok := (by first | assumption | omega)) (hlk := (by first | assumption | omega)) (hw := (by first | assumption | omega)) (hll := (by first | assumption | omega))) nvGb0 (fun _ _ _ => trivial) rfl rfl q1336 q1338 qs38 q63 q1339 (by decide +kernel) rfl ⟨Nat.le_of_ble_eq_true rfl, Nat.le_of_ble_eq_true rfl⟩ hl.1 (Nat.le_of_ble_eq_true rfl) dX1_standing_15 ⟨by first | exact Nat.le_of_ble_eq_true rfl | omega, by first | exact Nat.le_of_ble_eq_true rfl | omega⟩) (fun r u H locs hp hX => ?_)
        have hr_ : r = nI (tmW kind longOf letters looked lkL k) := hp
        subst hr_
        have hX : nvS D a0 (mW dA a fault trace sorts shL cells words said kind longOf letters saidRow at_ rdW rKind rLong rLet looked lkL next heard far ways waysT free freeT rdgs rWord rMany rStands rRow ex) s.heap H locs := hX
        refine W.cs (cells' := 0) (slots' := 0) (Nat.add_zero _) (Nat.add_zero _) ?_
        refine nv_if_le (tgt := 27) zx zb (Nat.lt_of_le_of_lt (cntUp_le _ _) (by omega)) dX1_standing_18 (by decide) (fun c18 => ?_) (fun c18 => ?_)
        · refine lv_iconst (v := nI 0) zx zb dX1_standing_27 (by decide) ?_
          refine nv_ior zx zb dX1_standing_28 ?_
          refine nv_as (show nI ((bitsUp (fun w => decide (0 < tmW kind longOf letters looked lkL w)) k) ||| 0) = nI (bitsUp (fun w => decide (0 < tmW kind longOf letters looked lkL w)) (k + 1)) from (congrArg nI (bitsUp_f (decide_eq_false (by omega))))) ?_
          refine lv_istore_n (lv' := [(1, .int (nI (bitsUp (fun w => decide (0 < tmW kind longOf letters looked lkL w)) (k + 1)))), (2, .int (nI k)), (0, .ref (a 0))]) zx zb dX1_standing_29 rfl hl (by decide) rfl (fun ls hl => ?_)
          refine lv_iinc (v := nI (k + 1)) (lv' := [(2, .int (nI (k + 1))), (1, .int (nI (bitsUp (fun w => decide (0 < tmW kind longOf letters looked lkL w)) (k + 1)))), (0, .ref (a 0))]) zx zb dX1_standing_30 hl (k := 1) rfl (nI_1 _) (by decide) rfl (fun ls hl => ?_)
          refine lv_goto (tgt := 4) zx zb dX1_standing_33 (by decide) ?_
          exact ih4 (k + 1) (by omega) (by omega) _ _ _ hX (lv_sub hl [0, 1, 2] rfl)
        · refine lv_iconst (v := nI 1) zx zb dX1_standing_21 (by decide) ?_
          refine lv_iload_n zx zb dX1_standing_22 rfl (lv_at hl 0 rfl) ?_
          refine nv_ishl1 zx zb (by omega) dX1_standing_23 ?_
          refine lv_goto (tgt := 28) zx zb dX1_standing_24 (by decide) ?_
          refine nv_ior zx zb dX1_standing_28 ?_
          refine nv_as (show nI ((bitsUp (fun w => decide (0 < tmW kind longOf letters looked lkL w)) k) ||| (2 ^ k)) = nI (bitsUp (fun w => decide (0 < tmW kind longOf letters looked lkL w)) (k + 1)) from (congrArg nI (bitsUp_t (decide_eq_true c18)))) ?_
          refine lv_istore_n (lv' := [(1, .int (nI (bitsUp (fun w => decide (0 < tmW kind longOf letters looked lkL w)) (k + 1)))), (2, .int (nI k)), (0, .ref (a 0))]) zx zb dX1_standing_29 rfl hl (by decide) rfl (fun ls hl => ?_)
          refine lv_iinc (v := nI (k + 1)) (lv' := [(2, .int (nI (k + 1))), (1, .int (nI (bitsUp (fun w => decide (0 < tmW kind longOf letters looked lkL w)) (k + 1)))), (0, .ref (a 0))]) zx zb dX1_standing_30 hl (k := 1) rfl (nI_1 _) (by decide) rfl (fun ls hl => ?_)
          refine lv_goto (tgt := 4) zx zb dX1_standing_33 (by decide) ?_
          exact ih4 (k + 1) (by omega) (by omega) _ _ _ hX (lv_sub hl [0, 1, 2] rfl)
  exact L4 _ 0 (by omega) (Nat.lt_succ_self _) _ _ _ hX (lv_sub hl [0, 1, 2] rfl)

set_option maxHeartbeats 4000000 in
theorem mm_allHeard   (hok : mOK words kind longOf letters) (hlk : ∀ j, looked j < 3) (hll : lkL ≤ 60) : nMt l D dA a0 yX1_allHeard cX1_allHeard 3 (some .int) 4 85 0 0 nvG0 [.ref (a 0)] (mW dA a fault trace sorts shL cells words said kind longOf letters saidRow at_ rdW rKind rLong rLet looked lkL next heard far ways waysT free freeT rdgs rWord rMany rStands rRow ex) (nQi D a0 (fun (r : Int32) (_ : Unit) => r = nI (sumUp (fun w => tmW kind longOf letters looked lkL w) words)) (fun (_ : Unit) => mW dA a fault trace sorts shL cells words said kind longOf letters saidRow at_ rdW rKind rLong rLet looked lkL next heard far ways waysT free freeT rdgs rWord rMany rStands rRow ex)) := by
  refine nv_start (by decide) (Nat.le_of_ble_eq_true rfl) fun zp ze s zm zlo zme zcd ls zC zr zk znm hX zG hl => ?_
  have zx := zC.1
  have zb := zC.2.1
  generalize zargs : ([.ref (a 0)] : List Value).toArray = zar at zC ⊢
  generalize zQ : MQ zlo _ zar s _ _ _ = Q
  have hX : nvS D a0 (mW dA a fault trace sorts shL cells words said kind longOf letters saidRow at_ rdW rKind rLong rLet looked lkL next heard far ways waysT free freeT rdgs rWord rMany rStands rRow ex) s.heap s.heap [] := hX
  have hl : lv_has ls 3 [(0, .ref (a 0))] := hl
  obtain ⟨H, zH⟩ : ∃ H, H = s.heap := ⟨_, rfl⟩
  have hX : nvS D a0 (mW dA a fault trace sorts shL cells words said kind longOf letters saidRow at_ rdW rKind rLong rLet looked lkL next heard far ways waysT free freeT rdgs rWord rMany rStands rRow ex) s.heap H [] := by rw [zH]; exact hX
  rw [show W zp l ze (rm_ 4 85 0 0) s zm zar zlo zme zcd s.heap [] 0 0 Q = W zp l ze (rm_ 4 85 0 0) s zm zar zlo zme zcd H [] 0 0 Q by rw [zH]]
  generalize ([] : List Loc) = locs at hX ⊢
  have hw4 := hok.1
  have hlt := hok.2.2.2
  refine lv_iconst (v := nI 0) zx zb dX1_allHeard_0 (by decide) ?_
  refine lv_istore_n (lv' := [(1, .int (nI 0)), (0, .ref (a 0))]) zx zb dX1_allHeard_1 rfl hl (by decide) rfl (fun ls hl => ?_)
  refine lv_iconst (v := nI 0) zx zb dX1_allHeard_2 (by decide) ?_
  refine lv_istore_n (lv' := [(2, .int (nI 0)), (1, .int (nI 0)), (0, .ref (a 0))]) zx zb dX1_allHeard_3 rfl hl (by decide) rfl (fun ls hl => ?_)
  have L4 : ∀ (zn : Nat) (k : Nat) (hk : k ≤ words), words - k < zn → ∀ (H : Heap) (locs : List Loc) (ls : Array Slot), nvS D a0 (mW dA a fault trace sorts shL cells words said kind longOf letters saidRow at_ rdW rKind rLong rLet looked lkL next heard far ways waysT free freeT rdgs rWord rMany rStands rRow ex) s.heap H locs → lv_has ls 3 [(2, .int (nI k)), (1, .int (nI (sumUp (fun w => tmW kind longOf letters looked lkL w) k))), (0, .ref (a 0))] → W zp l ze (rm_ 4 85 0 0) s zm zar zlo zme zcd H locs 0 0 Q (F0 zm 4 ls []) := by
    intro zn
    induction zn with
    | zero => intro k hk zf; exact absurd zf (Nat.not_lt_zero _)
    | succ zn ih4 =>
      intro k hk zf H locs ls hX hl
      refine lv_iload_n zx zb dX1_allHeard_4 rfl (lv_at hl 0 rfl) ?_
      refine lv_aload_n zx zb dX1_allHeard_5 rfl (lv_at hl 2 rfl) ?_
      refine nv_get zC hX in_X1 0 rfl rfl 5 (by decide) q1197 (fun _ h => h) rfl dX1_allHeard_6 ?_
      refine nv_icmp_ge (tgt := 26) zx zb (by omega) (by omega) dX1_allHeard_9 (by decide) (fun c9 => ?_) (fun c9 => ?_)
      · refine lv_iload_n zx zb dX1_allHeard_26 rfl (lv_at hl 1 rfl) ?_
        rw [← zQ]
        exact nv_endi zC zr zk () hX (by rw [show k = words by omega]) (by omega) (by omega) dX1_allHeard_27
      · refine lv_iload_n zx zb dX1_allHeard_12 rfl (lv_at hl 1 rfl) ?_
        refine lv_aload_n zx zb dX1_allHeard_13 rfl (lv_at hl 2 rfl) ?_
        refine lv_iload_n zx zb dX1_allHeard_14 rfl (lv_at hl 0 rfl) ?_
        refine nv_ki zC hX (nv_rV (n := 1) (As := [.int (nI k)]) (rest := [.int (nI (sumUp (fun w => tmW kind longOf letters looked lkL w) k))]) (q0 := 0) zC hX (mm_timesHeard (w := k) (hok := (by first | assumption | omega)) (hlk := (by first | assumption | omega)) (hw := (by first | assumption | omega)) (hll := (by first | assumption | omega))) nvGb0 (fun _ _ _ => trivial) rfl rfl q1336 q1338 qs38 q63 q1339 (by decide +kernel) rfl ⟨Nat.le_of_ble_eq_true rfl, Nat.le_of_ble_eq_true rfl⟩ hl.1 (Nat.le_of_ble_eq_true rfl) dX1_allHeard_15 ⟨by first | exact Nat.le_of_ble_eq_true rfl | omega, by first | exact Nat.le_of_ble_eq_true rfl | omega⟩) (fun r u H locs hp hX => ?_)
        have hr_ : r = nI (tmW kind longOf letters looked lkL k) := hp
        subst hr_
        have hX : nvS D a0 (mW dA a fault trace sorts shL cells words said kind longOf letters saidRow at_ rdW rKind rLong rLet looked lkL next heard far ways waysT free freeT rdgs rWord rMany rStands rRow ex) s.heap H locs := hX
        refine W.cs (cells' := 0) (slots' := 0) (Nat.add_zero _) (Nat.add_zero _) ?_
        refine nv_iadd zx zb dX1_allHeard_18 ?_
        refine nv_as (show nI ((sumUp (fun w => tmW kind longOf letters looked lkL w) k) + (tmW kind longOf letters looked lkL k)) = nI (sumUp (fun w => tmW kind longOf letters looked lkL w) (k + 1)) from (congrArg nI (Eq.refl _))) ?_
        refine lv_istore_n (lv' := [(1, .int (nI (sumUp (fun w => tmW kind longOf letters looked lkL w) (k + 1)))), (2, .int (nI k)), (0, .ref (a 0))]) zx zb dX1_allHeard_19 rfl hl (by decide) rfl (fun ls hl => ?_)
        refine lv_iinc (v := nI (k + 1)) (lv' := [(2, .int (nI (k + 1))), (1, .int (nI (sumUp (fun w => tmW kind longOf letters looked lkL w) (k + 1)))), (0, .ref (a 0))]) zx zb dX1_allHeard_20 hl (k := 1) rfl (nI_1 _) (by decide) rfl (fun ls hl => ?_)
        refine lv_goto (tgt := 4) zx zb dX1_allHeard_23 (by decide) ?_
        exact ih4 (k + 1) (by omega) (by omega) _ _ _ hX (lv_sub hl [0, 1, 2] rfl)
  exact L4 _ 0 (by omega) (Nat.lt_succ_self _) _ _ _ hX (lv_sub hl [0, 1, 2] rfl)

set_option maxHeartbeats 4000000 in
theorem mm_lookAtSaid   (hlk : ∀ j, looked j < 3) (hsd : ∀ j, saidRow j < 3) (hs60 : said ≤ 60) : nMt l D dA a0 yX1_lookAtSaid cX1_lookAtSaid 2 (none) 1 12 0 0 nvG0 [.ref (a 0)] (mW dA a fault trace sorts shL cells words said kind longOf letters saidRow at_ rdW rKind rLong rLet looked lkL next heard far ways waysT free freeT rdgs rWord rMany rStands rRow ex) (nQv D a0 (fun (looked' : Nat → Nat) => (∀ j, j < said → looked' j = saidRow j) ∧ (∀ j, looked' j < 3)) (fun (looked' : Nat → Nat) => mW dA a fault trace sorts shL cells words said kind longOf letters saidRow at_ rdW rKind rLong rLet looked' said next heard far ways waysT free freeT rdgs rWord rMany rStands rRow ex)) := by
  refine nv_start (by decide) (Nat.le_of_ble_eq_true rfl) fun zp ze s zm zlo zme zcd ls zC zr zk znm hX zG hl => ?_
  have zx := zC.1
  have zb := zC.2.1
  generalize zargs : ([.ref (a 0)] : List Value).toArray = zar at zC ⊢
  generalize zQ : MQ zlo _ zar s _ _ _ = Q
  have hX : nvS D a0 (mW dA a fault trace sorts shL cells words said kind longOf letters saidRow at_ rdW rKind rLong rLet looked lkL next heard far ways waysT free freeT rdgs rWord rMany rStands rRow ex) s.heap s.heap [] := hX
  have hl : lv_has ls 2 [(0, .ref (a 0))] := hl
  obtain ⟨H, zH⟩ : ∃ H, H = s.heap := ⟨_, rfl⟩
  have hX : nvS D a0 (mW dA a fault trace sorts shL cells words said kind longOf letters saidRow at_ rdW rKind rLong rLet looked lkL next heard far ways waysT free freeT rdgs rWord rMany rStands rRow ex) s.heap H [] := by rw [zH]; exact hX
  rw [show W zp l ze (rm_ 1 12 0 0) s zm zar zlo zme zcd s.heap [] 0 0 Q = W zp l ze (rm_ 1 12 0 0) s zm zar zlo zme zcd H [] 0 0 Q by rw [zH]]
  generalize ([] : List Loc) = locs at hX ⊢
  refine lv_aload_n zx zb dX1_lookAtSaid_0 rfl (lv_at hl 0 rfl) ?_
  refine lv_aload_n zx zb dX1_lookAtSaid_1 rfl (lv_at hl 0 rfl) ?_
  refine nv_get zC hX in_X1 0 rfl rfl 6 (by decide) q1198 (fun _ h => h) rfl dX1_lookAtSaid_2 ?_
  refine nv_put zC hX in_X1 tyX1 tyX1_ok nmX1 0 rfl rfl 17 (by decide) q1209 (fun _ h => h) rfl rfl rfl (Nat.le_of_ble_eq_true rfl) (w' := mW dA a fault trace sorts shL cells words said kind longOf letters saidRow at_ rdW rKind rLong rLet looked said next heard far ways waysT free freeT rdgs rWord rMany rStands rRow ex) rfl dX1_lookAtSaid_5 (fun H locs hX => ?_)
  refine lv_iconst (v := nI 0) zx zb dX1_lookAtSaid_8 (by decide) ?_
  refine lv_istore_n (lv' := [(1, .int (nI 0)), (0, .ref (a 0))]) zx zb dX1_lookAtSaid_9 rfl hl (by decide) rfl (fun ls hl => ?_)
  have L10 : ∀ (zn : Nat) (lk : Nat → Nat) (k : Nat) (hk : k ≤ said) (h1 : ∀ j, j < k → lk j = saidRow j) (h2 : ∀ j, lk j < 3), said - k < zn → ∀ (H : Heap) (locs : List Loc) (ls : Array Slot), nvS D a0 (mW dA a fault trace sorts shL cells words said kind longOf letters saidRow at_ rdW rKind rLong rLet lk said next heard far ways waysT free freeT rdgs rWord rMany rStands rRow ex) s.heap H locs → lv_has ls 2 [(1, .int (nI k)), (0, .ref (a 0))] → W zp l ze (rm_ 1 12 0 0) s zm zar zlo zme zcd H locs 0 0 Q (F0 zm 10 ls []) := by
    intro zn
    induction zn with
    | zero => intro lk k hk h1 h2 zf; exact absurd zf (Nat.not_lt_zero _)
    | succ zn ih10 =>
      intro lk k hk h1 h2 zf H locs ls hX hl
      refine lv_iload_n zx zb dX1_lookAtSaid_10 rfl (lv_at hl 0 rfl) ?_
      refine lv_aload_n zx zb dX1_lookAtSaid_11 rfl (lv_at hl 1 rfl) ?_
      refine nv_get zC hX in_X1 0 rfl rfl 6 (by decide) q1198 (fun _ h => h) rfl dX1_lookAtSaid_12 ?_
      refine nv_icmp_ge (tgt := 36) zx zb (by omega) (by omega) dX1_lookAtSaid_15 (by decide) (fun c15 => ?_) (fun c15 => ?_)
      · rw [← zQ]
        exact nv_endv zC zr zk lk hX (by exact ⟨fun j hj => h1 j (by omega), h2⟩) (by omega) (by omega) dX1_lookAtSaid_36
      · refine lv_aload_n zx zb dX1_lookAtSaid_18 rfl (lv_at hl 1 rfl) ?_
        refine nv_get zC hX in_X1 0 rfl rfl 16 (by decide) q1208 (fun _ h => h) rfl dX1_lookAtSaid_19 ?_
        refine lv_iload_n zx zb dX1_lookAtSaid_22 rfl (lv_at hl 0 rfl) ?_
        refine lv_aload_n zx zb dX1_lookAtSaid_23 rfl (lv_at hl 1 rfl) ?_
        refine nv_get zC hX in_X1 0 rfl rfl 10 (by decide) q1202 (fun _ h => h) rfl dX1_lookAtSaid_24 ?_
        refine lv_iload_n zx zb dX1_lookAtSaid_27 rfl (lv_at hl 0 rfl) ?_
        refine nv_iald (v := nI (saidRow k)) zC hX 7 rfl (by omega) (by decide) rfl dX1_lookAtSaid_28 ?_
        refine nv_iast zC hX 11 rfl (by omega) (by decide) (nF_up _ _ _) (w' := mW dA a fault trace sorts shL cells words said kind longOf letters saidRow at_ rdW rKind rLong rLet (va_up lk k (saidRow k)) said next heard far ways waysT free freeT rdgs rWord rMany rStands rRow ex) rfl dX1_lookAtSaid_29 (fun H locs hX => ?_)
        refine lv_iinc (v := nI (k + 1)) (lv' := [(1, .int (nI (k + 1))), (0, .ref (a 0))]) zx zb dX1_lookAtSaid_30 hl (k := 0) rfl (nI_1 _) (by decide) rfl (fun ls hl => ?_)
        refine lv_goto (tgt := 10) zx zb dX1_lookAtSaid_33 (by decide) ?_
        exact ih10 (va_up lk k (saidRow k)) (k + 1) (by omega) (up_pre h1) (up_lt h2 (hsd _)) (by omega) _ _ _ hX (lv_sub hl [0, 1] rfl)
  exact L10 _ looked 0 (by omega) lt_0 hlk (Nat.lt_succ_self _) _ _ _ hX (lv_sub hl [0, 1] rfl)

set_option maxHeartbeats 4000000 in
theorem mm_lookAtCells  (i : Nat) (n : Nat) (rw_ : Nat → Nat) (hlk : ∀ j, looked j < 3) (hi : i + n ≤ 240) (hn : n ≤ 60) (hrw : ∀ j, rw_ j < 3) (hce : ∀ j, j < n → cells (i + j) = nI (rw_ j)) : nMt l D dA a0 yX1_lookAtCells cX1_lookAtCells 4 (none) 1 12 0 0 nvG0 [.ref (a 0), .int (nI i), .int (nI n)] (mW dA a fault trace sorts shL cells words said kind longOf letters saidRow at_ rdW rKind rLong rLet looked lkL next heard far ways waysT free freeT rdgs rWord rMany rStands rRow ex) (nQv D a0 (fun (looked' : Nat → Nat) => (∀ j, j < n → looked' j = rw_ j) ∧ (∀ j, looked' j < 3)) (fun (looked' : Nat → Nat) => mW dA a fault trace sorts shL cells words said kind longOf letters saidRow at_ rdW rKind rLong rLet looked' n next heard far ways waysT free freeT rdgs rWord rMany rStands rRow ex)) := by
  refine nv_start (by decide) (Nat.le_of_ble_eq_true rfl) fun zp ze s zm zlo zme zcd ls zC zr zk znm hX zG hl => ?_
  have zx := zC.1
  have zb := zC.2.1
  generalize zargs : ([.ref (a 0), .int (nI i), .int (nI n)] : List Value).toArray = zar at zC ⊢
  generalize zQ : MQ zlo _ zar s _ _ _ = Q
  have hX : nvS D a0 (mW dA a fault trace sorts shL cells words said kind longOf letters saidRow at_ rdW rKind rLong rLet looked lkL next heard far ways waysT free freeT rdgs rWord rMany rStands rRow ex) s.heap s.heap [] := hX
  have hl : lv_has ls 4 [(0, .ref (a 0)), (1, .int (nI i)), (2, .int (nI n))] := hl
  obtain ⟨H, zH⟩ : ∃ H, H = s.heap := ⟨_, rfl⟩
  have hX : nvS D a0 (mW dA a fault trace sorts shL cells words said kind longOf letters saidRow at_ rdW rKind rLong rLet looked lkL next heard far ways waysT free freeT rdgs rWord rMany rStands rRow ex) s.heap H [] := by rw [zH]; exact hX
  rw [show W zp l ze (rm_ 1 12 0 0) s zm zar zlo zme zcd s.heap [] 0 0 Q = W zp l ze (rm_ 1 12 0 0) s zm zar zlo zme zcd H [] 0 0 Q by rw [zH]]
  generalize ([] : List Loc) = locs at hX ⊢
  refine lv_aload_n zx zb dX1_lookAtCells_0 rfl (lv_at hl 0 rfl) ?_
  refine lv_iload_n zx zb dX1_lookAtCells_1 rfl (lv_at hl 2 rfl) ?_
  refine nv_put zC hX in_X1 tyX1 tyX1_ok nmX1 0 rfl rfl 17 (by decide) q1209 (fun _ h => h) rfl rfl rfl (Nat.le_of_ble_eq_true rfl) (w' := mW dA a fault trace sorts shL cells words said kind longOf letters saidRow at_ rdW rKind rLong rLet looked n next heard far ways waysT free freeT rdgs rWord rMany rStands rRow ex) rfl dX1_lookAtCells_2 (fun H locs hX => ?_)
  refine lv_iconst (v := nI 0) zx zb dX1_lookAtCells_5 (by decide) ?_
  refine lv_istore_n (lv' := [(3, .int (nI 0)), (0, .ref (a 0)), (1, .int (nI i)), (2, .int (nI n))]) zx zb dX1_lookAtCells_6 rfl hl (by decide) rfl (fun ls hl => ?_)
  have L7 : ∀ (zn : Nat) (lk : Nat → Nat) (k : Nat) (hk : k ≤ n) (h1 : ∀ j, j < k → lk j = rw_ j) (h2 : ∀ j, lk j < 3), n - k < zn → ∀ (H : Heap) (locs : List Loc) (ls : Array Slot), nvS D a0 (mW dA a fault trace sorts shL cells words said kind longOf letters saidRow at_ rdW rKind rLong rLet lk n next heard far ways waysT free freeT rdgs rWord rMany rStands rRow ex) s.heap H locs → lv_has ls 4 [(3, .int (nI k)), (0, .ref (a 0)), (1, .int (nI i)), (2, .int (nI n))] → W zp l ze (rm_ 1 12 0 0) s zm zar zlo zme zcd H locs 0 0 Q (F0 zm 7 ls []) := by
    intro zn
    induction zn with
    | zero => intro lk k hk h1 h2 zf; exact absurd zf (Nat.not_lt_zero _)
    | succ zn ih7 =>
      intro lk k hk h1 h2 zf H locs ls hX hl
      refine lv_iload_n zx zb dX1_lookAtCells_7 rfl (lv_at hl 0 rfl) ?_
      refine lv_iload_n zx zb dX1_lookAtCells_8 rfl (lv_at hl 3 rfl) ?_
      refine nv_icmp_ge (tgt := 32) zx zb (by omega) (by omega) dX1_lookAtCells_9 (by decide) (fun c9 => ?_) (fun c9 => ?_)
      · rw [← zQ]
        exact nv_endv zC zr zk lk hX (by exact ⟨fun j hj => h1 j (by omega), h2⟩) (by omega) (by omega) dX1_lookAtCells_32
      · refine lv_aload_n zx zb dX1_lookAtCells_12 rfl (lv_at hl 1 rfl) ?_
        refine nv_get zC hX in_X1 0 rfl rfl 16 (by decide) q1208 (fun _ h => h) rfl dX1_lookAtCells_13 ?_
        refine lv_iload_n zx zb dX1_lookAtCells_16 rfl (lv_at hl 0 rfl) ?_
        refine lv_aload_n zx zb dX1_lookAtCells_17 rfl (lv_at hl 1 rfl) ?_
        refine nv_get zC hX in_X1 0 rfl rfl 4 (by decide) q1196 (fun _ h => h) rfl dX1_lookAtCells_18 ?_
        refine lv_iload_n zx zb dX1_lookAtCells_21 rfl (lv_at hl 2 rfl) ?_
        refine lv_iload_n zx zb dX1_lookAtCells_22 rfl (lv_at hl 0 rfl) ?_
        refine nv_iadd zx zb dX1_lookAtCells_23 ?_
        refine nv_iald (v := nI (rw_ k)) zC hX 3 rfl (by omega) (by decide) (hce k c9) dX1_lookAtCells_24 ?_
        refine nv_iast zC hX 11 rfl (by omega) (by decide) (nF_up _ _ _) (w' := mW dA a fault trace sorts shL cells words said kind longOf letters saidRow at_ rdW rKind rLong rLet (va_up lk k (rw_ k)) n next heard far ways waysT free freeT rdgs rWord rMany rStands rRow ex) rfl dX1_lookAtCells_25 (fun H locs hX => ?_)
        refine lv_iinc (v := nI (k + 1)) (lv' := [(3, .int (nI (k + 1))), (0, .ref (a 0)), (1, .int (nI i)), (2, .int (nI n))]) zx zb dX1_lookAtCells_26 hl (k := 0) rfl (nI_1 _) (by decide) rfl (fun ls hl => ?_)
        refine lv_goto (tgt := 7) zx zb dX1_lookAtCells_29 (by decide) ?_
        exact ih7 (va_up lk k (rw_ k)) (k + 1) (by omega) (up_pre h1) (up_lt h2 (hrw _)) (by omega) _ _ _ hX (lv_sub hl [0, 1, 2, 3] rfl)
  exact L7 _ looked 0 (by omega) lt_0 hlk (Nat.lt_succ_self _) _ _ _ hX (lv_sub hl [0, 1, 2, 3] rfl)

set_option maxHeartbeats 4000000 in
theorem mm_areLetters  (i : Nat) (n : Nat) (hi : i + n ≤ 240) : nMt l D dA a0 yX1_areLetters cX1_areLetters 4 (some .boolean) 2 34 0 0 nvG0 [.ref (a 0), .int (nI i), .int (nI n)] (mW dA a fault trace sorts shL cells words said kind longOf letters saidRow at_ rdW rKind rLong rLet looked lkL next heard far ways waysT free freeT rdgs rWord rMany rStands rRow ex) (nQi D a0 (fun (r : Int32) (_ : Unit) => r = nB (decide (∀ j, j < n → inN (cells (i + j)) 0 2 = true))) (fun (_ : Unit) => mW dA a fault trace sorts shL cells words said kind longOf letters saidRow at_ rdW rKind rLong rLet looked lkL next heard far ways waysT free freeT rdgs rWord rMany rStands rRow ex)) := by
  refine nv_start (by decide) (Nat.le_of_ble_eq_true rfl) fun zp ze s zm zlo zme zcd ls zC zr zk znm hX zG hl => ?_
  have zx := zC.1
  have zb := zC.2.1
  generalize zargs : ([.ref (a 0), .int (nI i), .int (nI n)] : List Value).toArray = zar at zC ⊢
  generalize zQ : MQ zlo _ zar s _ _ _ = Q
  have hX : nvS D a0 (mW dA a fault trace sorts shL cells words said kind longOf letters saidRow at_ rdW rKind rLong rLet looked lkL next heard far ways waysT free freeT rdgs rWord rMany rStands rRow ex) s.heap s.heap [] := hX
  have hl : lv_has ls 4 [(0, .ref (a 0)), (1, .int (nI i)), (2, .int (nI n))] := hl
  obtain ⟨H, zH⟩ : ∃ H, H = s.heap := ⟨_, rfl⟩
  have hX : nvS D a0 (mW dA a fault trace sorts shL cells words said kind longOf letters saidRow at_ rdW rKind rLong rLet looked lkL next heard far ways waysT free freeT rdgs rWord rMany rStands rRow ex) s.heap H [] := by rw [zH]; exact hX
  rw [show W zp l ze (rm_ 2 34 0 0) s zm zar zlo zme zcd s.heap [] 0 0 Q = W zp l ze (rm_ 2 34 0 0) s zm zar zlo zme zcd H [] 0 0 Q by rw [zH]]
  generalize ([] : List Loc) = locs at hX ⊢
  refine lv_iconst (v := nI 0) zx zb dX1_areLetters_0 (by decide) ?_
  refine lv_istore_n (lv' := [(3, .int (nI 0)), (0, .ref (a 0)), (1, .int (nI i)), (2, .int (nI n))]) zx zb dX1_areLetters_1 rfl hl (by decide) rfl (fun ls hl => ?_)
  have L2 : ∀ (zn : Nat) (k : Nat) (hk : k ≤ n) (h1 : ∀ j, j < k → inN (cells (i + j)) 0 2 = true), n - k < zn → ∀ (H : Heap) (locs : List Loc) (ls : Array Slot), nvS D a0 (mW dA a fault trace sorts shL cells words said kind longOf letters saidRow at_ rdW rKind rLong rLet looked lkL next heard far ways waysT free freeT rdgs rWord rMany rStands rRow ex) s.heap H locs → lv_has ls 4 [(3, .int (nI k)), (0, .ref (a 0)), (1, .int (nI i)), (2, .int (nI n))] → W zp l ze (rm_ 2 34 0 0) s zm zar zlo zme zcd H locs 0 0 Q (F0 zm 2 ls []) := by
    intro zn
    induction zn with
    | zero => intro k hk h1 zf; exact absurd zf (Nat.not_lt_zero _)
    | succ zn ih2 =>
      intro k hk h1 zf H locs ls hX hl
      refine lv_iload_n zx zb dX1_areLetters_2 rfl (lv_at hl 0 rfl) ?_
      refine lv_iload_n zx zb dX1_areLetters_3 rfl (lv_at hl 3 rfl) ?_
      refine nv_icmp_ge (tgt := 31) zx zb (by omega) (by omega) dX1_areLetters_4 (by decide) (fun c4 => ?_) (fun c4 => ?_)
      · refine lv_iconst (v := nI 1) zx zb dX1_areLetters_31 (by decide) ?_
        rw [← zQ]
        refine nv_as (y := nB true) rfl ?_
        exact nv_endz zC zr zk () hX (by apply nB_e1; simp only [decide_eq_true_eq]; exact fun j hj => h1 j (by omega)) (by omega) (by omega) dX1_areLetters_32
      · refine lv_aload_n zx zb dX1_areLetters_7 rfl (lv_at hl 1 rfl) ?_
        refine nv_get zC hX in_X1 0 rfl rfl 4 (by decide) q1196 (fun _ h => h) rfl dX1_areLetters_8 ?_
        refine lv_iload_n zx zb dX1_areLetters_11 rfl (lv_at hl 2 rfl) ?_
        refine lv_iload_n zx zb dX1_areLetters_12 rfl (lv_at hl 0 rfl) ?_
        refine nv_iadd zx zb dX1_areLetters_13 ?_
        refine nv_iald (v := cells (i + k)) zC hX 3 rfl (by omega) (by decide) rfl dX1_areLetters_14 ?_
        refine lv_iconst (v := nI 0) zx zb dX1_areLetters_15 (by decide) ?_
        refine lv_iconst (v := nI 2) zx zb dX1_areLetters_16 (by decide) ?_
        refine nv_ki zC hX (nv_rS (n := 3) (As := [.int (cells (i + k)), .int (nI 0), .int (nI 2)]) (rest := []) zC hX (mm_within (v := cells (i + k)) (lo := nI 0) (hi := nI 2)) nvGb0 (fun _ _ _ => trivial) q1290 q1291 q63 q1292 (by decide +kernel) rfl ⟨Nat.le_of_ble_eq_true rfl, Nat.le_of_ble_eq_true rfl⟩ hl.1 (Nat.le_of_ble_eq_true rfl) dX1_areLetters_17 ⟨by first | exact Nat.le_of_ble_eq_true rfl | omega, by first | exact Nat.le_of_ble_eq_true rfl | omega⟩) (fun r u H locs hp hX => ?_)
        have hr_ : r = nB (inN (cells (i + k)) 0 2) := hp
        subst hr_
        have hX : nvS D a0 (mW dA a fault trace sorts shL cells words said kind longOf letters saidRow at_ rdW rKind rLong rLet looked lkL next heard far ways waysT free freeT rdgs rWord rMany rStands rRow ex) s.heap H locs := hX
        refine W.cs (cells' := 0) (slots' := 0) (Nat.add_zero _) (Nat.add_zero _) ?_
        refine nv_if_neB (tgt := 25) zx zb dX1_areLetters_20 (by decide) (fun c20 => ?_) (fun c20 => ?_)
        · refine lv_iinc (v := nI (k + 1)) (lv' := [(3, .int (nI (k + 1))), (0, .ref (a 0)), (1, .int (nI i)), (2, .int (nI n))]) zx zb dX1_areLetters_25 hl (k := 0) rfl (nI_1 _) (by decide) rfl (fun ls hl => ?_)
          refine lv_goto (tgt := 2) zx zb dX1_areLetters_28 (by decide) ?_
          exact ih2 (k + 1) (by omega) (lt_s h1 c20) (by omega) _ _ _ hX (lv_sub hl [0, 1, 2, 3] rfl)
        · refine lv_iconst (v := nI 0) zx zb dX1_areLetters_23 (by decide) ?_
          rw [← zQ]
          refine nv_as (y := nB false) rfl ?_
          exact nv_endz zC zr zk () hX (by apply nB_e0; simp only [decide_eq_false_iff_not]; exact fun z => absurd ((z k (by omega)).symm.trans c20) (by decide)) (by omega) (by omega) dX1_areLetters_24
  exact L2 _ 0 (by omega) lt_0 (Nat.lt_succ_self _) _ _ _ hX (lv_sub hl [0, 1, 2, 3] rfl)

set_option maxHeartbeats 4000000 in
theorem mm_heardBy  (any_ : Bool) (hok : mOK words kind longOf letters) (hlk : ∀ j, looked j < 3) (hll : lkL ≤ 60) : nMt l D dA a0 yX1_heardBy cX1_heardBy 4 (some .int) 4 85 0 0 nvG0 [.ref (a 0), .int (nB any_)] (mW dA a fault trace sorts shL cells words said kind longOf letters saidRow at_ rdW rKind rLong rLet looked lkL next heard far ways waysT free freeT rdgs rWord rMany rStands rRow ex) (nQi D a0 (fun (r : Int32) (_ : Unit) => r = oI (fstUp (fun k => (any_ && decide (0 < orUp (fun j => hbW kind longOf letters looked words (j + 1)) (k + 1))) || decide (orUp (fun j => hbW kind longOf letters looked words (j + 1)) (k + 1) = 2 ^ words - 1)) lkL)) (fun (_ : Unit) => mW dA a fault trace sorts shL cells words said kind longOf letters saidRow at_ rdW rKind rLong rLet looked lkL next heard far ways waysT free freeT rdgs rWord rMany rStands rRow ex)) := by
  refine nv_start (by decide) (Nat.le_of_ble_eq_true rfl) fun zp ze s zm zlo zme zcd ls zC zr zk znm hX zG hl => ?_
  have zx := zC.1
  have zb := zC.2.1
  generalize zargs : ([.ref (a 0), .int (nB any_)] : List Value).toArray = zar at zC ⊢
  generalize zQ : MQ zlo _ zar s _ _ _ = Q
  have hX : nvS D a0 (mW dA a fault trace sorts shL cells words said kind longOf letters saidRow at_ rdW rKind rLong rLet looked lkL next heard far ways waysT free freeT rdgs rWord rMany rStands rRow ex) s.heap s.heap [] := hX
  have hl : lv_has ls 4 [(0, .ref (a 0)), (1, .int (nB any_))] := hl
  obtain ⟨H, zH⟩ : ∃ H, H = s.heap := ⟨_, rfl⟩
  have hX : nvS D a0 (mW dA a fault trace sorts shL cells words said kind longOf letters saidRow at_ rdW rKind rLong rLet looked lkL next heard far ways waysT free freeT rdgs rWord rMany rStands rRow ex) s.heap H [] := by rw [zH]; exact hX
  rw [show W zp l ze (rm_ 4 85 0 0) s zm zar zlo zme zcd s.heap [] 0 0 Q = W zp l ze (rm_ 4 85 0 0) s zm zar zlo zme zcd H [] 0 0 Q by rw [zH]]
  generalize ([] : List Loc) = locs at hX ⊢
  have hw4 := hok.1
  have hlt := hok.2.2.2
  refine lv_iconst (v := nI 0) zx zb dX1_heardBy_0 (by decide) ?_
  refine lv_istore_n (lv' := [(2, .int (nI 0)), (0, .ref (a 0)), (1, .int (nB any_))]) zx zb dX1_heardBy_1 rfl hl (by decide) rfl (fun ls hl => ?_)
  refine lv_iconst (v := nI 1) zx zb dX1_heardBy_2 (by decide) ?_
  refine lv_istore_n (lv' := [(3, .int (nI 1)), (2, .int (nI 0)), (0, .ref (a 0)), (1, .int (nB any_))]) zx zb dX1_heardBy_3 rfl hl (by decide) rfl (fun ls hl => ?_)
  have L4 : ∀ (zn : Nat) (k : Nat) (hk : k ≤ lkL) (hno : fstUp (fun k => (any_ && decide (0 < orUp (fun j => hbW kind longOf letters looked words (j + 1)) (k + 1))) || decide (orUp (fun j => hbW kind longOf letters looked words (j + 1)) (k + 1) = 2 ^ words - 1)) k = none), lkL - k < zn → ∀ (H : Heap) (locs : List Loc) (ls : Array Slot), nvS D a0 (mW dA a fault trace sorts shL cells words said kind longOf letters saidRow at_ rdW rKind rLong rLet looked lkL next heard far ways waysT free freeT rdgs rWord rMany rStands rRow ex) s.heap H locs → lv_has ls 4 [(3, .int (nI (k + 1))), (2, .int (nI (orUp (fun j => hbW kind longOf letters looked words (j + 1)) (k)))), (0, .ref (a 0)), (1, .int (nB any_))] → W zp l ze (rm_ 4 85 0 0) s zm zar zlo zme zcd H locs 0 0 Q (F0 zm 4 ls []) := by
    intro zn
    induction zn with
    | zero => intro k hk hno zf; exact absurd zf (Nat.not_lt_zero _)
    | succ zn ih4 =>
      intro k hk hno zf H locs ls hX hl
      refine lv_iload_n zx zb dX1_heardBy_4 rfl (lv_at hl 0 rfl) ?_
      refine lv_aload_n zx zb dX1_heardBy_5 rfl (lv_at hl 2 rfl) ?_
      refine nv_get zC hX in_X1 0 rfl rfl 17 (by decide) q1209 (fun _ h => h) rfl dX1_heardBy_6 ?_
      refine nv_icmp_gt (tgt := 48) zx zb (by omega) (by omega) dX1_heardBy_9 (by decide) (fun c9 => ?_) (fun c9 => ?_)
      · refine lv_bipush (v := (-9)) zx zb dX1_heardBy_48 (by decide) ?_
        rw [← zQ]
        exact nv_endi zC zr zk () hX (by rw [show lkL = k by omega, hno]; rfl) (by omega) (by omega) dX1_heardBy_50
      · refine lv_iload_n zx zb dX1_heardBy_12 rfl (lv_at hl 1 rfl) ?_
        refine lv_aload_n zx zb dX1_heardBy_13 rfl (lv_at hl 2 rfl) ?_
        refine lv_iload_n zx zb dX1_heardBy_14 rfl (lv_at hl 0 rfl) ?_
        refine nv_ki zC hX (nv_rV (n := 1) (As := [.int (nI (k + 1))]) (rest := [.int (nI (orUp (fun j => hbW kind longOf letters looked words (j + 1)) (k)))]) (q0 := 0) zC hX (mm_heardBehind (b := k + 1) (hok := (by first | assumption | omega)) (hlk := (by first | assumption | omega)) (hb := (by first | assumption | omega))) nvGb0 (fun _ _ _ => trivial) rfl rfl q1352 q1354 qs40 q63 q1355 (by decide +kernel) rfl ⟨Nat.le_of_ble_eq_true rfl, Nat.le_of_ble_eq_true rfl⟩ hl.1 (Nat.le_of_ble_eq_true rfl) dX1_heardBy_15 ⟨by first | exact Nat.le_of_ble_eq_true rfl | omega, by first | exact Nat.le_of_ble_eq_true rfl | omega⟩) (fun r u H locs hp hX => ?_)
        have hr_ : r = nI (hbW kind longOf letters looked words (k + 1)) := hp
        subst hr_
        have hX : nvS D a0 (mW dA a fault trace sorts shL cells words said kind longOf letters saidRow at_ rdW rKind rLong rLet looked lkL next heard far ways waysT free freeT rdgs rWord rMany rStands rRow ex) s.heap H locs := hX
        refine W.cs (cells' := 0) (slots' := 0) (Nat.add_zero _) (Nat.add_zero _) ?_
        refine nv_ior zx zb dX1_heardBy_18 ?_
        refine nv_as (show nI ((orUp (fun j => hbW kind longOf letters looked words (j + 1)) (k)) ||| (hbW kind longOf letters looked words (k + 1))) = nI (orUp (fun j => hbW kind longOf letters looked words (j + 1)) (k + 1)) from (congrArg nI (Eq.refl _))) ?_
        refine lv_istore_n (lv' := [(2, .int (nI (orUp (fun j => hbW kind longOf letters looked words (j + 1)) (k + 1)))), (3, .int (nI (k + 1))), (0, .ref (a 0)), (1, .int (nB any_))]) zx zb dX1_heardBy_19 rfl hl (by decide) rfl (fun ls hl => ?_)
        refine lv_iload_n zx zb dX1_heardBy_20 rfl (lv_at hl 3 rfl) ?_
        refine nv_if_eqB (tgt := 28) zx zb dX1_heardBy_21 (by decide) (fun c21 => ?_) (fun c21 => ?_)
        · refine lv_iload_n zx zb dX1_heardBy_28 rfl (lv_at hl 0 rfl) ?_
          refine lv_iconst (v := nI 1) zx zb dX1_heardBy_29 (by decide) ?_
          refine lv_aload_n zx zb dX1_heardBy_30 rfl (lv_at hl 2 rfl) ?_
          refine nv_get zC hX in_X1 0 rfl rfl 5 (by decide) q1197 (fun _ h => h) rfl dX1_heardBy_31 ?_
          refine nv_ishl1 zx zb (by omega) dX1_heardBy_34 ?_
          refine lv_iconst (v := nI 1) zx zb dX1_heardBy_35 (by decide) ?_
          refine nv_isub zx zb Nat.one_le_two_pow dX1_heardBy_36 ?_
          refine nv_icmp_ne (tgt := 42) zx zb (Nat.lt_of_lt_of_le (orUp_lt (m := words) (fun _ => bitsUp_lt _ _) _) (Nat.le_trans (pw4 hw4) (by decide))) (Nat.lt_of_le_of_lt (Nat.sub_le _ _) (Nat.lt_of_le_of_lt (pw4 hw4) (by decide))) dX1_heardBy_37 (by decide) (fun c37 => ?_) (fun c37 => ?_)
          · refine lv_iinc (v := nI (k + 1 + 1)) (lv' := [(3, .int (nI (k + 1 + 1))), (2, .int (nI (orUp (fun j => hbW kind longOf letters looked words (j + 1)) (k + 1)))), (0, .ref (a 0)), (1, .int (nB any_))]) zx zb dX1_heardBy_42 hl (k := 1) rfl (nI_1 _) (by decide) rfl (fun ls hl => ?_)
            refine lv_goto (tgt := 4) zx zb dX1_heardBy_45 (by decide) ?_
            exact ih4 (k + 1) (by omega) (fstUp_n hno (by simp [c21, c37])) (by omega) _ _ _ hX (lv_sub hl [0, 1, 2, 3] rfl)
          · refine lv_iload_n zx zb dX1_heardBy_40 rfl (lv_at hl 1 rfl) ?_
            rw [← zQ]
            exact nv_endi zC zr zk () hX (by rw [fstUp_m (fstUp_t hno (by simp [c37])) (show k + 1 ≤ lkL by omega)]; rfl) (by omega) (by omega) dX1_heardBy_41
        · refine lv_iload_n zx zb dX1_heardBy_24 rfl (lv_at hl 0 rfl) ?_
          refine nv_if_ne (tgt := 40) zx zb (Nat.lt_of_lt_of_le (orUp_lt (m := words) (fun _ => bitsUp_lt _ _) _) (Nat.le_trans (pw4 hw4) (by decide))) dX1_heardBy_25 (by decide) (fun c25 => ?_) (fun c25 => ?_)
          · refine lv_iload_n zx zb dX1_heardBy_40 rfl (lv_at hl 1 rfl) ?_
            rw [← zQ]
            exact nv_endi zC zr zk () hX (by rw [fstUp_m (fstUp_t hno (by simp [c21, c25])) (show k + 1 ≤ lkL by omega)]; rfl) (by omega) (by omega) dX1_heardBy_41
          · refine lv_iload_n zx zb dX1_heardBy_28 rfl (lv_at hl 0 rfl) ?_
            refine lv_iconst (v := nI 1) zx zb dX1_heardBy_29 (by decide) ?_
            refine lv_aload_n zx zb dX1_heardBy_30 rfl (lv_at hl 2 rfl) ?_
            refine nv_get zC hX in_X1 0 rfl rfl 5 (by decide) q1197 (fun _ h => h) rfl dX1_heardBy_31 ?_
            refine nv_ishl1 zx zb (by omega) dX1_heardBy_34 ?_
            refine lv_iconst (v := nI 1) zx zb dX1_heardBy_35 (by decide) ?_
            refine nv_isub zx zb Nat.one_le_two_pow dX1_heardBy_36 ?_
            refine nv_icmp_ne (tgt := 42) zx zb (Nat.lt_of_lt_of_le (orUp_lt (m := words) (fun _ => bitsUp_lt _ _) _) (Nat.le_trans (pw4 hw4) (by decide))) (Nat.lt_of_le_of_lt (Nat.sub_le _ _) (Nat.lt_of_le_of_lt (pw4 hw4) (by decide))) dX1_heardBy_37 (by decide) (fun c37 => ?_) (fun c37 => ?_)
            · refine lv_iinc (v := nI (k + 1 + 1)) (lv' := [(3, .int (nI (k + 1 + 1))), (2, .int (nI (orUp (fun j => hbW kind longOf letters looked words (j + 1)) (k + 1)))), (0, .ref (a 0)), (1, .int (nB any_))]) zx zb dX1_heardBy_42 hl (k := 1) rfl (nI_1 _) (by decide) rfl (fun ls hl => ?_)
              refine lv_goto (tgt := 4) zx zb dX1_heardBy_45 (by decide) ?_
              exact ih4 (k + 1) (by omega) (fstUp_n hno (by have z := c37; simp [c25] at z ⊢; exact z)) (by omega) _ _ _ hX (lv_sub hl [0, 1, 2, 3] rfl)
            · refine lv_iload_n zx zb dX1_heardBy_40 rfl (lv_at hl 1 rfl) ?_
              rw [← zQ]
              exact nv_endi zC zr zk () hX (by rw [fstUp_m (fstUp_t hno (by simp [c37])) (show k + 1 ≤ lkL by omega)]; rfl) (by omega) (by omega) dX1_heardBy_41
  exact L4 _ 0 (by omega) rfl (Nat.lt_succ_self _) _ _ _ hX (lv_sub hl [0, 1, 2, 3] rfl)

set_option maxHeartbeats 4000000 in
theorem mm_allWords   (hw4 : words ≤ 4) : nMt l D dA a0 yX1_allWords cX1_allWords 1 (some .int) 1 12 0 0 nvG0 [.ref (a 0)] (mW dA a fault trace sorts shL cells words said kind longOf letters saidRow at_ rdW rKind rLong rLet looked lkL next heard far ways waysT free freeT rdgs rWord rMany rStands rRow ex) (nQi D a0 (fun (r : Int32) (_ : Unit) => r = nI (2 ^ words - 1)) (fun (_ : Unit) => mW dA a fault trace sorts shL cells words said kind longOf letters saidRow at_ rdW rKind rLong rLet looked lkL next heard far ways waysT free freeT rdgs rWord rMany rStands rRow ex)) := by
  refine nv_start (by decide) (Nat.le_of_ble_eq_true rfl) fun zp ze s zm zlo zme zcd ls zC zr zk znm hX zG hl => ?_
  have zx := zC.1
  have zb := zC.2.1
  generalize zargs : ([.ref (a 0)] : List Value).toArray = zar at zC ⊢
  generalize zQ : MQ zlo _ zar s _ _ _ = Q
  have hX : nvS D a0 (mW dA a fault trace sorts shL cells words said kind longOf letters saidRow at_ rdW rKind rLong rLet looked lkL next heard far ways waysT free freeT rdgs rWord rMany rStands rRow ex) s.heap s.heap [] := hX
  have hl : lv_has ls 1 [(0, .ref (a 0))] := hl
  obtain ⟨H, zH⟩ : ∃ H, H = s.heap := ⟨_, rfl⟩
  have hX : nvS D a0 (mW dA a fault trace sorts shL cells words said kind longOf letters saidRow at_ rdW rKind rLong rLet looked lkL next heard far ways waysT free freeT rdgs rWord rMany rStands rRow ex) s.heap H [] := by rw [zH]; exact hX
  rw [show W zp l ze (rm_ 1 12 0 0) s zm zar zlo zme zcd s.heap [] 0 0 Q = W zp l ze (rm_ 1 12 0 0) s zm zar zlo zme zcd H [] 0 0 Q by rw [zH]]
  generalize ([] : List Loc) = locs at hX ⊢
  refine lv_iconst (v := nI 1) zx zb dX1_allWords_0 (by decide) ?_
  refine lv_aload_n zx zb dX1_allWords_1 rfl (lv_at hl 0 rfl) ?_
  refine nv_get zC hX in_X1 0 rfl rfl 5 (by decide) q1197 (fun _ h => h) rfl dX1_allWords_2 ?_
  refine nv_ishl1 zx zb (by omega) dX1_allWords_5 ?_
  refine lv_iconst (v := nI 1) zx zb dX1_allWords_6 (by decide) ?_
  refine nv_isub zx zb Nat.one_le_two_pow dX1_allWords_7 ?_
  rw [← zQ]
  exact nv_endi zC zr zk () hX (by first | rfl | trivial) (by omega) (by omega) dX1_allWords_8

set_option maxHeartbeats 4000000 in
theorem mm_endOf  (b : Nat) (hlk : ∀ j, looked j < 3) (hb : b ≤ 60) : nMt l D dA a0 yX1_endOf cX1_endOf 6 (some .int) 1 12 0 0 nvG0 [.ref (a 0), .int (nI b)] (mW dA a fault trace sorts shL cells words said kind longOf letters saidRow at_ rdW rKind rLong rLet looked lkL next heard far ways waysT free freeT rdgs rWord rMany rStands rRow ex) (nQi D a0 (fun (r : Int32) (_ : Unit) => r = nI (endM looked b)) (fun (_ : Unit) => mW dA a fault trace sorts shL cells words said kind longOf letters saidRow at_ rdW rKind rLong rLet looked lkL next heard far ways waysT free freeT rdgs rWord rMany rStands rRow ex)) := by
  refine nv_start (by decide) (Nat.le_of_ble_eq_true rfl) fun zp ze s zm zlo zme zcd ls zC zr zk znm hX zG hl => ?_
  have zx := zC.1
  have zb := zC.2.1
  generalize zargs : ([.ref (a 0), .int (nI b)] : List Value).toArray = zar at zC ⊢
  generalize zQ : MQ zlo _ zar s _ _ _ = Q
  have hX : nvS D a0 (mW dA a fault trace sorts shL cells words said kind longOf letters saidRow at_ rdW rKind rLong rLet looked lkL next heard far ways waysT free freeT rdgs rWord rMany rStands rRow ex) s.heap s.heap [] := hX
  have hl : lv_has ls 6 [(0, .ref (a 0)), (1, .int (nI b))] := hl
  obtain ⟨H, zH⟩ : ∃ H, H = s.heap := ⟨_, rfl⟩
  have hX : nvS D a0 (mW dA a fault trace sorts shL cells words said kind longOf letters saidRow at_ rdW rKind rLong rLet looked lkL next heard far ways waysT free freeT rdgs rWord rMany rStands rRow ex) s.heap H [] := by rw [zH]; exact hX
  rw [show W zp l ze (rm_ 1 12 0 0) s zm zar zlo zme zcd s.heap [] 0 0 Q = W zp l ze (rm_ 1 12 0 0) s zm zar zlo zme zcd H [] 0 0 Q by rw [zH]]
  generalize ([] : List Loc) = locs at hX ⊢
  refine lv_iload_n zx zb dX1_endOf_0 rfl (lv_at hl 1 rfl) ?_
  refine lv_iconst (v := nI 3) zx zb dX1_endOf_1 (by decide) ?_
  have J10 : ∀   (H : Heap) (locs : List Loc) (ls : Array Slot), nvS D a0 (mW dA a fault trace sorts shL cells words said kind longOf letters saidRow at_ rdW rKind rLong rLet looked lkL next heard far ways waysT free freeT rdgs rWord rMany rStands rRow ex) s.heap H locs → lv_has ls 6 [(0, .ref (a 0)), (1, .int (nI b))] → W zp l ze (rm_ 1 12 0 0) s zm zar zlo zme zcd H locs 0 0 Q (F0 zm 10 ls [.int (nI (min b 3))]) := by
    intro   H locs ls hX hl
    refine lv_istore_n (lv' := [(2, .int (nI (min b 3))), (0, .ref (a 0)), (1, .int (nI b))]) zx zb dX1_endOf_10 rfl hl (by decide) rfl (fun ls hl => ?_)
    have J39 : ∀   (H : Heap) (locs : List Loc) (ls : Array Slot), nvS D a0 (mW dA a fault trace sorts shL cells words said kind longOf letters saidRow at_ rdW rKind rLong rLet looked lkL next heard far ways waysT free freeT rdgs rWord rMany rStands rRow ex) s.heap H locs → lv_has ls 6 [(2, .int (nI (min b 3))), (0, .ref (a 0)), (1, .int (nI b))] → W zp l ze (rm_ 1 12 0 0) s zm zar zlo zme zcd H locs 0 0 Q (F0 zm 39 ls [.int (nI (blw (min b 3)))]) := by
      intro   H locs ls hX hl
      refine lv_istore_n (lv' := [(3, .int (nI (blw (min b 3)))), (2, .int (nI (min b 3))), (0, .ref (a 0)), (1, .int (nI b))]) zx zb dX1_endOf_39 rfl hl (by decide) rfl (fun ls hl => ?_)
      refine lv_iconst (v := nI 0) zx zb dX1_endOf_40 (by decide) ?_
      refine lv_istore (lv' := [(4, .int (nI 0)), (3, .int (nI (blw (min b 3)))), (2, .int (nI (min b 3))), (0, .ref (a 0)), (1, .int (nI b))]) zx zb dX1_endOf_41 hl (by decide) rfl (fun ls hl => ?_)
      refine lv_iload_n zx zb dX1_endOf_43 rfl (lv_at hl 4 rfl) ?_
      refine lv_iload_n zx zb dX1_endOf_44 rfl (lv_at hl 2 rfl) ?_
      refine nv_isub zx zb (by omega) dX1_endOf_45 ?_
      refine lv_istore (lv' := [(5, .int (nI (b - (min b 3)))), (4, .int (nI 0)), (3, .int (nI (blw (min b 3)))), (2, .int (nI (min b 3))), (0, .ref (a 0)), (1, .int (nI b))]) zx zb dX1_endOf_46 hl (by decide) rfl (fun ls hl => ?_)
      have L48 : ∀ (zn : Nat) (k : Nat) (hk : k ≤ min b 3), min b 3 - k < zn → ∀ (H : Heap) (locs : List Loc) (ls : Array Slot), nvS D a0 (mW dA a fault trace sorts shL cells words said kind longOf letters saidRow at_ rdW rKind rLong rLet looked lkL next heard far ways waysT free freeT rdgs rWord rMany rStands rRow ex) s.heap H locs → lv_has ls 6 [(5, .int (nI (b - min b 3 + k))), (4, .int (nI (dig looked (b - min b 3) k))), (3, .int (nI (blw (min b 3)))), (2, .int (nI (min b 3))), (0, .ref (a 0)), (1, .int (nI b))] → W zp l ze (rm_ 1 12 0 0) s zm zar zlo zme zcd H locs 0 0 Q (F0 zm 48 ls []) := by
        intro zn
        induction zn with
        | zero => intro k hk zf; exact absurd zf (Nat.not_lt_zero _)
        | succ zn ih48 =>
          intro k hk zf H locs ls hX hl
          refine lv_iload zx zb dX1_endOf_48 (lv_at hl 0 rfl) ?_
          refine lv_iload_n zx zb dX1_endOf_50 rfl (lv_at hl 5 rfl) ?_
          refine nv_icmp_ge (tgt := 74) zx zb (by omega) (by omega) dX1_endOf_51 (by decide) (fun c51 => ?_) (fun c51 => ?_)
          · refine lv_iload_n zx zb dX1_endOf_74 rfl (lv_at hl 2 rfl) ?_
            refine lv_iload zx zb dX1_endOf_75 (lv_at hl 1 rfl) ?_
            refine nv_iadd zx zb dX1_endOf_77 ?_
            rw [← zQ]
            exact nv_endi zC zr zk () hX (by unfold endM; rw [show min b 3 = k by omega]) (by omega) (by omega) dX1_endOf_78
          · refine lv_iconst (v := nI 3) zx zb dX1_endOf_54 (by decide) ?_
            refine lv_iload zx zb dX1_endOf_55 (lv_at hl 1 rfl) ?_
            refine nv_imul zx zb dX1_endOf_57 ?_
            refine lv_aload_n zx zb dX1_endOf_58 rfl (lv_at hl 4 rfl) ?_
            refine nv_get zC hX in_X1 0 rfl rfl 16 (by decide) q1208 (fun _ h => h) rfl dX1_endOf_59 ?_
            refine lv_iload zx zb dX1_endOf_62 (lv_at hl 0 rfl) ?_
            refine nv_iald (v := nI (looked (b - min b 3 + k))) zC hX 11 rfl (by omega) (by decide) rfl dX1_endOf_64 ?_
            refine nv_iadd zx zb dX1_endOf_65 ?_
            refine nv_as (show nI ((3 * (dig looked (b - min b 3) k)) + (looked (b - min b 3 + k))) = nI (dig looked (b - min b 3) (k + 1)) from (congrArg nI (Eq.refl _))) ?_
            refine lv_istore (lv' := [(4, .int (nI (dig looked (b - min b 3) (k + 1)))), (5, .int (nI (b - min b 3 + k))), (3, .int (nI (blw (min b 3)))), (2, .int (nI (min b 3))), (0, .ref (a 0)), (1, .int (nI b))]) zx zb dX1_endOf_66 hl (by decide) rfl (fun ls hl => ?_)
            refine lv_iinc (v := nI (b - min b 3 + k + 1)) (lv' := [(5, .int (nI (b - min b 3 + k + 1))), (4, .int (nI (dig looked (b - min b 3) (k + 1)))), (3, .int (nI (blw (min b 3)))), (2, .int (nI (min b 3))), (0, .ref (a 0)), (1, .int (nI b))]) zx zb dX1_endOf_68 hl (k := 1) rfl (nI_1 _) (by decide) rfl (fun ls hl => ?_)
            refine lv_goto (tgt := 48) zx zb dX1_endOf_71 (by decide) ?_
            exact ih48 (k + 1) (by omega) (by omega) _ _ _ hX (lv_sub hl [0, 1, 2, 3, 4, 5] rfl)
      exact L48 _ 0 (by omega) (Nat.lt_succ_self _) _ _ _ hX (lv_sub hl [0, 1, 2, 3, 4, 5] rfl)
    refine lv_iload_n zx zb dX1_endOf_11 rfl (lv_at hl 0 rfl) ?_
    refine nv_if_ne (tgt := 19) zx zb (by omega) dX1_endOf_12 (by decide) (fun c12 => ?_) (fun c12 => ?_)
    · refine lv_iload_n zx zb dX1_endOf_19 rfl (lv_at hl 0 rfl) ?_
      refine lv_iconst (v := nI 1) zx zb dX1_endOf_20 (by decide) ?_
      refine nv_icmp_ne (tgt := 28) zx zb (by omega) (by omega) dX1_endOf_21 (by decide) (fun c21 => ?_) (fun c21 => ?_)
      · refine lv_iload_n zx zb dX1_endOf_28 rfl (lv_at hl 0 rfl) ?_
        refine lv_iconst (v := nI 2) zx zb dX1_endOf_29 (by decide) ?_
        refine nv_icmp_ne (tgt := 37) zx zb (by omega) (by omega) dX1_endOf_30 (by decide) (fun c30 => ?_) (fun c30 => ?_)
        · refine lv_bipush (v := nI 13) zx zb dX1_endOf_37 (by decide) ?_
          refine nv_as (show nI 13 = nI (blw (min b 3)) from (congrArg nI (by simp [blw, c21, c30, show ¬ (b = 0) by omega]))) ?_
          exact J39   _ _ _ hX (lv_sub hl [0, 1, 2] rfl)
        · refine lv_iconst (v := nI 4) zx zb dX1_endOf_33 (by decide) ?_
          refine lv_goto (tgt := 39) zx zb dX1_endOf_34 (by decide) ?_
          refine nv_as (show nI 4 = nI (blw (min b 3)) from (congrArg nI (by simp [blw, c12, c21, c30]))) ?_
          exact J39   _ _ _ hX (lv_sub hl [0, 1, 2] rfl)
      · refine lv_iconst (v := nI 1) zx zb dX1_endOf_24 (by decide) ?_
        refine lv_goto (tgt := 39) zx zb dX1_endOf_25 (by decide) ?_
        refine nv_as (show nI 1 = nI (blw (min b 3)) from (congrArg nI (by simp [blw, c12, c21]))) ?_
        exact J39   _ _ _ hX (lv_sub hl [0, 1, 2] rfl)
    · refine lv_iconst (v := nI 0) zx zb dX1_endOf_15 (by decide) ?_
      refine lv_goto (tgt := 39) zx zb dX1_endOf_16 (by decide) ?_
      refine nv_as (show nI 0 = nI (blw (min b 3)) from (congrArg nI (by simp [blw, c12]))) ?_
      exact J39   _ _ _ hX (lv_sub hl [0, 1, 2] rfl)
  refine nv_icmp_ge (tgt := 9) zx zb (by omega) (by omega) dX1_endOf_2 (by decide) (fun c2 => ?_) (fun c2 => ?_)
  · refine lv_iconst (v := nI 3) zx zb dX1_endOf_9 (by decide) ?_
    refine nv_as (show nI 3 = nI (min b 3) from (congrArg nI (show _ = _ by omega))) ?_
    exact J10   _ _ _ hX (lv_sub hl [0, 1] rfl)
  · refine lv_iload_n zx zb dX1_endOf_5 rfl (lv_at hl 1 rfl) ?_
    refine lv_goto (tgt := 10) zx zb dX1_endOf_6 (by decide) ?_
    refine nv_as (show nI b = nI (min b 3) from (congrArg nI (show _ = _ by omega))) ?_
    exact J10   _ _ _ hX (lv_sub hl [0, 1] rfl)

set_option maxHeartbeats 4000000 in
theorem mm_findNext   (hok : mOK words kind longOf letters) (hlk : ∀ j, looked j < 3) : nMt l D dA a0 yX1_findNext cX1_findNext 5 (none) 4 85 0 0 nvG0 [.ref (a 0)] (mW dA a fault trace sorts shL cells words said kind longOf letters saidRow at_ rdW rKind rLong rLet looked lkL next heard far ways waysT free freeT rdgs rWord rMany rStands rRow ex) (nQv D a0 (fun (u : (Nat → Nat) × (Nat → Nat) × (Nat → Nat)) => nxOK u.1 u.2.1 kind longOf letters words ∧ (∀ j, u.2.2 j < 3)) (fun (u : (Nat → Nat) × (Nat → Nat) × (Nat → Nat)) => mW dA a fault trace sorts shL cells words said kind longOf letters saidRow at_ rdW rKind rLong rLet u.2.2 lkL u.1 u.2.1 far ways waysT free freeT rdgs rWord rMany rStands rRow ex)) := by
  refine nv_start (by decide) (Nat.le_of_ble_eq_true rfl) fun zp ze s zm zlo zme zcd ls zC zr zk znm hX zG hl => ?_
  have zx := zC.1
  have zb := zC.2.1
  generalize zargs : ([.ref (a 0)] : List Value).toArray = zar at zC ⊢
  generalize zQ : MQ zlo _ zar s _ _ _ = Q
  have hX : nvS D a0 (mW dA a fault trace sorts shL cells words said kind longOf letters saidRow at_ rdW rKind rLong rLet looked lkL next heard far ways waysT free freeT rdgs rWord rMany rStands rRow ex) s.heap s.heap [] := hX
  have hl : lv_has ls 5 [(0, .ref (a 0))] := hl
  obtain ⟨H, zH⟩ : ∃ H, H = s.heap := ⟨_, rfl⟩
  have hX : nvS D a0 (mW dA a fault trace sorts shL cells words said kind longOf letters saidRow at_ rdW rKind rLong rLet looked lkL next heard far ways waysT free freeT rdgs rWord rMany rStands rRow ex) s.heap H [] := by rw [zH]; exact hX
  rw [show W zp l ze (rm_ 4 85 0 0) s zm zar zlo zme zcd s.heap [] 0 0 Q = W zp l ze (rm_ 4 85 0 0) s zm zar zlo zme zcd H [] 0 0 Q by rw [zH]]
  generalize ([] : List Loc) = locs at hX ⊢
  have hw4 := hok.1
  have hlt := hok.2.2.2
  refine lv_iconst (v := nI 0) zx zb dX1_findNext_0 (by decide) ?_
  refine lv_istore_n (lv' := [(1, .int (nI 0)), (0, .ref (a 0))]) zx zb dX1_findNext_1 rfl hl (by decide) rfl (fun ls hl => ?_)
  have L2 : ∀ (zn : Nat) (nx hb lk : Nat → Nat) (e : Nat) (he : e ≤ 40) (h1 : ∀ e' c', (e' < e ∨ (e' = e ∧ c' < 0)) → c' < 3 → nx (3 * e' + c') = nxM e' c') (h2 : ∀ e' c', (e' < e ∨ (e' = e ∧ c' < 0)) → c' < 3 → hb (3 * e' + c') = (hbM kind longOf letters words) e' c') (h3 : ∀ j, lk j < 3), 40 - e < zn → ∀ (H : Heap) (locs : List Loc) (ls : Array Slot), nvS D a0 (mW dA a fault trace sorts shL cells words said kind longOf letters saidRow at_ rdW rKind rLong rLet lk lkL nx hb far ways waysT free freeT rdgs rWord rMany rStands rRow ex) s.heap H locs → lv_has ls 5 [(1, .int (nI e)), (0, .ref (a 0))] → W zp l ze (rm_ 4 85 0 0) s zm zar zlo zme zcd H locs 0 0 Q (F0 zm 2 ls []) := by
    intro zn
    induction zn with
    | zero => intro nx hb lk e he h1 h2 h3 zf; exact absurd zf (Nat.not_lt_zero _)
    | succ zn ih2 =>
      intro nx hb lk e he h1 h2 h3 zf H locs ls hX hl
      refine lv_iload_n zx zb dX1_findNext_2 rfl (lv_at hl 0 rfl) ?_
      refine lv_bipush (v := nI 40) zx zb dX1_findNext_3 (by decide) ?_
      refine nv_icmp_ge (tgt := 163) zx zb (by omega) (by omega) dX1_findNext_5 (by decide) (fun c5 => ?_) (fun c5 => ?_)
      · rw [← zQ]
        exact nv_endv zC zr zk (nx, hb, lk) hX (by (try dsimp only); exact ⟨⟨fun e' c' h h' => h1 e' c' (by omega) h', fun e' c' h h' => h2 e' c' (by omega) h'⟩, h3⟩) (by omega) (by omega) dX1_findNext_163
      · have hme := mnE_le e
        have J36 : ∀   (H : Heap) (locs : List Loc) (ls : Array Slot), nvS D a0 (mW dA a fault trace sorts shL cells words said kind longOf letters saidRow at_ rdW rKind rLong rLet lk lkL nx hb far ways waysT free freeT rdgs rWord rMany rStands rRow ex) s.heap H locs → lv_has ls 5 [(1, .int (nI e)), (0, .ref (a 0))] → W zp l ze (rm_ 4 85 0 0) s zm zar zlo zme zcd H locs 0 0 Q (F0 zm 36 ls [.int (nI (mnE e))]) := by
          intro   H locs ls hX hl
          refine lv_istore_n (lv' := [(2, .int (nI (mnE e))), (1, .int (nI e)), (0, .ref (a 0))]) zx zb dX1_findNext_36 rfl hl (by decide) rfl (fun ls hl => ?_)
          refine lv_iload_n zx zb dX1_findNext_37 rfl (lv_at hl 1 rfl) ?_
          have J66 : ∀   (H : Heap) (locs : List Loc) (ls : Array Slot), nvS D a0 (mW dA a fault trace sorts shL cells words said kind longOf letters saidRow at_ rdW rKind rLong rLet lk lkL nx hb far ways waysT free freeT rdgs rWord rMany rStands rRow ex) s.heap H locs → lv_has ls 5 [(2, .int (nI (mnE e))), (1, .int (nI e)), (0, .ref (a 0))] → W zp l ze (rm_ 4 85 0 0) s zm zar zlo zme zcd H locs 0 0 Q (F0 zm 66 ls [.int (nI (blw (mnE e))), .int (nI e)]) := by
            intro   H locs ls hX hl
            refine nv_isub zx zb (blw_le e) dX1_findNext_66 ?_
            refine nv_as (show nI (e - (blw (mnE e))) = nI ((e - blw (mnE e)) / 3 ^ (mnE e - mnE e)) from (congrArg nI (by rw [Nat.sub_self, Nat.pow_zero, Nat.div_one]))) ?_
            refine lv_istore_n (lv' := [(3, .int (nI ((e - blw (mnE e)) / 3 ^ (mnE e - mnE e)))), (2, .int (nI (mnE e))), (1, .int (nI e)), (0, .ref (a 0))]) zx zb dX1_findNext_67 rfl hl (by decide) rfl (fun ls hl => ?_)
            refine lv_iload_n zx zb dX1_findNext_68 rfl (lv_at hl 1 rfl) ?_
            refine lv_iconst (v := nI 1) zx zb dX1_findNext_69 (by decide) ?_
            refine lv_isub zx zb dX1_findNext_70 ?_
            refine lv_istore (lv' := [(4, .int ((nI (mnE e)) - (nI 1))), (3, .int (nI ((e - blw (mnE e)) / 3 ^ (mnE e - mnE e)))), (2, .int (nI (mnE e))), (1, .int (nI e)), (0, .ref (a 0))]) zx zb dX1_findNext_71 hl (by decide) rfl (fun ls hl => ?_)
            have L73 : ∀ (zn : Nat) (lk : Nat → Nat) (m : Nat) (hm : m ≤ mnE e) (hdg : ∀ k, m ≤ k → k < mnE e → lk k = (e - blw (mnE e)) / 3 ^ (mnE e - 1 - k) % 3) (h3 : ∀ j, lk j < 3), m < zn → ∀ (H : Heap) (locs : List Loc) (ls : Array Slot), nvS D a0 (mW dA a fault trace sorts shL cells words said kind longOf letters saidRow at_ rdW rKind rLong rLet lk lkL nx hb far ways waysT free freeT rdgs rWord rMany rStands rRow ex) s.heap H locs → lv_has ls 5 [(4, .int (nI m - nI 1)), (3, .int (nI ((e - blw (mnE e)) / 3 ^ (mnE e - m)))), (2, .int (nI (mnE e))), (1, .int (nI e)), (0, .ref (a 0))] → W zp l ze (rm_ 4 85 0 0) s zm zar zlo zme zcd H locs 0 0 Q (F0 zm 73 ls []) := by
              intro zn
              induction zn with
              | zero => intro lk m hm hdg h3 zf; exact absurd zf (Nat.not_lt_zero _)
              | succ zn ih73 =>
                intro lk m hm hdg h3 zf H locs ls hX hl
                refine lv_iload zx zb dX1_findNext_73 (lv_at hl 0 rfl) ?_
                rcases m with _ | m
                · refine lv_if_lt (x := nI 0 - nI 1) (tgt := 98) zx zb dX1_findNext_75 (by decide) (fun c75 => ?_) (fun c75 => ?_)
                  · refine lv_iconst (v := nI 0) zx zb dX1_findNext_98 (by decide) ?_
                    refine lv_istore (lv' := [(4, .int (nI 0)), (3, .int (nI ((e - blw (mnE e)) / 3 ^ (mnE e - 0)))), (2, .int (nI (mnE e))), (1, .int (nI e)), (0, .ref (a 0))]) zx zb dX1_findNext_99 hl (by decide) rfl (fun ls hl => ?_)
                    have L101 : ∀ (zn : Nat) (nx hb lk : Nat → Nat) (c : Nat) (hc : c ≤ 3) (h1 : ∀ e' c', (e' < e ∨ (e' = e ∧ c' < c)) → c' < 3 → nx (3 * e' + c') = nxM e' c') (h2 : ∀ e' c', (e' < e ∨ (e' = e ∧ c' < c)) → c' < 3 → hb (3 * e' + c') = (hbM kind longOf letters words) e' c') (hdg : ∀ k, k < mnE e → lk k = (e - blw (mnE e)) / 3 ^ (mnE e - 1 - k) % 3) (h3 : ∀ j, lk j < 3), 3 - c < zn → ∀ (H : Heap) (locs : List Loc) (ls : Array Slot), nvS D a0 (mW dA a fault trace sorts shL cells words said kind longOf letters saidRow at_ rdW rKind rLong rLet lk lkL nx hb far ways waysT free freeT rdgs rWord rMany rStands rRow ex) s.heap H locs → lv_has ls 5 [(4, .int (nI c)), (2, .int (nI (mnE e))), (1, .int (nI e)), (0, .ref (a 0))] → W zp l ze (rm_ 4 85 0 0) s zm zar zlo zme zcd H locs 0 0 Q (F0 zm 101 ls []) := by
                      intro zn
                      induction zn with
                      | zero => intro nx hb lk c hc h1 h2 hdg h3 zf; exact absurd zf (Nat.not_lt_zero _)
                      | succ zn ih101 =>
                        intro nx hb lk c hc h1 h2 hdg h3 zf H locs ls hX hl
                        refine lv_iload zx zb dX1_findNext_101 (lv_at hl 0 rfl) ?_
                        refine lv_iconst (v := nI 3) zx zb dX1_findNext_103 (by decide) ?_
                        refine nv_icmp_ge (tgt := 157) zx zb (by omega) (by omega) dX1_findNext_104 (by decide) (fun c104 => ?_) (fun c104 => ?_)
                        · refine lv_iinc (v := nI (e + 1)) (lv' := [(1, .int (nI (e + 1))), (4, .int (nI c)), (2, .int (nI (mnE e))), (0, .ref (a 0))]) zx zb dX1_findNext_157 hl (k := 2) rfl (nI_1 _) (by decide) rfl (fun ls hl => ?_)
                          refine lv_goto (tgt := 2) zx zb dX1_findNext_160 (by decide) ?_
                          exact ih2 nx hb lk (e + 1) (by omega) (fun e' c' h h' => h1 e' c' (by omega) h') (fun e' c' h h' => h2 e' c' (by omega) h') h3 (by omega) _ _ _ hX (lv_sub hl [0, 3] rfl)
                        · refine lv_aload_n zx zb dX1_findNext_107 rfl (lv_at hl 3 rfl) ?_
                          refine nv_get zC hX in_X1 0 rfl rfl 16 (by decide) q1208 (fun _ h => h) rfl dX1_findNext_108 ?_
                          refine lv_iload_n zx zb dX1_findNext_111 rfl (lv_at hl 1 rfl) ?_
                          refine lv_iload zx zb dX1_findNext_112 (lv_at hl 0 rfl) ?_
                          refine nv_iast zC hX 11 rfl (by omega) (by decide) (nF_up _ _ _) (w' := mW dA a fault trace sorts shL cells words said kind longOf letters saidRow at_ rdW rKind rLong rLet (va_up lk (mnE e) c) lkL nx hb far ways waysT free freeT rdgs rWord rMany rStands rRow ex) rfl dX1_findNext_114 (fun H locs hX => ?_)
                          refine lv_aload_n zx zb dX1_findNext_115 rfl (lv_at hl 3 rfl) ?_
                          refine nv_get zC hX in_X1 0 rfl rfl 18 (by decide) q1210 (fun _ h => h) rfl dX1_findNext_116 ?_
                          refine lv_iconst (v := nI 3) zx zb dX1_findNext_119 (by decide) ?_
                          refine lv_iload_n zx zb dX1_findNext_120 rfl (lv_at hl 2 rfl) ?_
                          refine nv_imul zx zb dX1_findNext_121 ?_
                          refine lv_iload zx zb dX1_findNext_122 (lv_at hl 0 rfl) ?_
                          refine nv_iadd zx zb dX1_findNext_124 ?_
                          refine lv_aload_n zx zb dX1_findNext_125 rfl (lv_at hl 3 rfl) ?_
                          refine lv_iload_n zx zb dX1_findNext_126 rfl (lv_at hl 1 rfl) ?_
                          refine lv_iconst (v := nI 1) zx zb dX1_findNext_127 (by decide) ?_
                          refine nv_iadd zx zb dX1_findNext_128 ?_
                          refine nv_ki zC hX (nv_rV (n := 1) (As := [.int (nI ((mnE e) + 1))]) (rest := [.int (nI ((3 * e) + c)), .ref (a 12)]) (q0 := 0) zC hX (mm_endOf (b := (mnE e) + 1) (hlk := (up_lt h3 c104)) (hb := (by first | assumption | omega))) nvGb0 (fun _ _ _ => trivial) rfl rfl q1400 q1402 qs48 q63 q1403 (by decide +kernel) rfl ⟨Nat.le_of_ble_eq_true rfl, Nat.le_of_ble_eq_true rfl⟩ hl.1 (Nat.le_of_ble_eq_true rfl) dX1_findNext_129 ⟨by first | exact Nat.le_of_ble_eq_true rfl | omega, by first | exact Nat.le_of_ble_eq_true rfl | omega⟩) (fun r u H locs hp hX => ?_)
                          have hr_ : r = nI (endM (va_up lk (mnE e) c) ((mnE e) + 1)) := hp
                          subst hr_
                          have hX : nvS D a0 (mW dA a fault trace sorts shL cells words said kind longOf letters saidRow at_ rdW rKind rLong rLet (va_up lk (mnE e) c) lkL nx hb far ways waysT free freeT rdgs rWord rMany rStands rRow ex) s.heap H locs := hX
                          refine W.cs (cells' := 0) (slots' := 0) (Nat.add_zero _) (Nat.add_zero _) ?_
                          refine nv_as (show nI (endM (va_up lk (mnE e) c) ((mnE e) + 1)) = nI (nxM e c) from (congrArg nI (endM_cg (rw_ag hdg)))) ?_
                          refine nv_iast zC hX 12 rfl (by omega) (by decide) (nF_up _ _ _) (w' := mW dA a fault trace sorts shL cells words said kind longOf letters saidRow at_ rdW rKind rLong rLet (va_up lk (mnE e) c) lkL (va_up nx ((3 * e) + c) (nxM e c)) hb far ways waysT free freeT rdgs rWord rMany rStands rRow ex) rfl dX1_findNext_132 (fun H locs hX => ?_)
                          refine lv_aload_n zx zb dX1_findNext_133 rfl (lv_at hl 3 rfl) ?_
                          refine nv_get zC hX in_X1 0 rfl rfl 19 (by decide) q1211 (fun _ h => h) rfl dX1_findNext_134 ?_
                          refine lv_iconst (v := nI 3) zx zb dX1_findNext_137 (by decide) ?_
                          refine lv_iload_n zx zb dX1_findNext_138 rfl (lv_at hl 2 rfl) ?_
                          refine nv_imul zx zb dX1_findNext_139 ?_
                          refine lv_iload zx zb dX1_findNext_140 (lv_at hl 0 rfl) ?_
                          refine nv_iadd zx zb dX1_findNext_142 ?_
                          refine lv_aload_n zx zb dX1_findNext_143 rfl (lv_at hl 3 rfl) ?_
                          refine lv_iload_n zx zb dX1_findNext_144 rfl (lv_at hl 1 rfl) ?_
                          refine lv_iconst (v := nI 1) zx zb dX1_findNext_145 (by decide) ?_
                          refine nv_iadd zx zb dX1_findNext_146 ?_
                          refine nv_ki zC hX (nv_rV (n := 1) (As := [.int (nI ((mnE e) + 1))]) (rest := [.int (nI ((3 * e) + c)), .ref (a 13)]) (q0 := 0) zC hX (mm_heardBehind (b := (mnE e) + 1) (hok := (by first | assumption | omega)) (hlk := (up_lt h3 c104)) (hb := (by first | assumption | omega))) nvGb0 (fun _ _ _ => trivial) rfl rfl q1352 q1354 qs40 q63 q1355 (by decide +kernel) rfl ⟨Nat.le_of_ble_eq_true rfl, Nat.le_of_ble_eq_true rfl⟩ hl.1 (Nat.le_of_ble_eq_true rfl) dX1_findNext_147 ⟨by first | exact Nat.le_of_ble_eq_true rfl | omega, by first | exact Nat.le_of_ble_eq_true rfl | omega⟩) (fun r u H locs hp hX => ?_)
                          have hr_ : r = nI (hbW kind longOf letters (va_up lk (mnE e) c) words ((mnE e) + 1)) := hp
                          subst hr_
                          have hX : nvS D a0 (mW dA a fault trace sorts shL cells words said kind longOf letters saidRow at_ rdW rKind rLong rLet (va_up lk (mnE e) c) lkL (va_up nx ((3 * e) + c) (nxM e c)) hb far ways waysT free freeT rdgs rWord rMany rStands rRow ex) s.heap H locs := hX
                          refine W.cs (cells' := 0) (slots' := 0) (Nat.add_zero _) (Nat.add_zero _) ?_
                          refine nv_as (show nI (hbW kind longOf letters (va_up lk (mnE e) c) words ((mnE e) + 1)) = nI (hbM kind longOf letters words e c) from (congrArg nI (hbW_cg (rw_ag hdg)))) ?_
                          refine nv_iast zC hX 13 rfl (by omega) (by decide) (nF_up _ _ _) (w' := mW dA a fault trace sorts shL cells words said kind longOf letters saidRow at_ rdW rKind rLong rLet (va_up lk (mnE e) c) lkL (va_up nx ((3 * e) + c) (nxM e c)) (va_up hb ((3 * e) + c) (hbM kind longOf letters words e c)) far ways waysT free freeT rdgs rWord rMany rStands rRow ex) rfl dX1_findNext_150 (fun H locs hX => ?_)
                          refine lv_iinc (v := nI (c + 1)) (lv' := [(4, .int (nI (c + 1))), (2, .int (nI (mnE e))), (1, .int (nI e)), (0, .ref (a 0))]) zx zb dX1_findNext_151 hl (k := 0) rfl (nI_1 _) (by decide) rfl (fun ls hl => ?_)
                          refine lv_goto (tgt := 101) zx zb dX1_findNext_154 (by decide) ?_
                          exact ih101 (va_up nx ((3 * e) + c) (nxM e c)) (va_up hb ((3 * e) + c) (hbM kind longOf letters words e c)) (va_up lk (mnE e) c) (c + 1) (by omega) (nx_put h1 c104) (nx_put (v := hbM kind longOf letters words) h2 c104) (fun k h => by rw [va_up_ne _ _ (by omega)]; exact hdg k h) (up_lt h3 c104) (by omega) _ _ _ hX (lv_sub hl [0, 1, 2, 3] rfl)
                    exact L101 _ nx hb lk 0 (by omega) h1 h2 (fun k h => hdg k (by omega) h) h3 (Nat.lt_succ_self _) _ _ _ hX (lv_sub hl [0, 2, 3, 4] rfl)
                  · exact absurd (by decide) c75
                · rw [show nI (m + 1) - nI 1 = nI m from by rw [pk_sub (by omega)]; rfl] at hl ⊢
                  refine nv_if_lt (tgt := 98) zx zb (by omega) dX1_findNext_75 (by decide) ?_
                  refine lv_aload_n zx zb dX1_findNext_78 rfl (lv_at hl 4 rfl) ?_
                  refine nv_get zC hX in_X1 0 rfl rfl 16 (by decide) q1208 (fun _ h => h) rfl dX1_findNext_79 ?_
                  refine lv_iload zx zb dX1_findNext_82 (lv_at hl 0 rfl) ?_
                  refine lv_iload_n zx zb dX1_findNext_84 rfl (lv_at hl 1 rfl) ?_
                  refine lv_iconst (v := nI 3) zx zb dX1_findNext_85 (by decide) ?_
                  refine nv_irem zx zb (Nat.lt_of_le_of_lt (Nat.div_le_self _ _) (by omega)) (by omega) (by omega) dX1_findNext_86 ?_
                  refine nv_iast zC hX 11 rfl (by omega) (by decide) (nF_up _ _ _) (w' := mW dA a fault trace sorts shL cells words said kind longOf letters saidRow at_ rdW rKind rLong rLet (va_up lk m (((e - blw (mnE e)) / 3 ^ (mnE e - (m + 1))) % 3)) lkL nx hb far ways waysT free freeT rdgs rWord rMany rStands rRow ex) rfl dX1_findNext_87 (fun H locs hX => ?_)
                  refine lv_iload_n zx zb dX1_findNext_88 rfl (lv_at hl 1 rfl) ?_
                  refine lv_iconst (v := nI 3) zx zb dX1_findNext_89 (by decide) ?_
                  refine nv_idiv zx zb (Nat.lt_of_le_of_lt (Nat.div_le_self _ _) (by omega)) (by omega) (by omega) dX1_findNext_90 ?_
                  refine nv_as (show nI (((e - blw (mnE e)) / 3 ^ (mnE e - (m + 1))) / 3) = nI ((e - blw (mnE e)) / 3 ^ (mnE e - m)) from (congrArg nI (dv3 hm))) ?_
                  refine lv_istore_n (lv' := [(3, .int (nI ((e - blw (mnE e)) / 3 ^ (mnE e - m)))), (4, .int (nI m)), (2, .int (nI (mnE e))), (1, .int (nI e)), (0, .ref (a 0))]) zx zb dX1_findNext_91 rfl hl (by decide) rfl (fun ls hl => ?_)
                  refine lv_iinc (v := nI m - nI 1) (lv' := [(4, .int (nI m - nI 1)), (3, .int (nI ((e - blw (mnE e)) / 3 ^ (mnE e - m)))), (2, .int (nI (mnE e))), (1, .int (nI e)), (0, .ref (a 0))]) zx zb dX1_findNext_92 hl (k := 1) rfl (nI_dm m) (by decide) rfl (fun ls hl => ?_)
                  refine lv_goto (tgt := 73) zx zb dX1_findNext_95 (by decide) ?_
                  exact ih73 (va_up lk m (((e - blw (mnE e)) / 3 ^ (mnE e - (m + 1))) % 3)) m (by omega) (dg_up hm hdg) (up_lt h3 (Nat.mod_lt _ (by decide))) (by omega) _ _ _ hX (lv_sub hl [0, 1, 2, 3, 4] rfl)
            exact L73 _ lk (mnE e) (Nat.le_refl _) (fun k h h2 => by omega) h3 (Nat.lt_succ_self _) _ _ _ hX (lv_sub hl [0, 1, 2, 3, 4] rfl)
          refine lv_iload_n zx zb dX1_findNext_38 rfl (lv_at hl 0 rfl) ?_
          refine nv_if_ne (tgt := 46) zx zb (by omega) dX1_findNext_39 (by decide) (fun c39 => ?_) (fun c39 => ?_)
          · refine lv_iload_n zx zb dX1_findNext_46 rfl (lv_at hl 0 rfl) ?_
            refine lv_iconst (v := nI 1) zx zb dX1_findNext_47 (by decide) ?_
            refine nv_icmp_ne (tgt := 55) zx zb (by omega) (by omega) dX1_findNext_48 (by decide) (fun c48 => ?_) (fun c48 => ?_)
            · refine lv_iload_n zx zb dX1_findNext_55 rfl (lv_at hl 0 rfl) ?_
              refine lv_iconst (v := nI 2) zx zb dX1_findNext_56 (by decide) ?_
              refine nv_icmp_ne (tgt := 64) zx zb (by omega) (by omega) dX1_findNext_57 (by decide) (fun c57 => ?_) (fun c57 => ?_)
              · refine lv_bipush (v := nI 13) zx zb dX1_findNext_64 (by decide) ?_
                refine nv_as (show nI 13 = nI (blw (mnE e)) from (congrArg nI (by unfold blw; (repeat' split) <;> omega))) ?_
                exact J66   _ _ _ hX (lv_sub hl [0, 1, 2] rfl)
              · refine lv_iconst (v := nI 4) zx zb dX1_findNext_60 (by decide) ?_
                refine lv_goto (tgt := 66) zx zb dX1_findNext_61 (by decide) ?_
                refine nv_as (show nI 4 = nI (blw (mnE e)) from (congrArg nI (by unfold blw; (repeat' split) <;> omega))) ?_
                exact J66   _ _ _ hX (lv_sub hl [0, 1, 2] rfl)
            · refine lv_iconst (v := nI 1) zx zb dX1_findNext_51 (by decide) ?_
              refine lv_goto (tgt := 66) zx zb dX1_findNext_52 (by decide) ?_
              refine nv_as (show nI 1 = nI (blw (mnE e)) from (congrArg nI (by unfold blw; (repeat' split) <;> omega))) ?_
              exact J66   _ _ _ hX (lv_sub hl [0, 1, 2] rfl)
          · refine lv_iconst (v := nI 0) zx zb dX1_findNext_42 (by decide) ?_
            refine lv_goto (tgt := 66) zx zb dX1_findNext_43 (by decide) ?_
            refine nv_as (show nI 0 = nI (blw (mnE e)) from (congrArg nI (by unfold blw; (repeat' split) <;> omega))) ?_
            exact J66   _ _ _ hX (lv_sub hl [0, 1, 2] rfl)
        refine lv_iload_n zx zb dX1_findNext_8 rfl (lv_at hl 0 rfl) ?_
        refine nv_if_ne (tgt := 16) zx zb (by omega) dX1_findNext_9 (by decide) (fun c9 => ?_) (fun c9 => ?_)
        · refine lv_iload_n zx zb dX1_findNext_16 rfl (lv_at hl 0 rfl) ?_
          refine lv_iconst (v := nI 4) zx zb dX1_findNext_17 (by decide) ?_
          refine nv_icmp_ge (tgt := 25) zx zb (by omega) (by omega) dX1_findNext_18 (by decide) (fun c18 => ?_) (fun c18 => ?_)
          · refine lv_iload_n zx zb dX1_findNext_25 rfl (lv_at hl 0 rfl) ?_
            refine lv_bipush (v := nI 13) zx zb dX1_findNext_26 (by decide) ?_
            refine nv_icmp_ge (tgt := 35) zx zb (by omega) (by omega) dX1_findNext_28 (by decide) (fun c28 => ?_) (fun c28 => ?_)
            · refine lv_iconst (v := nI 3) zx zb dX1_findNext_35 (by decide) ?_
              refine nv_as (show nI 3 = nI (mnE e) from (congrArg nI (by unfold mnE; (repeat' split) <;> omega))) ?_
              exact J36   _ _ _ hX (lv_sub hl [0, 1] rfl)
            · refine lv_iconst (v := nI 2) zx zb dX1_findNext_31 (by decide) ?_
              refine lv_goto (tgt := 36) zx zb dX1_findNext_32 (by decide) ?_
              refine nv_as (show nI 2 = nI (mnE e) from (congrArg nI (by unfold mnE; (repeat' split) <;> omega))) ?_
              exact J36   _ _ _ hX (lv_sub hl [0, 1] rfl)
          · refine lv_iconst (v := nI 1) zx zb dX1_findNext_21 (by decide) ?_
            refine lv_goto (tgt := 36) zx zb dX1_findNext_22 (by decide) ?_
            refine nv_as (show nI 1 = nI (mnE e) from (congrArg nI (by unfold mnE; (repeat' split) <;> omega))) ?_
            exact J36   _ _ _ hX (lv_sub hl [0, 1] rfl)
        · refine lv_iconst (v := nI 0) zx zb dX1_findNext_12 (by decide) ?_
          refine lv_goto (tgt := 36) zx zb dX1_findNext_13 (by decide) ?_
          refine nv_as (show nI 0 = nI (mnE e) from (congrArg nI (by unfold mnE; (repeat' split) <;> omega))) ?_
          exact J36   _ _ _ hX (lv_sub hl [0, 1] rfl)
  exact L2 _ next heard looked 0 (by omega) (fun _ _ h => by omega) (fun _ _ h => by omega) hlk (Nat.lt_succ_self _) _ _ _ hX (lv_sub hl [0, 1] rfl)

set_option maxHeartbeats 4000000 in
theorem mm_behindLetter  (k : Nat) (c : Nat) (hk : k < 640) (hc : c < 3) : nMt l D dA a0 yX1_behindLetter cX1_behindLetter 4 (some .int) 1 12 0 0 nvG0 [.ref (a 0), .int (nI k), .int (nI c)] (mW dA a fault trace sorts shL cells words said kind longOf letters saidRow at_ rdW rKind rLong rLet looked lkL next heard far ways waysT free freeT rdgs rWord rMany rStands rRow ex) (nQi D a0 (fun (r : Int32) (_ : Unit) => r = nI (stM next heard k c)) (fun (_ : Unit) => mW dA a fault trace sorts shL cells words said kind longOf letters saidRow at_ rdW rKind rLong rLet looked lkL next heard far ways waysT free freeT rdgs rWord rMany rStands rRow ex)) := by
  refine nv_start (by decide) (Nat.le_of_ble_eq_true rfl) fun zp ze s zm zlo zme zcd ls zC zr zk znm hX zG hl => ?_
  have zx := zC.1
  have zb := zC.2.1
  generalize zargs : ([.ref (a 0), .int (nI k), .int (nI c)] : List Value).toArray = zar at zC ⊢
  generalize zQ : MQ zlo _ zar s _ _ _ = Q
  have hX : nvS D a0 (mW dA a fault trace sorts shL cells words said kind longOf letters saidRow at_ rdW rKind rLong rLet looked lkL next heard far ways waysT free freeT rdgs rWord rMany rStands rRow ex) s.heap s.heap [] := hX
  have hl : lv_has ls 4 [(0, .ref (a 0)), (1, .int (nI k)), (2, .int (nI c))] := hl
  obtain ⟨H, zH⟩ : ∃ H, H = s.heap := ⟨_, rfl⟩
  have hX : nvS D a0 (mW dA a fault trace sorts shL cells words said kind longOf letters saidRow at_ rdW rKind rLong rLet looked lkL next heard far ways waysT free freeT rdgs rWord rMany rStands rRow ex) s.heap H [] := by rw [zH]; exact hX
  rw [show W zp l ze (rm_ 1 12 0 0) s zm zar zlo zme zcd s.heap [] 0 0 Q = W zp l ze (rm_ 1 12 0 0) s zm zar zlo zme zcd H [] 0 0 Q by rw [zH]]
  generalize ([] : List Loc) = locs at hX ⊢
  refine lv_iconst (v := nI 3) zx zb dX1_behindLetter_0 (by decide) ?_
  refine lv_iload_n zx zb dX1_behindLetter_1 rfl (lv_at hl 1 rfl) ?_
  refine lv_bipush (v := nI 16) zx zb dX1_behindLetter_2 (by decide) ?_
  refine nv_idiv zx zb (by omega) (by omega) (by omega) dX1_behindLetter_4 ?_
  refine nv_imul zx zb dX1_behindLetter_5 ?_
  refine lv_iload_n zx zb dX1_behindLetter_6 rfl (lv_at hl 2 rfl) ?_
  refine nv_iadd zx zb dX1_behindLetter_7 ?_
  refine lv_istore_n (lv' := [(3, .int (nI ((3 * (k / 16)) + c))), (0, .ref (a 0)), (1, .int (nI k)), (2, .int (nI c))]) zx zb dX1_behindLetter_8 rfl hl (by decide) rfl (fun ls hl => ?_)
  refine lv_bipush (v := nI 16) zx zb dX1_behindLetter_9 (by decide) ?_
  refine lv_aload_n zx zb dX1_behindLetter_11 rfl (lv_at hl 1 rfl) ?_
  refine nv_get zC hX in_X1 0 rfl rfl 18 (by decide) q1210 (fun _ h => h) rfl dX1_behindLetter_12 ?_
  refine lv_iload_n zx zb dX1_behindLetter_15 rfl (lv_at hl 0 rfl) ?_
  refine nv_iald (v := nI (next ((3 * (k / 16)) + c))) zC hX 12 rfl (by omega) (by decide) rfl dX1_behindLetter_16 ?_
  refine nv_imul zx zb dX1_behindLetter_17 ?_
  refine lv_iload_n zx zb dX1_behindLetter_18 rfl (lv_at hl 2 rfl) ?_
  refine lv_bipush (v := nI 16) zx zb dX1_behindLetter_19 (by decide) ?_
  refine nv_irem zx zb (by omega) (by omega) (by omega) dX1_behindLetter_21 ?_
  refine lv_aload_n zx zb dX1_behindLetter_22 rfl (lv_at hl 1 rfl) ?_
  refine nv_get zC hX in_X1 0 rfl rfl 19 (by decide) q1211 (fun _ h => h) rfl dX1_behindLetter_23 ?_
  refine lv_iload_n zx zb dX1_behindLetter_26 rfl (lv_at hl 0 rfl) ?_
  refine nv_iald (v := nI (heard ((3 * (k / 16)) + c))) zC hX 13 rfl (by omega) (by decide) rfl dX1_behindLetter_27 ?_
  refine nv_ior zx zb dX1_behindLetter_28 ?_
  refine nv_iadd zx zb dX1_behindLetter_29 ?_
  rw [← zQ]
  exact nv_endi zC zr zk () hX (by first | rfl | trivial) (by omega) (by omega) dX1_behindLetter_30
end
