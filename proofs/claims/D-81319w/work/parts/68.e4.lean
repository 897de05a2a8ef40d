/-! printed by klass2.py -/
set_option maxRecDepth 100000
section CL_68_e4
variable {l : Launch} {D : va_G} {dA : Nat → ClassId} {a0 ez : Nat} {ex : va_W} {a : Nat → Nat} {rn : Nat} {rt : Nat} {trace : Int32} {len : Nat} {stand : Nat} {first : Option Nat} {allh : Option Nat} {hAll : Nat} {fault : Int32} {row : Nat → Nat} {hOf : Nat → Nat} {farOf : Nat → Option Nat} {rowsN : Nat → Nat} {rowsT : Nat → Nat} {mcW : Int32} {edW : Nat} {words : Nat} {mcR : Int32} {edR : Nat} {rdgs : Nat} {sh : Nat → Option Nat} {kind longOf letters : Nat → Nat} {fW : Nat → Option Nat} {pa la : Nat → Nat} {rWord rMany rStands rRow : Nat → Nat} {fR : Nat → Option Nat} {pr lr : Nat → Nat} {so : Nat → Option Nat} {shL : Nat → Nat} {cl : Nat → Int32} {pS lS col : Nat → Nat} {ow : va_W} {mo : Nat}
set_option maxHeartbeats 4000000 in
theorem mj_init0 {zh : Nat}   : nMt l D dA a0 yJ0_init cJ0_init 1 (none) 1 20 0 0 nvG0 [.ref zh] (ex) (nQv D a0 (fun (_ : Unit) => True) (fun (_ : Unit) => ex)) := by
  refine nv_start (by decide) (Nat.le_of_ble_eq_true rfl) fun zp ze s zm zlo zme zcd ls zC zr zk znm hX zG hl => ?_
  have zx := zC.1
  have zb := zC.2.1
  generalize zargs : ([.ref zh] : List Value).toArray = zar at zC ⊢
  generalize zQ : MQ zlo _ zar s _ _ _ = Q
  have hX : nvS D a0 (ex) s.heap s.heap [] := hX
  have hl : lv_has ls 1 [(0, .ref zh)] := hl
  obtain ⟨H, zH⟩ : ∃ H, H = s.heap := ⟨_, rfl⟩
  have hX : nvS D a0 (ex) s.heap H [] := by rw [zH]; exact hX
  rw [show W zp l ze (rm_ 1 20 0 0) s zm zar zlo zme zcd s.heap [] 0 0 Q = W zp l ze (rm_ 1 20 0 0) s zm zar zlo zme zcd H [] 0 0 Q by rw [zH]]
  generalize ([] : List Loc) = locs at hX ⊢
  refine lv_aload_n zx zb dJ0_init_0 rfl (lv_at hl 0 rfl) ?_
  refine W.objInit zx zb zC.2.2.2.1 (zC.2.2.2.2.1 _ q112) (zC.2.2.2.2.1 _ q99) (zC.2.2.2.2.1 _ q100) rfl (hl.1.trans zC.2.2.1.symm) rfl dJ0_init_1 (Nat.le_of_ble_eq_true rfl) (Nat.le_of_ble_eq_true rfl) ?_
  refine W.eq (g2 := F0 zm 4 ls []) rfl ?_
  rw [← zQ]
  exact nv_endv zC zr zk () hX (by first | rfl | trivial) (by omega) (by omega) dJ0_init_4

set_option maxHeartbeats 4000000 in
theorem mj_init1 {zh : Nat}   : nMt l D dA a0 yJ1_init cJ1_init 1 (none) 2 40 0 0 nvG0 [.ref zh] ((zh, .inr (12, [.int 0, .null, .int 0])) :: ex) (nQv D a0 (fun (_ : Unit) => True) (fun (_ : Unit) => (zh, .inr (12, [.int (nI 0), .null, .int 0])) :: ex)) := by
  refine nv_start (by decide) (Nat.le_of_ble_eq_true rfl) fun zp ze s zm zlo zme zcd ls zC zr zk znm hX zG hl => ?_
  have zx := zC.1
  have zb := zC.2.1
  generalize zargs : ([.ref zh] : List Value).toArray = zar at zC ⊢
  generalize zQ : MQ zlo _ zar s _ _ _ = Q
  have hX : nvS D a0 ((zh, .inr (12, [.int 0, .null, .int 0])) :: ex) s.heap s.heap [] := hX
  have hl : lv_has ls 1 [(0, .ref zh)] := hl
  obtain ⟨H, zH⟩ : ∃ H, H = s.heap := ⟨_, rfl⟩
  have hX : nvS D a0 ((zh, .inr (12, [.int 0, .null, .int 0])) :: ex) s.heap H [] := by rw [zH]; exact hX
  rw [show W zp l ze (rm_ 2 40 0 0) s zm zar zlo zme zcd s.heap [] 0 0 Q = W zp l ze (rm_ 2 40 0 0) s zm zar zlo zme zcd H [] 0 0 Q by rw [zH]]
  generalize ([] : List Loc) = locs at hX ⊢
  refine lv_aload_n zx zb dJ1_init_0 rfl (lv_at hl 0 rfl) ?_
  refine nv_kv zC hX (nv_rI (n := 0) (As := []) (rest := []) zC hX (mj_init0 ) nvGb0 (fun _ _ _ => trivial) q109 q110 q60 q111 rfl (by decide +kernel) rfl ⟨Nat.le_of_ble_eq_true rfl, Nat.le_of_ble_eq_true rfl⟩ hl.1 (Nat.le_of_ble_eq_true rfl) dJ1_init_1 ⟨by first | exact Nat.le_of_ble_eq_true rfl | omega, by first | exact Nat.le_of_ble_eq_true rfl | omega⟩) (fun u H locs hp hX => ?_)
  have hX : nvS D a0 ((zh, .inr (12, [.int 0, .null, .int 0])) :: ex) s.heap H locs := hX
  refine W.cs (cells' := 0) (slots' := 0) (Nat.add_zero _) (Nat.add_zero _) ?_
  refine lv_aload_n zx zb dJ1_init_4 rfl (lv_at hl 0 rfl) ?_
  refine lv_iconst (v := nI 0) zx zb dJ1_init_5 (by decide) ?_
  refine nv_put zC hX in_J2 tyJ2 tyJ2_ok nmJ2 0 rfl rfl 0 (by decide) q117 (fun _ h => h) rfl rfl rfl (Nat.le_of_ble_eq_true rfl) (w' := (zh, .inr (12, [.int (nI 0), .null, .int 0])) :: ex) rfl dJ1_init_6 (fun H locs hX => ?_)
  rw [← zQ]
  exact nv_endv zC zr zk () hX (by first | rfl | trivial) (by omega) (by omega) dJ1_init_9

set_option maxHeartbeats 4000000 in
theorem mj_init {zh : Nat}   : nMt l D dA a0 yJ2_init cJ2_init 1 (none) 3 60 0 0 (nvE a0 ez) [.ref zh] ((zh, .inr (12, [.int 0, .null, .int 0])) :: ex) (nQv D a0 (fun (_ : Unit) => True) (fun (_ : Unit) => (zh, .inr (12, [.int (nI 0), .ref ez, .int 0])) :: ex)) := by
  refine nv_start (by decide) (Nat.le_of_ble_eq_true rfl) fun zp ze s zm zlo zme zcd ls zC zr zk znm hX zG hl => ?_
  have zx := zC.1
  have zb := zC.2.1
  generalize zargs : ([.ref zh] : List Value).toArray = zar at zC ⊢
  generalize zQ : MQ zlo _ zar s _ _ _ = Q
  have hX : nvS D a0 ((zh, .inr (12, [.int 0, .null, .int 0])) :: ex) s.heap s.heap [] := hX
  have hl : lv_has ls 1 [(0, .ref zh)] := hl
  obtain ⟨H, zH⟩ : ∃ H, H = s.heap := ⟨_, rfl⟩
  have hX : nvS D a0 ((zh, .inr (12, [.int 0, .null, .int 0])) :: ex) s.heap H [] := by rw [zH]; exact hX
  rw [show W zp l ze (rm_ 3 60 0 0) s zm zar zlo zme zcd s.heap [] 0 0 Q = W zp l ze (rm_ 3 60 0 0) s zm zar zlo zme zcd H [] 0 0 Q by rw [zH]]
  generalize ([] : List Loc) = locs at hX ⊢
  refine lv_aload_n zx zb dJ2_init_0 rfl (lv_at hl 0 rfl) ?_
  refine nv_kv zC hX (nv_rI (n := 0) (As := []) (rest := []) zC hX (mj_init1 ) nvGb0 (fun _ _ _ => trivial) q106 q107 q61 q108 rfl (by decide +kernel) rfl ⟨Nat.le_of_ble_eq_true rfl, Nat.le_of_ble_eq_true rfl⟩ hl.1 (Nat.le_of_ble_eq_true rfl) dJ2_init_1 ⟨by first | exact Nat.le_of_ble_eq_true rfl | omega, by first | exact Nat.le_of_ble_eq_true rfl | omega⟩) (fun u H locs hp hX => ?_)
  have hX : nvS D a0 ((zh, .inr (12, [.int (nI 0), .null, .int 0])) :: ex) s.heap H locs := hX
  refine W.cs (cells' := 0) (slots' := 0) (Nat.add_zero _) (Nat.add_zero _) ?_
  refine lv_aload_n zx zb dJ2_init_4 rfl (lv_at hl 0 rfl) ?_
  refine va_gets zx zb zG.2.2.2.2.1 hX.2.2 zC.2.2.2.1 (zC.2.2.2.2.1 _ q113) (fun _ h => h) dJ2_init_5 ?_
  refine nv_put zC hX in_J2 tyJ2 tyJ2_ok nmJ2 0 rfl rfl 1 (by decide) q115 (fun _ h => h) rfl rfl rfl (Nat.le_of_ble_eq_true rfl) (w' := (zh, .inr (12, [.int (nI 0), .ref ez, .int 0])) :: ex) rfl dJ2_init_8 (fun H locs hX => ?_)
  rw [← zQ]
  exact nv_endv zC zr zk () hX (by first | rfl | trivial) (by omega) (by omega) dJ2_init_11

set_option maxHeartbeats 4000000 in
theorem mj_init2 {zh : Nat} (n : Nat) (hn : 1 ≤ n) (hn2 : n ≤ 10) : nMt l D dA a0 yJ2_init_2 cJ2_init_2 2 (none) 3 60 1 10 (nvE a0 ez) [.ref zh, .int (nI n)] ((zh, .inr (12, [.int 0, .null, .int 0])) :: ex) (nQv D a0 (fun (ra : Nat) => True) (fun (ra : Nat) => (ra, aO dA n (fun _ => none)) :: (zh, .inr (12, [.int (nI 0), .ref ra, .int 0])) :: ex)) := by
  refine nv_start (by decide) (Nat.le_of_ble_eq_true rfl) fun zp ze s zm zlo zme zcd ls zC zr zk znm hX zG hl => ?_
  have zx := zC.1
  have zb := zC.2.1
  generalize zargs : ([.ref zh, .int (nI n)] : List Value).toArray = zar at zC ⊢
  generalize zQ : MQ zlo _ zar s _ _ _ = Q
  have hX : nvS D a0 ((zh, .inr (12, [.int 0, .null, .int 0])) :: ex) s.heap s.heap [] := hX
  have hl : lv_has ls 2 [(0, .ref zh), (1, .int (nI n))] := hl
  obtain ⟨H, zH⟩ : ∃ H, H = s.heap := ⟨_, rfl⟩
  have hX : nvS D a0 ((zh, .inr (12, [.int 0, .null, .int 0])) :: ex) s.heap H [] := by rw [zH]; exact hX
  rw [show W zp l ze (rm_ 3 60 1 10) s zm zar zlo zme zcd s.heap [] 0 0 Q = W zp l ze (rm_ 3 60 1 10) s zm zar zlo zme zcd H [] 0 0 Q by rw [zH]]
  generalize ([] : List Loc) = locs at hX ⊢
  refine lv_aload_n zx zb dJ2_init_2_0 rfl (lv_at hl 0 rfl) ?_
  refine nv_kv zC hX (nv_rI (n := 0) (As := []) (rest := []) zC hX (mj_init1 ) nvGb0 (fun _ _ _ => trivial) q106 q107 q61 q108 rfl (by decide +kernel) rfl ⟨Nat.le_of_ble_eq_true rfl, Nat.le_of_ble_eq_true rfl⟩ hl.1 (Nat.le_of_ble_eq_true rfl) dJ2_init_2_1 ⟨by first | exact Nat.le_of_ble_eq_true rfl | omega, by first | exact Nat.le_of_ble_eq_true rfl | omega⟩) (fun u H locs hp hX => ?_)
  have hX : nvS D a0 ((zh, .inr (12, [.int (nI 0), .null, .int 0])) :: ex) s.heap H locs := hX
  refine W.cs (cells' := 0) (slots' := 0) (Nat.add_zero _) (Nat.add_zero _) ?_
  refine lv_iload_n zx zb dJ2_init_2_4 rfl (lv_at hl 1 rfl) ?_
  refine nv_if_le (tgt := 19) zx zb (by omega) dJ2_init_2_5 (by decide) (fun c5 => ?_) (fun c5 => ?_)
  · exact absurd c5 (by omega)
  · refine lv_aload_n zx zb dJ2_init_2_8 rfl (lv_at hl 0 rfl) ?_
    refine lv_iload_n zx zb dJ2_init_2_9 rfl (lv_at hl 1 rfl) ?_
    refine nv_newq zC (l1 := []) (l2 := (zh, .inr (12, [.int (nI 0), .null, .int 0])) :: ex) hX (E := "java/lang/Object") 4 rfl zG.2.2.1 q832 (by omega) (Nat.le_of_ble_eq_true rfl) (by show 0 + n ≤ 10; omega) dJ2_init_2_10 (fun r_2 H hX => ?_)
    have hX : nvS D a0 ((r_2, aO dA n (fun _ => none)) :: (zh, .inr (12, [.int (nI 0), .null, .int 0])) :: ex) s.heap H locs := hX
    refine nv_put zC hX in_J2 tyJ2 tyJ2_ok nmJ2 1 rfl rfl 1 (by decide) q115 (fun _ h => h) rfl rfl rfl (Nat.le_of_ble_eq_true rfl) (w' := (r_2, aO dA n (fun _ => none)) :: (zh, .inr (12, [.int (nI 0), .ref r_2, .int 0])) :: ex) rfl dJ2_init_2_13 (fun H locs hX => ?_)
    refine lv_goto (tgt := 60) zx zb dJ2_init_2_16 (by decide) ?_
    rw [← zQ]
    exact nv_endv zC zr zk r_2 hX (by first | rfl | trivial) (by omega) (by omega) dJ2_init_2_60

set_option maxHeartbeats 4000000 in
theorem mj_copyOf3  (cp : Nat) (f : Nat → Option Nat) (ra_ : Nat) (n : Nat) (zmo : Nat) (ha : (ra_, aO dA cp f) ∈ ex) (hn : n ≤ cp) (hcp : cp ≤ 10) (hel : ∀ i, i < n → ∀ y, f i = some y → ∃ ci vs q, (y, .inr (ci, vs)) ∈ ex ∧ vwCl[ci]? = some q ∧ (q.1, "java/lang/Object") ∈ nvCs) : nMt l D dA a0 yJ14_copyOf_3 cJ14_copyOf_3 4 (some (.array (.object "java/lang/Object"))) 1 30 1 10 (nvE2 a0 ez mo) [.ref ra_, .int (nI n), .ref mo] (ex) (nQr D a0 (fun (g : Nat → Option Nat) => (∀ j, j < n → g j = f j)) (fun (g : Nat → Option Nat) (ra : Nat) => (ra, aO dA n g) :: ex)) := by
  refine nv_start (by decide) (Nat.le_of_ble_eq_true rfl) fun zp ze s zm zlo zme zcd ls zC zr zk znm hX zG hl => ?_
  have zx := zC.1
  have zb := zC.2.1
  generalize zargs : ([.ref ra_, .int (nI n), .ref mo] : List Value).toArray = zar at zC ⊢
  generalize zQ : MQ zlo _ zar s _ _ _ = Q
  have hX : nvS D a0 (ex) s.heap s.heap [] := hX
  have hl : lv_has ls 4 [(0, .ref ra_), (1, .int (nI n)), (2, .ref mo)] := hl
  obtain ⟨H, zH⟩ : ∃ H, H = s.heap := ⟨_, rfl⟩
  have hX : nvS D a0 (ex) s.heap H [] := by rw [zH]; exact hX
  rw [show W zp l ze (rm_ 1 30 1 10) s zm zar zlo zme zcd s.heap [] 0 0 Q = W zp l ze (rm_ 1 30 1 10) s zm zar zlo zme zcd H [] 0 0 Q by rw [zH]]
  generalize ([] : List Loc) = locs at hX ⊢
  have zG2 := zG
  have zG := zG2.1
  refine lv_aload_n zx zb dJ14_copyOf_3_0 rfl (lv_at hl 2 rfl) ?_
  refine nv_ldcM zC zG2 q912 dJ14_copyOf_3_1 ?_
  refine nv_acmp_ne (x := mo) (y := mo) (tgt := 13) zx zb dJ14_copyOf_3_3 (by decide) (fun c3 => ?_) (fun c3 => ?_)
  · exact absurd rfl c3
  · refine lv_iload_n zx zb dJ14_copyOf_3_6 rfl (lv_at hl 1 rfl) ?_
    refine nv_newq zC (l1 := []) (l2 := ex) hX (E := "java/lang/Object") 4 rfl zG.2.2.1 q913 (by omega) (Nat.le_of_ble_eq_true rfl) (by show 0 + n ≤ 10; omega) dJ14_copyOf_3_7 (fun r_1 H hX => ?_)
    refine lv_goto (tgt := 24) zx zb dJ14_copyOf_3_10 (by decide) ?_
    refine lv_astore_n (lv' := [(3, .ref r_1), (0, .ref ra_), (1, .int (nI n)), (2, .ref mo)]) zx zb dJ14_copyOf_3_24 rfl hl (by decide) rfl (fun ls hl => ?_)
    refine lv_aload_n zx zb dJ14_copyOf_3_25 rfl (lv_at hl 1 rfl) ?_
    refine lv_iconst (v := nI 0) zx zb dJ14_copyOf_3_26 (by decide) ?_
    refine lv_aload_n zx zb dJ14_copyOf_3_27 rfl (lv_at hl 0 rfl) ?_
    refine lv_iconst (v := nI 0) zx zb dJ14_copyOf_3_28 (by decide) ?_
    refine lv_aload_n zx zb dJ14_copyOf_3_29 rfl (lv_at hl 1 rfl) ?_
    refine nv_alenM zC hX 4 (List.mem_cons_of_mem _ ha) rfl dJ14_copyOf_3_30 ?_
    refine lv_iload_n zx zb dJ14_copyOf_3_31 rfl (lv_at hl 2 rfl) ?_
    refine nv_min zC hl.1 q850 (by omega) (by omega) ⟨Nat.le_of_ble_eq_true rfl, Nat.le_of_ble_eq_true rfl⟩ (Nat.le_of_ble_eq_true rfl) ⟨Nat.le_of_ble_eq_true rfl, by show 0 + n ≤ 10; omega⟩ dJ14_copyOf_3_32 ?_
    refine nv_as (show nI (min cp n) = nI n from (congrArg nI (Nat.min_eq_right hn))) ?_
    obtain ⟨yq, yhq⟩ := List.getElem?_of_mem (show (ra_, aO dA cp f) ∈ (r_1, aO dA n (fun _ => none)) :: ex from List.mem_cons_of_mem _ ha)
    refine nv_copyM zC hX hl.1 q851 yq 0 yhq rfl (by omega) (by omega) (by omega) (by omega) (fun i hi y hy => by
      obtain ⟨ci, vs, q, h1, h2, h3⟩ := hel i hi y (by rw [Nat.zero_add] at hy; exact hy)
      exact nv_any zC hX (List.mem_cons_of_mem _ h1) h2 (zG.2.1 _ h3)) ⟨Nat.le_of_ble_eq_true rfl, Nat.le_of_ble_eq_true rfl⟩ (Nat.le_of_ble_eq_true rfl) dJ14_copyOf_3_35 (fun H locs hX => ?_)
    have hX : nvS D a0 ((r_1, aO dA n (va_cpy f (fun _ => none) 0 0 n)) :: ex) s.heap H locs := hX
    refine lv_aload_n zx zb dJ14_copyOf_3_38 rfl (lv_at hl 0 rfl) ?_
    rw [← zQ]
    exact nv_endr zC zr (Or.inr ⟨_, rfl⟩) zk (va_cpy f (fun _ => none) 0 0 n) hX (fun j hj => cpy0 hj) (by omega) (by omega) dJ14_copyOf_3_39

set_option maxHeartbeats 4000000 in
theorem mj_copyOf2  (cp : Nat) (f : Nat → Option Nat) (ra_ : Nat) (n : Nat) (ha : (ra_, aO dA cp f) ∈ ex) (hn : n ≤ cp) (hcp : cp ≤ 10) (hel : ∀ i, i < n → ∀ y, f i = some y → ∃ ci vs q, (y, .inr (ci, vs)) ∈ ex ∧ vwCl[ci]? = some q ∧ (q.1, "java/lang/Object") ∈ nvCs) : nMt l D dA a0 yJ14_copyOf_2 cJ14_copyOf_2 2 (some (.array (.object "java/lang/Object"))) 2 53 1 10 (nvE2 a0 ez mo) [.ref ra_, .int (nI n)] (ex) (nQr D a0 (fun (g : Nat → Option Nat) => (∀ j, j < n → g j = f j)) (fun (g : Nat → Option Nat) (ra : Nat) => (ra, aO dA n g) :: ex)) := by
  refine nv_start (by decide) (Nat.le_of_ble_eq_true rfl) fun zp ze s zm zlo zme zcd ls zC zr zk znm hX zG hl => ?_
  have zx := zC.1
  have zb := zC.2.1
  generalize zargs : ([.ref ra_, .int (nI n)] : List Value).toArray = zar at zC ⊢
  generalize zQ : MQ zlo _ zar s _ _ _ = Q
  have hX : nvS D a0 (ex) s.heap s.heap [] := hX
  have hl : lv_has ls 2 [(0, .ref ra_), (1, .int (nI n))] := hl
  obtain ⟨H, zH⟩ : ∃ H, H = s.heap := ⟨_, rfl⟩
  have hX : nvS D a0 (ex) s.heap H [] := by rw [zH]; exact hX
  rw [show W zp l ze (rm_ 2 53 1 10) s zm zar zlo zme zcd s.heap [] 0 0 Q = W zp l ze (rm_ 2 53 1 10) s zm zar zlo zme zcd H [] 0 0 Q by rw [zH]]
  generalize ([] : List Loc) = locs at hX ⊢
  have zG2 := zG
  have zG := zG2.1
  refine lv_aload_n zx zb dJ14_copyOf_2_0 rfl (lv_at hl 0 rfl) ?_
  refine lv_iload_n zx zb dJ14_copyOf_2_1 rfl (lv_at hl 1 rfl) ?_
  refine lv_aload_n zx zb dJ14_copyOf_2_2 rfl (lv_at hl 0 rfl) ?_
  refine nv_getC zC zG2 hX hl.1 q886 q1559 q887 q908 ha ⟨Nat.le_of_ble_eq_true rfl, Nat.le_of_ble_eq_true rfl⟩ (Nat.le_of_ble_eq_true rfl) dJ14_copyOf_2_3 ?_
  refine nv_kr zC hX (nv_rS (n := 3) (As := [.ref ra_, .int (nI n), .ref mo]) (rest := []) zC hX (mj_copyOf3 (cp := cp) (f := f) (ra_ := ra_) (n := n) (zmo := mo) (ha := (by first | assumption | omega)) (hn := (by first | assumption | omega)) (hcp := (by first | assumption | omega)) (hel := hel)) (nvE2_b a0 ez mo) (nvE2_keep zG2 hX) q909 q910 q79 q911 (by decide +kernel) rfl ⟨Nat.le_of_ble_eq_true rfl, Nat.le_of_ble_eq_true rfl⟩ hl.1 (Nat.le_of_ble_eq_true rfl) dJ14_copyOf_2_6 ⟨by first | exact Nat.le_of_ble_eq_true rfl | omega, by first | exact Nat.le_of_ble_eq_true rfl | omega⟩) (fun u ra H locs hp hX => ?_)
  obtain ⟨g_1, rfl⟩ : ∃ z, z = u := ⟨_, rfl⟩
  have h6 : (∀ j, j < n → g_1 j = f j) := hp
  obtain ⟨ra_6, rfl⟩ : ∃ z, z = ra := ⟨_, rfl⟩
  have hX : nvS D a0 ((ra_6, aO dA n g_1) :: ex) s.heap H locs := hX
  rw [← zQ]
  exact nv_endr zC zr (Or.inr ⟨_, rfl⟩) zk g_1 hX (by exact h6) (by omega) (by omega) dJ14_copyOf_2_9

set_option maxHeartbeats 4000000 in
theorem mj_toArray  (cp : Nat) (f : Nat → Option Nat) (mc : Int32) (ra_ : Nat) (n : Nat) (zh : Nat) (hm : (zh, .inr (12, [.int mc, .ref ra_, .int (nI n)])) ∈ ex) (ha : (ra_, aO dA cp f) ∈ ex) (hn : n ≤ cp) (hcp : cp ≤ 10) (hel : ∀ i, i < n → ∀ y, f i = some y → ∃ ci vs q, (y, .inr (ci, vs)) ∈ ex ∧ vwCl[ci]? = some q ∧ (q.1, "java/lang/Object") ∈ nvCs) : nMt l D dA a0 yJ2_toArray cJ2_toArray 1 (some (.array (.object "java/lang/Object"))) 3 74 1 10 (nvE2 a0 ez mo) [.ref zh] (ex) (nQr D a0 (fun (g : Nat → Option Nat) => (∀ j, j < n → g j = f j)) (fun (g : Nat → Option Nat) (ra : Nat) => (ra, aO dA n g) :: ex)) := by
  refine nv_start (by decide) (Nat.le_of_ble_eq_true rfl) fun zp ze s zm zlo zme zcd ls zC zr zk znm hX zG hl => ?_
  have zx := zC.1
  have zb := zC.2.1
  generalize zargs : ([.ref zh] : List Value).toArray = zar at zC ⊢
  generalize zQ : MQ zlo _ zar s _ _ _ = Q
  have hX : nvS D a0 (ex) s.heap s.heap [] := hX
  have hl : lv_has ls 1 [(0, .ref zh)] := hl
  obtain ⟨H, zH⟩ : ∃ H, H = s.heap := ⟨_, rfl⟩
  have hX : nvS D a0 (ex) s.heap H [] := by rw [zH]; exact hX
  rw [show W zp l ze (rm_ 3 74 1 10) s zm zar zlo zme zcd s.heap [] 0 0 Q = W zp l ze (rm_ 3 74 1 10) s zm zar zlo zme zcd H [] 0 0 Q by rw [zH]]
  generalize ([] : List Loc) = locs at hX ⊢
  have zG2 := zG
  have zG := zG2.1
  refine lv_aload_n zx zb dJ2_toArray_0 rfl (lv_at hl 0 rfl) ?_
  refine nv_getM zC hX in_J2 hm rfl 1 (by decide) q115 (fun _ h => h) rfl dJ2_toArray_1 ?_
  refine lv_aload_n zx zb dJ2_toArray_4 rfl (lv_at hl 0 rfl) ?_
  refine nv_getM zC hX in_J2 hm rfl 2 (by decide) q116 (fun _ h => h) rfl dJ2_toArray_5 ?_
  refine nv_kr zC hX (nv_rS (n := 2) (As := [.ref ra_, .int (nI n)]) (rest := []) zC hX (mj_copyOf2 (cp := cp) (f := f) (ra_ := ra_) (n := n) (ha := (by first | assumption | omega)) (hn := (by first | assumption | omega)) (hcp := (by first | assumption | omega)) (hel := hel)) (nvE2_b a0 ez mo) (nvE2_keep zG2 hX) q883 q884 q79 q885 (by decide +kernel) rfl ⟨Nat.le_of_ble_eq_true rfl, Nat.le_of_ble_eq_true rfl⟩ hl.1 (Nat.le_of_ble_eq_true rfl) dJ2_toArray_8 ⟨by first | exact Nat.le_of_ble_eq_true rfl | omega, by first | exact Nat.le_of_ble_eq_true rfl | omega⟩) (fun u ra H locs hp hX => ?_)
  obtain ⟨g_1, rfl⟩ : ∃ z, z = u := ⟨_, rfl⟩
  have h8 : (∀ j, j < n → g_1 j = f j) := hp
  obtain ⟨ra_8, rfl⟩ : ∃ z, z = ra := ⟨_, rfl⟩
  have hX : nvS D a0 ((ra_8, aO dA n g_1) :: ex) s.heap H locs := hX
  rw [← zQ]
  exact nv_endr zC zr (Or.inr ⟨_, rfl⟩) zk g_1 hX (by exact h8) (by omega) (by omega) dJ2_toArray_11

set_option maxHeartbeats 4000000 in
theorem mj_addAllA  (q0 : Nat) (mc : Int32) (zh : Nat) (mcl : Int32) (edl : Nat) (cpl : Nat) (fl : Nat → Option Nat) (n : Nat) (q1 : Nat) (ed : Nat) (f0 : Nat → Option Nat) (zl : Nat) (h0 : (ex)[q0]? = some (zh, .inr (12, [.int mc, .ref ed, .int (nI 0)]))) (h1 : (ex)[q1]? = some (ed, aO dA 10 f0)) (hml : (zl, .inr (12, [.int mcl, .ref edl, .int (nI n)])) ∈ ex) (hal : (edl, aO dA cpl fl) ∈ ex) (hn1 : 1 ≤ n) (hn : n ≤ cpl) (hcp : cpl ≤ 10) (hel : ∀ i, i < n → ∀ y, fl i = some y → ∃ ci vs q, (y, .inr (ci, vs)) ∈ ex ∧ vwCl[ci]? = some q ∧ (q.1, "java/lang/Object") ∈ nvCs) : nMt l D dA a0 yJ2_addAll cJ2_addAll 6 (some .boolean) 4 94 1 10 (nvE2 a0 ez mo) [.ref zh, .ref zl] (ex) (nQi D a0 (fun (r : Int32) (u : Nat × (Nat → Option Nat) × (Nat → Option Nat)) => r = nB true ∧ (∀ j, j < n → u.2.2 j = fl j)) (fun (u : Nat × (Nat → Option Nat) × (Nat → Option Nat)) => (u.1, aO dA n u.2.1) :: jW dA q0 q1 zh (mc + nI 1) ed n 10 u.2.2 (ex))) := by
  refine nv_start (by decide) (Nat.le_of_ble_eq_true rfl) fun zp ze s zm zlo zme zcd ls zC zr zk znm hX zG hl => ?_
  have zx := zC.1
  have zb := zC.2.1
  generalize zargs : ([.ref zh, .ref zl] : List Value).toArray = zar at zC ⊢
  generalize zQ : MQ zlo _ zar s _ _ _ = Q
  have hX : nvS D a0 (ex) s.heap s.heap [] := hX
  have hl : lv_has ls 6 [(0, .ref zh), (1, .ref zl)] := hl
  obtain ⟨H, zH⟩ : ∃ H, H = s.heap := ⟨_, rfl⟩
  have hX : nvS D a0 (ex) s.heap H [] := by rw [zH]; exact hX
  rw [show W zp l ze (rm_ 4 94 1 10) s zm zar zlo zme zcd s.heap [] 0 0 Q = W zp l ze (rm_ 4 94 1 10) s zm zar zlo zme zcd H [] 0 0 Q by rw [zH]]
  generalize ([] : List Loc) = locs at hX ⊢
  have zG2 := zG
  have zG := zG2.1
  obtain ⟨yl, hyl⟩ := List.getElem?_of_mem hml
  refine lv_aload_n zx zb dJ2_addAll_0 rfl (lv_at hl 1 rfl) ?_
  refine nv_kFr zC hX (nv_rF (q := (RJ2, TJ2, 3)) (x := ⟨"java/util/Collection", "toArray", "()[Ljava/lang/Object;"⟩) (y := yJ2_toArray) (n := 0) (As := []) (rest := []) (q0 := yl) zC hX (mj_toArray (cp := cpl) (f := fl) (mc := mcl) (ra_ := edl) (n := n) (zh := zl) (hm := hml) (ha := hal) (hn := (by first | assumption | omega)) (hcp := (by first | assumption | omega)) (hel := hel)) (nvE2_b a0 ez mo) (nvE2_keep zG2 hX) (nvE_f8 zG) hyl rfl q934 q940 q938 q62 q942 (by decide +kernel) rfl ⟨Nat.le_of_ble_eq_true rfl, Nat.le_of_ble_eq_true rfl⟩ hl.1 (Nat.le_of_ble_eq_true rfl) dJ2_addAll_1 ⟨by first | exact Nat.le_of_ble_eq_true rfl | omega, by first | exact Nat.le_of_ble_eq_true rfl | omega⟩) (fun u ra H locs hp hX => ?_)
  obtain ⟨g_1, rfl⟩ : ∃ z, z = u := ⟨_, rfl⟩
  have hg_ : (∀ j, j < n → g_1 j = fl j) := hp
  obtain ⟨ra_1, rfl⟩ : ∃ z, z = ra := ⟨_, rfl⟩
  have hX : nvS D a0 ((ra_1, aO dA n g_1) :: ex) s.heap H locs := hX
  have hf_ := hX.fr1
  have hrz : ra_1 ≠ zh := fun e => hf_ _ (List.mem_of_getElem? h0) e.symm
  have hre : ra_1 ≠ ed := fun e => hf_ _ (List.mem_of_getElem? h1) e.symm
  have hu_ := hX.un
  have h0' : (((ra_1, aO dA n g_1) :: ex))[q0 + 1]? = some (zh, .inr (12, [.int mc, .ref ed, .int (nI 0)])) := h0
  have h1' : (((ra_1, aO dA n g_1) :: ex))[q1 + 1]? = some (ed, aO dA 10 f0) := h1
  have hne := jW_q h0' h1'
  have hX : nvS D a0 (jW dA (q0 + 1) (q1 + 1) zh mc ed 0 10 f0 ((ra_1, aO dA n g_1) :: ex)) s.heap H locs := hX.as (jW_0 h0' h1')
  refine lv_astore_n (lv' := [(2, .ref ra_1), (0, .ref zh), (1, .ref zl)]) zx zb dJ2_addAll_6 rfl hl (by decide) rfl (fun ls hl => ?_)
  refine lv_aload_n zx zb dJ2_addAll_7 rfl (lv_at hl 1 rfl) ?_
  refine lv_dup zx zb dJ2_addAll_8 rfl ?_
  refine nv_get zC hX in_J2 (q0 + 1) (jW_a0 hne h0') rfl 0 (by decide) q118 (u_same (zC.2.2.2.2.1 _ q119)) rfl dJ2_addAll_9 ?_
  refine lv_iconst (v := nI 1) zx zb dJ2_addAll_12 (by decide) ?_
  refine lv_iadd zx zb dJ2_addAll_13 ?_
  refine nv_put zC hX in_J2 tyJ2 tyJ2_ok nmJ2 (q0 + 1) (jW_a0 hne h0') rfl 0 (by decide) q118 (u_same (zC.2.2.2.2.1 _ q119)) rfl rfl rfl (Nat.le_of_ble_eq_true rfl) (w' := jW dA (q0 + 1) (q1 + 1) zh (mc + (nI 1)) ed 0 10 f0 ((ra_1, aO dA n g_1) :: ex)) (jW_s0 hne) dJ2_addAll_14 (fun H locs hX => ?_)
  refine lv_aload_n zx zb dJ2_addAll_17 rfl (lv_at hl 0 rfl) ?_
  refine nv_alenM zC hX 4 (jW_m (List.mem_cons_self (a := (ra_1, aO dA n g_1)) (l := ex)) h0' h1' hne rfl rfl hrz hre) rfl dJ2_addAll_18 ?_
  refine lv_istore_n (lv' := [(3, .int (nI n)), (2, .ref ra_1), (0, .ref zh), (1, .ref zl)]) zx zb dJ2_addAll_19 rfl hl (by decide) rfl (fun ls hl => ?_)
  refine lv_iload_n zx zb dJ2_addAll_20 rfl (lv_at hl 0 rfl) ?_
  refine nv_if_ne (tgt := 26) zx zb (by omega) dJ2_addAll_21 (by decide) (fun c21 => ?_) (fun c21 => ?_)
  · refine lv_iload_n zx zb dJ2_addAll_26 rfl (lv_at hl 0 rfl) ?_
    refine lv_aload_n zx zb dJ2_addAll_27 rfl (lv_at hl 2 rfl) ?_
    refine nv_get zC hX in_J2 (q0 + 1) (jW_a0 hne h0') rfl 1 (by decide) q115 (fun _ h => h) rfl dJ2_addAll_28 ?_
    refine lv_dup zx zb dJ2_addAll_31 rfl ?_
    refine lv_astore (lv' := [(4, .ref ed), (3, .int (nI n)), (2, .ref ra_1), (0, .ref zh), (1, .ref zl)]) zx zb dJ2_addAll_32 hl (by decide) rfl (fun ls hl => ?_)
    refine nv_alen zC hX (q1 + 1) 4 (jW_a1 hne h1') rfl dJ2_addAll_34 ?_
    refine lv_aload_n zx zb dJ2_addAll_35 rfl (lv_at hl 3 rfl) ?_
    refine nv_get zC hX in_J2 (q0 + 1) (jW_a0 hne h0') rfl 2 (by decide) q116 (fun _ h => h) rfl dJ2_addAll_36 ?_
    refine lv_dup zx zb dJ2_addAll_39 rfl ?_
    refine lv_istore (lv' := [(5, .int (nI 0)), (4, .ref ed), (3, .int (nI n)), (2, .ref ra_1), (0, .ref zh), (1, .ref zl)]) zx zb dJ2_addAll_40 hl (by decide) rfl (fun ls hl => ?_)
    refine nv_isub zx zb (by decide) dJ2_addAll_42 ?_
    refine nv_icmp_le (tgt := 56) zx zb (by omega) (by decide) dJ2_addAll_43 (by decide) (fun c43 => ?_) (fun c43 => ?_)
    · refine lv_aload_n zx zb dJ2_addAll_56 rfl (lv_at hl 3 rfl) ?_
      refine lv_iconst (v := nI 0) zx zb dJ2_addAll_57 (by decide) ?_
      refine lv_aload zx zb dJ2_addAll_58 (lv_at hl 1 rfl) ?_
      refine lv_iload zx zb dJ2_addAll_60 (lv_at hl 0 rfl) ?_
      refine lv_iload_n zx zb dJ2_addAll_62 rfl (lv_at hl 2 rfl) ?_
      obtain ⟨yq, yhq⟩ := List.getElem?_of_mem (show (ra_1, aO dA n g_1) ∈ jW dA (q0 + 1) (q1 + 1) zh (mc + (nI 1)) ed 0 10 f0 ((ra_1, aO dA n g_1) :: ex) from jW_m (List.mem_cons_self (a := (ra_1, aO dA n g_1)) (l := ex)) h0' h1' hne rfl rfl hrz hre)
      refine nv_copyM zC hX hl.1 q428 yq (q1 + 1) yhq (jW_a1 hne h1') (by omega) (by omega) (by omega) (by omega) (fun i hi y hy => by
        rw [Nat.zero_add, hg_ i hi] at hy
        obtain ⟨ci, vs, q, a1, a2, a3⟩ := hel i hi y hy
        have a4 := List.mem_cons_of_mem (ra_1, aO dA n g_1) a1
        exact nv_any zC hX (jW_m a4 h0' h1' hne rfl rfl (hu_.ne a4 (List.mem_of_getElem? h0') (kc_ne (nc12 a2 a3))) (hu_.ne a4 (List.mem_of_getElem? h1') ni_ne)) a2 (zG.2.1 _ a3)) ⟨Nat.le_of_ble_eq_true rfl, Nat.le_of_ble_eq_true rfl⟩ (Nat.le_of_ble_eq_true rfl) dJ2_addAll_63 (fun H locs hX => ?_)
      have hX : nvS D a0 (jW dA (q0 + 1) (q1 + 1) zh (mc + (nI 1)) ed 0 10 (va_cpy g_1 f0 0 0 n) ((ra_1, aO dA n g_1) :: ex)) s.heap H locs := hX.as jW_s1
      refine lv_aload_n zx zb dJ2_addAll_66 rfl (lv_at hl 4 rfl) ?_
      refine lv_iload zx zb dJ2_addAll_67 (lv_at hl 0 rfl) ?_
      refine lv_iload_n zx zb dJ2_addAll_69 rfl (lv_at hl 2 rfl) ?_
      refine nv_iadd zx zb dJ2_addAll_70 ?_
      refine nv_as (show nI (0 + n) = nI n from (congrArg nI (Nat.zero_add n))) ?_
      refine nv_put zC hX in_J2 tyJ2 tyJ2_ok nmJ2 (q0 + 1) (jW_a0 hne h0') rfl 2 (by decide) q116 (fun _ h => h) rfl rfl rfl (Nat.le_of_ble_eq_true rfl) (w' := jW dA (q0 + 1) (q1 + 1) zh (mc + (nI 1)) ed n 10 (va_cpy g_1 f0 0 0 n) ((ra_1, aO dA n g_1) :: ex)) (jW_s0 hne) dJ2_addAll_71 (fun H locs hX => ?_)
      refine lv_iconst (v := nI 1) zx zb dJ2_addAll_74 (by decide) ?_
      rw [← zQ]
      refine nv_as (y := nB true) rfl ?_
      exact nv_endz zC zr zk (ra_1, g_1, va_cpy g_1 f0 0 0 n) hX (⟨rfl, fun j hj => (cpy0 hj).trans (hg_ j hj)⟩) (by omega) (by omega) dJ2_addAll_75
    · exact absurd c43 (by omega)
  · exact absurd c21 (by omega)

set_option maxHeartbeats 4000000 in
theorem mj_addAllB  (q0 : Nat) (mc : Int32) (zh : Nat) (mcl : Int32) (edl : Nat) (cpl : Nat) (fl : Nat → Option Nat) (n : Nat) (zl : Nat) (h0 : (ex)[q0]? = some (zh, .inr (12, [.int mc, .ref ez, .int (nI 0)]))) (hml : (zl, .inr (12, [.int mcl, .ref edl, .int (nI n)])) ∈ ex) (hal : (edl, aO dA cpl fl) ∈ ex) (hn1 : 1 ≤ n) (hn : n ≤ cpl) (hcp : cpl ≤ 10) (hel : ∀ i, i < n → ∀ y, fl i = some y → ∃ ci vs q, (y, .inr (ci, vs)) ∈ ex ∧ vwCl[ci]? = some q ∧ (q.1, "java/lang/Object") ∈ nvCs) : nMt l D dA a0 yJ2_addAll cJ2_addAll 6 (some .boolean) 4 94 2 20 (nvE2 a0 ez mo) [.ref zh, .ref zl] (ex) (nQi D a0 (fun (r : Int32) (u : Nat × Nat × (Nat → Option Nat) × (Nat → Option Nat)) => r = nB true ∧ (∀ j, j < n → u.2.2.2 j = fl j)) (fun (u : Nat × Nat × (Nat → Option Nat) × (Nat → Option Nat)) => (u.1, aO dA 10 u.2.2.2) :: (u.2.1, aO dA n u.2.2.1) :: lW q0 zh (mc + nI 1) u.1 n (ex))) := by
  refine nv_start (by decide) (Nat.le_of_ble_eq_true rfl) fun zp ze s zm zlo zme zcd ls zC zr zk znm hX zG hl => ?_
  have zx := zC.1
  have zb := zC.2.1
  generalize zargs : ([.ref zh, .ref zl] : List Value).toArray = zar at zC ⊢
  generalize zQ : MQ zlo _ zar s _ _ _ = Q
  have hX : nvS D a0 (ex) s.heap s.heap [] := hX
  have hl : lv_has ls 6 [(0, .ref zh), (1, .ref zl)] := hl
  obtain ⟨H, zH⟩ : ∃ H, H = s.heap := ⟨_, rfl⟩
  have hX : nvS D a0 (ex) s.heap H [] := by rw [zH]; exact hX
  rw [show W zp l ze (rm_ 4 94 2 20) s zm zar zlo zme zcd s.heap [] 0 0 Q = W zp l ze (rm_ 4 94 2 20) s zm zar zlo zme zcd H [] 0 0 Q by rw [zH]]
  generalize ([] : List Loc) = locs at hX ⊢
  have zG2 := zG
  have zG := zG2.1
  obtain ⟨yl, hyl⟩ := List.getElem?_of_mem hml
  refine lv_aload_n zx zb dJ2_addAll_0 rfl (lv_at hl 1 rfl) ?_
  refine nv_kFr zC hX (nv_rF (q := (RJ2, TJ2, 3)) (x := ⟨"java/util/Collection", "toArray", "()[Ljava/lang/Object;"⟩) (y := yJ2_toArray) (n := 0) (As := []) (rest := []) (q0 := yl) zC hX (mj_toArray (cp := cpl) (f := fl) (mc := mcl) (ra_ := edl) (n := n) (zh := zl) (hm := hml) (ha := hal) (hn := (by first | assumption | omega)) (hcp := (by first | assumption | omega)) (hel := hel)) (nvE2_b a0 ez mo) (nvE2_keep zG2 hX) (nvE_f8 zG) hyl rfl q934 q940 q938 q62 q942 (by decide +kernel) rfl ⟨Nat.le_of_ble_eq_true rfl, Nat.le_of_ble_eq_true rfl⟩ hl.1 (Nat.le_of_ble_eq_true rfl) dJ2_addAll_1 ⟨by first | exact Nat.le_of_ble_eq_true rfl | omega, by first | exact Nat.le_of_ble_eq_true rfl | omega⟩) (fun u ra H locs hp hX => ?_)
  obtain ⟨g_1, rfl⟩ : ∃ z, z = u := ⟨_, rfl⟩
  have hg_ : (∀ j, j < n → g_1 j = fl j) := hp
  obtain ⟨ra_1, rfl⟩ : ∃ z, z = ra := ⟨_, rfl⟩
  have hX : nvS D a0 ((ra_1, aO dA n g_1) :: ex) s.heap H locs := hX
  have hf_ := hX.fr1
  have hrz : ra_1 ≠ zh := fun e => hf_ _ (List.mem_of_getElem? h0) e.symm
  have hu_ := hX.un
  have h0' : (((ra_1, aO dA n g_1) :: ex))[q0 + 1]? = some (zh, .inr (12, [.int mc, .ref ez, .int (nI 0)])) := h0
  have hX : nvS D a0 (lW (q0 + 1) zh mc ez 0 ((ra_1, aO dA n g_1) :: ex)) s.heap H locs := hX.as (set_me h0')
  refine lv_astore_n (lv' := [(2, .ref ra_1), (0, .ref zh), (1, .ref zl)]) zx zb dJ2_addAll_6 rfl hl (by decide) rfl (fun ls hl => ?_)
  refine lv_aload_n zx zb dJ2_addAll_7 rfl (lv_at hl 1 rfl) ?_
  refine lv_dup zx zb dJ2_addAll_8 rfl ?_
  refine nv_get zC hX in_J2 (q0 + 1) (lW_a h0') rfl 0 (by decide) q118 (u_same (zC.2.2.2.2.1 _ q119)) rfl dJ2_addAll_9 ?_
  refine lv_iconst (v := nI 1) zx zb dJ2_addAll_12 (by decide) ?_
  refine lv_iadd zx zb dJ2_addAll_13 ?_
  refine nv_put zC hX in_J2 tyJ2 tyJ2_ok nmJ2 (q0 + 1) (lW_a h0') rfl 0 (by decide) q118 (u_same (zC.2.2.2.2.1 _ q119)) rfl rfl rfl (Nat.le_of_ble_eq_true rfl) (w' := lW (q0 + 1) zh (mc + (nI 1)) ez 0 ((ra_1, aO dA n g_1) :: ex)) lW_s dJ2_addAll_14 (fun H locs hX => ?_)
  refine lv_aload_n zx zb dJ2_addAll_17 rfl (lv_at hl 0 rfl) ?_
  refine nv_alenM zC hX 4 (set_kp h0' _ (List.mem_cons_self (a := (ra_1, aO dA n g_1)) (l := ex)) hrz) rfl dJ2_addAll_18 ?_
  refine lv_istore_n (lv' := [(3, .int (nI n)), (2, .ref ra_1), (0, .ref zh), (1, .ref zl)]) zx zb dJ2_addAll_19 rfl hl (by decide) rfl (fun ls hl => ?_)
  refine lv_iload_n zx zb dJ2_addAll_20 rfl (lv_at hl 0 rfl) ?_
  refine nv_if_ne (tgt := 26) zx zb (by omega) dJ2_addAll_21 (by decide) (fun c21 => ?_) (fun c21 => ?_)
  · refine lv_iload_n zx zb dJ2_addAll_26 rfl (lv_at hl 0 rfl) ?_
    refine lv_aload_n zx zb dJ2_addAll_27 rfl (lv_at hl 2 rfl) ?_
    refine nv_get zC hX in_J2 (q0 + 1) (lW_a h0') rfl 1 (by decide) q115 (fun _ h => h) rfl dJ2_addAll_28 ?_
    refine lv_dup zx zb dJ2_addAll_31 rfl ?_
    refine lv_astore (lv' := [(4, .ref ez), (3, .int (nI n)), (2, .ref ra_1), (0, .ref zh), (1, .ref zl)]) zx zb dJ2_addAll_32 hl (by decide) rfl (fun ls hl => ?_)
    refine nv_tlen zC zG hX dJ2_addAll_34 ?_
    refine lv_aload_n zx zb dJ2_addAll_35 rfl (lv_at hl 3 rfl) ?_
    refine nv_get zC hX in_J2 (q0 + 1) (lW_a h0') rfl 2 (by decide) q116 (fun _ h => h) rfl dJ2_addAll_36 ?_
    refine lv_dup zx zb dJ2_addAll_39 rfl ?_
    refine lv_istore (lv' := [(5, .int (nI 0)), (4, .ref ez), (3, .int (nI n)), (2, .ref ra_1), (0, .ref zh), (1, .ref zl)]) zx zb dJ2_addAll_40 hl (by decide) rfl (fun ls hl => ?_)
    refine nv_isub zx zb (by decide) dJ2_addAll_42 ?_
    refine nv_icmp_le (tgt := 56) zx zb (by omega) (by decide) dJ2_addAll_43 (by decide) (fun c43 => ?_) (fun c43 => ?_)
    · exact absurd c43 (by omega)
    · refine lv_aload_n zx zb dJ2_addAll_46 rfl (lv_at hl 4 rfl) ?_
      refine lv_iload zx zb dJ2_addAll_47 (lv_at hl 0 rfl) ?_
      refine lv_iload_n zx zb dJ2_addAll_49 rfl (lv_at hl 2 rfl) ?_
      refine nv_iadd zx zb dJ2_addAll_50 ?_
      refine nv_as (show nI (0 + n) = nI n from (congrArg nI (Nat.zero_add n))) ?_
      refine nv_kr zC hX (nv_rV (n := 1) (As := [.int (nI n)]) (rest := []) (q0 := (q0 + 1)) zC hX (mj_grow2 (q0 := (q0 + 1)) (mc := mc + nI 1) (n := 0) (zh := zh) (k_ := n) (h0 := (lW_a h0')) (hk := (by omega))) (nvE_b a0 ez) (nvE_keep zG hX) (lW_a h0') rfl q869 q871 qs26 q62 q872 (by decide +kernel) rfl ⟨Nat.le_of_ble_eq_true rfl, Nat.le_of_ble_eq_true rfl⟩ hl.1 (Nat.le_of_ble_eq_true rfl) dJ2_addAll_51 ⟨by first | exact Nat.le_of_ble_eq_true rfl | omega, by first | exact Nat.le_of_ble_eq_true rfl | omega⟩) (fun u ra H locs hp hX => ?_)
      obtain ⟨ra_51, rfl⟩ : ∃ z, z = ra := ⟨_, rfl⟩
      have hX : nvS D a0 ((ra_51, aO dA 10 (fun _ => none)) :: lW (q0 + 1) zh (mc + nI 1) ra_51 0 (lW (q0 + 1) zh (mc + (nI 1)) ez 0 ((ra_1, aO dA n g_1) :: ex))) s.heap H locs := hX
      have hX : nvS D a0 ((ra_51, aO dA 10 (fun _ => none)) :: lW (q0 + 1) zh (mc + nI 1) ra_51 0 ((ra_1, aO dA n g_1) :: ex)) s.heap H locs := hX.as (congrArg (List.cons _) lW_lW)
      refine lv_astore (lv' := [(4, .ref ra_51), (5, .int (nI 0)), (3, .int (nI n)), (2, .ref ra_1), (0, .ref zh), (1, .ref zl)]) zx zb dJ2_addAll_54 hl (by decide) rfl (fun ls hl => ?_)
      refine lv_aload_n zx zb dJ2_addAll_56 rfl (lv_at hl 3 rfl) ?_
      refine lv_iconst (v := nI 0) zx zb dJ2_addAll_57 (by decide) ?_
      refine lv_aload zx zb dJ2_addAll_58 (lv_at hl 0 rfl) ?_
      refine lv_iload zx zb dJ2_addAll_60 (lv_at hl 1 rfl) ?_
      refine lv_iload_n zx zb dJ2_addAll_62 rfl (lv_at hl 2 rfl) ?_
      obtain ⟨yq, yhq⟩ := List.getElem?_of_mem (show (ra_1, aO dA n g_1) ∈ (ra_51, aO dA 10 (fun _ => none)) :: lW (q0 + 1) zh (mc + nI 1) ra_51 0 ((ra_1, aO dA n g_1) :: ex) from List.mem_cons_of_mem _ (set_kp h0' _ (List.mem_cons_self (a := (ra_1, aO dA n g_1)) (l := ex)) hrz))
      refine nv_copyM zC hX hl.1 q428 yq 0 yhq rfl (by omega) (by omega) (by omega) (by omega) (fun i hi y hy => by
        rw [Nat.zero_add, hg_ i hi] at hy
        obtain ⟨ci, vs, q, a1, a2, a3⟩ := hel i hi y hy
        have a4 := List.mem_cons_of_mem (ra_1, aO dA n g_1) a1
        exact nv_any zC hX (List.mem_cons_of_mem _ (set_kp h0' _ a4 (hu_.ne a4 (List.mem_of_getElem? h0') (kc_ne (nc12 a2 a3))))) a2 (zG.2.1 _ a3)) ⟨Nat.le_of_ble_eq_true rfl, Nat.le_of_ble_eq_true rfl⟩ (Nat.le_of_ble_eq_true rfl) dJ2_addAll_63 (fun H locs hX => ?_)
      have hX : nvS D a0 ((ra_51, aO dA 10 (va_cpy g_1 (fun _ => none) 0 0 n)) :: lW (q0 + 1) zh (mc + nI 1) ra_51 0 ((ra_1, aO dA n g_1) :: ex)) s.heap H locs := hX
      refine lv_aload_n zx zb dJ2_addAll_66 rfl (lv_at hl 4 rfl) ?_
      refine lv_iload zx zb dJ2_addAll_67 (lv_at hl 1 rfl) ?_
      refine lv_iload_n zx zb dJ2_addAll_69 rfl (lv_at hl 2 rfl) ?_
      refine nv_iadd zx zb dJ2_addAll_70 ?_
      refine nv_as (show nI (0 + n) = nI n from (congrArg nI (Nat.zero_add n))) ?_
      refine nv_put zC hX in_J2 tyJ2 tyJ2_ok nmJ2 (q0 + 1 + 1) (lW_a h0') rfl 2 (by decide) q116 (fun _ h => h) rfl rfl rfl (Nat.le_of_ble_eq_true rfl) (w' := (ra_51, aO dA 10 (va_cpy g_1 (fun _ => none) 0 0 n)) :: lW (q0 + 1) zh (mc + nI 1) ra_51 n ((ra_1, aO dA n g_1) :: ex)) (congrArg (List.cons _) lW_s) dJ2_addAll_71 (fun H locs hX => ?_)
      refine lv_iconst (v := nI 1) zx zb dJ2_addAll_74 (by decide) ?_
      rw [← zQ]
      refine nv_as (y := nB true) rfl ?_
      exact nv_endz zC zr zk (ra_51, ra_1, g_1, va_cpy g_1 (fun _ => none) 0 0 n) hX (⟨rfl, fun j hj => (cpy0 (g := fun _ => none) hj).trans (hg_ j hj)⟩) (by omega) (by omega) dJ2_addAll_75
  · exact absurd c21 (by omega)
end CL_68_e4
