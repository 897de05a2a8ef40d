/-! printed by klass.py -/
set_option maxRecDepth 100000
section CL_32_c1
variable {l : Launch} {D : va_G} {dA : Nat → ClassId} {a0 ez : Nat} {ex : va_W}
set_option maxHeartbeats 4000000 in
theorem mj_size  (zh : Nat) (mc : Int32) (ed : Nat) (n : Nat) (hm : (zh, .inr (12, [.int mc, .ref ed, .int (nI n)])) ∈ ex) : nMt l D dA a0 yJ2_size cJ2_size 1 (some .int) 1 12 0 0 nvG0 [.ref zh] (ex) (nQi D a0 (fun (r : Int32) (_ : Unit) => r = nI n) (fun (_ : Unit) => ex)) := by
  refine nv_start (by decide) (Nat.le_of_ble_eq_true rfl) fun zp ze s zm zlo zme zcd ls zC zr zk znm hX zG hl => ?_
  have zx := zC.1
  have zb := zC.2.1
  generalize zargs : ([.ref zh] : List Value).toArray = zar at zC ⊢
  generalize zQ : MQ zlo _ zar s _ _ _ = Q
  have hX : nvS D a0 (ex) s.heap s.heap [] := hX
  have hl : lv_has ls 1 [(0, .ref zh)] := hl
  obtain ⟨H, zH⟩ : ∃ H, H = s.heap := ⟨_, rfl⟩
  have hX : nvS D a0 (ex) s.heap H [] := by rw [zH]; exact hX
  rw [show W zp l ze (rm_ 1 12 0 0) s zm zar zlo zme zcd s.heap [] 0 0 Q = W zp l ze (rm_ 1 12 0 0) s zm zar zlo zme zcd H [] 0 0 Q by rw [zH]]
  generalize ([] : List Loc) = locs at hX ⊢
  obtain ⟨yq, yhq⟩ := List.getElem?_of_mem hm
  refine lv_aload_n zx zb dJ2_size_0 rfl (lv_at hl 0 rfl) ?_
  refine nv_get zC hX in_J2 yq yhq rfl 2 (by decide) q116 (fun _ h => h) rfl dJ2_size_1 ?_
  rw [← zQ]
  exact nv_endi zC zr zk () hX (by first | rfl | trivial) (by omega) (by omega) dJ2_size_4

set_option maxHeartbeats 4000000 in
theorem mj_isEmpty  (zh : Nat) (mc : Int32) (ed : Nat) (n : Nat) (hm : (zh, .inr (12, [.int mc, .ref ed, .int (nI n)])) ∈ ex) (hn : n < 1000) : nMt l D dA a0 yJ2_isEmpty cJ2_isEmpty 1 (some .boolean) 1 12 0 0 nvG0 [.ref zh] (ex) (nQi D a0 (fun (r : Int32) (_ : Unit) => r = nB (decide (n = 0))) (fun (_ : Unit) => ex)) := by
  refine nv_start (by decide) (Nat.le_of_ble_eq_true rfl) fun zp ze s zm zlo zme zcd ls zC zr zk znm hX zG hl => ?_
  have zx := zC.1
  have zb := zC.2.1
  generalize zargs : ([.ref zh] : List Value).toArray = zar at zC ⊢
  generalize zQ : MQ zlo _ zar s _ _ _ = Q
  have hX : nvS D a0 (ex) s.heap s.heap [] := hX
  have hl : lv_has ls 1 [(0, .ref zh)] := hl
  obtain ⟨H, zH⟩ : ∃ H, H = s.heap := ⟨_, rfl⟩
  have hX : nvS D a0 (ex) s.heap H [] := by rw [zH]; exact hX
  rw [show W zp l ze (rm_ 1 12 0 0) s zm zar zlo zme zcd s.heap [] 0 0 Q = W zp l ze (rm_ 1 12 0 0) s zm zar zlo zme zcd H [] 0 0 Q by rw [zH]]
  generalize ([] : List Loc) = locs at hX ⊢
  obtain ⟨yq, yhq⟩ := List.getElem?_of_mem hm
  refine lv_aload_n zx zb dJ2_isEmpty_0 rfl (lv_at hl 0 rfl) ?_
  refine nv_get zC hX in_J2 yq yhq rfl 2 (by decide) q116 (fun _ h => h) rfl dJ2_isEmpty_1 ?_
  refine nv_if_ne (tgt := 11) zx zb (by omega) dJ2_isEmpty_4 (by decide) (fun c4 => ?_) (fun c4 => ?_)
  · refine lv_iconst (v := nI 0) zx zb dJ2_isEmpty_11 (by decide) ?_
    refine nv_as (show nI 0 = nB (decide (n = 0)) from (nB_as0 (by simp; omega))) ?_
    rw [← zQ]
    exact nv_endz zC zr zk () hX (by first | rfl | trivial) (by omega) (by omega) dJ2_isEmpty_12
  · refine lv_iconst (v := nI 1) zx zb dJ2_isEmpty_7 (by decide) ?_
    refine lv_goto (tgt := 12) zx zb dJ2_isEmpty_8 (by decide) ?_
    refine nv_as (show nI 1 = nB (decide (n = 0)) from (nB_as1 (by simp [c4]))) ?_
    rw [← zQ]
    exact nv_endz zC zr zk () hX (by first | rfl | trivial) (by omega) (by omega) dJ2_isEmpty_12

set_option maxHeartbeats 4000000 in
theorem mj_elementData  (zh : Nat) (mc : Int32) (ed : Nat) (n : Nat) (f : Nat → Option Nat) (i : Nat) (hm : (zh, .inr (12, [.int mc, .ref ed, .int (nI n)])) ∈ ex) (ha : (ed, aO dA 10 f) ∈ ex) (hi : i < 10) : nMt l D dA a0 yJ2_elementData cJ2_elementData 2 (some (.object "java/lang/Object")) 1 12 0 0 nvG0 [.ref zh, .int (nI i)] (ex) (nQq D a0 (fun (r : Option Nat) (_ : Unit) => r = f i) (fun (_ : Unit) => ex)) := by
  refine nv_start (by decide) (Nat.le_of_ble_eq_true rfl) fun zp ze s zm zlo zme zcd ls zC zr zk znm hX zG hl => ?_
  have zx := zC.1
  have zb := zC.2.1
  generalize zargs : ([.ref zh, .int (nI i)] : List Value).toArray = zar at zC ⊢
  generalize zQ : MQ zlo _ zar s _ _ _ = Q
  have hX : nvS D a0 (ex) s.heap s.heap [] := hX
  have hl : lv_has ls 2 [(0, .ref zh), (1, .int (nI i))] := hl
  obtain ⟨H, zH⟩ : ∃ H, H = s.heap := ⟨_, rfl⟩
  have hX : nvS D a0 (ex) s.heap H [] := by rw [zH]; exact hX
  rw [show W zp l ze (rm_ 1 12 0 0) s zm zar zlo zme zcd s.heap [] 0 0 Q = W zp l ze (rm_ 1 12 0 0) s zm zar zlo zme zcd H [] 0 0 Q by rw [zH]]
  generalize ([] : List Loc) = locs at hX ⊢
  obtain ⟨yq, yhq⟩ := List.getElem?_of_mem hm
  obtain ⟨yr, yhr⟩ := List.getElem?_of_mem ha
  refine lv_aload_n zx zb dJ2_elementData_0 rfl (lv_at hl 0 rfl) ?_
  refine nv_get zC hX in_J2 yq yhq rfl 1 (by decide) q115 (fun _ h => h) rfl dJ2_elementData_1 ?_
  refine lv_iload_n zx zb dJ2_elementData_4 rfl (lv_at hl 1 rfl) ?_
  refine nv_aald (v := f i) zC hX yr 4 yhr rfl (by omega) (by decide) rfl dJ2_elementData_5 ?_
  rw [← zQ]
  exact nv_endq zC zr (Or.inl ⟨_, rfl⟩) zk () hX (by first | rfl | trivial) (by omega) (by omega) dJ2_elementData_6

set_option maxHeartbeats 4000000 in
theorem mj_chk3  (i : Nat) (n : Nat) (zz : Nat) (hi : i < n) (hn : n < 1000) : nMt l D dA a0 yJ17_checkIndex cJ17_checkIndex 3 (some .int) 1 12 0 0 nvG0 [.int (nI i), .int (nI n), .null] (ex) (nQi D a0 (fun (r : Int32) (_ : Unit) => r = nI i) (fun (_ : Unit) => ex)) := by
  refine nv_start (by decide) (Nat.le_of_ble_eq_true rfl) fun zp ze s zm zlo zme zcd ls zC zr zk znm hX zG hl => ?_
  have zx := zC.1
  have zb := zC.2.1
  generalize zargs : ([.int (nI i), .int (nI n), .null] : List Value).toArray = zar at zC ⊢
  generalize zQ : MQ zlo _ zar s _ _ _ = Q
  have hX : nvS D a0 (ex) s.heap s.heap [] := hX
  have hl : lv_has ls 3 [(0, .int (nI i)), (1, .int (nI n)), (2, .null)] := hl
  obtain ⟨H, zH⟩ : ∃ H, H = s.heap := ⟨_, rfl⟩
  have hX : nvS D a0 (ex) s.heap H [] := by rw [zH]; exact hX
  rw [show W zp l ze (rm_ 1 12 0 0) s zm zar zlo zme zcd s.heap [] 0 0 Q = W zp l ze (rm_ 1 12 0 0) s zm zar zlo zme zcd H [] 0 0 Q by rw [zH]]
  generalize ([] : List Loc) = locs at hX ⊢
  refine lv_iload_n zx zb dJ17_checkIndex_0 rfl (lv_at hl 0 rfl) ?_
  refine nv_if_lt (tgt := 9) zx zb (by omega) dJ17_checkIndex_1 (by decide) ?_
  refine lv_iload_n zx zb dJ17_checkIndex_4 rfl (lv_at hl 0 rfl) ?_
  refine lv_iload_n zx zb dJ17_checkIndex_5 rfl (lv_at hl 1 rfl) ?_
  refine nv_icmp_lt (tgt := 16) zx zb (by omega) (by omega) dJ17_checkIndex_6 (by decide) (fun c6 => ?_) (fun c6 => ?_)
  · refine lv_iload_n zx zb dJ17_checkIndex_16 rfl (lv_at hl 0 rfl) ?_
    rw [← zQ]
    exact nv_endi zC zr zk () hX (by first | rfl | trivial) (by omega) (by omega) dJ17_checkIndex_17
  · exact absurd hi (by omega)

set_option maxHeartbeats 4000000 in
theorem mj_chk  (i : Nat) (n : Nat) (hi : i < n) (hn : n < 1000) : nMt l D dA a0 yJ16_checkIndex cJ16_checkIndex 2 (some .int) 2 34 0 0 nvG0 [.int (nI i), .int (nI n)] (ex) (nQi D a0 (fun (r : Int32) (_ : Unit) => r = nI i) (fun (_ : Unit) => ex)) := by
  refine nv_start (by decide) (Nat.le_of_ble_eq_true rfl) fun zp ze s zm zlo zme zcd ls zC zr zk znm hX zG hl => ?_
  have zx := zC.1
  have zb := zC.2.1
  generalize zargs : ([.int (nI i), .int (nI n)] : List Value).toArray = zar at zC ⊢
  generalize zQ : MQ zlo _ zar s _ _ _ = Q
  have hX : nvS D a0 (ex) s.heap s.heap [] := hX
  have hl : lv_has ls 2 [(0, .int (nI i)), (1, .int (nI n))] := hl
  obtain ⟨H, zH⟩ : ∃ H, H = s.heap := ⟨_, rfl⟩
  have hX : nvS D a0 (ex) s.heap H [] := by rw [zH]; exact hX
  rw [show W zp l ze (rm_ 2 34 0 0) s zm zar zlo zme zcd s.heap [] 0 0 Q = W zp l ze (rm_ 2 34 0 0) s zm zar zlo zme zcd H [] 0 0 Q by rw [zH]]
  generalize ([] : List Loc) = locs at hX ⊢
  refine lv_iload_n zx zb dJ16_checkIndex_0 rfl (lv_at hl 0 rfl) ?_
  refine lv_iload_n zx zb dJ16_checkIndex_1 rfl (lv_at hl 1 rfl) ?_
  refine lv_null zx zb dJ16_checkIndex_2 ?_
  refine nv_ki zC hX (nv_rS (n := 3) (As := [.int (nI i), .int (nI n), .null]) (rest := []) zC hX (mj_chk3 (i := i) (n := n) (zz := 0) (hi := (by first | assumption | omega)) (hn := (by first | assumption | omega))) nvGb0 (fun _ _ _ => trivial) q212 q213 q85 q214 (by decide +kernel) rfl ⟨Nat.le_of_ble_eq_true rfl, Nat.le_of_ble_eq_true rfl⟩ hl.1 (Nat.le_of_ble_eq_true rfl) dJ16_checkIndex_3 ⟨by first | exact Nat.le_of_ble_eq_true rfl | omega, by first | exact Nat.le_of_ble_eq_true rfl | omega⟩) (fun r u H locs hp hX => ?_)
  have hr_ : r = nI i := hp
  subst hr_
  have hX : nvS D a0 (ex) s.heap H locs := hX
  refine W.cs (cells' := 0) (slots' := 0) (Nat.add_zero _) (Nat.add_zero _) ?_
  rw [← zQ]
  exact nv_endi zC zr zk () hX (by first | rfl | trivial) (by omega) (by omega) dJ16_checkIndex_6

set_option maxHeartbeats 4000000 in
theorem mj_get  (zh : Nat) (mc : Int32) (ed : Nat) (n : Nat) (f : Nat → Option Nat) (i : Nat) (hm : (zh, .inr (12, [.int mc, .ref ed, .int (nI n)])) ∈ ex) (ha : (ed, aO dA 10 f) ∈ ex) (hi : i < n) (hn : n ≤ 10) : nMt l D dA a0 yJ2_get cJ2_get 2 (some (.object "java/lang/Object")) 3 55 0 0 nvG0 [.ref zh, .int (nI i)] (ex) (nQq D a0 (fun (r : Option Nat) (_ : Unit) => r = f i) (fun (_ : Unit) => ex)) := by
  refine nv_start (by decide) (Nat.le_of_ble_eq_true rfl) fun zp ze s zm zlo zme zcd ls zC zr zk znm hX zG hl => ?_
  have zx := zC.1
  have zb := zC.2.1
  generalize zargs : ([.ref zh, .int (nI i)] : List Value).toArray = zar at zC ⊢
  generalize zQ : MQ zlo _ zar s _ _ _ = Q
  have hX : nvS D a0 (ex) s.heap s.heap [] := hX
  have hl : lv_has ls 2 [(0, .ref zh), (1, .int (nI i))] := hl
  obtain ⟨H, zH⟩ : ∃ H, H = s.heap := ⟨_, rfl⟩
  have hX : nvS D a0 (ex) s.heap H [] := by rw [zH]; exact hX
  rw [show W zp l ze (rm_ 3 55 0 0) s zm zar zlo zme zcd s.heap [] 0 0 Q = W zp l ze (rm_ 3 55 0 0) s zm zar zlo zme zcd H [] 0 0 Q by rw [zH]]
  generalize ([] : List Loc) = locs at hX ⊢
  obtain ⟨yq, yhq⟩ := List.getElem?_of_mem hm
  obtain ⟨yr, yhr⟩ := List.getElem?_of_mem ha
  refine lv_iload_n zx zb dJ2_get_0 rfl (lv_at hl 1 rfl) ?_
  refine lv_aload_n zx zb dJ2_get_1 rfl (lv_at hl 0 rfl) ?_
  refine nv_get zC hX in_J2 yq yhq rfl 2 (by decide) q116 (fun _ h => h) rfl dJ2_get_2 ?_
  refine nv_ki zC hX (nv_rS (n := 2) (As := [.int (nI i), .int (nI n)]) (rest := []) zC hX (mj_chk (i := i) (n := n) (hi := (by first | assumption | omega)) (hn := (by first | assumption | omega))) nvGb0 (fun _ _ _ => trivial) q209 q210 q84 q211 (by decide +kernel) rfl ⟨Nat.le_of_ble_eq_true rfl, Nat.le_of_ble_eq_true rfl⟩ hl.1 (Nat.le_of_ble_eq_true rfl) dJ2_get_5 ⟨by first | exact Nat.le_of_ble_eq_true rfl | omega, by first | exact Nat.le_of_ble_eq_true rfl | omega⟩) (fun r u H locs hp hX => ?_)
  have hr_ : r = nI i := hp
  subst hr_
  have hX : nvS D a0 (ex) s.heap H locs := hX
  refine W.cs (cells' := 0) (slots' := 0) (Nat.add_zero _) (Nat.add_zero _) ?_
  refine lv_pop zx zb dJ2_get_8 rfl ?_
  refine lv_aload_n zx zb dJ2_get_9 rfl (lv_at hl 0 rfl) ?_
  refine lv_iload_n zx zb dJ2_get_10 rfl (lv_at hl 1 rfl) ?_
  refine nv_kq zC hX (nv_rV (n := 1) (As := [.int (nI i)]) (rest := []) (q0 := yq) zC hX (mj_elementData (zh := zh) (mc := mc) (ed := ed) (n := n) (f := f) (i := i) (hm := (by first | assumption | omega)) (ha := (by first | assumption | omega)) (hi := (by first | assumption | omega))) nvGb0 (fun _ _ _ => trivial) yhq rfl q215 q216 q217 q62 q218 (by decide +kernel) rfl ⟨Nat.le_of_ble_eq_true rfl, Nat.le_of_ble_eq_true rfl⟩ hl.1 (Nat.le_of_ble_eq_true rfl) dJ2_get_11 ⟨by first | exact Nat.le_of_ble_eq_true rfl | omega, by first | exact Nat.le_of_ble_eq_true rfl | omega⟩) (fun r u H locs hp hX => ?_)
  have hr_ : r = f i := hp
  subst hr_
  have hX : nvS D a0 (ex) s.heap H locs := hX
  refine W.cs (cells' := 0) (slots' := 0) (Nat.add_zero _) (Nat.add_zero _) ?_
  rw [← zQ]
  exact nv_endq zC zr (Or.inl ⟨_, rfl⟩) zk () hX (by first | rfl | trivial) (by omega) (by omega) dJ2_get_14

set_option maxHeartbeats 4000000 in
theorem mp_X5_endsAs_0  (zh : Nat) (la : Nat) (x0 : Nat) (ln : Nat) (lt : Nat → Nat) (e : Nat) (c : Nat) (fr : Nat) (hm : (zh, .inr (2, [.ref la, .ref x0])) ∈ ex) (ha : (la, aI dA ln (nF lt)) ∈ ex) (hl1 : 1 ≤ ln) (hl4 : ln ≤ 4) (hlt : ∀ j, lt j < 3) (he : e < 54) (hc : c < 3) (hfr : fr ≤ 1) : nMt l D dA a0 yX5_endsAs cX5_endsAs 7 (some .boolean) 1 12 0 0 nvG0 [.ref zh, .int (nI e), .int (nI c), .int (nI fr)] (ex) (nQi D a0 (fun (r : Int32) (_ : Unit) => r = nB (eaB ln lt fr (3 * e + c))) (fun (_ : Unit) => ex)) := by
  refine nv_start (by decide) (Nat.le_of_ble_eq_true rfl) fun zp ze s zm zlo zme zcd ls zC zr zk znm hX zG hl => ?_
  have zx := zC.1
  have zb := zC.2.1
  generalize zargs : ([.ref zh, .int (nI e), .int (nI c), .int (nI fr)] : List Value).toArray = zar at zC ⊢
  generalize zQ : MQ zlo _ zar s _ _ _ = Q
  have hX : nvS D a0 (ex) s.heap s.heap [] := hX
  have hl : lv_has ls 7 [(0, .ref zh), (1, .int (nI e)), (2, .int (nI c)), (3, .int (nI fr))] := hl
  obtain ⟨H, zH⟩ : ∃ H, H = s.heap := ⟨_, rfl⟩
  have hX : nvS D a0 (ex) s.heap H [] := by rw [zH]; exact hX
  rw [show W zp l ze (rm_ 1 12 0 0) s zm zar zlo zme zcd s.heap [] 0 0 Q = W zp l ze (rm_ 1 12 0 0) s zm zar zlo zme zcd H [] 0 0 Q by rw [zH]]
  generalize ([] : List Loc) = locs at hX ⊢
  obtain ⟨yq, yhq⟩ := List.getElem?_of_mem hm
  obtain ⟨yr, yhr⟩ := List.getElem?_of_mem ha
  have hbb : ∀ k, (3 * e + c) / 3 ^ k < 2 ^ 31 := fun k => (Nat.lt_of_le_of_lt (Nat.div_le_self _ _) (by omega))
  refine lv_iload_n zx zb dX5_endsAs_0 rfl (lv_at hl 1 rfl) ?_
  refine lv_iconst (v := nI 3) zx zb dX5_endsAs_1 (by decide) ?_
  refine nv_imul zx zb dX5_endsAs_2 ?_
  refine lv_iload_n zx zb dX5_endsAs_3 rfl (lv_at hl 2 rfl) ?_
  refine nv_iadd zx zb dX5_endsAs_4 ?_
  refine nv_as (show nI ((e * 3) + c) = nI (3 * e + c) from (congrArg nI (by omega))) ?_
  refine lv_istore (lv' := [(4, .int (nI (3 * e + c))), (0, .ref zh), (1, .int (nI e)), (2, .int (nI c)), (3, .int (nI fr))]) zx zb dX5_endsAs_5 hl (by decide) rfl (fun ls hl => ?_)
  refine lv_iload zx zb dX5_endsAs_7 (lv_at hl 0 rfl) ?_
  refine lv_iconst (v := nI 3) zx zb dX5_endsAs_9 (by decide) ?_
  refine nv_icmp_lt (tgt := 17) zx zb (by omega) (by omega) dX5_endsAs_10 (by decide) (fun c10 => ?_) (fun c10 => ?_)
  · refine lv_iconst (v := nI 0) zx zb dX5_endsAs_17 (by decide) ?_
    refine nv_as (show nI 0 = nB (decide (3 ≤ 3 * e + c)) from (nB_as0 (decide_eq_false (by omega)))) ?_
    refine lv_istore (lv' := [(5, .int (nB (decide (3 ≤ 3 * e + c)))), (4, .int (nI (3 * e + c))), (0, .ref zh), (1, .int (nI e)), (2, .int (nI c)), (3, .int (nI fr))]) zx zb dX5_endsAs_18 hl (by decide) rfl (fun ls hl => ?_)
    refine lv_aload_n zx zb dX5_endsAs_20 rfl (lv_at hl 2 rfl) ?_
    refine nv_get zC hX in_X5 yq yhq rfl 0 (by decide) q444 (fun _ h => h) rfl dX5_endsAs_21 ?_
    refine nv_alen zC hX yr 0 yhr rfl dX5_endsAs_24 ?_
    refine lv_iconst (v := nI 1) zx zb dX5_endsAs_25 (by decide) ?_
    refine lv_isub zx zb dX5_endsAs_26 ?_
    refine lv_istore (lv' := [(6, .int ((nI ln) - (nI 1))), (5, .int (nB (decide (3 ≤ 3 * e + c)))), (4, .int (nI (3 * e + c))), (0, .ref zh), (1, .int (nI e)), (2, .int (nI c)), (3, .int (nI fr))]) zx zb dX5_endsAs_27 hl (by decide) rfl (fun ls hl => ?_)
    have L29 : ∀ (zn : Nat) (m : Nat) (hm : m ≤ ln), m < zn → ∀ (H : Heap) (locs : List Loc) (ls : Array Slot), nvS D a0 (ex) s.heap H locs → lv_has ls 7 [(6, .int (nI m - nI 1)), (5, .int (nB (decide (3 ≤ 3 * e + c) && eaU ln lt fr (3 * e + c) (ln - m)))), (4, .int (nI ((3 * e + c) / 3 ^ (ln - m)))), (0, .ref zh), (1, .int (nI e)), (2, .int (nI c)), (3, .int (nI fr))] → W zp l ze (rm_ 1 12 0 0) s zm zar zlo zme zcd H locs 0 0 Q (F0 zm 29 ls []) := by
      intro zn
      induction zn with
      | zero => intro m hm zf; exact absurd zf (Nat.not_lt_zero _)
      | succ zn ih29 =>
        intro m hm zf H locs ls hX hl
        refine lv_iload zx zb dX5_endsAs_29 (lv_at hl 0 rfl) ?_
        rcases m with _ | m
        · refine lv_if_lt (x := nI 0 - nI 1) (tgt := 84) zx zb dX5_endsAs_31 (by decide) (fun c31 => ?_) (fun c31 => ?_)
          · refine lv_iload zx zb dX5_endsAs_84 (lv_at hl 1 rfl) ?_
            rw [← zQ]
            exact nv_endz zC zr zk () hX (by first | rfl | trivial) (by omega) (by omega) dX5_endsAs_86
          · exact absurd (by decide) c31
        · rw [show nI (m + 1) - nI 1 = nI m from by rw [pk_sub (by omega)]; rfl] at hl ⊢
          refine nv_if_lt (tgt := 84) zx zb (by omega) dX5_endsAs_31 (by decide) ?_
          refine lv_iload zx zb dX5_endsAs_34 (lv_at hl 1 rfl) ?_
          refine lv_iload zx zb dX5_endsAs_36 (lv_at hl 2 rfl) ?_
          refine lv_iconst (v := nI 3) zx zb dX5_endsAs_38 (by decide) ?_
          refine nv_icmp_lt (tgt := 68) zx zb (hbb _) (by decide) dX5_endsAs_39 (by decide) (fun c39 => ?_) (fun c39 => ?_)
          · refine lv_iconst (v := nI 0) zx zb dX5_endsAs_68 (by decide) ?_
            refine nv_as (show nI 0 = nB (decide (3 ≤ (3 * e + c) / 3 ^ (ln - (m + 1)) ∧ (3 * e + c) / 3 ^ (ln - (m + 1)) % 3 = lt ((fr + m) % ln))) from (nB_as0 (decide_eq_false (fun z => absurd z.1 (by omega))))) ?_
            refine nv_iandB zx zb dX5_endsAs_69 ?_
            refine nv_as (show nB ((decide (3 ≤ 3 * e + c) && eaU ln lt fr (3 * e + c) (ln - (m + 1))) && (decide (3 ≤ (3 * e + c) / 3 ^ (ln - (m + 1)) ∧ (3 * e + c) / 3 ^ (ln - (m + 1)) % 3 = lt ((fr + m) % ln)))) = nB (decide (3 ≤ 3 * e + c) && eaU ln lt fr (3 * e + c) (ln - m)) from (congrArg nB (eaU_s hm))) ?_
            refine lv_istore (lv' := [(5, .int (nB (decide (3 ≤ 3 * e + c) && eaU ln lt fr (3 * e + c) (ln - m)))), (6, .int (nI m)), (4, .int (nI ((3 * e + c) / 3 ^ (ln - (m + 1))))), (0, .ref zh), (1, .int (nI e)), (2, .int (nI c)), (3, .int (nI fr))]) zx zb dX5_endsAs_70 hl (by decide) rfl (fun ls hl => ?_)
            refine lv_iload zx zb dX5_endsAs_72 (lv_at hl 2 rfl) ?_
            refine lv_iconst (v := nI 3) zx zb dX5_endsAs_74 (by decide) ?_
            refine nv_idiv zx zb (hbb _) (by decide) (by decide) dX5_endsAs_75 ?_
            refine nv_as (show nI (((3 * e + c) / 3 ^ (ln - (m + 1))) / 3) = nI ((3 * e + c) / 3 ^ (ln - m)) from (congrArg nI (dv3 hm))) ?_
            refine lv_istore (lv' := [(4, .int (nI ((3 * e + c) / 3 ^ (ln - m)))), (5, .int (nB (decide (3 ≤ 3 * e + c) && eaU ln lt fr (3 * e + c) (ln - m)))), (6, .int (nI m)), (0, .ref zh), (1, .int (nI e)), (2, .int (nI c)), (3, .int (nI fr))]) zx zb dX5_endsAs_76 hl (by decide) rfl (fun ls hl => ?_)
            refine lv_iinc (v := nI m - nI 1) (lv' := [(6, .int (nI m - nI 1)), (4, .int (nI ((3 * e + c) / 3 ^ (ln - m)))), (5, .int (nB (decide (3 ≤ 3 * e + c) && eaU ln lt fr (3 * e + c) (ln - m)))), (0, .ref zh), (1, .int (nI e)), (2, .int (nI c)), (3, .int (nI fr))]) zx zb dX5_endsAs_78 hl (k := 2) rfl (nI_dm m) (by decide) rfl (fun ls hl => ?_)
            refine lv_goto (tgt := 29) zx zb dX5_endsAs_81 (by decide) ?_
            exact ih29 m (by omega) (by omega) _ _ _ hX (lv_sub hl [0, 2, 1, 3, 4, 5, 6] rfl)
          · refine lv_iload zx zb dX5_endsAs_42 (lv_at hl 2 rfl) ?_
            refine lv_iconst (v := nI 3) zx zb dX5_endsAs_44 (by decide) ?_
            refine nv_irem zx zb (hbb _) (by decide) (by decide) dX5_endsAs_45 ?_
            refine lv_aload_n zx zb dX5_endsAs_46 rfl (lv_at hl 3 rfl) ?_
            refine nv_get zC hX in_X5 yq yhq rfl 0 (by decide) q444 (fun _ h => h) rfl dX5_endsAs_47 ?_
            refine lv_iload_n zx zb dX5_endsAs_50 rfl (lv_at hl 6 rfl) ?_
            refine lv_iload zx zb dX5_endsAs_51 (lv_at hl 0 rfl) ?_
            refine nv_iadd zx zb dX5_endsAs_53 ?_
            refine lv_aload_n zx zb dX5_endsAs_54 rfl (lv_at hl 3 rfl) ?_
            refine nv_get zC hX in_X5 yq yhq rfl 0 (by decide) q444 (fun _ h => h) rfl dX5_endsAs_55 ?_
            refine nv_alen zC hX yr 0 yhr rfl dX5_endsAs_58 ?_
            refine nv_irem zx zb (by omega) (by omega) (by omega) dX5_endsAs_59 ?_
            refine nv_iald (v := nI (lt ((fr + m) % ln))) zC hX yr yhr (Nat.mod_lt _ (by omega)) (by omega) rfl dX5_endsAs_60 ?_
            refine nv_icmp_ne (tgt := 68) zx zb (Nat.lt_of_lt_of_le (Nat.mod_lt _ (by decide)) (by decide)) (Nat.lt_trans (hlt _) (by decide)) dX5_endsAs_61 (by decide) (fun c61 => ?_) (fun c61 => ?_)
            · refine lv_iconst (v := nI 0) zx zb dX5_endsAs_68 (by decide) ?_
              refine nv_as (show nI 0 = nB (decide (3 ≤ (3 * e + c) / 3 ^ (ln - (m + 1)) ∧ (3 * e + c) / 3 ^ (ln - (m + 1)) % 3 = lt ((fr + m) % ln))) from (nB_as0 (decide_eq_false (fun z => absurd z.2 (by omega))))) ?_
              refine nv_iandB zx zb dX5_endsAs_69 ?_
              refine nv_as (show nB ((decide (3 ≤ 3 * e + c) && eaU ln lt fr (3 * e + c) (ln - (m + 1))) && (decide (3 ≤ (3 * e + c) / 3 ^ (ln - (m + 1)) ∧ (3 * e + c) / 3 ^ (ln - (m + 1)) % 3 = lt ((fr + m) % ln)))) = nB (decide (3 ≤ 3 * e + c) && eaU ln lt fr (3 * e + c) (ln - m)) from (congrArg nB (eaU_s hm))) ?_
              refine lv_istore (lv' := [(5, .int (nB (decide (3 ≤ 3 * e + c) && eaU ln lt fr (3 * e + c) (ln - m)))), (6, .int (nI m)), (4, .int (nI ((3 * e + c) / 3 ^ (ln - (m + 1))))), (0, .ref zh), (1, .int (nI e)), (2, .int (nI c)), (3, .int (nI fr))]) zx zb dX5_endsAs_70 hl (by decide) rfl (fun ls hl => ?_)
              refine lv_iload zx zb dX5_endsAs_72 (lv_at hl 2 rfl) ?_
              refine lv_iconst (v := nI 3) zx zb dX5_endsAs_74 (by decide) ?_
              refine nv_idiv zx zb (hbb _) (by decide) (by decide) dX5_endsAs_75 ?_
              refine nv_as (show nI (((3 * e + c) / 3 ^ (ln - (m + 1))) / 3) = nI ((3 * e + c) / 3 ^ (ln - m)) from (congrArg nI (dv3 hm))) ?_
              refine lv_istore (lv' := [(4, .int (nI ((3 * e + c) / 3 ^ (ln - m)))), (5, .int (nB (decide (3 ≤ 3 * e + c) && eaU ln lt fr (3 * e + c) (ln - m)))), (6, .int (nI m)), (0, .ref zh), (1, .int (nI e)), (2, .int (nI c)), (3, .int (nI fr))]) zx zb dX5_endsAs_76 hl (by decide) rfl (fun ls hl => ?_)
              refine lv_iinc (v := nI m - nI 1) (lv' := [(6, .int (nI m - nI 1)), (4, .int (nI ((3 * e + c) / 3 ^ (ln - m)))), (5, .int (nB (decide (3 ≤ 3 * e + c) && eaU ln lt fr (3 * e + c) (ln - m)))), (0, .ref zh), (1, .int (nI e)), (2, .int (nI c)), (3, .int (nI fr))]) zx zb dX5_endsAs_78 hl (k := 2) rfl (nI_dm m) (by decide) rfl (fun ls hl => ?_)
              refine lv_goto (tgt := 29) zx zb dX5_endsAs_81 (by decide) ?_
              exact ih29 m (by omega) (by omega) _ _ _ hX (lv_sub hl [0, 2, 1, 3, 4, 5, 6] rfl)
            · refine lv_iconst (v := nI 1) zx zb dX5_endsAs_64 (by decide) ?_
              refine lv_goto (tgt := 69) zx zb dX5_endsAs_65 (by decide) ?_
              refine nv_as (show nI 1 = nB (decide (3 ≤ (3 * e + c) / 3 ^ (ln - (m + 1)) ∧ (3 * e + c) / 3 ^ (ln - (m + 1)) % 3 = lt ((fr + m) % ln))) from (nB_as1 (decide_eq_true ⟨by omega, by omega⟩))) ?_
              refine nv_iandB zx zb dX5_endsAs_69 ?_
              refine nv_as (show nB ((decide (3 ≤ 3 * e + c) && eaU ln lt fr (3 * e + c) (ln - (m + 1))) && (decide (3 ≤ (3 * e + c) / 3 ^ (ln - (m + 1)) ∧ (3 * e + c) / 3 ^ (ln - (m + 1)) % 3 = lt ((fr + m) % ln)))) = nB (decide (3 ≤ 3 * e + c) && eaU ln lt fr (3 * e + c) (ln - m)) from (congrArg nB (eaU_s hm))) ?_
              refine lv_istore (lv' := [(5, .int (nB (decide (3 ≤ 3 * e + c) && eaU ln lt fr (3 * e + c) (ln - m)))), (6, .int (nI m)), (4, .int (nI ((3 * e + c) / 3 ^ (ln - (m + 1))))), (0, .ref zh), (1, .int (nI e)), (2, .int (nI c)), (3, .int (nI fr))]) zx zb dX5_endsAs_70 hl (by decide) rfl (fun ls hl => ?_)
              refine lv_iload zx zb dX5_endsAs_72 (lv_at hl 2 rfl) ?_
              refine lv_iconst (v := nI 3) zx zb dX5_endsAs_74 (by decide) ?_
              refine nv_idiv zx zb (hbb _) (by decide) (by decide) dX5_endsAs_75 ?_
              refine nv_as (show nI (((3 * e + c) / 3 ^ (ln - (m + 1))) / 3) = nI ((3 * e + c) / 3 ^ (ln - m)) from (congrArg nI (dv3 hm))) ?_
              refine lv_istore (lv' := [(4, .int (nI ((3 * e + c) / 3 ^ (ln - m)))), (5, .int (nB (decide (3 ≤ 3 * e + c) && eaU ln lt fr (3 * e + c) (ln - m)))), (6, .int (nI m)), (0, .ref zh), (1, .int (nI e)), (2, .int (nI c)), (3, .int (nI fr))]) zx zb dX5_endsAs_76 hl (by decide) rfl (fun ls hl => ?_)
              refine lv_iinc (v := nI m - nI 1) (lv' := [(6, .int (nI m - nI 1)), (4, .int (nI ((3 * e + c) / 3 ^ (ln - m)))), (5, .int (nB (decide (3 ≤ 3 * e + c) && eaU ln lt fr (3 * e + c) (ln - m)))), (0, .ref zh), (1, .int (nI e)), (2, .int (nI c)), (3, .int (nI fr))]) zx zb dX5_endsAs_78 hl (k := 2) rfl (nI_dm m) (by decide) rfl (fun ls hl => ?_)
              refine lv_goto (tgt := 29) zx zb dX5_endsAs_81 (by decide) ?_
              exact ih29 m (by omega) (by omega) _ _ _ hX (lv_sub hl [0, 2, 1, 3, 4, 5, 6] rfl)
    rw [show nI (3 * e + c) = nI ((3 * e + c) / 3 ^ (ln - ln)) from by rw [Nat.sub_self, Nat.pow_zero, Nat.div_one], show nB (decide (3 ≤ 3 * e + c)) = nB (decide (3 ≤ 3 * e + c) && eaU ln lt fr (3 * e + c) (ln - ln)) from by rw [Nat.sub_self, eaU_0, Bool.and_true]] at hl
    exact L29 _ ln (Nat.le_refl _) (Nat.lt_succ_self _) _ _ _ hX (lv_sub hl [0, 1, 2, 3, 4, 5, 6] rfl)
  · refine lv_iconst (v := nI 1) zx zb dX5_endsAs_13 (by decide) ?_
    refine lv_goto (tgt := 18) zx zb dX5_endsAs_14 (by decide) ?_
    refine nv_as (show nI 1 = nB (decide (3 ≤ 3 * e + c)) from (nB_as1 (decide_eq_true (by omega)))) ?_
    refine lv_istore (lv' := [(5, .int (nB (decide (3 ≤ 3 * e + c)))), (4, .int (nI (3 * e + c))), (0, .ref zh), (1, .int (nI e)), (2, .int (nI c)), (3, .int (nI fr))]) zx zb dX5_endsAs_18 hl (by decide) rfl (fun ls hl => ?_)
    refine lv_aload_n zx zb dX5_endsAs_20 rfl (lv_at hl 2 rfl) ?_
    refine nv_get zC hX in_X5 yq yhq rfl 0 (by decide) q444 (fun _ h => h) rfl dX5_endsAs_21 ?_
    refine nv_alen zC hX yr 0 yhr rfl dX5_endsAs_24 ?_
    refine lv_iconst (v := nI 1) zx zb dX5_endsAs_25 (by decide) ?_
    refine lv_isub zx zb dX5_endsAs_26 ?_
    refine lv_istore (lv' := [(6, .int ((nI ln) - (nI 1))), (5, .int (nB (decide (3 ≤ 3 * e + c)))), (4, .int (nI (3 * e + c))), (0, .ref zh), (1, .int (nI e)), (2, .int (nI c)), (3, .int (nI fr))]) zx zb dX5_endsAs_27 hl (by decide) rfl (fun ls hl => ?_)
    have L29 : ∀ (zn : Nat) (m : Nat) (hm : m ≤ ln), m < zn → ∀ (H : Heap) (locs : List Loc) (ls : Array Slot), nvS D a0 (ex) s.heap H locs → lv_has ls 7 [(6, .int (nI m - nI 1)), (5, .int (nB (decide (3 ≤ 3 * e + c) && eaU ln lt fr (3 * e + c) (ln - m)))), (4, .int (nI ((3 * e + c) / 3 ^ (ln - m)))), (0, .ref zh), (1, .int (nI e)), (2, .int (nI c)), (3, .int (nI fr))] → W zp l ze (rm_ 1 12 0 0) s zm zar zlo zme zcd H locs 0 0 Q (F0 zm 29 ls []) := by
      intro zn
      induction zn with
      | zero => intro m hm zf; exact absurd zf (Nat.not_lt_zero _)
      | succ zn ih29 =>
        intro m hm zf H locs ls hX hl
        refine lv_iload zx zb dX5_endsAs_29 (lv_at hl 0 rfl) ?_
        rcases m with _ | m
        · refine lv_if_lt (x := nI 0 - nI 1) (tgt := 84) zx zb dX5_endsAs_31 (by decide) (fun c31 => ?_) (fun c31 => ?_)
          · refine lv_iload zx zb dX5_endsAs_84 (lv_at hl 1 rfl) ?_
            rw [← zQ]
            exact nv_endz zC zr zk () hX (by first | rfl | trivial) (by omega) (by omega) dX5_endsAs_86
          · exact absurd (by decide) c31
        · rw [show nI (m + 1) - nI 1 = nI m from by rw [pk_sub (by omega)]; rfl] at hl ⊢
          refine nv_if_lt (tgt := 84) zx zb (by omega) dX5_endsAs_31 (by decide) ?_
          refine lv_iload zx zb dX5_endsAs_34 (lv_at hl 1 rfl) ?_
          refine lv_iload zx zb dX5_endsAs_36 (lv_at hl 2 rfl) ?_
          refine lv_iconst (v := nI 3) zx zb dX5_endsAs_38 (by decide) ?_
          refine nv_icmp_lt (tgt := 68) zx zb (hbb _) (by decide) dX5_endsAs_39 (by decide) (fun c39 => ?_) (fun c39 => ?_)
          · refine lv_iconst (v := nI 0) zx zb dX5_endsAs_68 (by decide) ?_
            refine nv_as (show nI 0 = nB (decide (3 ≤ (3 * e + c) / 3 ^ (ln - (m + 1)) ∧ (3 * e + c) / 3 ^ (ln - (m + 1)) % 3 = lt ((fr + m) % ln))) from (nB_as0 (decide_eq_false (fun z => absurd z.1 (by omega))))) ?_
            refine nv_iandB zx zb dX5_endsAs_69 ?_
            refine nv_as (show nB ((decide (3 ≤ 3 * e + c) && eaU ln lt fr (3 * e + c) (ln - (m + 1))) && (decide (3 ≤ (3 * e + c) / 3 ^ (ln - (m + 1)) ∧ (3 * e + c) / 3 ^ (ln - (m + 1)) % 3 = lt ((fr + m) % ln)))) = nB (decide (3 ≤ 3 * e + c) && eaU ln lt fr (3 * e + c) (ln - m)) from (congrArg nB (eaU_s hm))) ?_
            refine lv_istore (lv' := [(5, .int (nB (decide (3 ≤ 3 * e + c) && eaU ln lt fr (3 * e + c) (ln - m)))), (6, .int (nI m)), (4, .int (nI ((3 * e + c) / 3 ^ (ln - (m + 1))))), (0, .ref zh), (1, .int (nI e)), (2, .int (nI c)), (3, .int (nI fr))]) zx zb dX5_endsAs_70 hl (by decide) rfl (fun ls hl => ?_)
            refine lv_iload zx zb dX5_endsAs_72 (lv_at hl 2 rfl) ?_
            refine lv_iconst (v := nI 3) zx zb dX5_endsAs_74 (by decide) ?_
            refine nv_idiv zx zb (hbb _) (by decide) (by decide) dX5_endsAs_75 ?_
            refine nv_as (show nI (((3 * e + c) / 3 ^ (ln - (m + 1))) / 3) = nI ((3 * e + c) / 3 ^ (ln - m)) from (congrArg nI (dv3 hm))) ?_
            refine lv_istore (lv' := [(4, .int (nI ((3 * e + c) / 3 ^ (ln - m)))), (5, .int (nB (decide (3 ≤ 3 * e + c) && eaU ln lt fr (3 * e + c) (ln - m)))), (6, .int (nI m)), (0, .ref zh), (1, .int (nI e)), (2, .int (nI c)), (3, .int (nI fr))]) zx zb dX5_endsAs_76 hl (by decide) rfl (fun ls hl => ?_)
            refine lv_iinc (v := nI m - nI 1) (lv' := [(6, .int (nI m - nI 1)), (4, .int (nI ((3 * e + c) / 3 ^ (ln - m)))), (5, .int (nB (decide (3 ≤ 3 * e + c) && eaU ln lt fr (3 * e + c) (ln - m)))), (0, .ref zh), (1, .int (nI e)), (2, .int (nI c)), (3, .int (nI fr))]) zx zb dX5_endsAs_78 hl (k := 2) rfl (nI_dm m) (by decide) rfl (fun ls hl => ?_)
            refine lv_goto (tgt := 29) zx zb dX5_endsAs_81 (by decide) ?_
            exact ih29 m (by omega) (by omega) _ _ _ hX (lv_sub hl [0, 2, 1, 3, 4, 5, 6] rfl)
          · refine lv_iload zx zb dX5_endsAs_42 (lv_at hl 2 rfl) ?_
            refine lv_iconst (v := nI 3) zx zb dX5_endsAs_44 (by decide) ?_
            refine nv_irem zx zb (hbb _) (by decide) (by decide) dX5_endsAs_45 ?_
            refine lv_aload_n zx zb dX5_endsAs_46 rfl (lv_at hl 3 rfl) ?_
            refine nv_get zC hX in_X5 yq yhq rfl 0 (by decide) q444 (fun _ h => h) rfl dX5_endsAs_47 ?_
            refine lv_iload_n zx zb dX5_endsAs_50 rfl (lv_at hl 6 rfl) ?_
            refine lv_iload zx zb dX5_endsAs_51 (lv_at hl 0 rfl) ?_
            refine nv_iadd zx zb dX5_endsAs_53 ?_
            refine lv_aload_n zx zb dX5_endsAs_54 rfl (lv_at hl 3 rfl) ?_
            refine nv_get zC hX in_X5 yq yhq rfl 0 (by decide) q444 (fun _ h => h) rfl dX5_endsAs_55 ?_
            refine nv_alen zC hX yr 0 yhr rfl dX5_endsAs_58 ?_
            refine nv_irem zx zb (by omega) (by omega) (by omega) dX5_endsAs_59 ?_
            refine nv_iald (v := nI (lt ((fr + m) % ln))) zC hX yr yhr (Nat.mod_lt _ (by omega)) (by omega) rfl dX5_endsAs_60 ?_
            refine nv_icmp_ne (tgt := 68) zx zb (Nat.lt_of_lt_of_le (Nat.mod_lt _ (by decide)) (by decide)) (Nat.lt_trans (hlt _) (by decide)) dX5_endsAs_61 (by decide) (fun c61 => ?_) (fun c61 => ?_)
            · refine lv_iconst (v := nI 0) zx zb dX5_endsAs_68 (by decide) ?_
              refine nv_as (show nI 0 = nB (decide (3 ≤ (3 * e + c) / 3 ^ (ln - (m + 1)) ∧ (3 * e + c) / 3 ^ (ln - (m + 1)) % 3 = lt ((fr + m) % ln))) from (nB_as0 (decide_eq_false (fun z => absurd z.2 (by omega))))) ?_
              refine nv_iandB zx zb dX5_endsAs_69 ?_
              refine nv_as (show nB ((decide (3 ≤ 3 * e + c) && eaU ln lt fr (3 * e + c) (ln - (m + 1))) && (decide (3 ≤ (3 * e + c) / 3 ^ (ln - (m + 1)) ∧ (3 * e + c) / 3 ^ (ln - (m + 1)) % 3 = lt ((fr + m) % ln)))) = nB (decide (3 ≤ 3 * e + c) && eaU ln lt fr (3 * e + c) (ln - m)) from (congrArg nB (eaU_s hm))) ?_
              refine lv_istore (lv' := [(5, .int (nB (decide (3 ≤ 3 * e + c) && eaU ln lt fr (3 * e + c) (ln - m)))), (6, .int (nI m)), (4, .int (nI ((3 * e + c) / 3 ^ (ln - (m + 1))))), (0, .ref zh), (1, .int (nI e)), (2, .int (nI c)), (3, .int (nI fr))]) zx zb dX5_endsAs_70 hl (by decide) rfl (fun ls hl => ?_)
              refine lv_iload zx zb dX5_endsAs_72 (lv_at hl 2 rfl) ?_
              refine lv_iconst (v := nI 3) zx zb dX5_endsAs_74 (by decide) ?_
              refine nv_idiv zx zb (hbb _) (by decide) (by decide) dX5_endsAs_75 ?_
              refine nv_as (show nI (((3 * e + c) / 3 ^ (ln - (m + 1))) / 3) = nI ((3 * e + c) / 3 ^ (ln - m)) from (congrArg nI (dv3 hm))) ?_
              refine lv_istore (lv' := [(4, .int (nI ((3 * e + c) / 3 ^ (ln - m)))), (5, .int (nB (decide (3 ≤ 3 * e + c) && eaU ln lt fr (3 * e + c) (ln - m)))), (6, .int (nI m)), (0, .ref zh), (1, .int (nI e)), (2, .int (nI c)), (3, .int (nI fr))]) zx zb dX5_endsAs_76 hl (by decide) rfl (fun ls hl => ?_)
              refine lv_iinc (v := nI m - nI 1) (lv' := [(6, .int (nI m - nI 1)), (4, .int (nI ((3 * e + c) / 3 ^ (ln - m)))), (5, .int (nB (decide (3 ≤ 3 * e + c) && eaU ln lt fr (3 * e + c) (ln - m)))), (0, .ref zh), (1, .int (nI e)), (2, .int (nI c)), (3, .int (nI fr))]) zx zb dX5_endsAs_78 hl (k := 2) rfl (nI_dm m) (by decide) rfl (fun ls hl => ?_)
              refine lv_goto (tgt := 29) zx zb dX5_endsAs_81 (by decide) ?_
              exact ih29 m (by omega) (by omega) _ _ _ hX (lv_sub hl [0, 2, 1, 3, 4, 5, 6] rfl)
            · refine lv_iconst (v := nI 1) zx zb dX5_endsAs_64 (by decide) ?_
              refine lv_goto (tgt := 69) zx zb dX5_endsAs_65 (by decide) ?_
              refine nv_as (show nI 1 = nB (decide (3 ≤ (3 * e + c) / 3 ^ (ln - (m + 1)) ∧ (3 * e + c) / 3 ^ (ln - (m + 1)) % 3 = lt ((fr + m) % ln))) from (nB_as1 (decide_eq_true ⟨by omega, by omega⟩))) ?_
              refine nv_iandB zx zb dX5_endsAs_69 ?_
              refine nv_as (show nB ((decide (3 ≤ 3 * e + c) && eaU ln lt fr (3 * e + c) (ln - (m + 1))) && (decide (3 ≤ (3 * e + c) / 3 ^ (ln - (m + 1)) ∧ (3 * e + c) / 3 ^ (ln - (m + 1)) % 3 = lt ((fr + m) % ln)))) = nB (decide (3 ≤ 3 * e + c) && eaU ln lt fr (3 * e + c) (ln - m)) from (congrArg nB (eaU_s hm))) ?_
              refine lv_istore (lv' := [(5, .int (nB (decide (3 ≤ 3 * e + c) && eaU ln lt fr (3 * e + c) (ln - m)))), (6, .int (nI m)), (4, .int (nI ((3 * e + c) / 3 ^ (ln - (m + 1))))), (0, .ref zh), (1, .int (nI e)), (2, .int (nI c)), (3, .int (nI fr))]) zx zb dX5_endsAs_70 hl (by decide) rfl (fun ls hl => ?_)
              refine lv_iload zx zb dX5_endsAs_72 (lv_at hl 2 rfl) ?_
              refine lv_iconst (v := nI 3) zx zb dX5_endsAs_74 (by decide) ?_
              refine nv_idiv zx zb (hbb _) (by decide) (by decide) dX5_endsAs_75 ?_
              refine nv_as (show nI (((3 * e + c) / 3 ^ (ln - (m + 1))) / 3) = nI ((3 * e + c) / 3 ^ (ln - m)) from (congrArg nI (dv3 hm))) ?_
              refine lv_istore (lv' := [(4, .int (nI ((3 * e + c) / 3 ^ (ln - m)))), (5, .int (nB (decide (3 ≤ 3 * e + c) && eaU ln lt fr (3 * e + c) (ln - m)))), (6, .int (nI m)), (0, .ref zh), (1, .int (nI e)), (2, .int (nI c)), (3, .int (nI fr))]) zx zb dX5_endsAs_76 hl (by decide) rfl (fun ls hl => ?_)
              refine lv_iinc (v := nI m - nI 1) (lv' := [(6, .int (nI m - nI 1)), (4, .int (nI ((3 * e + c) / 3 ^ (ln - m)))), (5, .int (nB (decide (3 ≤ 3 * e + c) && eaU ln lt fr (3 * e + c) (ln - m)))), (0, .ref zh), (1, .int (nI e)), (2, .int (nI c)), (3, .int (nI fr))]) zx zb dX5_endsAs_78 hl (k := 2) rfl (nI_dm m) (by decide) rfl (fun ls hl => ?_)
              refine lv_goto (tgt := 29) zx zb dX5_endsAs_81 (by decide) ?_
              exact ih29 m (by omega) (by omega) _ _ _ hX (lv_sub hl [0, 2, 1, 3, 4, 5, 6] rfl)
    rw [show nI (3 * e + c) = nI ((3 * e + c) / 3 ^ (ln - ln)) from by rw [Nat.sub_self, Nat.pow_zero, Nat.div_one], show nB (decide (3 ≤ 3 * e + c)) = nB (decide (3 ≤ 3 * e + c) && eaU ln lt fr (3 * e + c) (ln - ln)) from by rw [Nat.sub_self, eaU_0, Bool.and_true]] at hl
    exact L29 _ ln (Nat.le_refl _) (Nat.lt_succ_self _) _ _ _ hX (lv_sub hl [0, 1, 2, 3, 4, 5, 6] rfl)

set_option maxHeartbeats 4000000 in
theorem mp_X5_endsBackwards_0  (zh : Nat) (la : Nat) (x0 : Nat) (ln : Nat) (lt : Nat → Nat) (e : Nat) (c : Nat) (hm : (zh, .inr (2, [.ref la, .ref x0])) ∈ ex) (ha : (la, aI dA ln (nF lt)) ∈ ex) (hl1 : 1 ≤ ln) (hl4 : ln ≤ 4) (hlt : ∀ j, lt j < 3) (he : e < 54) (hc : c < 3) : nMt l D dA a0 yX5_endsBackwards cX5_endsBackwards 9 (some .boolean) 1 12 0 0 nvG0 [.ref zh, .int (nI e), .int (nI c)] (ex) (nQi D a0 (fun (r : Int32) (_ : Unit) => r = nB (ebU lt (3 * e + c) ln)) (fun (_ : Unit) => ex)) := by
  refine nv_start (by decide) (Nat.le_of_ble_eq_true rfl) fun zp ze s zm zlo zme zcd ls zC zr zk znm hX zG hl => ?_
  have zx := zC.1
  have zb := zC.2.1
  generalize zargs : ([.ref zh, .int (nI e), .int (nI c)] : List Value).toArray = zar at zC ⊢
  generalize zQ : MQ zlo _ zar s _ _ _ = Q
  have hX : nvS D a0 (ex) s.heap s.heap [] := hX
  have hl : lv_has ls 9 [(0, .ref zh), (1, .int (nI e)), (2, .int (nI c))] := hl
  obtain ⟨H, zH⟩ : ∃ H, H = s.heap := ⟨_, rfl⟩
  have hX : nvS D a0 (ex) s.heap H [] := by rw [zH]; exact hX
  rw [show W zp l ze (rm_ 1 12 0 0) s zm zar zlo zme zcd s.heap [] 0 0 Q = W zp l ze (rm_ 1 12 0 0) s zm zar zlo zme zcd H [] 0 0 Q by rw [zH]]
  generalize ([] : List Loc) = locs at hX ⊢
  obtain ⟨yq, yhq⟩ := List.getElem?_of_mem hm
  obtain ⟨yr, yhr⟩ := List.getElem?_of_mem ha
  have hbb : ∀ k, (3 * e + c) / 3 ^ k < 2 ^ 31 := fun k => (Nat.lt_of_le_of_lt (Nat.div_le_self _ _) (by omega))
  refine lv_iload_n zx zb dX5_endsBackwards_0 rfl (lv_at hl 1 rfl) ?_
  refine lv_iconst (v := nI 3) zx zb dX5_endsBackwards_1 (by decide) ?_
  refine nv_imul zx zb dX5_endsBackwards_2 ?_
  refine lv_iload_n zx zb dX5_endsBackwards_3 rfl (lv_at hl 2 rfl) ?_
  refine nv_iadd zx zb dX5_endsBackwards_4 ?_
  refine nv_as (show nI ((e * 3) + c) = nI (3 * e + c) from (congrArg nI (by omega))) ?_
  refine lv_istore_n (lv' := [(3, .int (nI (3 * e + c))), (0, .ref zh), (1, .int (nI e)), (2, .int (nI c))]) zx zb dX5_endsBackwards_5 rfl hl (by decide) rfl (fun ls hl => ?_)
  refine lv_iconst (v := nI 1) zx zb dX5_endsBackwards_6 (by decide) ?_
  refine lv_istore (lv' := [(4, .int (nI 1)), (3, .int (nI (3 * e + c))), (0, .ref zh), (1, .int (nI e)), (2, .int (nI c))]) zx zb dX5_endsBackwards_7 hl (by decide) rfl (fun ls hl => ?_)
  refine lv_aload_n zx zb dX5_endsBackwards_9 rfl (lv_at hl 2 rfl) ?_
  refine nv_get zC hX in_X5 yq yhq rfl 0 (by decide) q444 (fun _ h => h) rfl dX5_endsBackwards_10 ?_
  refine lv_astore (lv' := [(5, .ref la), (4, .int (nI 1)), (3, .int (nI (3 * e + c))), (0, .ref zh), (1, .int (nI e)), (2, .int (nI c))]) zx zb dX5_endsBackwards_13 hl (by decide) rfl (fun ls hl => ?_)
  refine lv_aload zx zb dX5_endsBackwards_15 (lv_at hl 0 rfl) ?_
  refine nv_alen zC hX yr 0 yhr rfl dX5_endsBackwards_17 ?_
  refine lv_istore (lv' := [(6, .int (nI ln)), (5, .ref la), (4, .int (nI 1)), (3, .int (nI (3 * e + c))), (0, .ref zh), (1, .int (nI e)), (2, .int (nI c))]) zx zb dX5_endsBackwards_18 hl (by decide) rfl (fun ls hl => ?_)
  refine lv_iconst (v := nI 0) zx zb dX5_endsBackwards_20 (by decide) ?_
  refine lv_istore (lv' := [(7, .int (nI 0)), (6, .int (nI ln)), (5, .ref la), (4, .int (nI 1)), (3, .int (nI (3 * e + c))), (0, .ref zh), (1, .int (nI e)), (2, .int (nI c))]) zx zb dX5_endsBackwards_21 hl (by decide) rfl (fun ls hl => ?_)
  have L23 : ∀ (zn : Nat) (i : Nat) (hi : i ≤ ln), ln - i < zn → ∀ (H : Heap) (locs : List Loc) (ls : Array Slot), nvS D a0 (ex) s.heap H locs → lv_has ls 9 [(7, .int (nI i)), (6, .int (nI ln)), (5, .ref la), (4, .int (nB (ebU lt (3 * e + c) i))), (3, .int (nI ((3 * e + c) / 3 ^ i))), (0, .ref zh), (1, .int (nI e)), (2, .int (nI c))] → W zp l ze (rm_ 1 12 0 0) s zm zar zlo zme zcd H locs 0 0 Q (F0 zm 23 ls []) := by
    intro zn
    induction zn with
    | zero => intro i hi zf; exact absurd zf (Nat.not_lt_zero _)
    | succ zn ih23 =>
      intro i hi zf H locs ls hX hl
      refine lv_iload zx zb dX5_endsBackwards_23 (lv_at hl 0 rfl) ?_
      refine lv_iload zx zb dX5_endsBackwards_25 (lv_at hl 1 rfl) ?_
      refine nv_icmp_ge (tgt := 70) zx zb (by omega) (by omega) dX5_endsBackwards_27 (by decide) (fun c27 => ?_) (fun c27 => ?_)
      · refine lv_iload zx zb dX5_endsBackwards_70 (lv_at hl 3 rfl) ?_
        rw [← zQ]
        exact nv_endz zC zr zk () hX (by have e_ : i = ln := (by omega); rw [e_]) (by omega) (by omega) dX5_endsBackwards_72
      · refine lv_aload zx zb dX5_endsBackwards_30 (lv_at hl 2 rfl) ?_
        refine lv_iload zx zb dX5_endsBackwards_32 (lv_at hl 0 rfl) ?_
        refine nv_iald (v := nI (lt i)) zC hX yr yhr (by omega) (by omega) rfl dX5_endsBackwards_34 ?_
        refine lv_istore (lv' := [(8, .int (nI (lt i))), (7, .int (nI i)), (6, .int (nI ln)), (5, .ref la), (4, .int (nB (ebU lt (3 * e + c) i))), (3, .int (nI ((3 * e + c) / 3 ^ i))), (0, .ref zh), (1, .int (nI e)), (2, .int (nI c))]) zx zb dX5_endsBackwards_35 hl (by decide) rfl (fun ls hl => ?_)
        refine lv_iload zx zb dX5_endsBackwards_37 (lv_at hl 4 rfl) ?_
        refine lv_iload_n zx zb dX5_endsBackwards_39 rfl (lv_at hl 5 rfl) ?_
        refine lv_iconst (v := nI 3) zx zb dX5_endsBackwards_40 (by decide) ?_
        refine nv_icmp_lt (tgt := 56) zx zb (hbb _) (by decide) dX5_endsBackwards_41 (by decide) (fun c41 => ?_) (fun c41 => ?_)
        · refine lv_iconst (v := nI 0) zx zb dX5_endsBackwards_56 (by decide) ?_
          refine nv_as (show nI 0 = nB (decide (3 ≤ (3 * e + c) / 3 ^ i ∧ (3 * e + c) / 3 ^ i % 3 = lt i)) from (nB_as0 (decide_eq_false (fun z => absurd z.1 (by omega))))) ?_
          refine nv_iandB zx zb dX5_endsBackwards_57 ?_
          refine nv_as (show nB ((ebU lt (3 * e + c) i) && (decide (3 ≤ (3 * e + c) / 3 ^ i ∧ (3 * e + c) / 3 ^ i % 3 = lt i))) = nB (ebU lt (3 * e + c) (i + 1)) from (congrArg nB ebU_s)) ?_
          refine lv_istore (lv' := [(4, .int (nB (ebU lt (3 * e + c) (i + 1)))), (8, .int (nI (lt i))), (7, .int (nI i)), (6, .int (nI ln)), (5, .ref la), (3, .int (nI ((3 * e + c) / 3 ^ i))), (0, .ref zh), (1, .int (nI e)), (2, .int (nI c))]) zx zb dX5_endsBackwards_58 hl (by decide) rfl (fun ls hl => ?_)
          refine lv_iload_n zx zb dX5_endsBackwards_60 rfl (lv_at hl 5 rfl) ?_
          refine lv_iconst (v := nI 3) zx zb dX5_endsBackwards_61 (by decide) ?_
          refine nv_idiv zx zb (hbb _) (by decide) (by decide) dX5_endsBackwards_62 ?_
          refine nv_as (show nI (((3 * e + c) / 3 ^ i) / 3) = nI ((3 * e + c) / 3 ^ (i + 1)) from (congrArg nI dv3s)) ?_
          refine lv_istore_n (lv' := [(3, .int (nI ((3 * e + c) / 3 ^ (i + 1)))), (4, .int (nB (ebU lt (3 * e + c) (i + 1)))), (8, .int (nI (lt i))), (7, .int (nI i)), (6, .int (nI ln)), (5, .ref la), (0, .ref zh), (1, .int (nI e)), (2, .int (nI c))]) zx zb dX5_endsBackwards_63 rfl hl (by decide) rfl (fun ls hl => ?_)
          refine lv_iinc (v := nI (i + 1)) (lv' := [(7, .int (nI (i + 1))), (3, .int (nI ((3 * e + c) / 3 ^ (i + 1)))), (4, .int (nB (ebU lt (3 * e + c) (i + 1)))), (8, .int (nI (lt i))), (6, .int (nI ln)), (5, .ref la), (0, .ref zh), (1, .int (nI e)), (2, .int (nI c))]) zx zb dX5_endsBackwards_64 hl (k := 3) rfl (nI_1 _) (by decide) rfl (fun ls hl => ?_)
          refine lv_goto (tgt := 23) zx zb dX5_endsBackwards_67 (by decide) ?_
          exact ih23 (i + 1) (by omega) (by omega) _ _ _ hX (lv_sub hl [0, 4, 5, 2, 1, 6, 7, 8] rfl)
        · refine lv_iload_n zx zb dX5_endsBackwards_44 rfl (lv_at hl 5 rfl) ?_
          refine lv_iconst (v := nI 3) zx zb dX5_endsBackwards_45 (by decide) ?_
          refine nv_irem zx zb (hbb _) (by decide) (by decide) dX5_endsBackwards_46 ?_
          refine lv_iload zx zb dX5_endsBackwards_47 (lv_at hl 0 rfl) ?_
          refine nv_icmp_ne (tgt := 56) zx zb (Nat.lt_of_lt_of_le (Nat.mod_lt _ (by decide)) (by decide)) (Nat.lt_trans (hlt _) (by decide)) dX5_endsBackwards_49 (by decide) (fun c49 => ?_) (fun c49 => ?_)
          · refine lv_iconst (v := nI 0) zx zb dX5_endsBackwards_56 (by decide) ?_
            refine nv_as (show nI 0 = nB (decide (3 ≤ (3 * e + c) / 3 ^ i ∧ (3 * e + c) / 3 ^ i % 3 = lt i)) from (nB_as0 (decide_eq_false (fun z => absurd z.2 (by omega))))) ?_
            refine nv_iandB zx zb dX5_endsBackwards_57 ?_
            refine nv_as (show nB ((ebU lt (3 * e + c) i) && (decide (3 ≤ (3 * e + c) / 3 ^ i ∧ (3 * e + c) / 3 ^ i % 3 = lt i))) = nB (ebU lt (3 * e + c) (i + 1)) from (congrArg nB ebU_s)) ?_
            refine lv_istore (lv' := [(4, .int (nB (ebU lt (3 * e + c) (i + 1)))), (8, .int (nI (lt i))), (7, .int (nI i)), (6, .int (nI ln)), (5, .ref la), (3, .int (nI ((3 * e + c) / 3 ^ i))), (0, .ref zh), (1, .int (nI e)), (2, .int (nI c))]) zx zb dX5_endsBackwards_58 hl (by decide) rfl (fun ls hl => ?_)
            refine lv_iload_n zx zb dX5_endsBackwards_60 rfl (lv_at hl 5 rfl) ?_
            refine lv_iconst (v := nI 3) zx zb dX5_endsBackwards_61 (by decide) ?_
            refine nv_idiv zx zb (hbb _) (by decide) (by decide) dX5_endsBackwards_62 ?_
            refine nv_as (show nI (((3 * e + c) / 3 ^ i) / 3) = nI ((3 * e + c) / 3 ^ (i + 1)) from (congrArg nI dv3s)) ?_
            refine lv_istore_n (lv' := [(3, .int (nI ((3 * e + c) / 3 ^ (i + 1)))), (4, .int (nB (ebU lt (3 * e + c) (i + 1)))), (8, .int (nI (lt i))), (7, .int (nI i)), (6, .int (nI ln)), (5, .ref la), (0, .ref zh), (1, .int (nI e)), (2, .int (nI c))]) zx zb dX5_endsBackwards_63 rfl hl (by decide) rfl (fun ls hl => ?_)
            refine lv_iinc (v := nI (i + 1)) (lv' := [(7, .int (nI (i + 1))), (3, .int (nI ((3 * e + c) / 3 ^ (i + 1)))), (4, .int (nB (ebU lt (3 * e + c) (i + 1)))), (8, .int (nI (lt i))), (6, .int (nI ln)), (5, .ref la), (0, .ref zh), (1, .int (nI e)), (2, .int (nI c))]) zx zb dX5_endsBackwards_64 hl (k := 3) rfl (nI_1 _) (by decide) rfl (fun ls hl => ?_)
            refine lv_goto (tgt := 23) zx zb dX5_endsBackwards_67 (by decide) ?_
            exact ih23 (i + 1) (by omega) (by omega) _ _ _ hX (lv_sub hl [0, 4, 5, 2, 1, 6, 7, 8] rfl)
          · refine lv_iconst (v := nI 1) zx zb dX5_endsBackwards_52 (by decide) ?_
            refine lv_goto (tgt := 57) zx zb dX5_endsBackwards_53 (by decide) ?_
            refine nv_as (show nI 1 = nB (decide (3 ≤ (3 * e + c) / 3 ^ i ∧ (3 * e + c) / 3 ^ i % 3 = lt i)) from (nB_as1 (decide_eq_true ⟨by omega, by omega⟩))) ?_
            refine nv_iandB zx zb dX5_endsBackwards_57 ?_
            refine nv_as (show nB ((ebU lt (3 * e + c) i) && (decide (3 ≤ (3 * e + c) / 3 ^ i ∧ (3 * e + c) / 3 ^ i % 3 = lt i))) = nB (ebU lt (3 * e + c) (i + 1)) from (congrArg nB ebU_s)) ?_
            refine lv_istore (lv' := [(4, .int (nB (ebU lt (3 * e + c) (i + 1)))), (8, .int (nI (lt i))), (7, .int (nI i)), (6, .int (nI ln)), (5, .ref la), (3, .int (nI ((3 * e + c) / 3 ^ i))), (0, .ref zh), (1, .int (nI e)), (2, .int (nI c))]) zx zb dX5_endsBackwards_58 hl (by decide) rfl (fun ls hl => ?_)
            refine lv_iload_n zx zb dX5_endsBackwards_60 rfl (lv_at hl 5 rfl) ?_
            refine lv_iconst (v := nI 3) zx zb dX5_endsBackwards_61 (by decide) ?_
            refine nv_idiv zx zb (hbb _) (by decide) (by decide) dX5_endsBackwards_62 ?_
            refine nv_as (show nI (((3 * e + c) / 3 ^ i) / 3) = nI ((3 * e + c) / 3 ^ (i + 1)) from (congrArg nI dv3s)) ?_
            refine lv_istore_n (lv' := [(3, .int (nI ((3 * e + c) / 3 ^ (i + 1)))), (4, .int (nB (ebU lt (3 * e + c) (i + 1)))), (8, .int (nI (lt i))), (7, .int (nI i)), (6, .int (nI ln)), (5, .ref la), (0, .ref zh), (1, .int (nI e)), (2, .int (nI c))]) zx zb dX5_endsBackwards_63 rfl hl (by decide) rfl (fun ls hl => ?_)
            refine lv_iinc (v := nI (i + 1)) (lv' := [(7, .int (nI (i + 1))), (3, .int (nI ((3 * e + c) / 3 ^ (i + 1)))), (4, .int (nB (ebU lt (3 * e + c) (i + 1)))), (8, .int (nI (lt i))), (6, .int (nI ln)), (5, .ref la), (0, .ref zh), (1, .int (nI e)), (2, .int (nI c))]) zx zb dX5_endsBackwards_64 hl (k := 3) rfl (nI_1 _) (by decide) rfl (fun ls hl => ?_)
            refine lv_goto (tgt := 23) zx zb dX5_endsBackwards_67 (by decide) ?_
            exact ih23 (i + 1) (by omega) (by omega) _ _ _ hX (lv_sub hl [0, 4, 5, 2, 1, 6, 7, 8] rfl)
  rw [show nI (3 * e + c) = nI ((3 * e + c) / 3 ^ 0) from by rw [Nat.pow_zero, Nat.div_one], show nI 1 = nB (ebU lt (3 * e + c) 0) from nB_as1 ebU_0] at hl
  exact L23 _ 0 (by omega) (Nat.lt_succ_self _) _ _ _ hX (lv_sub hl [0, 1, 2, 3, 4, 5, 6, 7] rfl)

set_option maxHeartbeats 4000000 in
theorem mp_X5_endsBy_0  (zh : Nat) (la : Nat) (x0 : Nat) (ln : Nat) (lt : Nat → Nat) (e : Nat) (c : Nat) (hm : (zh, .inr (2, [.ref la, .ref x0])) ∈ ex) (ha : (la, aI dA ln (nF lt)) ∈ ex) (hl1 : 1 ≤ ln) (hl4 : ln ≤ 4) (hlt : ∀ j, lt j < 3) (he : e < 54) (hc : c < 3) : nMt l D dA a0 yX5_endsBy cX5_endsBy 3 (some .boolean) 2 38 0 0 nvG0 [.ref zh, .int (nI e), .int (nI c)] (ex) (nQi D a0 (fun (r : Int32) (_ : Unit) => r = nB (eaB ln lt 0 (3 * e + c))) (fun (_ : Unit) => ex)) := by
  refine nv_start (by decide) (Nat.le_of_ble_eq_true rfl) fun zp ze s zm zlo zme zcd ls zC zr zk znm hX zG hl => ?_
  have zx := zC.1
  have zb := zC.2.1
  generalize zargs : ([.ref zh, .int (nI e), .int (nI c)] : List Value).toArray = zar at zC ⊢
  generalize zQ : MQ zlo _ zar s _ _ _ = Q
  have hX : nvS D a0 (ex) s.heap s.heap [] := hX
  have hl : lv_has ls 3 [(0, .ref zh), (1, .int (nI e)), (2, .int (nI c))] := hl
  obtain ⟨H, zH⟩ : ∃ H, H = s.heap := ⟨_, rfl⟩
  have hX : nvS D a0 (ex) s.heap H [] := by rw [zH]; exact hX
  rw [show W zp l ze (rm_ 2 38 0 0) s zm zar zlo zme zcd s.heap [] 0 0 Q = W zp l ze (rm_ 2 38 0 0) s zm zar zlo zme zcd H [] 0 0 Q by rw [zH]]
  generalize ([] : List Loc) = locs at hX ⊢
  obtain ⟨yq, yhq⟩ := List.getElem?_of_mem hm
  obtain ⟨yr, yhr⟩ := List.getElem?_of_mem ha
  refine lv_aload_n zx zb dX5_endsBy_0 rfl (lv_at hl 0 rfl) ?_
  refine lv_iload_n zx zb dX5_endsBy_1 rfl (lv_at hl 1 rfl) ?_
  refine lv_iload_n zx zb dX5_endsBy_2 rfl (lv_at hl 2 rfl) ?_
  refine lv_iconst (v := nI 0) zx zb dX5_endsBy_3 (by decide) ?_
  refine nv_ki zC hX (nv_rV (n := 3) (As := [.int (nI e), .int (nI c), .int (nI 0)]) (rest := []) (q0 := yq) zC hX (mp_X5_endsAs_0 (zh := zh) (la := la) (x0 := x0) (ln := ln) (lt := lt) (e := e) (c := c) (fr := 0) (hm := (by first | assumption | omega)) (ha := (by first | assumption | omega)) (hl1 := (by first | assumption | omega)) (hl4 := (by first | assumption | omega)) (hlt := (by first | assumption | omega)) (he := (by first | assumption | omega)) (hc := (by first | assumption | omega)) (hfr := (by first | assumption | omega))) nvGb0 (fun _ _ _ => trivial) yhq rfl q282 q283 q284 q80 q288 (by decide +kernel) rfl ⟨Nat.le_of_ble_eq_true rfl, Nat.le_of_ble_eq_true rfl⟩ hl.1 (Nat.le_of_ble_eq_true rfl) dX5_endsBy_4 ⟨by first | exact Nat.le_of_ble_eq_true rfl | omega, by first | exact Nat.le_of_ble_eq_true rfl | omega⟩) (fun r u H locs hp hX => ?_)
  have hr_ : r = nB (eaB ln lt 0 (3 * e + c)) := hp
  subst hr_
  have hX : nvS D a0 (ex) s.heap H locs := hX
  refine W.cs (cells' := 0) (slots' := 0) (Nat.add_zero _) (Nat.add_zero _) ?_
  rw [← zQ]
  exact nv_endz zC zr zk () hX (by first | rfl | trivial) (by omega) (by omega) dX5_endsBy_7

set_option maxHeartbeats 4000000 in
theorem mp_X5_forms_0  (zh : Nat) (la : Nat) (x0 : Nat) (ln : Nat) (lt : Nat → Nat) (hm : (zh, .inr (2, [.ref la, .ref x0])) ∈ ex) (ha : (la, aI dA ln (nF lt)) ∈ ex) (hl1 : 1 ≤ ln) (hl4 : ln ≤ 4) (hlt : ∀ j, lt j < 3) : nMt l D dA a0 yX5_forms cX5_forms 1 (some .int) 1 12 0 0 nvG0 [.ref zh] (ex) (nQi D a0 (fun (r : Int32) (_ : Unit) => r = nI 1) (fun (_ : Unit) => ex)) := by
  refine nv_start (by decide) (Nat.le_of_ble_eq_true rfl) fun zp ze s zm zlo zme zcd ls zC zr zk znm hX zG hl => ?_
  have zx := zC.1
  have zb := zC.2.1
  generalize zargs : ([.ref zh] : List Value).toArray = zar at zC ⊢
  generalize zQ : MQ zlo _ zar s _ _ _ = Q
  have hX : nvS D a0 (ex) s.heap s.heap [] := hX
  have hl : lv_has ls 1 [(0, .ref zh)] := hl
  obtain ⟨H, zH⟩ : ∃ H, H = s.heap := ⟨_, rfl⟩
  have hX : nvS D a0 (ex) s.heap H [] := by rw [zH]; exact hX
  rw [show W zp l ze (rm_ 1 12 0 0) s zm zar zlo zme zcd s.heap [] 0 0 Q = W zp l ze (rm_ 1 12 0 0) s zm zar zlo zme zcd H [] 0 0 Q by rw [zH]]
  generalize ([] : List Loc) = locs at hX ⊢
  obtain ⟨yq, yhq⟩ := List.getElem?_of_mem hm
  obtain ⟨yr, yhr⟩ := List.getElem?_of_mem ha
  refine lv_iconst (v := nI 1) zx zb dX5_forms_0 (by decide) ?_
  rw [← zQ]
  exact nv_endi zC zr zk () hX (by first | rfl | trivial) (by omega) (by omega) dX5_forms_1

set_option maxHeartbeats 4000000 in
theorem mp_X5_firstLetter_0  (zh : Nat) (la : Nat) (x0 : Nat) (ln : Nat) (lt : Nat → Nat) (hm : (zh, .inr (2, [.ref la, .ref x0])) ∈ ex) (ha : (la, aI dA ln (nF lt)) ∈ ex) (hl1 : 1 ≤ ln) (hl4 : ln ≤ 4) (hlt : ∀ j, lt j < 3) : nMt l D dA a0 yX5_firstLetter cX5_firstLetter 1 (some .int) 1 12 0 0 nvG0 [.ref zh] (ex) (nQi D a0 (fun (r : Int32) (_ : Unit) => r = nI (lt 0)) (fun (_ : Unit) => ex)) := by
  refine nv_start (by decide) (Nat.le_of_ble_eq_true rfl) fun zp ze s zm zlo zme zcd ls zC zr zk znm hX zG hl => ?_
  have zx := zC.1
  have zb := zC.2.1
  generalize zargs : ([.ref zh] : List Value).toArray = zar at zC ⊢
  generalize zQ : MQ zlo _ zar s _ _ _ = Q
  have hX : nvS D a0 (ex) s.heap s.heap [] := hX
  have hl : lv_has ls 1 [(0, .ref zh)] := hl
  obtain ⟨H, zH⟩ : ∃ H, H = s.heap := ⟨_, rfl⟩
  have hX : nvS D a0 (ex) s.heap H [] := by rw [zH]; exact hX
  rw [show W zp l ze (rm_ 1 12 0 0) s zm zar zlo zme zcd s.heap [] 0 0 Q = W zp l ze (rm_ 1 12 0 0) s zm zar zlo zme zcd H [] 0 0 Q by rw [zH]]
  generalize ([] : List Loc) = locs at hX ⊢
  obtain ⟨yq, yhq⟩ := List.getElem?_of_mem hm
  obtain ⟨yr, yhr⟩ := List.getElem?_of_mem ha
  refine lv_aload_n zx zb dX5_firstLetter_0 rfl (lv_at hl 0 rfl) ?_
  refine nv_get zC hX in_X5 yq yhq rfl 0 (by decide) q444 (fun _ h => h) rfl dX5_firstLetter_1 ?_
  refine lv_iconst (v := nI 0) zx zb dX5_firstLetter_4 (by decide) ?_
  refine nv_iald (v := nI (lt 0)) zC hX yr yhr (by omega) (by omega) rfl dX5_firstLetter_5 ?_
  rw [← zQ]
  exact nv_endi zC zr zk () hX (by first | rfl | trivial) (by omega) (by omega) dX5_firstLetter_6

set_option maxHeartbeats 4000000 in
theorem mp_X5_endsAs_1  (zh : Nat) (la : Nat) (x0 : Nat) (ln : Nat) (lt : Nat → Nat) (e : Nat) (c : Nat) (fr : Nat) (hm : (zh, .inr (3, [.ref la, .ref x0, .ref x0])) ∈ ex) (ha : (la, aI dA ln (nF lt)) ∈ ex) (hl1 : 1 ≤ ln) (hl4 : ln ≤ 4) (hlt : ∀ j, lt j < 3) (he : e < 54) (hc : c < 3) (hfr : fr ≤ 1) : nMt l D dA a0 yX5_endsAs cX5_endsAs 7 (some .boolean) 1 12 0 0 nvG0 [.ref zh, .int (nI e), .int (nI c), .int (nI fr)] (ex) (nQi D a0 (fun (r : Int32) (_ : Unit) => r = nB (eaB ln lt fr (3 * e + c))) (fun (_ : Unit) => ex)) := by
  refine nv_start (by decide) (Nat.le_of_ble_eq_true rfl) fun zp ze s zm zlo zme zcd ls zC zr zk znm hX zG hl => ?_
  have zx := zC.1
  have zb := zC.2.1
  generalize zargs : ([.ref zh, .int (nI e), .int (nI c), .int (nI fr)] : List Value).toArray = zar at zC ⊢
  generalize zQ : MQ zlo _ zar s _ _ _ = Q
  have hX : nvS D a0 (ex) s.heap s.heap [] := hX
  have hl : lv_has ls 7 [(0, .ref zh), (1, .int (nI e)), (2, .int (nI c)), (3, .int (nI fr))] := hl
  obtain ⟨H, zH⟩ : ∃ H, H = s.heap := ⟨_, rfl⟩
  have hX : nvS D a0 (ex) s.heap H [] := by rw [zH]; exact hX
  rw [show W zp l ze (rm_ 1 12 0 0) s zm zar zlo zme zcd s.heap [] 0 0 Q = W zp l ze (rm_ 1 12 0 0) s zm zar zlo zme zcd H [] 0 0 Q by rw [zH]]
  generalize ([] : List Loc) = locs at hX ⊢
  obtain ⟨yq, yhq⟩ := List.getElem?_of_mem hm
  obtain ⟨yr, yhr⟩ := List.getElem?_of_mem ha
  have hbb : ∀ k, (3 * e + c) / 3 ^ k < 2 ^ 31 := fun k => (Nat.lt_of_le_of_lt (Nat.div_le_self _ _) (by omega))
  refine lv_iload_n zx zb dX5_endsAs_0 rfl (lv_at hl 1 rfl) ?_
  refine lv_iconst (v := nI 3) zx zb dX5_endsAs_1 (by decide) ?_
  refine nv_imul zx zb dX5_endsAs_2 ?_
  refine lv_iload_n zx zb dX5_endsAs_3 rfl (lv_at hl 2 rfl) ?_
  refine nv_iadd zx zb dX5_endsAs_4 ?_
  refine nv_as (show nI ((e * 3) + c) = nI (3 * e + c) from (congrArg nI (by omega))) ?_
  refine lv_istore (lv' := [(4, .int (nI (3 * e + c))), (0, .ref zh), (1, .int (nI e)), (2, .int (nI c)), (3, .int (nI fr))]) zx zb dX5_endsAs_5 hl (by decide) rfl (fun ls hl => ?_)
  refine lv_iload zx zb dX5_endsAs_7 (lv_at hl 0 rfl) ?_
  refine lv_iconst (v := nI 3) zx zb dX5_endsAs_9 (by decide) ?_
  refine nv_icmp_lt (tgt := 17) zx zb (by omega) (by omega) dX5_endsAs_10 (by decide) (fun c10 => ?_) (fun c10 => ?_)
  · refine lv_iconst (v := nI 0) zx zb dX5_endsAs_17 (by decide) ?_
    refine nv_as (show nI 0 = nB (decide (3 ≤ 3 * e + c)) from (nB_as0 (decide_eq_false (by omega)))) ?_
    refine lv_istore (lv' := [(5, .int (nB (decide (3 ≤ 3 * e + c)))), (4, .int (nI (3 * e + c))), (0, .ref zh), (1, .int (nI e)), (2, .int (nI c)), (3, .int (nI fr))]) zx zb dX5_endsAs_18 hl (by decide) rfl (fun ls hl => ?_)
    refine lv_aload_n zx zb dX5_endsAs_20 rfl (lv_at hl 2 rfl) ?_
    refine nv_get zC hX in_X6 yq yhq rfl 0 (by decide) q444 (fun _ h => h) rfl dX5_endsAs_21 ?_
    refine nv_alen zC hX yr 0 yhr rfl dX5_endsAs_24 ?_
    refine lv_iconst (v := nI 1) zx zb dX5_endsAs_25 (by decide) ?_
    refine lv_isub zx zb dX5_endsAs_26 ?_
    refine lv_istore (lv' := [(6, .int ((nI ln) - (nI 1))), (5, .int (nB (decide (3 ≤ 3 * e + c)))), (4, .int (nI (3 * e + c))), (0, .ref zh), (1, .int (nI e)), (2, .int (nI c)), (3, .int (nI fr))]) zx zb dX5_endsAs_27 hl (by decide) rfl (fun ls hl => ?_)
    have L29 : ∀ (zn : Nat) (m : Nat) (hm : m ≤ ln), m < zn → ∀ (H : Heap) (locs : List Loc) (ls : Array Slot), nvS D a0 (ex) s.heap H locs → lv_has ls 7 [(6, .int (nI m - nI 1)), (5, .int (nB (decide (3 ≤ 3 * e + c) && eaU ln lt fr (3 * e + c) (ln - m)))), (4, .int (nI ((3 * e + c) / 3 ^ (ln - m)))), (0, .ref zh), (1, .int (nI e)), (2, .int (nI c)), (3, .int (nI fr))] → W zp l ze (rm_ 1 12 0 0) s zm zar zlo zme zcd H locs 0 0 Q (F0 zm 29 ls []) := by
      intro zn
      induction zn with
      | zero => intro m hm zf; exact absurd zf (Nat.not_lt_zero _)
      | succ zn ih29 =>
        intro m hm zf H locs ls hX hl
        refine lv_iload zx zb dX5_endsAs_29 (lv_at hl 0 rfl) ?_
        rcases m with _ | m
        · refine lv_if_lt (x := nI 0 - nI 1) (tgt := 84) zx zb dX5_endsAs_31 (by decide) (fun c31 => ?_) (fun c31 => ?_)
          · refine lv_iload zx zb dX5_endsAs_84 (lv_at hl 1 rfl) ?_
            rw [← zQ]
            exact nv_endz zC zr zk () hX (by first | rfl | trivial) (by omega) (by omega) dX5_endsAs_86
          · exact absurd (by decide) c31
        · rw [show nI (m + 1) - nI 1 = nI m from by rw [pk_sub (by omega)]; rfl] at hl ⊢
          refine nv_if_lt (tgt := 84) zx zb (by omega) dX5_endsAs_31 (by decide) ?_
          refine lv_iload zx zb dX5_endsAs_34 (lv_at hl 1 rfl) ?_
          refine lv_iload zx zb dX5_endsAs_36 (lv_at hl 2 rfl) ?_
          refine lv_iconst (v := nI 3) zx zb dX5_endsAs_38 (by decide) ?_
          refine nv_icmp_lt (tgt := 68) zx zb (hbb _) (by decide) dX5_endsAs_39 (by decide) (fun c39 => ?_) (fun c39 => ?_)
          · refine lv_iconst (v := nI 0) zx zb dX5_endsAs_68 (by decide) ?_
            refine nv_as (show nI 0 = nB (decide (3 ≤ (3 * e + c) / 3 ^ (ln - (m + 1)) ∧ (3 * e + c) / 3 ^ (ln - (m + 1)) % 3 = lt ((fr + m) % ln))) from (nB_as0 (decide_eq_false (fun z => absurd z.1 (by omega))))) ?_
            refine nv_iandB zx zb dX5_endsAs_69 ?_
            refine nv_as (show nB ((decide (3 ≤ 3 * e + c) && eaU ln lt fr (3 * e + c) (ln - (m + 1))) && (decide (3 ≤ (3 * e + c) / 3 ^ (ln - (m + 1)) ∧ (3 * e + c) / 3 ^ (ln - (m + 1)) % 3 = lt ((fr + m) % ln)))) = nB (decide (3 ≤ 3 * e + c) && eaU ln lt fr (3 * e + c) (ln - m)) from (congrArg nB (eaU_s hm))) ?_
            refine lv_istore (lv' := [(5, .int (nB (decide (3 ≤ 3 * e + c) && eaU ln lt fr (3 * e + c) (ln - m)))), (6, .int (nI m)), (4, .int (nI ((3 * e + c) / 3 ^ (ln - (m + 1))))), (0, .ref zh), (1, .int (nI e)), (2, .int (nI c)), (3, .int (nI fr))]) zx zb dX5_endsAs_70 hl (by decide) rfl (fun ls hl => ?_)
            refine lv_iload zx zb dX5_endsAs_72 (lv_at hl 2 rfl) ?_
            refine lv_iconst (v := nI 3) zx zb dX5_endsAs_74 (by decide) ?_
            refine nv_idiv zx zb (hbb _) (by decide) (by decide) dX5_endsAs_75 ?_
            refine nv_as (show nI (((3 * e + c) / 3 ^ (ln - (m + 1))) / 3) = nI ((3 * e + c) / 3 ^ (ln - m)) from (congrArg nI (dv3 hm))) ?_
            refine lv_istore (lv' := [(4, .int (nI ((3 * e + c) / 3 ^ (ln - m)))), (5, .int (nB (decide (3 ≤ 3 * e + c) && eaU ln lt fr (3 * e + c) (ln - m)))), (6, .int (nI m)), (0, .ref zh), (1, .int (nI e)), (2, .int (nI c)), (3, .int (nI fr))]) zx zb dX5_endsAs_76 hl (by decide) rfl (fun ls hl => ?_)
            refine lv_iinc (v := nI m - nI 1) (lv' := [(6, .int (nI m - nI 1)), (4, .int (nI ((3 * e + c) / 3 ^ (ln - m)))), (5, .int (nB (decide (3 ≤ 3 * e + c) && eaU ln lt fr (3 * e + c) (ln - m)))), (0, .ref zh), (1, .int (nI e)), (2, .int (nI c)), (3, .int (nI fr))]) zx zb dX5_endsAs_78 hl (k := 2) rfl (nI_dm m) (by decide) rfl (fun ls hl => ?_)
            refine lv_goto (tgt := 29) zx zb dX5_endsAs_81 (by decide) ?_
            exact ih29 m (by omega) (by omega) _ _ _ hX (lv_sub hl [0, 2, 1, 3, 4, 5, 6] rfl)
          · refine lv_iload zx zb dX5_endsAs_42 (lv_at hl 2 rfl) ?_
            refine lv_iconst (v := nI 3) zx zb dX5_endsAs_44 (by decide) ?_
            refine nv_irem zx zb (hbb _) (by decide) (by decide) dX5_endsAs_45 ?_
            refine lv_aload_n zx zb dX5_endsAs_46 rfl (lv_at hl 3 rfl) ?_
            refine nv_get zC hX in_X6 yq yhq rfl 0 (by decide) q444 (fun _ h => h) rfl dX5_endsAs_47 ?_
            refine lv_iload_n zx zb dX5_endsAs_50 rfl (lv_at hl 6 rfl) ?_
            refine lv_iload zx zb dX5_endsAs_51 (lv_at hl 0 rfl) ?_
            refine nv_iadd zx zb dX5_endsAs_53 ?_
            refine lv_aload_n zx zb dX5_endsAs_54 rfl (lv_at hl 3 rfl) ?_
            refine nv_get zC hX in_X6 yq yhq rfl 0 (by decide) q444 (fun _ h => h) rfl dX5_endsAs_55 ?_
            refine nv_alen zC hX yr 0 yhr rfl dX5_endsAs_58 ?_
            refine nv_irem zx zb (by omega) (by omega) (by omega) dX5_endsAs_59 ?_
            refine nv_iald (v := nI (lt ((fr + m) % ln))) zC hX yr yhr (Nat.mod_lt _ (by omega)) (by omega) rfl dX5_endsAs_60 ?_
            refine nv_icmp_ne (tgt := 68) zx zb (Nat.lt_of_lt_of_le (Nat.mod_lt _ (by decide)) (by decide)) (Nat.lt_trans (hlt _) (by decide)) dX5_endsAs_61 (by decide) (fun c61 => ?_) (fun c61 => ?_)
            · refine lv_iconst (v := nI 0) zx zb dX5_endsAs_68 (by decide) ?_
              refine nv_as (show nI 0 = nB (decide (3 ≤ (3 * e + c) / 3 ^ (ln - (m + 1)) ∧ (3 * e + c) / 3 ^ (ln - (m + 1)) % 3 = lt ((fr + m) % ln))) from (nB_as0 (decide_eq_false (fun z => absurd z.2 (by omega))))) ?_
              refine nv_iandB zx zb dX5_endsAs_69 ?_
              refine nv_as (show nB ((decide (3 ≤ 3 * e + c) && eaU ln lt fr (3 * e + c) (ln - (m + 1))) && (decide (3 ≤ (3 * e + c) / 3 ^ (ln - (m + 1)) ∧ (3 * e + c) / 3 ^ (ln - (m + 1)) % 3 = lt ((fr + m) % ln)))) = nB (decide (3 ≤ 3 * e + c) && eaU ln lt fr (3 * e + c) (ln - m)) from (congrArg nB (eaU_s hm))) ?_
              refine lv_istore (lv' := [(5, .int (nB (decide (3 ≤ 3 * e + c) && eaU ln lt fr (3 * e + c) (ln - m)))), (6, .int (nI m)), (4, .int (nI ((3 * e + c) / 3 ^ (ln - (m + 1))))), (0, .ref zh), (1, .int (nI e)), (2, .int (nI c)), (3, .int (nI fr))]) zx zb dX5_endsAs_70 hl (by decide) rfl (fun ls hl => ?_)
              refine lv_iload zx zb dX5_endsAs_72 (lv_at hl 2 rfl) ?_
              refine lv_iconst (v := nI 3) zx zb dX5_endsAs_74 (by decide) ?_
              refine nv_idiv zx zb (hbb _) (by decide) (by decide) dX5_endsAs_75 ?_
              refine nv_as (show nI (((3 * e + c) / 3 ^ (ln - (m + 1))) / 3) = nI ((3 * e + c) / 3 ^ (ln - m)) from (congrArg nI (dv3 hm))) ?_
              refine lv_istore (lv' := [(4, .int (nI ((3 * e + c) / 3 ^ (ln - m)))), (5, .int (nB (decide (3 ≤ 3 * e + c) && eaU ln lt fr (3 * e + c) (ln - m)))), (6, .int (nI m)), (0, .ref zh), (1, .int (nI e)), (2, .int (nI c)), (3, .int (nI fr))]) zx zb dX5_endsAs_76 hl (by decide) rfl (fun ls hl => ?_)
              refine lv_iinc (v := nI m - nI 1) (lv' := [(6, .int (nI m - nI 1)), (4, .int (nI ((3 * e + c) / 3 ^ (ln - m)))), (5, .int (nB (decide (3 ≤ 3 * e + c) && eaU ln lt fr (3 * e + c) (ln - m)))), (0, .ref zh), (1, .int (nI e)), (2, .int (nI c)), (3, .int (nI fr))]) zx zb dX5_endsAs_78 hl (k := 2) rfl (nI_dm m) (by decide) rfl (fun ls hl => ?_)
              refine lv_goto (tgt := 29) zx zb dX5_endsAs_81 (by decide) ?_
              exact ih29 m (by omega) (by omega) _ _ _ hX (lv_sub hl [0, 2, 1, 3, 4, 5, 6] rfl)
            · refine lv_iconst (v := nI 1) zx zb dX5_endsAs_64 (by decide) ?_
              refine lv_goto (tgt := 69) zx zb dX5_endsAs_65 (by decide) ?_
              refine nv_as (show nI 1 = nB (decide (3 ≤ (3 * e + c) / 3 ^ (ln - (m + 1)) ∧ (3 * e + c) / 3 ^ (ln - (m + 1)) % 3 = lt ((fr + m) % ln))) from (nB_as1 (decide_eq_true ⟨by omega, by omega⟩))) ?_
              refine nv_iandB zx zb dX5_endsAs_69 ?_
              refine nv_as (show nB ((decide (3 ≤ 3 * e + c) && eaU ln lt fr (3 * e + c) (ln - (m + 1))) && (decide (3 ≤ (3 * e + c) / 3 ^ (ln - (m + 1)) ∧ (3 * e + c) / 3 ^ (ln - (m + 1)) % 3 = lt ((fr + m) % ln)))) = nB (decide (3 ≤ 3 * e + c) && eaU ln lt fr (3 * e + c) (ln - m)) from (congrArg nB (eaU_s hm))) ?_
              refine lv_istore (lv' := [(5, .int (nB (decide (3 ≤ 3 * e + c) && eaU ln lt fr (3 * e + c) (ln - m)))), (6, .int (nI m)), (4, .int (nI ((3 * e + c) / 3 ^ (ln - (m + 1))))), (0, .ref zh), (1, .int (nI e)), (2, .int (nI c)), (3, .int (nI fr))]) zx zb dX5_endsAs_70 hl (by decide) rfl (fun ls hl => ?_)
              refine lv_iload zx zb dX5_endsAs_72 (lv_at hl 2 rfl) ?_
              refine lv_iconst (v := nI 3) zx zb dX5_endsAs_74 (by decide) ?_
              refine nv_idiv zx zb (hbb _) (by decide) (by decide) dX5_endsAs_75 ?_
              refine nv_as (show nI (((3 * e + c) / 3 ^ (ln - (m + 1))) / 3) = nI ((3 * e + c) / 3 ^ (ln - m)) from (congrArg nI (dv3 hm))) ?_
              refine lv_istore (lv' := [(4, .int (nI ((3 * e + c) / 3 ^ (ln - m)))), (5, .int (nB (decide (3 ≤ 3 * e + c) && eaU ln lt fr (3 * e + c) (ln - m)))), (6, .int (nI m)), (0, .ref zh), (1, .int (nI e)), (2, .int (nI c)), (3, .int (nI fr))]) zx zb dX5_endsAs_76 hl (by decide) rfl (fun ls hl => ?_)
              refine lv_iinc (v := nI m - nI 1) (lv' := [(6, .int (nI m - nI 1)), (4, .int (nI ((3 * e + c) / 3 ^ (ln - m)))), (5, .int (nB (decide (3 ≤ 3 * e + c) && eaU ln lt fr (3 * e + c) (ln - m)))), (0, .ref zh), (1, .int (nI e)), (2, .int (nI c)), (3, .int (nI fr))]) zx zb dX5_endsAs_78 hl (k := 2) rfl (nI_dm m) (by decide) rfl (fun ls hl => ?_)
              refine lv_goto (tgt := 29) zx zb dX5_endsAs_81 (by decide) ?_
              exact ih29 m (by omega) (by omega) _ _ _ hX (lv_sub hl [0, 2, 1, 3, 4, 5, 6] rfl)
    rw [show nI (3 * e + c) = nI ((3 * e + c) / 3 ^ (ln - ln)) from by rw [Nat.sub_self, Nat.pow_zero, Nat.div_one], show nB (decide (3 ≤ 3 * e + c)) = nB (decide (3 ≤ 3 * e + c) && eaU ln lt fr (3 * e + c) (ln - ln)) from by rw [Nat.sub_self, eaU_0, Bool.and_true]] at hl
    exact L29 _ ln (Nat.le_refl _) (Nat.lt_succ_self _) _ _ _ hX (lv_sub hl [0, 1, 2, 3, 4, 5, 6] rfl)
  · refine lv_iconst (v := nI 1) zx zb dX5_endsAs_13 (by decide) ?_
    refine lv_goto (tgt := 18) zx zb dX5_endsAs_14 (by decide) ?_
    refine nv_as (show nI 1 = nB (decide (3 ≤ 3 * e + c)) from (nB_as1 (decide_eq_true (by omega)))) ?_
    refine lv_istore (lv' := [(5, .int (nB (decide (3 ≤ 3 * e + c)))), (4, .int (nI (3 * e + c))), (0, .ref zh), (1, .int (nI e)), (2, .int (nI c)), (3, .int (nI fr))]) zx zb dX5_endsAs_18 hl (by decide) rfl (fun ls hl => ?_)
    refine lv_aload_n zx zb dX5_endsAs_20 rfl (lv_at hl 2 rfl) ?_
    refine nv_get zC hX in_X6 yq yhq rfl 0 (by decide) q444 (fun _ h => h) rfl dX5_endsAs_21 ?_
    refine nv_alen zC hX yr 0 yhr rfl dX5_endsAs_24 ?_
    refine lv_iconst (v := nI 1) zx zb dX5_endsAs_25 (by decide) ?_
    refine lv_isub zx zb dX5_endsAs_26 ?_
    refine lv_istore (lv' := [(6, .int ((nI ln) - (nI 1))), (5, .int (nB (decide (3 ≤ 3 * e + c)))), (4, .int (nI (3 * e + c))), (0, .ref zh), (1, .int (nI e)), (2, .int (nI c)), (3, .int (nI fr))]) zx zb dX5_endsAs_27 hl (by decide) rfl (fun ls hl => ?_)
    have L29 : ∀ (zn : Nat) (m : Nat) (hm : m ≤ ln), m < zn → ∀ (H : Heap) (locs : List Loc) (ls : Array Slot), nvS D a0 (ex) s.heap H locs → lv_has ls 7 [(6, .int (nI m - nI 1)), (5, .int (nB (decide (3 ≤ 3 * e + c) && eaU ln lt fr (3 * e + c) (ln - m)))), (4, .int (nI ((3 * e + c) / 3 ^ (ln - m)))), (0, .ref zh), (1, .int (nI e)), (2, .int (nI c)), (3, .int (nI fr))] → W zp l ze (rm_ 1 12 0 0) s zm zar zlo zme zcd H locs 0 0 Q (F0 zm 29 ls []) := by
      intro zn
      induction zn with
      | zero => intro m hm zf; exact absurd zf (Nat.not_lt_zero _)
      | succ zn ih29 =>
        intro m hm zf H locs ls hX hl
        refine lv_iload zx zb dX5_endsAs_29 (lv_at hl 0 rfl) ?_
        rcases m with _ | m
        · refine lv_if_lt (x := nI 0 - nI 1) (tgt := 84) zx zb dX5_endsAs_31 (by decide) (fun c31 => ?_) (fun c31 => ?_)
          · refine lv_iload zx zb dX5_endsAs_84 (lv_at hl 1 rfl) ?_
            rw [← zQ]
            exact nv_endz zC zr zk () hX (by first | rfl | trivial) (by omega) (by omega) dX5_endsAs_86
          · exact absurd (by decide) c31
        · rw [show nI (m + 1) - nI 1 = nI m from by rw [pk_sub (by omega)]; rfl] at hl ⊢
          refine nv_if_lt (tgt := 84) zx zb (by omega) dX5_endsAs_31 (by decide) ?_
          refine lv_iload zx zb dX5_endsAs_34 (lv_at hl 1 rfl) ?_
          refine lv_iload zx zb dX5_endsAs_36 (lv_at hl 2 rfl) ?_
          refine lv_iconst (v := nI 3) zx zb dX5_endsAs_38 (by decide) ?_
          refine nv_icmp_lt (tgt := 68) zx zb (hbb _) (by decide) dX5_endsAs_39 (by decide) (fun c39 => ?_) (fun c39 => ?_)
          · refine lv_iconst (v := nI 0) zx zb dX5_endsAs_68 (by decide) ?_
            refine nv_as (show nI 0 = nB (decide (3 ≤ (3 * e + c) / 3 ^ (ln - (m + 1)) ∧ (3 * e + c) / 3 ^ (ln - (m + 1)) % 3 = lt ((fr + m) % ln))) from (nB_as0 (decide_eq_false (fun z => absurd z.1 (by omega))))) ?_
            refine nv_iandB zx zb dX5_endsAs_69 ?_
            refine nv_as (show nB ((decide (3 ≤ 3 * e + c) && eaU ln lt fr (3 * e + c) (ln - (m + 1))) && (decide (3 ≤ (3 * e + c) / 3 ^ (ln - (m + 1)) ∧ (3 * e + c) / 3 ^ (ln - (m + 1)) % 3 = lt ((fr + m) % ln)))) = nB (decide (3 ≤ 3 * e + c) && eaU ln lt fr (3 * e + c) (ln - m)) from (congrArg nB (eaU_s hm))) ?_
            refine lv_istore (lv' := [(5, .int (nB (decide (3 ≤ 3 * e + c) && eaU ln lt fr (3 * e + c) (ln - m)))), (6, .int (nI m)), (4, .int (nI ((3 * e + c) / 3 ^ (ln - (m + 1))))), (0, .ref zh), (1, .int (nI e)), (2, .int (nI c)), (3, .int (nI fr))]) zx zb dX5_endsAs_70 hl (by decide) rfl (fun ls hl => ?_)
            refine lv_iload zx zb dX5_endsAs_72 (lv_at hl 2 rfl) ?_
            refine lv_iconst (v := nI 3) zx zb dX5_endsAs_74 (by decide) ?_
            refine nv_idiv zx zb (hbb _) (by decide) (by decide) dX5_endsAs_75 ?_
            refine nv_as (show nI (((3 * e + c) / 3 ^ (ln - (m + 1))) / 3) = nI ((3 * e + c) / 3 ^ (ln - m)) from (congrArg nI (dv3 hm))) ?_
            refine lv_istore (lv' := [(4, .int (nI ((3 * e + c) / 3 ^ (ln - m)))), (5, .int (nB (decide (3 ≤ 3 * e + c) && eaU ln lt fr (3 * e + c) (ln - m)))), (6, .int (nI m)), (0, .ref zh), (1, .int (nI e)), (2, .int (nI c)), (3, .int (nI fr))]) zx zb dX5_endsAs_76 hl (by decide) rfl (fun ls hl => ?_)
            refine lv_iinc (v := nI m - nI 1) (lv' := [(6, .int (nI m - nI 1)), (4, .int (nI ((3 * e + c) / 3 ^ (ln - m)))), (5, .int (nB (decide (3 ≤ 3 * e + c) && eaU ln lt fr (3 * e + c) (ln - m)))), (0, .ref zh), (1, .int (nI e)), (2, .int (nI c)), (3, .int (nI fr))]) zx zb dX5_endsAs_78 hl (k := 2) rfl (nI_dm m) (by decide) rfl (fun ls hl => ?_)
            refine lv_goto (tgt := 29) zx zb dX5_endsAs_81 (by decide) ?_
            exact ih29 m (by omega) (by omega) _ _ _ hX (lv_sub hl [0, 2, 1, 3, 4, 5, 6] rfl)
          · refine lv_iload zx zb dX5_endsAs_42 (lv_at hl 2 rfl) ?_
            refine lv_iconst (v := nI 3) zx zb dX5_endsAs_44 (by decide) ?_
            refine nv_irem zx zb (hbb _) (by decide) (by decide) dX5_endsAs_45 ?_
            refine lv_aload_n zx zb dX5_endsAs_46 rfl (lv_at hl 3 rfl) ?_
            refine nv_get zC hX in_X6 yq yhq rfl 0 (by decide) q444 (fun _ h => h) rfl dX5_endsAs_47 ?_
            refine lv_iload_n zx zb dX5_endsAs_50 rfl (lv_at hl 6 rfl) ?_
            refine lv_iload zx zb dX5_endsAs_51 (lv_at hl 0 rfl) ?_
            refine nv_iadd zx zb dX5_endsAs_53 ?_
            refine lv_aload_n zx zb dX5_endsAs_54 rfl (lv_at hl 3 rfl) ?_
            refine nv_get zC hX in_X6 yq yhq rfl 0 (by decide) q444 (fun _ h => h) rfl dX5_endsAs_55 ?_
            refine nv_alen zC hX yr 0 yhr rfl dX5_endsAs_58 ?_
            refine nv_irem zx zb (by omega) (by omega) (by omega) dX5_endsAs_59 ?_
            refine nv_iald (v := nI (lt ((fr + m) % ln))) zC hX yr yhr (Nat.mod_lt _ (by omega)) (by omega) rfl dX5_endsAs_60 ?_
            refine nv_icmp_ne (tgt := 68) zx zb (Nat.lt_of_lt_of_le (Nat.mod_lt _ (by decide)) (by decide)) (Nat.lt_trans (hlt _) (by decide)) dX5_endsAs_61 (by decide) (fun c61 => ?_) (fun c61 => ?_)
            · refine lv_iconst (v := nI 0) zx zb dX5_endsAs_68 (by decide) ?_
              refine nv_as (show nI 0 = nB (decide (3 ≤ (3 * e + c) / 3 ^ (ln - (m + 1)) ∧ (3 * e + c) / 3 ^ (ln - (m + 1)) % 3 = lt ((fr + m) % ln))) from (nB_as0 (decide_eq_false (fun z => absurd z.2 (by omega))))) ?_
              refine nv_iandB zx zb dX5_endsAs_69 ?_
              refine nv_as (show nB ((decide (3 ≤ 3 * e + c) && eaU ln lt fr (3 * e + c) (ln - (m + 1))) && (decide (3 ≤ (3 * e + c) / 3 ^ (ln - (m + 1)) ∧ (3 * e + c) / 3 ^ (ln - (m + 1)) % 3 = lt ((fr + m) % ln)))) = nB (decide (3 ≤ 3 * e + c) && eaU ln lt fr (3 * e + c) (ln - m)) from (congrArg nB (eaU_s hm))) ?_
              refine lv_istore (lv' := [(5, .int (nB (decide (3 ≤ 3 * e + c) && eaU ln lt fr (3 * e + c) (ln - m)))), (6, .int (nI m)), (4, .int (nI ((3 * e + c) / 3 ^ (ln - (m + 1))))), (0, .ref zh), (1, .int (nI e)), (2, .int (nI c)), (3, .int (nI fr))]) zx zb dX5_endsAs_70 hl (by decide) rfl (fun ls hl => ?_)
              refine lv_iload zx zb dX5_endsAs_72 (lv_at hl 2 rfl) ?_
              refine lv_iconst (v := nI 3) zx zb dX5_endsAs_74 (by decide) ?_
              refine nv_idiv zx zb (hbb _) (by decide) (by decide) dX5_endsAs_75 ?_
              refine nv_as (show nI (((3 * e + c) / 3 ^ (ln - (m + 1))) / 3) = nI ((3 * e + c) / 3 ^ (ln - m)) from (congrArg nI (dv3 hm))) ?_
              refine lv_istore (lv' := [(4, .int (nI ((3 * e + c) / 3 ^ (ln - m)))), (5, .int (nB (decide (3 ≤ 3 * e + c) && eaU ln lt fr (3 * e + c) (ln - m)))), (6, .int (nI m)), (0, .ref zh), (1, .int (nI e)), (2, .int (nI c)), (3, .int (nI fr))]) zx zb dX5_endsAs_76 hl (by decide) rfl (fun ls hl => ?_)
              refine lv_iinc (v := nI m - nI 1) (lv' := [(6, .int (nI m - nI 1)), (4, .int (nI ((3 * e + c) / 3 ^ (ln - m)))), (5, .int (nB (decide (3 ≤ 3 * e + c) && eaU ln lt fr (3 * e + c) (ln - m)))), (0, .ref zh), (1, .int (nI e)), (2, .int (nI c)), (3, .int (nI fr))]) zx zb dX5_endsAs_78 hl (k := 2) rfl (nI_dm m) (by decide) rfl (fun ls hl => ?_)
              refine lv_goto (tgt := 29) zx zb dX5_endsAs_81 (by decide) ?_
              exact ih29 m (by omega) (by omega) _ _ _ hX (lv_sub hl [0, 2, 1, 3, 4, 5, 6] rfl)
            · refine lv_iconst (v := nI 1) zx zb dX5_endsAs_64 (by decide) ?_
              refine lv_goto (tgt := 69) zx zb dX5_endsAs_65 (by decide) ?_
              refine nv_as (show nI 1 = nB (decide (3 ≤ (3 * e + c) / 3 ^ (ln - (m + 1)) ∧ (3 * e + c) / 3 ^ (ln - (m + 1)) % 3 = lt ((fr + m) % ln))) from (nB_as1 (decide_eq_true ⟨by omega, by omega⟩))) ?_
              refine nv_iandB zx zb dX5_endsAs_69 ?_
              refine nv_as (show nB ((decide (3 ≤ 3 * e + c) && eaU ln lt fr (3 * e + c) (ln - (m + 1))) && (decide (3 ≤ (3 * e + c) / 3 ^ (ln - (m + 1)) ∧ (3 * e + c) / 3 ^ (ln - (m + 1)) % 3 = lt ((fr + m) % ln)))) = nB (decide (3 ≤ 3 * e + c) && eaU ln lt fr (3 * e + c) (ln - m)) from (congrArg nB (eaU_s hm))) ?_
              refine lv_istore (lv' := [(5, .int (nB (decide (3 ≤ 3 * e + c) && eaU ln lt fr (3 * e + c) (ln - m)))), (6, .int (nI m)), (4, .int (nI ((3 * e + c) / 3 ^ (ln - (m + 1))))), (0, .ref zh), (1, .int (nI e)), (2, .int (nI c)), (3, .int (nI fr))]) zx zb dX5_endsAs_70 hl (by decide) rfl (fun ls hl => ?_)
              refine lv_iload zx zb dX5_endsAs_72 (lv_at hl 2 rfl) ?_
              refine lv_iconst (v := nI 3) zx zb dX5_endsAs_74 (by decide) ?_
              refine nv_idiv zx zb (hbb _) (by decide) (by decide) dX5_endsAs_75 ?_
              refine nv_as (show nI (((3 * e + c) / 3 ^ (ln - (m + 1))) / 3) = nI ((3 * e + c) / 3 ^ (ln - m)) from (congrArg nI (dv3 hm))) ?_
              refine lv_istore (lv' := [(4, .int (nI ((3 * e + c) / 3 ^ (ln - m)))), (5, .int (nB (decide (3 ≤ 3 * e + c) && eaU ln lt fr (3 * e + c) (ln - m)))), (6, .int (nI m)), (0, .ref zh), (1, .int (nI e)), (2, .int (nI c)), (3, .int (nI fr))]) zx zb dX5_endsAs_76 hl (by decide) rfl (fun ls hl => ?_)
              refine lv_iinc (v := nI m - nI 1) (lv' := [(6, .int (nI m - nI 1)), (4, .int (nI ((3 * e + c) / 3 ^ (ln - m)))), (5, .int (nB (decide (3 ≤ 3 * e + c) && eaU ln lt fr (3 * e + c) (ln - m)))), (0, .ref zh), (1, .int (nI e)), (2, .int (nI c)), (3, .int (nI fr))]) zx zb dX5_endsAs_78 hl (k := 2) rfl (nI_dm m) (by decide) rfl (fun ls hl => ?_)
              refine lv_goto (tgt := 29) zx zb dX5_endsAs_81 (by decide) ?_
              exact ih29 m (by omega) (by omega) _ _ _ hX (lv_sub hl [0, 2, 1, 3, 4, 5, 6] rfl)
    rw [show nI (3 * e + c) = nI ((3 * e + c) / 3 ^ (ln - ln)) from by rw [Nat.sub_self, Nat.pow_zero, Nat.div_one], show nB (decide (3 ≤ 3 * e + c)) = nB (decide (3 ≤ 3 * e + c) && eaU ln lt fr (3 * e + c) (ln - ln)) from by rw [Nat.sub_self, eaU_0, Bool.and_true]] at hl
    exact L29 _ ln (Nat.le_refl _) (Nat.lt_succ_self _) _ _ _ hX (lv_sub hl [0, 1, 2, 3, 4, 5, 6] rfl)

set_option maxHeartbeats 4000000 in
theorem mp_X5_endsBackwards_1  (zh : Nat) (la : Nat) (x0 : Nat) (ln : Nat) (lt : Nat → Nat) (e : Nat) (c : Nat) (hm : (zh, .inr (3, [.ref la, .ref x0, .ref x0])) ∈ ex) (ha : (la, aI dA ln (nF lt)) ∈ ex) (hl1 : 1 ≤ ln) (hl4 : ln ≤ 4) (hlt : ∀ j, lt j < 3) (he : e < 54) (hc : c < 3) : nMt l D dA a0 yX5_endsBackwards cX5_endsBackwards 9 (some .boolean) 1 12 0 0 nvG0 [.ref zh, .int (nI e), .int (nI c)] (ex) (nQi D a0 (fun (r : Int32) (_ : Unit) => r = nB (ebU lt (3 * e + c) ln)) (fun (_ : Unit) => ex)) := by
  refine nv_start (by decide) (Nat.le_of_ble_eq_true rfl) fun zp ze s zm zlo zme zcd ls zC zr zk znm hX zG hl => ?_
  have zx := zC.1
  have zb := zC.2.1
  generalize zargs : ([.ref zh, .int (nI e), .int (nI c)] : List Value).toArray = zar at zC ⊢
  generalize zQ : MQ zlo _ zar s _ _ _ = Q
  have hX : nvS D a0 (ex) s.heap s.heap [] := hX
  have hl : lv_has ls 9 [(0, .ref zh), (1, .int (nI e)), (2, .int (nI c))] := hl
  obtain ⟨H, zH⟩ : ∃ H, H = s.heap := ⟨_, rfl⟩
  have hX : nvS D a0 (ex) s.heap H [] := by rw [zH]; exact hX
  rw [show W zp l ze (rm_ 1 12 0 0) s zm zar zlo zme zcd s.heap [] 0 0 Q = W zp l ze (rm_ 1 12 0 0) s zm zar zlo zme zcd H [] 0 0 Q by rw [zH]]
  generalize ([] : List Loc) = locs at hX ⊢
  obtain ⟨yq, yhq⟩ := List.getElem?_of_mem hm
  obtain ⟨yr, yhr⟩ := List.getElem?_of_mem ha
  have hbb : ∀ k, (3 * e + c) / 3 ^ k < 2 ^ 31 := fun k => (Nat.lt_of_le_of_lt (Nat.div_le_self _ _) (by omega))
  refine lv_iload_n zx zb dX5_endsBackwards_0 rfl (lv_at hl 1 rfl) ?_
  refine lv_iconst (v := nI 3) zx zb dX5_endsBackwards_1 (by decide) ?_
  refine nv_imul zx zb dX5_endsBackwards_2 ?_
  refine lv_iload_n zx zb dX5_endsBackwards_3 rfl (lv_at hl 2 rfl) ?_
  refine nv_iadd zx zb dX5_endsBackwards_4 ?_
  refine nv_as (show nI ((e * 3) + c) = nI (3 * e + c) from (congrArg nI (by omega))) ?_
  refine lv_istore_n (lv' := [(3, .int (nI (3 * e + c))), (0, .ref zh), (1, .int (nI e)), (2, .int (nI c))]) zx zb dX5_endsBackwards_5 rfl hl (by decide) rfl (fun ls hl => ?_)
  refine lv_iconst (v := nI 1) zx zb dX5_endsBackwards_6 (by decide) ?_
  refine lv_istore (lv' := [(4, .int (nI 1)), (3, .int (nI (3 * e + c))), (0, .ref zh), (1, .int (nI e)), (2, .int (nI c))]) zx zb dX5_endsBackwards_7 hl (by decide) rfl (fun ls hl => ?_)
  refine lv_aload_n zx zb dX5_endsBackwards_9 rfl (lv_at hl 2 rfl) ?_
  refine nv_get zC hX in_X6 yq yhq rfl 0 (by decide) q444 (fun _ h => h) rfl dX5_endsBackwards_10 ?_
  refine lv_astore (lv' := [(5, .ref la), (4, .int (nI 1)), (3, .int (nI (3 * e + c))), (0, .ref zh), (1, .int (nI e)), (2, .int (nI c))]) zx zb dX5_endsBackwards_13 hl (by decide) rfl (fun ls hl => ?_)
  refine lv_aload zx zb dX5_endsBackwards_15 (lv_at hl 0 rfl) ?_
  refine nv_alen zC hX yr 0 yhr rfl dX5_endsBackwards_17 ?_
  refine lv_istore (lv' := [(6, .int (nI ln)), (5, .ref la), (4, .int (nI 1)), (3, .int (nI (3 * e + c))), (0, .ref zh), (1, .int (nI e)), (2, .int (nI c))]) zx zb dX5_endsBackwards_18 hl (by decide) rfl (fun ls hl => ?_)
  refine lv_iconst (v := nI 0) zx zb dX5_endsBackwards_20 (by decide) ?_
  refine lv_istore (lv' := [(7, .int (nI 0)), (6, .int (nI ln)), (5, .ref la), (4, .int (nI 1)), (3, .int (nI (3 * e + c))), (0, .ref zh), (1, .int (nI e)), (2, .int (nI c))]) zx zb dX5_endsBackwards_21 hl (by decide) rfl (fun ls hl => ?_)
  have L23 : ∀ (zn : Nat) (i : Nat) (hi : i ≤ ln), ln - i < zn → ∀ (H : Heap) (locs : List Loc) (ls : Array Slot), nvS D a0 (ex) s.heap H locs → lv_has ls 9 [(7, .int (nI i)), (6, .int (nI ln)), (5, .ref la), (4, .int (nB (ebU lt (3 * e + c) i))), (3, .int (nI ((3 * e + c) / 3 ^ i))), (0, .ref zh), (1, .int (nI e)), (2, .int (nI c))] → W zp l ze (rm_ 1 12 0 0) s zm zar zlo zme zcd H locs 0 0 Q (F0 zm 23 ls []) := by
    intro zn
    induction zn with
    | zero => intro i hi zf; exact absurd zf (Nat.not_lt_zero _)
    | succ zn ih23 =>
      intro i hi zf H locs ls hX hl
      refine lv_iload zx zb dX5_endsBackwards_23 (lv_at hl 0 rfl) ?_
      refine lv_iload zx zb dX5_endsBackwards_25 (lv_at hl 1 rfl) ?_
      refine nv_icmp_ge (tgt := 70) zx zb (by omega) (by omega) dX5_endsBackwards_27 (by decide) (fun c27 => ?_) (fun c27 => ?_)
      · refine lv_iload zx zb dX5_endsBackwards_70 (lv_at hl 3 rfl) ?_
        rw [← zQ]
        exact nv_endz zC zr zk () hX (by have e_ : i = ln := (by omega); rw [e_]) (by omega) (by omega) dX5_endsBackwards_72
      · refine lv_aload zx zb dX5_endsBackwards_30 (lv_at hl 2 rfl) ?_
        refine lv_iload zx zb dX5_endsBackwards_32 (lv_at hl 0 rfl) ?_
        refine nv_iald (v := nI (lt i)) zC hX yr yhr (by omega) (by omega) rfl dX5_endsBackwards_34 ?_
        refine lv_istore (lv' := [(8, .int (nI (lt i))), (7, .int (nI i)), (6, .int (nI ln)), (5, .ref la), (4, .int (nB (ebU lt (3 * e + c) i))), (3, .int (nI ((3 * e + c) / 3 ^ i))), (0, .ref zh), (1, .int (nI e)), (2, .int (nI c))]) zx zb dX5_endsBackwards_35 hl (by decide) rfl (fun ls hl => ?_)
        refine lv_iload zx zb dX5_endsBackwards_37 (lv_at hl 4 rfl) ?_
        refine lv_iload_n zx zb dX5_endsBackwards_39 rfl (lv_at hl 5 rfl) ?_
        refine lv_iconst (v := nI 3) zx zb dX5_endsBackwards_40 (by decide) ?_
        refine nv_icmp_lt (tgt := 56) zx zb (hbb _) (by decide) dX5_endsBackwards_41 (by decide) (fun c41 => ?_) (fun c41 => ?_)
        · refine lv_iconst (v := nI 0) zx zb dX5_endsBackwards_56 (by decide) ?_
          refine nv_as (show nI 0 = nB (decide (3 ≤ (3 * e + c) / 3 ^ i ∧ (3 * e + c) / 3 ^ i % 3 = lt i)) from (nB_as0 (decide_eq_false (fun z => absurd z.1 (by omega))))) ?_
          refine nv_iandB zx zb dX5_endsBackwards_57 ?_
          refine nv_as (show nB ((ebU lt (3 * e + c) i) && (decide (3 ≤ (3 * e + c) / 3 ^ i ∧ (3 * e + c) / 3 ^ i % 3 = lt i))) = nB (ebU lt (3 * e + c) (i + 1)) from (congrArg nB ebU_s)) ?_
          refine lv_istore (lv' := [(4, .int (nB (ebU lt (3 * e + c) (i + 1)))), (8, .int (nI (lt i))), (7, .int (nI i)), (6, .int (nI ln)), (5, .ref la), (3, .int (nI ((3 * e + c) / 3 ^ i))), (0, .ref zh), (1, .int (nI e)), (2, .int (nI c))]) zx zb dX5_endsBackwards_58 hl (by decide) rfl (fun ls hl => ?_)
          refine lv_iload_n zx zb dX5_endsBackwards_60 rfl (lv_at hl 5 rfl) ?_
          refine lv_iconst (v := nI 3) zx zb dX5_endsBackwards_61 (by decide) ?_
          refine nv_idiv zx zb (hbb _) (by decide) (by decide) dX5_endsBackwards_62 ?_
          refine nv_as (show nI (((3 * e + c) / 3 ^ i) / 3) = nI ((3 * e + c) / 3 ^ (i + 1)) from (congrArg nI dv3s)) ?_
          refine lv_istore_n (lv' := [(3, .int (nI ((3 * e + c) / 3 ^ (i + 1)))), (4, .int (nB (ebU lt (3 * e + c) (i + 1)))), (8, .int (nI (lt i))), (7, .int (nI i)), (6, .int (nI ln)), (5, .ref la), (0, .ref zh), (1, .int (nI e)), (2, .int (nI c))]) zx zb dX5_endsBackwards_63 rfl hl (by decide) rfl (fun ls hl => ?_)
          refine lv_iinc (v := nI (i + 1)) (lv' := [(7, .int (nI (i + 1))), (3, .int (nI ((3 * e + c) / 3 ^ (i + 1)))), (4, .int (nB (ebU lt (3 * e + c) (i + 1)))), (8, .int (nI (lt i))), (6, .int (nI ln)), (5, .ref la), (0, .ref zh), (1, .int (nI e)), (2, .int (nI c))]) zx zb dX5_endsBackwards_64 hl (k := 3) rfl (nI_1 _) (by decide) rfl (fun ls hl => ?_)
          refine lv_goto (tgt := 23) zx zb dX5_endsBackwards_67 (by decide) ?_
          exact ih23 (i + 1) (by omega) (by omega) _ _ _ hX (lv_sub hl [0, 4, 5, 2, 1, 6, 7, 8] rfl)
        · refine lv_iload_n zx zb dX5_endsBackwards_44 rfl (lv_at hl 5 rfl) ?_
          refine lv_iconst (v := nI 3) zx zb dX5_endsBackwards_45 (by decide) ?_
          refine nv_irem zx zb (hbb _) (by decide) (by decide) dX5_endsBackwards_46 ?_
          refine lv_iload zx zb dX5_endsBackwards_47 (lv_at hl 0 rfl) ?_
          refine nv_icmp_ne (tgt := 56) zx zb (Nat.lt_of_lt_of_le (Nat.mod_lt _ (by decide)) (by decide)) (Nat.lt_trans (hlt _) (by decide)) dX5_endsBackwards_49 (by decide) (fun c49 => ?_) (fun c49 => ?_)
          · refine lv_iconst (v := nI 0) zx zb dX5_endsBackwards_56 (by decide) ?_
            refine nv_as (show nI 0 = nB (decide (3 ≤ (3 * e + c) / 3 ^ i ∧ (3 * e + c) / 3 ^ i % 3 = lt i)) from (nB_as0 (decide_eq_false (fun z => absurd z.2 (by omega))))) ?_
            refine nv_iandB zx zb dX5_endsBackwards_57 ?_
            refine nv_as (show nB ((ebU lt (3 * e + c) i) && (decide (3 ≤ (3 * e + c) / 3 ^ i ∧ (3 * e + c) / 3 ^ i % 3 = lt i))) = nB (ebU lt (3 * e + c) (i + 1)) from (congrArg nB ebU_s)) ?_
            refine lv_istore (lv' := [(4, .int (nB (ebU lt (3 * e + c) (i + 1)))), (8, .int (nI (lt i))), (7, .int (nI i)), (6, .int (nI ln)), (5, .ref la), (3, .int (nI ((3 * e + c) / 3 ^ i))), (0, .ref zh), (1, .int (nI e)), (2, .int (nI c))]) zx zb dX5_endsBackwards_58 hl (by decide) rfl (fun ls hl => ?_)
            refine lv_iload_n zx zb dX5_endsBackwards_60 rfl (lv_at hl 5 rfl) ?_
            refine lv_iconst (v := nI 3) zx zb dX5_endsBackwards_61 (by decide) ?_
            refine nv_idiv zx zb (hbb _) (by decide) (by decide) dX5_endsBackwards_62 ?_
            refine nv_as (show nI (((3 * e + c) / 3 ^ i) / 3) = nI ((3 * e + c) / 3 ^ (i + 1)) from (congrArg nI dv3s)) ?_
            refine lv_istore_n (lv' := [(3, .int (nI ((3 * e + c) / 3 ^ (i + 1)))), (4, .int (nB (ebU lt (3 * e + c) (i + 1)))), (8, .int (nI (lt i))), (7, .int (nI i)), (6, .int (nI ln)), (5, .ref la), (0, .ref zh), (1, .int (nI e)), (2, .int (nI c))]) zx zb dX5_endsBackwards_63 rfl hl (by decide) rfl (fun ls hl => ?_)
            refine lv_iinc (v := nI (i + 1)) (lv' := [(7, .int (nI (i + 1))), (3, .int (nI ((3 * e + c) / 3 ^ (i + 1)))), (4, .int (nB (ebU lt (3 * e + c) (i + 1)))), (8, .int (nI (lt i))), (6, .int (nI ln)), (5, .ref la), (0, .ref zh), (1, .int (nI e)), (2, .int (nI c))]) zx zb dX5_endsBackwards_64 hl (k := 3) rfl (nI_1 _) (by decide) rfl (fun ls hl => ?_)
            refine lv_goto (tgt := 23) zx zb dX5_endsBackwards_67 (by decide) ?_
            exact ih23 (i + 1) (by omega) (by omega) _ _ _ hX (lv_sub hl [0, 4, 5, 2, 1, 6, 7, 8] rfl)
          · refine lv_iconst (v := nI 1) zx zb dX5_endsBackwards_52 (by decide) ?_
            refine lv_goto (tgt := 57) zx zb dX5_endsBackwards_53 (by decide) ?_
            refine nv_as (show nI 1 = nB (decide (3 ≤ (3 * e + c) / 3 ^ i ∧ (3 * e + c) / 3 ^ i % 3 = lt i)) from (nB_as1 (decide_eq_true ⟨by omega, by omega⟩))) ?_
            refine nv_iandB zx zb dX5_endsBackwards_57 ?_
            refine nv_as (show nB ((ebU lt (3 * e + c) i) && (decide (3 ≤ (3 * e + c) / 3 ^ i ∧ (3 * e + c) / 3 ^ i % 3 = lt i))) = nB (ebU lt (3 * e + c) (i + 1)) from (congrArg nB ebU_s)) ?_
            refine lv_istore (lv' := [(4, .int (nB (ebU lt (3 * e + c) (i + 1)))), (8, .int (nI (lt i))), (7, .int (nI i)), (6, .int (nI ln)), (5, .ref la), (3, .int (nI ((3 * e + c) / 3 ^ i))), (0, .ref zh), (1, .int (nI e)), (2, .int (nI c))]) zx zb dX5_endsBackwards_58 hl (by decide) rfl (fun ls hl => ?_)
            refine lv_iload_n zx zb dX5_endsBackwards_60 rfl (lv_at hl 5 rfl) ?_
            refine lv_iconst (v := nI 3) zx zb dX5_endsBackwards_61 (by decide) ?_
            refine nv_idiv zx zb (hbb _) (by decide) (by decide) dX5_endsBackwards_62 ?_
            refine nv_as (show nI (((3 * e + c) / 3 ^ i) / 3) = nI ((3 * e + c) / 3 ^ (i + 1)) from (congrArg nI dv3s)) ?_
            refine lv_istore_n (lv' := [(3, .int (nI ((3 * e + c) / 3 ^ (i + 1)))), (4, .int (nB (ebU lt (3 * e + c) (i + 1)))), (8, .int (nI (lt i))), (7, .int (nI i)), (6, .int (nI ln)), (5, .ref la), (0, .ref zh), (1, .int (nI e)), (2, .int (nI c))]) zx zb dX5_endsBackwards_63 rfl hl (by decide) rfl (fun ls hl => ?_)
            refine lv_iinc (v := nI (i + 1)) (lv' := [(7, .int (nI (i + 1))), (3, .int (nI ((3 * e + c) / 3 ^ (i + 1)))), (4, .int (nB (ebU lt (3 * e + c) (i + 1)))), (8, .int (nI (lt i))), (6, .int (nI ln)), (5, .ref la), (0, .ref zh), (1, .int (nI e)), (2, .int (nI c))]) zx zb dX5_endsBackwards_64 hl (k := 3) rfl (nI_1 _) (by decide) rfl (fun ls hl => ?_)
            refine lv_goto (tgt := 23) zx zb dX5_endsBackwards_67 (by decide) ?_
            exact ih23 (i + 1) (by omega) (by omega) _ _ _ hX (lv_sub hl [0, 4, 5, 2, 1, 6, 7, 8] rfl)
  rw [show nI (3 * e + c) = nI ((3 * e + c) / 3 ^ 0) from by rw [Nat.pow_zero, Nat.div_one], show nI 1 = nB (ebU lt (3 * e + c) 0) from nB_as1 ebU_0] at hl
  exact L23 _ 0 (by omega) (Nat.lt_succ_self _) _ _ _ hX (lv_sub hl [0, 1, 2, 3, 4, 5, 6, 7] rfl)

set_option maxHeartbeats 4000000 in
theorem mp_X5_endsBy_1  (zh : Nat) (la : Nat) (x0 : Nat) (ln : Nat) (lt : Nat → Nat) (e : Nat) (c : Nat) (hm : (zh, .inr (3, [.ref la, .ref x0, .ref x0])) ∈ ex) (ha : (la, aI dA ln (nF lt)) ∈ ex) (hl1 : 1 ≤ ln) (hl4 : ln ≤ 4) (hlt : ∀ j, lt j < 3) (he : e < 54) (hc : c < 3) : nMt l D dA a0 yX5_endsBy cX5_endsBy 3 (some .boolean) 2 38 0 0 nvG0 [.ref zh, .int (nI e), .int (nI c)] (ex) (nQi D a0 (fun (r : Int32) (_ : Unit) => r = nB (eaB ln lt 0 (3 * e + c))) (fun (_ : Unit) => ex)) := by
  refine nv_start (by decide) (Nat.le_of_ble_eq_true rfl) fun zp ze s zm zlo zme zcd ls zC zr zk znm hX zG hl => ?_
  have zx := zC.1
  have zb := zC.2.1
  generalize zargs : ([.ref zh, .int (nI e), .int (nI c)] : List Value).toArray = zar at zC ⊢
  generalize zQ : MQ zlo _ zar s _ _ _ = Q
  have hX : nvS D a0 (ex) s.heap s.heap [] := hX
  have hl : lv_has ls 3 [(0, .ref zh), (1, .int (nI e)), (2, .int (nI c))] := hl
  obtain ⟨H, zH⟩ : ∃ H, H = s.heap := ⟨_, rfl⟩
  have hX : nvS D a0 (ex) s.heap H [] := by rw [zH]; exact hX
  rw [show W zp l ze (rm_ 2 38 0 0) s zm zar zlo zme zcd s.heap [] 0 0 Q = W zp l ze (rm_ 2 38 0 0) s zm zar zlo zme zcd H [] 0 0 Q by rw [zH]]
  generalize ([] : List Loc) = locs at hX ⊢
  obtain ⟨yq, yhq⟩ := List.getElem?_of_mem hm
  obtain ⟨yr, yhr⟩ := List.getElem?_of_mem ha
  refine lv_aload_n zx zb dX5_endsBy_0 rfl (lv_at hl 0 rfl) ?_
  refine lv_iload_n zx zb dX5_endsBy_1 rfl (lv_at hl 1 rfl) ?_
  refine lv_iload_n zx zb dX5_endsBy_2 rfl (lv_at hl 2 rfl) ?_
  refine lv_iconst (v := nI 0) zx zb dX5_endsBy_3 (by decide) ?_
  refine nv_ki zC hX (nv_rU (n := 3) (As := [.int (nI e), .int (nI c), .int (nI 0)]) (rest := []) (q0 := yq) zC hX (mp_X5_endsAs_1 (zh := zh) (la := la) (x0 := x0) (ln := ln) (lt := lt) (e := e) (c := c) (fr := 0) (hm := (by first | assumption | omega)) (ha := (by first | assumption | omega)) (hl1 := (by first | assumption | omega)) (hl4 := (by first | assumption | omega)) (hlt := (by first | assumption | omega)) (he := (by first | assumption | omega)) (hc := (by first | assumption | omega)) (hfr := (by first | assumption | omega))) nvGb0 (fun _ _ _ => trivial) yhq rfl rfl q282 q285 q283 q286 q80 q288 (by decide +kernel) rfl ⟨Nat.le_of_ble_eq_true rfl, Nat.le_of_ble_eq_true rfl⟩ hl.1 (Nat.le_of_ble_eq_true rfl) dX5_endsBy_4 ⟨by first | exact Nat.le_of_ble_eq_true rfl | omega, by first | exact Nat.le_of_ble_eq_true rfl | omega⟩) (fun r u H locs hp hX => ?_)
  have hr_ : r = nB (eaB ln lt 0 (3 * e + c)) := hp
  subst hr_
  have hX : nvS D a0 (ex) s.heap H locs := hX
  refine W.cs (cells' := 0) (slots' := 0) (Nat.add_zero _) (Nat.add_zero _) ?_
  rw [← zQ]
  exact nv_endz zC zr zk () hX (by first | rfl | trivial) (by omega) (by omega) dX5_endsBy_7

set_option maxHeartbeats 4000000 in
theorem mp_X5_forms_1  (zh : Nat) (la : Nat) (x0 : Nat) (ln : Nat) (lt : Nat → Nat) (hm : (zh, .inr (3, [.ref la, .ref x0, .ref x0])) ∈ ex) (ha : (la, aI dA ln (nF lt)) ∈ ex) (hl1 : 1 ≤ ln) (hl4 : ln ≤ 4) (hlt : ∀ j, lt j < 3) : nMt l D dA a0 yX5_forms cX5_forms 1 (some .int) 1 12 0 0 nvG0 [.ref zh] (ex) (nQi D a0 (fun (r : Int32) (_ : Unit) => r = nI 1) (fun (_ : Unit) => ex)) := by
  refine nv_start (by decide) (Nat.le_of_ble_eq_true rfl) fun zp ze s zm zlo zme zcd ls zC zr zk znm hX zG hl => ?_
  have zx := zC.1
  have zb := zC.2.1
  generalize zargs : ([.ref zh] : List Value).toArray = zar at zC ⊢
  generalize zQ : MQ zlo _ zar s _ _ _ = Q
  have hX : nvS D a0 (ex) s.heap s.heap [] := hX
  have hl : lv_has ls 1 [(0, .ref zh)] := hl
  obtain ⟨H, zH⟩ : ∃ H, H = s.heap := ⟨_, rfl⟩
  have hX : nvS D a0 (ex) s.heap H [] := by rw [zH]; exact hX
  rw [show W zp l ze (rm_ 1 12 0 0) s zm zar zlo zme zcd s.heap [] 0 0 Q = W zp l ze (rm_ 1 12 0 0) s zm zar zlo zme zcd H [] 0 0 Q by rw [zH]]
  generalize ([] : List Loc) = locs at hX ⊢
  obtain ⟨yq, yhq⟩ := List.getElem?_of_mem hm
  obtain ⟨yr, yhr⟩ := List.getElem?_of_mem ha
  refine lv_iconst (v := nI 1) zx zb dX5_forms_0 (by decide) ?_
  rw [← zQ]
  exact nv_endi zC zr zk () hX (by first | rfl | trivial) (by omega) (by omega) dX5_forms_1

set_option maxHeartbeats 4000000 in
theorem mp_X5_firstLetter_1  (zh : Nat) (la : Nat) (x0 : Nat) (ln : Nat) (lt : Nat → Nat) (hm : (zh, .inr (3, [.ref la, .ref x0, .ref x0])) ∈ ex) (ha : (la, aI dA ln (nF lt)) ∈ ex) (hl1 : 1 ≤ ln) (hl4 : ln ≤ 4) (hlt : ∀ j, lt j < 3) : nMt l D dA a0 yX5_firstLetter cX5_firstLetter 1 (some .int) 1 12 0 0 nvG0 [.ref zh] (ex) (nQi D a0 (fun (r : Int32) (_ : Unit) => r = nI (lt 0)) (fun (_ : Unit) => ex)) := by
  refine nv_start (by decide) (Nat.le_of_ble_eq_true rfl) fun zp ze s zm zlo zme zcd ls zC zr zk znm hX zG hl => ?_
  have zx := zC.1
  have zb := zC.2.1
  generalize zargs : ([.ref zh] : List Value).toArray = zar at zC ⊢
  generalize zQ : MQ zlo _ zar s _ _ _ = Q
  have hX : nvS D a0 (ex) s.heap s.heap [] := hX
  have hl : lv_has ls 1 [(0, .ref zh)] := hl
  obtain ⟨H, zH⟩ : ∃ H, H = s.heap := ⟨_, rfl⟩
  have hX : nvS D a0 (ex) s.heap H [] := by rw [zH]; exact hX
  rw [show W zp l ze (rm_ 1 12 0 0) s zm zar zlo zme zcd s.heap [] 0 0 Q = W zp l ze (rm_ 1 12 0 0) s zm zar zlo zme zcd H [] 0 0 Q by rw [zH]]
  generalize ([] : List Loc) = locs at hX ⊢
  obtain ⟨yq, yhq⟩ := List.getElem?_of_mem hm
  obtain ⟨yr, yhr⟩ := List.getElem?_of_mem ha
  refine lv_aload_n zx zb dX5_firstLetter_0 rfl (lv_at hl 0 rfl) ?_
  refine nv_get zC hX in_X6 yq yhq rfl 0 (by decide) q444 (fun _ h => h) rfl dX5_firstLetter_1 ?_
  refine lv_iconst (v := nI 0) zx zb dX5_firstLetter_4 (by decide) ?_
  refine nv_iald (v := nI (lt 0)) zC hX yr yhr (by omega) (by omega) rfl dX5_firstLetter_5 ?_
  rw [← zQ]
  exact nv_endi zC zr zk () hX (by first | rfl | trivial) (by omega) (by omega) dX5_firstLetter_6

set_option maxHeartbeats 4000000 in
theorem mp_X5_endsAs_2  (zh : Nat) (la : Nat) (x0 : Nat) (ln : Nat) (lt : Nat → Nat) (e : Nat) (c : Nat) (fr : Nat) (hm : (zh, .inr (4, [.ref la, .ref x0, .ref x0, .ref x0])) ∈ ex) (ha : (la, aI dA ln (nF lt)) ∈ ex) (hl1 : 1 ≤ ln) (hl4 : ln ≤ 4) (hlt : ∀ j, lt j < 3) (he : e < 54) (hc : c < 3) (hfr : fr ≤ 1) : nMt l D dA a0 yX5_endsAs cX5_endsAs 7 (some .boolean) 1 12 0 0 nvG0 [.ref zh, .int (nI e), .int (nI c), .int (nI fr)] (ex) (nQi D a0 (fun (r : Int32) (_ : Unit) => r = nB (eaB ln lt fr (3 * e + c))) (fun (_ : Unit) => ex)) := by
  refine nv_start (by decide) (Nat.le_of_ble_eq_true rfl) fun zp ze s zm zlo zme zcd ls zC zr zk znm hX zG hl => ?_
  have zx := zC.1
  have zb := zC.2.1
  generalize zargs : ([.ref zh, .int (nI e), .int (nI c), .int (nI fr)] : List Value).toArray = zar at zC ⊢
  generalize zQ : MQ zlo _ zar s _ _ _ = Q
  have hX : nvS D a0 (ex) s.heap s.heap [] := hX
  have hl : lv_has ls 7 [(0, .ref zh), (1, .int (nI e)), (2, .int (nI c)), (3, .int (nI fr))] := hl
  obtain ⟨H, zH⟩ : ∃ H, H = s.heap := ⟨_, rfl⟩
  have hX : nvS D a0 (ex) s.heap H [] := by rw [zH]; exact hX
  rw [show W zp l ze (rm_ 1 12 0 0) s zm zar zlo zme zcd s.heap [] 0 0 Q = W zp l ze (rm_ 1 12 0 0) s zm zar zlo zme zcd H [] 0 0 Q by rw [zH]]
  generalize ([] : List Loc) = locs at hX ⊢
  obtain ⟨yq, yhq⟩ := List.getElem?_of_mem hm
  obtain ⟨yr, yhr⟩ := List.getElem?_of_mem ha
  have hbb : ∀ k, (3 * e + c) / 3 ^ k < 2 ^ 31 := fun k => (Nat.lt_of_le_of_lt (Nat.div_le_self _ _) (by omega))
  refine lv_iload_n zx zb dX5_endsAs_0 rfl (lv_at hl 1 rfl) ?_
  refine lv_iconst (v := nI 3) zx zb dX5_endsAs_1 (by decide) ?_
  refine nv_imul zx zb dX5_endsAs_2 ?_
  refine lv_iload_n zx zb dX5_endsAs_3 rfl (lv_at hl 2 rfl) ?_
  refine nv_iadd zx zb dX5_endsAs_4 ?_
  refine nv_as (show nI ((e * 3) + c) = nI (3 * e + c) from (congrArg nI (by omega))) ?_
  refine lv_istore (lv' := [(4, .int (nI (3 * e + c))), (0, .ref zh), (1, .int (nI e)), (2, .int (nI c)), (3, .int (nI fr))]) zx zb dX5_endsAs_5 hl (by decide) rfl (fun ls hl => ?_)
  refine lv_iload zx zb dX5_endsAs_7 (lv_at hl 0 rfl) ?_
  refine lv_iconst (v := nI 3) zx zb dX5_endsAs_9 (by decide) ?_
  refine nv_icmp_lt (tgt := 17) zx zb (by omega) (by omega) dX5_endsAs_10 (by decide) (fun c10 => ?_) (fun c10 => ?_)
  · refine lv_iconst (v := nI 0) zx zb dX5_endsAs_17 (by decide) ?_
    refine nv_as (show nI 0 = nB (decide (3 ≤ 3 * e + c)) from (nB_as0 (decide_eq_false (by omega)))) ?_
    refine lv_istore (lv' := [(5, .int (nB (decide (3 ≤ 3 * e + c)))), (4, .int (nI (3 * e + c))), (0, .ref zh), (1, .int (nI e)), (2, .int (nI c)), (3, .int (nI fr))]) zx zb dX5_endsAs_18 hl (by decide) rfl (fun ls hl => ?_)
    refine lv_aload_n zx zb dX5_endsAs_20 rfl (lv_at hl 2 rfl) ?_
    refine nv_get zC hX in_X7 yq yhq rfl 0 (by decide) q444 (fun _ h => h) rfl dX5_endsAs_21 ?_
    refine nv_alen zC hX yr 0 yhr rfl dX5_endsAs_24 ?_
    refine lv_iconst (v := nI 1) zx zb dX5_endsAs_25 (by decide) ?_
    refine lv_isub zx zb dX5_endsAs_26 ?_
    refine lv_istore (lv' := [(6, .int ((nI ln) - (nI 1))), (5, .int (nB (decide (3 ≤ 3 * e + c)))), (4, .int (nI (3 * e + c))), (0, .ref zh), (1, .int (nI e)), (2, .int (nI c)), (3, .int (nI fr))]) zx zb dX5_endsAs_27 hl (by decide) rfl (fun ls hl => ?_)
    have L29 : ∀ (zn : Nat) (m : Nat) (hm : m ≤ ln), m < zn → ∀ (H : Heap) (locs : List Loc) (ls : Array Slot), nvS D a0 (ex) s.heap H locs → lv_has ls 7 [(6, .int (nI m - nI 1)), (5, .int (nB (decide (3 ≤ 3 * e + c) && eaU ln lt fr (3 * e + c) (ln - m)))), (4, .int (nI ((3 * e + c) / 3 ^ (ln - m)))), (0, .ref zh), (1, .int (nI e)), (2, .int (nI c)), (3, .int (nI fr))] → W zp l ze (rm_ 1 12 0 0) s zm zar zlo zme zcd H locs 0 0 Q (F0 zm 29 ls []) := by
      intro zn
      induction zn with
      | zero => intro m hm zf; exact absurd zf (Nat.not_lt_zero _)
      | succ zn ih29 =>
        intro m hm zf H locs ls hX hl
        refine lv_iload zx zb dX5_endsAs_29 (lv_at hl 0 rfl) ?_
        rcases m with _ | m
        · refine lv_if_lt (x := nI 0 - nI 1) (tgt := 84) zx zb dX5_endsAs_31 (by decide) (fun c31 => ?_) (fun c31 => ?_)
          · refine lv_iload zx zb dX5_endsAs_84 (lv_at hl 1 rfl) ?_
            rw [← zQ]
            exact nv_endz zC zr zk () hX (by first | rfl | trivial) (by omega) (by omega) dX5_endsAs_86
          · exact absurd (by decide) c31
        · rw [show nI (m + 1) - nI 1 = nI m from by rw [pk_sub (by omega)]; rfl] at hl ⊢
          refine nv_if_lt (tgt := 84) zx zb (by omega) dX5_endsAs_31 (by decide) ?_
          refine lv_iload zx zb dX5_endsAs_34 (lv_at hl 1 rfl) ?_
          refine lv_iload zx zb dX5_endsAs_36 (lv_at hl 2 rfl) ?_
          refine lv_iconst (v := nI 3) zx zb dX5_endsAs_38 (by decide) ?_
          refine nv_icmp_lt (tgt := 68) zx zb (hbb _) (by decide) dX5_endsAs_39 (by decide) (fun c39 => ?_) (fun c39 => ?_)
          · refine lv_iconst (v := nI 0) zx zb dX5_endsAs_68 (by decide) ?_
            refine nv_as (show nI 0 = nB (decide (3 ≤ (3 * e + c) / 3 ^ (ln - (m + 1)) ∧ (3 * e + c) / 3 ^ (ln - (m + 1)) % 3 = lt ((fr + m) % ln))) from (nB_as0 (decide_eq_false (fun z => absurd z.1 (by omega))))) ?_
            refine nv_iandB zx zb dX5_endsAs_69 ?_
            refine nv_as (show nB ((decide (3 ≤ 3 * e + c) && eaU ln lt fr (3 * e + c) (ln - (m + 1))) && (decide (3 ≤ (3 * e + c) / 3 ^ (ln - (m + 1)) ∧ (3 * e + c) / 3 ^ (ln - (m + 1)) % 3 = lt ((fr + m) % ln)))) = nB (decide (3 ≤ 3 * e + c) && eaU ln lt fr (3 * e + c) (ln - m)) from (congrArg nB (eaU_s hm))) ?_
            refine lv_istore (lv' := [(5, .int (nB (decide (3 ≤ 3 * e + c) && eaU ln lt fr (3 * e + c) (ln - m)))), (6, .int (nI m)), (4, .int (nI ((3 * e + c) / 3 ^ (ln - (m + 1))))), (0, .ref zh), (1, .int (nI e)), (2, .int (nI c)), (3, .int (nI fr))]) zx zb dX5_endsAs_70 hl (by decide) rfl (fun ls hl => ?_)
            refine lv_iload zx zb dX5_endsAs_72 (lv_at hl 2 rfl) ?_
            refine lv_iconst (v := nI 3) zx zb dX5_endsAs_74 (by decide) ?_
            refine nv_idiv zx zb (hbb _) (by decide) (by decide) dX5_endsAs_75 ?_
            refine nv_as (show nI (((3 * e + c) / 3 ^ (ln - (m + 1))) / 3) = nI ((3 * e + c) / 3 ^ (ln - m)) from (congrArg nI (dv3 hm))) ?_
            refine lv_istore (lv' := [(4, .int (nI ((3 * e + c) / 3 ^ (ln - m)))), (5, .int (nB (decide (3 ≤ 3 * e + c) && eaU ln lt fr (3 * e + c) (ln - m)))), (6, .int (nI m)), (0, .ref zh), (1, .int (nI e)), (2, .int (nI c)), (3, .int (nI fr))]) zx zb dX5_endsAs_76 hl (by decide) rfl (fun ls hl => ?_)
            refine lv_iinc (v := nI m - nI 1) (lv' := [(6, .int (nI m - nI 1)), (4, .int (nI ((3 * e + c) / 3 ^ (ln - m)))), (5, .int (nB (decide (3 ≤ 3 * e + c) && eaU ln lt fr (3 * e + c) (ln - m)))), (0, .ref zh), (1, .int (nI e)), (2, .int (nI c)), (3, .int (nI fr))]) zx zb dX5_endsAs_78 hl (k := 2) rfl (nI_dm m) (by decide) rfl (fun ls hl => ?_)
            refine lv_goto (tgt := 29) zx zb dX5_endsAs_81 (by decide) ?_
            exact ih29 m (by omega) (by omega) _ _ _ hX (lv_sub hl [0, 2, 1, 3, 4, 5, 6] rfl)
          · refine lv_iload zx zb dX5_endsAs_42 (lv_at hl 2 rfl) ?_
            refine lv_iconst (v := nI 3) zx zb dX5_endsAs_44 (by decide) ?_
            refine nv_irem zx zb (hbb _) (by decide) (by decide) dX5_endsAs_45 ?_
            refine lv_aload_n zx zb dX5_endsAs_46 rfl (lv_at hl 3 rfl) ?_
            refine nv_get zC hX in_X7 yq yhq rfl 0 (by decide) q444 (fun _ h => h) rfl dX5_endsAs_47 ?_
            refine lv_iload_n zx zb dX5_endsAs_50 rfl (lv_at hl 6 rfl) ?_
            refine lv_iload zx zb dX5_endsAs_51 (lv_at hl 0 rfl) ?_
            refine nv_iadd zx zb dX5_endsAs_53 ?_
            refine lv_aload_n zx zb dX5_endsAs_54 rfl (lv_at hl 3 rfl) ?_
            refine nv_get zC hX in_X7 yq yhq rfl 0 (by decide) q444 (fun _ h => h) rfl dX5_endsAs_55 ?_
            refine nv_alen zC hX yr 0 yhr rfl dX5_endsAs_58 ?_
            refine nv_irem zx zb (by omega) (by omega) (by omega) dX5_endsAs_59 ?_
            refine nv_iald (v := nI (lt ((fr + m) % ln))) zC hX yr yhr (Nat.mod_lt _ (by omega)) (by omega) rfl dX5_endsAs_60 ?_
            refine nv_icmp_ne (tgt := 68) zx zb (Nat.lt_of_lt_of_le (Nat.mod_lt _ (by decide)) (by decide)) (Nat.lt_trans (hlt _) (by decide)) dX5_endsAs_61 (by decide) (fun c61 => ?_) (fun c61 => ?_)
            · refine lv_iconst (v := nI 0) zx zb dX5_endsAs_68 (by decide) ?_
              refine nv_as (show nI 0 = nB (decide (3 ≤ (3 * e + c) / 3 ^ (ln - (m + 1)) ∧ (3 * e + c) / 3 ^ (ln - (m + 1)) % 3 = lt ((fr + m) % ln))) from (nB_as0 (decide_eq_false (fun z => absurd z.2 (by omega))))) ?_
              refine nv_iandB zx zb dX5_endsAs_69 ?_
              refine nv_as (show nB ((decide (3 ≤ 3 * e + c) && eaU ln lt fr (3 * e + c) (ln - (m + 1))) && (decide (3 ≤ (3 * e + c) / 3 ^ (ln - (m + 1)) ∧ (3 * e + c) / 3 ^ (ln - (m + 1)) % 3 = lt ((fr + m) % ln)))) = nB (decide (3 ≤ 3 * e + c) && eaU ln lt fr (3 * e + c) (ln - m)) from (congrArg nB (eaU_s hm))) ?_
              refine lv_istore (lv' := [(5, .int (nB (decide (3 ≤ 3 * e + c) && eaU ln lt fr (3 * e + c) (ln - m)))), (6, .int (nI m)), (4, .int (nI ((3 * e + c) / 3 ^ (ln - (m + 1))))), (0, .ref zh), (1, .int (nI e)), (2, .int (nI c)), (3, .int (nI fr))]) zx zb dX5_endsAs_70 hl (by decide) rfl (fun ls hl => ?_)
              refine lv_iload zx zb dX5_endsAs_72 (lv_at hl 2 rfl) ?_
              refine lv_iconst (v := nI 3) zx zb dX5_endsAs_74 (by decide) ?_
              refine nv_idiv zx zb (hbb _) (by decide) (by decide) dX5_endsAs_75 ?_
              refine nv_as (show nI (((3 * e + c) / 3 ^ (ln - (m + 1))) / 3) = nI ((3 * e + c) / 3 ^ (ln - m)) from (congrArg nI (dv3 hm))) ?_
              refine lv_istore (lv' := [(4, .int (nI ((3 * e + c) / 3 ^ (ln - m)))), (5, .int (nB (decide (3 ≤ 3 * e + c) && eaU ln lt fr (3 * e + c) (ln - m)))), (6, .int (nI m)), (0, .ref zh), (1, .int (nI e)), (2, .int (nI c)), (3, .int (nI fr))]) zx zb dX5_endsAs_76 hl (by decide) rfl (fun ls hl => ?_)
              refine lv_iinc (v := nI m - nI 1) (lv' := [(6, .int (nI m - nI 1)), (4, .int (nI ((3 * e + c) / 3 ^ (ln - m)))), (5, .int (nB (decide (3 ≤ 3 * e + c) && eaU ln lt fr (3 * e + c) (ln - m)))), (0, .ref zh), (1, .int (nI e)), (2, .int (nI c)), (3, .int (nI fr))]) zx zb dX5_endsAs_78 hl (k := 2) rfl (nI_dm m) (by decide) rfl (fun ls hl => ?_)
              refine lv_goto (tgt := 29) zx zb dX5_endsAs_81 (by decide) ?_
              exact ih29 m (by omega) (by omega) _ _ _ hX (lv_sub hl [0, 2, 1, 3, 4, 5, 6] rfl)
            · refine lv_iconst (v := nI 1) zx zb dX5_endsAs_64 (by decide) ?_
              refine lv_goto (tgt := 69) zx zb dX5_endsAs_65 (by decide) ?_
              refine nv_as (show nI 1 = nB (decide (3 ≤ (3 * e + c) / 3 ^ (ln - (m + 1)) ∧ (3 * e + c) / 3 ^ (ln - (m + 1)) % 3 = lt ((fr + m) % ln))) from (nB_as1 (decide_eq_true ⟨by omega, by omega⟩))) ?_
              refine nv_iandB zx zb dX5_endsAs_69 ?_
              refine nv_as (show nB ((decide (3 ≤ 3 * e + c) && eaU ln lt fr (3 * e + c) (ln - (m + 1))) && (decide (3 ≤ (3 * e + c) / 3 ^ (ln - (m + 1)) ∧ (3 * e + c) / 3 ^ (ln - (m + 1)) % 3 = lt ((fr + m) % ln)))) = nB (decide (3 ≤ 3 * e + c) && eaU ln lt fr (3 * e + c) (ln - m)) from (congrArg nB (eaU_s hm))) ?_
              refine lv_istore (lv' := [(5, .int (nB (decide (3 ≤ 3 * e + c) && eaU ln lt fr (3 * e + c) (ln - m)))), (6, .int (nI m)), (4, .int (nI ((3 * e + c) / 3 ^ (ln - (m + 1))))), (0, .ref zh), (1, .int (nI e)), (2, .int (nI c)), (3, .int (nI fr))]) zx zb dX5_endsAs_70 hl (by decide) rfl (fun ls hl => ?_)
              refine lv_iload zx zb dX5_endsAs_72 (lv_at hl 2 rfl) ?_
              refine lv_iconst (v := nI 3) zx zb dX5_endsAs_74 (by decide) ?_
              refine nv_idiv zx zb (hbb _) (by decide) (by decide) dX5_endsAs_75 ?_
              refine nv_as (show nI (((3 * e + c) / 3 ^ (ln - (m + 1))) / 3) = nI ((3 * e + c) / 3 ^ (ln - m)) from (congrArg nI (dv3 hm))) ?_
              refine lv_istore (lv' := [(4, .int (nI ((3 * e + c) / 3 ^ (ln - m)))), (5, .int (nB (decide (3 ≤ 3 * e + c) && eaU ln lt fr (3 * e + c) (ln - m)))), (6, .int (nI m)), (0, .ref zh), (1, .int (nI e)), (2, .int (nI c)), (3, .int (nI fr))]) zx zb dX5_endsAs_76 hl (by decide) rfl (fun ls hl => ?_)
              refine lv_iinc (v := nI m - nI 1) (lv' := [(6, .int (nI m - nI 1)), (4, .int (nI ((3 * e + c) / 3 ^ (ln - m)))), (5, .int (nB (decide (3 ≤ 3 * e + c) && eaU ln lt fr (3 * e + c) (ln - m)))), (0, .ref zh), (1, .int (nI e)), (2, .int (nI c)), (3, .int (nI fr))]) zx zb dX5_endsAs_78 hl (k := 2) rfl (nI_dm m) (by decide) rfl (fun ls hl => ?_)
              refine lv_goto (tgt := 29) zx zb dX5_endsAs_81 (by decide) ?_
              exact ih29 m (by omega) (by omega) _ _ _ hX (lv_sub hl [0, 2, 1, 3, 4, 5, 6] rfl)
    rw [show nI (3 * e + c) = nI ((3 * e + c) / 3 ^ (ln - ln)) from by rw [Nat.sub_self, Nat.pow_zero, Nat.div_one], show nB (decide (3 ≤ 3 * e + c)) = nB (decide (3 ≤ 3 * e + c) && eaU ln lt fr (3 * e + c) (ln - ln)) from by rw [Nat.sub_self, eaU_0, Bool.and_true]] at hl
    exact L29 _ ln (Nat.le_refl _) (Nat.lt_succ_self _) _ _ _ hX (lv_sub hl [0, 1, 2, 3, 4, 5, 6] rfl)
  · refine lv_iconst (v := nI 1) zx zb dX5_endsAs_13 (by decide) ?_
    refine lv_goto (tgt := 18) zx zb dX5_endsAs_14 (by decide) ?_
    refine nv_as (show nI 1 = nB (decide (3 ≤ 3 * e + c)) from (nB_as1 (decide_eq_true (by omega)))) ?_
    refine lv_istore (lv' := [(5, .int (nB (decide (3 ≤ 3 * e + c)))), (4, .int (nI (3 * e + c))), (0, .ref zh), (1, .int (nI e)), (2, .int (nI c)), (3, .int (nI fr))]) zx zb dX5_endsAs_18 hl (by decide) rfl (fun ls hl => ?_)
    refine lv_aload_n zx zb dX5_endsAs_20 rfl (lv_at hl 2 rfl) ?_
    refine nv_get zC hX in_X7 yq yhq rfl 0 (by decide) q444 (fun _ h => h) rfl dX5_endsAs_21 ?_
    refine nv_alen zC hX yr 0 yhr rfl dX5_endsAs_24 ?_
    refine lv_iconst (v := nI 1) zx zb dX5_endsAs_25 (by decide) ?_
    refine lv_isub zx zb dX5_endsAs_26 ?_
    refine lv_istore (lv' := [(6, .int ((nI ln) - (nI 1))), (5, .int (nB (decide (3 ≤ 3 * e + c)))), (4, .int (nI (3 * e + c))), (0, .ref zh), (1, .int (nI e)), (2, .int (nI c)), (3, .int (nI fr))]) zx zb dX5_endsAs_27 hl (by decide) rfl (fun ls hl => ?_)
    have L29 : ∀ (zn : Nat) (m : Nat) (hm : m ≤ ln), m < zn → ∀ (H : Heap) (locs : List Loc) (ls : Array Slot), nvS D a0 (ex) s.heap H locs → lv_has ls 7 [(6, .int (nI m - nI 1)), (5, .int (nB (decide (3 ≤ 3 * e + c) && eaU ln lt fr (3 * e + c) (ln - m)))), (4, .int (nI ((3 * e + c) / 3 ^ (ln - m)))), (0, .ref zh), (1, .int (nI e)), (2, .int (nI c)), (3, .int (nI fr))] → W zp l ze (rm_ 1 12 0 0) s zm zar zlo zme zcd H locs 0 0 Q (F0 zm 29 ls []) := by
      intro zn
      induction zn with
      | zero => intro m hm zf; exact absurd zf (Nat.not_lt_zero _)
      | succ zn ih29 =>
        intro m hm zf H locs ls hX hl
        refine lv_iload zx zb dX5_endsAs_29 (lv_at hl 0 rfl) ?_
        rcases m with _ | m
        · refine lv_if_lt (x := nI 0 - nI 1) (tgt := 84) zx zb dX5_endsAs_31 (by decide) (fun c31 => ?_) (fun c31 => ?_)
          · refine lv_iload zx zb dX5_endsAs_84 (lv_at hl 1 rfl) ?_
            rw [← zQ]
            exact nv_endz zC zr zk () hX (by first | rfl | trivial) (by omega) (by omega) dX5_endsAs_86
          · exact absurd (by decide) c31
        · rw [show nI (m + 1) - nI 1 = nI m from by rw [pk_sub (by omega)]; rfl] at hl ⊢
          refine nv_if_lt (tgt := 84) zx zb (by omega) dX5_endsAs_31 (by decide) ?_
          refine lv_iload zx zb dX5_endsAs_34 (lv_at hl 1 rfl) ?_
          refine lv_iload zx zb dX5_endsAs_36 (lv_at hl 2 rfl) ?_
          refine lv_iconst (v := nI 3) zx zb dX5_endsAs_38 (by decide) ?_
          refine nv_icmp_lt (tgt := 68) zx zb (hbb _) (by decide) dX5_endsAs_39 (by decide) (fun c39 => ?_) (fun c39 => ?_)
          · refine lv_iconst (v := nI 0) zx zb dX5_endsAs_68 (by decide) ?_
            refine nv_as (show nI 0 = nB (decide (3 ≤ (3 * e + c) / 3 ^ (ln - (m + 1)) ∧ (3 * e + c) / 3 ^ (ln - (m + 1)) % 3 = lt ((fr + m) % ln))) from (nB_as0 (decide_eq_false (fun z => absurd z.1 (by omega))))) ?_
            refine nv_iandB zx zb dX5_endsAs_69 ?_
            refine nv_as (show nB ((decide (3 ≤ 3 * e + c) && eaU ln lt fr (3 * e + c) (ln - (m + 1))) && (decide (3 ≤ (3 * e + c) / 3 ^ (ln - (m + 1)) ∧ (3 * e + c) / 3 ^ (ln - (m + 1)) % 3 = lt ((fr + m) % ln)))) = nB (decide (3 ≤ 3 * e + c) && eaU ln lt fr (3 * e + c) (ln - m)) from (congrArg nB (eaU_s hm))) ?_
            refine lv_istore (lv' := [(5, .int (nB (decide (3 ≤ 3 * e + c) && eaU ln lt fr (3 * e + c) (ln - m)))), (6, .int (nI m)), (4, .int (nI ((3 * e + c) / 3 ^ (ln - (m + 1))))), (0, .ref zh), (1, .int (nI e)), (2, .int (nI c)), (3, .int (nI fr))]) zx zb dX5_endsAs_70 hl (by decide) rfl (fun ls hl => ?_)
            refine lv_iload zx zb dX5_endsAs_72 (lv_at hl 2 rfl) ?_
            refine lv_iconst (v := nI 3) zx zb dX5_endsAs_74 (by decide) ?_
            refine nv_idiv zx zb (hbb _) (by decide) (by decide) dX5_endsAs_75 ?_
            refine nv_as (show nI (((3 * e + c) / 3 ^ (ln - (m + 1))) / 3) = nI ((3 * e + c) / 3 ^ (ln - m)) from (congrArg nI (dv3 hm))) ?_
            refine lv_istore (lv' := [(4, .int (nI ((3 * e + c) / 3 ^ (ln - m)))), (5, .int (nB (decide (3 ≤ 3 * e + c) && eaU ln lt fr (3 * e + c) (ln - m)))), (6, .int (nI m)), (0, .ref zh), (1, .int (nI e)), (2, .int (nI c)), (3, .int (nI fr))]) zx zb dX5_endsAs_76 hl (by decide) rfl (fun ls hl => ?_)
            refine lv_iinc (v := nI m - nI 1) (lv' := [(6, .int (nI m - nI 1)), (4, .int (nI ((3 * e + c) / 3 ^ (ln - m)))), (5, .int (nB (decide (3 ≤ 3 * e + c) && eaU ln lt fr (3 * e + c) (ln - m)))), (0, .ref zh), (1, .int (nI e)), (2, .int (nI c)), (3, .int (nI fr))]) zx zb dX5_endsAs_78 hl (k := 2) rfl (nI_dm m) (by decide) rfl (fun ls hl => ?_)
            refine lv_goto (tgt := 29) zx zb dX5_endsAs_81 (by decide) ?_
            exact ih29 m (by omega) (by omega) _ _ _ hX (lv_sub hl [0, 2, 1, 3, 4, 5, 6] rfl)
          · refine lv_iload zx zb dX5_endsAs_42 (lv_at hl 2 rfl) ?_
            refine lv_iconst (v := nI 3) zx zb dX5_endsAs_44 (by decide) ?_
            refine nv_irem zx zb (hbb _) (by decide) (by decide) dX5_endsAs_45 ?_
            refine lv_aload_n zx zb dX5_endsAs_46 rfl (lv_at hl 3 rfl) ?_
            refine nv_get zC hX in_X7 yq yhq rfl 0 (by decide) q444 (fun _ h => h) rfl dX5_endsAs_47 ?_
            refine lv_iload_n zx zb dX5_endsAs_50 rfl (lv_at hl 6 rfl) ?_
            refine lv_iload zx zb dX5_endsAs_51 (lv_at hl 0 rfl) ?_
            refine nv_iadd zx zb dX5_endsAs_53 ?_
            refine lv_aload_n zx zb dX5_endsAs_54 rfl (lv_at hl 3 rfl) ?_
            refine nv_get zC hX in_X7 yq yhq rfl 0 (by decide) q444 (fun _ h => h) rfl dX5_endsAs_55 ?_
            refine nv_alen zC hX yr 0 yhr rfl dX5_endsAs_58 ?_
            refine nv_irem zx zb (by omega) (by omega) (by omega) dX5_endsAs_59 ?_
            refine nv_iald (v := nI (lt ((fr + m) % ln))) zC hX yr yhr (Nat.mod_lt _ (by omega)) (by omega) rfl dX5_endsAs_60 ?_
            refine nv_icmp_ne (tgt := 68) zx zb (Nat.lt_of_lt_of_le (Nat.mod_lt _ (by decide)) (by decide)) (Nat.lt_trans (hlt _) (by decide)) dX5_endsAs_61 (by decide) (fun c61 => ?_) (fun c61 => ?_)
            · refine lv_iconst (v := nI 0) zx zb dX5_endsAs_68 (by decide) ?_
              refine nv_as (show nI 0 = nB (decide (3 ≤ (3 * e + c) / 3 ^ (ln - (m + 1)) ∧ (3 * e + c) / 3 ^ (ln - (m + 1)) % 3 = lt ((fr + m) % ln))) from (nB_as0 (decide_eq_false (fun z => absurd z.2 (by omega))))) ?_
              refine nv_iandB zx zb dX5_endsAs_69 ?_
              refine nv_as (show nB ((decide (3 ≤ 3 * e + c) && eaU ln lt fr (3 * e + c) (ln - (m + 1))) && (decide (3 ≤ (3 * e + c) / 3 ^ (ln - (m + 1)) ∧ (3 * e + c) / 3 ^ (ln - (m + 1)) % 3 = lt ((fr + m) % ln)))) = nB (decide (3 ≤ 3 * e + c) && eaU ln lt fr (3 * e + c) (ln - m)) from (congrArg nB (eaU_s hm))) ?_
              refine lv_istore (lv' := [(5, .int (nB (decide (3 ≤ 3 * e + c) && eaU ln lt fr (3 * e + c) (ln - m)))), (6, .int (nI m)), (4, .int (nI ((3 * e + c) / 3 ^ (ln - (m + 1))))), (0, .ref zh), (1, .int (nI e)), (2, .int (nI c)), (3, .int (nI fr))]) zx zb dX5_endsAs_70 hl (by decide) rfl (fun ls hl => ?_)
              refine lv_iload zx zb dX5_endsAs_72 (lv_at hl 2 rfl) ?_
              refine lv_iconst (v := nI 3) zx zb dX5_endsAs_74 (by decide) ?_
              refine nv_idiv zx zb (hbb _) (by decide) (by decide) dX5_endsAs_75 ?_
              refine nv_as (show nI (((3 * e + c) / 3 ^ (ln - (m + 1))) / 3) = nI ((3 * e + c) / 3 ^ (ln - m)) from (congrArg nI (dv3 hm))) ?_
              refine lv_istore (lv' := [(4, .int (nI ((3 * e + c) / 3 ^ (ln - m)))), (5, .int (nB (decide (3 ≤ 3 * e + c) && eaU ln lt fr (3 * e + c) (ln - m)))), (6, .int (nI m)), (0, .ref zh), (1, .int (nI e)), (2, .int (nI c)), (3, .int (nI fr))]) zx zb dX5_endsAs_76 hl (by decide) rfl (fun ls hl => ?_)
              refine lv_iinc (v := nI m - nI 1) (lv' := [(6, .int (nI m - nI 1)), (4, .int (nI ((3 * e + c) / 3 ^ (ln - m)))), (5, .int (nB (decide (3 ≤ 3 * e + c) && eaU ln lt fr (3 * e + c) (ln - m)))), (0, .ref zh), (1, .int (nI e)), (2, .int (nI c)), (3, .int (nI fr))]) zx zb dX5_endsAs_78 hl (k := 2) rfl (nI_dm m) (by decide) rfl (fun ls hl => ?_)
              refine lv_goto (tgt := 29) zx zb dX5_endsAs_81 (by decide) ?_
              exact ih29 m (by omega) (by omega) _ _ _ hX (lv_sub hl [0, 2, 1, 3, 4, 5, 6] rfl)
            · refine lv_iconst (v := nI 1) zx zb dX5_endsAs_64 (by decide) ?_
              refine lv_goto (tgt := 69) zx zb dX5_endsAs_65 (by decide) ?_
              refine nv_as (show nI 1 = nB (decide (3 ≤ (3 * e + c) / 3 ^ (ln - (m + 1)) ∧ (3 * e + c) / 3 ^ (ln - (m + 1)) % 3 = lt ((fr + m) % ln))) from (nB_as1 (decide_eq_true ⟨by omega, by omega⟩))) ?_
              refine nv_iandB zx zb dX5_endsAs_69 ?_
              refine nv_as (show nB ((decide (3 ≤ 3 * e + c) && eaU ln lt fr (3 * e + c) (ln - (m + 1))) && (decide (3 ≤ (3 * e + c) / 3 ^ (ln - (m + 1)) ∧ (3 * e + c) / 3 ^ (ln - (m + 1)) % 3 = lt ((fr + m) % ln)))) = nB (decide (3 ≤ 3 * e + c) && eaU ln lt fr (3 * e + c) (ln - m)) from (congrArg nB (eaU_s hm))) ?_
              refine lv_istore (lv' := [(5, .int (nB (decide (3 ≤ 3 * e + c) && eaU ln lt fr (3 * e + c) (ln - m)))), (6, .int (nI m)), (4, .int (nI ((3 * e + c) / 3 ^ (ln - (m + 1))))), (0, .ref zh), (1, .int (nI e)), (2, .int (nI c)), (3, .int (nI fr))]) zx zb dX5_endsAs_70 hl (by decide) rfl (fun ls hl => ?_)
              refine lv_iload zx zb dX5_endsAs_72 (lv_at hl 2 rfl) ?_
              refine lv_iconst (v := nI 3) zx zb dX5_endsAs_74 (by decide) ?_
              refine nv_idiv zx zb (hbb _) (by decide) (by decide) dX5_endsAs_75 ?_
              refine nv_as (show nI (((3 * e + c) / 3 ^ (ln - (m + 1))) / 3) = nI ((3 * e + c) / 3 ^ (ln - m)) from (congrArg nI (dv3 hm))) ?_
              refine lv_istore (lv' := [(4, .int (nI ((3 * e + c) / 3 ^ (ln - m)))), (5, .int (nB (decide (3 ≤ 3 * e + c) && eaU ln lt fr (3 * e + c) (ln - m)))), (6, .int (nI m)), (0, .ref zh), (1, .int (nI e)), (2, .int (nI c)), (3, .int (nI fr))]) zx zb dX5_endsAs_76 hl (by decide) rfl (fun ls hl => ?_)
              refine lv_iinc (v := nI m - nI 1) (lv' := [(6, .int (nI m - nI 1)), (4, .int (nI ((3 * e + c) / 3 ^ (ln - m)))), (5, .int (nB (decide (3 ≤ 3 * e + c) && eaU ln lt fr (3 * e + c) (ln - m)))), (0, .ref zh), (1, .int (nI e)), (2, .int (nI c)), (3, .int (nI fr))]) zx zb dX5_endsAs_78 hl (k := 2) rfl (nI_dm m) (by decide) rfl (fun ls hl => ?_)
              refine lv_goto (tgt := 29) zx zb dX5_endsAs_81 (by decide) ?_
              exact ih29 m (by omega) (by omega) _ _ _ hX (lv_sub hl [0, 2, 1, 3, 4, 5, 6] rfl)
    rw [show nI (3 * e + c) = nI ((3 * e + c) / 3 ^ (ln - ln)) from by rw [Nat.sub_self, Nat.pow_zero, Nat.div_one], show nB (decide (3 ≤ 3 * e + c)) = nB (decide (3 ≤ 3 * e + c) && eaU ln lt fr (3 * e + c) (ln - ln)) from by rw [Nat.sub_self, eaU_0, Bool.and_true]] at hl
    exact L29 _ ln (Nat.le_refl _) (Nat.lt_succ_self _) _ _ _ hX (lv_sub hl [0, 1, 2, 3, 4, 5, 6] rfl)

set_option maxHeartbeats 4000000 in
theorem mp_X5_endsBackwards_2  (zh : Nat) (la : Nat) (x0 : Nat) (ln : Nat) (lt : Nat → Nat) (e : Nat) (c : Nat) (hm : (zh, .inr (4, [.ref la, .ref x0, .ref x0, .ref x0])) ∈ ex) (ha : (la, aI dA ln (nF lt)) ∈ ex) (hl1 : 1 ≤ ln) (hl4 : ln ≤ 4) (hlt : ∀ j, lt j < 3) (he : e < 54) (hc : c < 3) : nMt l D dA a0 yX5_endsBackwards cX5_endsBackwards 9 (some .boolean) 1 12 0 0 nvG0 [.ref zh, .int (nI e), .int (nI c)] (ex) (nQi D a0 (fun (r : Int32) (_ : Unit) => r = nB (ebU lt (3 * e + c) ln)) (fun (_ : Unit) => ex)) := by
  refine nv_start (by decide) (Nat.le_of_ble_eq_true rfl) fun zp ze s zm zlo zme zcd ls zC zr zk znm hX zG hl => ?_
  have zx := zC.1
  have zb := zC.2.1
  generalize zargs : ([.ref zh, .int (nI e), .int (nI c)] : List Value).toArray = zar at zC ⊢
  generalize zQ : MQ zlo _ zar s _ _ _ = Q
  have hX : nvS D a0 (ex) s.heap s.heap [] := hX
  have hl : lv_has ls 9 [(0, .ref zh), (1, .int (nI e)), (2, .int (nI c))] := hl
  obtain ⟨H, zH⟩ : ∃ H, H = s.heap := ⟨_, rfl⟩
  have hX : nvS D a0 (ex) s.heap H [] := by rw [zH]; exact hX
  rw [show W zp l ze (rm_ 1 12 0 0) s zm zar zlo zme zcd s.heap [] 0 0 Q = W zp l ze (rm_ 1 12 0 0) s zm zar zlo zme zcd H [] 0 0 Q by rw [zH]]
  generalize ([] : List Loc) = locs at hX ⊢
  obtain ⟨yq, yhq⟩ := List.getElem?_of_mem hm
  obtain ⟨yr, yhr⟩ := List.getElem?_of_mem ha
  have hbb : ∀ k, (3 * e + c) / 3 ^ k < 2 ^ 31 := fun k => (Nat.lt_of_le_of_lt (Nat.div_le_self _ _) (by omega))
  refine lv_iload_n zx zb dX5_endsBackwards_0 rfl (lv_at hl 1 rfl) ?_
  refine lv_iconst (v := nI 3) zx zb dX5_endsBackwards_1 (by decide) ?_
  refine nv_imul zx zb dX5_endsBackwards_2 ?_
  refine lv_iload_n zx zb dX5_endsBackwards_3 rfl (lv_at hl 2 rfl) ?_
  refine nv_iadd zx zb dX5_endsBackwards_4 ?_
  refine nv_as (show nI ((e * 3) + c) = nI (3 * e + c) from (congrArg nI (by omega))) ?_
  refine lv_istore_n (lv' := [(3, .int (nI (3 * e + c))), (0, .ref zh), (1, .int (nI e)), (2, .int (nI c))]) zx zb dX5_endsBackwards_5 rfl hl (by decide) rfl (fun ls hl => ?_)
  refine lv_iconst (v := nI 1) zx zb dX5_endsBackwards_6 (by decide) ?_
  refine lv_istore (lv' := [(4, .int (nI 1)), (3, .int (nI (3 * e + c))), (0, .ref zh), (1, .int (nI e)), (2, .int (nI c))]) zx zb dX5_endsBackwards_7 hl (by decide) rfl (fun ls hl => ?_)
  refine lv_aload_n zx zb dX5_endsBackwards_9 rfl (lv_at hl 2 rfl) ?_
  refine nv_get zC hX in_X7 yq yhq rfl 0 (by decide) q444 (fun _ h => h) rfl dX5_endsBackwards_10 ?_
  refine lv_astore (lv' := [(5, .ref la), (4, .int (nI 1)), (3, .int (nI (3 * e + c))), (0, .ref zh), (1, .int (nI e)), (2, .int (nI c))]) zx zb dX5_endsBackwards_13 hl (by decide) rfl (fun ls hl => ?_)
  refine lv_aload zx zb dX5_endsBackwards_15 (lv_at hl 0 rfl) ?_
  refine nv_alen zC hX yr 0 yhr rfl dX5_endsBackwards_17 ?_
  refine lv_istore (lv' := [(6, .int (nI ln)), (5, .ref la), (4, .int (nI 1)), (3, .int (nI (3 * e + c))), (0, .ref zh), (1, .int (nI e)), (2, .int (nI c))]) zx zb dX5_endsBackwards_18 hl (by decide) rfl (fun ls hl => ?_)
  refine lv_iconst (v := nI 0) zx zb dX5_endsBackwards_20 (by decide) ?_
  refine lv_istore (lv' := [(7, .int (nI 0)), (6, .int (nI ln)), (5, .ref la), (4, .int (nI 1)), (3, .int (nI (3 * e + c))), (0, .ref zh), (1, .int (nI e)), (2, .int (nI c))]) zx zb dX5_endsBackwards_21 hl (by decide) rfl (fun ls hl => ?_)
  have L23 : ∀ (zn : Nat) (i : Nat) (hi : i ≤ ln), ln - i < zn → ∀ (H : Heap) (locs : List Loc) (ls : Array Slot), nvS D a0 (ex) s.heap H locs → lv_has ls 9 [(7, .int (nI i)), (6, .int (nI ln)), (5, .ref la), (4, .int (nB (ebU lt (3 * e + c) i))), (3, .int (nI ((3 * e + c) / 3 ^ i))), (0, .ref zh), (1, .int (nI e)), (2, .int (nI c))] → W zp l ze (rm_ 1 12 0 0) s zm zar zlo zme zcd H locs 0 0 Q (F0 zm 23 ls []) := by
    intro zn
    induction zn with
    | zero => intro i hi zf; exact absurd zf (Nat.not_lt_zero _)
    | succ zn ih23 =>
      intro i hi zf H locs ls hX hl
      refine lv_iload zx zb dX5_endsBackwards_23 (lv_at hl 0 rfl) ?_
      refine lv_iload zx zb dX5_endsBackwards_25 (lv_at hl 1 rfl) ?_
      refine nv_icmp_ge (tgt := 70) zx zb (by omega) (by omega) dX5_endsBackwards_27 (by decide) (fun c27 => ?_) (fun c27 => ?_)
      · refine lv_iload zx zb dX5_endsBackwards_70 (lv_at hl 3 rfl) ?_
        rw [← zQ]
        exact nv_endz zC zr zk () hX (by have e_ : i = ln := (by omega); rw [e_]) (by omega) (by omega) dX5_endsBackwards_72
      · refine lv_aload zx zb dX5_endsBackwards_30 (lv_at hl 2 rfl) ?_
        refine lv_iload zx zb dX5_endsBackwards_32 (lv_at hl 0 rfl) ?_
        refine nv_iald (v := nI (lt i)) zC hX yr yhr (by omega) (by omega) rfl dX5_endsBackwards_34 ?_
        refine lv_istore (lv' := [(8, .int (nI (lt i))), (7, .int (nI i)), (6, .int (nI ln)), (5, .ref la), (4, .int (nB (ebU lt (3 * e + c) i))), (3, .int (nI ((3 * e + c) / 3 ^ i))), (0, .ref zh), (1, .int (nI e)), (2, .int (nI c))]) zx zb dX5_endsBackwards_35 hl (by decide) rfl (fun ls hl => ?_)
        refine lv_iload zx zb dX5_endsBackwards_37 (lv_at hl 4 rfl) ?_
        refine lv_iload_n zx zb dX5_endsBackwards_39 rfl (lv_at hl 5 rfl) ?_
        refine lv_iconst (v := nI 3) zx zb dX5_endsBackwards_40 (by decide) ?_
        refine nv_icmp_lt (tgt := 56) zx zb (hbb _) (by decide) dX5_endsBackwards_41 (by decide) (fun c41 => ?_) (fun c41 => ?_)
        · refine lv_iconst (v := nI 0) zx zb dX5_endsBackwards_56 (by decide) ?_
          refine nv_as (show nI 0 = nB (decide (3 ≤ (3 * e + c) / 3 ^ i ∧ (3 * e + c) / 3 ^ i % 3 = lt i)) from (nB_as0 (decide_eq_false (fun z => absurd z.1 (by omega))))) ?_
          refine nv_iandB zx zb dX5_endsBackwards_57 ?_
          refine nv_as (show nB ((ebU lt (3 * e + c) i) && (decide (3 ≤ (3 * e + c) / 3 ^ i ∧ (3 * e + c) / 3 ^ i % 3 = lt i))) = nB (ebU lt (3 * e + c) (i + 1)) from (congrArg nB ebU_s)) ?_
          refine lv_istore (lv' := [(4, .int (nB (ebU lt (3 * e + c) (i + 1)))), (8, .int (nI (lt i))), (7, .int (nI i)), (6, .int (nI ln)), (5, .ref la), (3, .int (nI ((3 * e + c) / 3 ^ i))), (0, .ref zh), (1, .int (nI e)), (2, .int (nI c))]) zx zb dX5_endsBackwards_58 hl (by decide) rfl (fun ls hl => ?_)
          refine lv_iload_n zx zb dX5_endsBackwards_60 rfl (lv_at hl 5 rfl) ?_
          refine lv_iconst (v := nI 3) zx zb dX5_endsBackwards_61 (by decide) ?_
          refine nv_idiv zx zb (hbb _) (by decide) (by decide) dX5_endsBackwards_62 ?_
          refine nv_as (show nI (((3 * e + c) / 3 ^ i) / 3) = nI ((3 * e + c) / 3 ^ (i + 1)) from (congrArg nI dv3s)) ?_
          refine lv_istore_n (lv' := [(3, .int (nI ((3 * e + c) / 3 ^ (i + 1)))), (4, .int (nB (ebU lt (3 * e + c) (i + 1)))), (8, .int (nI (lt i))), (7, .int (nI i)), (6, .int (nI ln)), (5, .ref la), (0, .ref zh), (1, .int (nI e)), (2, .int (nI c))]) zx zb dX5_endsBackwards_63 rfl hl (by decide) rfl (fun ls hl => ?_)
          refine lv_iinc (v := nI (i + 1)) (lv' := [(7, .int (nI (i + 1))), (3, .int (nI ((3 * e + c) / 3 ^ (i + 1)))), (4, .int (nB (ebU lt (3 * e + c) (i + 1)))), (8, .int (nI (lt i))), (6, .int (nI ln)), (5, .ref la), (0, .ref zh), (1, .int (nI e)), (2, .int (nI c))]) zx zb dX5_endsBackwards_64 hl (k := 3) rfl (nI_1 _) (by decide) rfl (fun ls hl => ?_)
          refine lv_goto (tgt := 23) zx zb dX5_endsBackwards_67 (by decide) ?_
          exact ih23 (i + 1) (by omega) (by omega) _ _ _ hX (lv_sub hl [0, 4, 5, 2, 1, 6, 7, 8] rfl)
        · refine lv_iload_n zx zb dX5_endsBackwards_44 rfl (lv_at hl 5 rfl) ?_
          refine lv_iconst (v := nI 3) zx zb dX5_endsBackwards_45 (by decide) ?_
          refine nv_irem zx zb (hbb _) (by decide) (by decide) dX5_endsBackwards_46 ?_
          refine lv_iload zx zb dX5_endsBackwards_47 (lv_at hl 0 rfl) ?_
          refine nv_icmp_ne (tgt := 56) zx zb (Nat.lt_of_lt_of_le (Nat.mod_lt _ (by decide)) (by decide)) (Nat.lt_trans (hlt _) (by decide)) dX5_endsBackwards_49 (by decide) (fun c49 => ?_) (fun c49 => ?_)
          · refine lv_iconst (v := nI 0) zx zb dX5_endsBackwards_56 (by decide) ?_
            refine nv_as (show nI 0 = nB (decide (3 ≤ (3 * e + c) / 3 ^ i ∧ (3 * e + c) / 3 ^ i % 3 = lt i)) from (nB_as0 (decide_eq_false (fun z => absurd z.2 (by omega))))) ?_
            refine nv_iandB zx zb dX5_endsBackwards_57 ?_
            refine nv_as (show nB ((ebU lt (3 * e + c) i) && (decide (3 ≤ (3 * e + c) / 3 ^ i ∧ (3 * e + c) / 3 ^ i % 3 = lt i))) = nB (ebU lt (3 * e + c) (i + 1)) from (congrArg nB ebU_s)) ?_
            refine lv_istore (lv' := [(4, .int (nB (ebU lt (3 * e + c) (i + 1)))), (8, .int (nI (lt i))), (7, .int (nI i)), (6, .int (nI ln)), (5, .ref la), (3, .int (nI ((3 * e + c) / 3 ^ i))), (0, .ref zh), (1, .int (nI e)), (2, .int (nI c))]) zx zb dX5_endsBackwards_58 hl (by decide) rfl (fun ls hl => ?_)
            refine lv_iload_n zx zb dX5_endsBackwards_60 rfl (lv_at hl 5 rfl) ?_
            refine lv_iconst (v := nI 3) zx zb dX5_endsBackwards_61 (by decide) ?_
            refine nv_idiv zx zb (hbb _) (by decide) (by decide) dX5_endsBackwards_62 ?_
            refine nv_as (show nI (((3 * e + c) / 3 ^ i) / 3) = nI ((3 * e + c) / 3 ^ (i + 1)) from (congrArg nI dv3s)) ?_
            refine lv_istore_n (lv' := [(3, .int (nI ((3 * e + c) / 3 ^ (i + 1)))), (4, .int (nB (ebU lt (3 * e + c) (i + 1)))), (8, .int (nI (lt i))), (7, .int (nI i)), (6, .int (nI ln)), (5, .ref la), (0, .ref zh), (1, .int (nI e)), (2, .int (nI c))]) zx zb dX5_endsBackwards_63 rfl hl (by decide) rfl (fun ls hl => ?_)
            refine lv_iinc (v := nI (i + 1)) (lv' := [(7, .int (nI (i + 1))), (3, .int (nI ((3 * e + c) / 3 ^ (i + 1)))), (4, .int (nB (ebU lt (3 * e + c) (i + 1)))), (8, .int (nI (lt i))), (6, .int (nI ln)), (5, .ref la), (0, .ref zh), (1, .int (nI e)), (2, .int (nI c))]) zx zb dX5_endsBackwards_64 hl (k := 3) rfl (nI_1 _) (by decide) rfl (fun ls hl => ?_)
            refine lv_goto (tgt := 23) zx zb dX5_endsBackwards_67 (by decide) ?_
            exact ih23 (i + 1) (by omega) (by omega) _ _ _ hX (lv_sub hl [0, 4, 5, 2, 1, 6, 7, 8] rfl)
          · refine lv_iconst (v := nI 1) zx zb dX5_endsBackwards_52 (by decide) ?_
            refine lv_goto (tgt := 57) zx zb dX5_endsBackwards_53 (by decide) ?_
            refine nv_as (show nI 1 = nB (decide (3 ≤ (3 * e + c) / 3 ^ i ∧ (3 * e + c) / 3 ^ i % 3 = lt i)) from (nB_as1 (decide_eq_true ⟨by omega, by omega⟩))) ?_
            refine nv_iandB zx zb dX5_endsBackwards_57 ?_
            refine nv_as (show nB ((ebU lt (3 * e + c) i) && (decide (3 ≤ (3 * e + c) / 3 ^ i ∧ (3 * e + c) / 3 ^ i % 3 = lt i))) = nB (ebU lt (3 * e + c) (i + 1)) from (congrArg nB ebU_s)) ?_
            refine lv_istore (lv' := [(4, .int (nB (ebU lt (3 * e + c) (i + 1)))), (8, .int (nI (lt i))), (7, .int (nI i)), (6, .int (nI ln)), (5, .ref la), (3, .int (nI ((3 * e + c) / 3 ^ i))), (0, .ref zh), (1, .int (nI e)), (2, .int (nI c))]) zx zb dX5_endsBackwards_58 hl (by decide) rfl (fun ls hl => ?_)
            refine lv_iload_n zx zb dX5_endsBackwards_60 rfl (lv_at hl 5 rfl) ?_
            refine lv_iconst (v := nI 3) zx zb dX5_endsBackwards_61 (by decide) ?_
            refine nv_idiv zx zb (hbb _) (by decide) (by decide) dX5_endsBackwards_62 ?_
            refine nv_as (show nI (((3 * e + c) / 3 ^ i) / 3) = nI ((3 * e + c) / 3 ^ (i + 1)) from (congrArg nI dv3s)) ?_
            refine lv_istore_n (lv' := [(3, .int (nI ((3 * e + c) / 3 ^ (i + 1)))), (4, .int (nB (ebU lt (3 * e + c) (i + 1)))), (8, .int (nI (lt i))), (7, .int (nI i)), (6, .int (nI ln)), (5, .ref la), (0, .ref zh), (1, .int (nI e)), (2, .int (nI c))]) zx zb dX5_endsBackwards_63 rfl hl (by decide) rfl (fun ls hl => ?_)
            refine lv_iinc (v := nI (i + 1)) (lv' := [(7, .int (nI (i + 1))), (3, .int (nI ((3 * e + c) / 3 ^ (i + 1)))), (4, .int (nB (ebU lt (3 * e + c) (i + 1)))), (8, .int (nI (lt i))), (6, .int (nI ln)), (5, .ref la), (0, .ref zh), (1, .int (nI e)), (2, .int (nI c))]) zx zb dX5_endsBackwards_64 hl (k := 3) rfl (nI_1 _) (by decide) rfl (fun ls hl => ?_)
            refine lv_goto (tgt := 23) zx zb dX5_endsBackwards_67 (by decide) ?_
            exact ih23 (i + 1) (by omega) (by omega) _ _ _ hX (lv_sub hl [0, 4, 5, 2, 1, 6, 7, 8] rfl)
  rw [show nI (3 * e + c) = nI ((3 * e + c) / 3 ^ 0) from by rw [Nat.pow_zero, Nat.div_one], show nI 1 = nB (ebU lt (3 * e + c) 0) from nB_as1 ebU_0] at hl
  exact L23 _ 0 (by omega) (Nat.lt_succ_self _) _ _ _ hX (lv_sub hl [0, 1, 2, 3, 4, 5, 6, 7] rfl)

set_option maxHeartbeats 4000000 in
theorem mp_X5_endsBy_2  (zh : Nat) (la : Nat) (x0 : Nat) (ln : Nat) (lt : Nat → Nat) (e : Nat) (c : Nat) (hm : (zh, .inr (4, [.ref la, .ref x0, .ref x0, .ref x0])) ∈ ex) (ha : (la, aI dA ln (nF lt)) ∈ ex) (hl1 : 1 ≤ ln) (hl4 : ln ≤ 4) (hlt : ∀ j, lt j < 3) (he : e < 54) (hc : c < 3) : nMt l D dA a0 yX5_endsBy cX5_endsBy 3 (some .boolean) 2 38 0 0 nvG0 [.ref zh, .int (nI e), .int (nI c)] (ex) (nQi D a0 (fun (r : Int32) (_ : Unit) => r = nB (eaB ln lt 0 (3 * e + c))) (fun (_ : Unit) => ex)) := by
  refine nv_start (by decide) (Nat.le_of_ble_eq_true rfl) fun zp ze s zm zlo zme zcd ls zC zr zk znm hX zG hl => ?_
  have zx := zC.1
  have zb := zC.2.1
  generalize zargs : ([.ref zh, .int (nI e), .int (nI c)] : List Value).toArray = zar at zC ⊢
  generalize zQ : MQ zlo _ zar s _ _ _ = Q
  have hX : nvS D a0 (ex) s.heap s.heap [] := hX
  have hl : lv_has ls 3 [(0, .ref zh), (1, .int (nI e)), (2, .int (nI c))] := hl
  obtain ⟨H, zH⟩ : ∃ H, H = s.heap := ⟨_, rfl⟩
  have hX : nvS D a0 (ex) s.heap H [] := by rw [zH]; exact hX
  rw [show W zp l ze (rm_ 2 38 0 0) s zm zar zlo zme zcd s.heap [] 0 0 Q = W zp l ze (rm_ 2 38 0 0) s zm zar zlo zme zcd H [] 0 0 Q by rw [zH]]
  generalize ([] : List Loc) = locs at hX ⊢
  obtain ⟨yq, yhq⟩ := List.getElem?_of_mem hm
  obtain ⟨yr, yhr⟩ := List.getElem?_of_mem ha
  refine lv_aload_n zx zb dX5_endsBy_0 rfl (lv_at hl 0 rfl) ?_
  refine lv_iload_n zx zb dX5_endsBy_1 rfl (lv_at hl 1 rfl) ?_
  refine lv_iload_n zx zb dX5_endsBy_2 rfl (lv_at hl 2 rfl) ?_
  refine lv_iconst (v := nI 0) zx zb dX5_endsBy_3 (by decide) ?_
  refine nv_ki zC hX (nv_rU (n := 3) (As := [.int (nI e), .int (nI c), .int (nI 0)]) (rest := []) (q0 := yq) zC hX (mp_X5_endsAs_2 (zh := zh) (la := la) (x0 := x0) (ln := ln) (lt := lt) (e := e) (c := c) (fr := 0) (hm := (by first | assumption | omega)) (ha := (by first | assumption | omega)) (hl1 := (by first | assumption | omega)) (hl4 := (by first | assumption | omega)) (hlt := (by first | assumption | omega)) (he := (by first | assumption | omega)) (hc := (by first | assumption | omega)) (hfr := (by first | assumption | omega))) nvGb0 (fun _ _ _ => trivial) yhq rfl rfl q282 q285 q283 q287 q80 q288 (by decide +kernel) rfl ⟨Nat.le_of_ble_eq_true rfl, Nat.le_of_ble_eq_true rfl⟩ hl.1 (Nat.le_of_ble_eq_true rfl) dX5_endsBy_4 ⟨by first | exact Nat.le_of_ble_eq_true rfl | omega, by first | exact Nat.le_of_ble_eq_true rfl | omega⟩) (fun r u H locs hp hX => ?_)
  have hr_ : r = nB (eaB ln lt 0 (3 * e + c)) := hp
  subst hr_
  have hX : nvS D a0 (ex) s.heap H locs := hX
  refine W.cs (cells' := 0) (slots' := 0) (Nat.add_zero _) (Nat.add_zero _) ?_
  rw [← zQ]
  exact nv_endz zC zr zk () hX (by first | rfl | trivial) (by omega) (by omega) dX5_endsBy_7

set_option maxHeartbeats 4000000 in
theorem mp_X5_forms_2  (zh : Nat) (la : Nat) (x0 : Nat) (ln : Nat) (lt : Nat → Nat) (hm : (zh, .inr (4, [.ref la, .ref x0, .ref x0, .ref x0])) ∈ ex) (ha : (la, aI dA ln (nF lt)) ∈ ex) (hl1 : 1 ≤ ln) (hl4 : ln ≤ 4) (hlt : ∀ j, lt j < 3) : nMt l D dA a0 yX5_forms cX5_forms 1 (some .int) 1 12 0 0 nvG0 [.ref zh] (ex) (nQi D a0 (fun (r : Int32) (_ : Unit) => r = nI 1) (fun (_ : Unit) => ex)) := by
  refine nv_start (by decide) (Nat.le_of_ble_eq_true rfl) fun zp ze s zm zlo zme zcd ls zC zr zk znm hX zG hl => ?_
  have zx := zC.1
  have zb := zC.2.1
  generalize zargs : ([.ref zh] : List Value).toArray = zar at zC ⊢
  generalize zQ : MQ zlo _ zar s _ _ _ = Q
  have hX : nvS D a0 (ex) s.heap s.heap [] := hX
  have hl : lv_has ls 1 [(0, .ref zh)] := hl
  obtain ⟨H, zH⟩ : ∃ H, H = s.heap := ⟨_, rfl⟩
  have hX : nvS D a0 (ex) s.heap H [] := by rw [zH]; exact hX
  rw [show W zp l ze (rm_ 1 12 0 0) s zm zar zlo zme zcd s.heap [] 0 0 Q = W zp l ze (rm_ 1 12 0 0) s zm zar zlo zme zcd H [] 0 0 Q by rw [zH]]
  generalize ([] : List Loc) = locs at hX ⊢
  obtain ⟨yq, yhq⟩ := List.getElem?_of_mem hm
  obtain ⟨yr, yhr⟩ := List.getElem?_of_mem ha
  refine lv_iconst (v := nI 1) zx zb dX5_forms_0 (by decide) ?_
  rw [← zQ]
  exact nv_endi zC zr zk () hX (by first | rfl | trivial) (by omega) (by omega) dX5_forms_1

set_option maxHeartbeats 4000000 in
theorem mp_X5_firstLetter_2  (zh : Nat) (la : Nat) (x0 : Nat) (ln : Nat) (lt : Nat → Nat) (hm : (zh, .inr (4, [.ref la, .ref x0, .ref x0, .ref x0])) ∈ ex) (ha : (la, aI dA ln (nF lt)) ∈ ex) (hl1 : 1 ≤ ln) (hl4 : ln ≤ 4) (hlt : ∀ j, lt j < 3) : nMt l D dA a0 yX5_firstLetter cX5_firstLetter 1 (some .int) 1 12 0 0 nvG0 [.ref zh] (ex) (nQi D a0 (fun (r : Int32) (_ : Unit) => r = nI (lt 0)) (fun (_ : Unit) => ex)) := by
  refine nv_start (by decide) (Nat.le_of_ble_eq_true rfl) fun zp ze s zm zlo zme zcd ls zC zr zk znm hX zG hl => ?_
  have zx := zC.1
  have zb := zC.2.1
  generalize zargs : ([.ref zh] : List Value).toArray = zar at zC ⊢
  generalize zQ : MQ zlo _ zar s _ _ _ = Q
  have hX : nvS D a0 (ex) s.heap s.heap [] := hX
  have hl : lv_has ls 1 [(0, .ref zh)] := hl
  obtain ⟨H, zH⟩ : ∃ H, H = s.heap := ⟨_, rfl⟩
  have hX : nvS D a0 (ex) s.heap H [] := by rw [zH]; exact hX
  rw [show W zp l ze (rm_ 1 12 0 0) s zm zar zlo zme zcd s.heap [] 0 0 Q = W zp l ze (rm_ 1 12 0 0) s zm zar zlo zme zcd H [] 0 0 Q by rw [zH]]
  generalize ([] : List Loc) = locs at hX ⊢
  obtain ⟨yq, yhq⟩ := List.getElem?_of_mem hm
  obtain ⟨yr, yhr⟩ := List.getElem?_of_mem ha
  refine lv_aload_n zx zb dX5_firstLetter_0 rfl (lv_at hl 0 rfl) ?_
  refine nv_get zC hX in_X7 yq yhq rfl 0 (by decide) q444 (fun _ h => h) rfl dX5_firstLetter_1 ?_
  refine lv_iconst (v := nI 0) zx zb dX5_firstLetter_4 (by decide) ?_
  refine nv_iald (v := nI (lt 0)) zC hX yr yhr (by omega) (by omega) rfl dX5_firstLetter_5 ?_
  rw [← zQ]
  exact nv_endi zC zr zk () hX (by first | rfl | trivial) (by omega) (by omega) dX5_firstLetter_6

set_option maxHeartbeats 4000000 in
theorem mp_X5_kind_0  (zh : Nat) (la : Nat) (x0 : Nat) (ln : Nat) (lt : Nat → Nat) (hm : (zh, .inr (2, [.ref la, .ref x0])) ∈ ex) (ha : (la, aI dA ln (nF lt)) ∈ ex) (hl1 : 1 ≤ ln) (hl4 : ln ≤ 4) (hlt : ∀ j, lt j < 3) : nMt l D dA a0 yX5_kind cX5_kind 1 (some .int) 1 12 0 0 nvG0 [.ref zh] (ex) (nQi D a0 (fun (r : Int32) (_ : Unit) => r = nI 0) (fun (_ : Unit) => ex)) := by
  refine nv_start (by decide) (Nat.le_of_ble_eq_true rfl) fun zp ze s zm zlo zme zcd ls zC zr zk znm hX zG hl => ?_
  have zx := zC.1
  have zb := zC.2.1
  generalize zargs : ([.ref zh] : List Value).toArray = zar at zC ⊢
  generalize zQ : MQ zlo _ zar s _ _ _ = Q
  have hX : nvS D a0 (ex) s.heap s.heap [] := hX
  have hl : lv_has ls 1 [(0, .ref zh)] := hl
  obtain ⟨H, zH⟩ : ∃ H, H = s.heap := ⟨_, rfl⟩
  have hX : nvS D a0 (ex) s.heap H [] := by rw [zH]; exact hX
  rw [show W zp l ze (rm_ 1 12 0 0) s zm zar zlo zme zcd s.heap [] 0 0 Q = W zp l ze (rm_ 1 12 0 0) s zm zar zlo zme zcd H [] 0 0 Q by rw [zH]]
  generalize ([] : List Loc) = locs at hX ⊢
  obtain ⟨yq, yhq⟩ := List.getElem?_of_mem hm
  obtain ⟨yr, yhr⟩ := List.getElem?_of_mem ha
  refine lv_iconst (v := nI 0) zx zb dX5_kind_0 (by decide) ?_
  rw [← zQ]
  exact nv_endi zC zr zk () hX (by first | rfl | trivial) (by omega) (by omega) dX5_kind_1

set_option maxHeartbeats 4000000 in
theorem mp_X6_kind_1  (zh : Nat) (la : Nat) (x0 : Nat) (ln : Nat) (lt : Nat → Nat) (hm : (zh, .inr (3, [.ref la, .ref x0, .ref x0])) ∈ ex) (ha : (la, aI dA ln (nF lt)) ∈ ex) (hl1 : 1 ≤ ln) (hl4 : ln ≤ 4) (hlt : ∀ j, lt j < 3) : nMt l D dA a0 yX6_kind cX6_kind 1 (some .int) 1 12 0 0 nvG0 [.ref zh] (ex) (nQi D a0 (fun (r : Int32) (_ : Unit) => r = nI 1) (fun (_ : Unit) => ex)) := by
  refine nv_start (by decide) (Nat.le_of_ble_eq_true rfl) fun zp ze s zm zlo zme zcd ls zC zr zk znm hX zG hl => ?_
  have zx := zC.1
  have zb := zC.2.1
  generalize zargs : ([.ref zh] : List Value).toArray = zar at zC ⊢
  generalize zQ : MQ zlo _ zar s _ _ _ = Q
  have hX : nvS D a0 (ex) s.heap s.heap [] := hX
  have hl : lv_has ls 1 [(0, .ref zh)] := hl
  obtain ⟨H, zH⟩ : ∃ H, H = s.heap := ⟨_, rfl⟩
  have hX : nvS D a0 (ex) s.heap H [] := by rw [zH]; exact hX
  rw [show W zp l ze (rm_ 1 12 0 0) s zm zar zlo zme zcd s.heap [] 0 0 Q = W zp l ze (rm_ 1 12 0 0) s zm zar zlo zme zcd H [] 0 0 Q by rw [zH]]
  generalize ([] : List Loc) = locs at hX ⊢
  obtain ⟨yq, yhq⟩ := List.getElem?_of_mem hm
  obtain ⟨yr, yhr⟩ := List.getElem?_of_mem ha
  refine lv_iconst (v := nI 1) zx zb dX6_kind_0 (by decide) ?_
  rw [← zQ]
  exact nv_endi zC zr zk () hX (by first | rfl | trivial) (by omega) (by omega) dX6_kind_1

set_option maxHeartbeats 4000000 in
theorem mp_X7_kind_2  (zh : Nat) (la : Nat) (x0 : Nat) (ln : Nat) (lt : Nat → Nat) (hm : (zh, .inr (4, [.ref la, .ref x0, .ref x0, .ref x0])) ∈ ex) (ha : (la, aI dA ln (nF lt)) ∈ ex) (hl1 : 1 ≤ ln) (hl4 : ln ≤ 4) (hlt : ∀ j, lt j < 3) : nMt l D dA a0 yX7_kind cX7_kind 1 (some .int) 1 12 0 0 nvG0 [.ref zh] (ex) (nQi D a0 (fun (r : Int32) (_ : Unit) => r = nI 2) (fun (_ : Unit) => ex)) := by
  refine nv_start (by decide) (Nat.le_of_ble_eq_true rfl) fun zp ze s zm zlo zme zcd ls zC zr zk znm hX zG hl => ?_
  have zx := zC.1
  have zb := zC.2.1
  generalize zargs : ([.ref zh] : List Value).toArray = zar at zC ⊢
  generalize zQ : MQ zlo _ zar s _ _ _ = Q
  have hX : nvS D a0 (ex) s.heap s.heap [] := hX
  have hl : lv_has ls 1 [(0, .ref zh)] := hl
  obtain ⟨H, zH⟩ : ∃ H, H = s.heap := ⟨_, rfl⟩
  have hX : nvS D a0 (ex) s.heap H [] := by rw [zH]; exact hX
  rw [show W zp l ze (rm_ 1 12 0 0) s zm zar zlo zme zcd s.heap [] 0 0 Q = W zp l ze (rm_ 1 12 0 0) s zm zar zlo zme zcd H [] 0 0 Q by rw [zH]]
  generalize ([] : List Loc) = locs at hX ⊢
  obtain ⟨yq, yhq⟩ := List.getElem?_of_mem hm
  obtain ⟨yr, yhr⟩ := List.getElem?_of_mem ha
  refine lv_iconst (v := nI 2) zx zb dX7_kind_0 (by decide) ?_
  rw [← zQ]
  exact nv_endi zC zr zk () hX (by first | rfl | trivial) (by omega) (by omega) dX7_kind_1

set_option maxHeartbeats 4000000 in
theorem mp_X6_plainlyEnds_1  (zh : Nat) (la : Nat) (x0 : Nat) (ln : Nat) (lt : Nat → Nat) (e : Nat) (c : Nat) (hm : (zh, .inr (3, [.ref la, .ref x0, .ref x0])) ∈ ex) (ha : (la, aI dA ln (nF lt)) ∈ ex) (hl1 : 1 ≤ ln) (hl4 : ln ≤ 4) (hlt : ∀ j, lt j < 3) (he : e < 54) (hc : c < 3) : nMt l D dA a0 yX6_plainlyEnds cX6_plainlyEnds 3 (some .boolean) 3 60 0 0 nvG0 [.ref zh, .int (nI e), .int (nI c)] (ex) (nQi D a0 (fun (r : Int32) (_ : Unit) => r = nB (eaB ln lt 0 (3 * e + c))) (fun (_ : Unit) => ex)) := by
  refine nv_start (by decide) (Nat.le_of_ble_eq_true rfl) fun zp ze s zm zlo zme zcd ls zC zr zk znm hX zG hl => ?_
  have zx := zC.1
  have zb := zC.2.1
  generalize zargs : ([.ref zh, .int (nI e), .int (nI c)] : List Value).toArray = zar at zC ⊢
  generalize zQ : MQ zlo _ zar s _ _ _ = Q
  have hX : nvS D a0 (ex) s.heap s.heap [] := hX
  have hl : lv_has ls 3 [(0, .ref zh), (1, .int (nI e)), (2, .int (nI c))] := hl
  obtain ⟨H, zH⟩ : ∃ H, H = s.heap := ⟨_, rfl⟩
  have hX : nvS D a0 (ex) s.heap H [] := by rw [zH]; exact hX
  rw [show W zp l ze (rm_ 3 60 0 0) s zm zar zlo zme zcd s.heap [] 0 0 Q = W zp l ze (rm_ 3 60 0 0) s zm zar zlo zme zcd H [] 0 0 Q by rw [zH]]
  generalize ([] : List Loc) = locs at hX ⊢
  obtain ⟨yq, yhq⟩ := List.getElem?_of_mem hm
  obtain ⟨yr, yhr⟩ := List.getElem?_of_mem ha
  refine lv_aload_n zx zb dX6_plainlyEnds_0 rfl (lv_at hl 0 rfl) ?_
  refine lv_iload_n zx zb dX6_plainlyEnds_1 rfl (lv_at hl 1 rfl) ?_
  refine lv_iload_n zx zb dX6_plainlyEnds_2 rfl (lv_at hl 2 rfl) ?_
  refine nv_ki zC hX (nv_rSU (n := 2) (As := [.int (nI e), .int (nI c)]) (rest := []) (q0 := yq) zC hX (mp_X5_endsBy_1 (zh := zh) (la := la) (x0 := x0) (ln := ln) (lt := lt) (e := e) (c := c) (hm := (by first | assumption | omega)) (ha := (by first | assumption | omega)) (hl1 := (by first | assumption | omega)) (hl4 := (by first | assumption | omega)) (hlt := (by first | assumption | omega)) (he := (by first | assumption | omega)) (hc := (by first | assumption | omega))) nvGb0 (fun _ _ _ => trivial) yhq rfl q280 q270 q247 q268 q80 q281 (by decide +kernel) rfl ⟨Nat.le_of_ble_eq_true rfl, Nat.le_of_ble_eq_true rfl⟩ hl.1 (Nat.le_of_ble_eq_true rfl) dX6_plainlyEnds_3 ⟨by first | exact Nat.le_of_ble_eq_true rfl | omega, by first | exact Nat.le_of_ble_eq_true rfl | omega⟩) (fun r u H locs hp hX => ?_)
  have hr_ : r = nB (eaB ln lt 0 (3 * e + c)) := hp
  subst hr_
  have hX : nvS D a0 (ex) s.heap H locs := hX
  refine W.cs (cells' := 0) (slots' := 0) (Nat.add_zero _) (Nat.add_zero _) ?_
  rw [← zQ]
  exact nv_endz zC zr zk () hX (by first | rfl | trivial) (by omega) (by omega) dX6_plainlyEnds_6

set_option maxHeartbeats 4000000 in
theorem mp_X6_plainlyForms_1  (zh : Nat) (la : Nat) (x0 : Nat) (ln : Nat) (lt : Nat → Nat) (hm : (zh, .inr (3, [.ref la, .ref x0, .ref x0])) ∈ ex) (ha : (la, aI dA ln (nF lt)) ∈ ex) (hl1 : 1 ≤ ln) (hl4 : ln ≤ 4) (hlt : ∀ j, lt j < 3) : nMt l D dA a0 yX6_plainlyForms cX6_plainlyForms 1 (some .int) 2 32 0 0 nvG0 [.ref zh] (ex) (nQi D a0 (fun (r : Int32) (_ : Unit) => r = nI 1) (fun (_ : Unit) => ex)) := by
  refine nv_start (by decide) (Nat.le_of_ble_eq_true rfl) fun zp ze s zm zlo zme zcd ls zC zr zk znm hX zG hl => ?_
  have zx := zC.1
  have zb := zC.2.1
  generalize zargs : ([.ref zh] : List Value).toArray = zar at zC ⊢
  generalize zQ : MQ zlo _ zar s _ _ _ = Q
  have hX : nvS D a0 (ex) s.heap s.heap [] := hX
  have hl : lv_has ls 1 [(0, .ref zh)] := hl
  obtain ⟨H, zH⟩ : ∃ H, H = s.heap := ⟨_, rfl⟩
  have hX : nvS D a0 (ex) s.heap H [] := by rw [zH]; exact hX
  rw [show W zp l ze (rm_ 2 32 0 0) s zm zar zlo zme zcd s.heap [] 0 0 Q = W zp l ze (rm_ 2 32 0 0) s zm zar zlo zme zcd H [] 0 0 Q by rw [zH]]
  generalize ([] : List Loc) = locs at hX ⊢
  obtain ⟨yq, yhq⟩ := List.getElem?_of_mem hm
  obtain ⟨yr, yhr⟩ := List.getElem?_of_mem ha
  refine lv_aload_n zx zb dX6_plainlyForms_0 rfl (lv_at hl 0 rfl) ?_
  refine nv_ki zC hX (nv_rSU (n := 0) (As := []) (rest := []) (q0 := yq) zC hX (mp_X5_forms_1 (zh := zh) (la := la) (x0 := x0) (ln := ln) (lt := lt) (hm := (by first | assumption | omega)) (ha := (by first | assumption | omega)) (hl1 := (by first | assumption | omega)) (hl4 := (by first | assumption | omega)) (hlt := (by first | assumption | omega))) nvGb0 (fun _ _ _ => trivial) yhq rfl q246 q236 q247 q234 q80 q248 (by decide +kernel) rfl ⟨Nat.le_of_ble_eq_true rfl, Nat.le_of_ble_eq_true rfl⟩ hl.1 (Nat.le_of_ble_eq_true rfl) dX6_plainlyForms_1 ⟨by first | exact Nat.le_of_ble_eq_true rfl | omega, by first | exact Nat.le_of_ble_eq_true rfl | omega⟩) (fun r u H locs hp hX => ?_)
  have hr_ : r = nI 1 := hp
  subst hr_
  have hX : nvS D a0 (ex) s.heap H locs := hX
  refine W.cs (cells' := 0) (slots' := 0) (Nat.add_zero _) (Nat.add_zero _) ?_
  rw [← zQ]
  exact nv_endi zC zr zk () hX (by first | rfl | trivial) (by omega) (by omega) dX6_plainlyForms_4

set_option maxHeartbeats 4000000 in
theorem mp_X6_plainlyEnds_2  (zh : Nat) (la : Nat) (x0 : Nat) (ln : Nat) (lt : Nat → Nat) (e : Nat) (c : Nat) (hm : (zh, .inr (4, [.ref la, .ref x0, .ref x0, .ref x0])) ∈ ex) (ha : (la, aI dA ln (nF lt)) ∈ ex) (hl1 : 1 ≤ ln) (hl4 : ln ≤ 4) (hlt : ∀ j, lt j < 3) (he : e < 54) (hc : c < 3) : nMt l D dA a0 yX6_plainlyEnds cX6_plainlyEnds 3 (some .boolean) 3 60 0 0 nvG0 [.ref zh, .int (nI e), .int (nI c)] (ex) (nQi D a0 (fun (r : Int32) (_ : Unit) => r = nB (eaB ln lt 0 (3 * e + c))) (fun (_ : Unit) => ex)) := by
  refine nv_start (by decide) (Nat.le_of_ble_eq_true rfl) fun zp ze s zm zlo zme zcd ls zC zr zk znm hX zG hl => ?_
  have zx := zC.1
  have zb := zC.2.1
  generalize zargs : ([.ref zh, .int (nI e), .int (nI c)] : List Value).toArray = zar at zC ⊢
  generalize zQ : MQ zlo _ zar s _ _ _ = Q
  have hX : nvS D a0 (ex) s.heap s.heap [] := hX
  have hl : lv_has ls 3 [(0, .ref zh), (1, .int (nI e)), (2, .int (nI c))] := hl
  obtain ⟨H, zH⟩ : ∃ H, H = s.heap := ⟨_, rfl⟩
  have hX : nvS D a0 (ex) s.heap H [] := by rw [zH]; exact hX
  rw [show W zp l ze (rm_ 3 60 0 0) s zm zar zlo zme zcd s.heap [] 0 0 Q = W zp l ze (rm_ 3 60 0 0) s zm zar zlo zme zcd H [] 0 0 Q by rw [zH]]
  generalize ([] : List Loc) = locs at hX ⊢
  obtain ⟨yq, yhq⟩ := List.getElem?_of_mem hm
  obtain ⟨yr, yhr⟩ := List.getElem?_of_mem ha
  refine lv_aload_n zx zb dX6_plainlyEnds_0 rfl (lv_at hl 0 rfl) ?_
  refine lv_iload_n zx zb dX6_plainlyEnds_1 rfl (lv_at hl 1 rfl) ?_
  refine lv_iload_n zx zb dX6_plainlyEnds_2 rfl (lv_at hl 2 rfl) ?_
  refine nv_ki zC hX (nv_rSU (n := 2) (As := [.int (nI e), .int (nI c)]) (rest := []) (q0 := yq) zC hX (mp_X5_endsBy_2 (zh := zh) (la := la) (x0 := x0) (ln := ln) (lt := lt) (e := e) (c := c) (hm := (by first | assumption | omega)) (ha := (by first | assumption | omega)) (hl1 := (by first | assumption | omega)) (hl4 := (by first | assumption | omega)) (hlt := (by first | assumption | omega)) (he := (by first | assumption | omega)) (hc := (by first | assumption | omega))) nvGb0 (fun _ _ _ => trivial) yhq rfl q280 q270 q247 q268 q80 q281 (by decide +kernel) rfl ⟨Nat.le_of_ble_eq_true rfl, Nat.le_of_ble_eq_true rfl⟩ hl.1 (Nat.le_of_ble_eq_true rfl) dX6_plainlyEnds_3 ⟨by first | exact Nat.le_of_ble_eq_true rfl | omega, by first | exact Nat.le_of_ble_eq_true rfl | omega⟩) (fun r u H locs hp hX => ?_)
  have hr_ : r = nB (eaB ln lt 0 (3 * e + c)) := hp
  subst hr_
  have hX : nvS D a0 (ex) s.heap H locs := hX
  refine W.cs (cells' := 0) (slots' := 0) (Nat.add_zero _) (Nat.add_zero _) ?_
  rw [← zQ]
  exact nv_endz zC zr zk () hX (by first | rfl | trivial) (by omega) (by omega) dX6_plainlyEnds_6

set_option maxHeartbeats 4000000 in
theorem mp_X6_plainlyForms_2  (zh : Nat) (la : Nat) (x0 : Nat) (ln : Nat) (lt : Nat → Nat) (hm : (zh, .inr (4, [.ref la, .ref x0, .ref x0, .ref x0])) ∈ ex) (ha : (la, aI dA ln (nF lt)) ∈ ex) (hl1 : 1 ≤ ln) (hl4 : ln ≤ 4) (hlt : ∀ j, lt j < 3) : nMt l D dA a0 yX6_plainlyForms cX6_plainlyForms 1 (some .int) 2 32 0 0 nvG0 [.ref zh] (ex) (nQi D a0 (fun (r : Int32) (_ : Unit) => r = nI 1) (fun (_ : Unit) => ex)) := by
  refine nv_start (by decide) (Nat.le_of_ble_eq_true rfl) fun zp ze s zm zlo zme zcd ls zC zr zk znm hX zG hl => ?_
  have zx := zC.1
  have zb := zC.2.1
  generalize zargs : ([.ref zh] : List Value).toArray = zar at zC ⊢
  generalize zQ : MQ zlo _ zar s _ _ _ = Q
  have hX : nvS D a0 (ex) s.heap s.heap [] := hX
  have hl : lv_has ls 1 [(0, .ref zh)] := hl
  obtain ⟨H, zH⟩ : ∃ H, H = s.heap := ⟨_, rfl⟩
  have hX : nvS D a0 (ex) s.heap H [] := by rw [zH]; exact hX
  rw [show W zp l ze (rm_ 2 32 0 0) s zm zar zlo zme zcd s.heap [] 0 0 Q = W zp l ze (rm_ 2 32 0 0) s zm zar zlo zme zcd H [] 0 0 Q by rw [zH]]
  generalize ([] : List Loc) = locs at hX ⊢
  obtain ⟨yq, yhq⟩ := List.getElem?_of_mem hm
  obtain ⟨yr, yhr⟩ := List.getElem?_of_mem ha
  refine lv_aload_n zx zb dX6_plainlyForms_0 rfl (lv_at hl 0 rfl) ?_
  refine nv_ki zC hX (nv_rSU (n := 0) (As := []) (rest := []) (q0 := yq) zC hX (mp_X5_forms_2 (zh := zh) (la := la) (x0 := x0) (ln := ln) (lt := lt) (hm := (by first | assumption | omega)) (ha := (by first | assumption | omega)) (hl1 := (by first | assumption | omega)) (hl4 := (by first | assumption | omega)) (hlt := (by first | assumption | omega))) nvGb0 (fun _ _ _ => trivial) yhq rfl q246 q236 q247 q234 q80 q248 (by decide +kernel) rfl ⟨Nat.le_of_ble_eq_true rfl, Nat.le_of_ble_eq_true rfl⟩ hl.1 (Nat.le_of_ble_eq_true rfl) dX6_plainlyForms_1 ⟨by first | exact Nat.le_of_ble_eq_true rfl | omega, by first | exact Nat.le_of_ble_eq_true rfl | omega⟩) (fun r u H locs hp hX => ?_)
  have hr_ : r = nI 1 := hp
  subst hr_
  have hX : nvS D a0 (ex) s.heap H locs := hX
  refine W.cs (cells' := 0) (slots' := 0) (Nat.add_zero _) (Nat.add_zero _) ?_
  rw [← zQ]
  exact nv_endi zC zr zk () hX (by first | rfl | trivial) (by omega) (by omega) dX6_plainlyForms_4

set_option maxHeartbeats 4000000 in
theorem mp_X6_endsBy_1  (zh : Nat) (la : Nat) (x0 : Nat) (ln : Nat) (lt : Nat → Nat) (e : Nat) (c : Nat) (hm : (zh, .inr (3, [.ref la, .ref x0, .ref x0])) ∈ ex) (ha : (la, aI dA ln (nF lt)) ∈ ex) (hl1 : 1 ≤ ln) (hl4 : ln ≤ 4) (hlt : ∀ j, lt j < 3) (he : e < 54) (hc : c < 3) : nMt l D dA a0 yX6_endsBy cX6_endsBy 3 (some .boolean) 4 82 0 0 nvG0 [.ref zh, .int (nI e), .int (nI c)] (ex) (nQi D a0 (fun (r : Int32) (_ : Unit) => r = nB (eaB ln lt 0 (3 * e + c) || ebU lt (3 * e + c) ln)) (fun (_ : Unit) => ex)) := by
  refine nv_start (by decide) (Nat.le_of_ble_eq_true rfl) fun zp ze s zm zlo zme zcd ls zC zr zk znm hX zG hl => ?_
  have zx := zC.1
  have zb := zC.2.1
  generalize zargs : ([.ref zh, .int (nI e), .int (nI c)] : List Value).toArray = zar at zC ⊢
  generalize zQ : MQ zlo _ zar s _ _ _ = Q
  have hX : nvS D a0 (ex) s.heap s.heap [] := hX
  have hl : lv_has ls 3 [(0, .ref zh), (1, .int (nI e)), (2, .int (nI c))] := hl
  obtain ⟨H, zH⟩ : ∃ H, H = s.heap := ⟨_, rfl⟩
  have hX : nvS D a0 (ex) s.heap H [] := by rw [zH]; exact hX
  rw [show W zp l ze (rm_ 4 82 0 0) s zm zar zlo zme zcd s.heap [] 0 0 Q = W zp l ze (rm_ 4 82 0 0) s zm zar zlo zme zcd H [] 0 0 Q by rw [zH]]
  generalize ([] : List Loc) = locs at hX ⊢
  obtain ⟨yq, yhq⟩ := List.getElem?_of_mem hm
  obtain ⟨yr, yhr⟩ := List.getElem?_of_mem ha
  refine lv_aload_n zx zb dX6_endsBy_0 rfl (lv_at hl 0 rfl) ?_
  refine lv_iload_n zx zb dX6_endsBy_1 rfl (lv_at hl 1 rfl) ?_
  refine lv_iload_n zx zb dX6_endsBy_2 rfl (lv_at hl 2 rfl) ?_
  refine nv_ki zC hX (nv_rV (n := 2) (As := [.int (nI e), .int (nI c)]) (rest := []) (q0 := yq) zC hX (mp_X6_plainlyEnds_1 (zh := zh) (la := la) (x0 := x0) (ln := ln) (lt := lt) (e := e) (c := c) (hm := (by first | assumption | omega)) (ha := (by first | assumption | omega)) (hl1 := (by first | assumption | omega)) (hl4 := (by first | assumption | omega)) (hlt := (by first | assumption | omega)) (he := (by first | assumption | omega)) (hc := (by first | assumption | omega))) nvGb0 (fun _ _ _ => trivial) yhq rfl q274 q275 q276 q81 q279 (by decide +kernel) rfl ⟨Nat.le_of_ble_eq_true rfl, Nat.le_of_ble_eq_true rfl⟩ hl.1 (Nat.le_of_ble_eq_true rfl) dX6_endsBy_3 ⟨by first | exact Nat.le_of_ble_eq_true rfl | omega, by first | exact Nat.le_of_ble_eq_true rfl | omega⟩) (fun r u H locs hp hX => ?_)
  have hr_ : r = nB (eaB ln lt 0 (3 * e + c)) := hp
  subst hr_
  have hX : nvS D a0 (ex) s.heap H locs := hX
  refine W.cs (cells' := 0) (slots' := 0) (Nat.add_zero _) (Nat.add_zero _) ?_
  refine nv_if_neB (tgt := 18) zx zb dX6_endsBy_6 (by decide) (fun c6 => ?_) (fun c6 => ?_)
  · refine lv_iconst (v := nI 1) zx zb dX6_endsBy_18 (by decide) ?_
    refine lv_goto (tgt := 23) zx zb dX6_endsBy_19 (by decide) ?_
    refine nv_as (show nI 1 = nB (eaB ln lt 0 (3 * e + c) || ebU lt (3 * e + c) ln) from (nB_as1 (by rw [c6]; rfl))) ?_
    rw [← zQ]
    exact nv_endz zC zr zk () hX (by first | rfl | trivial) (by omega) (by omega) dX6_endsBy_23
  · refine lv_aload_n zx zb dX6_endsBy_9 rfl (lv_at hl 0 rfl) ?_
    refine lv_iload_n zx zb dX6_endsBy_10 rfl (lv_at hl 1 rfl) ?_
    refine lv_iload_n zx zb dX6_endsBy_11 rfl (lv_at hl 2 rfl) ?_
    refine nv_ki zC hX (nv_rU (n := 2) (As := [.int (nI e), .int (nI c)]) (rest := []) (q0 := yq) zC hX (mp_X5_endsBackwards_1 (zh := zh) (la := la) (x0 := x0) (ln := ln) (lt := lt) (e := e) (c := c) (hm := (by first | assumption | omega)) (ha := (by first | assumption | omega)) (hl1 := (by first | assumption | omega)) (hl4 := (by first | assumption | omega)) (hlt := (by first | assumption | omega)) (he := (by first | assumption | omega)) (hc := (by first | assumption | omega))) nvGb0 (fun _ _ _ => trivial) yhq rfl rfl q289 q290 q294 q292 q80 q295 (by decide +kernel) rfl ⟨Nat.le_of_ble_eq_true rfl, Nat.le_of_ble_eq_true rfl⟩ hl.1 (Nat.le_of_ble_eq_true rfl) dX6_endsBy_12 ⟨by first | exact Nat.le_of_ble_eq_true rfl | omega, by first | exact Nat.le_of_ble_eq_true rfl | omega⟩) (fun r u H locs hp hX => ?_)
    have hr_ : r = nB (ebU lt (3 * e + c) ln) := hp
    subst hr_
    have hX : nvS D a0 (ex) s.heap H locs := hX
    refine W.cs (cells' := 0) (slots' := 0) (Nat.add_zero _) (Nat.add_zero _) ?_
    refine nv_if_eqB (tgt := 22) zx zb dX6_endsBy_15 (by decide) (fun c15 => ?_) (fun c15 => ?_)
    · refine lv_iconst (v := nI 0) zx zb dX6_endsBy_22 (by decide) ?_
      refine nv_as (show nI 0 = nB (eaB ln lt 0 (3 * e + c) || ebU lt (3 * e + c) ln) from (nB_as0 (by rw [c6, c15]; rfl))) ?_
      rw [← zQ]
      exact nv_endz zC zr zk () hX (by first | rfl | trivial) (by omega) (by omega) dX6_endsBy_23
    · refine lv_iconst (v := nI 1) zx zb dX6_endsBy_18 (by decide) ?_
      refine lv_goto (tgt := 23) zx zb dX6_endsBy_19 (by decide) ?_
      refine nv_as (show nI 1 = nB (eaB ln lt 0 (3 * e + c) || ebU lt (3 * e + c) ln) from (nB_as1 (by rw [c15, Bool.or_true]))) ?_
      rw [← zQ]
      exact nv_endz zC zr zk () hX (by first | rfl | trivial) (by omega) (by omega) dX6_endsBy_23

set_option maxHeartbeats 4000000 in
theorem mp_X7_endsBy_2  (zh : Nat) (la : Nat) (x0 : Nat) (ln : Nat) (lt : Nat → Nat) (e : Nat) (c : Nat) (hm : (zh, .inr (4, [.ref la, .ref x0, .ref x0, .ref x0])) ∈ ex) (ha : (la, aI dA ln (nF lt)) ∈ ex) (hl1 : 1 ≤ ln) (hl4 : ln ≤ 4) (hlt : ∀ j, lt j < 3) (he : e < 54) (hc : c < 3) : nMt l D dA a0 yX7_endsBy cX7_endsBy 3 (some .boolean) 4 82 0 0 nvG0 [.ref zh, .int (nI e), .int (nI c)] (ex) (nQi D a0 (fun (r : Int32) (_ : Unit) => r = nB (eaB ln lt 0 (3 * e + c) || eaB ln lt 1 (3 * e + c))) (fun (_ : Unit) => ex)) := by
  refine nv_start (by decide) (Nat.le_of_ble_eq_true rfl) fun zp ze s zm zlo zme zcd ls zC zr zk znm hX zG hl => ?_
  have zx := zC.1
  have zb := zC.2.1
  generalize zargs : ([.ref zh, .int (nI e), .int (nI c)] : List Value).toArray = zar at zC ⊢
  generalize zQ : MQ zlo _ zar s _ _ _ = Q
  have hX : nvS D a0 (ex) s.heap s.heap [] := hX
  have hl : lv_has ls 3 [(0, .ref zh), (1, .int (nI e)), (2, .int (nI c))] := hl
  obtain ⟨H, zH⟩ : ∃ H, H = s.heap := ⟨_, rfl⟩
  have hX : nvS D a0 (ex) s.heap H [] := by rw [zH]; exact hX
  rw [show W zp l ze (rm_ 4 82 0 0) s zm zar zlo zme zcd s.heap [] 0 0 Q = W zp l ze (rm_ 4 82 0 0) s zm zar zlo zme zcd H [] 0 0 Q by rw [zH]]
  generalize ([] : List Loc) = locs at hX ⊢
  obtain ⟨yq, yhq⟩ := List.getElem?_of_mem hm
  obtain ⟨yr, yhr⟩ := List.getElem?_of_mem ha
  refine lv_aload_n zx zb dX7_endsBy_0 rfl (lv_at hl 0 rfl) ?_
  refine lv_iload_n zx zb dX7_endsBy_1 rfl (lv_at hl 1 rfl) ?_
  refine lv_iload_n zx zb dX7_endsBy_2 rfl (lv_at hl 2 rfl) ?_
  refine nv_ki zC hX (nv_rU (n := 2) (As := [.int (nI e), .int (nI c)]) (rest := []) (q0 := yq) zC hX (mp_X6_plainlyEnds_2 (zh := zh) (la := la) (x0 := x0) (ln := ln) (lt := lt) (e := e) (c := c) (hm := (by first | assumption | omega)) (ha := (by first | assumption | omega)) (hl1 := (by first | assumption | omega)) (hl4 := (by first | assumption | omega)) (hlt := (by first | assumption | omega)) (he := (by first | assumption | omega)) (hc := (by first | assumption | omega))) nvGb0 (fun _ _ _ => trivial) yhq rfl rfl q299 q300 q275 q302 q81 q279 (by decide +kernel) rfl ⟨Nat.le_of_ble_eq_true rfl, Nat.le_of_ble_eq_true rfl⟩ hl.1 (Nat.le_of_ble_eq_true rfl) dX7_endsBy_3 ⟨by first | exact Nat.le_of_ble_eq_true rfl | omega, by first | exact Nat.le_of_ble_eq_true rfl | omega⟩) (fun r u H locs hp hX => ?_)
  have hr_ : r = nB (eaB ln lt 0 (3 * e + c)) := hp
  subst hr_
  have hX : nvS D a0 (ex) s.heap H locs := hX
  refine W.cs (cells' := 0) (slots' := 0) (Nat.add_zero _) (Nat.add_zero _) ?_
  refine nv_if_neB (tgt := 19) zx zb dX7_endsBy_6 (by decide) (fun c6 => ?_) (fun c6 => ?_)
  · refine lv_iconst (v := nI 1) zx zb dX7_endsBy_19 (by decide) ?_
    refine lv_goto (tgt := 24) zx zb dX7_endsBy_20 (by decide) ?_
    refine nv_as (show nI 1 = nB (eaB ln lt 0 (3 * e + c) || eaB ln lt 1 (3 * e + c)) from (nB_as1 (by rw [c6]; rfl))) ?_
    rw [← zQ]
    exact nv_endz zC zr zk () hX (by first | rfl | trivial) (by omega) (by omega) dX7_endsBy_24
  · refine lv_aload_n zx zb dX7_endsBy_9 rfl (lv_at hl 0 rfl) ?_
    refine lv_iload_n zx zb dX7_endsBy_10 rfl (lv_at hl 1 rfl) ?_
    refine lv_iload_n zx zb dX7_endsBy_11 rfl (lv_at hl 2 rfl) ?_
    refine lv_iconst (v := nI 1) zx zb dX7_endsBy_12 (by decide) ?_
    refine nv_ki zC hX (nv_rU (n := 3) (As := [.int (nI e), .int (nI c), .int (nI 1)]) (rest := []) (q0 := yq) zC hX (mp_X5_endsAs_2 (zh := zh) (la := la) (x0 := x0) (ln := ln) (lt := lt) (e := e) (c := c) (fr := 1) (hm := (by first | assumption | omega)) (ha := (by first | assumption | omega)) (hl1 := (by first | assumption | omega)) (hl4 := (by first | assumption | omega)) (hlt := (by first | assumption | omega)) (he := (by first | assumption | omega)) (hc := (by first | assumption | omega)) (hfr := (by first | assumption | omega))) nvGb0 (fun _ _ _ => trivial) yhq rfl rfl q303 q304 q283 q306 q80 q288 (by decide +kernel) rfl ⟨Nat.le_of_ble_eq_true rfl, Nat.le_of_ble_eq_true rfl⟩ hl.1 (Nat.le_of_ble_eq_true rfl) dX7_endsBy_13 ⟨by first | exact Nat.le_of_ble_eq_true rfl | omega, by first | exact Nat.le_of_ble_eq_true rfl | omega⟩) (fun r u H locs hp hX => ?_)
    have hr_ : r = nB (eaB ln lt 1 (3 * e + c)) := hp
    subst hr_
    have hX : nvS D a0 (ex) s.heap H locs := hX
    refine W.cs (cells' := 0) (slots' := 0) (Nat.add_zero _) (Nat.add_zero _) ?_
    refine nv_if_eqB (tgt := 23) zx zb dX7_endsBy_16 (by decide) (fun c16 => ?_) (fun c16 => ?_)
    · refine lv_iconst (v := nI 0) zx zb dX7_endsBy_23 (by decide) ?_
      refine nv_as (show nI 0 = nB (eaB ln lt 0 (3 * e + c) || eaB ln lt 1 (3 * e + c)) from (nB_as0 (by rw [c6, c16]; rfl))) ?_
      rw [← zQ]
      exact nv_endz zC zr zk () hX (by first | rfl | trivial) (by omega) (by omega) dX7_endsBy_24
    · refine lv_iconst (v := nI 1) zx zb dX7_endsBy_19 (by decide) ?_
      refine lv_goto (tgt := 24) zx zb dX7_endsBy_20 (by decide) ?_
      refine nv_as (show nI 1 = nB (eaB ln lt 0 (3 * e + c) || eaB ln lt 1 (3 * e + c)) from (nB_as1 (by rw [c16, Bool.or_true]))) ?_
      rw [← zQ]
      exact nv_endz zC zr zk () hX (by first | rfl | trivial) (by omega) (by omega) dX7_endsBy_24

set_option maxHeartbeats 4000000 in
theorem mp_X6_forms_1  (zh : Nat) (la : Nat) (x0 : Nat) (ln : Nat) (lt : Nat → Nat) (hm : (zh, .inr (3, [.ref la, .ref x0, .ref x0])) ∈ ex) (ha : (la, aI dA ln (nF lt)) ∈ ex) (hl1 : 1 ≤ ln) (hl4 : ln ≤ 4) (hlt : ∀ j, lt j < 3) : nMt l D dA a0 yX6_forms cX6_forms 3 (some .int) 3 52 0 0 nvG0 [.ref zh] (ex) (nQi D a0 (fun (r : Int32) (_ : Unit) => r = nI (fmN 1 ln lt)) (fun (_ : Unit) => ex)) := by
  refine nv_start (by decide) (Nat.le_of_ble_eq_true rfl) fun zp ze s zm zlo zme zcd ls zC zr zk znm hX zG hl => ?_
  have zx := zC.1
  have zb := zC.2.1
  generalize zargs : ([.ref zh] : List Value).toArray = zar at zC ⊢
  generalize zQ : MQ zlo _ zar s _ _ _ = Q
  have hX : nvS D a0 (ex) s.heap s.heap [] := hX
  have hl : lv_has ls 3 [(0, .ref zh)] := hl
  obtain ⟨H, zH⟩ : ∃ H, H = s.heap := ⟨_, rfl⟩
  have hX : nvS D a0 (ex) s.heap H [] := by rw [zH]; exact hX
  rw [show W zp l ze (rm_ 3 52 0 0) s zm zar zlo zme zcd s.heap [] 0 0 Q = W zp l ze (rm_ 3 52 0 0) s zm zar zlo zme zcd H [] 0 0 Q by rw [zH]]
  generalize ([] : List Loc) = locs at hX ⊢
  obtain ⟨yq, yhq⟩ := List.getElem?_of_mem hm
  obtain ⟨yr, yhr⟩ := List.getElem?_of_mem ha
  refine lv_iconst (v := nI 1) zx zb dX6_forms_0 (by decide) ?_
  refine lv_istore_n (lv' := [(1, .int (nI 1)), (0, .ref zh)]) zx zb dX6_forms_1 rfl hl (by decide) rfl (fun ls hl => ?_)
  refine lv_iconst (v := nI 0) zx zb dX6_forms_2 (by decide) ?_
  refine lv_istore_n (lv' := [(2, .int (nI 0)), (1, .int (nI 1)), (0, .ref zh)]) zx zb dX6_forms_3 rfl hl (by decide) rfl (fun ls hl => ?_)
  have L4 : ∀ (zn : Nat) (i : Nat) (hi : i ≤ ln), ln - i < zn → ∀ (H : Heap) (locs : List Loc) (ls : Array Slot), nvS D a0 (ex) s.heap H locs → lv_has ls 3 [(2, .int (nI i)), (1, .int (nB (f1U ln lt i))), (0, .ref zh)] → W zp l ze (rm_ 3 52 0 0) s zm zar zlo zme zcd H locs 0 0 Q (F0 zm 4 ls []) := by
    intro zn
    induction zn with
    | zero => intro i hi zf; exact absurd zf (Nat.not_lt_zero _)
    | succ zn ih4 =>
      intro i hi zf H locs ls hX hl
      refine lv_iload_n zx zb dX6_forms_4 rfl (lv_at hl 0 rfl) ?_
      refine lv_aload_n zx zb dX6_forms_5 rfl (lv_at hl 2 rfl) ?_
      refine nv_get zC hX in_X6 yq yhq rfl 0 (by decide) q451 (u_same (zC.2.2.2.2.1 _ q447)) rfl dX6_forms_6 ?_
      refine nv_alen zC hX yr 0 yhr rfl dX6_forms_9 ?_
      refine nv_icmp_ge (tgt := 50) zx zb (by omega) (by omega) dX6_forms_10 (by decide) (fun c10 => ?_) (fun c10 => ?_)
      · refine lv_aload_n zx zb dX6_forms_50 rfl (lv_at hl 2 rfl) ?_
        refine nv_ki zC hX (nv_rV (n := 0) (As := []) (rest := []) (q0 := yq) zC hX (mp_X6_plainlyForms_1 (zh := zh) (la := la) (x0 := x0) (ln := ln) (lt := lt) (hm := (by first | assumption | omega)) (ha := (by first | assumption | omega)) (hl1 := (by first | assumption | omega)) (hl4 := (by first | assumption | omega)) (hlt := (by first | assumption | omega))) nvGb0 (fun _ _ _ => trivial) yhq rfl q240 q241 q242 q81 q245 (by decide +kernel) rfl ⟨Nat.le_of_ble_eq_true rfl, Nat.le_of_ble_eq_true rfl⟩ hl.1 (Nat.le_of_ble_eq_true rfl) dX6_forms_51 ⟨by first | exact Nat.le_of_ble_eq_true rfl | omega, by first | exact Nat.le_of_ble_eq_true rfl | omega⟩) (fun r u H locs hp hX => ?_)
        have hr_ : r = nI 1 := hp
        subst hr_
        have hX : nvS D a0 (ex) s.heap H locs := hX
        refine W.cs (cells' := 0) (slots' := 0) (Nat.add_zero _) (Nat.add_zero _) ?_
        refine lv_iload_n zx zb dX6_forms_54 rfl (lv_at hl 1 rfl) ?_
        refine nv_if_eqB (tgt := 62) zx zb dX6_forms_55 (by decide) (fun c55 => ?_) (fun c55 => ?_)
        · refine lv_iconst (v := nI 1) zx zb dX6_forms_62 (by decide) ?_
          refine nv_iadd zx zb dX6_forms_63 ?_
          rw [← zQ]
          exact nv_endi zC zr zk () hX (by have e_ : i = ln := (by omega); subst e_; simp [fmN, c55]) (by omega) (by omega) dX6_forms_64
        · refine lv_iconst (v := nI 0) zx zb dX6_forms_58 (by decide) ?_
          refine lv_goto (tgt := 63) zx zb dX6_forms_59 (by decide) ?_
          refine nv_iadd zx zb dX6_forms_63 ?_
          rw [← zQ]
          exact nv_endi zC zr zk () hX (by have e_ : i = ln := (by omega); subst e_; simp [fmN, c55]) (by omega) (by omega) dX6_forms_64
      · refine lv_iload_n zx zb dX6_forms_13 rfl (lv_at hl 1 rfl) ?_
        refine lv_aload_n zx zb dX6_forms_14 rfl (lv_at hl 2 rfl) ?_
        refine nv_get zC hX in_X6 yq yhq rfl 0 (by decide) q451 (u_same (zC.2.2.2.2.1 _ q447)) rfl dX6_forms_15 ?_
        refine lv_iload_n zx zb dX6_forms_18 rfl (lv_at hl 0 rfl) ?_
        refine nv_iald (v := nI (lt i)) zC hX yr yhr (by omega) (by omega) rfl dX6_forms_19 ?_
        refine lv_aload_n zx zb dX6_forms_20 rfl (lv_at hl 2 rfl) ?_
        refine nv_get zC hX in_X6 yq yhq rfl 0 (by decide) q451 (u_same (zC.2.2.2.2.1 _ q447)) rfl dX6_forms_21 ?_
        refine lv_aload_n zx zb dX6_forms_24 rfl (lv_at hl 2 rfl) ?_
        refine nv_get zC hX in_X6 yq yhq rfl 0 (by decide) q451 (u_same (zC.2.2.2.2.1 _ q447)) rfl dX6_forms_25 ?_
        refine nv_alen zC hX yr 0 yhr rfl dX6_forms_28 ?_
        refine lv_iconst (v := nI 1) zx zb dX6_forms_29 (by decide) ?_
        refine nv_isub zx zb (by omega) dX6_forms_30 ?_
        refine lv_iload_n zx zb dX6_forms_31 rfl (lv_at hl 0 rfl) ?_
        refine nv_isub zx zb (by omega) dX6_forms_32 ?_
        refine nv_iald (v := nI (lt ((ln - 1) - i))) zC hX yr yhr (by omega) (by omega) rfl dX6_forms_33 ?_
        refine nv_icmp_ne (tgt := 41) zx zb (Nat.lt_trans (hlt _) (by decide)) (Nat.lt_trans (hlt _) (by decide)) dX6_forms_34 (by decide) (fun c34 => ?_) (fun c34 => ?_)
        · refine lv_iconst (v := nI 0) zx zb dX6_forms_41 (by decide) ?_
          refine nv_as (show nI 0 = nB (decide (lt i = lt (ln - 1 - i))) from (nB_as0 (decide_eq_false (by omega)))) ?_
          refine nv_iandB zx zb dX6_forms_42 ?_
          refine nv_as (show nB ((f1U ln lt i) && (decide (lt i = lt (ln - 1 - i)))) = nB (f1U ln lt (i + 1)) from (congrArg nB f1U_s)) ?_
          refine lv_istore_n (lv' := [(1, .int (nB (f1U ln lt (i + 1)))), (2, .int (nI i)), (0, .ref zh)]) zx zb dX6_forms_43 rfl hl (by decide) rfl (fun ls hl => ?_)
          refine lv_iinc (v := nI (i + 1)) (lv' := [(2, .int (nI (i + 1))), (1, .int (nB (f1U ln lt (i + 1)))), (0, .ref zh)]) zx zb dX6_forms_44 hl (k := 1) rfl (nI_1 _) (by decide) rfl (fun ls hl => ?_)
          refine lv_goto (tgt := 4) zx zb dX6_forms_47 (by decide) ?_
          exact ih4 (i + 1) (by omega) (by omega) _ _ _ hX (lv_sub hl [0, 1, 2] rfl)
        · refine lv_iconst (v := nI 1) zx zb dX6_forms_37 (by decide) ?_
          refine lv_goto (tgt := 42) zx zb dX6_forms_38 (by decide) ?_
          refine nv_as (show nI 1 = nB (decide (lt i = lt (ln - 1 - i))) from (nB_as1 (decide_eq_true (by omega)))) ?_
          refine nv_iandB zx zb dX6_forms_42 ?_
          refine nv_as (show nB ((f1U ln lt i) && (decide (lt i = lt (ln - 1 - i)))) = nB (f1U ln lt (i + 1)) from (congrArg nB f1U_s)) ?_
          refine lv_istore_n (lv' := [(1, .int (nB (f1U ln lt (i + 1)))), (2, .int (nI i)), (0, .ref zh)]) zx zb dX6_forms_43 rfl hl (by decide) rfl (fun ls hl => ?_)
          refine lv_iinc (v := nI (i + 1)) (lv' := [(2, .int (nI (i + 1))), (1, .int (nB (f1U ln lt (i + 1)))), (0, .ref zh)]) zx zb dX6_forms_44 hl (k := 1) rfl (nI_1 _) (by decide) rfl (fun ls hl => ?_)
          refine lv_goto (tgt := 4) zx zb dX6_forms_47 (by decide) ?_
          exact ih4 (i + 1) (by omega) (by omega) _ _ _ hX (lv_sub hl [0, 1, 2] rfl)
  rw [show nI 1 = nB (f1U ln lt 0) from nB_as1 f1U_0] at hl
  exact L4 _ 0 (by omega) (Nat.lt_succ_self _) _ _ _ hX (lv_sub hl [0, 1, 2] rfl)

set_option maxHeartbeats 4000000 in
theorem mp_X7_forms_2  (zh : Nat) (la : Nat) (x0 : Nat) (ln : Nat) (lt : Nat → Nat) (hm : (zh, .inr (4, [.ref la, .ref x0, .ref x0, .ref x0])) ∈ ex) (ha : (la, aI dA ln (nF lt)) ∈ ex) (hl1 : 1 ≤ ln) (hl4 : ln ≤ 4) (hlt : ∀ j, lt j < 3) : nMt l D dA a0 yX7_forms cX7_forms 3 (some .int) 3 52 0 0 nvG0 [.ref zh] (ex) (nQi D a0 (fun (r : Int32) (_ : Unit) => r = nI (fmN 2 ln lt)) (fun (_ : Unit) => ex)) := by
  refine nv_start (by decide) (Nat.le_of_ble_eq_true rfl) fun zp ze s zm zlo zme zcd ls zC zr zk znm hX zG hl => ?_
  have zx := zC.1
  have zb := zC.2.1
  generalize zargs : ([.ref zh] : List Value).toArray = zar at zC ⊢
  generalize zQ : MQ zlo _ zar s _ _ _ = Q
  have hX : nvS D a0 (ex) s.heap s.heap [] := hX
  have hl : lv_has ls 3 [(0, .ref zh)] := hl
  obtain ⟨H, zH⟩ : ∃ H, H = s.heap := ⟨_, rfl⟩
  have hX : nvS D a0 (ex) s.heap H [] := by rw [zH]; exact hX
  rw [show W zp l ze (rm_ 3 52 0 0) s zm zar zlo zme zcd s.heap [] 0 0 Q = W zp l ze (rm_ 3 52 0 0) s zm zar zlo zme zcd H [] 0 0 Q by rw [zH]]
  generalize ([] : List Loc) = locs at hX ⊢
  obtain ⟨yq, yhq⟩ := List.getElem?_of_mem hm
  obtain ⟨yr, yhr⟩ := List.getElem?_of_mem ha
  refine lv_iconst (v := nI 1) zx zb dX7_forms_0 (by decide) ?_
  refine lv_istore_n (lv' := [(1, .int (nI 1)), (0, .ref zh)]) zx zb dX7_forms_1 rfl hl (by decide) rfl (fun ls hl => ?_)
  refine lv_iconst (v := nI 1) zx zb dX7_forms_2 (by decide) ?_
  refine lv_istore_n (lv' := [(2, .int (nI 1)), (1, .int (nI 1)), (0, .ref zh)]) zx zb dX7_forms_3 rfl hl (by decide) rfl (fun ls hl => ?_)
  have L4 : ∀ (zn : Nat) (i : Nat) (hi : i + 1 ≤ ln), ln - i < zn → ∀ (H : Heap) (locs : List Loc) (ls : Array Slot), nvS D a0 (ex) s.heap H locs → lv_has ls 3 [(2, .int (nI (i + 1))), (1, .int (nB (f2U lt i))), (0, .ref zh)] → W zp l ze (rm_ 3 52 0 0) s zm zar zlo zme zcd H locs 0 0 Q (F0 zm 4 ls []) := by
    intro zn
    induction zn with
    | zero => intro i hi zf; exact absurd zf (Nat.not_lt_zero _)
    | succ zn ih4 =>
      intro i hi zf H locs ls hX hl
      refine lv_iload_n zx zb dX7_forms_4 rfl (lv_at hl 0 rfl) ?_
      refine lv_aload_n zx zb dX7_forms_5 rfl (lv_at hl 2 rfl) ?_
      refine nv_get zC hX in_X7 yq yhq rfl 0 (by decide) q450 (u_same (zC.2.2.2.2.1 _ q449)) rfl dX7_forms_6 ?_
      refine nv_alen zC hX yr 0 yhr rfl dX7_forms_9 ?_
      refine nv_icmp_ge (tgt := 42) zx zb (by omega) (by omega) dX7_forms_10 (by decide) (fun c10 => ?_) (fun c10 => ?_)
      · refine lv_aload_n zx zb dX7_forms_42 rfl (lv_at hl 2 rfl) ?_
        refine nv_ki zC hX (nv_rU (n := 0) (As := []) (rest := []) (q0 := yq) zC hX (mp_X6_plainlyForms_2 (zh := zh) (la := la) (x0 := x0) (ln := ln) (lt := lt) (hm := (by first | assumption | omega)) (ha := (by first | assumption | omega)) (hl1 := (by first | assumption | omega)) (hl4 := (by first | assumption | omega)) (hlt := (by first | assumption | omega))) nvGb0 (fun _ _ _ => trivial) yhq rfl rfl q252 q253 q241 q255 q81 q245 (by decide +kernel) rfl ⟨Nat.le_of_ble_eq_true rfl, Nat.le_of_ble_eq_true rfl⟩ hl.1 (Nat.le_of_ble_eq_true rfl) dX7_forms_43 ⟨by first | exact Nat.le_of_ble_eq_true rfl | omega, by first | exact Nat.le_of_ble_eq_true rfl | omega⟩) (fun r u H locs hp hX => ?_)
        have hr_ : r = nI 1 := hp
        subst hr_
        have hX : nvS D a0 (ex) s.heap H locs := hX
        refine W.cs (cells' := 0) (slots' := 0) (Nat.add_zero _) (Nat.add_zero _) ?_
        refine lv_iload_n zx zb dX7_forms_46 rfl (lv_at hl 1 rfl) ?_
        refine nv_if_eqB (tgt := 54) zx zb dX7_forms_47 (by decide) (fun c47 => ?_) (fun c47 => ?_)
        · refine lv_iconst (v := nI 1) zx zb dX7_forms_54 (by decide) ?_
          refine nv_iadd zx zb dX7_forms_55 ?_
          rw [← zQ]
          exact nv_endi zC zr zk () hX (by have e_ : i = ln - 1 := (by omega); subst e_; simp [fmN, c47]) (by omega) (by omega) dX7_forms_56
        · refine lv_iconst (v := nI 0) zx zb dX7_forms_50 (by decide) ?_
          refine lv_goto (tgt := 55) zx zb dX7_forms_51 (by decide) ?_
          refine nv_iadd zx zb dX7_forms_55 ?_
          rw [← zQ]
          exact nv_endi zC zr zk () hX (by have e_ : i = ln - 1 := (by omega); subst e_; simp [fmN, c47]) (by omega) (by omega) dX7_forms_56
      · refine lv_iload_n zx zb dX7_forms_13 rfl (lv_at hl 1 rfl) ?_
        refine lv_aload_n zx zb dX7_forms_14 rfl (lv_at hl 2 rfl) ?_
        refine nv_get zC hX in_X7 yq yhq rfl 0 (by decide) q450 (u_same (zC.2.2.2.2.1 _ q449)) rfl dX7_forms_15 ?_
        refine lv_iload_n zx zb dX7_forms_18 rfl (lv_at hl 0 rfl) ?_
        refine nv_iald (v := nI (lt (i + 1))) zC hX yr yhr (by omega) (by omega) rfl dX7_forms_19 ?_
        refine lv_aload_n zx zb dX7_forms_20 rfl (lv_at hl 2 rfl) ?_
        refine nv_get zC hX in_X7 yq yhq rfl 0 (by decide) q450 (u_same (zC.2.2.2.2.1 _ q449)) rfl dX7_forms_21 ?_
        refine lv_iconst (v := nI 0) zx zb dX7_forms_24 (by decide) ?_
        refine nv_iald (v := nI (lt 0)) zC hX yr yhr (by omega) (by omega) rfl dX7_forms_25 ?_
        refine nv_icmp_ne (tgt := 33) zx zb (Nat.lt_trans (hlt _) (by decide)) (Nat.lt_trans (hlt _) (by decide)) dX7_forms_26 (by decide) (fun c26 => ?_) (fun c26 => ?_)
        · refine lv_iconst (v := nI 0) zx zb dX7_forms_33 (by decide) ?_
          refine nv_as (show nI 0 = nB (decide (lt (i + 1) = lt 0)) from (nB_as0 (decide_eq_false (by omega)))) ?_
          refine nv_iandB zx zb dX7_forms_34 ?_
          refine nv_as (show nB ((f2U lt i) && (decide (lt (i + 1) = lt 0))) = nB (f2U lt (i + 1)) from (congrArg nB f2U_s)) ?_
          refine lv_istore_n (lv' := [(1, .int (nB (f2U lt (i + 1)))), (2, .int (nI (i + 1))), (0, .ref zh)]) zx zb dX7_forms_35 rfl hl (by decide) rfl (fun ls hl => ?_)
          refine lv_iinc (v := nI (i + 1 + 1)) (lv' := [(2, .int (nI (i + 1 + 1))), (1, .int (nB (f2U lt (i + 1)))), (0, .ref zh)]) zx zb dX7_forms_36 hl (k := 1) rfl (nI_1 _) (by decide) rfl (fun ls hl => ?_)
          refine lv_goto (tgt := 4) zx zb dX7_forms_39 (by decide) ?_
          exact ih4 (i + 1) (by omega) (by omega) _ _ _ hX (lv_sub hl [0, 1, 2] rfl)
        · refine lv_iconst (v := nI 1) zx zb dX7_forms_29 (by decide) ?_
          refine lv_goto (tgt := 34) zx zb dX7_forms_30 (by decide) ?_
          refine nv_as (show nI 1 = nB (decide (lt (i + 1) = lt 0)) from (nB_as1 (decide_eq_true (by omega)))) ?_
          refine nv_iandB zx zb dX7_forms_34 ?_
          refine nv_as (show nB ((f2U lt i) && (decide (lt (i + 1) = lt 0))) = nB (f2U lt (i + 1)) from (congrArg nB f2U_s)) ?_
          refine lv_istore_n (lv' := [(1, .int (nB (f2U lt (i + 1)))), (2, .int (nI (i + 1))), (0, .ref zh)]) zx zb dX7_forms_35 rfl hl (by decide) rfl (fun ls hl => ?_)
          refine lv_iinc (v := nI (i + 1 + 1)) (lv' := [(2, .int (nI (i + 1 + 1))), (1, .int (nB (f2U lt (i + 1)))), (0, .ref zh)]) zx zb dX7_forms_36 hl (k := 1) rfl (nI_1 _) (by decide) rfl (fun ls hl => ?_)
          refine lv_goto (tgt := 4) zx zb dX7_forms_39 (by decide) ?_
          exact ih4 (i + 1) (by omega) (by omega) _ _ _ hX (lv_sub hl [0, 1, 2] rfl)
  rw [show nI 1 = nI (0 + 1) from rfl] at hl
  have hl := hl
  exact L4 _ 0 (by omega) (Nat.lt_succ_self _) _ _ _ hX (lv_sub hl [0, 1, 2] rfl)
end CL_32_c1
