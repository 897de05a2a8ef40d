/-! printed by klass.py -/
set_option maxRecDepth 100000
section CL_38_c4
variable {l : Launch} {D : va_G} {dA : Nat → ClassId} {a0 ez : Nat} {ex : va_W} {a : Nat → Nat} {rn : Nat} {rt : Nat} {trace : Int32} {len : Nat} {stand : Nat} {first : Option Nat} {allh : Option Nat} {hAll : Nat} {fault : Int32} {row : Nat → Nat} {hOf : Nat → Nat} {farOf : Nat → Option Nat} {rowsN : Nat → Nat} {rowsT : Nat → Nat} {mcW : Int32} {edW : Nat} {words : Nat} {mcR : Int32} {edR : Nat} {rdgs : Nat} {sh : Nat → Option Nat} {kind longOf letters : Nat → Nat} {fW : Nat → Option Nat} {pa la : Nat → Nat} {rWord rMany rStands rRow : Nat → Nat} {fR : Nat → Option Nat} {pr lr : Nat → Nat}
set_option maxHeartbeats 4000000 in
theorem mj_fillI  (yk : Nat) (n : Nat) (f : Nat → Int32) (zh : Nat) (v : Int32) (hk : (ex)[yk]? = some (zh, aI dA n f)) (hn : n < 100000) : nMt l D dA a0 yJ14_fill cJ14_fill 4 (none) 1 12 0 0 nvG0 [.ref zh, .int v] (ex) (nQv D a0 (fun (_ : Unit) => True) (fun (_ : Unit) => sI dA yk zh n (fun _ => v) ex)) := by
  refine nv_start (by decide) (Nat.le_of_ble_eq_true rfl) fun zp ze s zm zlo zme zcd ls zC zr zk znm hX zG hl => ?_
  have zx := zC.1
  have zb := zC.2.1
  generalize zargs : ([.ref zh, .int v] : List Value).toArray = zar at zC ⊢
  generalize zQ : MQ zlo _ zar s _ _ _ = Q
  have hX : nvS D a0 (ex) s.heap s.heap [] := hX
  have hl : lv_has ls 4 [(0, .ref zh), (1, .int v)] := hl
  obtain ⟨H, zH⟩ : ∃ H, H = s.heap := ⟨_, rfl⟩
  have hX : nvS D a0 (ex) s.heap H [] := by rw [zH]; exact hX
  rw [show W zp l ze (rm_ 1 12 0 0) s zm zar zlo zme zcd s.heap [] 0 0 Q = W zp l ze (rm_ 1 12 0 0) s zm zar zlo zme zcd H [] 0 0 Q by rw [zH]]
  generalize ([] : List Loc) = locs at hX ⊢
  have hX : nvS D a0 (sI dA yk zh n (flI v 0 f) ex) s.heap H locs := hX.as (by rw [flI_0]; exact set_me hk)
  refine lv_iconst (v := nI 0) zx zb dJ14_fill_0 (by decide) ?_
  refine lv_istore_n (lv' := [(2, .int (nI 0)), (0, .ref zh), (1, .int v)]) zx zb dJ14_fill_1 rfl hl (by decide) rfl (fun ls hl => ?_)
  refine lv_aload_n zx zb dJ14_fill_2 rfl (lv_at hl 1 rfl) ?_
  refine nv_alen zC hX yk 0 (set_get hk) rfl dJ14_fill_3 ?_
  refine lv_istore_n (lv' := [(3, .int (nI n)), (2, .int (nI 0)), (0, .ref zh), (1, .int v)]) zx zb dJ14_fill_4 rfl hl (by decide) rfl (fun ls hl => ?_)
  have L5 : ∀ (zn : Nat) (i : Nat) (hi : i ≤ n), n - i < zn → ∀ (H : Heap) (locs : List Loc) (ls : Array Slot), nvS D a0 (sI dA yk zh n (flI v i f) ex) s.heap H locs → lv_has ls 4 [(3, .int (nI n)), (2, .int (nI i)), (0, .ref zh), (1, .int v)] → W zp l ze (rm_ 1 12 0 0) s zm zar zlo zme zcd H locs 0 0 Q (F0 zm 5 ls []) := by
    intro zn
    induction zn with
    | zero => intro i hi zf; exact absurd zf (Nat.not_lt_zero _)
    | succ zn ih5 =>
      intro i hi zf H locs ls hX hl
      refine lv_iload_n zx zb dJ14_fill_5 rfl (lv_at hl 1 rfl) ?_
      refine lv_iload_n zx zb dJ14_fill_6 rfl (lv_at hl 0 rfl) ?_
      refine nv_icmp_ge (tgt := 20) zx zb (by omega) (by omega) dJ14_fill_7 (by decide) (fun c7 => ?_) (fun c7 => ?_)
      · have e_ : i = n := by omega
        subst e_
        have hX := hX.cgI (g := fun _ => v) (fun j hj => if_pos hj)
        rw [← zQ]
        exact nv_endv zC zr zk () hX (by first | rfl | trivial) (by omega) (by omega) dJ14_fill_20
      · refine lv_aload_n zx zb dJ14_fill_10 rfl (lv_at hl 2 rfl) ?_
        refine lv_iload_n zx zb dJ14_fill_11 rfl (lv_at hl 1 rfl) ?_
        refine lv_iload_n zx zb dJ14_fill_12 rfl (lv_at hl 3 rfl) ?_
        refine nv_iast zC hX yk (set_get hk) (by omega) (by omega) (flI_s) (w' := sI dA yk zh n (flI v (i + 1) f) ex) (by unfold sI; rw [List.set_set]) dJ14_fill_13 (fun H locs hX => ?_)
        refine lv_iinc (v := nI (i + 1)) (lv' := [(2, .int (nI (i + 1))), (3, .int (nI n)), (0, .ref zh), (1, .int v)]) zx zb dJ14_fill_14 hl (k := 1) rfl (nI_1 _) (by decide) rfl (fun ls hl => ?_)
        refine lv_goto (tgt := 5) zx zb dJ14_fill_17 (by decide) ?_
        exact ih5 (i + 1) (by omega) (by omega) _ _ _ hX (lv_sub hl [1, 0, 2, 3] rfl)
  exact L5 _ 0 (by omega) (Nat.lt_succ_self _) _ _ _ hX (lv_sub hl [0, 1, 2, 3] rfl)

set_option maxHeartbeats 4000000 in
theorem mj_fillL  (yk : Nat) (n : Nat) (f : Nat → Int64) (zh : Nat) (v : Int64) (hk : (ex)[yk]? = some (zh, aL dA n f)) (hn : n < 100000) : nMt l D dA a0 yJ14_fill_2 cJ14_fill_2 5 (none) 1 12 0 0 nvG0 [.ref zh, .long v] (ex) (nQv D a0 (fun (_ : Unit) => True) (fun (_ : Unit) => sL dA yk zh n (fun _ => v) ex)) := by
  refine nv_start (by decide) (Nat.le_of_ble_eq_true rfl) fun zp ze s zm zlo zme zcd ls zC zr zk znm hX zG hl => ?_
  have zx := zC.1
  have zb := zC.2.1
  generalize zargs : ([.ref zh, .long v] : List Value).toArray = zar at zC ⊢
  generalize zQ : MQ zlo _ zar s _ _ _ = Q
  have hX : nvS D a0 (ex) s.heap s.heap [] := hX
  have hl : lv_has ls 5 [(0, .ref zh), (1, .long v)] := hl
  obtain ⟨H, zH⟩ : ∃ H, H = s.heap := ⟨_, rfl⟩
  have hX : nvS D a0 (ex) s.heap H [] := by rw [zH]; exact hX
  rw [show W zp l ze (rm_ 1 12 0 0) s zm zar zlo zme zcd s.heap [] 0 0 Q = W zp l ze (rm_ 1 12 0 0) s zm zar zlo zme zcd H [] 0 0 Q by rw [zH]]
  generalize ([] : List Loc) = locs at hX ⊢
  have hX : nvS D a0 (sL dA yk zh n (flL v 0 f) ex) s.heap H locs := hX.as (by rw [flL_0]; exact set_me hk)
  refine lv_iconst (v := nI 0) zx zb dJ14_fill_2_0 (by decide) ?_
  refine lv_istore_n (lv' := [(3, .int (nI 0)), (0, .ref zh), (1, .long v)]) zx zb dJ14_fill_2_1 rfl hl (by decide) rfl (fun ls hl => ?_)
  refine lv_aload_n zx zb dJ14_fill_2_2 rfl (lv_at hl 1 rfl) ?_
  refine nv_alen zC hX yk 1 (set_get hk) rfl dJ14_fill_2_3 ?_
  refine lv_istore (lv' := [(4, .int (nI n)), (3, .int (nI 0)), (0, .ref zh), (1, .long v)]) zx zb dJ14_fill_2_4 hl (by decide) rfl (fun ls hl => ?_)
  have L6 : ∀ (zn : Nat) (i : Nat) (hi : i ≤ n), n - i < zn → ∀ (H : Heap) (locs : List Loc) (ls : Array Slot), nvS D a0 (sL dA yk zh n (flL v i f) ex) s.heap H locs → lv_has ls 5 [(4, .int (nI n)), (3, .int (nI i)), (0, .ref zh), (1, .long v)] → W zp l ze (rm_ 1 12 0 0) s zm zar zlo zme zcd H locs 0 0 Q (F0 zm 6 ls []) := by
    intro zn
    induction zn with
    | zero => intro i hi zf; exact absurd zf (Nat.not_lt_zero _)
    | succ zn ih6 =>
      intro i hi zf H locs ls hX hl
      refine lv_iload_n zx zb dJ14_fill_2_6 rfl (lv_at hl 1 rfl) ?_
      refine lv_iload zx zb dJ14_fill_2_7 (lv_at hl 0 rfl) ?_
      refine nv_icmp_ge (tgt := 22) zx zb (by omega) (by omega) dJ14_fill_2_9 (by decide) (fun c9 => ?_) (fun c9 => ?_)
      · have e_ : i = n := by omega
        subst e_
        have hX := hX.cgL (g := fun _ => v) (fun j hj => if_pos hj)
        rw [← zQ]
        exact nv_endv zC zr zk () hX (by first | rfl | trivial) (by omega) (by omega) dJ14_fill_2_22
      · refine lv_aload_n zx zb dJ14_fill_2_12 rfl (lv_at hl 2 rfl) ?_
        refine lv_iload_n zx zb dJ14_fill_2_13 rfl (lv_at hl 1 rfl) ?_
        refine lv_lload_n zx zb dJ14_fill_2_14 rfl (lv_at hl 3 rfl) ?_
        refine nv_last zC hX yk (set_get hk) (by omega) (by omega) (flL_s) (w' := sL dA yk zh n (flL v (i + 1) f) ex) (by unfold sL; rw [List.set_set]) dJ14_fill_2_15 (fun H locs hX => ?_)
        refine lv_iinc (v := nI (i + 1)) (lv' := [(3, .int (nI (i + 1))), (4, .int (nI n)), (0, .ref zh), (1, .long v)]) zx zb dJ14_fill_2_16 hl (k := 1) rfl (nI_1 _) (by decide) rfl (fun ls hl => ?_)
        refine lv_goto (tgt := 6) zx zb dJ14_fill_2_19 (by decide) ?_
        exact ih6 (i + 1) (by omega) (by omega) _ _ _ hX (lv_sub hl [1, 0, 2, 3] rfl)
  exact L6 _ 0 (by omega) (Nat.lt_succ_self _) _ _ _ hX (lv_sub hl [0, 1, 2, 3] rfl)

set_option maxHeartbeats 4000000 in
theorem mj_bitCount  (x : Int32)  : nMt l D dA a0 yJ18_bitCount cJ18_bitCount 1 (some .int) 1 12 0 0 nvG0 [.int x] (ex) (nQi D a0 (fun (r : Int32) (_ : Unit) => r = bcI x) (fun (_ : Unit) => ex)) := by
  refine nv_start (by decide) (Nat.le_of_ble_eq_true rfl) fun zp ze s zm zlo zme zcd ls zC zr zk znm hX zG hl => ?_
  have zx := zC.1
  have zb := zC.2.1
  generalize zargs : ([.int x] : List Value).toArray = zar at zC ⊢
  generalize zQ : MQ zlo _ zar s _ _ _ = Q
  have hX : nvS D a0 (ex) s.heap s.heap [] := hX
  have hl : lv_has ls 1 [(0, .int x)] := hl
  obtain ⟨H, zH⟩ : ∃ H, H = s.heap := ⟨_, rfl⟩
  have hX : nvS D a0 (ex) s.heap H [] := by rw [zH]; exact hX
  rw [show W zp l ze (rm_ 1 12 0 0) s zm zar zlo zme zcd s.heap [] 0 0 Q = W zp l ze (rm_ 1 12 0 0) s zm zar zlo zme zcd H [] 0 0 Q by rw [zH]]
  generalize ([] : List Loc) = locs at hX ⊢
  refine lv_iload_n zx zb dJ18_bitCount_0 rfl (lv_at hl 0 rfl) ?_
  refine lv_iload_n zx zb dJ18_bitCount_1 rfl (lv_at hl 0 rfl) ?_
  refine lv_iconst (v := nI 1) zx zb dJ18_bitCount_2 (by decide) ?_
  refine lv_iushr zx zb dJ18_bitCount_3 rfl ?_
  refine lv_ldcw (v := nI 1431655765) zx zb zC.2.2.2.1 (zC.2.2.2.2.1 _ q313) dJ18_bitCount_4 ?_
  refine lv_iand zx zb dJ18_bitCount_7 ?_
  refine lv_isub zx zb dJ18_bitCount_8 ?_
  refine lv_istore_n (lv' := [(0, .int (x - (((Int32.toUInt32 x >>> (Int32.toUInt32 (nI 1) &&& Int32.toUInt32 31)).toInt32) &&& (nI 1431655765))))]) zx zb dJ18_bitCount_9 rfl hl (by decide) rfl (fun ls hl => ?_)
  refine lv_iload_n zx zb dJ18_bitCount_10 rfl (lv_at hl 0 rfl) ?_
  refine lv_ldcw (v := nI 858993459) zx zb zC.2.2.2.1 (zC.2.2.2.2.1 _ q314) dJ18_bitCount_11 ?_
  refine lv_iand zx zb dJ18_bitCount_14 ?_
  refine lv_iload_n zx zb dJ18_bitCount_15 rfl (lv_at hl 0 rfl) ?_
  refine lv_iconst (v := nI 2) zx zb dJ18_bitCount_16 (by decide) ?_
  refine lv_iushr zx zb dJ18_bitCount_17 rfl ?_
  refine lv_ldcw (v := nI 858993459) zx zb zC.2.2.2.1 (zC.2.2.2.2.1 _ q314) dJ18_bitCount_18 ?_
  refine lv_iand zx zb dJ18_bitCount_21 ?_
  refine lv_iadd zx zb dJ18_bitCount_22 ?_
  refine lv_istore_n (lv' := [(0, .int (((x - (((Int32.toUInt32 x >>> (Int32.toUInt32 (nI 1) &&& Int32.toUInt32 31)).toInt32) &&& (nI 1431655765))) &&& (nI 858993459)) + (((Int32.toUInt32 (x - (((Int32.toUInt32 x >>> (Int32.toUInt32 (nI 1) &&& Int32.toUInt32 31)).toInt32) &&& (nI 1431655765))) >>> (Int32.toUInt32 (nI 2) &&& Int32.toUInt32 31)).toInt32) &&& (nI 858993459))))]) zx zb dJ18_bitCount_23 rfl hl (by decide) rfl (fun ls hl => ?_)
  refine lv_iload_n zx zb dJ18_bitCount_24 rfl (lv_at hl 0 rfl) ?_
  refine lv_iload_n zx zb dJ18_bitCount_25 rfl (lv_at hl 0 rfl) ?_
  refine lv_iconst (v := nI 4) zx zb dJ18_bitCount_26 (by decide) ?_
  refine lv_iushr zx zb dJ18_bitCount_27 rfl ?_
  refine lv_iadd zx zb dJ18_bitCount_28 ?_
  refine lv_ldcw (v := nI 252645135) zx zb zC.2.2.2.1 (zC.2.2.2.2.1 _ q315) dJ18_bitCount_29 ?_
  refine lv_iand zx zb dJ18_bitCount_32 ?_
  refine lv_istore_n (lv' := [(0, .int (((((x - (((Int32.toUInt32 x >>> (Int32.toUInt32 (nI 1) &&& Int32.toUInt32 31)).toInt32) &&& (nI 1431655765))) &&& (nI 858993459)) + (((Int32.toUInt32 (x - (((Int32.toUInt32 x >>> (Int32.toUInt32 (nI 1) &&& Int32.toUInt32 31)).toInt32) &&& (nI 1431655765))) >>> (Int32.toUInt32 (nI 2) &&& Int32.toUInt32 31)).toInt32) &&& (nI 858993459))) + ((Int32.toUInt32 (((x - (((Int32.toUInt32 x >>> (Int32.toUInt32 (nI 1) &&& Int32.toUInt32 31)).toInt32) &&& (nI 1431655765))) &&& (nI 858993459)) + (((Int32.toUInt32 (x - (((Int32.toUInt32 x >>> (Int32.toUInt32 (nI 1) &&& Int32.toUInt32 31)).toInt32) &&& (nI 1431655765))) >>> (Int32.toUInt32 (nI 2) &&& Int32.toUInt32 31)).toInt32) &&& (nI 858993459))) >>> (Int32.toUInt32 (nI 4) &&& Int32.toUInt32 31)).toInt32)) &&& (nI 252645135)))]) zx zb dJ18_bitCount_33 rfl hl (by decide) rfl (fun ls hl => ?_)
  refine lv_iload_n zx zb dJ18_bitCount_34 rfl (lv_at hl 0 rfl) ?_
  refine lv_iload_n zx zb dJ18_bitCount_35 rfl (lv_at hl 0 rfl) ?_
  refine lv_bipush (v := nI 8) zx zb dJ18_bitCount_36 (by decide) ?_
  refine lv_iushr zx zb dJ18_bitCount_38 rfl ?_
  refine lv_iadd zx zb dJ18_bitCount_39 ?_
  refine lv_istore_n (lv' := [(0, .int ((((((x - (((Int32.toUInt32 x >>> (Int32.toUInt32 (nI 1) &&& Int32.toUInt32 31)).toInt32) &&& (nI 1431655765))) &&& (nI 858993459)) + (((Int32.toUInt32 (x - (((Int32.toUInt32 x >>> (Int32.toUInt32 (nI 1) &&& Int32.toUInt32 31)).toInt32) &&& (nI 1431655765))) >>> (Int32.toUInt32 (nI 2) &&& Int32.toUInt32 31)).toInt32) &&& (nI 858993459))) + ((Int32.toUInt32 (((x - (((Int32.toUInt32 x >>> (Int32.toUInt32 (nI 1) &&& Int32.toUInt32 31)).toInt32) &&& (nI 1431655765))) &&& (nI 858993459)) + (((Int32.toUInt32 (x - (((Int32.toUInt32 x >>> (Int32.toUInt32 (nI 1) &&& Int32.toUInt32 31)).toInt32) &&& (nI 1431655765))) >>> (Int32.toUInt32 (nI 2) &&& Int32.toUInt32 31)).toInt32) &&& (nI 858993459))) >>> (Int32.toUInt32 (nI 4) &&& Int32.toUInt32 31)).toInt32)) &&& (nI 252645135)) + ((Int32.toUInt32 (((((x - (((Int32.toUInt32 x >>> (Int32.toUInt32 (nI 1) &&& Int32.toUInt32 31)).toInt32) &&& (nI 1431655765))) &&& (nI 858993459)) + (((Int32.toUInt32 (x - (((Int32.toUInt32 x >>> (Int32.toUInt32 (nI 1) &&& Int32.toUInt32 31)).toInt32) &&& (nI 1431655765))) >>> (Int32.toUInt32 (nI 2) &&& Int32.toUInt32 31)).toInt32) &&& (nI 858993459))) + ((Int32.toUInt32 (((x - (((Int32.toUInt32 x >>> (Int32.toUInt32 (nI 1) &&& Int32.toUInt32 31)).toInt32) &&& (nI 1431655765))) &&& (nI 858993459)) + (((Int32.toUInt32 (x - (((Int32.toUInt32 x >>> (Int32.toUInt32 (nI 1) &&& Int32.toUInt32 31)).toInt32) &&& (nI 1431655765))) >>> (Int32.toUInt32 (nI 2) &&& Int32.toUInt32 31)).toInt32) &&& (nI 858993459))) >>> (Int32.toUInt32 (nI 4) &&& Int32.toUInt32 31)).toInt32)) &&& (nI 252645135)) >>> (Int32.toUInt32 (nI 8) &&& Int32.toUInt32 31)).toInt32)))]) zx zb dJ18_bitCount_40 rfl hl (by decide) rfl (fun ls hl => ?_)
  refine lv_iload_n zx zb dJ18_bitCount_41 rfl (lv_at hl 0 rfl) ?_
  refine lv_iload_n zx zb dJ18_bitCount_42 rfl (lv_at hl 0 rfl) ?_
  refine lv_bipush (v := nI 16) zx zb dJ18_bitCount_43 (by decide) ?_
  refine lv_iushr zx zb dJ18_bitCount_45 rfl ?_
  refine lv_iadd zx zb dJ18_bitCount_46 ?_
  refine lv_istore_n (lv' := [(0, .int (((((((x - (((Int32.toUInt32 x >>> (Int32.toUInt32 (nI 1) &&& Int32.toUInt32 31)).toInt32) &&& (nI 1431655765))) &&& (nI 858993459)) + (((Int32.toUInt32 (x - (((Int32.toUInt32 x >>> (Int32.toUInt32 (nI 1) &&& Int32.toUInt32 31)).toInt32) &&& (nI 1431655765))) >>> (Int32.toUInt32 (nI 2) &&& Int32.toUInt32 31)).toInt32) &&& (nI 858993459))) + ((Int32.toUInt32 (((x - (((Int32.toUInt32 x >>> (Int32.toUInt32 (nI 1) &&& Int32.toUInt32 31)).toInt32) &&& (nI 1431655765))) &&& (nI 858993459)) + (((Int32.toUInt32 (x - (((Int32.toUInt32 x >>> (Int32.toUInt32 (nI 1) &&& Int32.toUInt32 31)).toInt32) &&& (nI 1431655765))) >>> (Int32.toUInt32 (nI 2) &&& Int32.toUInt32 31)).toInt32) &&& (nI 858993459))) >>> (Int32.toUInt32 (nI 4) &&& Int32.toUInt32 31)).toInt32)) &&& (nI 252645135)) + ((Int32.toUInt32 (((((x - (((Int32.toUInt32 x >>> (Int32.toUInt32 (nI 1) &&& Int32.toUInt32 31)).toInt32) &&& (nI 1431655765))) &&& (nI 858993459)) + (((Int32.toUInt32 (x - (((Int32.toUInt32 x >>> (Int32.toUInt32 (nI 1) &&& Int32.toUInt32 31)).toInt32) &&& (nI 1431655765))) >>> (Int32.toUInt32 (nI 2) &&& Int32.toUInt32 31)).toInt32) &&& (nI 858993459))) + ((Int32.toUInt32 (((x - (((Int32.toUInt32 x >>> (Int32.toUInt32 (nI 1) &&& Int32.toUInt32 31)).toInt32) &&& (nI 1431655765))) &&& (nI 858993459)) + (((Int32.toUInt32 (x - (((Int32.toUInt32 x >>> (Int32.toUInt32 (nI 1) &&& Int32.toUInt32 31)).toInt32) &&& (nI 1431655765))) >>> (Int32.toUInt32 (nI 2) &&& Int32.toUInt32 31)).toInt32) &&& (nI 858993459))) >>> (Int32.toUInt32 (nI 4) &&& Int32.toUInt32 31)).toInt32)) &&& (nI 252645135)) >>> (Int32.toUInt32 (nI 8) &&& Int32.toUInt32 31)).toInt32)) + ((Int32.toUInt32 ((((((x - (((Int32.toUInt32 x >>> (Int32.toUInt32 (nI 1) &&& Int32.toUInt32 31)).toInt32) &&& (nI 1431655765))) &&& (nI 858993459)) + (((Int32.toUInt32 (x - (((Int32.toUInt32 x >>> (Int32.toUInt32 (nI 1) &&& Int32.toUInt32 31)).toInt32) &&& (nI 1431655765))) >>> (Int32.toUInt32 (nI 2) &&& Int32.toUInt32 31)).toInt32) &&& (nI 858993459))) + ((Int32.toUInt32 (((x - (((Int32.toUInt32 x >>> (Int32.toUInt32 (nI 1) &&& Int32.toUInt32 31)).toInt32) &&& (nI 1431655765))) &&& (nI 858993459)) + (((Int32.toUInt32 (x - (((Int32.toUInt32 x >>> (Int32.toUInt32 (nI 1) &&& Int32.toUInt32 31)).toInt32) &&& (nI 1431655765))) >>> (Int32.toUInt32 (nI 2) &&& Int32.toUInt32 31)).toInt32) &&& (nI 858993459))) >>> (Int32.toUInt32 (nI 4) &&& Int32.toUInt32 31)).toInt32)) &&& (nI 252645135)) + ((Int32.toUInt32 (((((x - (((Int32.toUInt32 x >>> (Int32.toUInt32 (nI 1) &&& Int32.toUInt32 31)).toInt32) &&& (nI 1431655765))) &&& (nI 858993459)) + (((Int32.toUInt32 (x - (((Int32.toUInt32 x >>> (Int32.toUInt32 (nI 1) &&& Int32.toUInt32 31)).toInt32) &&& (nI 1431655765))) >>> (Int32.toUInt32 (nI 2) &&& Int32.toUInt32 31)).toInt32) &&& (nI 858993459))) + ((Int32.toUInt32 (((x - (((Int32.toUInt32 x >>> (Int32.toUInt32 (nI 1) &&& Int32.toUInt32 31)).toInt32) &&& (nI 1431655765))) &&& (nI 858993459)) + (((Int32.toUInt32 (x - (((Int32.toUInt32 x >>> (Int32.toUInt32 (nI 1) &&& Int32.toUInt32 31)).toInt32) &&& (nI 1431655765))) >>> (Int32.toUInt32 (nI 2) &&& Int32.toUInt32 31)).toInt32) &&& (nI 858993459))) >>> (Int32.toUInt32 (nI 4) &&& Int32.toUInt32 31)).toInt32)) &&& (nI 252645135)) >>> (Int32.toUInt32 (nI 8) &&& Int32.toUInt32 31)).toInt32)) >>> (Int32.toUInt32 (nI 16) &&& Int32.toUInt32 31)).toInt32)))]) zx zb dJ18_bitCount_47 rfl hl (by decide) rfl (fun ls hl => ?_)
  refine lv_iload_n zx zb dJ18_bitCount_48 rfl (lv_at hl 0 rfl) ?_
  refine lv_bipush (v := nI 63) zx zb dJ18_bitCount_49 (by decide) ?_
  refine lv_iand zx zb dJ18_bitCount_51 ?_
  rw [← zQ]
  exact nv_endi zC zr zk () hX (by first | rfl | trivial) (by omega) (by omega) dJ18_bitCount_52

set_option maxHeartbeats 4000000 in
theorem mx_hears  (m_ : Nat) (rw : Nat → Nat) (ra_ : Nat) (n : Nat) (hW : wdIn dA (a 0) words kind longOf letters edW ez fW pa la ex) (hok : wOK words kind longOf letters) (hr : (ra_, aI dA m_ (nF rw)) ∈ (a 1, aI dA 60 (nF row)) :: ex) (hn : n ≤ m_) (hm : m_ ≤ 60) (h3 : ∀ j, rw j < 3) : nMt l D dA a0 yX0_hears cX0_hears 7 (none) 6 128 0 0 (nvE a0 ez) [.ref (a 0), .ref ra_, .int (nI n)] (xW dA a rn rt trace len stand first allh hAll fault row hOf farOf rowsN rowsT mcW edW words mcR edR rdgs sh ex) (nQv D a0 (fun (hOf' : Nat → Nat) => (∀ w, w < words → hOf' w = tmW kind longOf letters rw n w)) (fun (hOf' : Nat → Nat) => xW dA a rn rt trace len (orUp (fun j => hbW kind longOf letters rw words (j + 1)) n) (fstUp (fun j => decide (0 < hbW kind longOf letters rw words (j + 1))) n) (fstUp (fun j => decide (orUp (fun j => hbW kind longOf letters rw words (j + 1)) (j + 1) = 2 ^ words - 1)) n) (sumUp (fun j => popN (hbW kind longOf letters rw words (j + 1))) n) fault row hOf' farOf rowsN rowsT mcW edW words mcR edR rdgs sh ex)) := by
  refine nv_start (by decide) (Nat.le_of_ble_eq_true rfl) fun zp ze s zm zlo zme zcd ls zC zr zk znm hX zG hl => ?_
  have zx := zC.1
  have zb := zC.2.1
  generalize zargs : ([.ref (a 0), .ref ra_, .int (nI n)] : List Value).toArray = zar at zC ⊢
  generalize zQ : MQ zlo _ zar s _ _ _ = Q
  have hX : nvS D a0 (xW dA a rn rt trace len stand first allh hAll fault row hOf farOf rowsN rowsT mcW edW words mcR edR rdgs sh ex) s.heap s.heap [] := hX
  have hl : lv_has ls 7 [(0, .ref (a 0)), (1, .ref ra_), (2, .int (nI n))] := hl
  obtain ⟨H, zH⟩ : ∃ H, H = s.heap := ⟨_, rfl⟩
  have hX : nvS D a0 (xW dA a rn rt trace len stand first allh hAll fault row hOf farOf rowsN rowsT mcW edW words mcR edR rdgs sh ex) s.heap H [] := by rw [zH]; exact hX
  rw [show W zp l ze (rm_ 6 128 0 0) s zm zar zlo zme zcd s.heap [] 0 0 Q = W zp l ze (rm_ 6 128 0 0) s zm zar zlo zme zcd H [] 0 0 Q by rw [zH]]
  generalize ([] : List Loc) = locs at hX ⊢
  have hw4 := hok.1
  have hhb : ∀ k, hbE kind longOf letters words (3 * enX rw k + rw k) = hbW kind longOf letters rw words (k + 1) := fun k => hbE_hb hok h3 k
  have hlt : ∀ k, hbW kind longOf letters rw words (k + 1) < 16 := fun k => Nat.lt_of_lt_of_le (bitsUp_lt _ _) (pw4 hw4)
  refine lv_aload_n zx zb dX0_hears_0 rfl (lv_at hl 0 rfl) ?_
  refine lv_iconst (v := nI 0) zx zb dX0_hears_1 (by decide) ?_
  refine nv_put zC hX in_X0 tyX0 tyX0_ok nmX0 0 rfl rfl 4 (by decide) q135 (fun _ h => h) rfl rfl rfl (Nat.le_of_ble_eq_true rfl) (w' := xW dA a rn rt trace len 0 first allh hAll fault row hOf farOf rowsN rowsT mcW edW words mcR edR rdgs sh ex) rfl dX0_hears_2 (fun H locs hX => ?_)
  refine lv_aload_n zx zb dX0_hears_5 rfl (lv_at hl 0 rfl) ?_
  refine lv_bipush (v := (-9)) zx zb dX0_hears_6 (by decide) ?_
  refine nv_put zC hX in_X0 tyX0 tyX0_ok nmX0 0 rfl rfl 5 (by decide) q136 (fun _ h => h) rfl rfl rfl (Nat.le_of_ble_eq_true rfl) (w' := xW dA a rn rt trace len 0 none allh hAll fault row hOf farOf rowsN rowsT mcW edW words mcR edR rdgs sh ex) rfl dX0_hears_8 (fun H locs hX => ?_)
  refine lv_aload_n zx zb dX0_hears_11 rfl (lv_at hl 0 rfl) ?_
  refine lv_bipush (v := (-9)) zx zb dX0_hears_12 (by decide) ?_
  refine nv_put zC hX in_X0 tyX0 tyX0_ok nmX0 0 rfl rfl 6 (by decide) q137 (fun _ h => h) rfl rfl rfl (Nat.le_of_ble_eq_true rfl) (w' := xW dA a rn rt trace len 0 none none hAll fault row hOf farOf rowsN rowsT mcW edW words mcR edR rdgs sh ex) rfl dX0_hears_14 (fun H locs hX => ?_)
  refine lv_aload_n zx zb dX0_hears_17 rfl (lv_at hl 0 rfl) ?_
  refine lv_iconst (v := nI 0) zx zb dX0_hears_18 (by decide) ?_
  refine nv_put zC hX in_X0 tyX0 tyX0_ok nmX0 0 rfl rfl 7 (by decide) q138 (fun _ h => h) rfl rfl rfl (Nat.le_of_ble_eq_true rfl) (w' := xW dA a rn rt trace len 0 none none 0 fault row hOf farOf rowsN rowsT mcW edW words mcR edR rdgs sh ex) rfl dX0_hears_19 (fun H locs hX => ?_)
  refine lv_aload_n zx zb dX0_hears_22 rfl (lv_at hl 0 rfl) ?_
  refine nv_get zC hX in_X0 0 rfl rfl 8 (by decide) q139 (fun _ h => h) rfl dX0_hears_23 ?_
  refine lv_iconst (v := nI 0) zx zb dX0_hears_26 (by decide) ?_
  refine nv_kv zC hX (nv_rS (n := 2) (As := [.ref (a 3), .int (nI 0)]) (rest := []) zC hX (mj_fillI (yk := 3) (n := 4) (f := nF hOf) (zh := a 3) (v := nI 0) (hk := rfl) (hn := (by decide))) nvGb0 (fun _ _ _ => trivial) q260 q261 q79 q262 (by decide +kernel) rfl ⟨Nat.le_of_ble_eq_true rfl, Nat.le_of_ble_eq_true rfl⟩ hl.1 (Nat.le_of_ble_eq_true rfl) dX0_hears_27 ⟨by first | exact Nat.le_of_ble_eq_true rfl | omega, by first | exact Nat.le_of_ble_eq_true rfl | omega⟩) (fun u H locs hp hX => ?_)
  have hX : nvS D a0 (xW dA a rn rt trace len 0 none none 0 fault row (fun _ => 0) farOf rowsN rowsT mcW edW words mcR edR rdgs sh ex) s.heap H locs := hX
  refine W.cs (cells' := 0) (slots' := 0) (Nat.add_zero _) (Nat.add_zero _) ?_
  refine lv_iconst (v := nI 1) zx zb dX0_hears_30 (by decide) ?_
  refine lv_istore_n (lv' := [(3, .int (nI 1)), (0, .ref (a 0)), (1, .ref ra_), (2, .int (nI n))]) zx zb dX0_hears_31 rfl hl (by decide) rfl (fun ls hl => ?_)
  refine lv_iconst (v := nI 0) zx zb dX0_hears_32 (by decide) ?_
  refine lv_istore (lv' := [(4, .int (nI 0)), (3, .int (nI 1)), (0, .ref (a 0)), (1, .ref ra_), (2, .int (nI n))]) zx zb dX0_hears_33 hl (by decide) rfl (fun ls hl => ?_)
  have L35 : ∀ (zn : Nat) (k : Nat) (hO : Nat → Nat) (hk : k ≤ n) (hO1 : ∀ w, w < words → hO w = tmW kind longOf letters rw k w), n - k < zn → ∀ (H : Heap) (locs : List Loc) (ls : Array Slot), nvS D a0 (xW dA a rn rt trace len (orUp (fun j => hbW kind longOf letters rw words (j + 1)) k) (fstUp (fun j => decide (0 < hbW kind longOf letters rw words (j + 1))) k) (fstUp (fun j => decide (orUp (fun j => hbW kind longOf letters rw words (j + 1)) (j + 1) = 2 ^ words - 1)) k) (sumUp (fun j => popN (hbW kind longOf letters rw words (j + 1))) k) fault row hO farOf rowsN rowsT mcW edW words mcR edR rdgs sh ex) s.heap H locs → lv_has ls 7 [(4, .int (nI k)), (3, .int (nI (enX rw k))), (0, .ref (a 0)), (1, .ref ra_), (2, .int (nI n))] → W zp l ze (rm_ 6 128 0 0) s zm zar zlo zme zcd H locs 0 0 Q (F0 zm 35 ls []) := by
    intro zn
    induction zn with
    | zero => intro k hO hk hO1 zf; exact absurd zf (Nat.not_lt_zero _)
    | succ zn ih35 =>
      intro k hO hk hO1 zf H locs ls hX hl
      refine lv_iload zx zb dX0_hears_35 (lv_at hl 0 rfl) ?_
      refine lv_iload_n zx zb dX0_hears_37 rfl (lv_at hl 4 rfl) ?_
      refine nv_icmp_ge (tgt := 192) zx zb (by omega) (by omega) dX0_hears_38 (by decide) (fun c38 => ?_) (fun c38 => ?_)
      · have e_ : k = n := (by omega)
        subst e_
        rw [← zQ]
        exact nv_endv zC zr zk hO hX (by exact hO1) (by omega) (by omega) dX0_hears_192
      · refine lv_aload_n zx zb dX0_hears_41 rfl (lv_at hl 2 rfl) ?_
        refine lv_iload_n zx zb dX0_hears_42 rfl (lv_at hl 1 rfl) ?_
        refine lv_aload_n zx zb dX0_hears_43 rfl (lv_at hl 3 rfl) ?_
        refine lv_iload zx zb dX0_hears_44 (lv_at hl 0 rfl) ?_
        refine nv_ialdM (v := nI (rw k)) zC hX (xw_r hr) (by omega) (by omega) rfl dX0_hears_46 ?_
        refine nv_ki zC hX (nv_rV (n := 2) (As := [.int (nI (enX rw k)), .int (nI (rw k))]) (rest := []) (q0 := 0) zC hX (mx_heardBy (e := enX rw k) (c := rw k) (hW := (by first | assumption | omega)) (hok := (by first | assumption | omega)) (he := (enX_lt h3 k).2) (hc := (h3 _))) (nvE_b a0 ez) (nvE_keep zG hX) rfl rfl q263 q265 qs2 q59 q266 (by decide +kernel) rfl ⟨Nat.le_of_ble_eq_true rfl, Nat.le_of_ble_eq_true rfl⟩ hl.1 (Nat.le_of_ble_eq_true rfl) dX0_hears_47 ⟨by first | exact Nat.le_of_ble_eq_true rfl | omega, by first | exact Nat.le_of_ble_eq_true rfl | omega⟩) (fun r u H locs hp hX => ?_)
        have hr_ : r = nI (hbE kind longOf letters words (3 * (enX rw k) + (rw k))) := hp
        subst hr_
        have hX : nvS D a0 (xW dA a rn rt trace len (orUp (fun j => hbW kind longOf letters rw words (j + 1)) k) (fstUp (fun j => decide (0 < hbW kind longOf letters rw words (j + 1))) k) (fstUp (fun j => decide (orUp (fun j => hbW kind longOf letters rw words (j + 1)) (j + 1) = 2 ^ words - 1)) k) (sumUp (fun j => popN (hbW kind longOf letters rw words (j + 1))) k) fault row hO farOf rowsN rowsT mcW edW words mcR edR rdgs sh ex) s.heap H locs := hX
        refine W.cs (cells' := 0) (slots' := 0) (Nat.add_zero _) (Nat.add_zero _) ?_
        refine nv_as (show nI (hbE kind longOf letters words (3 * (enX rw k) + (rw k))) = nI (hbW kind longOf letters rw words (k + 1)) from (congrArg nI (hhb k))) ?_
        refine lv_istore (lv' := [(5, .int (nI (hbW kind longOf letters rw words (k + 1)))), (4, .int (nI k)), (3, .int (nI (enX rw k))), (0, .ref (a 0)), (1, .ref ra_), (2, .int (nI n))]) zx zb dX0_hears_50 hl (by decide) rfl (fun ls hl => ?_)
        refine lv_iload_n zx zb dX0_hears_52 rfl (lv_at hl 2 rfl) ?_
        refine lv_aload_n zx zb dX0_hears_53 rfl (lv_at hl 4 rfl) ?_
        refine lv_iload zx zb dX0_hears_54 (lv_at hl 1 rfl) ?_
        refine nv_ialdM (v := nI (rw k)) zC hX (xw_r hr) (by omega) (by omega) rfl dX0_hears_56 ?_
        refine nv_ki zC hX (nv_rS (n := 2) (As := [.int (nI (enX rw k)), .int (nI (rw k))]) (rest := []) zC hX (mx_endWith (e := enX rw k) (c := rw k) (he := (Nat.lt_trans (enX_lt h3 k).2 (by decide))) (hc := (h3 _))) nvGb0 (fun _ _ _ => trivial) q307 q308 q59 q309 (by decide +kernel) rfl ⟨Nat.le_of_ble_eq_true rfl, Nat.le_of_ble_eq_true rfl⟩ hl.1 (Nat.le_of_ble_eq_true rfl) dX0_hears_57 ⟨by first | exact Nat.le_of_ble_eq_true rfl | omega, by first | exact Nat.le_of_ble_eq_true rfl | omega⟩) (fun r u H locs hp hX => ?_)
        have hr_ : r = nI (nxE (enX rw k) (rw k)) := hp
        subst hr_
        have hX : nvS D a0 (xW dA a rn rt trace len (orUp (fun j => hbW kind longOf letters rw words (j + 1)) k) (fstUp (fun j => decide (0 < hbW kind longOf letters rw words (j + 1))) k) (fstUp (fun j => decide (orUp (fun j => hbW kind longOf letters rw words (j + 1)) (j + 1) = 2 ^ words - 1)) k) (sumUp (fun j => popN (hbW kind longOf letters rw words (j + 1))) k) fault row hO farOf rowsN rowsT mcW edW words mcR edR rdgs sh ex) s.heap H locs := hX
        refine W.cs (cells' := 0) (slots' := 0) (Nat.add_zero _) (Nat.add_zero _) ?_
        refine nv_as (show nI (nxE (enX rw k) (rw k)) = nI (enX rw (k + 1)) from rfl) ?_
        refine lv_istore_n (lv' := [(3, .int (nI (enX rw (k + 1)))), (5, .int (nI (hbW kind longOf letters rw words (k + 1)))), (4, .int (nI k)), (0, .ref (a 0)), (1, .ref ra_), (2, .int (nI n))]) zx zb dX0_hears_60 rfl hl (by decide) rfl (fun ls hl => ?_)
        refine lv_aload_n zx zb dX0_hears_61 rfl (lv_at hl 3 rfl) ?_
        refine lv_dup zx zb dX0_hears_62 rfl ?_
        refine nv_get zC hX in_X0 0 rfl rfl 4 (by decide) q135 (fun _ h => h) rfl dX0_hears_63 ?_
        refine lv_iload zx zb dX0_hears_66 (lv_at hl 1 rfl) ?_
        refine nv_ior zx zb dX0_hears_68 ?_
        refine nv_put zC hX in_X0 tyX0 tyX0_ok nmX0 0 rfl rfl 4 (by decide) q135 (fun _ h => h) rfl rfl rfl (Nat.le_of_ble_eq_true rfl) (w' := xW dA a rn rt trace len ((orUp (fun j => hbW kind longOf letters rw words (j + 1)) k) ||| (hbW kind longOf letters rw words (k + 1))) (fstUp (fun j => decide (0 < hbW kind longOf letters rw words (j + 1))) k) (fstUp (fun j => decide (orUp (fun j => hbW kind longOf letters rw words (j + 1)) (j + 1) = 2 ^ words - 1)) k) (sumUp (fun j => popN (hbW kind longOf letters rw words (j + 1))) k) fault row hO farOf rowsN rowsT mcW edW words mcR edR rdgs sh ex) rfl dX0_hears_69 (fun H locs hX => ?_)
        have hX : nvS D a0 (xW dA a rn rt trace len (orUp (fun j => hbW kind longOf letters rw words (j + 1)) (k + 1)) (fstUp (fun j => decide (0 < hbW kind longOf letters rw words (j + 1))) k) (fstUp (fun j => decide (orUp (fun j => hbW kind longOf letters rw words (j + 1)) (j + 1) = 2 ^ words - 1)) k) (sumUp (fun j => popN (hbW kind longOf letters rw words (j + 1))) k) fault row hO farOf rowsN rowsT mcW edW words mcR edR rdgs sh ex) s.heap H locs := by exact hX
        refine lv_aload_n zx zb dX0_hears_72 rfl (lv_at hl 3 rfl) ?_
        refine lv_dup zx zb dX0_hears_73 rfl ?_
        refine nv_get zC hX in_X0 0 rfl rfl 7 (by decide) q138 (fun _ h => h) rfl dX0_hears_74 ?_
        refine lv_iload zx zb dX0_hears_77 (lv_at hl 1 rfl) ?_
        refine nv_ki zC hX (nv_rS (n := 1) (As := [.int (nI (hbW kind longOf letters rw words (k + 1)))]) (rest := [.int (nI (sumUp (fun j => popN (hbW kind longOf letters rw words (j + 1))) k)), .ref (a 0)]) zC hX (mj_bitCount (x := nI (hbW kind longOf letters rw words (k + 1)))) nvGb0 (fun _ _ _ => trivial) q310 q311 q86 q312 (by decide +kernel) rfl ⟨Nat.le_of_ble_eq_true rfl, Nat.le_of_ble_eq_true rfl⟩ hl.1 (Nat.le_of_ble_eq_true rfl) dX0_hears_79 ⟨by first | exact Nat.le_of_ble_eq_true rfl | omega, by first | exact Nat.le_of_ble_eq_true rfl | omega⟩) (fun r u H locs hp hX => ?_)
        have hr_ : r = bcI (nI (hbW kind longOf letters rw words (k + 1))) := hp
        subst hr_
        have hX : nvS D a0 (xW dA a rn rt trace len (orUp (fun j => hbW kind longOf letters rw words (j + 1)) (k + 1)) (fstUp (fun j => decide (0 < hbW kind longOf letters rw words (j + 1))) k) (fstUp (fun j => decide (orUp (fun j => hbW kind longOf letters rw words (j + 1)) (j + 1) = 2 ^ words - 1)) k) (sumUp (fun j => popN (hbW kind longOf letters rw words (j + 1))) k) fault row hO farOf rowsN rowsT mcW edW words mcR edR rdgs sh ex) s.heap H locs := hX
        refine W.cs (cells' := 0) (slots' := 0) (Nat.add_zero _) (Nat.add_zero _) ?_
        refine nv_as (show bcI (nI (hbW kind longOf letters rw words (k + 1))) = nI (popN (hbW kind longOf letters rw words (k + 1))) from (bcI_n _ (hlt k))) ?_
        refine nv_iadd zx zb dX0_hears_82 ?_
        refine nv_put zC hX in_X0 tyX0 tyX0_ok nmX0 0 rfl rfl 7 (by decide) q138 (fun _ h => h) rfl rfl rfl (Nat.le_of_ble_eq_true rfl) (w' := xW dA a rn rt trace len (orUp (fun j => hbW kind longOf letters rw words (j + 1)) (k + 1)) (fstUp (fun j => decide (0 < hbW kind longOf letters rw words (j + 1))) k) (fstUp (fun j => decide (orUp (fun j => hbW kind longOf letters rw words (j + 1)) (j + 1) = 2 ^ words - 1)) k) ((sumUp (fun j => popN (hbW kind longOf letters rw words (j + 1))) k) + (popN (hbW kind longOf letters rw words (k + 1)))) fault row hO farOf rowsN rowsT mcW edW words mcR edR rdgs sh ex) rfl dX0_hears_83 (fun H locs hX => ?_)
        have hX : nvS D a0 (xW dA a rn rt trace len (orUp (fun j => hbW kind longOf letters rw words (j + 1)) (k + 1)) (fstUp (fun j => decide (0 < hbW kind longOf letters rw words (j + 1))) k) (fstUp (fun j => decide (orUp (fun j => hbW kind longOf letters rw words (j + 1)) (j + 1) = 2 ^ words - 1)) k) (sumUp (fun j => popN (hbW kind longOf letters rw words (j + 1))) (k + 1)) fault row hO farOf rowsN rowsT mcW edW words mcR edR rdgs sh ex) s.heap H locs := by exact hX
        refine lv_iconst (v := nI 0) zx zb dX0_hears_86 (by decide) ?_
        refine lv_istore (lv' := [(6, .int (nI 0)), (3, .int (nI (enX rw (k + 1)))), (5, .int (nI (hbW kind longOf letters rw words (k + 1)))), (4, .int (nI k)), (0, .ref (a 0)), (1, .ref ra_), (2, .int (nI n))]) zx zb dX0_hears_87 hl (by decide) rfl (fun ls hl => ?_)
        have L89 : ∀ (zn : Nat) (w : Nat) (hO : Nat → Nat) (hw : w ≤ words) (hO1 : ∀ z, z < w → hO z = tmW kind longOf letters rw (k + 1) z) (hO2 : ∀ z, w ≤ z → z < words → hO z = tmW kind longOf letters rw k z), words - w < zn → ∀ (H : Heap) (locs : List Loc) (ls : Array Slot), nvS D a0 (xW dA a rn rt trace len (orUp (fun j => hbW kind longOf letters rw words (j + 1)) (k + 1)) (fstUp (fun j => decide (0 < hbW kind longOf letters rw words (j + 1))) k) (fstUp (fun j => decide (orUp (fun j => hbW kind longOf letters rw words (j + 1)) (j + 1) = 2 ^ words - 1)) k) (sumUp (fun j => popN (hbW kind longOf letters rw words (j + 1))) (k + 1)) fault row hO farOf rowsN rowsT mcW edW words mcR edR rdgs sh ex) s.heap H locs → lv_has ls 7 [(6, .int (nI w)), (3, .int (nI (enX rw (k + 1)))), (5, .int (nI (hbW kind longOf letters rw words (k + 1)))), (4, .int (nI k)), (0, .ref (a 0)), (1, .ref ra_), (2, .int (nI n))] → W zp l ze (rm_ 6 128 0 0) s zm zar zlo zme zcd H locs 0 0 Q (F0 zm 89 ls []) := by
          intro zn
          induction zn with
          | zero => intro w hO hw hO1 hO2 zf; exact absurd zf (Nat.not_lt_zero _)
          | succ zn ih89 =>
            intro w hO hw hO1 hO2 zf H locs ls hX hl
            refine lv_iload zx zb dX0_hears_89 (lv_at hl 0 rfl) ?_
            refine lv_aload_n zx zb dX0_hears_91 rfl (lv_at hl 4 rfl) ?_
            refine nv_get zC hX in_X0 0 rfl rfl 3 (by decide) q134 (fun _ h => h) rfl dX0_hears_92 ?_
            refine nv_kFi zC hX (nv_rF (q := (RJ2, TJ2, 3)) (x := ⟨"java/util/List", "size", "()I"⟩) (y := yJ2_size) (n := 0) (As := []) (rest := [.int (nI w)]) (q0 := 2) zC hX (mj_size (zh := a 2) (mc := mcW) (ed := edW) (n := words) (hm := (List.mem_of_getElem? (i := 2) rfl))) nvGb0 (fun _ _ _ => trivial) (nvE_f0 zG) rfl rfl q188 q194 q192 q62 q196 (by decide +kernel) rfl ⟨Nat.le_of_ble_eq_true rfl, Nat.le_of_ble_eq_true rfl⟩ hl.1 (Nat.le_of_ble_eq_true rfl) dX0_hears_95 ⟨by first | exact Nat.le_of_ble_eq_true rfl | omega, by first | exact Nat.le_of_ble_eq_true rfl | omega⟩) (fun r u H locs hp hX => ?_)
            have hr_ : r = nI words := hp
            subst hr_
            have hX : nvS D a0 (xW dA a rn rt trace len (orUp (fun j => hbW kind longOf letters rw words (j + 1)) (k + 1)) (fstUp (fun j => decide (0 < hbW kind longOf letters rw words (j + 1))) k) (fstUp (fun j => decide (orUp (fun j => hbW kind longOf letters rw words (j + 1)) (j + 1) = 2 ^ words - 1)) k) (sumUp (fun j => popN (hbW kind longOf letters rw words (j + 1))) (k + 1)) fault row hO farOf rowsN rowsT mcW edW words mcR edR rdgs sh ex) s.heap H locs := hX
            refine W.cs (cells' := 0) (slots' := 0) (Nat.add_zero _) (Nat.add_zero _) ?_
            refine nv_icmp_ge (tgt := 126) zx zb (by omega) (by omega) dX0_hears_100 (by decide) (fun c100 => ?_) (fun c100 => ?_)
            · have J150 : ∀   (H : Heap) (locs : List Loc) (ls : Array Slot), nvS D a0 (xW dA a rn rt trace len (orUp (fun j => hbW kind longOf letters rw words (j + 1)) (k + 1)) (fstUp (fun j => decide (0 < hbW kind longOf letters rw words (j + 1))) k) (fstUp (fun j => decide (orUp (fun j => hbW kind longOf letters rw words (j + 1)) (j + 1) = 2 ^ words - 1)) k) (sumUp (fun j => popN (hbW kind longOf letters rw words (j + 1))) (k + 1)) fault row hO farOf rowsN rowsT mcW edW words mcR edR rdgs sh ex) s.heap H locs → lv_has ls 7 [(6, .int (nI w)), (3, .int (nI (enX rw (k + 1)))), (5, .int (nI (hbW kind longOf letters rw words (k + 1)))), (4, .int (nI k)), (0, .ref (a 0)), (1, .ref ra_), (2, .int (nI n))] → W zp l ze (rm_ 6 128 0 0) s zm zar zlo zme zcd H locs 0 0 Q (F0 zm 150 ls [.int (oI (fstUp (fun j => decide (0 < hbW kind longOf letters rw words (j + 1))) (k + 1))), .ref (a 0)]) := by
                intro   H locs ls hX hl
                refine nv_put zC hX in_X0 tyX0 tyX0_ok nmX0 0 rfl rfl 5 (by decide) q136 (fun _ h => h) rfl rfl rfl (Nat.le_of_ble_eq_true rfl) (w' := xW dA a rn rt trace len (orUp (fun j => hbW kind longOf letters rw words (j + 1)) (k + 1)) (fstUp (fun j => decide (0 < hbW kind longOf letters rw words (j + 1))) (k + 1)) (fstUp (fun j => decide (orUp (fun j => hbW kind longOf letters rw words (j + 1)) (j + 1) = 2 ^ words - 1)) k) (sumUp (fun j => popN (hbW kind longOf letters rw words (j + 1))) (k + 1)) fault row hO farOf rowsN rowsT mcW edW words mcR edR rdgs sh ex) rfl dX0_hears_150 (fun H locs hX => ?_)
                have J183 : ∀   (H : Heap) (locs : List Loc) (ls : Array Slot), nvS D a0 (xW dA a rn rt trace len (orUp (fun j => hbW kind longOf letters rw words (j + 1)) (k + 1)) (fstUp (fun j => decide (0 < hbW kind longOf letters rw words (j + 1))) (k + 1)) (fstUp (fun j => decide (orUp (fun j => hbW kind longOf letters rw words (j + 1)) (j + 1) = 2 ^ words - 1)) k) (sumUp (fun j => popN (hbW kind longOf letters rw words (j + 1))) (k + 1)) fault row hO farOf rowsN rowsT mcW edW words mcR edR rdgs sh ex) s.heap H locs → lv_has ls 7 [(6, .int (nI w)), (3, .int (nI (enX rw (k + 1)))), (5, .int (nI (hbW kind longOf letters rw words (k + 1)))), (4, .int (nI k)), (0, .ref (a 0)), (1, .ref ra_), (2, .int (nI n))] → W zp l ze (rm_ 6 128 0 0) s zm zar zlo zme zcd H locs 0 0 Q (F0 zm 183 ls [.int (oI (fstUp (fun j => decide (orUp (fun j => hbW kind longOf letters rw words (j + 1)) (j + 1) = 2 ^ words - 1)) (k + 1))), .ref (a 0)]) := by
                  intro   H locs ls hX hl
                  refine nv_put zC hX in_X0 tyX0 tyX0_ok nmX0 0 rfl rfl 6 (by decide) q137 (fun _ h => h) rfl rfl rfl (Nat.le_of_ble_eq_true rfl) (w' := xW dA a rn rt trace len (orUp (fun j => hbW kind longOf letters rw words (j + 1)) (k + 1)) (fstUp (fun j => decide (0 < hbW kind longOf letters rw words (j + 1))) (k + 1)) (fstUp (fun j => decide (orUp (fun j => hbW kind longOf letters rw words (j + 1)) (j + 1) = 2 ^ words - 1)) (k + 1)) (sumUp (fun j => popN (hbW kind longOf letters rw words (j + 1))) (k + 1)) fault row hO farOf rowsN rowsT mcW edW words mcR edR rdgs sh ex) rfl dX0_hears_183 (fun H locs hX => ?_)
                  refine lv_iinc (v := nI (k + 1)) (lv' := [(4, .int (nI (k + 1))), (6, .int (nI w)), (3, .int (nI (enX rw (k + 1)))), (5, .int (nI (hbW kind longOf letters rw words (k + 1)))), (0, .ref (a 0)), (1, .ref ra_), (2, .int (nI n))]) zx zb dX0_hears_186 hl (k := 3) rfl (nI_1 _) (by decide) rfl (fun ls hl => ?_)
                  refine lv_goto (tgt := 35) zx zb dX0_hears_189 (by decide) ?_
                  exact ih35 (k + 1) hO (by omega) (fun w hw => hO1 w (by omega)) (by omega) _ _ _ hX (lv_sub hl [0, 2, 4, 5, 6] rfl)
                refine lv_aload_n zx zb dX0_hears_153 rfl (lv_at hl 4 rfl) ?_
                refine lv_aload_n zx zb dX0_hears_154 rfl (lv_at hl 4 rfl) ?_
                refine nv_get zC hX in_X0 0 rfl rfl 6 (by decide) q137 (fun _ h => h) rfl dX0_hears_155 ?_
                obtain hfo | ⟨v_, hfo⟩ : fstUp (fun j => decide (orUp (fun j => hbW kind longOf letters rw words (j + 1)) (j + 1) = 2 ^ words - 1)) k = none ∨ ∃ v_, fstUp (fun j => decide (orUp (fun j => hbW kind longOf letters rw words (j + 1)) (j + 1) = 2 ^ words - 1)) k = some v_ := by cases fstUp (fun j => decide (orUp (fun j => hbW kind longOf letters rw words (j + 1)) (j + 1) = 2 ^ words - 1)) k <;> simp
                · refine nv_as (show oI (fstUp (fun j => decide (orUp (fun j => hbW kind longOf letters rw words (j + 1)) (j + 1) = 2 ^ words - 1)) k) = -9 from by rw [hfo]; rfl) ?_
                  refine lv_if_ge (x := (-9)) (tgt := 179) zx zb dX0_hears_158 (by decide) (fun c158 => ?_) (fun c158 => ?_)
                  · exact absurd c158 (by decide)
                  · refine lv_aload_n zx zb dX0_hears_161 rfl (lv_at hl 4 rfl) ?_
                    refine nv_get zC hX in_X0 0 rfl rfl 4 (by decide) q135 (fun _ h => h) rfl dX0_hears_162 ?_
                    refine lv_aload_n zx zb dX0_hears_165 rfl (lv_at hl 4 rfl) ?_
                    refine nv_ki zC hX (nv_rV (n := 0) (As := []) (rest := [.int (nI (orUp (fun j => hbW kind longOf letters rw words (j + 1)) (k + 1))), .ref (a 0)]) (q0 := 0) zC hX (mx_everyWord (hw := (by first | assumption | omega))) (nvE_b a0 ez) (nvE_keep zG hX) rfl rfl q316 q318 qs3 q59 q319 (by decide +kernel) rfl ⟨Nat.le_of_ble_eq_true rfl, Nat.le_of_ble_eq_true rfl⟩ hl.1 (Nat.le_of_ble_eq_true rfl) dX0_hears_166 ⟨by first | exact Nat.le_of_ble_eq_true rfl | omega, by first | exact Nat.le_of_ble_eq_true rfl | omega⟩) (fun r u H locs hp hX => ?_)
                    have hr_ : r = nI (2 ^ words - 1) := hp
                    subst hr_
                    have hX : nvS D a0 (xW dA a rn rt trace len (orUp (fun j => hbW kind longOf letters rw words (j + 1)) (k + 1)) (fstUp (fun j => decide (0 < hbW kind longOf letters rw words (j + 1))) (k + 1)) (fstUp (fun j => decide (orUp (fun j => hbW kind longOf letters rw words (j + 1)) (j + 1) = 2 ^ words - 1)) k) (sumUp (fun j => popN (hbW kind longOf letters rw words (j + 1))) (k + 1)) fault row hO farOf rowsN rowsT mcW edW words mcR edR rdgs sh ex) s.heap H locs := hX
                    refine W.cs (cells' := 0) (slots' := 0) (Nat.add_zero _) (Nat.add_zero _) ?_
                    refine nv_icmp_ne (tgt := 179) zx zb (Nat.lt_of_lt_of_le (orUp_lt (m := 4) (fun k => hlt k) _) (by decide)) (Nat.lt_of_le_of_lt (Nat.sub_le _ _) (Nat.lt_of_le_of_lt (pw4 hw4) (by decide))) dX0_hears_169 (by decide) (fun c169 => ?_) (fun c169 => ?_)
                    · refine lv_aload_n zx zb dX0_hears_179 rfl (lv_at hl 4 rfl) ?_
                      refine nv_get zC hX in_X0 0 rfl rfl 6 (by decide) q137 (fun _ h => h) rfl dX0_hears_180 ?_
                      refine nv_as (show oI (fstUp (fun j => decide (orUp (fun j => hbW kind longOf letters rw words (j + 1)) (j + 1) = 2 ^ words - 1)) k) = oI (fstUp (fun j => decide (orUp (fun j => hbW kind longOf letters rw words (j + 1)) (j + 1) = 2 ^ words - 1)) (k + 1)) from (congrArg oI (by rw [fstUp_n hfo (decide_eq_false c169), hfo]))) ?_
                      exact J183   _ _ _ hX (lv_sub hl [0, 1, 2, 3, 4, 5, 6] rfl)
                    · refine lv_iload zx zb dX0_hears_172 (lv_at hl 3 rfl) ?_
                      refine lv_iconst (v := nI 1) zx zb dX0_hears_174 (by decide) ?_
                      refine nv_iadd zx zb dX0_hears_175 ?_
                      refine lv_goto (tgt := 183) zx zb dX0_hears_176 (by decide) ?_
                      refine nv_as (show nI (k + 1) = oI (fstUp (fun j => decide (orUp (fun j => hbW kind longOf letters rw words (j + 1)) (j + 1) = 2 ^ words - 1)) (k + 1)) from (by rw [fstUp_t hfo (decide_eq_true c169)]; rfl)) ?_
                      exact J183   _ _ _ hX (lv_sub hl [0, 1, 2, 3, 4, 5, 6] rfl)
                · refine nv_as (show oI (fstUp (fun j => decide (orUp (fun j => hbW kind longOf letters rw words (j + 1)) (j + 1) = 2 ^ words - 1)) k) = nI v_ from by rw [hfo]; rfl) ?_
                  have hv_ : v_ < 2 ^ 31 := (by have := fstUp_le hfo; omega)
                  refine nv_if_ge (tgt := 179) zx zb hv_ dX0_hears_158 (by decide) ?_
                  refine lv_aload_n zx zb dX0_hears_179 rfl (lv_at hl 4 rfl) ?_
                  refine nv_get zC hX in_X0 0 rfl rfl 6 (by decide) q137 (fun _ h => h) rfl dX0_hears_180 ?_
                  refine nv_as (show oI (fstUp (fun j => decide (orUp (fun j => hbW kind longOf letters rw words (j + 1)) (j + 1) = 2 ^ words - 1)) k) = oI (fstUp (fun j => decide (orUp (fun j => hbW kind longOf letters rw words (j + 1)) (j + 1) = 2 ^ words - 1)) (k + 1)) from (congrArg oI (by rw [fstUp_m hfo (Nat.le_succ k), hfo]))) ?_
                  exact J183   _ _ _ hX (lv_sub hl [0, 1, 2, 3, 4, 5, 6] rfl)
              refine lv_aload_n zx zb dX0_hears_126 rfl (lv_at hl 4 rfl) ?_
              refine lv_aload_n zx zb dX0_hears_127 rfl (lv_at hl 4 rfl) ?_
              refine nv_get zC hX in_X0 0 rfl rfl 5 (by decide) q136 (fun _ h => h) rfl dX0_hears_128 ?_
              obtain hfo | ⟨v_, hfo⟩ : fstUp (fun j => decide (0 < hbW kind longOf letters rw words (j + 1))) k = none ∨ ∃ v_, fstUp (fun j => decide (0 < hbW kind longOf letters rw words (j + 1))) k = some v_ := by cases fstUp (fun j => decide (0 < hbW kind longOf letters rw words (j + 1))) k <;> simp
              · refine nv_as (show oI (fstUp (fun j => decide (0 < hbW kind longOf letters rw words (j + 1))) k) = -9 from by rw [hfo]; rfl) ?_
                refine lv_if_ge (x := (-9)) (tgt := 146) zx zb dX0_hears_131 (by decide) (fun c131 => ?_) (fun c131 => ?_)
                · exact absurd c131 (by decide)
                · refine lv_iload zx zb dX0_hears_134 (lv_at hl 2 rfl) ?_
                  refine nv_if_eq (tgt := 146) zx zb (Nat.lt_trans (hlt k) (by decide)) dX0_hears_136 (by decide) (fun c136 => ?_) (fun c136 => ?_)
                  · refine lv_aload_n zx zb dX0_hears_146 rfl (lv_at hl 4 rfl) ?_
                    refine nv_get zC hX in_X0 0 rfl rfl 5 (by decide) q136 (fun _ h => h) rfl dX0_hears_147 ?_
                    refine nv_as (show oI (fstUp (fun j => decide (0 < hbW kind longOf letters rw words (j + 1))) k) = oI (fstUp (fun j => decide (0 < hbW kind longOf letters rw words (j + 1))) (k + 1)) from (congrArg oI (by rw [fstUp_n hfo (decide_eq_false (by omega)), hfo]))) ?_
                    exact J150   _ _ _ hX (lv_sub hl [0, 1, 2, 3, 4, 5, 6] rfl)
                  · refine lv_iload zx zb dX0_hears_139 (lv_at hl 3 rfl) ?_
                    refine lv_iconst (v := nI 1) zx zb dX0_hears_141 (by decide) ?_
                    refine nv_iadd zx zb dX0_hears_142 ?_
                    refine lv_goto (tgt := 150) zx zb dX0_hears_143 (by decide) ?_
                    refine nv_as (show nI (k + 1) = oI (fstUp (fun j => decide (0 < hbW kind longOf letters rw words (j + 1))) (k + 1)) from (by rw [fstUp_t hfo (decide_eq_true c136)]; rfl)) ?_
                    exact J150   _ _ _ hX (lv_sub hl [0, 1, 2, 3, 4, 5, 6] rfl)
              · refine nv_as (show oI (fstUp (fun j => decide (0 < hbW kind longOf letters rw words (j + 1))) k) = nI v_ from by rw [hfo]; rfl) ?_
                have hv_ : v_ < 2 ^ 31 := (by have := fstUp_le hfo; omega)
                refine nv_if_ge (tgt := 146) zx zb hv_ dX0_hears_131 (by decide) ?_
                refine lv_aload_n zx zb dX0_hears_146 rfl (lv_at hl 4 rfl) ?_
                refine nv_get zC hX in_X0 0 rfl rfl 5 (by decide) q136 (fun _ h => h) rfl dX0_hears_147 ?_
                refine nv_as (show oI (fstUp (fun j => decide (0 < hbW kind longOf letters rw words (j + 1))) k) = oI (fstUp (fun j => decide (0 < hbW kind longOf letters rw words (j + 1))) (k + 1)) from (congrArg oI (by rw [fstUp_m hfo (Nat.le_succ k), hfo]))) ?_
                exact J150   _ _ _ hX (lv_sub hl [0, 1, 2, 3, 4, 5, 6] rfl)
            · refine lv_aload_n zx zb dX0_hears_103 rfl (lv_at hl 4 rfl) ?_
              refine nv_get zC hX in_X0 0 rfl rfl 8 (by decide) q139 (fun _ h => h) rfl dX0_hears_104 ?_
              refine lv_iload zx zb dX0_hears_107 (lv_at hl 0 rfl) ?_
              refine lv_dup2_11 zx zb dX0_hears_109 rfl rfl ?_
              refine nv_iald (v := nI (hO w)) zC hX 3 rfl (by omega) (by decide) rfl dX0_hears_110 ?_
              refine lv_iload zx zb dX0_hears_111 (lv_at hl 2 rfl) ?_
              refine lv_iload zx zb dX0_hears_113 (lv_at hl 0 rfl) ?_
              refine nv_ishr zx zb (Nat.lt_trans (hlt k) (by decide)) (by omega) dX0_hears_115 ?_
              refine lv_iconst (v := nI 1) zx zb dX0_hears_116 (by decide) ?_
              refine nv_iand1 zx zb (Nat.lt_of_le_of_lt (Nat.div_le_self _ _) (Nat.lt_trans (hlt k) (by decide))) dX0_hears_117 ?_
              refine nv_iadd zx zb dX0_hears_118 ?_
              refine nv_iast zC hX 3 rfl (by omega) (by decide) (nF_up _ _ _) (w' := xW dA a rn rt trace len (orUp (fun j => hbW kind longOf letters rw words (j + 1)) (k + 1)) (fstUp (fun j => decide (0 < hbW kind longOf letters rw words (j + 1))) k) (fstUp (fun j => decide (orUp (fun j => hbW kind longOf letters rw words (j + 1)) (j + 1) = 2 ^ words - 1)) k) (sumUp (fun j => popN (hbW kind longOf letters rw words (j + 1))) (k + 1)) fault row (va_up hO w ((hO w) + (((hbW kind longOf letters rw words (k + 1)) / 2 ^ w) % 2))) farOf rowsN rowsT mcW edW words mcR edR rdgs sh ex) rfl dX0_hears_119 (fun H locs hX => ?_)
              refine lv_iinc (v := nI (w + 1)) (lv' := [(6, .int (nI (w + 1))), (3, .int (nI (enX rw (k + 1)))), (5, .int (nI (hbW kind longOf letters rw words (k + 1)))), (4, .int (nI k)), (0, .ref (a 0)), (1, .ref ra_), (2, .int (nI n))]) zx zb dX0_hears_120 hl (k := 0) rfl (nI_1 _) (by decide) rfl (fun ls hl => ?_)
              refine lv_goto (tgt := 89) zx zb dX0_hears_123 (by decide) ?_
              exact ih89 (w + 1) (va_up hO w ((hO w) + (((hbW kind longOf letters rw words (k + 1)) / 2 ^ w) % 2))) (by omega) (fun z hz => by
                by_cases e_ : z = w
                · rw [e_, va_up_self, hO2 w (Nat.le_refl _) c100, bitsUp_d c100]; exact cntUp_b.symm
                · rw [va_up_ne _ _ e_]; exact hO1 z (by omega)) (fun z hz hz2 => by rw [va_up_ne _ _ (by omega)]; exact hO2 z (by omega) hz2) (by omega) _ _ _ hX (lv_sub hl [0, 1, 2, 3, 4, 5, 6] rfl)
        exact L89 _ 0 hO (by omega) (fun z h => absurd h (Nat.not_lt_zero _)) (fun z _ h => hO1 z h) (Nat.lt_succ_self _) _ _ _ hX (lv_sub hl [0, 1, 2, 3, 4, 5, 6] rfl)
  exact L35 _ 0 (fun _ => 0) (by omega) (fun w _ => rfl) (Nat.lt_succ_self _) _ _ _ hX (lv_sub hl [0, 1, 2, 3, 4] rfl)
end CL_38_c4
