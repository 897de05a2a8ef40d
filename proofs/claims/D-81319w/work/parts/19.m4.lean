/-! THE MODEL: contracts, printed by tools/model.py -/
set_option maxRecDepth 100000
section
variable {l : Launch} {D : va_G} {dA : Nat → ClassId} {a0 : Nat} {a : Nat → Nat} {ex : va_W} {fault : Int32} {trace : Int32} {sorts : Nat → Option Nat} {shL : Nat → Nat} {cells : Nat → Int32} {words : Nat} {said : Nat} {kind : Nat → Nat} {longOf : Nat → Nat} {letters : Nat → Nat} {saidRow : Nat → Nat} {at_ : Nat} {rdW : Nat} {rKind : Nat → Option Nat} {rLong : Nat → Nat} {rLet : Nat → Nat} {looked : Nat → Nat} {lkL : Nat} {next : Nat → Nat} {heard : Nat → Nat} {far : Nat → Option Nat} {ways : Nat → Nat} {waysT : Nat → Nat} {free : Nat → Nat} {freeT : Nat → Nat} {rdgs : Nat} {rWord : Nat → Nat} {rMany : Nat → Nat} {rStands : Nat → Nat} {rRow : Nat → Nat}
set_option maxHeartbeats 4000000 in
theorem mm_against  (sheet : Nat) (sort : Int32) (i : Int32) (n : Int32) (hso : ∀ q v, sorts q = some v → v < 3) (hsl : ∀ q, shL q ≤ 60) (hsh : sheet < 4) : nMt l D dA a0 yX1_against cX1_against 5 (some .int) 1 12 0 0 nvG0 [.ref (a 0), .int (nI sheet), .int sort, .int i, .int n] (mW dA a fault trace sorts shL cells words said kind longOf letters saidRow at_ rdW rKind rLong rLet looked lkL next heard far ways waysT free freeT rdgs rWord rMany rStands rRow ex) (nQi D a0 (fun (r : Int32) (_ : Unit) => r = nI (agN sorts shL sheet sort i n)) (fun (_ : Unit) => mW dA a fault trace sorts shL cells words said kind longOf letters saidRow at_ rdW rKind rLong rLet looked lkL next heard far ways waysT free freeT rdgs rWord rMany rStands rRow ex)) := by
  refine nv_start (by decide) (Nat.le_of_ble_eq_true rfl) fun zp ze s zm zlo zme zcd ls zC zr zk znm hX zG hl => ?_
  have zx := zC.1
  have zb := zC.2.1
  generalize zargs : ([.ref (a 0), .int (nI sheet), .int sort, .int i, .int n] : List Value).toArray = zar at zC ⊢
  generalize zQ : MQ zlo _ zar s _ _ _ = Q
  have hX : nvS D a0 (mW dA a fault trace sorts shL cells words said kind longOf letters saidRow at_ rdW rKind rLong rLet looked lkL next heard far ways waysT free freeT rdgs rWord rMany rStands rRow ex) s.heap s.heap [] := hX
  have hl : lv_has ls 5 [(0, .ref (a 0)), (1, .int (nI sheet)), (2, .int sort), (3, .int i), (4, .int n)] := hl
  obtain ⟨H, zH⟩ : ∃ H, H = s.heap := ⟨_, rfl⟩
  have hX : nvS D a0 (mW dA a fault trace sorts shL cells words said kind longOf letters saidRow at_ rdW rKind rLong rLet looked lkL next heard far ways waysT free freeT rdgs rWord rMany rStands rRow ex) s.heap H [] := by rw [zH]; exact hX
  rw [show W zp l ze (rm_ 1 12 0 0) s zm zar zlo zme zcd s.heap [] 0 0 Q = W zp l ze (rm_ 1 12 0 0) s zm zar zlo zme zcd H [] 0 0 Q by rw [zH]]
  generalize ([] : List Loc) = locs at hX ⊢
  refine lv_aload_n zx zb dX1_against_0 rfl (lv_at hl 0 rfl) ?_
  refine nv_get zC hX in_X1 0 rfl rfl 2 (by decide) q1194 (fun _ h => h) rfl dX1_against_1 ?_
  refine lv_iload_n zx zb dX1_against_4 rfl (lv_at hl 1 rfl) ?_
  refine nv_iald (v := oI (sorts sheet)) zC hX 1 rfl (by omega) (by decide) rfl dX1_against_5 ?_
  refine lv_bipush (v := (-9)) zx zb dX1_against_6 (by decide) ?_
  refine lv_icmp_eq (x := oI (sorts sheet)) (y := (-9)) (tgt := 23) zx zb dX1_against_8 (by decide) (fun c8 => ?_) (fun c8 => ?_)
  · have c8 : sorts sheet = none := (oI_n (fun v h => Nat.lt_trans (hso _ v h) (by decide))).mp c8
    refine lv_aload_n zx zb dX1_against_23 rfl (lv_at hl 0 rfl) ?_
    refine nv_get zC hX in_X1 0 rfl rfl 2 (by decide) q1194 (fun _ h => h) rfl dX1_against_24 ?_
    refine lv_iload_n zx zb dX1_against_27 rfl (lv_at hl 1 rfl) ?_
    refine nv_iald (v := oI (sorts sheet)) zC hX 1 rfl (by omega) (by decide) rfl dX1_against_28 ?_
    refine lv_bipush (v := (-9)) zx zb dX1_against_29 (by decide) ?_
    refine lv_icmp_ne (x := oI (sorts sheet)) (y := (-9)) (tgt := 36) zx zb dX1_against_31 (by decide) (fun c31 => ?_) (fun c31 => ?_)
    · have c31 : sorts sheet ≠ none := fun z => c31 ((oI_n (fun v h => Nat.lt_trans (hso _ v h) (by decide))).mpr z)
      refine lv_iload zx zb dX1_against_36 (lv_at hl 4 rfl) ?_
      refine lv_if_ge (x := n) (tgt := 43) zx zb dX1_against_38 (by decide) (fun c38 => ?_) (fun c38 => ?_)
      · refine lv_iload_n zx zb dX1_against_43 rfl (lv_at hl 3 rfl) ?_
        refine lv_if_lt (x := i) (tgt := 70) zx zb dX1_against_44 (by decide) (fun c44 => ?_) (fun c44 => ?_)
        · refine lv_iconst (v := nI 3) zx zb dX1_against_70 (by decide) ?_
          refine lv_goto (tgt := 75) zx zb dX1_against_71 (by decide) ?_
          rw [← zQ]
          exact nv_endi zC zr zk () hX (by unfold agN; rw [if_neg (fun z => z.1 c8), if_neg c31, if_neg (Int32.not_lt.mpr c38), if_pos (Or.inl c44)]) (by omega) (by omega) dX1_against_75
        · refine lv_iload_n zx zb dX1_against_47 rfl (lv_at hl 3 rfl) ?_
          refine lv_aload_n zx zb dX1_against_48 rfl (lv_at hl 0 rfl) ?_
          refine nv_get zC hX in_X1 0 rfl rfl 3 (by decide) q1195 (fun _ h => h) rfl dX1_against_49 ?_
          refine lv_iload_n zx zb dX1_against_52 rfl (lv_at hl 1 rfl) ?_
          refine nv_iald (v := nI (shL sheet)) zC hX 2 rfl (by omega) (by decide) rfl dX1_against_53 ?_
          refine lv_icmp_gt (x := i) (y := nI (shL sheet)) (tgt := 70) zx zb dX1_against_54 (by decide) (fun c54 => ?_) (fun c54 => ?_)
          · refine lv_iconst (v := nI 3) zx zb dX1_against_70 (by decide) ?_
            refine lv_goto (tgt := 75) zx zb dX1_against_71 (by decide) ?_
            rw [← zQ]
            exact nv_endi zC zr zk () hX (by unfold agN; rw [if_neg (fun z => z.1 c8), if_neg c31, if_neg (Int32.not_lt.mpr c38), if_pos (Or.inr (Or.inl c54))]) (by omega) (by omega) dX1_against_75
          · refine lv_iload zx zb dX1_against_57 (lv_at hl 4 rfl) ?_
            refine lv_aload_n zx zb dX1_against_59 rfl (lv_at hl 0 rfl) ?_
            refine nv_get zC hX in_X1 0 rfl rfl 3 (by decide) q1195 (fun _ h => h) rfl dX1_against_60 ?_
            refine lv_iload_n zx zb dX1_against_63 rfl (lv_at hl 1 rfl) ?_
            refine nv_iald (v := nI (shL sheet)) zC hX 2 rfl (by omega) (by decide) rfl dX1_against_64 ?_
            refine lv_iload_n zx zb dX1_against_65 rfl (lv_at hl 3 rfl) ?_
            refine lv_isub zx zb dX1_against_66 ?_
            refine lv_icmp_le (x := n) (y := (nI (shL sheet)) - i) (tgt := 74) zx zb dX1_against_67 (by decide) (fun c67 => ?_) (fun c67 => ?_)
            · refine lv_iconst (v := nI 0) zx zb dX1_against_74 (by decide) ?_
              rw [← zQ]
              exact nv_endi zC zr zk () hX (by unfold agN; rw [if_neg (fun z => z.1 c8), if_neg c31, if_neg (Int32.not_lt.mpr c38), if_neg (fun z => z.elim c44 (fun z => z.elim c54 (fun z => absurd c67 (Int32.not_le.mpr z))))]) (by omega) (by omega) dX1_against_75
            · refine lv_iconst (v := nI 3) zx zb dX1_against_70 (by decide) ?_
              refine lv_goto (tgt := 75) zx zb dX1_against_71 (by decide) ?_
              rw [← zQ]
              exact nv_endi zC zr zk () hX (by unfold agN; rw [if_neg (fun z => z.1 c8), if_neg c31, if_neg (Int32.not_lt.mpr c38), if_pos (Or.inr (Or.inr (Int32.not_le.mp c67)))]) (by omega) (by omega) dX1_against_75
      · refine lv_iconst (v := nI 4) zx zb dX1_against_41 (by decide) ?_
        rw [← zQ]
        exact nv_endi zC zr zk () hX (by unfold agN; rw [if_neg (fun z => z.1 c8), if_neg c31, if_pos (Int32.not_le.mp c38)]) (by omega) (by omega) dX1_against_42
    · have c31 : sorts sheet = none := (oI_n (fun v h => Nat.lt_trans (hso _ v h) (by decide))).mp c31
      refine lv_iconst (v := nI 1) zx zb dX1_against_34 (by decide) ?_
      rw [← zQ]
      exact nv_endi zC zr zk () hX (by unfold agN; rw [if_neg (fun z => z.1 c8), if_pos c31]) (by omega) (by omega) dX1_against_35
  · have c8 : sorts sheet ≠ none := fun z => c8 ((oI_n (fun v h => Nat.lt_trans (hso _ v h) (by decide))).mpr z)
    refine lv_aload_n zx zb dX1_against_11 rfl (lv_at hl 0 rfl) ?_
    refine nv_get zC hX in_X1 0 rfl rfl 2 (by decide) q1194 (fun _ h => h) rfl dX1_against_12 ?_
    refine lv_iload_n zx zb dX1_against_15 rfl (lv_at hl 1 rfl) ?_
    refine nv_iald (v := oI (sorts sheet)) zC hX 1 rfl (by omega) (by decide) rfl dX1_against_16 ?_
    refine lv_iload_n zx zb dX1_against_17 rfl (lv_at hl 2 rfl) ?_
    refine lv_icmp_eq (x := oI (sorts sheet)) (y := sort) (tgt := 23) zx zb dX1_against_18 (by decide) (fun c18 => ?_) (fun c18 => ?_)
    · refine lv_aload_n zx zb dX1_against_23 rfl (lv_at hl 0 rfl) ?_
      refine nv_get zC hX in_X1 0 rfl rfl 2 (by decide) q1194 (fun _ h => h) rfl dX1_against_24 ?_
      refine lv_iload_n zx zb dX1_against_27 rfl (lv_at hl 1 rfl) ?_
      refine nv_iald (v := oI (sorts sheet)) zC hX 1 rfl (by omega) (by decide) rfl dX1_against_28 ?_
      refine lv_bipush (v := (-9)) zx zb dX1_against_29 (by decide) ?_
      refine lv_icmp_ne (x := oI (sorts sheet)) (y := (-9)) (tgt := 36) zx zb dX1_against_31 (by decide) (fun c31 => ?_) (fun c31 => ?_)
      · have c31 : sorts sheet ≠ none := fun z => c31 ((oI_n (fun v h => Nat.lt_trans (hso _ v h) (by decide))).mpr z)
        refine lv_iload zx zb dX1_against_36 (lv_at hl 4 rfl) ?_
        refine lv_if_ge (x := n) (tgt := 43) zx zb dX1_against_38 (by decide) (fun c38 => ?_) (fun c38 => ?_)
        · refine lv_iload_n zx zb dX1_against_43 rfl (lv_at hl 3 rfl) ?_
          refine lv_if_lt (x := i) (tgt := 70) zx zb dX1_against_44 (by decide) (fun c44 => ?_) (fun c44 => ?_)
          · refine lv_iconst (v := nI 3) zx zb dX1_against_70 (by decide) ?_
            refine lv_goto (tgt := 75) zx zb dX1_against_71 (by decide) ?_
            rw [← zQ]
            exact nv_endi zC zr zk () hX (by unfold agN; rw [if_neg (fun z => z.2 c18), if_neg c31, if_neg (Int32.not_lt.mpr c38), if_pos (Or.inl c44)]) (by omega) (by omega) dX1_against_75
          · refine lv_iload_n zx zb dX1_against_47 rfl (lv_at hl 3 rfl) ?_
            refine lv_aload_n zx zb dX1_against_48 rfl (lv_at hl 0 rfl) ?_
            refine nv_get zC hX in_X1 0 rfl rfl 3 (by decide) q1195 (fun _ h => h) rfl dX1_against_49 ?_
            refine lv_iload_n zx zb dX1_against_52 rfl (lv_at hl 1 rfl) ?_
            refine nv_iald (v := nI (shL sheet)) zC hX 2 rfl (by omega) (by decide) rfl dX1_against_53 ?_
            refine lv_icmp_gt (x := i) (y := nI (shL sheet)) (tgt := 70) zx zb dX1_against_54 (by decide) (fun c54 => ?_) (fun c54 => ?_)
            · refine lv_iconst (v := nI 3) zx zb dX1_against_70 (by decide) ?_
              refine lv_goto (tgt := 75) zx zb dX1_against_71 (by decide) ?_
              rw [← zQ]
              exact nv_endi zC zr zk () hX (by unfold agN; rw [if_neg (fun z => z.2 c18), if_neg c31, if_neg (Int32.not_lt.mpr c38), if_pos (Or.inr (Or.inl c54))]) (by omega) (by omega) dX1_against_75
            · refine lv_iload zx zb dX1_against_57 (lv_at hl 4 rfl) ?_
              refine lv_aload_n zx zb dX1_against_59 rfl (lv_at hl 0 rfl) ?_
              refine nv_get zC hX in_X1 0 rfl rfl 3 (by decide) q1195 (fun _ h => h) rfl dX1_against_60 ?_
              refine lv_iload_n zx zb dX1_against_63 rfl (lv_at hl 1 rfl) ?_
              refine nv_iald (v := nI (shL sheet)) zC hX 2 rfl (by omega) (by decide) rfl dX1_against_64 ?_
              refine lv_iload_n zx zb dX1_against_65 rfl (lv_at hl 3 rfl) ?_
              refine lv_isub zx zb dX1_against_66 ?_
              refine lv_icmp_le (x := n) (y := (nI (shL sheet)) - i) (tgt := 74) zx zb dX1_against_67 (by decide) (fun c67 => ?_) (fun c67 => ?_)
              · refine lv_iconst (v := nI 0) zx zb dX1_against_74 (by decide) ?_
                rw [← zQ]
                exact nv_endi zC zr zk () hX (by unfold agN; rw [if_neg (fun z => z.2 c18), if_neg c31, if_neg (Int32.not_lt.mpr c38), if_neg (fun z => z.elim c44 (fun z => z.elim c54 (fun z => absurd c67 (Int32.not_le.mpr z))))]) (by omega) (by omega) dX1_against_75
              · refine lv_iconst (v := nI 3) zx zb dX1_against_70 (by decide) ?_
                refine lv_goto (tgt := 75) zx zb dX1_against_71 (by decide) ?_
                rw [← zQ]
                exact nv_endi zC zr zk () hX (by unfold agN; rw [if_neg (fun z => z.2 c18), if_neg c31, if_neg (Int32.not_lt.mpr c38), if_pos (Or.inr (Or.inr (Int32.not_le.mp c67)))]) (by omega) (by omega) dX1_against_75
        · refine lv_iconst (v := nI 4) zx zb dX1_against_41 (by decide) ?_
          rw [← zQ]
          exact nv_endi zC zr zk () hX (by unfold agN; rw [if_neg (fun z => z.2 c18), if_neg c31, if_pos (Int32.not_le.mp c38)]) (by omega) (by omega) dX1_against_42
      · have c31 : sorts sheet = none := (oI_n (fun v h => Nat.lt_trans (hso _ v h) (by decide))).mp c31
        refine lv_iconst (v := nI 1) zx zb dX1_against_34 (by decide) ?_
        rw [← zQ]
        exact nv_endi zC zr zk () hX (by unfold agN; rw [if_neg (fun z => z.2 c18), if_pos c31]) (by omega) (by omega) dX1_against_35
    · refine lv_iconst (v := nI 2) zx zb dX1_against_21 (by decide) ?_
      rw [← zQ]
      exact nv_endi zC zr zk () hX (by unfold agN; rw [if_pos ⟨c8, c18⟩]) (by omega) (by omega) dX1_against_22

set_option maxHeartbeats 4000000 in
theorem mm_trace    : nMt l D dA a0 yX1_trace cX1_trace 1 (some .int) 1 12 0 0 nvG0 [.ref (a 0)] (mW dA a fault trace sorts shL cells words said kind longOf letters saidRow at_ rdW rKind rLong rLet looked lkL next heard far ways waysT free freeT rdgs rWord rMany rStands rRow ex) (nQi D a0 (fun (r : Int32) (_ : Unit) => r = trace) (fun (_ : Unit) => mW dA a fault trace sorts shL cells words said kind longOf letters saidRow at_ rdW rKind rLong rLet looked lkL next heard far ways waysT free freeT rdgs rWord rMany rStands rRow ex)) := by
  refine nv_start (by decide) (Nat.le_of_ble_eq_true rfl) fun zp ze s zm zlo zme zcd ls zC zr zk znm hX zG hl => ?_
  have zx := zC.1
  have zb := zC.2.1
  generalize zargs : ([.ref (a 0)] : List Value).toArray = zar at zC ⊢
  generalize zQ : MQ zlo _ zar s _ _ _ = Q
  have hX : nvS D a0 (mW dA a fault trace sorts shL cells words said kind longOf letters saidRow at_ rdW rKind rLong rLet looked lkL next heard far ways waysT free freeT rdgs rWord rMany rStands rRow ex) s.heap s.heap [] := hX
  have hl : lv_has ls 1 [(0, .ref (a 0))] := hl
  obtain ⟨H, zH⟩ : ∃ H, H = s.heap := ⟨_, rfl⟩
  have hX : nvS D a0 (mW dA a fault trace sorts shL cells words said kind longOf letters saidRow at_ rdW rKind rLong rLet looked lkL next heard far ways waysT free freeT rdgs rWord rMany rStands rRow ex) s.heap H [] := by rw [zH]; exact hX
  rw [show W zp l ze (rm_ 1 12 0 0) s zm zar zlo zme zcd s.heap [] 0 0 Q = W zp l ze (rm_ 1 12 0 0) s zm zar zlo zme zcd H [] 0 0 Q by rw [zH]]
  generalize ([] : List Loc) = locs at hX ⊢
  refine lv_aload_n zx zb dX1_trace_0 rfl (lv_at hl 0 rfl) ?_
  refine nv_get zC hX in_X1 0 rfl rfl 1 (by decide) q1193 (fun _ h => h) rfl dX1_trace_1 ?_
  rw [← zQ]
  exact nv_endi zC zr zk () hX (by first | rfl | trivial) (by omega) (by omega) dX1_trace_4

set_option maxHeartbeats 4000000 in
theorem mm_fault    : nMt l D dA a0 yX1_fault cX1_fault 1 (some .int) 1 12 0 0 nvG0 [.ref (a 0)] (mW dA a fault trace sorts shL cells words said kind longOf letters saidRow at_ rdW rKind rLong rLet looked lkL next heard far ways waysT free freeT rdgs rWord rMany rStands rRow ex) (nQi D a0 (fun (r : Int32) (_ : Unit) => r = fault) (fun (_ : Unit) => mW dA a fault trace sorts shL cells words said kind longOf letters saidRow at_ rdW rKind rLong rLet looked lkL next heard far ways waysT free freeT rdgs rWord rMany rStands rRow ex)) := by
  refine nv_start (by decide) (Nat.le_of_ble_eq_true rfl) fun zp ze s zm zlo zme zcd ls zC zr zk znm hX zG hl => ?_
  have zx := zC.1
  have zb := zC.2.1
  generalize zargs : ([.ref (a 0)] : List Value).toArray = zar at zC ⊢
  generalize zQ : MQ zlo _ zar s _ _ _ = Q
  have hX : nvS D a0 (mW dA a fault trace sorts shL cells words said kind longOf letters saidRow at_ rdW rKind rLong rLet looked lkL next heard far ways waysT free freeT rdgs rWord rMany rStands rRow ex) s.heap s.heap [] := hX
  have hl : lv_has ls 1 [(0, .ref (a 0))] := hl
  obtain ⟨H, zH⟩ : ∃ H, H = s.heap := ⟨_, rfl⟩
  have hX : nvS D a0 (mW dA a fault trace sorts shL cells words said kind longOf letters saidRow at_ rdW rKind rLong rLet looked lkL next heard far ways waysT free freeT rdgs rWord rMany rStands rRow ex) s.heap H [] := by rw [zH]; exact hX
  rw [show W zp l ze (rm_ 1 12 0 0) s zm zar zlo zme zcd s.heap [] 0 0 Q = W zp l ze (rm_ 1 12 0 0) s zm zar zlo zme zcd H [] 0 0 Q by rw [zH]]
  generalize ([] : List Loc) = locs at hX ⊢
  refine lv_aload_n zx zb dX1_fault_0 rfl (lv_at hl 0 rfl) ?_
  refine nv_get zC hX in_X1 0 rfl rfl 0 (by decide) q1192 (fun _ h => h) rfl dX1_fault_1 ?_
  rw [← zQ]
  exact nv_endi zC zr zk () hX (by first | rfl | trivial) (by omega) (by omega) dX1_fault_4

set_option maxHeartbeats 4000000 in
theorem mm_row  (sheet : Int32) (sort : Int32) (i : Int32) (n : Int32) (what : Int32) (hok : mOK words kind longOf letters) (hlk : ∀ j, looked j < 3) (hso : ∀ q v, sorts q = some v → v < 3) (hsl : ∀ q, shL q ≤ 60) : nMt l D dA a0 yX1_row cX1_row 8 (some .int) 5 108 0 0 nvG0 [.ref (a 0), .int sheet, .int sort, .int i, .int n, .int what] (mW dA a fault trace sorts shL cells words said kind longOf letters saidRow at_ rdW rKind rLong rLet looked lkL next heard far ways waysT free freeT rdgs rWord rMany rStands rRow ex) (nQi D a0 (fun (r : Int32) (u : Int32 × (Nat → Nat) × Nat) => r = F_row sorts shL cells words kind longOf letters sheet sort i n what ∧ u.1 = nI (g_row sorts shL sheet sort i n what) ∧ (∀ z, u.2.1 z < 3)) (fun (u : Int32 × (Nat → Nat) × Nat) => mW dA a u.1 trace sorts shL cells words said kind longOf letters saidRow at_ rdW rKind rLong rLet u.2.1 u.2.2 next heard far ways waysT free freeT rdgs rWord rMany rStands rRow ex)) := by
  refine nv_start (by decide) (Nat.le_of_ble_eq_true rfl) fun zp ze s zm zlo zme zcd ls zC zr zk znm hX zG hl => ?_
  have zx := zC.1
  have zb := zC.2.1
  generalize zargs : ([.ref (a 0), .int sheet, .int sort, .int i, .int n, .int what] : List Value).toArray = zar at zC ⊢
  generalize zQ : MQ zlo _ zar s _ _ _ = Q
  have hX : nvS D a0 (mW dA a fault trace sorts shL cells words said kind longOf letters saidRow at_ rdW rKind rLong rLet looked lkL next heard far ways waysT free freeT rdgs rWord rMany rStands rRow ex) s.heap s.heap [] := hX
  have hl : lv_has ls 8 [(0, .ref (a 0)), (1, .int sheet), (2, .int sort), (3, .int i), (4, .int n), (5, .int what)] := hl
  obtain ⟨H, zH⟩ : ∃ H, H = s.heap := ⟨_, rfl⟩
  have hX : nvS D a0 (mW dA a fault trace sorts shL cells words said kind longOf letters saidRow at_ rdW rKind rLong rLet looked lkL next heard far ways waysT free freeT rdgs rWord rMany rStands rRow ex) s.heap H [] := by rw [zH]; exact hX
  rw [show W zp l ze (rm_ 5 108 0 0) s zm zar zlo zme zcd s.heap [] 0 0 Q = W zp l ze (rm_ 5 108 0 0) s zm zar zlo zme zcd H [] 0 0 Q by rw [zH]]
  generalize ([] : List Loc) = locs at hX ⊢
  have hw4 := hok.1
  have hlt := hok.2.2.2
  refine lv_aload_n zx zb dX1_row_0 rfl (lv_at hl 0 rfl) ?_
  refine lv_iconst (v := nI 0) zx zb dX1_row_1 (by decide) ?_
  refine nv_put zC hX in_X1 tyX1 tyX1_ok nmX1 0 rfl rfl 0 (by decide) q1192 (fun _ h => h) rfl rfl rfl (Nat.le_of_ble_eq_true rfl) (w' := mW dA a (nI 0) trace sorts shL cells words said kind longOf letters saidRow at_ rdW rKind rLong rLet looked lkL next heard far ways waysT free freeT rdgs rWord rMany rStands rRow ex) rfl dX1_row_2 (fun H locs hX => ?_)
  refine lv_iload_n zx zb dX1_row_5 rfl (lv_at hl 1 rfl) ?_
  refine nv_ki zC hX (nv_rS (n := 1) (As := [.int sheet]) (rest := []) zC hX (mm_isSheet (v := sheet)) nvGb0 (fun _ _ _ => trivial) q1287 q1288 q63 q1289 (by decide +kernel) rfl ⟨Nat.le_of_ble_eq_true rfl, Nat.le_of_ble_eq_true rfl⟩ hl.1 (Nat.le_of_ble_eq_true rfl) dX1_row_6 ⟨by first | exact Nat.le_of_ble_eq_true rfl | omega, by first | exact Nat.le_of_ble_eq_true rfl | omega⟩) (fun r u H locs hp hX => ?_)
  have hr_ : r = nB (inN sheet 0 3) := hp
  subst hr_
  have hX : nvS D a0 (mW dA a (nI 0) trace sorts shL cells words said kind longOf letters saidRow at_ rdW rKind rLong rLet looked lkL next heard far ways waysT free freeT rdgs rWord rMany rStands rRow ex) s.heap H locs := hX
  refine W.cs (cells' := 0) (slots' := 0) (Nat.add_zero _) (Nat.add_zero _) ?_
  refine nv_if_neB (tgt := 14) zx zb dX1_row_9 (by decide) (fun c9 => ?_) (fun c9 => ?_)
  · obtain ⟨sh, -, hsh, rfl⟩ := inN_t (by decide) (by decide) c9
    have esh : i2n (nI sh) = sh := nI_clamp (by omega)
    refine lv_iload_n zx zb dX1_row_14 rfl (lv_at hl 2 rfl) ?_
    refine nv_ki zC hX (nv_rS (n := 1) (As := [.int sort]) (rest := []) zC hX (mm_isSort (v := sort)) nvGb0 (fun _ _ _ => trivial) q1293 q1294 q63 q1295 (by decide +kernel) rfl ⟨Nat.le_of_ble_eq_true rfl, Nat.le_of_ble_eq_true rfl⟩ hl.1 (Nat.le_of_ble_eq_true rfl) dX1_row_15 ⟨by first | exact Nat.le_of_ble_eq_true rfl | omega, by first | exact Nat.le_of_ble_eq_true rfl | omega⟩) (fun r u H locs hp hX => ?_)
    have hr_ : r = nB (inN sort 0 2) := hp
    subst hr_
    have hX : nvS D a0 (mW dA a (nI 0) trace sorts shL cells words said kind longOf letters saidRow at_ rdW rKind rLong rLet looked lkL next heard far ways waysT free freeT rdgs rWord rMany rStands rRow ex) s.heap H locs := hX
    refine W.cs (cells' := 0) (slots' := 0) (Nat.add_zero _) (Nat.add_zero _) ?_
    refine nv_if_eqB (tgt := 54) zx zb dX1_row_18 (by decide) (fun c18 => ?_) (fun c18 => ?_)
    · refine lv_bipush (v := (-2)) zx zb dX1_row_54 (by decide) ?_
      rw [← zQ]
      exact nv_endi zC zr zk (nI 0, looked, lkL) hX (by (try dsimp only); have h0 : okRow (nI sh) sort n what = false := (by unfold okRow; simp [c18]); exact ⟨by unfold F_row; rw [h0, if_neg (by decide), c9, if_pos rfl], by unfold g_row; rw [h0]; rfl, hlk⟩) (by omega) (by omega) dX1_row_56
    · refine lv_iload zx zb dX1_row_21 (lv_at hl 4 rfl) ?_
      refine lv_iconst (v := nI 0) zx zb dX1_row_23 (by decide) ?_
      refine lv_bipush (v := nI 40) zx zb dX1_row_24 (by decide) ?_
      refine nv_ki zC hX (nv_rS (n := 3) (As := [.int n, .int (nI 0), .int (nI 40)]) (rest := []) zC hX (mm_within (v := n) (lo := nI 0) (hi := nI 40)) nvGb0 (fun _ _ _ => trivial) q1290 q1291 q63 q1292 (by decide +kernel) rfl ⟨Nat.le_of_ble_eq_true rfl, Nat.le_of_ble_eq_true rfl⟩ hl.1 (Nat.le_of_ble_eq_true rfl) dX1_row_26 ⟨by first | exact Nat.le_of_ble_eq_true rfl | omega, by first | exact Nat.le_of_ble_eq_true rfl | omega⟩) (fun r u H locs hp hX => ?_)
      have hr_ : r = nB (inN n 0 40) := hp
      subst hr_
      have hX : nvS D a0 (mW dA a (nI 0) trace sorts shL cells words said kind longOf letters saidRow at_ rdW rKind rLong rLet looked lkL next heard far ways waysT free freeT rdgs rWord rMany rStands rRow ex) s.heap H locs := hX
      refine W.cs (cells' := 0) (slots' := 0) (Nat.add_zero _) (Nat.add_zero _) ?_
      refine nv_if_eqB (tgt := 54) zx zb dX1_row_29 (by decide) (fun c29 => ?_) (fun c29 => ?_)
      · refine lv_bipush (v := (-2)) zx zb dX1_row_54 (by decide) ?_
        rw [← zQ]
        exact nv_endi zC zr zk (nI 0, looked, lkL) hX (by (try dsimp only); have h0 : okRow (nI sh) sort n what = false := (by unfold okRow; simp [c18, c29]); exact ⟨by unfold F_row; rw [h0, if_neg (by decide), c9, if_pos rfl], by unfold g_row; rw [h0]; rfl, hlk⟩) (by omega) (by omega) dX1_row_56
      · refine lv_iload zx zb dX1_row_32 (lv_at hl 5 rfl) ?_
        refine lv_iconst (v := nI 0) zx zb dX1_row_34 (by decide) ?_
        refine lv_iconst (v := nI 3) zx zb dX1_row_35 (by decide) ?_
        refine nv_ki zC hX (nv_rS (n := 3) (As := [.int what, .int (nI 0), .int (nI 3)]) (rest := []) zC hX (mm_within (v := what) (lo := nI 0) (hi := nI 3)) nvGb0 (fun _ _ _ => trivial) q1290 q1291 q63 q1292 (by decide +kernel) rfl ⟨Nat.le_of_ble_eq_true rfl, Nat.le_of_ble_eq_true rfl⟩ hl.1 (Nat.le_of_ble_eq_true rfl) dX1_row_36 ⟨by first | exact Nat.le_of_ble_eq_true rfl | omega, by first | exact Nat.le_of_ble_eq_true rfl | omega⟩) (fun r u H locs hp hX => ?_)
        have hr_ : r = nB (inN what 0 3) := hp
        subst hr_
        have hX : nvS D a0 (mW dA a (nI 0) trace sorts shL cells words said kind longOf letters saidRow at_ rdW rKind rLong rLet looked lkL next heard far ways waysT free freeT rdgs rWord rMany rStands rRow ex) s.heap H locs := hX
        refine W.cs (cells' := 0) (slots' := 0) (Nat.add_zero _) (Nat.add_zero _) ?_
        refine nv_if_neB (tgt := 57) zx zb dX1_row_39 (by decide) (fun c39 => ?_) (fun c39 => ?_)
        · obtain ⟨q, -, hq, rfl⟩ := inN_t (by decide) (by decide) c39
          have h0 : okRow (nI sh) sort n (nI q) = true := by unfold okRow; simp [c9, c18, c29, c39]
          have hgr : g_row sorts shL (nI sh) sort i n (nI q) = agN sorts shL sh sort i n := by unfold g_row; rw [h0, esh]; rfl
          refine lv_aload_n zx zb dX1_row_57 rfl (lv_at hl 0 rfl) ?_
          refine lv_iload_n zx zb dX1_row_58 rfl (lv_at hl 1 rfl) ?_
          refine lv_iload_n zx zb dX1_row_59 rfl (lv_at hl 2 rfl) ?_
          refine lv_iload_n zx zb dX1_row_60 rfl (lv_at hl 3 rfl) ?_
          refine lv_iload zx zb dX1_row_61 (lv_at hl 4 rfl) ?_
          refine nv_ki zC hX (nv_rV (n := 4) (As := [.int (nI sh), .int sort, .int i, .int n]) (rest := []) (q0 := 0) zC hX (mm_against (sheet := sh) (sort := sort) (i := i) (n := n) (hso := (by first | assumption | omega)) (hsl := (by first | assumption | omega)) (hsh := (by first | assumption | omega))) nvGb0 (fun _ _ _ => trivial) rfl rfl q1296 q1298 qs29 q63 q1299 (by decide +kernel) rfl ⟨Nat.le_of_ble_eq_true rfl, Nat.le_of_ble_eq_true rfl⟩ hl.1 (Nat.le_of_ble_eq_true rfl) dX1_row_63 ⟨by first | exact Nat.le_of_ble_eq_true rfl | omega, by first | exact Nat.le_of_ble_eq_true rfl | omega⟩) (fun r u H locs hp hX => ?_)
          have hr_ : r = nI (agN sorts shL sh sort i n) := hp
          subst hr_
          have hX : nvS D a0 (mW dA a (nI 0) trace sorts shL cells words said kind longOf letters saidRow at_ rdW rKind rLong rLet looked lkL next heard far ways waysT free freeT rdgs rWord rMany rStands rRow ex) s.heap H locs := hX
          refine W.cs (cells' := 0) (slots' := 0) (Nat.add_zero _) (Nat.add_zero _) ?_
          refine lv_istore (lv' := [(6, .int (nI (agN sorts shL sh sort i n))), (0, .ref (a 0)), (1, .int (nI sh)), (2, .int sort), (3, .int i), (4, .int n), (5, .int (nI q))]) zx zb dX1_row_66 hl (by decide) rfl (fun ls hl => ?_)
          refine lv_iload zx zb dX1_row_68 (lv_at hl 0 rfl) ?_
          refine nv_if_eq (tgt := 80) zx zb (Nat.lt_trans (agN_lt _ _ _ _ _ _) (by decide)) dX1_row_70 (by decide) (fun c70 => ?_) (fun c70 => ?_)
          · obtain ⟨ii, nn, rfl, rfl, hin, -, -⟩ := agN_0 (hsl _) c70
            have hl := lv_sub hl [1, 2, 3, 4, 5, 6] rfl
            have hsl_ := hsl sh
            have ei : i2n (nI ii) = ii := nI_clamp (by omega)
            have en : i2n (nI nn) = nn := nI_clamp (by omega)
            refine lv_aload_n zx zb dX1_row_80 rfl (lv_at hl 0 rfl) ?_
            refine nv_get zC hX in_X1 0 rfl rfl 5 (by decide) q1197 (fun _ h => h) rfl dX1_row_81 ?_
            refine nv_if_ne (tgt := 90) zx zb (by omega) dX1_row_84 (by decide) (fun c84 => ?_) (fun c84 => ?_)
            · refine lv_bipush (v := nI 60) zx zb dX1_row_90 (by decide) ?_
              refine lv_iload_n zx zb dX1_row_92 rfl (lv_at hl 1 rfl) ?_
              refine nv_imul zx zb dX1_row_93 ?_
              refine lv_iload_n zx zb dX1_row_94 rfl (lv_at hl 3 rfl) ?_
              refine nv_iadd zx zb dX1_row_95 ?_
              refine lv_istore (lv' := [(7, .int (nI ((60 * sh) + ii))), (0, .ref (a 0)), (1, .int (nI sh)), (2, .int sort), (3, .int (nI ii)), (4, .int (nI nn)), (5, .int (nI q))]) zx zb dX1_row_96 hl (by decide) rfl (fun ls hl => ?_)
              refine lv_aload_n zx zb dX1_row_98 rfl (lv_at hl 1 rfl) ?_
              refine lv_iload zx zb dX1_row_99 (lv_at hl 0 rfl) ?_
              refine lv_iload zx zb dX1_row_101 (lv_at hl 5 rfl) ?_
              refine nv_ki zC hX (nv_rV (n := 2) (As := [.int (nI ((60 * sh) + ii)), .int (nI nn)]) (rest := []) (q0 := 0) zC hX (mm_areLetters (i := (60 * sh) + ii) (n := nn) (hi := (by first | assumption | omega))) nvGb0 (fun _ _ _ => trivial) rfl rfl q1364 q1366 qs41 q63 q1367 (by decide +kernel) rfl ⟨Nat.le_of_ble_eq_true rfl, Nat.le_of_ble_eq_true rfl⟩ hl.1 (Nat.le_of_ble_eq_true rfl) dX1_row_103 ⟨by first | exact Nat.le_of_ble_eq_true rfl | omega, by first | exact Nat.le_of_ble_eq_true rfl | omega⟩) (fun r u H locs hp hX => ?_)
              have hr_ : r = nB (decide (∀ j, j < nn → inN (cells (((60 * sh) + ii) + j)) 0 2 = true)) := hp
              subst hr_
              have hX : nvS D a0 (mW dA a (nI 0) trace sorts shL cells words said kind longOf letters saidRow at_ rdW rKind rLong rLet looked lkL next heard far ways waysT free freeT rdgs rWord rMany rStands rRow ex) s.heap H locs := hX
              refine W.cs (cells' := 0) (slots' := 0) (Nat.add_zero _) (Nat.add_zero _) ?_
              refine nv_if_neB (tgt := 112) zx zb dX1_row_106 (by decide) (fun c106 => ?_) (fun c106 => ?_)
              · obtain ⟨hr1, hr2⟩ := alB_v c106
                have hF : F_row sorts shL cells words kind longOf letters (nI sh) sort (nI ii) (nI nn) (nI q) = F_look words kind longOf letters (rwC cells (60 * sh + ii) nn) nn (nI q) := by unfold F_row; rw [h0, if_pos rfl, hgr, if_neg (by omega), if_neg (by omega), esh, ei, en, if_pos (show alB cells (60 * sh + ii) nn = true from c106)]
                refine lv_aload_n zx zb dX1_row_112 rfl (lv_at hl 1 rfl) ?_
                refine lv_iload zx zb dX1_row_113 (lv_at hl 0 rfl) ?_
                refine lv_iload zx zb dX1_row_115 (lv_at hl 5 rfl) ?_
                refine nv_kv zC hX (nv_rV (n := 2) (As := [.int (nI ((60 * sh) + ii)), .int (nI nn)]) (rest := []) (q0 := 0) zC hX (mm_lookAtCells (i := (60 * sh) + ii) (n := nn) (rw_ := (rwC cells (60 * sh + ii) nn)) (hlk := (by first | assumption | omega)) (hi := (by first | assumption | omega)) (hn := (by first | assumption | omega)) (hrw := hr1) (hce := hr2)) nvGb0 (fun _ _ _ => trivial) rfl rfl q1368 q1370 qs42 q63 q1371 (by decide +kernel) rfl ⟨Nat.le_of_ble_eq_true rfl, Nat.le_of_ble_eq_true rfl⟩ hl.1 (Nat.le_of_ble_eq_true rfl) dX1_row_117 ⟨by first | exact Nat.le_of_ble_eq_true rfl | omega, by first | exact Nat.le_of_ble_eq_true rfl | omega⟩) (fun u H locs hp hX => ?_)
                obtain ⟨looked'_7, rfl⟩ : ∃ z, z = u := ⟨_, rfl⟩
                have h117 : (∀ j, j < nn → looked'_7 j = (rwC cells (60 * sh + ii) nn) j) ∧ (∀ j, looked'_7 j < 3) := hp
                have hX : nvS D a0 (mW dA a (nI 0) trace sorts shL cells words said kind longOf letters saidRow at_ rdW rKind rLong rLet looked'_7 nn next heard far ways waysT free freeT rdgs rWord rMany rStands rRow ex) s.heap H locs := hX
                refine W.cs (cells' := 0) (slots' := 0) (Nat.add_zero _) (Nat.add_zero _) ?_
                obtain ⟨hl1, hl2⟩ := h117
                refine lv_iload zx zb dX1_row_120 (lv_at hl 6 rfl) ?_
                refine lv_bipush (v := nI 10) zx zb dX1_row_122 (by decide) ?_
                refine nv_icmp_lt (tgt := 154) zx zb (by omega) (by omega) dX1_row_124 (by decide) (fun c124 => ?_) (fun c124 => ?_)
                · refine lv_iload zx zb dX1_row_154 (lv_at hl 6 rfl) ?_
                  refine nv_if_ne (tgt := 166) zx zb (by omega) dX1_row_156 (by decide) (fun c156 => ?_) (fun c156 => ?_)
                  · refine lv_iload zx zb dX1_row_166 (lv_at hl 6 rfl) ?_
                    refine lv_iconst (v := nI 3) zx zb dX1_row_168 (by decide) ?_
                    refine nv_icmp_ne (tgt := 179) zx zb (by omega) (by omega) dX1_row_169 (by decide) (fun c169 => ?_) (fun c169 => ?_)
                    · refine lv_aload_n zx zb dX1_row_179 rfl (lv_at hl 1 rfl) ?_
                      refine lv_iload zx zb dX1_row_180 (lv_at hl 6 rfl) ?_
                      refine lv_iconst (v := nI 1) zx zb dX1_row_182 (by decide) ?_
                      refine nv_icmp_ne (tgt := 190) zx zb (by omega) (by omega) dX1_row_183 (by decide) (fun c183 => ?_) (fun c183 => ?_)
                      · refine lv_iconst (v := nI 0) zx zb dX1_row_190 (by decide) ?_
                        refine nv_as (show nI 0 = nB false from (nB_as0 rfl)) ?_
                        refine nv_ki zC hX (nv_rV (n := 1) (As := [.int (nB false)]) (rest := []) (q0 := 0) zC hX (mm_heardBy (any_ := false) (hok := (by first | assumption | omega)) (hlk := (by first | assumption | omega)) (hll := (by first | assumption | omega))) nvGb0 (fun _ _ _ => trivial) rfl rfl q1380 q1382 qs45 q63 q1383 (by decide +kernel) rfl ⟨Nat.le_of_ble_eq_true rfl, Nat.le_of_ble_eq_true rfl⟩ hl.1 (Nat.le_of_ble_eq_true rfl) dX1_row_191 ⟨by first | exact Nat.le_of_ble_eq_true rfl | omega, by first | exact Nat.le_of_ble_eq_true rfl | omega⟩) (fun r u H locs hp hX => ?_)
                        have hr_ : r = oI (fstUp (fun k => (false && decide (0 < orUp (fun j => hbW kind longOf letters looked'_7 words (j + 1)) (k + 1))) || decide (orUp (fun j => hbW kind longOf letters looked'_7 words (j + 1)) (k + 1) = 2 ^ words - 1)) nn) := hp
                        subst hr_
                        have hX : nvS D a0 (mW dA a (nI 0) trace sorts shL cells words said kind longOf letters saidRow at_ rdW rKind rLong rLet looked'_7 nn next heard far ways waysT free freeT rdgs rWord rMany rStands rRow ex) s.heap H locs := hX
                        refine W.cs (cells' := 0) (slots' := 0) (Nat.add_zero _) (Nat.add_zero _) ?_
                        rw [← zQ]
                        exact nv_endi zC zr zk (nI 0, looked'_7, nn) hX (by (try dsimp only); refine ⟨?_, by rw [hgr, c70], hl2⟩; rw [hF, F_look_s hq, if_neg (by omega), if_neg c169, decide_eq_false c183]; exact congrArg oI (fbP_cg hl1)) (by omega) (by omega) dX1_row_194
                      · refine lv_iconst (v := nI 1) zx zb dX1_row_186 (by decide) ?_
                        refine lv_goto (tgt := 191) zx zb dX1_row_187 (by decide) ?_
                        refine nv_as (show nI 1 = nB true from (nB_as1 rfl)) ?_
                        refine nv_ki zC hX (nv_rV (n := 1) (As := [.int (nB true)]) (rest := []) (q0 := 0) zC hX (mm_heardBy (any_ := true) (hok := (by first | assumption | omega)) (hlk := (by first | assumption | omega)) (hll := (by first | assumption | omega))) nvGb0 (fun _ _ _ => trivial) rfl rfl q1380 q1382 qs45 q63 q1383 (by decide +kernel) rfl ⟨Nat.le_of_ble_eq_true rfl, Nat.le_of_ble_eq_true rfl⟩ hl.1 (Nat.le_of_ble_eq_true rfl) dX1_row_191 ⟨by first | exact Nat.le_of_ble_eq_true rfl | omega, by first | exact Nat.le_of_ble_eq_true rfl | omega⟩) (fun r u H locs hp hX => ?_)
                        have hr_ : r = oI (fstUp (fun k => (true && decide (0 < orUp (fun j => hbW kind longOf letters looked'_7 words (j + 1)) (k + 1))) || decide (orUp (fun j => hbW kind longOf letters looked'_7 words (j + 1)) (k + 1) = 2 ^ words - 1)) nn) := hp
                        subst hr_
                        have hX : nvS D a0 (mW dA a (nI 0) trace sorts shL cells words said kind longOf letters saidRow at_ rdW rKind rLong rLet looked'_7 nn next heard far ways waysT free freeT rdgs rWord rMany rStands rRow ex) s.heap H locs := hX
                        refine W.cs (cells' := 0) (slots' := 0) (Nat.add_zero _) (Nat.add_zero _) ?_
                        rw [← zQ]
                        exact nv_endi zC zr zk (nI 0, looked'_7, nn) hX (by (try dsimp only); refine ⟨?_, by rw [hgr, c70], hl2⟩; rw [hF, F_look_s hq, if_neg (by omega), if_neg c169, decide_eq_true c183]; exact congrArg oI (fbP_cg hl1)) (by omega) (by omega) dX1_row_194
                    · refine lv_aload_n zx zb dX1_row_172 rfl (lv_at hl 1 rfl) ?_
                      refine nv_ki zC hX (nv_rV (n := 0) (As := []) (rest := []) (q0 := 0) zC hX (mm_allHeard (hok := (by first | assumption | omega)) (hlk := (by first | assumption | omega)) (hll := (by first | assumption | omega))) nvGb0 (fun _ _ _ => trivial) rfl rfl q1376 q1378 qs44 q63 q1379 (by decide +kernel) rfl ⟨Nat.le_of_ble_eq_true rfl, Nat.le_of_ble_eq_true rfl⟩ hl.1 (Nat.le_of_ble_eq_true rfl) dX1_row_173 ⟨by first | exact Nat.le_of_ble_eq_true rfl | omega, by first | exact Nat.le_of_ble_eq_true rfl | omega⟩) (fun r u H locs hp hX => ?_)
                      have hr_ : r = nI (sumUp (fun w => tmW kind longOf letters looked'_7 nn w) words) := hp
                      subst hr_
                      have hX : nvS D a0 (mW dA a (nI 0) trace sorts shL cells words said kind longOf letters saidRow at_ rdW rKind rLong rLet looked'_7 nn next heard far ways waysT free freeT rdgs rWord rMany rStands rRow ex) s.heap H locs := hX
                      refine W.cs (cells' := 0) (slots' := 0) (Nat.add_zero _) (Nat.add_zero _) ?_
                      refine lv_goto (tgt := 194) zx zb dX1_row_176 (by decide) ?_
                      rw [← zQ]
                      exact nv_endi zC zr zk (nI 0, looked'_7, nn) hX (by (try dsimp only); refine ⟨?_, by rw [hgr, c70], hl2⟩; rw [hF, F_look_s hq, if_neg (by omega), if_pos c169]; exact congrArg nI (sumUp_cg fun w _ => tmW_cg hl1)) (by omega) (by omega) dX1_row_194
                  · refine lv_aload_n zx zb dX1_row_159 rfl (lv_at hl 1 rfl) ?_
                    refine nv_ki zC hX (nv_rV (n := 0) (As := []) (rest := []) (q0 := 0) zC hX (mm_standing (hok := (by first | assumption | omega)) (hlk := (by first | assumption | omega)) (hll := (by first | assumption | omega))) nvGb0 (fun _ _ _ => trivial) rfl rfl q1372 q1374 qs43 q63 q1375 (by decide +kernel) rfl ⟨Nat.le_of_ble_eq_true rfl, Nat.le_of_ble_eq_true rfl⟩ hl.1 (Nat.le_of_ble_eq_true rfl) dX1_row_160 ⟨by first | exact Nat.le_of_ble_eq_true rfl | omega, by first | exact Nat.le_of_ble_eq_true rfl | omega⟩) (fun r u H locs hp hX => ?_)
                    have hr_ : r = nI (bitsUp (fun w => decide (0 < tmW kind longOf letters looked'_7 nn w)) words) := hp
                    subst hr_
                    have hX : nvS D a0 (mW dA a (nI 0) trace sorts shL cells words said kind longOf letters saidRow at_ rdW rKind rLong rLet looked'_7 nn next heard far ways waysT free freeT rdgs rWord rMany rStands rRow ex) s.heap H locs := hX
                    refine W.cs (cells' := 0) (slots' := 0) (Nat.add_zero _) (Nat.add_zero _) ?_
                    refine lv_goto (tgt := 194) zx zb dX1_row_163 (by decide) ?_
                    rw [← zQ]
                    exact nv_endi zC zr zk (nI 0, looked'_7, nn) hX (by (try dsimp only); refine ⟨?_, by rw [hgr, c70], hl2⟩; rw [hF, F_look_s hq, if_pos c156]; exact congrArg nI (bitsUp_cg fun w _ => congrArg (fun z => decide (0 < z)) (tmW_cg hl1))) (by omega) (by omega) dX1_row_194
                · omega
              · refine lv_bipush (v := (-2)) zx zb dX1_row_109 (by decide) ?_
                rw [← zQ]
                exact nv_endi zC zr zk (nI 0, looked, lkL) hX (by (try dsimp only); refine ⟨?_, by rw [hgr, c70], hlk⟩; unfold F_row; rw [h0, if_pos rfl, hgr, if_neg (by omega), if_neg (by omega), esh, ei, en, if_neg (fun z => absurd (z.symm.trans c106) (by decide))]) (by omega) (by omega) dX1_row_111
            · refine lv_bipush (v := (-3)) zx zb dX1_row_87 (by decide) ?_
              rw [← zQ]
              exact nv_endi zC zr zk (nI 0, looked, lkL) hX (by (try dsimp only); refine ⟨?_, by rw [hgr, c70], hlk⟩; unfold F_row; rw [h0, if_pos rfl, hgr, if_neg (by omega), if_pos c84]) (by omega) (by omega) dX1_row_89
          · refine lv_aload_n zx zb dX1_row_73 rfl (lv_at hl 1 rfl) ?_
            refine lv_iload zx zb dX1_row_74 (lv_at hl 0 rfl) ?_
            refine nv_ki zC hX (nv_rV (n := 1) (As := [.int (nI (agN sorts shL sh sort i n))]) (rest := []) (q0 := 0) zC hX (mm_fails (k := agN sorts shL sh sort i n)) nvGb0 (fun _ _ _ => trivial) rfl rfl q1300 q1302 qs30 q63 q1303 (by decide +kernel) rfl ⟨Nat.le_of_ble_eq_true rfl, Nat.le_of_ble_eq_true rfl⟩ hl.1 (Nat.le_of_ble_eq_true rfl) dX1_row_76 ⟨by first | exact Nat.le_of_ble_eq_true rfl | omega, by first | exact Nat.le_of_ble_eq_true rfl | omega⟩) (fun r u H locs hp hX => ?_)
            have hr_ : r = (-10) - nI (agN sorts shL sh sort i n) := hp
            subst hr_
            have hX : nvS D a0 (mW dA a (nI (agN sorts shL sh sort i n)) trace sorts shL cells words said kind longOf letters saidRow at_ rdW rKind rLong rLet looked lkL next heard far ways waysT free freeT rdgs rWord rMany rStands rRow ex) s.heap H locs := hX
            refine W.cs (cells' := 0) (slots' := 0) (Nat.add_zero _) (Nat.add_zero _) ?_
            rw [← zQ]
            exact nv_endi zC zr zk (nI (agN sorts shL sh sort i n), looked, lkL) hX (by (try dsimp only); refine ⟨?_, by rw [hgr], hlk⟩; unfold F_row; rw [h0, if_pos rfl, hgr, if_pos (by omega)]) (by omega) (by omega) dX1_row_79
        · refine lv_iload zx zb dX1_row_42 (lv_at hl 5 rfl) ?_
          refine lv_bipush (v := nI 10) zx zb dX1_row_44 (by decide) ?_
          refine lv_bipush (v := nI 13) zx zb dX1_row_46 (by decide) ?_
          refine nv_ki zC hX (nv_rS (n := 3) (As := [.int what, .int (nI 10), .int (nI 13)]) (rest := []) zC hX (mm_within (v := what) (lo := nI 10) (hi := nI 13)) nvGb0 (fun _ _ _ => trivial) q1290 q1291 q63 q1292 (by decide +kernel) rfl ⟨Nat.le_of_ble_eq_true rfl, Nat.le_of_ble_eq_true rfl⟩ hl.1 (Nat.le_of_ble_eq_true rfl) dX1_row_48 ⟨by first | exact Nat.le_of_ble_eq_true rfl | omega, by first | exact Nat.le_of_ble_eq_true rfl | omega⟩) (fun r u H locs hp hX => ?_)
          have hr_ : r = nB (inN what 10 13) := hp
          subst hr_
          have hX : nvS D a0 (mW dA a (nI 0) trace sorts shL cells words said kind longOf letters saidRow at_ rdW rKind rLong rLet looked lkL next heard far ways waysT free freeT rdgs rWord rMany rStands rRow ex) s.heap H locs := hX
          refine W.cs (cells' := 0) (slots' := 0) (Nat.add_zero _) (Nat.add_zero _) ?_
          refine nv_if_neB (tgt := 57) zx zb dX1_row_51 (by decide) (fun c51 => ?_) (fun c51 => ?_)
          · obtain ⟨q, hq0, hq, rfl⟩ := inN_t (by decide) (by decide) c51
            have h0 : okRow (nI sh) sort n (nI q) = true := by unfold okRow; simp [c9, c18, c29, c51]
            have hgr : g_row sorts shL (nI sh) sort i n (nI q) = agN sorts shL sh sort i n := by unfold g_row; rw [h0, esh]; rfl
            refine lv_aload_n zx zb dX1_row_57 rfl (lv_at hl 0 rfl) ?_
            refine lv_iload_n zx zb dX1_row_58 rfl (lv_at hl 1 rfl) ?_
            refine lv_iload_n zx zb dX1_row_59 rfl (lv_at hl 2 rfl) ?_
            refine lv_iload_n zx zb dX1_row_60 rfl (lv_at hl 3 rfl) ?_
            refine lv_iload zx zb dX1_row_61 (lv_at hl 4 rfl) ?_
            refine nv_ki zC hX (nv_rV (n := 4) (As := [.int (nI sh), .int sort, .int i, .int n]) (rest := []) (q0 := 0) zC hX (mm_against (sheet := sh) (sort := sort) (i := i) (n := n) (hso := (by first | assumption | omega)) (hsl := (by first | assumption | omega)) (hsh := (by first | assumption | omega))) nvGb0 (fun _ _ _ => trivial) rfl rfl q1296 q1298 qs29 q63 q1299 (by decide +kernel) rfl ⟨Nat.le_of_ble_eq_true rfl, Nat.le_of_ble_eq_true rfl⟩ hl.1 (Nat.le_of_ble_eq_true rfl) dX1_row_63 ⟨by first | exact Nat.le_of_ble_eq_true rfl | omega, by first | exact Nat.le_of_ble_eq_true rfl | omega⟩) (fun r u H locs hp hX => ?_)
            have hr_ : r = nI (agN sorts shL sh sort i n) := hp
            subst hr_
            have hX : nvS D a0 (mW dA a (nI 0) trace sorts shL cells words said kind longOf letters saidRow at_ rdW rKind rLong rLet looked lkL next heard far ways waysT free freeT rdgs rWord rMany rStands rRow ex) s.heap H locs := hX
            refine W.cs (cells' := 0) (slots' := 0) (Nat.add_zero _) (Nat.add_zero _) ?_
            refine lv_istore (lv' := [(6, .int (nI (agN sorts shL sh sort i n))), (0, .ref (a 0)), (1, .int (nI sh)), (2, .int sort), (3, .int i), (4, .int n), (5, .int (nI q))]) zx zb dX1_row_66 hl (by decide) rfl (fun ls hl => ?_)
            refine lv_iload zx zb dX1_row_68 (lv_at hl 0 rfl) ?_
            refine nv_if_eq (tgt := 80) zx zb (Nat.lt_trans (agN_lt _ _ _ _ _ _) (by decide)) dX1_row_70 (by decide) (fun c70 => ?_) (fun c70 => ?_)
            · obtain ⟨ii, nn, rfl, rfl, hin, -, -⟩ := agN_0 (hsl _) c70
              have hl := lv_sub hl [1, 2, 3, 4, 5, 6] rfl
              have hsl_ := hsl sh
              have ei : i2n (nI ii) = ii := nI_clamp (by omega)
              have en : i2n (nI nn) = nn := nI_clamp (by omega)
              refine lv_aload_n zx zb dX1_row_80 rfl (lv_at hl 0 rfl) ?_
              refine nv_get zC hX in_X1 0 rfl rfl 5 (by decide) q1197 (fun _ h => h) rfl dX1_row_81 ?_
              refine nv_if_ne (tgt := 90) zx zb (by omega) dX1_row_84 (by decide) (fun c84 => ?_) (fun c84 => ?_)
              · refine lv_bipush (v := nI 60) zx zb dX1_row_90 (by decide) ?_
                refine lv_iload_n zx zb dX1_row_92 rfl (lv_at hl 1 rfl) ?_
                refine nv_imul zx zb dX1_row_93 ?_
                refine lv_iload_n zx zb dX1_row_94 rfl (lv_at hl 3 rfl) ?_
                refine nv_iadd zx zb dX1_row_95 ?_
                refine lv_istore (lv' := [(7, .int (nI ((60 * sh) + ii))), (0, .ref (a 0)), (1, .int (nI sh)), (2, .int sort), (3, .int (nI ii)), (4, .int (nI nn)), (5, .int (nI q))]) zx zb dX1_row_96 hl (by decide) rfl (fun ls hl => ?_)
                refine lv_aload_n zx zb dX1_row_98 rfl (lv_at hl 1 rfl) ?_
                refine lv_iload zx zb dX1_row_99 (lv_at hl 0 rfl) ?_
                refine lv_iload zx zb dX1_row_101 (lv_at hl 5 rfl) ?_
                refine nv_ki zC hX (nv_rV (n := 2) (As := [.int (nI ((60 * sh) + ii)), .int (nI nn)]) (rest := []) (q0 := 0) zC hX (mm_areLetters (i := (60 * sh) + ii) (n := nn) (hi := (by first | assumption | omega))) nvGb0 (fun _ _ _ => trivial) rfl rfl q1364 q1366 qs41 q63 q1367 (by decide +kernel) rfl ⟨Nat.le_of_ble_eq_true rfl, Nat.le_of_ble_eq_true rfl⟩ hl.1 (Nat.le_of_ble_eq_true rfl) dX1_row_103 ⟨by first | exact Nat.le_of_ble_eq_true rfl | omega, by first | exact Nat.le_of_ble_eq_true rfl | omega⟩) (fun r u H locs hp hX => ?_)
                have hr_ : r = nB (decide (∀ j, j < nn → inN (cells (((60 * sh) + ii) + j)) 0 2 = true)) := hp
                subst hr_
                have hX : nvS D a0 (mW dA a (nI 0) trace sorts shL cells words said kind longOf letters saidRow at_ rdW rKind rLong rLet looked lkL next heard far ways waysT free freeT rdgs rWord rMany rStands rRow ex) s.heap H locs := hX
                refine W.cs (cells' := 0) (slots' := 0) (Nat.add_zero _) (Nat.add_zero _) ?_
                refine nv_if_neB (tgt := 112) zx zb dX1_row_106 (by decide) (fun c106 => ?_) (fun c106 => ?_)
                · obtain ⟨hr1, hr2⟩ := alB_v c106
                  have hF : F_row sorts shL cells words kind longOf letters (nI sh) sort (nI ii) (nI nn) (nI q) = F_look words kind longOf letters (rwC cells (60 * sh + ii) nn) nn (nI q) := by unfold F_row; rw [h0, if_pos rfl, hgr, if_neg (by omega), if_neg (by omega), esh, ei, en, if_pos (show alB cells (60 * sh + ii) nn = true from c106)]
                  refine lv_aload_n zx zb dX1_row_112 rfl (lv_at hl 1 rfl) ?_
                  refine lv_iload zx zb dX1_row_113 (lv_at hl 0 rfl) ?_
                  refine lv_iload zx zb dX1_row_115 (lv_at hl 5 rfl) ?_
                  refine nv_kv zC hX (nv_rV (n := 2) (As := [.int (nI ((60 * sh) + ii)), .int (nI nn)]) (rest := []) (q0 := 0) zC hX (mm_lookAtCells (i := (60 * sh) + ii) (n := nn) (rw_ := (rwC cells (60 * sh + ii) nn)) (hlk := (by first | assumption | omega)) (hi := (by first | assumption | omega)) (hn := (by first | assumption | omega)) (hrw := hr1) (hce := hr2)) nvGb0 (fun _ _ _ => trivial) rfl rfl q1368 q1370 qs42 q63 q1371 (by decide +kernel) rfl ⟨Nat.le_of_ble_eq_true rfl, Nat.le_of_ble_eq_true rfl⟩ hl.1 (Nat.le_of_ble_eq_true rfl) dX1_row_117 ⟨by first | exact Nat.le_of_ble_eq_true rfl | omega, by first | exact Nat.le_of_ble_eq_true rfl | omega⟩) (fun u H locs hp hX => ?_)
                  obtain ⟨looked'_16, rfl⟩ : ∃ z, z = u := ⟨_, rfl⟩
                  have h117 : (∀ j, j < nn → looked'_16 j = (rwC cells (60 * sh + ii) nn) j) ∧ (∀ j, looked'_16 j < 3) := hp
                  have hX : nvS D a0 (mW dA a (nI 0) trace sorts shL cells words said kind longOf letters saidRow at_ rdW rKind rLong rLet looked'_16 nn next heard far ways waysT free freeT rdgs rWord rMany rStands rRow ex) s.heap H locs := hX
                  refine W.cs (cells' := 0) (slots' := 0) (Nat.add_zero _) (Nat.add_zero _) ?_
                  obtain ⟨hl1, hl2⟩ := h117
                  refine lv_iload zx zb dX1_row_120 (lv_at hl 6 rfl) ?_
                  refine lv_bipush (v := nI 10) zx zb dX1_row_122 (by decide) ?_
                  refine nv_icmp_lt (tgt := 154) zx zb (by omega) (by omega) dX1_row_124 (by decide) (fun c124 => ?_) (fun c124 => ?_)
                  · omega
                  · refine lv_aload_n zx zb dX1_row_127 rfl (lv_at hl 1 rfl) ?_
                    refine lv_iload zx zb dX1_row_128 (lv_at hl 6 rfl) ?_
                    refine lv_bipush (v := nI 10) zx zb dX1_row_130 (by decide) ?_
                    refine nv_isub zx zb (by omega) dX1_row_132 ?_
                    refine nv_ki zC hX (nv_rV (n := 1) (As := [.int (nI (q - 10))]) (rest := []) (q0 := 0) zC hX (mm_isWord (v := nI (q - 10))) nvGb0 (fun _ _ _ => trivial) rfl rfl q1320 q1322 qs34 q63 q1323 (by decide +kernel) rfl ⟨Nat.le_of_ble_eq_true rfl, Nat.le_of_ble_eq_true rfl⟩ hl.1 (Nat.le_of_ble_eq_true rfl) dX1_row_133 ⟨by first | exact Nat.le_of_ble_eq_true rfl | omega, by first | exact Nat.le_of_ble_eq_true rfl | omega⟩) (fun r u H locs hp hX => ?_)
                    have hr_ : r = nB (isW words (nI (q - 10))) := hp
                    subst hr_
                    have hX : nvS D a0 (mW dA a (nI 0) trace sorts shL cells words said kind longOf letters saidRow at_ rdW rKind rLong rLet looked'_16 nn next heard far ways waysT free freeT rdgs rWord rMany rStands rRow ex) s.heap H locs := hX
                    refine W.cs (cells' := 0) (slots' := 0) (Nat.add_zero _) (Nat.add_zero _) ?_
                    refine nv_if_eqB (tgt := 151) zx zb dX1_row_136 (by decide) (fun c136 => ?_) (fun c136 => ?_)
                    · rw [isW_n (by omega) (by omega)] at c136
                      have hqw := of_decide_eq_false c136
                      refine lv_bipush (v := (-9)) zx zb dX1_row_151 (by decide) ?_
                      rw [← zQ]
                      exact nv_endi zC zr zk (nI 0, looked'_16, nn) hX (by (try dsimp only); refine ⟨?_, by rw [hgr, c70], hl2⟩; rw [hF, F_look_w hq0 hq, if_neg hqw]) (by omega) (by omega) dX1_row_153
                    · rw [isW_n (by omega) (by omega)] at c136
                      have hqw := of_decide_eq_true c136
                      refine lv_aload_n zx zb dX1_row_139 rfl (lv_at hl 1 rfl) ?_
                      refine lv_iload zx zb dX1_row_140 (lv_at hl 6 rfl) ?_
                      refine lv_bipush (v := nI 10) zx zb dX1_row_142 (by decide) ?_
                      refine nv_isub zx zb (by omega) dX1_row_144 ?_
                      refine nv_ki zC hX (nv_rV (n := 1) (As := [.int (nI (q - 10))]) (rest := []) (q0 := 0) zC hX (mm_timesHeard (w := q - 10) (hok := (by first | assumption | omega)) (hlk := (by first | assumption | omega)) (hw := (by first | assumption | omega)) (hll := (by first | assumption | omega))) nvGb0 (fun _ _ _ => trivial) rfl rfl q1336 q1338 qs38 q63 q1339 (by decide +kernel) rfl ⟨Nat.le_of_ble_eq_true rfl, Nat.le_of_ble_eq_true rfl⟩ hl.1 (Nat.le_of_ble_eq_true rfl) dX1_row_145 ⟨by first | exact Nat.le_of_ble_eq_true rfl | omega, by first | exact Nat.le_of_ble_eq_true rfl | omega⟩) (fun r u H locs hp hX => ?_)
                      have hr_ : r = nI (tmW kind longOf letters looked'_16 nn (q - 10)) := hp
                      subst hr_
                      have hX : nvS D a0 (mW dA a (nI 0) trace sorts shL cells words said kind longOf letters saidRow at_ rdW rKind rLong rLet looked'_16 nn next heard far ways waysT free freeT rdgs rWord rMany rStands rRow ex) s.heap H locs := hX
                      refine W.cs (cells' := 0) (slots' := 0) (Nat.add_zero _) (Nat.add_zero _) ?_
                      refine lv_goto (tgt := 153) zx zb dX1_row_148 (by decide) ?_
                      rw [← zQ]
                      exact nv_endi zC zr zk (nI 0, looked'_16, nn) hX (by (try dsimp only); refine ⟨?_, by rw [hgr, c70], hl2⟩; rw [hF, F_look_w hq0 hq, if_pos hqw]; exact congrArg nI (tmW_cg hl1)) (by omega) (by omega) dX1_row_153
                · refine lv_bipush (v := (-2)) zx zb dX1_row_109 (by decide) ?_
                  rw [← zQ]
                  exact nv_endi zC zr zk (nI 0, looked, lkL) hX (by (try dsimp only); refine ⟨?_, by rw [hgr, c70], hlk⟩; unfold F_row; rw [h0, if_pos rfl, hgr, if_neg (by omega), if_neg (by omega), esh, ei, en, if_neg (fun z => absurd (z.symm.trans c106) (by decide))]) (by omega) (by omega) dX1_row_111
              · refine lv_bipush (v := (-3)) zx zb dX1_row_87 (by decide) ?_
                rw [← zQ]
                exact nv_endi zC zr zk (nI 0, looked, lkL) hX (by (try dsimp only); refine ⟨?_, by rw [hgr, c70], hlk⟩; unfold F_row; rw [h0, if_pos rfl, hgr, if_neg (by omega), if_pos c84]) (by omega) (by omega) dX1_row_89
            · refine lv_aload_n zx zb dX1_row_73 rfl (lv_at hl 1 rfl) ?_
              refine lv_iload zx zb dX1_row_74 (lv_at hl 0 rfl) ?_
              refine nv_ki zC hX (nv_rV (n := 1) (As := [.int (nI (agN sorts shL sh sort i n))]) (rest := []) (q0 := 0) zC hX (mm_fails (k := agN sorts shL sh sort i n)) nvGb0 (fun _ _ _ => trivial) rfl rfl q1300 q1302 qs30 q63 q1303 (by decide +kernel) rfl ⟨Nat.le_of_ble_eq_true rfl, Nat.le_of_ble_eq_true rfl⟩ hl.1 (Nat.le_of_ble_eq_true rfl) dX1_row_76 ⟨by first | exact Nat.le_of_ble_eq_true rfl | omega, by first | exact Nat.le_of_ble_eq_true rfl | omega⟩) (fun r u H locs hp hX => ?_)
              have hr_ : r = (-10) - nI (agN sorts shL sh sort i n) := hp
              subst hr_
              have hX : nvS D a0 (mW dA a (nI (agN sorts shL sh sort i n)) trace sorts shL cells words said kind longOf letters saidRow at_ rdW rKind rLong rLet looked lkL next heard far ways waysT free freeT rdgs rWord rMany rStands rRow ex) s.heap H locs := hX
              refine W.cs (cells' := 0) (slots' := 0) (Nat.add_zero _) (Nat.add_zero _) ?_
              rw [← zQ]
              exact nv_endi zC zr zk (nI (agN sorts shL sh sort i n), looked, lkL) hX (by (try dsimp only); refine ⟨?_, by rw [hgr], hlk⟩; unfold F_row; rw [h0, if_pos rfl, hgr, if_pos (by omega)]) (by omega) (by omega) dX1_row_79
          · refine lv_bipush (v := (-2)) zx zb dX1_row_54 (by decide) ?_
            rw [← zQ]
            exact nv_endi zC zr zk (nI 0, looked, lkL) hX (by (try dsimp only); have h0 : okRow (nI sh) sort n what = false := (by unfold okRow; simp [c18, c29, c39, c51]); exact ⟨by unfold F_row; rw [h0, if_neg (by decide), c9, if_pos rfl], by unfold g_row; rw [h0]; rfl, hlk⟩) (by omega) (by omega) dX1_row_56
  · refine lv_iconst (v := (-1)) zx zb dX1_row_12 (by decide) ?_
    rw [← zQ]
    exact nv_endi zC zr zk (nI 0, looked, lkL) hX (by (try dsimp only); have h0 : okRow sheet sort n what = false := (by unfold okRow; rw [c9]; rfl); exact ⟨by unfold F_row; rw [h0, if_neg (by decide), c9, if_neg (by decide)], by unfold g_row; rw [h0]; rfl, hlk⟩) (by omega) (by omega) dX1_row_13

set_option maxHeartbeats 4000000 in
theorem mm_areSo   (hok : mOK words kind longOf letters) (hlk : ∀ j, looked j < 3) (hro : rOK rdgs rWord rMany rStands rRow) : nMt l D dA a0 yX1_areSo cX1_areSo 3 (some .boolean) 4 85 0 0 nvG0 [.ref (a 0)] (mW dA a fault trace sorts shL cells words said kind longOf letters saidRow at_ rdW rKind rLong rLet looked lkL next heard far ways waysT free freeT rdgs rWord rMany rStands rRow ex) (nQi D a0 (fun (r : Int32) (u : (Nat → Nat) × Nat) => r = nB (soB kind longOf letters rdgs rWord rMany rStands rRow) ∧ (∀ z, u.1 z < 3)) (fun (u : (Nat → Nat) × Nat) => mW dA a fault trace sorts shL cells words said kind longOf letters saidRow at_ rdW rKind rLong rLet u.1 u.2 next heard far ways waysT free freeT rdgs rWord rMany rStands rRow ex)) := by
  refine nv_start (by decide) (Nat.le_of_ble_eq_true rfl) fun zp ze s zm zlo zme zcd ls zC zr zk znm hX zG hl => ?_
  have zx := zC.1
  have zb := zC.2.1
  generalize zargs : ([.ref (a 0)] : List Value).toArray = zar at zC ⊢
  generalize zQ : MQ zlo _ zar s _ _ _ = Q
  have hX : nvS D a0 (mW dA a fault trace sorts shL cells words said kind longOf letters saidRow at_ rdW rKind rLong rLet looked lkL next heard far ways waysT free freeT rdgs rWord rMany rStands rRow ex) s.heap s.heap [] := hX
  have hl : lv_has ls 3 [(0, .ref (a 0))] := hl
  obtain ⟨H, zH⟩ : ∃ H, H = s.heap := ⟨_, rfl⟩
  have hX : nvS D a0 (mW dA a fault trace sorts shL cells words said kind longOf letters saidRow at_ rdW rKind rLong rLet looked lkL next heard far ways waysT free freeT rdgs rWord rMany rStands rRow ex) s.heap H [] := by rw [zH]; exact hX
  rw [show W zp l ze (rm_ 4 85 0 0) s zm zar zlo zme zcd s.heap [] 0 0 Q = W zp l ze (rm_ 4 85 0 0) s zm zar zlo zme zcd H [] 0 0 Q by rw [zH]]
  generalize ([] : List Loc) = locs at hX ⊢
  have hw4 := hok.1
  have hlt := hok.2.2.2
  obtain ⟨hr8, hrw, hrm, hrs, hrr⟩ := id hro
  refine lv_iconst (v := nI 0) zx zb dX1_areSo_0 (by decide) ?_
  refine lv_istore_n (lv' := [(1, .int (nI 0)), (0, .ref (a 0))]) zx zb dX1_areSo_1 rfl hl (by decide) rfl (fun ls hl => ?_)
  have L2 : ∀ (zn : Nat) (lk : Nat → Nat) (lL q : Nat) (hq : q ≤ rdgs) (h3 : ∀ z, lk z < 3) (hal : ∀ p, p < q → decide (0 < tmW kind longOf letters (fun k => rRow (8 * p + k)) (rMany p) (rWord p)) = decide (rStands p = 1)), rdgs - q < zn → ∀ (H : Heap) (locs : List Loc) (ls : Array Slot), nvS D a0 (mW dA a fault trace sorts shL cells words said kind longOf letters saidRow at_ rdW rKind rLong rLet lk lL next heard far ways waysT free freeT rdgs rWord rMany rStands rRow ex) s.heap H locs → lv_has ls 3 [(1, .int (nI q)), (0, .ref (a 0))] → W zp l ze (rm_ 4 85 0 0) s zm zar zlo zme zcd H locs 0 0 Q (F0 zm 2 ls []) := by
    intro zn
    induction zn with
    | zero => intro lk lL q hq h3 hal zf; exact absurd zf (Nat.not_lt_zero _)
    | succ zn ih2 =>
      intro lk lL q hq h3 hal zf H locs ls hX hl
      refine lv_iload_n zx zb dX1_areSo_2 rfl (lv_at hl 0 rfl) ?_
      refine lv_aload_n zx zb dX1_areSo_3 rfl (lv_at hl 1 rfl) ?_
      refine nv_get zC hX in_X1 0 rfl rfl 25 (by decide) q1217 (fun _ h => h) rfl dX1_areSo_4 ?_
      refine nv_icmp_ge (tgt := 99) zx zb (by omega) (by omega) dX1_areSo_7 (by decide) (fun c7 => ?_) (fun c7 => ?_)
      · refine lv_iconst (v := nI 1) zx zb dX1_areSo_99 (by decide) ?_
        rw [← zQ]
        refine nv_as (y := nB true) rfl ?_
        exact nv_endz zC zr zk (lk, lL) hX (by (try dsimp only); exact ⟨nB_e1 (soB_t (fun p hp => hal p (by omega))), h3⟩) (by omega) (by omega) dX1_areSo_100
      · have hrm_q := hrm q
        have hrw_q := hrw q
        have hrs_q := hrs q
        refine lv_aload_n zx zb dX1_areSo_10 rfl (lv_at hl 1 rfl) ?_
        refine lv_aload_n zx zb dX1_areSo_11 rfl (lv_at hl 1 rfl) ?_
        refine nv_get zC hX in_X1 0 rfl rfl 27 (by decide) q1219 (fun _ h => h) rfl dX1_areSo_12 ?_
        refine lv_iload_n zx zb dX1_areSo_15 rfl (lv_at hl 0 rfl) ?_
        refine nv_iald (v := nI (rMany q)) zC hX 20 rfl (by omega) (by decide) rfl dX1_areSo_16 ?_
        refine nv_put zC hX in_X1 tyX1 tyX1_ok nmX1 0 rfl rfl 17 (by decide) q1209 (fun _ h => h) rfl rfl rfl (Nat.le_of_ble_eq_true rfl) (w' := mW dA a fault trace sorts shL cells words said kind longOf letters saidRow at_ rdW rKind rLong rLet lk (rMany q) next heard far ways waysT free freeT rdgs rWord rMany rStands rRow ex) rfl dX1_areSo_17 (fun H locs hX => ?_)
        refine lv_iconst (v := nI 0) zx zb dX1_areSo_20 (by decide) ?_
        refine lv_istore_n (lv' := [(2, .int (nI 0)), (1, .int (nI q)), (0, .ref (a 0))]) zx zb dX1_areSo_21 rfl hl (by decide) rfl (fun ls hl => ?_)
        have L22 : ∀ (zn : Nat) (lk2 : Nat → Nat) (k : Nat) (hk : k ≤ rMany q) (h4 : ∀ z, z < k → lk2 z = rRow (8 * q + z)) (h5 : ∀ z, lk2 z < 3), rMany q - k < zn → ∀ (H : Heap) (locs : List Loc) (ls : Array Slot), nvS D a0 (mW dA a fault trace sorts shL cells words said kind longOf letters saidRow at_ rdW rKind rLong rLet lk2 (rMany q) next heard far ways waysT free freeT rdgs rWord rMany rStands rRow ex) s.heap H locs → lv_has ls 3 [(2, .int (nI k)), (1, .int (nI q)), (0, .ref (a 0))] → W zp l ze (rm_ 4 85 0 0) s zm zar zlo zme zcd H locs 0 0 Q (F0 zm 22 ls []) := by
          intro zn
          induction zn with
          | zero => intro lk2 k hk h4 h5 zf; exact absurd zf (Nat.not_lt_zero _)
          | succ zn ih22 =>
            intro lk2 k hk h4 h5 zf H locs ls hX hl
            refine lv_iload_n zx zb dX1_areSo_22 rfl (lv_at hl 0 rfl) ?_
            refine lv_aload_n zx zb dX1_areSo_23 rfl (lv_at hl 2 rfl) ?_
            refine nv_get zC hX in_X1 0 rfl rfl 17 (by decide) q1209 (fun _ h => h) rfl dX1_areSo_24 ?_
            refine nv_icmp_ge (tgt := 53) zx zb (by omega) (by omega) dX1_areSo_27 (by decide) (fun c27 => ?_) (fun c27 => ?_)
            · refine lv_aload_n zx zb dX1_areSo_53 rfl (lv_at hl 2 rfl) ?_
              refine lv_aload_n zx zb dX1_areSo_54 rfl (lv_at hl 2 rfl) ?_
              refine nv_get zC hX in_X1 0 rfl rfl 26 (by decide) q1218 (fun _ h => h) rfl dX1_areSo_55 ?_
              refine lv_iload_n zx zb dX1_areSo_58 rfl (lv_at hl 1 rfl) ?_
              refine nv_iald (v := nI (rWord q)) zC hX 19 rfl (by omega) (by decide) rfl dX1_areSo_59 ?_
              refine nv_ki zC hX (nv_rV (n := 1) (As := [.int (nI (rWord q))]) (rest := []) (q0 := 0) zC hX (mm_timesHeard (w := rWord q) (hok := (by first | assumption | omega)) (hlk := (by first | assumption | omega)) (hw := (by first | assumption | omega)) (hll := (by first | assumption | omega))) nvGb0 (fun _ _ _ => trivial) rfl rfl q1336 q1338 qs38 q63 q1339 (by decide +kernel) rfl ⟨Nat.le_of_ble_eq_true rfl, Nat.le_of_ble_eq_true rfl⟩ hl.1 (Nat.le_of_ble_eq_true rfl) dX1_areSo_60 ⟨by first | exact Nat.le_of_ble_eq_true rfl | omega, by first | exact Nat.le_of_ble_eq_true rfl | omega⟩) (fun r u H locs hp hX => ?_)
              have hr_ : r = nI (tmW kind longOf letters lk2 (rMany q) (rWord q)) := hp
              subst hr_
              have hX : nvS D a0 (mW dA a fault trace sorts shL cells words said kind longOf letters saidRow at_ rdW rKind rLong rLet lk2 (rMany q) next heard far ways waysT free freeT rdgs rWord rMany rStands rRow ex) s.heap H locs := hX
              refine W.cs (cells' := 0) (slots' := 0) (Nat.add_zero _) (Nat.add_zero _) ?_
              have htm : tmW kind longOf letters lk2 (rMany q) (rWord q) = tmW kind longOf letters (fun k => rRow (8 * q + k)) (rMany q) (rWord q) := tmW_cg (fun j hj => h4 j (by omega))
              refine nv_if_le (tgt := 70) zx zb (Nat.lt_of_le_of_lt (cntUp_le _ _) (by omega)) dX1_areSo_63 (by decide) (fun c63 => ?_) (fun c63 => ?_)
              · refine lv_iconst (v := nI 0) zx zb dX1_areSo_70 (by decide) ?_
                refine nv_as (show nI 0 = nB (decide (0 < tmW kind longOf letters (fun k => rRow (8 * q + k)) (rMany q) (rWord q))) from (nB_as0 (decide_eq_false (by rw [← htm]; omega)))) ?_
                refine lv_istore_n (lv' := [(2, .int (nB (decide (0 < tmW kind longOf letters (fun k => rRow (8 * q + k)) (rMany q) (rWord q))))), (1, .int (nI q)), (0, .ref (a 0))]) zx zb dX1_areSo_71 rfl hl (by decide) rfl (fun ls hl => ?_)
                refine lv_iload_n zx zb dX1_areSo_72 rfl (lv_at hl 0 rfl) ?_
                refine lv_aload_n zx zb dX1_areSo_73 rfl (lv_at hl 2 rfl) ?_
                refine nv_get zC hX in_X1 0 rfl rfl 28 (by decide) q1220 (fun _ h => h) rfl dX1_areSo_74 ?_
                refine lv_iload_n zx zb dX1_areSo_77 rfl (lv_at hl 1 rfl) ?_
                refine nv_iald (v := nI (rStands q)) zC hX 21 rfl (by omega) (by decide) rfl dX1_areSo_78 ?_
                refine lv_iconst (v := nI 1) zx zb dX1_areSo_79 (by decide) ?_
                have J88 : ∀   (H : Heap) (locs : List Loc) (ls : Array Slot), nvS D a0 (mW dA a fault trace sorts shL cells words said kind longOf letters saidRow at_ rdW rKind rLong rLet lk2 (rMany q) next heard far ways waysT free freeT rdgs rWord rMany rStands rRow ex) s.heap H locs → lv_has ls 3 [(2, .int (nB (decide (0 < tmW kind longOf letters (fun k => rRow (8 * q + k)) (rMany q) (rWord q))))), (1, .int (nI q)), (0, .ref (a 0))] → W zp l ze (rm_ 4 85 0 0) s zm zar zlo zme zcd H locs 0 0 Q (F0 zm 88 ls [.int (nB (decide (rStands q = 1))), .int (nB (decide (0 < tmW kind longOf letters (fun k => rRow (8 * q + k)) (rMany q) (rWord q))))]) := by
                  intro   H locs ls hX hl
                  refine lv_icmp_eq (x := nB (decide (0 < tmW kind longOf letters (fun k => rRow (8 * q + k)) (rMany q) (rWord q)))) (y := nB (decide (rStands q = 1))) (tgt := 93) zx zb dX1_areSo_88 (by decide) (fun c88 => ?_) (fun c88 => ?_)
                  · refine lv_iinc (v := nI (q + 1)) (lv' := [(1, .int (nI (q + 1))), (2, .int (nB (decide (0 < tmW kind longOf letters (fun k => rRow (8 * q + k)) (rMany q) (rWord q))))), (0, .ref (a 0))]) zx zb dX1_areSo_93 hl (k := 1) rfl (nI_1 _) (by decide) rfl (fun ls hl => ?_)
                    refine lv_goto (tgt := 2) zx zb dX1_areSo_96 (by decide) ?_
                    exact ih2 lk2 (rMany q) (q + 1) (by omega) h5 (lt_s hal (nB_inj.mp c88)) (by omega) _ _ _ hX (lv_sub hl [0, 2] rfl)
                  · refine lv_iconst (v := nI 0) zx zb dX1_areSo_91 (by decide) ?_
                    rw [← zQ]
                    refine nv_as (y := nB false) rfl ?_
                    exact nv_endz zC zr zk (lk2, rMany q) hX (by (try dsimp only); exact ⟨nB_e0 (soB_f c7 (fun z => c88 (nB_inj.mpr z))), h5⟩) (by omega) (by omega) dX1_areSo_92
                refine nv_icmp_ne (tgt := 87) zx zb (by omega) (by omega) dX1_areSo_80 (by decide) (fun c80 => ?_) (fun c80 => ?_)
                · refine lv_iconst (v := nI 0) zx zb dX1_areSo_87 (by decide) ?_
                  refine nv_as (show nI 0 = nB (decide (rStands q = 1)) from (nB_as0 (decide_eq_false c80))) ?_
                  exact J88   _ _ _ hX (lv_sub hl [0, 1, 2] rfl)
                · refine lv_iconst (v := nI 1) zx zb dX1_areSo_83 (by decide) ?_
                  refine lv_goto (tgt := 88) zx zb dX1_areSo_84 (by decide) ?_
                  refine nv_as (show nI 1 = nB (decide (rStands q = 1)) from (nB_as1 (decide_eq_true c80))) ?_
                  exact J88   _ _ _ hX (lv_sub hl [0, 1, 2] rfl)
              · refine lv_iconst (v := nI 1) zx zb dX1_areSo_66 (by decide) ?_
                refine lv_goto (tgt := 71) zx zb dX1_areSo_67 (by decide) ?_
                refine nv_as (show nI 1 = nB (decide (0 < tmW kind longOf letters (fun k => rRow (8 * q + k)) (rMany q) (rWord q))) from (nB_as1 (decide_eq_true (by rw [← htm]; exact c63)))) ?_
                refine lv_istore_n (lv' := [(2, .int (nB (decide (0 < tmW kind longOf letters (fun k => rRow (8 * q + k)) (rMany q) (rWord q))))), (1, .int (nI q)), (0, .ref (a 0))]) zx zb dX1_areSo_71 rfl hl (by decide) rfl (fun ls hl => ?_)
                refine lv_iload_n zx zb dX1_areSo_72 rfl (lv_at hl 0 rfl) ?_
                refine lv_aload_n zx zb dX1_areSo_73 rfl (lv_at hl 2 rfl) ?_
                refine nv_get zC hX in_X1 0 rfl rfl 28 (by decide) q1220 (fun _ h => h) rfl dX1_areSo_74 ?_
                refine lv_iload_n zx zb dX1_areSo_77 rfl (lv_at hl 1 rfl) ?_
                refine nv_iald (v := nI (rStands q)) zC hX 21 rfl (by omega) (by decide) rfl dX1_areSo_78 ?_
                refine lv_iconst (v := nI 1) zx zb dX1_areSo_79 (by decide) ?_
                have J88 : ∀   (H : Heap) (locs : List Loc) (ls : Array Slot), nvS D a0 (mW dA a fault trace sorts shL cells words said kind longOf letters saidRow at_ rdW rKind rLong rLet lk2 (rMany q) next heard far ways waysT free freeT rdgs rWord rMany rStands rRow ex) s.heap H locs → lv_has ls 3 [(2, .int (nB (decide (0 < tmW kind longOf letters (fun k => rRow (8 * q + k)) (rMany q) (rWord q))))), (1, .int (nI q)), (0, .ref (a 0))] → W zp l ze (rm_ 4 85 0 0) s zm zar zlo zme zcd H locs 0 0 Q (F0 zm 88 ls [.int (nB (decide (rStands q = 1))), .int (nB (decide (0 < tmW kind longOf letters (fun k => rRow (8 * q + k)) (rMany q) (rWord q))))]) := by
                  intro   H locs ls hX hl
                  refine lv_icmp_eq (x := nB (decide (0 < tmW kind longOf letters (fun k => rRow (8 * q + k)) (rMany q) (rWord q)))) (y := nB (decide (rStands q = 1))) (tgt := 93) zx zb dX1_areSo_88 (by decide) (fun c88 => ?_) (fun c88 => ?_)
                  · refine lv_iinc (v := nI (q + 1)) (lv' := [(1, .int (nI (q + 1))), (2, .int (nB (decide (0 < tmW kind longOf letters (fun k => rRow (8 * q + k)) (rMany q) (rWord q))))), (0, .ref (a 0))]) zx zb dX1_areSo_93 hl (k := 1) rfl (nI_1 _) (by decide) rfl (fun ls hl => ?_)
                    refine lv_goto (tgt := 2) zx zb dX1_areSo_96 (by decide) ?_
                    exact ih2 lk2 (rMany q) (q + 1) (by omega) h5 (lt_s hal (nB_inj.mp c88)) (by omega) _ _ _ hX (lv_sub hl [0, 2] rfl)
                  · refine lv_iconst (v := nI 0) zx zb dX1_areSo_91 (by decide) ?_
                    rw [← zQ]
                    refine nv_as (y := nB false) rfl ?_
                    exact nv_endz zC zr zk (lk2, rMany q) hX (by (try dsimp only); exact ⟨nB_e0 (soB_f c7 (fun z => c88 (nB_inj.mpr z))), h5⟩) (by omega) (by omega) dX1_areSo_92
                refine nv_icmp_ne (tgt := 87) zx zb (by omega) (by omega) dX1_areSo_80 (by decide) (fun c80 => ?_) (fun c80 => ?_)
                · refine lv_iconst (v := nI 0) zx zb dX1_areSo_87 (by decide) ?_
                  refine nv_as (show nI 0 = nB (decide (rStands q = 1)) from (nB_as0 (decide_eq_false c80))) ?_
                  exact J88   _ _ _ hX (lv_sub hl [0, 1, 2] rfl)
                · refine lv_iconst (v := nI 1) zx zb dX1_areSo_83 (by decide) ?_
                  refine lv_goto (tgt := 88) zx zb dX1_areSo_84 (by decide) ?_
                  refine nv_as (show nI 1 = nB (decide (rStands q = 1)) from (nB_as1 (decide_eq_true c80))) ?_
                  exact J88   _ _ _ hX (lv_sub hl [0, 1, 2] rfl)
            · refine lv_aload_n zx zb dX1_areSo_30 rfl (lv_at hl 2 rfl) ?_
              refine nv_get zC hX in_X1 0 rfl rfl 16 (by decide) q1208 (fun _ h => h) rfl dX1_areSo_31 ?_
              refine lv_iload_n zx zb dX1_areSo_34 rfl (lv_at hl 0 rfl) ?_
              refine lv_aload_n zx zb dX1_areSo_35 rfl (lv_at hl 2 rfl) ?_
              refine nv_get zC hX in_X1 0 rfl rfl 29 (by decide) q1221 (fun _ h => h) rfl dX1_areSo_36 ?_
              refine lv_bipush (v := nI 8) zx zb dX1_areSo_39 (by decide) ?_
              refine lv_iload_n zx zb dX1_areSo_41 rfl (lv_at hl 1 rfl) ?_
              refine nv_imul zx zb dX1_areSo_42 ?_
              refine lv_iload_n zx zb dX1_areSo_43 rfl (lv_at hl 0 rfl) ?_
              refine nv_iadd zx zb dX1_areSo_44 ?_
              refine nv_iald (v := nI (rRow ((8 * q) + k))) zC hX 22 rfl (by omega) (by decide) rfl dX1_areSo_45 ?_
              refine nv_iast zC hX 11 rfl (by omega) (by decide) (nF_up _ _ _) (w' := mW dA a fault trace sorts shL cells words said kind longOf letters saidRow at_ rdW rKind rLong rLet (va_up lk2 k (rRow ((8 * q) + k))) (rMany q) next heard far ways waysT free freeT rdgs rWord rMany rStands rRow ex) rfl dX1_areSo_46 (fun H locs hX => ?_)
              refine lv_iinc (v := nI (k + 1)) (lv' := [(2, .int (nI (k + 1))), (1, .int (nI q)), (0, .ref (a 0))]) zx zb dX1_areSo_47 hl (k := 0) rfl (nI_1 _) (by decide) rfl (fun ls hl => ?_)
              refine lv_goto (tgt := 22) zx zb dX1_areSo_50 (by decide) ?_
              exact ih22 (va_up lk2 k (rRow ((8 * q) + k))) (k + 1) (by omega) (up_preG h4 rfl) (up_lt h5 (hrr _)) (by omega) _ _ _ hX (lv_sub hl [0, 1, 2] rfl)
        exact L22 _ lk 0 (by omega) lt_0 h3 (Nat.lt_succ_self _) _ _ _ hX (lv_sub hl [0, 1, 2] rfl)
  exact L2 _ looked lkL 0 (by omega) hlk lt_0 (Nat.lt_succ_self _) _ _ _ hX (lv_sub hl [0, 1] rfl)

set_option maxHeartbeats 4000000 in
theorem mm_kinds  (x : Int32) (hok : mOK words kind longOf letters) (hlk : ∀ j, looked j < 3) (hro : rOK rdgs rWord rMany rStands rRow) (hl1 : ∀ w, w < words → 1 ≤ longOf w) : nMt l D dA a0 yX1_kinds cX1_kinds 5 (some .int) 5 107 0 0 nvG0 [.ref (a 0), .int x] (mW dA a fault trace sorts shL cells words said kind longOf letters saidRow at_ rdW rKind rLong rLet looked lkL next heard far ways waysT free freeT rdgs rWord rMany rStands rRow ex) (nQi D a0 (fun (r : Int32) (u : (Nat → Nat) × Nat) => r = F_kinds words kind longOf letters rdgs rWord rMany rStands rRow x ∧ (∀ z, u.1 z < 3)) (fun (u : (Nat → Nat) × Nat) => mW dA a fault trace sorts shL cells words said kind longOf letters saidRow at_ rdW rKind rLong rLet u.1 u.2 next heard far ways waysT free freeT rdgs rWord rMany rStands rRow ex)) := by
  refine nv_start (by decide) (Nat.le_of_ble_eq_true rfl) fun zp ze s zm zlo zme zcd ls zC zr zk znm hX zG hl => ?_
  have zx := zC.1
  have zb := zC.2.1
  generalize zargs : ([.ref (a 0), .int x] : List Value).toArray = zar at zC ⊢
  generalize zQ : MQ zlo _ zar s _ _ _ = Q
  have hX : nvS D a0 (mW dA a fault trace sorts shL cells words said kind longOf letters saidRow at_ rdW rKind rLong rLet looked lkL next heard far ways waysT free freeT rdgs rWord rMany rStands rRow ex) s.heap s.heap [] := hX
  have hl : lv_has ls 5 [(0, .ref (a 0)), (1, .int x)] := hl
  obtain ⟨H, zH⟩ : ∃ H, H = s.heap := ⟨_, rfl⟩
  have hX : nvS D a0 (mW dA a fault trace sorts shL cells words said kind longOf letters saidRow at_ rdW rKind rLong rLet looked lkL next heard far ways waysT free freeT rdgs rWord rMany rStands rRow ex) s.heap H [] := by rw [zH]; exact hX
  rw [show W zp l ze (rm_ 5 107 0 0) s zm zar zlo zme zcd s.heap [] 0 0 Q = W zp l ze (rm_ 5 107 0 0) s zm zar zlo zme zcd H [] 0 0 Q by rw [zH]]
  generalize ([] : List Loc) = locs at hX ⊢
  have hw4 := hok.1
  have hlt := hok.2.2.2
  refine lv_aload_n zx zb dX1_kinds_0 rfl (lv_at hl 0 rfl) ?_
  refine lv_iload_n zx zb dX1_kinds_1 rfl (lv_at hl 1 rfl) ?_
  refine nv_ki zC hX (nv_rV (n := 1) (As := [.int x]) (rest := []) (q0 := 0) zC hX (mm_isWord (v := x)) nvGb0 (fun _ _ _ => trivial) rfl rfl q1320 q1322 qs34 q63 q1323 (by decide +kernel) rfl ⟨Nat.le_of_ble_eq_true rfl, Nat.le_of_ble_eq_true rfl⟩ hl.1 (Nat.le_of_ble_eq_true rfl) dX1_kinds_2 ⟨by first | exact Nat.le_of_ble_eq_true rfl | omega, by first | exact Nat.le_of_ble_eq_true rfl | omega⟩) (fun r u H locs hp hX => ?_)
  have hr_ : r = nB (isW words x) := hp
  subst hr_
  have hX : nvS D a0 (mW dA a fault trace sorts shL cells words said kind longOf letters saidRow at_ rdW rKind rLong rLet looked lkL next heard far ways waysT free freeT rdgs rWord rMany rStands rRow ex) s.heap H locs := hX
  refine W.cs (cells' := 0) (slots' := 0) (Nat.add_zero _) (Nat.add_zero _) ?_
  refine nv_if_neB (tgt := 10) zx zb dX1_kinds_5 (by decide) (fun c5 => ?_) (fun c5 => ?_)
  · obtain ⟨ii, hi, rfl⟩ := isW_t (by omega) c5
    have hln_i := hok.2.2.1 ii
    have hkd_i := hok.2.1 ii
    have hl1_i := hl1 ii hi
    have ei : i2n (nI ii) = ii := nI_clamp (by omega)
    refine lv_aload_n zx zb dX1_kinds_10 rfl (lv_at hl 0 rfl) ?_
    refine nv_get zC hX in_X1 0 rfl rfl 7 (by decide) q1199 (fun _ h => h) rfl dX1_kinds_11 ?_
    refine lv_iload_n zx zb dX1_kinds_14 rfl (lv_at hl 1 rfl) ?_
    refine nv_iald (v := nI (kind ii)) zC hX 4 rfl (by omega) (by decide) rfl dX1_kinds_15 ?_
    refine lv_istore_n (lv' := [(2, .int (nI (kind ii))), (0, .ref (a 0)), (1, .int (nI ii))]) zx zb dX1_kinds_16 rfl hl (by decide) rfl (fun ls hl => ?_)
    refine lv_iconst (v := nI 0) zx zb dX1_kinds_17 (by decide) ?_
    refine lv_istore_n (lv' := [(3, .int (nI 0)), (2, .int (nI (kind ii))), (0, .ref (a 0)), (1, .int (nI ii))]) zx zb dX1_kinds_18 rfl hl (by decide) rfl (fun ls hl => ?_)
    refine lv_iconst (v := nI 0) zx zb dX1_kinds_19 (by decide) ?_
    refine lv_istore (lv' := [(4, .int (nI 0)), (3, .int (nI 0)), (2, .int (nI (kind ii))), (0, .ref (a 0)), (1, .int (nI ii))]) zx zb dX1_kinds_20 hl (by decide) rfl (fun ls hl => ?_)
    have L22 : ∀ (zn : Nat) (lk ar : Nat → Nat) (lL v : Nat) (hv : v ≤ 3) (h3 : ∀ z, lk z < 3) (har : ∀ z, z ≠ ii → ar z = kind z), 3 - v < zn → ∀ (H : Heap) (locs : List Loc) (ls : Array Slot), nvS D a0 (mW dA a fault trace sorts shL cells words said ar longOf letters saidRow at_ rdW rKind rLong rLet lk lL next heard far ways waysT free freeT rdgs rWord rMany rStands rRow ex) s.heap H locs → lv_has ls 5 [(4, .int (nI v)), (3, .int (nI (bitsUp (fun v => soB (va_up kind ii v) longOf letters rdgs rWord rMany rStands rRow) v))), (2, .int (nI (kind ii))), (0, .ref (a 0)), (1, .int (nI ii))] → W zp l ze (rm_ 5 107 0 0) s zm zar zlo zme zcd H locs 0 0 Q (F0 zm 22 ls []) := by
      intro zn
      induction zn with
      | zero => intro lk ar lL v hv h3 har zf; exact absurd zf (Nat.not_lt_zero _)
      | succ zn ih22 =>
        intro lk ar lL v hv h3 har zf H locs ls hX hl
        refine lv_iload zx zb dX1_kinds_22 (lv_at hl 0 rfl) ?_
        refine lv_iconst (v := nI 3) zx zb dX1_kinds_24 (by decide) ?_
        refine nv_icmp_ge (tgt := 60) zx zb (by omega) (by omega) dX1_kinds_25 (by decide) (fun c25 => ?_) (fun c25 => ?_)
        · refine lv_aload_n zx zb dX1_kinds_60 rfl (lv_at hl 3 rfl) ?_
          refine nv_get zC hX in_X1 0 rfl rfl 7 (by decide) q1199 (fun _ h => h) rfl dX1_kinds_61 ?_
          refine lv_iload_n zx zb dX1_kinds_64 rfl (lv_at hl 4 rfl) ?_
          refine lv_iload_n zx zb dX1_kinds_65 rfl (lv_at hl 2 rfl) ?_
          refine nv_iast zC hX 4 rfl (by omega) (by decide) (nF_up _ _ _) (w' := mW dA a fault trace sorts shL cells words said (va_up ar ii (kind ii)) longOf letters saidRow at_ rdW rKind rLong rLet lk lL next heard far ways waysT free freeT rdgs rWord rMany rStands rRow ex) rfl dX1_kinds_66 (fun H locs hX => ?_)
          have hX : nvS D a0 (mW dA a fault trace sorts shL cells words said kind longOf letters saidRow at_ rdW rKind rLong rLet lk lL next heard far ways waysT free freeT rdgs rWord rMany rStands rRow ex) s.heap H locs := by (have zq := va_up_b har; rw [zq] at hX; exact hX)
          refine lv_iload_n zx zb dX1_kinds_67 rfl (lv_at hl 1 rfl) ?_
          rw [← zQ]
          exact nv_endi zC zr zk (lk, lL) hX (by (try dsimp only); refine ⟨?_, h3⟩; unfold F_kinds; rw [if_pos c5, ei, show (3 : Nat) = v by omega]) (by omega) (by omega) dX1_kinds_68
        · refine lv_aload_n zx zb dX1_kinds_28 rfl (lv_at hl 3 rfl) ?_
          refine nv_get zC hX in_X1 0 rfl rfl 7 (by decide) q1199 (fun _ h => h) rfl dX1_kinds_29 ?_
          refine lv_iload_n zx zb dX1_kinds_32 rfl (lv_at hl 4 rfl) ?_
          refine lv_iload zx zb dX1_kinds_33 (lv_at hl 0 rfl) ?_
          refine nv_iast zC hX 4 rfl (by omega) (by decide) (nF_up _ _ _) (w' := mW dA a fault trace sorts shL cells words said (va_up ar ii v) longOf letters saidRow at_ rdW rKind rLong rLet lk lL next heard far ways waysT free freeT rdgs rWord rMany rStands rRow ex) rfl dX1_kinds_35 (fun H locs hX => ?_)
          have hX : nvS D a0 (mW dA a fault trace sorts shL cells words said (va_up kind ii v) longOf letters saidRow at_ rdW rKind rLong rLet lk lL next heard far ways waysT free freeT rdgs rWord rMany rStands rRow ex) s.heap H locs := by (have zq := va_up_o (v := v) har; rw [zq] at hX; exact hX)
          refine lv_iload_n zx zb dX1_kinds_36 rfl (lv_at hl 1 rfl) ?_
          refine lv_aload_n zx zb dX1_kinds_37 rfl (lv_at hl 3 rfl) ?_
          refine nv_ki zC hX (nv_rV (n := 0) (As := []) (rest := [.int (nI (bitsUp (fun v => soB (va_up kind ii v) longOf letters rdgs rWord rMany rStands rRow) v))]) (q0 := 0) zC hX (mm_areSo (hok := (mOK_k hok (by omega))) (hlk := (by first | assumption | omega)) (hro := (by first | assumption | omega))) nvGb0 (fun _ _ _ => trivial) rfl rfl q1457 q1459 qs55 q63 q1460 (by decide +kernel) rfl ⟨Nat.le_of_ble_eq_true rfl, Nat.le_of_ble_eq_true rfl⟩ hl.1 (Nat.le_of_ble_eq_true rfl) dX1_kinds_38 ⟨by first | exact Nat.le_of_ble_eq_true rfl | omega, by first | exact Nat.le_of_ble_eq_true rfl | omega⟩) (fun r u H locs hp hX => ?_)
          obtain ⟨looked'_2, lkL'_2⟩ := u
          obtain ⟨hr_, h38⟩ : r = nB (soB (va_up kind ii v) longOf letters rdgs rWord rMany rStands rRow) ∧ (∀ z, looked'_2 z < 3) := hp
          subst hr_
          have hX : nvS D a0 (mW dA a fault trace sorts shL cells words said (va_up kind ii v) longOf letters saidRow at_ rdW rKind rLong rLet looked'_2 lkL'_2 next heard far ways waysT free freeT rdgs rWord rMany rStands rRow ex) s.heap H locs := hX
          refine W.cs (cells' := 0) (slots' := 0) (Nat.add_zero _) (Nat.add_zero _) ?_
          refine nv_if_eqB (tgt := 51) zx zb dX1_kinds_41 (by decide) (fun c41 => ?_) (fun c41 => ?_)
          · refine lv_iconst (v := nI 0) zx zb dX1_kinds_51 (by decide) ?_
            refine nv_ior zx zb dX1_kinds_52 ?_
            refine nv_as (show nI ((bitsUp (fun v => soB (va_up kind ii v) longOf letters rdgs rWord rMany rStands rRow) v) ||| 0) = nI (bitsUp (fun v => soB (va_up kind ii v) longOf letters rdgs rWord rMany rStands rRow) (v + 1)) from (congrArg nI (bitsUp_f c41))) ?_
            refine lv_istore_n (lv' := [(3, .int (nI (bitsUp (fun v => soB (va_up kind ii v) longOf letters rdgs rWord rMany rStands rRow) (v + 1)))), (4, .int (nI v)), (2, .int (nI (kind ii))), (0, .ref (a 0)), (1, .int (nI ii))]) zx zb dX1_kinds_53 rfl hl (by decide) rfl (fun ls hl => ?_)
            refine lv_iinc (v := nI (v + 1)) (lv' := [(4, .int (nI (v + 1))), (3, .int (nI (bitsUp (fun v => soB (va_up kind ii v) longOf letters rdgs rWord rMany rStands rRow) (v + 1)))), (2, .int (nI (kind ii))), (0, .ref (a 0)), (1, .int (nI ii))]) zx zb dX1_kinds_54 hl (k := 1) rfl (nI_1 _) (by decide) rfl (fun ls hl => ?_)
            refine lv_goto (tgt := 22) zx zb dX1_kinds_57 (by decide) ?_
            exact ih22 looked'_2 (va_up kind ii v) lkL'_2 (v + 1) (by omega) h38 (fun z hz => va_up_ne _ _ hz) (by omega) _ _ _ hX (lv_sub hl [0, 1, 2, 3, 4] rfl)
          · refine lv_iconst (v := nI 1) zx zb dX1_kinds_44 (by decide) ?_
            refine lv_iload zx zb dX1_kinds_45 (lv_at hl 0 rfl) ?_
            refine nv_ishl1 zx zb (by omega) dX1_kinds_47 ?_
            refine lv_goto (tgt := 52) zx zb dX1_kinds_48 (by decide) ?_
            refine nv_ior zx zb dX1_kinds_52 ?_
            refine nv_as (show nI ((bitsUp (fun v => soB (va_up kind ii v) longOf letters rdgs rWord rMany rStands rRow) v) ||| (2 ^ v)) = nI (bitsUp (fun v => soB (va_up kind ii v) longOf letters rdgs rWord rMany rStands rRow) (v + 1)) from (congrArg nI (bitsUp_t c41))) ?_
            refine lv_istore_n (lv' := [(3, .int (nI (bitsUp (fun v => soB (va_up kind ii v) longOf letters rdgs rWord rMany rStands rRow) (v + 1)))), (4, .int (nI v)), (2, .int (nI (kind ii))), (0, .ref (a 0)), (1, .int (nI ii))]) zx zb dX1_kinds_53 rfl hl (by decide) rfl (fun ls hl => ?_)
            refine lv_iinc (v := nI (v + 1)) (lv' := [(4, .int (nI (v + 1))), (3, .int (nI (bitsUp (fun v => soB (va_up kind ii v) longOf letters rdgs rWord rMany rStands rRow) (v + 1)))), (2, .int (nI (kind ii))), (0, .ref (a 0)), (1, .int (nI ii))]) zx zb dX1_kinds_54 hl (k := 1) rfl (nI_1 _) (by decide) rfl (fun ls hl => ?_)
            refine lv_goto (tgt := 22) zx zb dX1_kinds_57 (by decide) ?_
            exact ih22 looked'_2 (va_up kind ii v) lkL'_2 (v + 1) (by omega) h38 (fun z hz => va_up_ne _ _ hz) (by omega) _ _ _ hX (lv_sub hl [0, 1, 2, 3, 4] rfl)
    exact L22 _ looked kind lkL 0 (by omega) hlk (fun _ _ => rfl) (Nat.lt_succ_self _) _ _ _ hX (lv_sub hl [0, 1, 2, 3, 4] rfl)
  · refine lv_iconst (v := (-1)) zx zb dX1_kinds_8 (by decide) ?_
    rw [← zQ]
    exact nv_endi zC zr zk (looked, lkL) hX (by (try dsimp only); exact ⟨by unfold F_kinds; rw [if_neg (fun z => absurd (z.symm.trans c5) (by decide))], hlk⟩) (by omega) (by omega) dX1_kinds_9
end
