/-! THE MODEL: contracts, printed by tools/model.py -/
set_option maxRecDepth 100000
section
variable {l : Launch} {D : va_G} {dA : Nat → ClassId} {a0 : Nat} {a : Nat → Nat} {ex : va_W} {fault : Int32} {trace : Int32} {sorts : Nat → Option Nat} {shL : Nat → Nat} {cells : Nat → Int32} {words : Nat} {said : Nat} {kind : Nat → Nat} {longOf : Nat → Nat} {letters : Nat → Nat} {saidRow : Nat → Nat} {at_ : Nat} {rdW : Nat} {rKind : Nat → Option Nat} {rLong : Nat → Nat} {rLet : Nat → Nat} {looked : Nat → Nat} {lkL : Nat} {next : Nat → Nat} {heard : Nat → Nat} {far : Nat → Option Nat} {ways : Nat → Nat} {waysT : Nat → Nat} {free : Nat → Nat} {freeT : Nat → Nat} {rdgs : Nat} {rWord : Nat → Nat} {rMany : Nat → Nat} {rStands : Nat → Nat} {rRow : Nat → Nat}
set_option maxHeartbeats 4000000 in
theorem mm_tell  (x : Int32) (hok : mOK words kind longOf letters) : nMt l D dA a0 yX1_tell cX1_tell 3 (some .int) 2 33 0 0 nvG0 [.ref (a 0), .int x] (mW dA a fault trace sorts shL cells words said kind longOf letters saidRow at_ rdW rKind rLong rLet looked lkL next heard far ways waysT free freeT rdgs rWord rMany rStands rRow ex) (nQi D a0 (fun (r : Int32) (trace' : Int32) => r = F_tell words kind longOf x ∧ trace' = G_tell words kind trace x) (fun (trace' : Int32) => mW dA a fault trace' sorts shL cells words said kind longOf letters saidRow at_ rdW rKind rLong rLet looked lkL next heard far ways waysT free freeT rdgs rWord rMany rStands rRow ex)) := by
  refine nv_start (by decide) (Nat.le_of_ble_eq_true rfl) fun zp ze s zm zlo zme zcd ls zC zr zk znm hX zG hl => ?_
  have zx := zC.1
  have zb := zC.2.1
  generalize zargs : ([.ref (a 0), .int x] : List Value).toArray = zar at zC ⊢
  generalize zQ : MQ zlo _ zar s _ _ _ = Q
  have hX : nvS D a0 (mW dA a fault trace sorts shL cells words said kind longOf letters saidRow at_ rdW rKind rLong rLet looked lkL next heard far ways waysT free freeT rdgs rWord rMany rStands rRow ex) s.heap s.heap [] := hX
  have hl : lv_has ls 3 [(0, .ref (a 0)), (1, .int x)] := hl
  obtain ⟨H, zH⟩ : ∃ H, H = s.heap := ⟨_, rfl⟩
  have hX : nvS D a0 (mW dA a fault trace sorts shL cells words said kind longOf letters saidRow at_ rdW rKind rLong rLet looked lkL next heard far ways waysT free freeT rdgs rWord rMany rStands rRow ex) s.heap H [] := by rw [zH]; exact hX
  rw [show W zp l ze (rm_ 2 33 0 0) s zm zar zlo zme zcd s.heap [] 0 0 Q = W zp l ze (rm_ 2 33 0 0) s zm zar zlo zme zcd H [] 0 0 Q by rw [zH]]
  generalize ([] : List Loc) = locs at hX ⊢
  have hw4 := hok.1
  have hlt := hok.2.2.2
  refine lv_aload_n zx zb dX1_tell_0 rfl (lv_at hl 0 rfl) ?_
  refine lv_iload_n zx zb dX1_tell_1 rfl (lv_at hl 1 rfl) ?_
  refine nv_ki zC hX (nv_rV (n := 1) (As := [.int x]) (rest := []) (q0 := 0) zC hX (mm_isWord (v := x)) nvGb0 (fun _ _ _ => trivial) rfl rfl q1320 q1322 qs34 q63 q1323 (by decide +kernel) rfl ⟨Nat.le_of_ble_eq_true rfl, Nat.le_of_ble_eq_true rfl⟩ hl.1 (Nat.le_of_ble_eq_true rfl) dX1_tell_2 ⟨by first | exact Nat.le_of_ble_eq_true rfl | omega, by first | exact Nat.le_of_ble_eq_true rfl | omega⟩) (fun r u H locs hp hX => ?_)
  have hr_ : r = nB (isW words x) := hp
  subst hr_
  have hX : nvS D a0 (mW dA a fault trace sorts shL cells words said kind longOf letters saidRow at_ rdW rKind rLong rLet looked lkL next heard far ways waysT free freeT rdgs rWord rMany rStands rRow ex) s.heap H locs := hX
  refine W.cs (cells' := 0) (slots' := 0) (Nat.add_zero _) (Nat.add_zero _) ?_
  refine nv_if_neB (tgt := 10) zx zb dX1_tell_5 (by decide) (fun c5 => ?_) (fun c5 => ?_)
  · obtain ⟨ii, hi, rfl⟩ := isW_t (by omega) c5
    have hln_i := hok.2.2.1 ii
    have hkd_i := hok.2.1 ii
    have ei : i2n (nI ii) = ii := nI_clamp (by omega)
    refine lv_aload_n zx zb dX1_tell_10 rfl (lv_at hl 0 rfl) ?_
    refine nv_get zC hX in_X1 0 rfl rfl 8 (by decide) q1200 (fun _ h => h) rfl dX1_tell_11 ?_
    refine lv_iload_n zx zb dX1_tell_14 rfl (lv_at hl 1 rfl) ?_
    refine nv_iald (v := nI (longOf ii)) zC hX 5 rfl (by omega) (by decide) rfl dX1_tell_15 ?_
    refine lv_istore_n (lv' := [(2, .int (nI (longOf ii))), (0, .ref (a 0)), (1, .int (nI ii))]) zx zb dX1_tell_16 rfl hl (by decide) rfl (fun ls hl => ?_)
    refine lv_aload_n zx zb dX1_tell_17 rfl (lv_at hl 1 rfl) ?_
    refine nv_get zC hX in_X1 0 rfl rfl 7 (by decide) q1199 (fun _ h => h) rfl dX1_tell_18 ?_
    refine lv_iload_n zx zb dX1_tell_21 rfl (lv_at hl 2 rfl) ?_
    refine nv_iald (v := nI (kind ii)) zC hX 4 rfl (by omega) (by decide) rfl dX1_tell_22 ?_
    rcases (by omega : kind ii = 0 ∨ kind ii = 1 ∨ kind ii = 2) with hkv | hkv | hkv
    · rw [hkv]
      refine lv_lookup (off := 67) (tgt := 90) zx zb dX1_tell_23 (by decide) (by decide) (by decide) ?_
      refine lv_aload_n zx zb dX1_tell_90 rfl (lv_at hl 1 rfl) ?_
      refine lv_iconst (v := nI 1) zx zb dX1_tell_91 (by decide) ?_
      refine nv_kv zC hX (nv_rV (n := 1) (As := [.int (nI 1)]) (rest := []) (q0 := 0) zC hX (mm_begins (k := 1)) nvGb0 (fun _ _ _ => trivial) rfl rfl q1501 q1503 qs57 q63 q1504 (by decide +kernel) rfl ⟨Nat.le_of_ble_eq_true rfl, Nat.le_of_ble_eq_true rfl⟩ hl.1 (Nat.le_of_ble_eq_true rfl) dX1_tell_92 ⟨by first | exact Nat.le_of_ble_eq_true rfl | omega, by first | exact Nat.le_of_ble_eq_true rfl | omega⟩) (fun u H locs hp hX => ?_)
      have hX : nvS D a0 (mW dA a fault (nI 31 * trace + nI 1) sorts shL cells words said kind longOf letters saidRow at_ rdW rKind rLong rLet looked lkL next heard far ways waysT free freeT rdgs rWord rMany rStands rRow ex) s.heap H locs := hX
      refine W.cs (cells' := 0) (slots' := 0) (Nat.add_zero _) (Nat.add_zero _) ?_
      refine lv_iload_n zx zb dX1_tell_95 rfl (lv_at hl 0 rfl) ?_
      rw [← zQ]
      exact nv_endi zC zr zk (nI 31 * trace + nI 1) hX (by exact ⟨by unfold F_tell; rw [c5, if_pos rfl, ei, if_pos hkv], by unfold G_tell; rw [c5, if_pos rfl, ei, if_pos hkv]; rfl⟩) (by omega) (by omega) dX1_tell_96
    · rw [hkv]
      refine lv_lookup (off := 25) (tgt := 48) zx zb dX1_tell_23 (by decide) (by decide) (by decide) ?_
      refine lv_aload_n zx zb dX1_tell_48 rfl (lv_at hl 1 rfl) ?_
      refine lv_iconst (v := nI 2) zx zb dX1_tell_49 (by decide) ?_
      refine nv_kv zC hX (nv_rV (n := 1) (As := [.int (nI 2)]) (rest := []) (q0 := 0) zC hX (mm_begins (k := 2)) nvGb0 (fun _ _ _ => trivial) rfl rfl q1501 q1503 qs57 q63 q1504 (by decide +kernel) rfl ⟨Nat.le_of_ble_eq_true rfl, Nat.le_of_ble_eq_true rfl⟩ hl.1 (Nat.le_of_ble_eq_true rfl) dX1_tell_50 ⟨by first | exact Nat.le_of_ble_eq_true rfl | omega, by first | exact Nat.le_of_ble_eq_true rfl | omega⟩) (fun u H locs hp hX => ?_)
      have hX : nvS D a0 (mW dA a fault (nI 31 * trace + nI 2) sorts shL cells words said kind longOf letters saidRow at_ rdW rKind rLong rLet looked lkL next heard far ways waysT free freeT rdgs rWord rMany rStands rRow ex) s.heap H locs := hX
      refine W.cs (cells' := 0) (slots' := 0) (Nat.add_zero _) (Nat.add_zero _) ?_
      refine lv_aload_n zx zb dX1_tell_53 rfl (lv_at hl 1 rfl) ?_
      refine lv_iconst (v := nI 1) zx zb dX1_tell_54 (by decide) ?_
      refine nv_kv zC hX (nv_rV (n := 1) (As := [.int (nI 1)]) (rest := []) (q0 := 0) zC hX (mm_begins (k := 1)) nvGb0 (fun _ _ _ => trivial) rfl rfl q1501 q1503 qs57 q63 q1504 (by decide +kernel) rfl ⟨Nat.le_of_ble_eq_true rfl, Nat.le_of_ble_eq_true rfl⟩ hl.1 (Nat.le_of_ble_eq_true rfl) dX1_tell_55 ⟨by first | exact Nat.le_of_ble_eq_true rfl | omega, by first | exact Nat.le_of_ble_eq_true rfl | omega⟩) (fun u H locs hp hX => ?_)
      have hX : nvS D a0 (mW dA a fault (nI 31 * (nI 31 * trace + nI 2) + nI 1) sorts shL cells words said kind longOf letters saidRow at_ rdW rKind rLong rLet looked lkL next heard far ways waysT free freeT rdgs rWord rMany rStands rRow ex) s.heap H locs := hX
      refine W.cs (cells' := 0) (slots' := 0) (Nat.add_zero _) (Nat.add_zero _) ?_
      refine lv_iload_n zx zb dX1_tell_58 rfl (lv_at hl 0 rfl) ?_
      refine lv_bipush (v := nI 100) zx zb dX1_tell_59 (by decide) ?_
      refine nv_iadd zx zb dX1_tell_61 ?_
      rw [← zQ]
      exact nv_endi zC zr zk (nI 31 * (nI 31 * trace + nI 2) + nI 1) hX (by exact ⟨by unfold F_tell; rw [c5, if_pos rfl, ei, if_neg (by omega), if_pos hkv], by unfold G_tell; rw [c5, if_pos rfl, ei, if_neg (by omega), if_pos hkv]; rfl⟩) (by omega) (by omega) dX1_tell_62
    · rw [hkv]
      refine lv_lookup (off := 40) (tgt := 63) zx zb dX1_tell_23 (by decide) (by decide) (by decide) ?_
      refine lv_aload_n zx zb dX1_tell_63 rfl (lv_at hl 1 rfl) ?_
      refine lv_iconst (v := nI 3) zx zb dX1_tell_64 (by decide) ?_
      refine nv_kv zC hX (nv_rV (n := 1) (As := [.int (nI 3)]) (rest := []) (q0 := 0) zC hX (mm_begins (k := 3)) nvGb0 (fun _ _ _ => trivial) rfl rfl q1501 q1503 qs57 q63 q1504 (by decide +kernel) rfl ⟨Nat.le_of_ble_eq_true rfl, Nat.le_of_ble_eq_true rfl⟩ hl.1 (Nat.le_of_ble_eq_true rfl) dX1_tell_65 ⟨by first | exact Nat.le_of_ble_eq_true rfl | omega, by first | exact Nat.le_of_ble_eq_true rfl | omega⟩) (fun u H locs hp hX => ?_)
      have hX : nvS D a0 (mW dA a fault (nI 31 * trace + nI 3) sorts shL cells words said kind longOf letters saidRow at_ rdW rKind rLong rLet looked lkL next heard far ways waysT free freeT rdgs rWord rMany rStands rRow ex) s.heap H locs := hX
      refine W.cs (cells' := 0) (slots' := 0) (Nat.add_zero _) (Nat.add_zero _) ?_
      refine lv_aload_n zx zb dX1_tell_68 rfl (lv_at hl 1 rfl) ?_
      refine lv_iconst (v := nI 2) zx zb dX1_tell_69 (by decide) ?_
      refine nv_kv zC hX (nv_rV (n := 1) (As := [.int (nI 2)]) (rest := []) (q0 := 0) zC hX (mm_begins (k := 2)) nvGb0 (fun _ _ _ => trivial) rfl rfl q1501 q1503 qs57 q63 q1504 (by decide +kernel) rfl ⟨Nat.le_of_ble_eq_true rfl, Nat.le_of_ble_eq_true rfl⟩ hl.1 (Nat.le_of_ble_eq_true rfl) dX1_tell_70 ⟨by first | exact Nat.le_of_ble_eq_true rfl | omega, by first | exact Nat.le_of_ble_eq_true rfl | omega⟩) (fun u H locs hp hX => ?_)
      have hX : nvS D a0 (mW dA a fault (nI 31 * (nI 31 * trace + nI 3) + nI 2) sorts shL cells words said kind longOf letters saidRow at_ rdW rKind rLong rLet looked lkL next heard far ways waysT free freeT rdgs rWord rMany rStands rRow ex) s.heap H locs := hX
      refine W.cs (cells' := 0) (slots' := 0) (Nat.add_zero _) (Nat.add_zero _) ?_
      refine lv_aload_n zx zb dX1_tell_73 rfl (lv_at hl 1 rfl) ?_
      refine lv_iconst (v := nI 1) zx zb dX1_tell_74 (by decide) ?_
      refine nv_kv zC hX (nv_rV (n := 1) (As := [.int (nI 1)]) (rest := []) (q0 := 0) zC hX (mm_begins (k := 1)) nvGb0 (fun _ _ _ => trivial) rfl rfl q1501 q1503 qs57 q63 q1504 (by decide +kernel) rfl ⟨Nat.le_of_ble_eq_true rfl, Nat.le_of_ble_eq_true rfl⟩ hl.1 (Nat.le_of_ble_eq_true rfl) dX1_tell_75 ⟨by first | exact Nat.le_of_ble_eq_true rfl | omega, by first | exact Nat.le_of_ble_eq_true rfl | omega⟩) (fun u H locs hp hX => ?_)
      have hX : nvS D a0 (mW dA a fault (nI 31 * (nI 31 * (nI 31 * trace + nI 3) + nI 2) + nI 1) sorts shL cells words said kind longOf letters saidRow at_ rdW rKind rLong rLet looked lkL next heard far ways waysT free freeT rdgs rWord rMany rStands rRow ex) s.heap H locs := hX
      refine W.cs (cells' := 0) (slots' := 0) (Nat.add_zero _) (Nat.add_zero _) ?_
      refine lv_aload_n zx zb dX1_tell_78 rfl (lv_at hl 1 rfl) ?_
      refine lv_iconst (v := nI 1) zx zb dX1_tell_79 (by decide) ?_
      refine nv_kv zC hX (nv_rV (n := 1) (As := [.int (nI 1)]) (rest := []) (q0 := 0) zC hX (mm_begins (k := 1)) nvGb0 (fun _ _ _ => trivial) rfl rfl q1501 q1503 qs57 q63 q1504 (by decide +kernel) rfl ⟨Nat.le_of_ble_eq_true rfl, Nat.le_of_ble_eq_true rfl⟩ hl.1 (Nat.le_of_ble_eq_true rfl) dX1_tell_80 ⟨by first | exact Nat.le_of_ble_eq_true rfl | omega, by first | exact Nat.le_of_ble_eq_true rfl | omega⟩) (fun u H locs hp hX => ?_)
      have hX : nvS D a0 (mW dA a fault (nI 31 * (nI 31 * (nI 31 * (nI 31 * trace + nI 3) + nI 2) + nI 1) + nI 1) sorts shL cells words said kind longOf letters saidRow at_ rdW rKind rLong rLet looked lkL next heard far ways waysT free freeT rdgs rWord rMany rStands rRow ex) s.heap H locs := hX
      refine W.cs (cells' := 0) (slots' := 0) (Nat.add_zero _) (Nat.add_zero _) ?_
      refine lv_iconst (v := nI 2) zx zb dX1_tell_83 (by decide) ?_
      refine lv_iload_n zx zb dX1_tell_84 rfl (lv_at hl 0 rfl) ?_
      refine nv_imul zx zb dX1_tell_85 ?_
      refine lv_bipush (v := nI 100) zx zb dX1_tell_86 (by decide) ?_
      refine nv_iadd zx zb dX1_tell_88 ?_
      rw [← zQ]
      exact nv_endi zC zr zk (nI 31 * (nI 31 * (nI 31 * (nI 31 * trace + nI 3) + nI 2) + nI 1) + nI 1) hX (by exact ⟨by unfold F_tell; rw [c5, if_pos rfl, ei, if_neg (by omega), if_neg (by omega)], by unfold G_tell; rw [c5, if_pos rfl, ei, if_neg (by omega), if_neg (by omega)]; rfl⟩) (by omega) (by omega) dX1_tell_89
  · refine lv_iconst (v := (-1)) zx zb dX1_tell_8 (by decide) ?_
    rw [← zQ]
    exact nv_endi zC zr zk trace hX (by exact ⟨by unfold F_tell; rw [c5]; rfl, by unfold G_tell; rw [c5]; rfl⟩) (by omega) (by omega) dX1_tell_9

set_option maxHeartbeats 4000000 in
theorem mm_spelt  (x : Int32) (hok : mOK words kind longOf letters) : nMt l D dA a0 yX1_spelt cX1_spelt 2 (some .int) 2 33 0 0 nvG0 [.ref (a 0), .int x] (mW dA a fault trace sorts shL cells words said kind longOf letters saidRow at_ rdW rKind rLong rLet looked lkL next heard far ways waysT free freeT rdgs rWord rMany rStands rRow ex) (nQi D a0 (fun (r : Int32) (trace' : Int32) => r = F_spelt words kind letters x ∧ trace' = G_spelt words kind trace x) (fun (trace' : Int32) => mW dA a fault trace' sorts shL cells words said kind longOf letters saidRow at_ rdW rKind rLong rLet looked lkL next heard far ways waysT free freeT rdgs rWord rMany rStands rRow ex)) := by
  refine nv_start (by decide) (Nat.le_of_ble_eq_true rfl) fun zp ze s zm zlo zme zcd ls zC zr zk znm hX zG hl => ?_
  have zx := zC.1
  have zb := zC.2.1
  generalize zargs : ([.ref (a 0), .int x] : List Value).toArray = zar at zC ⊢
  generalize zQ : MQ zlo _ zar s _ _ _ = Q
  have hX : nvS D a0 (mW dA a fault trace sorts shL cells words said kind longOf letters saidRow at_ rdW rKind rLong rLet looked lkL next heard far ways waysT free freeT rdgs rWord rMany rStands rRow ex) s.heap s.heap [] := hX
  have hl : lv_has ls 2 [(0, .ref (a 0)), (1, .int x)] := hl
  obtain ⟨H, zH⟩ : ∃ H, H = s.heap := ⟨_, rfl⟩
  have hX : nvS D a0 (mW dA a fault trace sorts shL cells words said kind longOf letters saidRow at_ rdW rKind rLong rLet looked lkL next heard far ways waysT free freeT rdgs rWord rMany rStands rRow ex) s.heap H [] := by rw [zH]; exact hX
  rw [show W zp l ze (rm_ 2 33 0 0) s zm zar zlo zme zcd s.heap [] 0 0 Q = W zp l ze (rm_ 2 33 0 0) s zm zar zlo zme zcd H [] 0 0 Q by rw [zH]]
  generalize ([] : List Loc) = locs at hX ⊢
  have hw4 := hok.1
  have hlt := hok.2.2.2
  refine lv_aload_n zx zb dX1_spelt_0 rfl (lv_at hl 0 rfl) ?_
  refine lv_iload_n zx zb dX1_spelt_1 rfl (lv_at hl 1 rfl) ?_
  refine nv_ki zC hX (nv_rV (n := 1) (As := [.int x]) (rest := []) (q0 := 0) zC hX (mm_isWord (v := x)) nvGb0 (fun _ _ _ => trivial) rfl rfl q1320 q1322 qs34 q63 q1323 (by decide +kernel) rfl ⟨Nat.le_of_ble_eq_true rfl, Nat.le_of_ble_eq_true rfl⟩ hl.1 (Nat.le_of_ble_eq_true rfl) dX1_spelt_2 ⟨by first | exact Nat.le_of_ble_eq_true rfl | omega, by first | exact Nat.le_of_ble_eq_true rfl | omega⟩) (fun r u H locs hp hX => ?_)
  have hr_ : r = nB (isW words x) := hp
  subst hr_
  have hX : nvS D a0 (mW dA a fault trace sorts shL cells words said kind longOf letters saidRow at_ rdW rKind rLong rLet looked lkL next heard far ways waysT free freeT rdgs rWord rMany rStands rRow ex) s.heap H locs := hX
  refine W.cs (cells' := 0) (slots' := 0) (Nat.add_zero _) (Nat.add_zero _) ?_
  refine nv_if_neB (tgt := 10) zx zb dX1_spelt_5 (by decide) (fun c5 => ?_) (fun c5 => ?_)
  · obtain ⟨ii, hi, rfl⟩ := isW_t (by omega) c5
    have hln_i := hok.2.2.1 ii
    have hkd_i := hok.2.1 ii
    have ei : i2n (nI ii) = ii := nI_clamp (by omega)
    refine lv_aload_n zx zb dX1_spelt_10 rfl (lv_at hl 0 rfl) ?_
    refine lv_aload_n zx zb dX1_spelt_11 rfl (lv_at hl 0 rfl) ?_
    refine nv_get zC hX in_X1 0 rfl rfl 7 (by decide) q1199 (fun _ h => h) rfl dX1_spelt_12 ?_
    refine lv_iload_n zx zb dX1_spelt_15 rfl (lv_at hl 1 rfl) ?_
    refine nv_iald (v := nI (kind ii)) zC hX 4 rfl (by omega) (by decide) rfl dX1_spelt_16 ?_
    refine lv_iconst (v := nI 2) zx zb dX1_spelt_17 (by decide) ?_
    refine nv_icmp_ne (tgt := 25) zx zb (by omega) (by omega) dX1_spelt_18 (by decide) (fun c18 => ?_) (fun c18 => ?_)
    · refine lv_iconst (v := nI 4) zx zb dX1_spelt_25 (by decide) ?_
      refine nv_kv zC hX (nv_rV (n := 1) (As := [.int (nI 4)]) (rest := []) (q0 := 0) zC hX (mm_begins (k := 4)) nvGb0 (fun _ _ _ => trivial) rfl rfl q1501 q1503 qs57 q63 q1504 (by decide +kernel) rfl ⟨Nat.le_of_ble_eq_true rfl, Nat.le_of_ble_eq_true rfl⟩ hl.1 (Nat.le_of_ble_eq_true rfl) dX1_spelt_26 ⟨by first | exact Nat.le_of_ble_eq_true rfl | omega, by first | exact Nat.le_of_ble_eq_true rfl | omega⟩) (fun u H locs hp hX => ?_)
      have hX : nvS D a0 (mW dA a fault (nI 31 * trace + nI 4) sorts shL cells words said kind longOf letters saidRow at_ rdW rKind rLong rLet looked lkL next heard far ways waysT free freeT rdgs rWord rMany rStands rRow ex) s.heap H locs := hX
      refine W.cs (cells' := 0) (slots' := 0) (Nat.add_zero _) (Nat.add_zero _) ?_
      refine lv_aload_n zx zb dX1_spelt_29 rfl (lv_at hl 0 rfl) ?_
      refine nv_get zC hX in_X1 0 rfl rfl 7 (by decide) q1199 (fun _ h => h) rfl dX1_spelt_30 ?_
      refine lv_iload_n zx zb dX1_spelt_33 rfl (lv_at hl 1 rfl) ?_
      refine nv_iald (v := nI (kind ii)) zC hX 4 rfl (by omega) (by decide) rfl dX1_spelt_34 ?_
      refine lv_iconst (v := nI 2) zx zb dX1_spelt_35 (by decide) ?_
      refine nv_icmp_ne (tgt := 44) zx zb (by omega) (by omega) dX1_spelt_36 (by decide) (fun c36 => ?_) (fun c36 => ?_)
      · refine lv_aload_n zx zb dX1_spelt_44 rfl (lv_at hl 0 rfl) ?_
        refine nv_get zC hX in_X1 0 rfl rfl 9 (by decide) q1201 (fun _ h => h) rfl dX1_spelt_45 ?_
        refine lv_iconst (v := nI 4) zx zb dX1_spelt_48 (by decide) ?_
        refine lv_iload_n zx zb dX1_spelt_49 rfl (lv_at hl 1 rfl) ?_
        refine nv_imul zx zb dX1_spelt_50 ?_
        refine nv_iald (v := nI (letters (4 * ii))) zC hX 6 rfl (by omega) (by decide) rfl dX1_spelt_51 ?_
        rw [← zQ]
        exact nv_endi zC zr zk (nI 31 * trace + nI 4) hX (by first | omega | exact ⟨by unfold F_spelt; rw [c5, if_pos rfl, ei, if_neg c18], by unfold G_spelt; rw [c5, if_pos rfl, ei, if_neg c18]; rfl⟩) (by omega) (by omega) dX1_spelt_52
      · refine lv_bipush (v := nI 30) zx zb dX1_spelt_39 (by decide) ?_
        refine lv_goto (tgt := 52) zx zb dX1_spelt_41 (by decide) ?_
        rw [← zQ]
        exact nv_endi zC zr zk (nI 31 * trace + nI 4) hX (by first | omega | exact ⟨by unfold F_spelt; rw [c5, if_pos rfl, ei, if_neg c18], by unfold G_spelt; rw [c5, if_pos rfl, ei, if_neg c18]; rfl⟩) (by omega) (by omega) dX1_spelt_52
    · refine lv_iconst (v := nI 5) zx zb dX1_spelt_21 (by decide) ?_
      refine lv_goto (tgt := 26) zx zb dX1_spelt_22 (by decide) ?_
      refine nv_kv zC hX (nv_rV (n := 1) (As := [.int (nI 5)]) (rest := []) (q0 := 0) zC hX (mm_begins (k := 5)) nvGb0 (fun _ _ _ => trivial) rfl rfl q1501 q1503 qs57 q63 q1504 (by decide +kernel) rfl ⟨Nat.le_of_ble_eq_true rfl, Nat.le_of_ble_eq_true rfl⟩ hl.1 (Nat.le_of_ble_eq_true rfl) dX1_spelt_26 ⟨by first | exact Nat.le_of_ble_eq_true rfl | omega, by first | exact Nat.le_of_ble_eq_true rfl | omega⟩) (fun u H locs hp hX => ?_)
      have hX : nvS D a0 (mW dA a fault (nI 31 * trace + nI 5) sorts shL cells words said kind longOf letters saidRow at_ rdW rKind rLong rLet looked lkL next heard far ways waysT free freeT rdgs rWord rMany rStands rRow ex) s.heap H locs := hX
      refine W.cs (cells' := 0) (slots' := 0) (Nat.add_zero _) (Nat.add_zero _) ?_
      refine lv_aload_n zx zb dX1_spelt_29 rfl (lv_at hl 0 rfl) ?_
      refine nv_get zC hX in_X1 0 rfl rfl 7 (by decide) q1199 (fun _ h => h) rfl dX1_spelt_30 ?_
      refine lv_iload_n zx zb dX1_spelt_33 rfl (lv_at hl 1 rfl) ?_
      refine nv_iald (v := nI (kind ii)) zC hX 4 rfl (by omega) (by decide) rfl dX1_spelt_34 ?_
      refine lv_iconst (v := nI 2) zx zb dX1_spelt_35 (by decide) ?_
      refine nv_icmp_ne (tgt := 44) zx zb (by omega) (by omega) dX1_spelt_36 (by decide) (fun c36 => ?_) (fun c36 => ?_)
      · refine lv_aload_n zx zb dX1_spelt_44 rfl (lv_at hl 0 rfl) ?_
        refine nv_get zC hX in_X1 0 rfl rfl 9 (by decide) q1201 (fun _ h => h) rfl dX1_spelt_45 ?_
        refine lv_iconst (v := nI 4) zx zb dX1_spelt_48 (by decide) ?_
        refine lv_iload_n zx zb dX1_spelt_49 rfl (lv_at hl 1 rfl) ?_
        refine nv_imul zx zb dX1_spelt_50 ?_
        refine nv_iald (v := nI (letters (4 * ii))) zC hX 6 rfl (by omega) (by decide) rfl dX1_spelt_51 ?_
        rw [← zQ]
        exact nv_endi zC zr zk (nI 31 * trace + nI 5) hX (by first | omega | exact ⟨by unfold F_spelt; rw [c5, if_pos rfl, ei, if_pos c18], by unfold G_spelt; rw [c5, if_pos rfl, ei, if_pos c18]; rfl⟩) (by omega) (by omega) dX1_spelt_52
      · refine lv_bipush (v := nI 30) zx zb dX1_spelt_39 (by decide) ?_
        refine lv_goto (tgt := 52) zx zb dX1_spelt_41 (by decide) ?_
        rw [← zQ]
        exact nv_endi zC zr zk (nI 31 * trace + nI 5) hX (by first | omega | exact ⟨by unfold F_spelt; rw [c5, if_pos rfl, ei, if_pos c18], by unfold G_spelt; rw [c5, if_pos rfl, ei, if_pos c18]; rfl⟩) (by omega) (by omega) dX1_spelt_52
  · refine lv_iconst (v := (-1)) zx zb dX1_spelt_8 (by decide) ?_
    rw [← zQ]
    exact nv_endi zC zr zk trace hX (by exact ⟨by unfold F_spelt; rw [c5]; rfl, by unfold G_spelt; rw [c5]; rfl⟩) (by omega) (by omega) dX1_spelt_9

set_option maxHeartbeats 4000000 in
theorem mm_as  (x : Int32) (sort : Int32) (hok : mOK words kind longOf letters) : nMt l D dA a0 yX1_as cX1_as 3 (some .int) 2 34 0 0 nvG0 [.ref (a 0), .int x, .int sort] (mW dA a fault trace sorts shL cells words said kind longOf letters saidRow at_ rdW rKind rLong rLet looked lkL next heard far ways waysT free freeT rdgs rWord rMany rStands rRow ex) (nQi D a0 (fun (r : Int32) (fault' : Int32) => r = F_as words kind x sort ∧ fault' = nI (g_as words kind x sort)) (fun (fault' : Int32) => mW dA a fault' trace sorts shL cells words said kind longOf letters saidRow at_ rdW rKind rLong rLet looked lkL next heard far ways waysT free freeT rdgs rWord rMany rStands rRow ex)) := by
  refine nv_start (by decide) (Nat.le_of_ble_eq_true rfl) fun zp ze s zm zlo zme zcd ls zC zr zk znm hX zG hl => ?_
  have zx := zC.1
  have zb := zC.2.1
  generalize zargs : ([.ref (a 0), .int x, .int sort] : List Value).toArray = zar at zC ⊢
  generalize zQ : MQ zlo _ zar s _ _ _ = Q
  have hX : nvS D a0 (mW dA a fault trace sorts shL cells words said kind longOf letters saidRow at_ rdW rKind rLong rLet looked lkL next heard far ways waysT free freeT rdgs rWord rMany rStands rRow ex) s.heap s.heap [] := hX
  have hl : lv_has ls 3 [(0, .ref (a 0)), (1, .int x), (2, .int sort)] := hl
  obtain ⟨H, zH⟩ : ∃ H, H = s.heap := ⟨_, rfl⟩
  have hX : nvS D a0 (mW dA a fault trace sorts shL cells words said kind longOf letters saidRow at_ rdW rKind rLong rLet looked lkL next heard far ways waysT free freeT rdgs rWord rMany rStands rRow ex) s.heap H [] := by rw [zH]; exact hX
  rw [show W zp l ze (rm_ 2 34 0 0) s zm zar zlo zme zcd s.heap [] 0 0 Q = W zp l ze (rm_ 2 34 0 0) s zm zar zlo zme zcd H [] 0 0 Q by rw [zH]]
  generalize ([] : List Loc) = locs at hX ⊢
  have hw4 := hok.1
  have hlt := hok.2.2.2
  refine lv_aload_n zx zb dX1_as_0 rfl (lv_at hl 0 rfl) ?_
  refine lv_iconst (v := nI 0) zx zb dX1_as_1 (by decide) ?_
  refine nv_put zC hX in_X1 tyX1 tyX1_ok nmX1 0 rfl rfl 0 (by decide) q1192 (fun _ h => h) rfl rfl rfl (Nat.le_of_ble_eq_true rfl) (w' := mW dA a (nI 0) trace sorts shL cells words said kind longOf letters saidRow at_ rdW rKind rLong rLet looked lkL next heard far ways waysT free freeT rdgs rWord rMany rStands rRow ex) rfl dX1_as_2 (fun H locs hX => ?_)
  refine lv_aload_n zx zb dX1_as_5 rfl (lv_at hl 0 rfl) ?_
  refine lv_iload_n zx zb dX1_as_6 rfl (lv_at hl 1 rfl) ?_
  refine nv_ki zC hX (nv_rV (n := 1) (As := [.int x]) (rest := []) (q0 := 0) zC hX (mm_isWord (v := x)) nvGb0 (fun _ _ _ => trivial) rfl rfl q1320 q1322 qs34 q63 q1323 (by decide +kernel) rfl ⟨Nat.le_of_ble_eq_true rfl, Nat.le_of_ble_eq_true rfl⟩ hl.1 (Nat.le_of_ble_eq_true rfl) dX1_as_7 ⟨by first | exact Nat.le_of_ble_eq_true rfl | omega, by first | exact Nat.le_of_ble_eq_true rfl | omega⟩) (fun r u H locs hp hX => ?_)
  have hr_ : r = nB (isW words x) := hp
  subst hr_
  have hX : nvS D a0 (mW dA a (nI 0) trace sorts shL cells words said kind longOf letters saidRow at_ rdW rKind rLong rLet looked lkL next heard far ways waysT free freeT rdgs rWord rMany rStands rRow ex) s.heap H locs := hX
  refine W.cs (cells' := 0) (slots' := 0) (Nat.add_zero _) (Nat.add_zero _) ?_
  refine nv_if_neB (tgt := 15) zx zb dX1_as_10 (by decide) (fun c10 => ?_) (fun c10 => ?_)
  · obtain ⟨ii, hi, rfl⟩ := isW_t (by omega) c10
    have hln_i := hok.2.2.1 ii
    have hkd_i := hok.2.1 ii
    have ei : i2n (nI ii) = ii := nI_clamp (by omega)
    refine lv_iload_n zx zb dX1_as_15 rfl (lv_at hl 2 rfl) ?_
    refine lv_iconst (v := nI 0) zx zb dX1_as_16 (by decide) ?_
    refine lv_iconst (v := nI 2) zx zb dX1_as_17 (by decide) ?_
    refine nv_ki zC hX (nv_rS (n := 3) (As := [.int sort, .int (nI 0), .int (nI 2)]) (rest := []) zC hX (mm_within (v := sort) (lo := nI 0) (hi := nI 2)) nvGb0 (fun _ _ _ => trivial) q1290 q1291 q63 q1292 (by decide +kernel) rfl ⟨Nat.le_of_ble_eq_true rfl, Nat.le_of_ble_eq_true rfl⟩ hl.1 (Nat.le_of_ble_eq_true rfl) dX1_as_18 ⟨by first | exact Nat.le_of_ble_eq_true rfl | omega, by first | exact Nat.le_of_ble_eq_true rfl | omega⟩) (fun r u H locs hp hX => ?_)
    have hr_ : r = nB (inN sort 0 2) := hp
    subst hr_
    have hX : nvS D a0 (mW dA a (nI 0) trace sorts shL cells words said kind longOf letters saidRow at_ rdW rKind rLong rLet looked lkL next heard far ways waysT free freeT rdgs rWord rMany rStands rRow ex) s.heap H locs := hX
    refine W.cs (cells' := 0) (slots' := 0) (Nat.add_zero _) (Nat.add_zero _) ?_
    refine nv_if_neB (tgt := 27) zx zb dX1_as_21 (by decide) (fun c21 => ?_) (fun c21 => ?_)
    · obtain ⟨jj, -, hj, rfl⟩ := inN_t (by decide) (by decide) c21
      have ej : i2n (nI jj) = jj := nI_clamp (by omega)
      refine lv_aload_n zx zb dX1_as_27 rfl (lv_at hl 0 rfl) ?_
      refine nv_get zC hX in_X1 0 rfl rfl 7 (by decide) q1199 (fun _ h => h) rfl dX1_as_28 ?_
      refine lv_iload_n zx zb dX1_as_31 rfl (lv_at hl 1 rfl) ?_
      refine nv_iald (v := nI (kind ii)) zC hX 4 rfl (by omega) (by decide) rfl dX1_as_32 ?_
      refine lv_iload_n zx zb dX1_as_33 rfl (lv_at hl 2 rfl) ?_
      refine nv_icmp_lt (tgt := 41) zx zb (by omega) (by omega) dX1_as_34 (by decide) (fun c34 => ?_) (fun c34 => ?_)
      · refine lv_aload_n zx zb dX1_as_41 rfl (lv_at hl 0 rfl) ?_
        refine lv_iconst (v := nI 2) zx zb dX1_as_42 (by decide) ?_
        refine nv_ki zC hX (nv_rV (n := 1) (As := [.int (nI 2)]) (rest := []) (q0 := 0) zC hX (mm_fails (k := 2)) nvGb0 (fun _ _ _ => trivial) rfl rfl q1300 q1302 qs30 q63 q1303 (by decide +kernel) rfl ⟨Nat.le_of_ble_eq_true rfl, Nat.le_of_ble_eq_true rfl⟩ hl.1 (Nat.le_of_ble_eq_true rfl) dX1_as_43 ⟨by first | exact Nat.le_of_ble_eq_true rfl | omega, by first | exact Nat.le_of_ble_eq_true rfl | omega⟩) (fun r u H locs hp hX => ?_)
        have hr_ : r = (-10) - nI 2 := hp
        subst hr_
        have hX : nvS D a0 (mW dA a (nI 2) trace sorts shL cells words said kind longOf letters saidRow at_ rdW rKind rLong rLet looked lkL next heard far ways waysT free freeT rdgs rWord rMany rStands rRow ex) s.heap H locs := hX
        refine W.cs (cells' := 0) (slots' := 0) (Nat.add_zero _) (Nat.add_zero _) ?_
        rw [← zQ]
        exact nv_endi zC zr zk (nI 2) hX (by exact ⟨by unfold F_as; rw [c10, if_pos rfl, c21, if_pos rfl, ei, ej, if_pos c34], by unfold g_as; rw [if_pos ⟨c10, c21, by rw [ei, ej]; exact c34⟩]⟩) (by omega) (by omega) dX1_as_46
      · refine lv_iconst (v := nI 1) zx zb dX1_as_37 (by decide) ?_
        refine lv_goto (tgt := 46) zx zb dX1_as_38 (by decide) ?_
        rw [← zQ]
        exact nv_endi zC zr zk (nI 0) hX (by exact ⟨by unfold F_as; rw [c10, if_pos rfl, c21, if_pos rfl, ei, ej, if_neg (by omega)]; exact rfl, by unfold g_as; rw [if_neg (fun z => by rw [ei, ej] at z; omega)]⟩) (by omega) (by omega) dX1_as_46
    · refine lv_bipush (v := (-2)) zx zb dX1_as_24 (by decide) ?_
      rw [← zQ]
      exact nv_endi zC zr zk (nI 0) hX (by exact ⟨by unfold F_as; rw [c10, if_pos rfl, c21]; rfl, by unfold g_as; rw [if_neg (fun z => absurd (z.2.1.symm.trans c21) (by decide))]⟩) (by omega) (by omega) dX1_as_26
  · refine lv_iconst (v := (-1)) zx zb dX1_as_13 (by decide) ?_
    rw [← zQ]
    exact nv_endi zC zr zk (nI 0) hX (by exact ⟨by unfold F_as; rw [c10]; rfl, by unfold g_as; rw [if_neg (fun z => absurd (z.1.symm.trans c10) (by decide))]⟩) (by omega) (by omega) dX1_as_14

set_option maxHeartbeats 4000000 in
theorem mm_many  (what : Int32) (hok : mOK words kind longOf letters) (hlk : ∀ j, looked j < 3) (hsd : ∀ j, saidRow j < 3) (hs60 : said ≤ 60) : nMt l D dA a0 yX1_many cX1_many 2 (some .int) 5 107 0 0 nvG0 [.ref (a 0), .int what] (mW dA a fault trace sorts shL cells words said kind longOf letters saidRow at_ rdW rKind rLong rLet looked lkL next heard far ways waysT free freeT rdgs rWord rMany rStands rRow ex) (nQi D a0 (fun (r : Int32) (u : (Nat → Nat) × Nat) => r = F_many words said kind longOf letters saidRow rdgs what ∧ (∀ z, u.1 z < 3)) (fun (u : (Nat → Nat) × Nat) => mW dA a fault trace sorts shL cells words said kind longOf letters saidRow at_ rdW rKind rLong rLet u.1 u.2 next heard far ways waysT free freeT rdgs rWord rMany rStands rRow ex)) := by
  refine nv_start (by decide) (Nat.le_of_ble_eq_true rfl) fun zp ze s zm zlo zme zcd ls zC zr zk znm hX zG hl => ?_
  have zx := zC.1
  have zb := zC.2.1
  generalize zargs : ([.ref (a 0), .int what] : List Value).toArray = zar at zC ⊢
  generalize zQ : MQ zlo _ zar s _ _ _ = Q
  have hX : nvS D a0 (mW dA a fault trace sorts shL cells words said kind longOf letters saidRow at_ rdW rKind rLong rLet looked lkL next heard far ways waysT free freeT rdgs rWord rMany rStands rRow ex) s.heap s.heap [] := hX
  have hl : lv_has ls 2 [(0, .ref (a 0)), (1, .int what)] := hl
  obtain ⟨H, zH⟩ : ∃ H, H = s.heap := ⟨_, rfl⟩
  have hX : nvS D a0 (mW dA a fault trace sorts shL cells words said kind longOf letters saidRow at_ rdW rKind rLong rLet looked lkL next heard far ways waysT free freeT rdgs rWord rMany rStands rRow ex) s.heap H [] := by rw [zH]; exact hX
  rw [show W zp l ze (rm_ 5 107 0 0) s zm zar zlo zme zcd s.heap [] 0 0 Q = W zp l ze (rm_ 5 107 0 0) s zm zar zlo zme zcd H [] 0 0 Q by rw [zH]]
  generalize ([] : List Loc) = locs at hX ⊢
  have hw4 := hok.1
  have hlt := hok.2.2.2
  refine lv_iload_n zx zb dX1_many_0 rfl (lv_at hl 1 rfl) ?_
  rcases sw_lt (what) (n := 4) (by decide) with ⟨sw, swh, swe⟩ | swo
  · rcases (by omega : sw = 0 ∨ sw = 1 ∨ sw = 2 ∨ sw = 3) with swi | swi | swi | swi
    · rw [swi] at swe
      subst swe
      refine lv_tableIn (tgt := 32) zx zb dX1_many_1 (by decide) (by decide) rfl (by decide) ?_
      refine lv_aload_n zx zb dX1_many_32 rfl (lv_at hl 0 rfl) ?_
      refine nv_get zC hX in_X1 0 rfl rfl 5 (by decide) q1197 (fun _ h => h) rfl dX1_many_33 ?_
      rw [← zQ]
      exact nv_endi zC zr zk (looked, lkL) hX (by (try dsimp only); exact ⟨by unfold F_many; rw [if_pos rfl], hlk⟩) (by omega) (by omega) dX1_many_36
    · rw [swi] at swe
      subst swe
      refine lv_tableIn (tgt := 37) zx zb dX1_many_1 (by decide) (by decide) rfl (by decide) ?_
      refine lv_aload_n zx zb dX1_many_37 rfl (lv_at hl 0 rfl) ?_
      refine nv_get zC hX in_X1 0 rfl rfl 6 (by decide) q1198 (fun _ h => h) rfl dX1_many_38 ?_
      rw [← zQ]
      exact nv_endi zC zr zk (looked, lkL) hX (by (try dsimp only); exact ⟨by unfold F_many; rw [if_neg (by decide), if_pos rfl], hlk⟩) (by omega) (by omega) dX1_many_41
    · rw [swi] at swe
      subst swe
      refine lv_tableIn (tgt := 42) zx zb dX1_many_1 (by decide) (by decide) rfl (by decide) ?_
      refine lv_aload_n zx zb dX1_many_42 rfl (lv_at hl 0 rfl) ?_
      refine nv_kv zC hX (nv_rV (n := 0) (As := []) (rest := []) (q0 := 0) zC hX (mm_lookAtSaid (hlk := (by first | assumption | omega)) (hsd := (by first | assumption | omega)) (hs60 := (by first | assumption | omega))) nvGb0 (fun _ _ _ => trivial) rfl rfl q1332 q1334 qs37 q63 q1335 (by decide +kernel) rfl ⟨Nat.le_of_ble_eq_true rfl, Nat.le_of_ble_eq_true rfl⟩ hl.1 (Nat.le_of_ble_eq_true rfl) dX1_many_43 ⟨by first | exact Nat.le_of_ble_eq_true rfl | omega, by first | exact Nat.le_of_ble_eq_true rfl | omega⟩) (fun u H locs hp hX => ?_)
      obtain ⟨looked'_1, rfl⟩ : ∃ z, z = u := ⟨_, rfl⟩
      have h43 : (∀ j, j < said → looked'_1 j = saidRow j) ∧ (∀ j, looked'_1 j < 3) := hp
      have hX : nvS D a0 (mW dA a fault trace sorts shL cells words said kind longOf letters saidRow at_ rdW rKind rLong rLet looked'_1 said next heard far ways waysT free freeT rdgs rWord rMany rStands rRow ex) s.heap H locs := hX
      refine W.cs (cells' := 0) (slots' := 0) (Nat.add_zero _) (Nat.add_zero _) ?_
      obtain ⟨hl1, hl2⟩ := h43
      refine lv_aload_n zx zb dX1_many_46 rfl (lv_at hl 0 rfl) ?_
      refine nv_ki zC hX (nv_rV (n := 0) (As := []) (rest := []) (q0 := 0) zC hX (mm_standing (hok := (by first | assumption | omega)) (hlk := (by first | assumption | omega)) (hll := (by first | assumption | omega))) nvGb0 (fun _ _ _ => trivial) rfl rfl q1372 q1374 qs43 q63 q1375 (by decide +kernel) rfl ⟨Nat.le_of_ble_eq_true rfl, Nat.le_of_ble_eq_true rfl⟩ hl.1 (Nat.le_of_ble_eq_true rfl) dX1_many_47 ⟨by first | exact Nat.le_of_ble_eq_true rfl | omega, by first | exact Nat.le_of_ble_eq_true rfl | omega⟩) (fun r u H locs hp hX => ?_)
      have hr_ : r = nI (bitsUp (fun w => decide (0 < tmW kind longOf letters looked'_1 said w)) words) := hp
      subst hr_
      have hX : nvS D a0 (mW dA a fault trace sorts shL cells words said kind longOf letters saidRow at_ rdW rKind rLong rLet looked'_1 said next heard far ways waysT free freeT rdgs rWord rMany rStands rRow ex) s.heap H locs := hX
      refine W.cs (cells' := 0) (slots' := 0) (Nat.add_zero _) (Nat.add_zero _) ?_
      rw [← zQ]
      exact nv_endi zC zr zk (looked'_1, said) hX (by (try dsimp only); refine ⟨?_, hl2⟩; unfold F_many; rw [if_neg (by decide), if_neg (by decide), if_pos rfl]; exact congrArg nI (bitsUp_cg fun w _ => congrArg (fun z => decide (0 < z)) (tmW_cg hl1))) (by omega) (by omega) dX1_many_50
    · rw [swi] at swe
      subst swe
      refine lv_tableIn (tgt := 51) zx zb dX1_many_1 (by decide) (by decide) rfl (by decide) ?_
      refine lv_aload_n zx zb dX1_many_51 rfl (lv_at hl 0 rfl) ?_
      refine nv_get zC hX in_X1 0 rfl rfl 25 (by decide) q1217 (fun _ h => h) rfl dX1_many_52 ?_
      rw [← zQ]
      exact nv_endi zC zr zk (looked, lkL) hX (by (try dsimp only); exact ⟨by unfold F_many; rw [if_neg (by decide), if_neg (by decide), if_neg (by decide), if_pos rfl], hlk⟩) (by omega) (by omega) dX1_many_55
  · refine lv_tableOut (tgt := 56) zx zb dX1_many_1 (by omega) (by decide) ?_
    refine lv_bipush (v := (-2)) zx zb dX1_many_56 (by decide) ?_
    rw [← zQ]
    exact nv_endi zC zr zk (looked, lkL) hX (by (try dsimp only); refine ⟨?_, hlk⟩; unfold F_many; have q : ∀ i : Nat, i < 4 → what ≠ nI i := fun i hi z => (by rw [z, nI_toInt (show i < 2 ^ 31 by omega)] at swo; omega); rw [if_neg (q 0 (by decide)), if_neg (q 1 (by decide)), if_neg (q 2 (by decide)), if_neg (q 3 (by decide))]) (by omega) (by omega) dX1_many_58

set_option maxHeartbeats 4000000 in
theorem mm_back  (n : Int32) (hr8 : rdgs ≤ 8) : nMt l D dA a0 yX1_back cX1_back 2 (some .int) 2 34 0 0 nvG0 [.ref (a 0), .int n] (mW dA a fault trace sorts shL cells words said kind longOf letters saidRow at_ rdW rKind rLong rLet looked lkL next heard far ways waysT free freeT rdgs rWord rMany rStands rRow ex) (nQi D a0 (fun (r : Int32) (rdgs' : Nat) => r = F_back rdgs n ∧ rdgs' = G_back rdgs n) (fun (rdgs' : Nat) => mW dA a fault trace sorts shL cells words said kind longOf letters saidRow at_ rdW rKind rLong rLet looked lkL next heard far ways waysT free freeT rdgs' rWord rMany rStands rRow ex)) := by
  refine nv_start (by decide) (Nat.le_of_ble_eq_true rfl) fun zp ze s zm zlo zme zcd ls zC zr zk znm hX zG hl => ?_
  have zx := zC.1
  have zb := zC.2.1
  generalize zargs : ([.ref (a 0), .int n] : List Value).toArray = zar at zC ⊢
  generalize zQ : MQ zlo _ zar s _ _ _ = Q
  have hX : nvS D a0 (mW dA a fault trace sorts shL cells words said kind longOf letters saidRow at_ rdW rKind rLong rLet looked lkL next heard far ways waysT free freeT rdgs rWord rMany rStands rRow ex) s.heap s.heap [] := hX
  have hl : lv_has ls 2 [(0, .ref (a 0)), (1, .int n)] := hl
  obtain ⟨H, zH⟩ : ∃ H, H = s.heap := ⟨_, rfl⟩
  have hX : nvS D a0 (mW dA a fault trace sorts shL cells words said kind longOf letters saidRow at_ rdW rKind rLong rLet looked lkL next heard far ways waysT free freeT rdgs rWord rMany rStands rRow ex) s.heap H [] := by rw [zH]; exact hX
  rw [show W zp l ze (rm_ 2 34 0 0) s zm zar zlo zme zcd s.heap [] 0 0 Q = W zp l ze (rm_ 2 34 0 0) s zm zar zlo zme zcd H [] 0 0 Q by rw [zH]]
  generalize ([] : List Loc) = locs at hX ⊢
  refine lv_iload_n zx zb dX1_back_0 rfl (lv_at hl 1 rfl) ?_
  refine lv_iconst (v := nI 0) zx zb dX1_back_1 (by decide) ?_
  refine lv_aload_n zx zb dX1_back_2 rfl (lv_at hl 0 rfl) ?_
  refine nv_get zC hX in_X1 0 rfl rfl 25 (by decide) q1217 (fun _ h => h) rfl dX1_back_3 ?_
  refine nv_ki zC hX (nv_rS (n := 3) (As := [.int n, .int (nI 0), .int (nI rdgs)]) (rest := []) zC hX (mm_within (v := n) (lo := nI 0) (hi := nI rdgs)) nvGb0 (fun _ _ _ => trivial) q1290 q1291 q63 q1292 (by decide +kernel) rfl ⟨Nat.le_of_ble_eq_true rfl, Nat.le_of_ble_eq_true rfl⟩ hl.1 (Nat.le_of_ble_eq_true rfl) dX1_back_6 ⟨by first | exact Nat.le_of_ble_eq_true rfl | omega, by first | exact Nat.le_of_ble_eq_true rfl | omega⟩) (fun r u H locs hp hX => ?_)
  have hr_ : r = nB (inN n 0 rdgs) := hp
  subst hr_
  have hX : nvS D a0 (mW dA a fault trace sorts shL cells words said kind longOf letters saidRow at_ rdW rKind rLong rLet looked lkL next heard far ways waysT free freeT rdgs rWord rMany rStands rRow ex) s.heap H locs := hX
  refine W.cs (cells' := 0) (slots' := 0) (Nat.add_zero _) (Nat.add_zero _) ?_
  refine nv_if_neB (tgt := 15) zx zb dX1_back_9 (by decide) (fun c9 => ?_) (fun c9 => ?_)
  · obtain ⟨jj, -, hj, rfl⟩ := inN_t (by decide) (by omega) c9
    have ej : i2n (nI jj) = jj := nI_clamp (by omega)
    refine lv_aload_n zx zb dX1_back_15 rfl (lv_at hl 0 rfl) ?_
    refine lv_dup zx zb dX1_back_16 rfl ?_
    refine nv_get zC hX in_X1 0 rfl rfl 25 (by decide) q1217 (fun _ h => h) rfl dX1_back_17 ?_
    refine lv_iload_n zx zb dX1_back_20 rfl (lv_at hl 1 rfl) ?_
    refine nv_isub zx zb (by omega) dX1_back_21 ?_
    refine nv_put zC hX in_X1 tyX1 tyX1_ok nmX1 0 rfl rfl 25 (by decide) q1217 (fun _ h => h) rfl rfl rfl (Nat.le_of_ble_eq_true rfl) (w' := mW dA a fault trace sorts shL cells words said kind longOf letters saidRow at_ rdW rKind rLong rLet looked lkL next heard far ways waysT free freeT (rdgs - jj) rWord rMany rStands rRow ex) rfl dX1_back_22 (fun H locs hX => ?_)
    refine lv_aload_n zx zb dX1_back_25 rfl (lv_at hl 0 rfl) ?_
    refine nv_get zC hX in_X1 0 rfl rfl 25 (by decide) q1217 (fun _ h => h) rfl dX1_back_26 ?_
    rw [← zQ]
    exact nv_endi zC zr zk (rdgs - jj) hX (by exact ⟨by unfold F_back; rw [c9, if_pos rfl, ej], by unfold G_back; rw [c9, if_pos rfl, ej]⟩) (by omega) (by omega) dX1_back_29
  · refine lv_bipush (v := (-2)) zx zb dX1_back_12 (by decide) ?_
    rw [← zQ]
    exact nv_endi zC zr zk rdgs hX (by exact ⟨by unfold F_back; rw [c9]; rfl, by unfold G_back; rw [c9]; rfl⟩) (by omega) (by omega) dX1_back_14
end
