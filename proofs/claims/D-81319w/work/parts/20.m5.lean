/-! THE MODEL: contracts, printed by tools/model.py -/
set_option maxRecDepth 100000
section
variable {l : Launch} {D : va_G} {dA : Nat → ClassId} {a0 : Nat} {a : Nat → Nat} {ex : va_W} {fault : Int32} {trace : Int32} {sorts : Nat → Option Nat} {shL : Nat → Nat} {cells : Nat → Int32} {words : Nat} {said : Nat} {kind : Nat → Nat} {longOf : Nat → Nat} {letters : Nat → Nat} {saidRow : Nat → Nat} {at_ : Nat} {rdW : Nat} {rKind : Nat → Option Nat} {rLong : Nat → Nat} {rLet : Nat → Nat} {looked : Nat → Nat} {lkL : Nat} {next : Nat → Nat} {heard : Nat → Nat} {far : Nat → Option Nat} {ways : Nat → Nat} {waysT : Nat → Nat} {free : Nat → Nat} {freeT : Nat → Nat} {rdgs : Nat} {rWord : Nat → Nat} {rMany : Nat → Nat} {rStands : Nat → Nat} {rRow : Nat → Nat}
set_option maxHeartbeats 4000000 in
theorem mm_lasts  (x : Int32) (hok : mOK words kind longOf letters) (hlk : ∀ j, looked j < 3) (hro : rOK rdgs rWord rMany rStands rRow) (hl1 : ∀ w, w < words → 1 ≤ longOf w) : nMt l D dA a0 yX1_lasts cX1_lasts 6 (some .int) 5 107 0 0 nvG0 [.ref (a 0), .int x] (mW dA a fault trace sorts shL cells words said kind longOf letters saidRow at_ rdW rKind rLong rLet looked lkL next heard far ways waysT free freeT rdgs rWord rMany rStands rRow ex) (nQi D a0 (fun (r : Int32) (u : (Nat → Nat) × Nat) => r = F_lasts words kind longOf letters rdgs rWord rMany rStands rRow x ∧ (∀ z, u.1 z < 3)) (fun (u : (Nat → Nat) × Nat) => mW dA a fault trace sorts shL cells words said kind longOf letters saidRow at_ rdW rKind rLong rLet u.1 u.2 next heard far ways waysT free freeT rdgs rWord rMany rStands rRow ex)) := by
  refine nv_start (by decide) (Nat.le_of_ble_eq_true rfl) fun zp ze s zm zlo zme zcd ls zC zr zk znm hX zG hl => ?_
  have zx := zC.1
  have zb := zC.2.1
  generalize zargs : ([.ref (a 0), .int x] : List Value).toArray = zar at zC ⊢
  generalize zQ : MQ zlo _ zar s _ _ _ = Q
  have hX : nvS D a0 (mW dA a fault trace sorts shL cells words said kind longOf letters saidRow at_ rdW rKind rLong rLet looked lkL next heard far ways waysT free freeT rdgs rWord rMany rStands rRow ex) s.heap s.heap [] := hX
  have hl : lv_has ls 6 [(0, .ref (a 0)), (1, .int x)] := hl
  obtain ⟨H, zH⟩ : ∃ H, H = s.heap := ⟨_, rfl⟩
  have hX : nvS D a0 (mW dA a fault trace sorts shL cells words said kind longOf letters saidRow at_ rdW rKind rLong rLet looked lkL next heard far ways waysT free freeT rdgs rWord rMany rStands rRow ex) s.heap H [] := by rw [zH]; exact hX
  rw [show W zp l ze (rm_ 5 107 0 0) s zm zar zlo zme zcd s.heap [] 0 0 Q = W zp l ze (rm_ 5 107 0 0) s zm zar zlo zme zcd H [] 0 0 Q by rw [zH]]
  generalize ([] : List Loc) = locs at hX ⊢
  have hw4 := hok.1
  have hlt := hok.2.2.2
  refine lv_aload_n zx zb dX1_lasts_0 rfl (lv_at hl 0 rfl) ?_
  refine lv_iload_n zx zb dX1_lasts_1 rfl (lv_at hl 1 rfl) ?_
  refine nv_ki zC hX (nv_rV (n := 1) (As := [.int x]) (rest := []) (q0 := 0) zC hX (mm_isWord (v := x)) nvGb0 (fun _ _ _ => trivial) rfl rfl q1320 q1322 qs34 q63 q1323 (by decide +kernel) rfl ⟨Nat.le_of_ble_eq_true rfl, Nat.le_of_ble_eq_true rfl⟩ hl.1 (Nat.le_of_ble_eq_true rfl) dX1_lasts_2 ⟨by first | exact Nat.le_of_ble_eq_true rfl | omega, by first | exact Nat.le_of_ble_eq_true rfl | omega⟩) (fun r u H locs hp hX => ?_)
  have hr_ : r = nB (isW words x) := hp
  subst hr_
  have hX : nvS D a0 (mW dA a fault trace sorts shL cells words said kind longOf letters saidRow at_ rdW rKind rLong rLet looked lkL next heard far ways waysT free freeT rdgs rWord rMany rStands rRow ex) s.heap H locs := hX
  refine W.cs (cells' := 0) (slots' := 0) (Nat.add_zero _) (Nat.add_zero _) ?_
  refine nv_if_neB (tgt := 10) zx zb dX1_lasts_5 (by decide) (fun c5 => ?_) (fun c5 => ?_)
  · obtain ⟨ii, hi, rfl⟩ := isW_t (by omega) c5
    have hln_i := hok.2.2.1 ii
    have hkd_i := hok.2.1 ii
    have hl1_i := hl1 ii hi
    have ei : i2n (nI ii) = ii := nI_clamp (by omega)
    refine lv_iconst (v := nI 4) zx zb dX1_lasts_10 (by decide) ?_
    refine lv_iload_n zx zb dX1_lasts_11 rfl (lv_at hl 1 rfl) ?_
    refine nv_imul zx zb dX1_lasts_12 ?_
    refine lv_aload_n zx zb dX1_lasts_13 rfl (lv_at hl 0 rfl) ?_
    refine nv_get zC hX in_X1 0 rfl rfl 8 (by decide) q1200 (fun _ h => h) rfl dX1_lasts_14 ?_
    refine lv_iload_n zx zb dX1_lasts_17 rfl (lv_at hl 1 rfl) ?_
    refine nv_iald (v := nI (longOf ii)) zC hX 5 rfl (by omega) (by decide) rfl dX1_lasts_18 ?_
    refine nv_iadd zx zb dX1_lasts_19 ?_
    refine lv_iconst (v := nI 1) zx zb dX1_lasts_20 (by decide) ?_
    refine nv_isub zx zb (by omega) dX1_lasts_21 ?_
    refine lv_istore_n (lv' := [(2, .int (nI (((4 * ii) + (longOf ii)) - 1))), (0, .ref (a 0)), (1, .int (nI ii))]) zx zb dX1_lasts_22 rfl hl (by decide) rfl (fun ls hl => ?_)
    refine lv_aload_n zx zb dX1_lasts_23 rfl (lv_at hl 1 rfl) ?_
    refine nv_get zC hX in_X1 0 rfl rfl 9 (by decide) q1201 (fun _ h => h) rfl dX1_lasts_24 ?_
    refine lv_iload_n zx zb dX1_lasts_27 rfl (lv_at hl 0 rfl) ?_
    refine nv_iald (v := nI (letters (((4 * ii) + (longOf ii)) - 1))) zC hX 6 rfl (by omega) (by decide) rfl dX1_lasts_28 ?_
    refine lv_istore_n (lv' := [(3, .int (nI (letters (((4 * ii) + (longOf ii)) - 1)))), (2, .int (nI (((4 * ii) + (longOf ii)) - 1))), (0, .ref (a 0)), (1, .int (nI ii))]) zx zb dX1_lasts_29 rfl hl (by decide) rfl (fun ls hl => ?_)
    refine lv_iconst (v := nI 0) zx zb dX1_lasts_30 (by decide) ?_
    refine lv_istore (lv' := [(4, .int (nI 0)), (3, .int (nI (letters (((4 * ii) + (longOf ii)) - 1)))), (2, .int (nI (((4 * ii) + (longOf ii)) - 1))), (0, .ref (a 0)), (1, .int (nI ii))]) zx zb dX1_lasts_31 hl (by decide) rfl (fun ls hl => ?_)
    refine lv_iconst (v := nI 0) zx zb dX1_lasts_33 (by decide) ?_
    refine lv_istore (lv' := [(5, .int (nI 0)), (4, .int (nI 0)), (3, .int (nI (letters (((4 * ii) + (longOf ii)) - 1)))), (2, .int (nI (((4 * ii) + (longOf ii)) - 1))), (0, .ref (a 0)), (1, .int (nI ii))]) zx zb dX1_lasts_34 hl (by decide) rfl (fun ls hl => ?_)
    have L36 : ∀ (zn : Nat) (lk ar : Nat → Nat) (lL v : Nat) (hv : v ≤ 3) (h3 : ∀ z, lk z < 3) (har : ∀ z, z ≠ (4 * ii + longOf ii - 1) → ar z = letters z), 3 - v < zn → ∀ (H : Heap) (locs : List Loc) (ls : Array Slot), nvS D a0 (mW dA a fault trace sorts shL cells words said kind longOf ar saidRow at_ rdW rKind rLong rLet lk lL next heard far ways waysT free freeT rdgs rWord rMany rStands rRow ex) s.heap H locs → lv_has ls 6 [(5, .int (nI v)), (4, .int (nI (bitsUp (fun v => soB kind longOf (va_up letters (4 * ii + longOf ii - 1) v) rdgs rWord rMany rStands rRow) v))), (3, .int (nI (letters (((4 * ii) + (longOf ii)) - 1)))), (2, .int (nI (((4 * ii) + (longOf ii)) - 1))), (0, .ref (a 0)), (1, .int (nI ii))] → W zp l ze (rm_ 5 107 0 0) s zm zar zlo zme zcd H locs 0 0 Q (F0 zm 36 ls []) := by
      intro zn
      induction zn with
      | zero => intro lk ar lL v hv h3 har zf; exact absurd zf (Nat.not_lt_zero _)
      | succ zn ih36 =>
        intro lk ar lL v hv h3 har zf H locs ls hX hl
        refine lv_iload zx zb dX1_lasts_36 (lv_at hl 0 rfl) ?_
        refine lv_iconst (v := nI 3) zx zb dX1_lasts_38 (by decide) ?_
        refine nv_icmp_ge (tgt := 76) zx zb (by omega) (by omega) dX1_lasts_39 (by decide) (fun c39 => ?_) (fun c39 => ?_)
        · refine lv_aload_n zx zb dX1_lasts_76 rfl (lv_at hl 4 rfl) ?_
          refine nv_get zC hX in_X1 0 rfl rfl 9 (by decide) q1201 (fun _ h => h) rfl dX1_lasts_77 ?_
          refine lv_iload_n zx zb dX1_lasts_80 rfl (lv_at hl 3 rfl) ?_
          refine lv_iload_n zx zb dX1_lasts_81 rfl (lv_at hl 2 rfl) ?_
          refine nv_iast zC hX 6 rfl (by omega) (by decide) (nF_up _ _ _) (w' := mW dA a fault trace sorts shL cells words said kind longOf (va_up ar (((4 * ii) + (longOf ii)) - 1) (letters (((4 * ii) + (longOf ii)) - 1))) saidRow at_ rdW rKind rLong rLet lk lL next heard far ways waysT free freeT rdgs rWord rMany rStands rRow ex) rfl dX1_lasts_82 (fun H locs hX => ?_)
          have hX : nvS D a0 (mW dA a fault trace sorts shL cells words said kind longOf letters saidRow at_ rdW rKind rLong rLet lk lL next heard far ways waysT free freeT rdgs rWord rMany rStands rRow ex) s.heap H locs := by (have zq := va_up_b har; rw [zq] at hX; exact hX)
          refine lv_iload zx zb dX1_lasts_83 (lv_at hl 1 rfl) ?_
          rw [← zQ]
          exact nv_endi zC zr zk (lk, lL) hX (by (try dsimp only); refine ⟨?_, h3⟩; unfold F_lasts; rw [if_pos c5, ei, show (3 : Nat) = v by omega]) (by omega) (by omega) dX1_lasts_85
        · refine lv_aload_n zx zb dX1_lasts_42 rfl (lv_at hl 4 rfl) ?_
          refine nv_get zC hX in_X1 0 rfl rfl 9 (by decide) q1201 (fun _ h => h) rfl dX1_lasts_43 ?_
          refine lv_iload_n zx zb dX1_lasts_46 rfl (lv_at hl 3 rfl) ?_
          refine lv_iload zx zb dX1_lasts_47 (lv_at hl 0 rfl) ?_
          refine nv_iast zC hX 6 rfl (by omega) (by decide) (nF_up _ _ _) (w' := mW dA a fault trace sorts shL cells words said kind longOf (va_up ar (((4 * ii) + (longOf ii)) - 1) v) saidRow at_ rdW rKind rLong rLet lk lL next heard far ways waysT free freeT rdgs rWord rMany rStands rRow ex) rfl dX1_lasts_49 (fun H locs hX => ?_)
          have hX : nvS D a0 (mW dA a fault trace sorts shL cells words said kind longOf (va_up letters (4 * ii + longOf ii - 1) v) saidRow at_ rdW rKind rLong rLet lk lL next heard far ways waysT free freeT rdgs rWord rMany rStands rRow ex) s.heap H locs := by (have zq := va_up_o (v := v) har; rw [zq] at hX; exact hX)
          refine lv_iload zx zb dX1_lasts_50 (lv_at hl 1 rfl) ?_
          refine lv_aload_n zx zb dX1_lasts_52 rfl (lv_at hl 4 rfl) ?_
          refine nv_ki zC hX (nv_rV (n := 0) (As := []) (rest := [.int (nI (bitsUp (fun v => soB kind longOf (va_up letters (4 * ii + longOf ii - 1) v) rdgs rWord rMany rStands rRow) v))]) (q0 := 0) zC hX (mm_areSo (hok := (mOK_l hok (by omega))) (hlk := (by first | assumption | omega)) (hro := (by first | assumption | omega))) nvGb0 (fun _ _ _ => trivial) rfl rfl q1457 q1459 qs55 q63 q1460 (by decide +kernel) rfl ⟨Nat.le_of_ble_eq_true rfl, Nat.le_of_ble_eq_true rfl⟩ hl.1 (Nat.le_of_ble_eq_true rfl) dX1_lasts_53 ⟨by first | exact Nat.le_of_ble_eq_true rfl | omega, by first | exact Nat.le_of_ble_eq_true rfl | omega⟩) (fun r u H locs hp hX => ?_)
          obtain ⟨looked'_2, lkL'_2⟩ := u
          obtain ⟨hr_, h53⟩ : r = nB (soB kind longOf (va_up letters (4 * ii + longOf ii - 1) v) rdgs rWord rMany rStands rRow) ∧ (∀ z, looked'_2 z < 3) := hp
          subst hr_
          have hX : nvS D a0 (mW dA a fault trace sorts shL cells words said kind longOf (va_up letters (4 * ii + longOf ii - 1) v) saidRow at_ rdW rKind rLong rLet looked'_2 lkL'_2 next heard far ways waysT free freeT rdgs rWord rMany rStands rRow ex) s.heap H locs := hX
          refine W.cs (cells' := 0) (slots' := 0) (Nat.add_zero _) (Nat.add_zero _) ?_
          refine nv_if_eqB (tgt := 66) zx zb dX1_lasts_56 (by decide) (fun c56 => ?_) (fun c56 => ?_)
          · refine lv_iconst (v := nI 0) zx zb dX1_lasts_66 (by decide) ?_
            refine nv_ior zx zb dX1_lasts_67 ?_
            refine nv_as (show nI ((bitsUp (fun v => soB kind longOf (va_up letters (4 * ii + longOf ii - 1) v) rdgs rWord rMany rStands rRow) v) ||| 0) = nI (bitsUp (fun v => soB kind longOf (va_up letters (4 * ii + longOf ii - 1) v) rdgs rWord rMany rStands rRow) (v + 1)) from (congrArg nI (bitsUp_f c56))) ?_
            refine lv_istore (lv' := [(4, .int (nI (bitsUp (fun v => soB kind longOf (va_up letters (4 * ii + longOf ii - 1) v) rdgs rWord rMany rStands rRow) (v + 1)))), (5, .int (nI v)), (3, .int (nI (letters (((4 * ii) + (longOf ii)) - 1)))), (2, .int (nI (((4 * ii) + (longOf ii)) - 1))), (0, .ref (a 0)), (1, .int (nI ii))]) zx zb dX1_lasts_68 hl (by decide) rfl (fun ls hl => ?_)
            refine lv_iinc (v := nI (v + 1)) (lv' := [(5, .int (nI (v + 1))), (4, .int (nI (bitsUp (fun v => soB kind longOf (va_up letters (4 * ii + longOf ii - 1) v) rdgs rWord rMany rStands rRow) (v + 1)))), (3, .int (nI (letters (((4 * ii) + (longOf ii)) - 1)))), (2, .int (nI (((4 * ii) + (longOf ii)) - 1))), (0, .ref (a 0)), (1, .int (nI ii))]) zx zb dX1_lasts_70 hl (k := 1) rfl (nI_1 _) (by decide) rfl (fun ls hl => ?_)
            refine lv_goto (tgt := 36) zx zb dX1_lasts_73 (by decide) ?_
            exact ih36 looked'_2 (va_up letters (4 * ii + longOf ii - 1) v) lkL'_2 (v + 1) (by omega) h53 (fun z hz => va_up_ne _ _ hz) (by omega) _ _ _ hX (lv_sub hl [0, 1, 2, 3, 4, 5] rfl)
          · refine lv_iconst (v := nI 1) zx zb dX1_lasts_59 (by decide) ?_
            refine lv_iload zx zb dX1_lasts_60 (lv_at hl 0 rfl) ?_
            refine nv_ishl1 zx zb (by omega) dX1_lasts_62 ?_
            refine lv_goto (tgt := 67) zx zb dX1_lasts_63 (by decide) ?_
            refine nv_ior zx zb dX1_lasts_67 ?_
            refine nv_as (show nI ((bitsUp (fun v => soB kind longOf (va_up letters (4 * ii + longOf ii - 1) v) rdgs rWord rMany rStands rRow) v) ||| (2 ^ v)) = nI (bitsUp (fun v => soB kind longOf (va_up letters (4 * ii + longOf ii - 1) v) rdgs rWord rMany rStands rRow) (v + 1)) from (congrArg nI (bitsUp_t c56))) ?_
            refine lv_istore (lv' := [(4, .int (nI (bitsUp (fun v => soB kind longOf (va_up letters (4 * ii + longOf ii - 1) v) rdgs rWord rMany rStands rRow) (v + 1)))), (5, .int (nI v)), (3, .int (nI (letters (((4 * ii) + (longOf ii)) - 1)))), (2, .int (nI (((4 * ii) + (longOf ii)) - 1))), (0, .ref (a 0)), (1, .int (nI ii))]) zx zb dX1_lasts_68 hl (by decide) rfl (fun ls hl => ?_)
            refine lv_iinc (v := nI (v + 1)) (lv' := [(5, .int (nI (v + 1))), (4, .int (nI (bitsUp (fun v => soB kind longOf (va_up letters (4 * ii + longOf ii - 1) v) rdgs rWord rMany rStands rRow) (v + 1)))), (3, .int (nI (letters (((4 * ii) + (longOf ii)) - 1)))), (2, .int (nI (((4 * ii) + (longOf ii)) - 1))), (0, .ref (a 0)), (1, .int (nI ii))]) zx zb dX1_lasts_70 hl (k := 1) rfl (nI_1 _) (by decide) rfl (fun ls hl => ?_)
            refine lv_goto (tgt := 36) zx zb dX1_lasts_73 (by decide) ?_
            exact ih36 looked'_2 (va_up letters (4 * ii + longOf ii - 1) v) lkL'_2 (v + 1) (by omega) h53 (fun z hz => va_up_ne _ _ hz) (by omega) _ _ _ hX (lv_sub hl [0, 1, 2, 3, 4, 5] rfl)
    exact L36 _ looked letters lkL 0 (by omega) hlk (fun _ _ => rfl) (Nat.lt_succ_self _) _ _ _ hX (lv_sub hl [0, 1, 2, 3, 4, 5] rfl)
  · refine lv_iconst (v := (-1)) zx zb dX1_lasts_8 (by decide) ?_
    rw [← zQ]
    exact nv_endi zC zr zk (looked, lkL) hX (by (try dsimp only); exact ⟨by unfold F_lasts; rw [if_neg (fun z => absurd (z.symm.trans c5) (by decide))], hlk⟩) (by omega) (by omega) dX1_lasts_9

set_option maxHeartbeats 4000000 in
theorem mm_inLeastTerms  (u : Nat) (d : Nat) (wh : Nat) (hu : u < 2 ^ 63) (hd : d < 2 ^ 63) (hd0 : 0 < d) (hwh : wh < 2) : nMt l D dA a0 yX1_inLeastTerms cX1_inLeastTerms 11 (some .long) 1 12 0 0 nvG0 [.long (lN u), .long (lN d), .int (nI wh)] (mW dA a fault trace sorts shL cells words said kind longOf letters saidRow at_ rdW rKind rLong rLet looked lkL next heard far ways waysT free freeT rdgs rWord rMany rStands rRow ex) (nQl D a0 (fun (r : Int64) (_ : Unit) => r = lN (if wh = 0 then u / Nat.gcd u d else d / Nat.gcd u d)) (fun (_ : Unit) => mW dA a fault trace sorts shL cells words said kind longOf letters saidRow at_ rdW rKind rLong rLet looked lkL next heard far ways waysT free freeT rdgs rWord rMany rStands rRow ex)) := by
  refine nv_start (by decide) (Nat.le_of_ble_eq_true rfl) fun zp ze s zm zlo zme zcd ls zC zr zk znm hX zG hl => ?_
  have zx := zC.1
  have zb := zC.2.1
  generalize zargs : ([.long (lN u), .long (lN d), .int (nI wh)] : List Value).toArray = zar at zC ⊢
  generalize zQ : MQ zlo _ zar s _ _ _ = Q
  have hX : nvS D a0 (mW dA a fault trace sorts shL cells words said kind longOf letters saidRow at_ rdW rKind rLong rLet looked lkL next heard far ways waysT free freeT rdgs rWord rMany rStands rRow ex) s.heap s.heap [] := hX
  have hl : lv_has ls 11 [(0, .long (lN u)), (2, .long (lN d)), (4, .int (nI wh))] := hl
  obtain ⟨H, zH⟩ : ∃ H, H = s.heap := ⟨_, rfl⟩
  have hX : nvS D a0 (mW dA a fault trace sorts shL cells words said kind longOf letters saidRow at_ rdW rKind rLong rLet looked lkL next heard far ways waysT free freeT rdgs rWord rMany rStands rRow ex) s.heap H [] := by rw [zH]; exact hX
  rw [show W zp l ze (rm_ 1 12 0 0) s zm zar zlo zme zcd s.heap [] 0 0 Q = W zp l ze (rm_ 1 12 0 0) s zm zar zlo zme zcd H [] 0 0 Q by rw [zH]]
  generalize ([] : List Loc) = locs at hX ⊢
  have hg0 : 0 < Nat.gcd u d := Nat.gcd_pos_of_pos_right u hd0
  refine lv_lload_n zx zb dX1_inLeastTerms_0 rfl (lv_at hl 0 rfl) ?_
  refine lv_lstore (lv' := [(5, .long (lN u)), (0, .long (lN u)), (2, .long (lN d)), (4, .int (nI wh))]) zx zb dX1_inLeastTerms_1 hl (by decide) rfl (fun ls hl => ?_)
  refine lv_lload_n zx zb dX1_inLeastTerms_3 rfl (lv_at hl 2 rfl) ?_
  refine lv_lstore (lv' := [(7, .long (lN d)), (5, .long (lN u)), (0, .long (lN u)), (2, .long (lN d)), (4, .int (nI wh))]) zx zb dX1_inLeastTerms_4 hl (by decide) rfl (fun ls hl => ?_)
  have L6 : ∀ (zn : Nat) (x y : Nat) (hg : Nat.gcd x y = Nat.gcd u d) (hx1 : x < 2 ^ 63) (hy1 : y < 2 ^ 63), y < zn → ∀ (H : Heap) (locs : List Loc) (ls : Array Slot), nvS D a0 (mW dA a fault trace sorts shL cells words said kind longOf letters saidRow at_ rdW rKind rLong rLet looked lkL next heard far ways waysT free freeT rdgs rWord rMany rStands rRow ex) s.heap H locs → lv_has ls 11 [(7, .long (lN y)), (5, .long (lN x)), (0, .long (lN u)), (2, .long (lN d)), (4, .int (nI wh))] → W zp l ze (rm_ 1 12 0 0) s zm zar zlo zme zcd H locs 0 0 Q (F0 zm 6 ls []) := by
    intro zn
    induction zn with
    | zero => intro x y hg hx1 hy1 zf; exact absurd zf (Nat.not_lt_zero _)
    | succ zn ih6 =>
      intro x y hg hx1 hy1 zf H locs ls hX hl
      refine lv_lload zx zb dX1_inLeastTerms_6 (lv_at hl 0 rfl) ?_
      refine lv_lconst (v := lN 0) zx zb dX1_inLeastTerms_8 (by decide) ?_
      refine W.lcmp zx zb dX1_inLeastTerms_9 ?_
      refine lv_if_eq (x := lg_cmp (lN y) (lN 0)) (tgt := 31) zx zb dX1_inLeastTerms_10 (by decide) (fun c10 => ?_) (fun c10 => ?_)
      · have c10 := (lcN_eq hy1 (by decide)).mp c10
        have hxg : x = Nat.gcd u d := by rw [← hg, c10, Nat.gcd_zero_right]
        refine lv_iload zx zb dX1_inLeastTerms_31 (lv_at hl 4 rfl) ?_
        refine nv_if_ne (tgt := 43) zx zb (by omega) dX1_inLeastTerms_33 (by decide) (fun c33 => ?_) (fun c33 => ?_)
        · refine lv_lload_n zx zb dX1_inLeastTerms_43 rfl (lv_at hl 3 rfl) ?_
          refine lv_lload zx zb dX1_inLeastTerms_44 (lv_at hl 1 rfl) ?_
          refine nv_ldiv zx zb hd (by rw [hxg]; exact hg0) hx1 dX1_inLeastTerms_46 ?_
          rw [← zQ]
          exact nv_endl zC zr zk () hX (by rw [if_neg (by omega), ← hxg]) (by omega) (by omega) dX1_inLeastTerms_47
        · refine lv_lload_n zx zb dX1_inLeastTerms_36 rfl (lv_at hl 2 rfl) ?_
          refine lv_lload zx zb dX1_inLeastTerms_37 (lv_at hl 1 rfl) ?_
          refine nv_ldiv zx zb hu (by rw [hxg]; exact hg0) hx1 dX1_inLeastTerms_39 ?_
          refine lv_goto (tgt := 47) zx zb dX1_inLeastTerms_40 (by decide) ?_
          rw [← zQ]
          exact nv_endl zC zr zk () hX (by rw [if_pos c33, ← hxg]) (by omega) (by omega) dX1_inLeastTerms_47
      · have c10 := fun z => c10 ((lcN_eq hy1 (by decide)).mpr z)
        have hy0 : 0 < y := Nat.pos_of_ne_zero c10
        refine lv_lload zx zb dX1_inLeastTerms_13 (lv_at hl 1 rfl) ?_
        refine lv_lload zx zb dX1_inLeastTerms_15 (lv_at hl 0 rfl) ?_
        refine nv_lrem zx zb hx1 hy0 hy1 dX1_inLeastTerms_17 ?_
        refine lv_lstore (lv' := [(9, .long (lN (x % y))), (7, .long (lN y)), (5, .long (lN x)), (0, .long (lN u)), (2, .long (lN d)), (4, .int (nI wh))]) zx zb dX1_inLeastTerms_18 hl (by decide) rfl (fun ls hl => ?_)
        refine lv_lload zx zb dX1_inLeastTerms_20 (lv_at hl 1 rfl) ?_
        refine lv_lstore (lv' := [(5, .long (lN y)), (9, .long (lN (x % y))), (7, .long (lN y)), (0, .long (lN u)), (2, .long (lN d)), (4, .int (nI wh))]) zx zb dX1_inLeastTerms_22 hl (by decide) rfl (fun ls hl => ?_)
        refine lv_lload zx zb dX1_inLeastTerms_24 (lv_at hl 1 rfl) ?_
        refine lv_lstore (lv' := [(7, .long (lN (x % y))), (5, .long (lN y)), (9, .long (lN (x % y))), (0, .long (lN u)), (2, .long (lN d)), (4, .int (nI wh))]) zx zb dX1_inLeastTerms_26 hl (by decide) rfl (fun ls hl => ?_)
        refine lv_goto (tgt := 6) zx zb dX1_inLeastTerms_28 (by decide) ?_
        exact ih6 y (x % y) (gcd_s hg) hy1 (Nat.lt_trans (Nat.mod_lt _ hy0) hy1) (by have := Nat.mod_lt x hy0; omega) _ _ _ hX (lv_sub hl [0, 1, 3, 4, 5] rfl)
  exact L6 _ u d rfl hu hd (Nat.lt_succ_self _) _ _ _ hX (lv_sub hl [0, 1, 2, 3, 4] rfl)

set_option maxHeartbeats 4000000 in
theorem mm_odds  (n : Int32) (wh : Int32) (hok : mOK words kind longOf letters) (hlk : ∀ j, looked j < 3) : nMt l D dA a0 yX1_odds cX1_odds 6 (some .long) 6 133 0 0 nvG0 [.ref (a 0), .int n, .int wh] (mW dA a fault trace sorts shL cells words said kind longOf letters saidRow at_ rdW rKind rLong rLet looked lkL next heard far ways waysT free freeT rdgs rWord rMany rStands rRow ex) (nQl D a0 (fun (r : Int64) (u : (Nat → Nat) × (Nat → Nat) × (Nat → Nat) × (Nat → Nat) × (Nat → Nat)) => r = F_odds kind longOf letters words n wh ∧ (∀ z, u.2.2.1 z < 3)) (fun (u : (Nat → Nat) × (Nat → Nat) × (Nat → Nat) × (Nat → Nat) × (Nat → Nat)) => mW dA a fault trace sorts shL cells words said kind longOf letters saidRow at_ rdW rKind rLong rLet u.2.2.1 lkL u.1 u.2.1 far u.2.2.2.1 u.2.2.2.2 free freeT rdgs rWord rMany rStands rRow ex)) := by
  refine nv_start (by decide) (Nat.le_of_ble_eq_true rfl) fun zp ze s zm zlo zme zcd ls zC zr zk znm hX zG hl => ?_
  have zx := zC.1
  have zb := zC.2.1
  generalize zargs : ([.ref (a 0), .int n, .int wh] : List Value).toArray = zar at zC ⊢
  generalize zQ : MQ zlo _ zar s _ _ _ = Q
  have hX : nvS D a0 (mW dA a fault trace sorts shL cells words said kind longOf letters saidRow at_ rdW rKind rLong rLet looked lkL next heard far ways waysT free freeT rdgs rWord rMany rStands rRow ex) s.heap s.heap [] := hX
  have hl : lv_has ls 6 [(0, .ref (a 0)), (1, .int n), (2, .int wh)] := hl
  obtain ⟨H, zH⟩ : ∃ H, H = s.heap := ⟨_, rfl⟩
  have hX : nvS D a0 (mW dA a fault trace sorts shL cells words said kind longOf letters saidRow at_ rdW rKind rLong rLet looked lkL next heard far ways waysT free freeT rdgs rWord rMany rStands rRow ex) s.heap H [] := by rw [zH]; exact hX
  rw [show W zp l ze (rm_ 6 133 0 0) s zm zar zlo zme zcd s.heap [] 0 0 Q = W zp l ze (rm_ 6 133 0 0) s zm zar zlo zme zcd H [] 0 0 Q by rw [zH]]
  generalize ([] : List Loc) = locs at hX ⊢
  have hw4 := hok.1
  have hlt := hok.2.2.2
  refine lv_iload_n zx zb dX1_odds_0 rfl (lv_at hl 1 rfl) ?_
  refine lv_iconst (v := nI 0) zx zb dX1_odds_1 (by decide) ?_
  refine lv_bipush (v := nI 30) zx zb dX1_odds_2 (by decide) ?_
  refine nv_ki zC hX (nv_rS (n := 3) (As := [.int n, .int (nI 0), .int (nI 30)]) (rest := []) zC hX (mm_within (v := n) (lo := nI 0) (hi := nI 30)) nvGb0 (fun _ _ _ => trivial) q1290 q1291 q63 q1292 (by decide +kernel) rfl ⟨Nat.le_of_ble_eq_true rfl, Nat.le_of_ble_eq_true rfl⟩ hl.1 (Nat.le_of_ble_eq_true rfl) dX1_odds_4 ⟨by first | exact Nat.le_of_ble_eq_true rfl | omega, by first | exact Nat.le_of_ble_eq_true rfl | omega⟩) (fun r u H locs hp hX => ?_)
  have hr_ : r = nB (inN n 0 30) := hp
  subst hr_
  have hX : nvS D a0 (mW dA a fault trace sorts shL cells words said kind longOf letters saidRow at_ rdW rKind rLong rLet looked lkL next heard far ways waysT free freeT rdgs rWord rMany rStands rRow ex) s.heap H locs := hX
  refine W.cs (cells' := 0) (slots' := 0) (Nat.add_zero _) (Nat.add_zero _) ?_
  refine nv_if_eqB (tgt := 26) zx zb dX1_odds_7 (by decide) (fun c7 => ?_) (fun c7 => ?_)
  · refine lv_ldc2 (v := (-9223372036854775808)) zx zb zC.2.2.2.1 (zC.2.2.2.2.1 _ q1416) dX1_odds_26 ?_
    rw [← zQ]
    exact nv_endl zC zr zk (next, heard, looked, ways, waysT) hX (by (try dsimp only); exact ⟨(if_neg (fun z => absurd (z.1.symm.trans c7) (by decide))).symm, hlk⟩) (by omega) (by omega) dX1_odds_29
  · obtain ⟨jj, -, hj, rfl⟩ := inN_t (by decide) (by decide) c7
    have ej : i2n (nI jj) = jj := nI_clamp (by omega)
    refine lv_iload_n zx zb dX1_odds_10 rfl (lv_at hl 2 rfl) ?_
    refine lv_iconst (v := nI 0) zx zb dX1_odds_11 (by decide) ?_
    refine lv_iconst (v := nI 1) zx zb dX1_odds_12 (by decide) ?_
    refine nv_ki zC hX (nv_rS (n := 3) (As := [.int wh, .int (nI 0), .int (nI 1)]) (rest := []) zC hX (mm_within (v := wh) (lo := nI 0) (hi := nI 1)) nvGb0 (fun _ _ _ => trivial) q1290 q1291 q63 q1292 (by decide +kernel) rfl ⟨Nat.le_of_ble_eq_true rfl, Nat.le_of_ble_eq_true rfl⟩ hl.1 (Nat.le_of_ble_eq_true rfl) dX1_odds_13 ⟨by first | exact Nat.le_of_ble_eq_true rfl | omega, by first | exact Nat.le_of_ble_eq_true rfl | omega⟩) (fun r u H locs hp hX => ?_)
    have hr_ : r = nB (inN wh 0 1) := hp
    subst hr_
    have hX : nvS D a0 (mW dA a fault trace sorts shL cells words said kind longOf letters saidRow at_ rdW rKind rLong rLet looked lkL next heard far ways waysT free freeT rdgs rWord rMany rStands rRow ex) s.heap H locs := hX
    refine W.cs (cells' := 0) (slots' := 0) (Nat.add_zero _) (Nat.add_zero _) ?_
    refine nv_if_eqB (tgt := 26) zx zb dX1_odds_16 (by decide) (fun c16 => ?_) (fun c16 => ?_)
    · refine lv_ldc2 (v := (-9223372036854775808)) zx zb zC.2.2.2.1 (zC.2.2.2.2.1 _ q1416) dX1_odds_26 ?_
      rw [← zQ]
      exact nv_endl zC zr zk (next, heard, looked, ways, waysT) hX (by (try dsimp only); exact ⟨(if_neg (fun z => absurd (z.2.1.symm.trans c16) (by decide))).symm, hlk⟩) (by omega) (by omega) dX1_odds_29
    · obtain ⟨uu, -, hu, rfl⟩ := inN_t (by decide) (by decide) c16
      refine lv_aload_n zx zb dX1_odds_19 rfl (lv_at hl 0 rfl) ?_
      refine nv_get zC hX in_X1 0 rfl rfl 5 (by decide) q1197 (fun _ h => h) rfl dX1_odds_20 ?_
      refine nv_if_ne (tgt := 30) zx zb (by omega) dX1_odds_23 (by decide) (fun c23 => ?_) (fun c23 => ?_)
      · have hp4 := pw4 hw4
        refine lv_aload_n zx zb dX1_odds_30 rfl (lv_at hl 0 rfl) ?_
        refine lv_iload_n zx zb dX1_odds_31 rfl (lv_at hl 1 rfl) ?_
        refine nv_kv zC hX (nv_rV (n := 1) (As := [.int (nI jj)]) (rest := []) (q0 := 0) zC hX (mm_findWays (n := jj) (hok := (by first | assumption | omega)) (hlk := (by first | assumption | omega)) (hn := (by first | assumption | omega))) nvGb0 (fun _ _ _ => trivial) rfl rfl q1417 q1419 qs51 q63 q1420 (by decide +kernel) rfl ⟨Nat.le_of_ble_eq_true rfl, Nat.le_of_ble_eq_true rfl⟩ hl.1 (Nat.le_of_ble_eq_true rfl) dX1_odds_32 ⟨by first | exact Nat.le_of_ble_eq_true rfl | omega, by first | exact Nat.le_of_ble_eq_true rfl | omega⟩) (fun u H locs hp hX => ?_)
        obtain ⟨next'_3, heard'_3, looked'_3, ways'_3, waysT'_3⟩ := u
        have h32 : nxOK next'_3 heard'_3 kind longOf letters words ∧ (∀ j, looked'_3 j < 3) ∧ wyOK kind longOf letters words jj ways'_3 := hp
        have hX : nvS D a0 (mW dA a fault trace sorts shL cells words said kind longOf letters saidRow at_ rdW rKind rLong rLet looked'_3 lkL next'_3 heard'_3 far ways'_3 waysT'_3 free freeT rdgs rWord rMany rStands rRow ex) s.heap H locs := hX
        refine W.cs (cells' := 0) (slots' := 0) (Nat.add_zero _) (Nat.add_zero _) ?_
        obtain ⟨hnx, hlk2, hwy⟩ := h32
        have hp30 : 3 ^ jj < 2 ^ 63 := Nat.lt_of_le_of_lt (Nat.pow_le_pow_right (by decide) (show jj ≤ 30 by omega)) (by decide)
        have hwv : sumUp (fun e => ways'_3 (16 * e + (2 ^ words - 1))) 40 = hvN kind longOf letters words jj := sumUp_cg (fun e he => hwy _ (by omega))
        have hwb : hvN kind longOf letters words jj < 2 ^ 63 := Nat.lt_of_le_of_lt (sumUp_st (f := wyN (stC kind longOf letters words) 0 640 jj) (by omega) 40) (by rw [wyN_sum (by decide) (fun k c _ hc => stC_lt hw4 hc)]; exact hp30)
        refine lv_lconst (v := lN 1) zx zb dX1_odds_35 (by decide) ?_
        refine lv_lstore_n (lv' := [(3, .long (lN 1)), (0, .ref (a 0)), (1, .int (nI jj)), (2, .int (nI uu))]) zx zb dX1_odds_36 rfl hl (by decide) rfl (fun ls hl => ?_)
        refine lv_iconst (v := nI 0) zx zb dX1_odds_37 (by decide) ?_
        refine lv_istore (lv' := [(5, .int (nI 0)), (3, .long (lN 1)), (0, .ref (a 0)), (1, .int (nI jj)), (2, .int (nI uu))]) zx zb dX1_odds_38 hl (by decide) rfl (fun ls hl => ?_)
        have L40 : ∀ (zn : Nat) (k : Nat) (hk : k ≤ jj), jj - k < zn → ∀ (H : Heap) (locs : List Loc) (ls : Array Slot), nvS D a0 (mW dA a fault trace sorts shL cells words said kind longOf letters saidRow at_ rdW rKind rLong rLet looked'_3 lkL next'_3 heard'_3 far ways'_3 waysT'_3 free freeT rdgs rWord rMany rStands rRow ex) s.heap H locs → lv_has ls 6 [(5, .int (nI k)), (3, .long (lN (3 ^ k))), (0, .ref (a 0)), (1, .int (nI jj)), (2, .int (nI uu))] → W zp l ze (rm_ 6 133 0 0) s zm zar zlo zme zcd H locs 0 0 Q (F0 zm 40 ls []) := by
          intro zn
          induction zn with
          | zero => intro k hk zf; exact absurd zf (Nat.not_lt_zero _)
          | succ zn ih40 =>
            intro k hk zf H locs ls hX hl
            refine lv_iload zx zb dX1_odds_40 (lv_at hl 0 rfl) ?_
            refine lv_iload_n zx zb dX1_odds_42 rfl (lv_at hl 3 rfl) ?_
            refine nv_icmp_ge (tgt := 58) zx zb (by omega) (by omega) dX1_odds_43 (by decide) (fun c43 => ?_) (fun c43 => ?_)
            · refine lv_aload_n zx zb dX1_odds_58 rfl (lv_at hl 2 rfl) ?_
              refine lv_aload_n zx zb dX1_odds_59 rfl (lv_at hl 2 rfl) ?_
              refine nv_ki zC hX (nv_rV (n := 0) (As := []) (rest := [.ref (a 0)]) (q0 := 0) zC hX (mm_allWords (hw4 := (by first | assumption | omega))) nvGb0 (fun _ _ _ => trivial) rfl rfl q1404 q1406 qs49 q63 q1407 (by decide +kernel) rfl ⟨Nat.le_of_ble_eq_true rfl, Nat.le_of_ble_eq_true rfl⟩ hl.1 (Nat.le_of_ble_eq_true rfl) dX1_odds_60 ⟨by first | exact Nat.le_of_ble_eq_true rfl | omega, by first | exact Nat.le_of_ble_eq_true rfl | omega⟩) (fun r u H locs hp hX => ?_)
              have hr_ : r = nI (2 ^ words - 1) := hp
              subst hr_
              have hX : nvS D a0 (mW dA a fault trace sorts shL cells words said kind longOf letters saidRow at_ rdW rKind rLong rLet looked'_3 lkL next'_3 heard'_3 far ways'_3 waysT'_3 free freeT rdgs rWord rMany rStands rRow ex) s.heap H locs := hX
              refine W.cs (cells' := 0) (slots' := 0) (Nat.add_zero _) (Nat.add_zero _) ?_
              refine nv_kl zC hX (nv_rV (n := 1) (As := [.int (nI (2 ^ words - 1))]) (rest := []) (q0 := 0) zC hX (mm_waysWith (set := 2 ^ words - 1) (hs := (by first | assumption | omega))) nvGb0 (fun _ _ _ => trivial) rfl rfl q1421 q1423 qs52 q63 q1424 (by decide +kernel) rfl ⟨Nat.le_of_ble_eq_true rfl, Nat.le_of_ble_eq_true rfl⟩ hl.1 (Nat.le_of_ble_eq_true rfl) dX1_odds_63 ⟨by first | exact Nat.le_of_ble_eq_true rfl | omega, by first | exact Nat.le_of_ble_eq_true rfl | omega⟩) (fun r u H locs hp hX => ?_)
              have hr_ : r = lN (sumUp (fun e => ways'_3 (16 * e + (2 ^ words - 1))) 40) := hp
              subst hr_
              have hX : nvS D a0 (mW dA a fault trace sorts shL cells words said kind longOf letters saidRow at_ rdW rKind rLong rLet looked'_3 lkL next'_3 heard'_3 far ways'_3 waysT'_3 free freeT rdgs rWord rMany rStands rRow ex) s.heap H locs := hX
              refine W.cs (cells' := 0) (slots' := 0) (Nat.add_zero _) (Nat.add_zero _) ?_
              refine nv_asl (show lN (sumUp (fun e => ways'_3 (16 * e + (2 ^ words - 1))) 40) = lN (hvN kind longOf letters words jj) from (congrArg lN hwv)) ?_
              refine lv_lload_n zx zb dX1_odds_66 rfl (lv_at hl 1 rfl) ?_
              refine lv_iload_n zx zb dX1_odds_67 rfl (lv_at hl 4 rfl) ?_
              refine nv_kl zC hX (nv_rS (n := 3) (As := [.long (lN (hvN kind longOf letters words jj)), .long (lN (3 ^ k)), .int (nI uu)]) (rest := []) zC hX (mm_inLeastTerms (u := hvN kind longOf letters words jj) (d := 3 ^ k) (wh := uu) (hu := hwb) (hd := (by rw [show k = jj by omega]; exact hp30)) (hd0 := (Nat.pow_pos (by decide))) (hwh := (by first | assumption | omega))) nvGb0 (fun _ _ _ => trivial) q1470 q1471 q63 q1472 (by decide +kernel) rfl ⟨Nat.le_of_ble_eq_true rfl, Nat.le_of_ble_eq_true rfl⟩ hl.1 (Nat.le_of_ble_eq_true rfl) dX1_odds_68 ⟨by first | exact Nat.le_of_ble_eq_true rfl | omega, by first | exact Nat.le_of_ble_eq_true rfl | omega⟩) (fun r u H locs hp hX => ?_)
              have hr_ : r = lN (if uu = 0 then (hvN kind longOf letters words jj) / Nat.gcd (hvN kind longOf letters words jj) (3 ^ k) else (3 ^ k) / Nat.gcd (hvN kind longOf letters words jj) (3 ^ k)) := hp
              subst hr_
              have hX : nvS D a0 (mW dA a fault trace sorts shL cells words said kind longOf letters saidRow at_ rdW rKind rLong rLet looked'_3 lkL next'_3 heard'_3 far ways'_3 waysT'_3 free freeT rdgs rWord rMany rStands rRow ex) s.heap H locs := hX
              refine W.cs (cells' := 0) (slots' := 0) (Nat.add_zero _) (Nat.add_zero _) ?_
              rw [← zQ]
              exact nv_endl zC zr zk (next'_3, heard'_3, looked'_3, ways'_3, waysT'_3) hX (by (try dsimp only); refine ⟨?_, hlk2⟩; rw [F_odds_v c7 c16 (by omega) hj hu, show k = jj by omega]) (by omega) (by omega) dX1_odds_71
            · refine lv_lload_n zx zb dX1_odds_46 rfl (lv_at hl 1 rfl) ?_
              refine lv_ldc2 (v := lN 3) zx zb zC.2.2.2.1 (zC.2.2.2.2.1 _ q1469) dX1_odds_47 ?_
              refine nv_lmul zx zb dX1_odds_50 ?_
              refine nv_asl (show lN ((3 ^ k) * 3) = lN (3 ^ (k + 1)) from (congrArg lN (Nat.pow_succ 3 k).symm)) ?_
              refine lv_lstore_n (lv' := [(3, .long (lN (3 ^ (k + 1)))), (5, .int (nI k)), (0, .ref (a 0)), (1, .int (nI jj)), (2, .int (nI uu))]) zx zb dX1_odds_51 rfl hl (by decide) rfl (fun ls hl => ?_)
              refine lv_iinc (v := nI (k + 1)) (lv' := [(5, .int (nI (k + 1))), (3, .long (lN (3 ^ (k + 1)))), (0, .ref (a 0)), (1, .int (nI jj)), (2, .int (nI uu))]) zx zb dX1_odds_52 hl (k := 1) rfl (nI_1 _) (by decide) rfl (fun ls hl => ?_)
              refine lv_goto (tgt := 40) zx zb dX1_odds_55 (by decide) ?_
              exact ih40 (k + 1) (by omega) (by omega) _ _ _ hX (lv_sub hl [0, 1, 2, 3, 4] rfl)
        exact L40 _ 0 (by omega) (Nat.lt_succ_self _) _ _ _ hX (lv_sub hl [0, 1, 2, 3, 4] rfl)
      · refine lv_ldc2 (v := (-9223372036854775808)) zx zb zC.2.2.2.1 (zC.2.2.2.2.1 _ q1416) dX1_odds_26 ?_
        rw [← zQ]
        exact nv_endl zC zr zk (next, heard, looked, ways, waysT) hX (by (try dsimp only); exact ⟨(if_neg (fun z => by omega)).symm, hlk⟩) (by omega) (by omega) dX1_odds_29

set_option maxHeartbeats 4000000 in
theorem mm_sheet  (k : Int32) (sort : Int32) (n : Int32) (hsl : ∀ q, shL q ≤ 60) : nMt l D dA a0 yX1_sheet cX1_sheet 5 (some .int) 3 54 0 0 nvG0 [.ref (a 0), .int k, .int sort, .int n] (mW dA a fault trace sorts shL cells words said kind longOf letters saidRow at_ rdW rKind rLong rLet looked lkL next heard far ways waysT free freeT rdgs rWord rMany rStands rRow ex) (nQi D a0 (fun (r : Int32) (u : Int32 × (Nat → Option Nat) × (Nat → Nat) × (Nat → Int32)) => r = F_sheet k sort n ∧ u.1 = nI (g_sheet k sort n) ∧ u.2.1 = G_shSo sorts k sort n ∧ u.2.2.1 = G_shL shL k sort n ∧ u.2.2.2 = G_shC cells k sort n) (fun (u : Int32 × (Nat → Option Nat) × (Nat → Nat) × (Nat → Int32)) => mW dA a u.1 trace u.2.1 u.2.2.1 u.2.2.2 words said kind longOf letters saidRow at_ rdW rKind rLong rLet looked lkL next heard far ways waysT free freeT rdgs rWord rMany rStands rRow ex)) := by
  refine nv_start (by decide) (Nat.le_of_ble_eq_true rfl) fun zp ze s zm zlo zme zcd ls zC zr zk znm hX zG hl => ?_
  have zx := zC.1
  have zb := zC.2.1
  generalize zargs : ([.ref (a 0), .int k, .int sort, .int n] : List Value).toArray = zar at zC ⊢
  generalize zQ : MQ zlo _ zar s _ _ _ = Q
  have hX : nvS D a0 (mW dA a fault trace sorts shL cells words said kind longOf letters saidRow at_ rdW rKind rLong rLet looked lkL next heard far ways waysT free freeT rdgs rWord rMany rStands rRow ex) s.heap s.heap [] := hX
  have hl : lv_has ls 5 [(0, .ref (a 0)), (1, .int k), (2, .int sort), (3, .int n)] := hl
  obtain ⟨H, zH⟩ : ∃ H, H = s.heap := ⟨_, rfl⟩
  have hX : nvS D a0 (mW dA a fault trace sorts shL cells words said kind longOf letters saidRow at_ rdW rKind rLong rLet looked lkL next heard far ways waysT free freeT rdgs rWord rMany rStands rRow ex) s.heap H [] := by rw [zH]; exact hX
  rw [show W zp l ze (rm_ 3 54 0 0) s zm zar zlo zme zcd s.heap [] 0 0 Q = W zp l ze (rm_ 3 54 0 0) s zm zar zlo zme zcd H [] 0 0 Q by rw [zH]]
  generalize ([] : List Loc) = locs at hX ⊢
  refine lv_aload_n zx zb dX1_sheet_0 rfl (lv_at hl 0 rfl) ?_
  refine lv_iconst (v := nI 0) zx zb dX1_sheet_1 (by decide) ?_
  refine nv_put zC hX in_X1 tyX1 tyX1_ok nmX1 0 rfl rfl 0 (by decide) q1192 (fun _ h => h) rfl rfl rfl (Nat.le_of_ble_eq_true rfl) (w' := mW dA a (nI 0) trace sorts shL cells words said kind longOf letters saidRow at_ rdW rKind rLong rLet looked lkL next heard far ways waysT free freeT rdgs rWord rMany rStands rRow ex) rfl dX1_sheet_2 (fun H locs hX => ?_)
  refine lv_iload_n zx zb dX1_sheet_5 rfl (lv_at hl 1 rfl) ?_
  refine nv_ki zC hX (nv_rS (n := 1) (As := [.int k]) (rest := []) zC hX (mm_isSheet (v := k)) nvGb0 (fun _ _ _ => trivial) q1287 q1288 q63 q1289 (by decide +kernel) rfl ⟨Nat.le_of_ble_eq_true rfl, Nat.le_of_ble_eq_true rfl⟩ hl.1 (Nat.le_of_ble_eq_true rfl) dX1_sheet_6 ⟨by first | exact Nat.le_of_ble_eq_true rfl | omega, by first | exact Nat.le_of_ble_eq_true rfl | omega⟩) (fun r u H locs hp hX => ?_)
  have hr_ : r = nB (inN k 0 3) := hp
  subst hr_
  have hX : nvS D a0 (mW dA a (nI 0) trace sorts shL cells words said kind longOf letters saidRow at_ rdW rKind rLong rLet looked lkL next heard far ways waysT free freeT rdgs rWord rMany rStands rRow ex) s.heap H locs := hX
  refine W.cs (cells' := 0) (slots' := 0) (Nat.add_zero _) (Nat.add_zero _) ?_
  refine nv_if_neB (tgt := 14) zx zb dX1_sheet_9 (by decide) (fun c9 => ?_) (fun c9 => ?_)
  · obtain ⟨sh, -, hsh, rfl⟩ := inN_t (by decide) (by decide) c9
    have esh : i2n (nI sh) = sh := nI_clamp (by omega)
    have hsl_ := hsl sh
    refine lv_iload_n zx zb dX1_sheet_14 rfl (lv_at hl 2 rfl) ?_
    refine nv_ki zC hX (nv_rS (n := 1) (As := [.int sort]) (rest := []) zC hX (mm_isSort (v := sort)) nvGb0 (fun _ _ _ => trivial) q1293 q1294 q63 q1295 (by decide +kernel) rfl ⟨Nat.le_of_ble_eq_true rfl, Nat.le_of_ble_eq_true rfl⟩ hl.1 (Nat.le_of_ble_eq_true rfl) dX1_sheet_15 ⟨by first | exact Nat.le_of_ble_eq_true rfl | omega, by first | exact Nat.le_of_ble_eq_true rfl | omega⟩) (fun r u H locs hp hX => ?_)
    have hr_ : r = nB (inN sort 0 2) := hp
    subst hr_
    have hX : nvS D a0 (mW dA a (nI 0) trace sorts shL cells words said kind longOf letters saidRow at_ rdW rKind rLong rLet looked lkL next heard far ways waysT free freeT rdgs rWord rMany rStands rRow ex) s.heap H locs := hX
    refine W.cs (cells' := 0) (slots' := 0) (Nat.add_zero _) (Nat.add_zero _) ?_
    refine nv_if_eqB (tgt := 27) zx zb dX1_sheet_18 (by decide) (fun c18 => ?_) (fun c18 => ?_)
    · refine lv_bipush (v := (-2)) zx zb dX1_sheet_27 (by decide) ?_
      rw [← zQ]
      exact nv_endi zC zr zk (nI 0, sorts, shL, cells) hX (by (try dsimp only); have h0 : okSh (nI sh) sort n = false := (by unfold okSh; rw [c18]; simp); have h1 : okSh2 (nI sh) sort n = false := (by unfold okSh2; rw [h0]; rfl); exact ⟨by unfold F_sheet; rw [h0, c9]; rfl, by unfold g_sheet; rw [h0]; rfl, by unfold G_shSo; rw [h1]; rfl, by unfold G_shL; rw [h1]; rfl, by unfold G_shC; rw [h1]; rfl⟩) (by omega) (by omega) dX1_sheet_29
    · obtain ⟨so_, -, hso_, rfl⟩ := inN_t (by decide) (by decide) c18
      have eso : i2n (nI so_) = so_ := nI_clamp (by omega)
      refine lv_iload_n zx zb dX1_sheet_21 rfl (lv_at hl 3 rfl) ?_
      refine lv_bipush (v := nI 60) zx zb dX1_sheet_22 (by decide) ?_
      refine lv_icmp_le (x := n) (y := nI 60) (tgt := 30) zx zb dX1_sheet_24 (by decide) (fun c24 => ?_) (fun c24 => ?_)
      · have h0 : okSh (nI sh) (nI so_) n = true := by unfold okSh; rw [c9, c18, decide_eq_true c24]; rfl
        refine lv_iload_n zx zb dX1_sheet_30 rfl (lv_at hl 3 rfl) ?_
        refine lv_if_ge (x := n) (tgt := 40) zx zb dX1_sheet_31 (by decide) (fun c31 => ?_) (fun c31 => ?_)
        · obtain ⟨nn, hnn, rfl⟩ := nI_of2 (M := nI 60) (n := 60) (by decide) (Int32.not_lt.mpr c31) c24
          have en : i2n (nI nn) = nn := nI_clamp (by omega)
          have h1 : okSh2 (nI sh) (nI so_) (nI nn) = true := by unfold okSh2; rw [h0, decide_eq_true (Int32.not_lt.mpr c31)]; rfl
          refine lv_aload_n zx zb dX1_sheet_40 rfl (lv_at hl 0 rfl) ?_
          refine nv_get zC hX in_X1 0 rfl rfl 2 (by decide) q1194 (fun _ h => h) rfl dX1_sheet_41 ?_
          refine lv_iload_n zx zb dX1_sheet_44 rfl (lv_at hl 1 rfl) ?_
          refine lv_iload_n zx zb dX1_sheet_45 rfl (lv_at hl 2 rfl) ?_
          refine nv_iast zC hX 1 rfl (by omega) (by decide) (oF_ups _ _ _) (w' := mW dA a (nI 0) trace (va_up sorts sh (some so_)) shL cells words said kind longOf letters saidRow at_ rdW rKind rLong rLet looked lkL next heard far ways waysT free freeT rdgs rWord rMany rStands rRow ex) rfl dX1_sheet_46 (fun H locs hX => ?_)
          refine lv_aload_n zx zb dX1_sheet_47 rfl (lv_at hl 0 rfl) ?_
          refine nv_get zC hX in_X1 0 rfl rfl 3 (by decide) q1195 (fun _ h => h) rfl dX1_sheet_48 ?_
          refine lv_iload_n zx zb dX1_sheet_51 rfl (lv_at hl 1 rfl) ?_
          refine lv_iload_n zx zb dX1_sheet_52 rfl (lv_at hl 3 rfl) ?_
          refine nv_iast zC hX 2 rfl (by omega) (by decide) (nF_up _ _ _) (w' := mW dA a (nI 0) trace (va_up sorts sh (some so_)) (va_up shL sh nn) cells words said kind longOf letters saidRow at_ rdW rKind rLong rLet looked lkL next heard far ways waysT free freeT rdgs rWord rMany rStands rRow ex) rfl dX1_sheet_53 (fun H locs hX => ?_)
          refine lv_iconst (v := nI 0) zx zb dX1_sheet_54 (by decide) ?_
          refine lv_istore (lv' := [(4, .int (nI 0)), (0, .ref (a 0)), (1, .int (nI sh)), (2, .int (nI so_)), (3, .int (nI nn))]) zx zb dX1_sheet_55 hl (by decide) rfl (fun ls hl => ?_)
          have L57 : ∀ (zn : Nat) (c : Nat) (hc : c ≤ 60), 60 - c < zn → ∀ (H : Heap) (locs : List Loc) (ls : Array Slot), nvS D a0 (mW dA a (nI 0) trace (va_up sorts sh (some so_)) (va_up shL sh nn) (clC cells (60 * sh) c) words said kind longOf letters saidRow at_ rdW rKind rLong rLet looked lkL next heard far ways waysT free freeT rdgs rWord rMany rStands rRow ex) s.heap H locs → lv_has ls 5 [(4, .int (nI c)), (0, .ref (a 0)), (1, .int (nI sh)), (2, .int (nI so_)), (3, .int (nI nn))] → W zp l ze (rm_ 3 54 0 0) s zm zar zlo zme zcd H locs 0 0 Q (F0 zm 57 ls []) := by
            intro zn
            induction zn with
            | zero => intro c hc zf; exact absurd zf (Nat.not_lt_zero _)
            | succ zn ih57 =>
              intro c hc zf H locs ls hX hl
              refine lv_iload zx zb dX1_sheet_57 (lv_at hl 0 rfl) ?_
              refine lv_bipush (v := nI 60) zx zb dX1_sheet_59 (by decide) ?_
              refine nv_icmp_ge (tgt := 83) zx zb (by omega) (by omega) dX1_sheet_61 (by decide) (fun c61 => ?_) (fun c61 => ?_)
              · refine lv_iconst (v := nI 1) zx zb dX1_sheet_83 (by decide) ?_
                rw [← zQ]
                exact nv_endi zC zr zk (nI 0, va_up sorts sh (some so_), va_up shL sh nn, clC cells (60 * sh) c) hX (by (try dsimp only); exact ⟨by unfold F_sheet; rw [h0, if_pos rfl, if_neg (Int32.not_lt.mpr c31)]; rfl, by unfold g_sheet; rw [if_neg (fun z => Int32.not_lt.mpr c31 z.2)], by unfold G_shSo; rw [h1, esh, eso]; rfl, by unfold G_shL; rw [h1, esh, en]; rfl, by unfold G_shC; rw [h1, esh, show (60 : Nat) = c by omega]; rfl⟩) (by omega) (by omega) dX1_sheet_84
              · refine lv_aload_n zx zb dX1_sheet_64 rfl (lv_at hl 1 rfl) ?_
                refine nv_get zC hX in_X1 0 rfl rfl 4 (by decide) q1196 (fun _ h => h) rfl dX1_sheet_65 ?_
                refine lv_bipush (v := nI 60) zx zb dX1_sheet_68 (by decide) ?_
                refine lv_iload_n zx zb dX1_sheet_70 rfl (lv_at hl 2 rfl) ?_
                refine nv_imul zx zb dX1_sheet_71 ?_
                refine lv_iload zx zb dX1_sheet_72 (lv_at hl 0 rfl) ?_
                refine nv_iadd zx zb dX1_sheet_74 ?_
                refine lv_iconst (v := nI 0) zx zb dX1_sheet_75 (by decide) ?_
                refine nv_iast zC hX 3 rfl (by omega) (by decide) rfl (w' := mW dA a (nI 0) trace (va_up sorts sh (some so_)) (va_up shL sh nn) (upd (clC cells (60 * sh) c) ((60 * sh) + c) (nI 0)) words said kind longOf letters saidRow at_ rdW rKind rLong rLet looked lkL next heard far ways waysT free freeT rdgs rWord rMany rStands rRow ex) rfl dX1_sheet_76 (fun H locs hX => ?_)
                have hX : nvS D a0 (mW dA a (nI 0) trace (va_up sorts sh (some so_)) (va_up shL sh nn) (clC cells (60 * sh) (c + 1)) words said kind longOf letters saidRow at_ rdW rKind rLong rLet looked lkL next heard far ways waysT free freeT rdgs rWord rMany rStands rRow ex) s.heap H locs := by (rw [← clC_s]; exact hX)
                refine lv_iinc (v := nI (c + 1)) (lv' := [(4, .int (nI (c + 1))), (0, .ref (a 0)), (1, .int (nI sh)), (2, .int (nI so_)), (3, .int (nI nn))]) zx zb dX1_sheet_77 hl (k := 0) rfl (nI_1 _) (by decide) rfl (fun ls hl => ?_)
                refine lv_goto (tgt := 57) zx zb dX1_sheet_80 (by decide) ?_
                exact ih57 (c + 1) (by omega) (by omega) _ _ _ hX (lv_sub hl [0, 1, 2, 3, 4] rfl)
          rw [← clC_0 cells (60 * sh)] at hX
          exact L57 _ 0 (by omega) (Nat.lt_succ_self _) _ _ _ hX (lv_sub hl [0, 1, 2, 3, 4] rfl)
        · refine lv_aload_n zx zb dX1_sheet_34 rfl (lv_at hl 0 rfl) ?_
          refine lv_iconst (v := nI 4) zx zb dX1_sheet_35 (by decide) ?_
          refine nv_ki zC hX (nv_rV (n := 1) (As := [.int (nI 4)]) (rest := []) (q0 := 0) zC hX (mm_fails (k := 4)) nvGb0 (fun _ _ _ => trivial) rfl rfl q1300 q1302 qs30 q63 q1303 (by decide +kernel) rfl ⟨Nat.le_of_ble_eq_true rfl, Nat.le_of_ble_eq_true rfl⟩ hl.1 (Nat.le_of_ble_eq_true rfl) dX1_sheet_36 ⟨by first | exact Nat.le_of_ble_eq_true rfl | omega, by first | exact Nat.le_of_ble_eq_true rfl | omega⟩) (fun r u H locs hp hX => ?_)
          have hr_ : r = (-10) - nI 4 := hp
          subst hr_
          have hX : nvS D a0 (mW dA a (nI 4) trace sorts shL cells words said kind longOf letters saidRow at_ rdW rKind rLong rLet looked lkL next heard far ways waysT free freeT rdgs rWord rMany rStands rRow ex) s.heap H locs := hX
          refine W.cs (cells' := 0) (slots' := 0) (Nat.add_zero _) (Nat.add_zero _) ?_
          rw [← zQ]
          exact nv_endi zC zr zk (nI 4, sorts, shL, cells) hX (by (try dsimp only); have h1 : okSh2 (nI sh) (nI so_) n = false := (by unfold okSh2; rw [h0, decide_eq_false (fun z => z (Int32.not_le.mp c31))]; rfl); exact ⟨by unfold F_sheet; rw [h0, if_pos rfl, if_pos (Int32.not_le.mp c31)], by unfold g_sheet; rw [if_pos ⟨h0, Int32.not_le.mp c31⟩], by unfold G_shSo; rw [h1]; rfl, by unfold G_shL; rw [h1]; rfl, by unfold G_shC; rw [h1]; rfl⟩) (by omega) (by omega) dX1_sheet_39
      · refine lv_bipush (v := (-2)) zx zb dX1_sheet_27 (by decide) ?_
        rw [← zQ]
        exact nv_endi zC zr zk (nI 0, sorts, shL, cells) hX (by (try dsimp only); have h0 : okSh (nI sh) (nI so_) n = false := (by unfold okSh; rw [decide_eq_false c24]; simp); have h1 : okSh2 (nI sh) (nI so_) n = false := (by unfold okSh2; rw [h0]; rfl); exact ⟨by unfold F_sheet; rw [h0, c9]; rfl, by unfold g_sheet; rw [h0]; rfl, by unfold G_shSo; rw [h1]; rfl, by unfold G_shL; rw [h1]; rfl, by unfold G_shC; rw [h1]; rfl⟩) (by omega) (by omega) dX1_sheet_29
  · refine lv_iconst (v := (-1)) zx zb dX1_sheet_12 (by decide) ?_
    rw [← zQ]
    exact nv_endi zC zr zk (nI 0, sorts, shL, cells) hX (by (try dsimp only); have h0 : okSh k sort n = false := (by unfold okSh; rw [c9]; rfl); have h1 : okSh2 k sort n = false := (by unfold okSh2; rw [h0]; rfl); exact ⟨by unfold F_sheet; rw [h0, c9]; rfl, by unfold g_sheet; rw [h0]; rfl, by unfold G_shSo; rw [h1]; rfl, by unfold G_shL; rw [h1]; rfl, by unfold G_shC; rw [h1]; rfl⟩) (by omega) (by omega) dX1_sheet_13

set_option maxHeartbeats 4000000 in
theorem mm_lose  (k : Int32) (hso : ∀ q v, sorts q = some v → v < 3) (hsl : ∀ q, shL q ≤ 60) : nMt l D dA a0 yX1_lose cX1_lose 3 (some .int) 3 54 0 0 nvG0 [.ref (a 0), .int k] (mW dA a fault trace sorts shL cells words said kind longOf letters saidRow at_ rdW rKind rLong rLet looked lkL next heard far ways waysT free freeT rdgs rWord rMany rStands rRow ex) (nQi D a0 (fun (r : Int32) (sorts' : Nat → Option Nat) => r = F_lose sorts k ∧ sorts' = G_lose sorts k) (fun (sorts' : Nat → Option Nat) => mW dA a fault trace sorts' shL cells words said kind longOf letters saidRow at_ rdW rKind rLong rLet looked lkL next heard far ways waysT free freeT rdgs rWord rMany rStands rRow ex)) := by
  refine nv_start (by decide) (Nat.le_of_ble_eq_true rfl) fun zp ze s zm zlo zme zcd ls zC zr zk znm hX zG hl => ?_
  have zx := zC.1
  have zb := zC.2.1
  generalize zargs : ([.ref (a 0), .int k] : List Value).toArray = zar at zC ⊢
  generalize zQ : MQ zlo _ zar s _ _ _ = Q
  have hX : nvS D a0 (mW dA a fault trace sorts shL cells words said kind longOf letters saidRow at_ rdW rKind rLong rLet looked lkL next heard far ways waysT free freeT rdgs rWord rMany rStands rRow ex) s.heap s.heap [] := hX
  have hl : lv_has ls 3 [(0, .ref (a 0)), (1, .int k)] := hl
  obtain ⟨H, zH⟩ : ∃ H, H = s.heap := ⟨_, rfl⟩
  have hX : nvS D a0 (mW dA a fault trace sorts shL cells words said kind longOf letters saidRow at_ rdW rKind rLong rLet looked lkL next heard far ways waysT free freeT rdgs rWord rMany rStands rRow ex) s.heap H [] := by rw [zH]; exact hX
  rw [show W zp l ze (rm_ 3 54 0 0) s zm zar zlo zme zcd s.heap [] 0 0 Q = W zp l ze (rm_ 3 54 0 0) s zm zar zlo zme zcd H [] 0 0 Q by rw [zH]]
  generalize ([] : List Loc) = locs at hX ⊢
  refine lv_iload_n zx zb dX1_lose_0 rfl (lv_at hl 1 rfl) ?_
  refine nv_ki zC hX (nv_rS (n := 1) (As := [.int k]) (rest := []) zC hX (mm_isSheet (v := k)) nvGb0 (fun _ _ _ => trivial) q1287 q1288 q63 q1289 (by decide +kernel) rfl ⟨Nat.le_of_ble_eq_true rfl, Nat.le_of_ble_eq_true rfl⟩ hl.1 (Nat.le_of_ble_eq_true rfl) dX1_lose_1 ⟨by first | exact Nat.le_of_ble_eq_true rfl | omega, by first | exact Nat.le_of_ble_eq_true rfl | omega⟩) (fun r u H locs hp hX => ?_)
  have hr_ : r = nB (inN k 0 3) := hp
  subst hr_
  have hX : nvS D a0 (mW dA a fault trace sorts shL cells words said kind longOf letters saidRow at_ rdW rKind rLong rLet looked lkL next heard far ways waysT free freeT rdgs rWord rMany rStands rRow ex) s.heap H locs := hX
  refine W.cs (cells' := 0) (slots' := 0) (Nat.add_zero _) (Nat.add_zero _) ?_
  refine nv_if_neB (tgt := 9) zx zb dX1_lose_4 (by decide) (fun c4 => ?_) (fun c4 => ?_)
  · obtain ⟨sh, -, hsh, rfl⟩ := inN_t (by decide) (by decide) c4
    have esh : i2n (nI sh) = sh := nI_clamp (by omega)
    have hsl_ := hsl sh
    refine lv_aload_n zx zb dX1_lose_9 rfl (lv_at hl 0 rfl) ?_
    refine nv_get zC hX in_X1 0 rfl rfl 2 (by decide) q1194 (fun _ h => h) rfl dX1_lose_10 ?_
    refine lv_iload_n zx zb dX1_lose_13 rfl (lv_at hl 1 rfl) ?_
    refine nv_iald (v := oI (sorts sh)) zC hX 1 rfl (by omega) (by decide) rfl dX1_lose_14 ?_
    refine lv_bipush (v := (-9)) zx zb dX1_lose_15 (by decide) ?_
    refine lv_icmp_ne (x := oI (sorts sh)) (y := (-9)) (tgt := 24) zx zb dX1_lose_17 (by decide) (fun c17 => ?_) (fun c17 => ?_)
    · have c17 : sorts sh ≠ none := fun z => c17 ((oI_n (fun v h => Nat.lt_trans (hso _ v h) (by decide))).mpr z)
      refine lv_iconst (v := nI 1) zx zb dX1_lose_24 (by decide) ?_
      refine lv_istore_n (lv' := [(2, .int (nI 1)), (0, .ref (a 0)), (1, .int (nI sh))]) zx zb dX1_lose_25 rfl hl (by decide) rfl (fun ls hl => ?_)
      refine lv_aload_n zx zb dX1_lose_26 rfl (lv_at hl 1 rfl) ?_
      refine nv_get zC hX in_X1 0 rfl rfl 2 (by decide) q1194 (fun _ h => h) rfl dX1_lose_27 ?_
      refine lv_iload_n zx zb dX1_lose_30 rfl (lv_at hl 2 rfl) ?_
      refine lv_bipush (v := (-9)) zx zb dX1_lose_31 (by decide) ?_
      refine nv_iast zC hX 1 rfl (by omega) (by decide) (oF_upn _ _) (w' := mW dA a fault trace (va_up sorts sh none) shL cells words said kind longOf letters saidRow at_ rdW rKind rLong rLet looked lkL next heard far ways waysT free freeT rdgs rWord rMany rStands rRow ex) rfl dX1_lose_33 (fun H locs hX => ?_)
      refine lv_iload_n zx zb dX1_lose_34 rfl (lv_at hl 0 rfl) ?_
      rw [← zQ]
      exact nv_endi zC zr zk (va_up sorts sh none) hX (by exact ⟨by unfold F_lose; rw [c4, if_pos rfl, esh, if_neg c17]; rfl, by unfold G_lose; rw [c4, if_pos rfl, esh]⟩) (by omega) (by omega) dX1_lose_35
    · have c17 : sorts sh = none := (oI_n (fun v h => Nat.lt_trans (hso _ v h) (by decide))).mp c17
      refine lv_iconst (v := nI 0) zx zb dX1_lose_20 (by decide) ?_
      refine lv_goto (tgt := 25) zx zb dX1_lose_21 (by decide) ?_
      refine lv_istore_n (lv' := [(2, .int (nI 0)), (0, .ref (a 0)), (1, .int (nI sh))]) zx zb dX1_lose_25 rfl hl (by decide) rfl (fun ls hl => ?_)
      refine lv_aload_n zx zb dX1_lose_26 rfl (lv_at hl 1 rfl) ?_
      refine nv_get zC hX in_X1 0 rfl rfl 2 (by decide) q1194 (fun _ h => h) rfl dX1_lose_27 ?_
      refine lv_iload_n zx zb dX1_lose_30 rfl (lv_at hl 2 rfl) ?_
      refine lv_bipush (v := (-9)) zx zb dX1_lose_31 (by decide) ?_
      refine nv_iast zC hX 1 rfl (by omega) (by decide) (oF_upn _ _) (w' := mW dA a fault trace (va_up sorts sh none) shL cells words said kind longOf letters saidRow at_ rdW rKind rLong rLet looked lkL next heard far ways waysT free freeT rdgs rWord rMany rStands rRow ex) rfl dX1_lose_33 (fun H locs hX => ?_)
      refine lv_iload_n zx zb dX1_lose_34 rfl (lv_at hl 0 rfl) ?_
      rw [← zQ]
      exact nv_endi zC zr zk (va_up sorts sh none) hX (by exact ⟨by unfold F_lose; rw [c4, if_pos rfl, esh, if_pos c17]; rfl, by unfold G_lose; rw [c4, if_pos rfl, esh]⟩) (by omega) (by omega) dX1_lose_35
  · refine lv_iconst (v := (-1)) zx zb dX1_lose_7 (by decide) ?_
    rw [← zQ]
    exact nv_endi zC zr zk sorts hX (by exact ⟨by unfold F_lose; rw [c4]; rfl, by unfold G_lose; rw [c4]; rfl⟩) (by omega) (by omega) dX1_lose_8

set_option maxHeartbeats 4000000 in
theorem mm_put  (k : Int32) (i : Int32) (v : Int32) (hso : ∀ q v, sorts q = some v → v < 3) (hsl : ∀ q, shL q ≤ 60) : nMt l D dA a0 yX1_put cX1_put 4 (some .int) 3 54 0 0 nvG0 [.ref (a 0), .int k, .int i, .int v] (mW dA a fault trace sorts shL cells words said kind longOf letters saidRow at_ rdW rKind rLong rLet looked lkL next heard far ways waysT free freeT rdgs rWord rMany rStands rRow ex) (nQi D a0 (fun (r : Int32) (u : Int32 × (Nat → Int32)) => r = F_put sorts shL k i ∧ u.1 = nI (g_put sorts shL k i) ∧ u.2 = G_put sorts shL cells k i v) (fun (u : Int32 × (Nat → Int32)) => mW dA a u.1 trace sorts shL u.2 words said kind longOf letters saidRow at_ rdW rKind rLong rLet looked lkL next heard far ways waysT free freeT rdgs rWord rMany rStands rRow ex)) := by
  refine nv_start (by decide) (Nat.le_of_ble_eq_true rfl) fun zp ze s zm zlo zme zcd ls zC zr zk znm hX zG hl => ?_
  have zx := zC.1
  have zb := zC.2.1
  generalize zargs : ([.ref (a 0), .int k, .int i, .int v] : List Value).toArray = zar at zC ⊢
  generalize zQ : MQ zlo _ zar s _ _ _ = Q
  have hX : nvS D a0 (mW dA a fault trace sorts shL cells words said kind longOf letters saidRow at_ rdW rKind rLong rLet looked lkL next heard far ways waysT free freeT rdgs rWord rMany rStands rRow ex) s.heap s.heap [] := hX
  have hl : lv_has ls 4 [(0, .ref (a 0)), (1, .int k), (2, .int i), (3, .int v)] := hl
  obtain ⟨H, zH⟩ : ∃ H, H = s.heap := ⟨_, rfl⟩
  have hX : nvS D a0 (mW dA a fault trace sorts shL cells words said kind longOf letters saidRow at_ rdW rKind rLong rLet looked lkL next heard far ways waysT free freeT rdgs rWord rMany rStands rRow ex) s.heap H [] := by rw [zH]; exact hX
  rw [show W zp l ze (rm_ 3 54 0 0) s zm zar zlo zme zcd s.heap [] 0 0 Q = W zp l ze (rm_ 3 54 0 0) s zm zar zlo zme zcd H [] 0 0 Q by rw [zH]]
  generalize ([] : List Loc) = locs at hX ⊢
  refine lv_aload_n zx zb dX1_put_0 rfl (lv_at hl 0 rfl) ?_
  refine lv_iconst (v := nI 0) zx zb dX1_put_1 (by decide) ?_
  refine nv_put zC hX in_X1 tyX1 tyX1_ok nmX1 0 rfl rfl 0 (by decide) q1192 (fun _ h => h) rfl rfl rfl (Nat.le_of_ble_eq_true rfl) (w' := mW dA a (nI 0) trace sorts shL cells words said kind longOf letters saidRow at_ rdW rKind rLong rLet looked lkL next heard far ways waysT free freeT rdgs rWord rMany rStands rRow ex) rfl dX1_put_2 (fun H locs hX => ?_)
  refine lv_iload_n zx zb dX1_put_5 rfl (lv_at hl 1 rfl) ?_
  refine nv_ki zC hX (nv_rS (n := 1) (As := [.int k]) (rest := []) zC hX (mm_isSheet (v := k)) nvGb0 (fun _ _ _ => trivial) q1287 q1288 q63 q1289 (by decide +kernel) rfl ⟨Nat.le_of_ble_eq_true rfl, Nat.le_of_ble_eq_true rfl⟩ hl.1 (Nat.le_of_ble_eq_true rfl) dX1_put_6 ⟨by first | exact Nat.le_of_ble_eq_true rfl | omega, by first | exact Nat.le_of_ble_eq_true rfl | omega⟩) (fun r u H locs hp hX => ?_)
  have hr_ : r = nB (inN k 0 3) := hp
  subst hr_
  have hX : nvS D a0 (mW dA a (nI 0) trace sorts shL cells words said kind longOf letters saidRow at_ rdW rKind rLong rLet looked lkL next heard far ways waysT free freeT rdgs rWord rMany rStands rRow ex) s.heap H locs := hX
  refine W.cs (cells' := 0) (slots' := 0) (Nat.add_zero _) (Nat.add_zero _) ?_
  refine nv_if_neB (tgt := 14) zx zb dX1_put_9 (by decide) (fun c9 => ?_) (fun c9 => ?_)
  · obtain ⟨sh, -, hsh, rfl⟩ := inN_t (by decide) (by decide) c9
    have esh : i2n (nI sh) = sh := nI_clamp (by omega)
    have hsl_ := hsl sh
    refine lv_aload_n zx zb dX1_put_14 rfl (lv_at hl 0 rfl) ?_
    refine nv_get zC hX in_X1 0 rfl rfl 2 (by decide) q1194 (fun _ h => h) rfl dX1_put_15 ?_
    refine lv_iload_n zx zb dX1_put_18 rfl (lv_at hl 1 rfl) ?_
    refine nv_iald (v := oI (sorts sh)) zC hX 1 rfl (by omega) (by decide) rfl dX1_put_19 ?_
    refine lv_bipush (v := (-9)) zx zb dX1_put_20 (by decide) ?_
    refine lv_icmp_ne (x := oI (sorts sh)) (y := (-9)) (tgt := 31) zx zb dX1_put_22 (by decide) (fun c22 => ?_) (fun c22 => ?_)
    · have c22 : sorts sh ≠ none := fun z => c22 ((oI_n (fun v h => Nat.lt_trans (hso _ v h) (by decide))).mpr z)
      refine lv_iload_n zx zb dX1_put_31 rfl (lv_at hl 2 rfl) ?_
      refine lv_iconst (v := nI 0) zx zb dX1_put_32 (by decide) ?_
      refine lv_aload_n zx zb dX1_put_33 rfl (lv_at hl 0 rfl) ?_
      refine nv_get zC hX in_X1 0 rfl rfl 3 (by decide) q1195 (fun _ h => h) rfl dX1_put_34 ?_
      refine lv_iload_n zx zb dX1_put_37 rfl (lv_at hl 1 rfl) ?_
      refine nv_iald (v := nI (shL sh)) zC hX 2 rfl (by omega) (by decide) rfl dX1_put_38 ?_
      refine lv_iconst (v := nI 1) zx zb dX1_put_39 (by decide) ?_
      refine lv_isub zx zb dX1_put_40 ?_
      refine nv_ki zC hX (nv_rS (n := 3) (As := [.int i, .int (nI 0), .int ((nI (shL sh)) - (nI 1))]) (rest := []) zC hX (mm_within (v := i) (lo := nI 0) (hi := (nI (shL sh)) - (nI 1))) nvGb0 (fun _ _ _ => trivial) q1290 q1291 q63 q1292 (by decide +kernel) rfl ⟨Nat.le_of_ble_eq_true rfl, Nat.le_of_ble_eq_true rfl⟩ hl.1 (Nat.le_of_ble_eq_true rfl) dX1_put_41 ⟨by first | exact Nat.le_of_ble_eq_true rfl | omega, by first | exact Nat.le_of_ble_eq_true rfl | omega⟩) (fun r u H locs hp hX => ?_)
      have hr_ : r = nB (decide (nI 0 ≤ i) && decide (i ≤ (nI (shL sh)) - (nI 1))) := hp
      subst hr_
      have hX : nvS D a0 (mW dA a (nI 0) trace sorts shL cells words said kind longOf letters saidRow at_ rdW rKind rLong rLet looked lkL next heard far ways waysT free freeT rdgs rWord rMany rStands rRow ex) s.heap H locs := hX
      refine W.cs (cells' := 0) (slots' := 0) (Nat.add_zero _) (Nat.add_zero _) ?_
      refine nv_if_neB (tgt := 53) zx zb dX1_put_44 (by decide) (fun c44 => ?_) (fun c44 => ?_)
      · rw [isW_m hsl_] at c44
        obtain ⟨ii, hi, rfl⟩ := isW_t (by omega) c44
        have ei : i2n (nI ii) = ii := nI_clamp (by omega)
        have hg : g_put sorts shL (nI sh) (nI ii) = 0 := by unfold g_put; rw [c9, if_pos rfl, esh, if_neg c22, if_pos c44]
        refine lv_aload_n zx zb dX1_put_53 rfl (lv_at hl 0 rfl) ?_
        refine nv_get zC hX in_X1 0 rfl rfl 4 (by decide) q1196 (fun _ h => h) rfl dX1_put_54 ?_
        refine lv_bipush (v := nI 60) zx zb dX1_put_57 (by decide) ?_
        refine lv_iload_n zx zb dX1_put_59 rfl (lv_at hl 1 rfl) ?_
        refine nv_imul zx zb dX1_put_60 ?_
        refine lv_iload_n zx zb dX1_put_61 rfl (lv_at hl 2 rfl) ?_
        refine nv_iadd zx zb dX1_put_62 ?_
        refine lv_aload_n zx zb dX1_put_63 rfl (lv_at hl 0 rfl) ?_
        refine nv_get zC hX in_X1 0 rfl rfl 2 (by decide) q1194 (fun _ h => h) rfl dX1_put_64 ?_
        refine lv_iload_n zx zb dX1_put_67 rfl (lv_at hl 1 rfl) ?_
        refine nv_iald (v := oI (sorts sh)) zC hX 1 rfl (by omega) (by decide) rfl dX1_put_68 ?_
        refine lv_if_ne (x := oI (sorts sh)) (tgt := 77) zx zb dX1_put_69 (by decide) (fun c69 => ?_) (fun c69 => ?_)
        · have s0 : sorts sh ≠ some 0 := fun z => c69 (by rw [z]; rfl)
          refine lv_aload_n zx zb dX1_put_77 rfl (lv_at hl 0 rfl) ?_
          refine nv_get zC hX in_X1 0 rfl rfl 2 (by decide) q1194 (fun _ h => h) rfl dX1_put_78 ?_
          refine lv_iload_n zx zb dX1_put_81 rfl (lv_at hl 1 rfl) ?_
          refine nv_iald (v := oI (sorts sh)) zC hX 1 rfl (by omega) (by decide) rfl dX1_put_82 ?_
          refine lv_iconst (v := nI 1) zx zb dX1_put_83 (by decide) ?_
          refine lv_icmp_ne (x := oI (sorts sh)) (y := nI 1) (tgt := 92) zx zb dX1_put_84 (by decide) (fun c84 => ?_) (fun c84 => ?_)
          · have s1 : sorts sh ≠ some 1 := fun z => c84 (by rw [z]; rfl)
            refine lv_iload_n zx zb dX1_put_92 rfl (lv_at hl 3 rfl) ?_
            refine nv_as (show v = nrV (sorts sh) v from (by unfold nrV; rw [if_neg s0, if_neg s1])) ?_
            refine nv_iast zC hX 3 rfl (by omega) (by decide) rfl (w' := mW dA a (nI 0) trace sorts shL (upd cells ((60 * sh) + ii) (nrV (sorts sh) v)) words said kind longOf letters saidRow at_ rdW rKind rLong rLet looked lkL next heard far ways waysT free freeT rdgs rWord rMany rStands rRow ex) rfl dX1_put_93 (fun H locs hX => ?_)
            refine lv_iconst (v := nI 1) zx zb dX1_put_94 (by decide) ?_
            rw [← zQ]
            exact nv_endi zC zr zk (nI 0, upd cells ((60 * sh) + ii) (nrV (sorts sh) v)) hX (by (try dsimp only); exact ⟨by unfold F_put; rw [c9, if_pos rfl, hg]; rfl, by rw [hg], by unfold G_put; rw [hg, if_pos ⟨c9, rfl⟩, esh, ei]⟩) (by omega) (by omega) dX1_put_95
          · have s1 : sorts sh = some 1 := (oI_s (fun v h => Nat.lt_trans (hso _ v h) (by decide)) (by decide)).mp c84
            refine lv_iload_n zx zb dX1_put_87 rfl (lv_at hl 3 rfl) ?_
            refine lv_i2s zx zb dX1_put_88 rfl ?_
            refine lv_goto (tgt := 93) zx zb dX1_put_89 (by decide) ?_
            refine nv_as (show v.toInt16.toInt32 = nrV (sorts sh) v from (by unfold nrV; rw [if_neg s0, if_pos s1])) ?_
            refine nv_iast zC hX 3 rfl (by omega) (by decide) rfl (w' := mW dA a (nI 0) trace sorts shL (upd cells ((60 * sh) + ii) (nrV (sorts sh) v)) words said kind longOf letters saidRow at_ rdW rKind rLong rLet looked lkL next heard far ways waysT free freeT rdgs rWord rMany rStands rRow ex) rfl dX1_put_93 (fun H locs hX => ?_)
            refine lv_iconst (v := nI 1) zx zb dX1_put_94 (by decide) ?_
            rw [← zQ]
            exact nv_endi zC zr zk (nI 0, upd cells ((60 * sh) + ii) (nrV (sorts sh) v)) hX (by (try dsimp only); exact ⟨by unfold F_put; rw [c9, if_pos rfl, hg]; rfl, by rw [hg], by unfold G_put; rw [hg, if_pos ⟨c9, rfl⟩, esh, ei]⟩) (by omega) (by omega) dX1_put_95
        · have s0 : sorts sh = some 0 := (oI_s (fun v h => Nat.lt_trans (hso _ v h) (by decide)) (by decide)).mp c69
          refine lv_iload_n zx zb dX1_put_72 rfl (lv_at hl 3 rfl) ?_
          refine lv_i2b zx zb dX1_put_73 rfl ?_
          refine lv_goto (tgt := 93) zx zb dX1_put_74 (by decide) ?_
          refine nv_as (show v.toInt8.toInt32 = nrV (sorts sh) v from (by unfold nrV; rw [if_pos s0])) ?_
          refine nv_iast zC hX 3 rfl (by omega) (by decide) rfl (w' := mW dA a (nI 0) trace sorts shL (upd cells ((60 * sh) + ii) (nrV (sorts sh) v)) words said kind longOf letters saidRow at_ rdW rKind rLong rLet looked lkL next heard far ways waysT free freeT rdgs rWord rMany rStands rRow ex) rfl dX1_put_93 (fun H locs hX => ?_)
          refine lv_iconst (v := nI 1) zx zb dX1_put_94 (by decide) ?_
          rw [← zQ]
          exact nv_endi zC zr zk (nI 0, upd cells ((60 * sh) + ii) (nrV (sorts sh) v)) hX (by (try dsimp only); exact ⟨by unfold F_put; rw [c9, if_pos rfl, hg]; rfl, by rw [hg], by unfold G_put; rw [hg, if_pos ⟨c9, rfl⟩, esh, ei]⟩) (by omega) (by omega) dX1_put_95
      · rw [isW_m hsl_] at c44
        have hg : g_put sorts shL (nI sh) i = 3 := by unfold g_put; rw [c9, if_pos rfl, esh, if_neg c22, if_neg (fun z => absurd (z.symm.trans c44) (by decide))]
        refine lv_aload_n zx zb dX1_put_47 rfl (lv_at hl 0 rfl) ?_
        refine lv_iconst (v := nI 3) zx zb dX1_put_48 (by decide) ?_
        refine nv_ki zC hX (nv_rV (n := 1) (As := [.int (nI 3)]) (rest := []) (q0 := 0) zC hX (mm_fails (k := 3)) nvGb0 (fun _ _ _ => trivial) rfl rfl q1300 q1302 qs30 q63 q1303 (by decide +kernel) rfl ⟨Nat.le_of_ble_eq_true rfl, Nat.le_of_ble_eq_true rfl⟩ hl.1 (Nat.le_of_ble_eq_true rfl) dX1_put_49 ⟨by first | exact Nat.le_of_ble_eq_true rfl | omega, by first | exact Nat.le_of_ble_eq_true rfl | omega⟩) (fun r u H locs hp hX => ?_)
        have hr_ : r = (-10) - nI 3 := hp
        subst hr_
        have hX : nvS D a0 (mW dA a (nI 3) trace sorts shL cells words said kind longOf letters saidRow at_ rdW rKind rLong rLet looked lkL next heard far ways waysT free freeT rdgs rWord rMany rStands rRow ex) s.heap H locs := hX
        refine W.cs (cells' := 0) (slots' := 0) (Nat.add_zero _) (Nat.add_zero _) ?_
        rw [← zQ]
        exact nv_endi zC zr zk (nI 3, cells) hX (by (try dsimp only); exact ⟨by unfold F_put; rw [c9, if_pos rfl, hg]; rfl, by rw [hg], by unfold G_put; rw [hg, if_neg (fun z => absurd z.2 (by decide))]⟩) (by omega) (by omega) dX1_put_52
    · have c22 : sorts sh = none := (oI_n (fun v h => Nat.lt_trans (hso _ v h) (by decide))).mp c22
      have hg : g_put sorts shL (nI sh) i = 1 := by unfold g_put; rw [c9, if_pos rfl, esh, if_pos c22]
      refine lv_aload_n zx zb dX1_put_25 rfl (lv_at hl 0 rfl) ?_
      refine lv_iconst (v := nI 1) zx zb dX1_put_26 (by decide) ?_
      refine nv_ki zC hX (nv_rV (n := 1) (As := [.int (nI 1)]) (rest := []) (q0 := 0) zC hX (mm_fails (k := 1)) nvGb0 (fun _ _ _ => trivial) rfl rfl q1300 q1302 qs30 q63 q1303 (by decide +kernel) rfl ⟨Nat.le_of_ble_eq_true rfl, Nat.le_of_ble_eq_true rfl⟩ hl.1 (Nat.le_of_ble_eq_true rfl) dX1_put_27 ⟨by first | exact Nat.le_of_ble_eq_true rfl | omega, by first | exact Nat.le_of_ble_eq_true rfl | omega⟩) (fun r u H locs hp hX => ?_)
      have hr_ : r = (-10) - nI 1 := hp
      subst hr_
      have hX : nvS D a0 (mW dA a (nI 1) trace sorts shL cells words said kind longOf letters saidRow at_ rdW rKind rLong rLet looked lkL next heard far ways waysT free freeT rdgs rWord rMany rStands rRow ex) s.heap H locs := hX
      refine W.cs (cells' := 0) (slots' := 0) (Nat.add_zero _) (Nat.add_zero _) ?_
      rw [← zQ]
      exact nv_endi zC zr zk (nI 1, cells) hX (by (try dsimp only); exact ⟨by unfold F_put; rw [c9, if_pos rfl, hg]; rfl, by rw [hg], by unfold G_put; rw [hg, if_neg (fun z => absurd z.2 (by decide))]⟩) (by omega) (by omega) dX1_put_30
  · refine lv_iconst (v := (-1)) zx zb dX1_put_12 (by decide) ?_
    rw [← zQ]
    exact nv_endi zC zr zk (nI 0, cells) hX (by (try dsimp only); exact ⟨by unfold F_put; rw [c9]; rfl, by unfold g_put; rw [c9]; rfl, by unfold G_put; rw [c9]; rfl⟩) (by omega) (by omega) dX1_put_13

set_option maxHeartbeats 4000000 in
theorem mm_cell  (k : Int32) (i : Int32) (sort : Int32) (hso : ∀ q v, sorts q = some v → v < 3) (hsl : ∀ q, shL q ≤ 60) : nMt l D dA a0 yX1_cell cX1_cell 4 (some .long) 3 54 0 0 nvG0 [.ref (a 0), .int k, .int i, .int sort] (mW dA a fault trace sorts shL cells words said kind longOf letters saidRow at_ rdW rKind rLong rLet looked lkL next heard far ways waysT free freeT rdgs rWord rMany rStands rRow ex) (nQl D a0 (fun (r : Int64) (fault' : Int32) => r = F_cell sorts shL cells k i sort ∧ fault' = nI (g_cell sorts shL k i sort)) (fun (fault' : Int32) => mW dA a fault' trace sorts shL cells words said kind longOf letters saidRow at_ rdW rKind rLong rLet looked lkL next heard far ways waysT free freeT rdgs rWord rMany rStands rRow ex)) := by
  refine nv_start (by decide) (Nat.le_of_ble_eq_true rfl) fun zp ze s zm zlo zme zcd ls zC zr zk znm hX zG hl => ?_
  have zx := zC.1
  have zb := zC.2.1
  generalize zargs : ([.ref (a 0), .int k, .int i, .int sort] : List Value).toArray = zar at zC ⊢
  generalize zQ : MQ zlo _ zar s _ _ _ = Q
  have hX : nvS D a0 (mW dA a fault trace sorts shL cells words said kind longOf letters saidRow at_ rdW rKind rLong rLet looked lkL next heard far ways waysT free freeT rdgs rWord rMany rStands rRow ex) s.heap s.heap [] := hX
  have hl : lv_has ls 4 [(0, .ref (a 0)), (1, .int k), (2, .int i), (3, .int sort)] := hl
  obtain ⟨H, zH⟩ : ∃ H, H = s.heap := ⟨_, rfl⟩
  have hX : nvS D a0 (mW dA a fault trace sorts shL cells words said kind longOf letters saidRow at_ rdW rKind rLong rLet looked lkL next heard far ways waysT free freeT rdgs rWord rMany rStands rRow ex) s.heap H [] := by rw [zH]; exact hX
  rw [show W zp l ze (rm_ 3 54 0 0) s zm zar zlo zme zcd s.heap [] 0 0 Q = W zp l ze (rm_ 3 54 0 0) s zm zar zlo zme zcd H [] 0 0 Q by rw [zH]]
  generalize ([] : List Loc) = locs at hX ⊢
  refine lv_aload_n zx zb dX1_cell_0 rfl (lv_at hl 0 rfl) ?_
  refine lv_iconst (v := nI 0) zx zb dX1_cell_1 (by decide) ?_
  refine nv_put zC hX in_X1 tyX1 tyX1_ok nmX1 0 rfl rfl 0 (by decide) q1192 (fun _ h => h) rfl rfl rfl (Nat.le_of_ble_eq_true rfl) (w' := mW dA a (nI 0) trace sorts shL cells words said kind longOf letters saidRow at_ rdW rKind rLong rLet looked lkL next heard far ways waysT free freeT rdgs rWord rMany rStands rRow ex) rfl dX1_cell_2 (fun H locs hX => ?_)
  refine lv_iload_n zx zb dX1_cell_5 rfl (lv_at hl 1 rfl) ?_
  refine nv_ki zC hX (nv_rS (n := 1) (As := [.int k]) (rest := []) zC hX (mm_isSheet (v := k)) nvGb0 (fun _ _ _ => trivial) q1287 q1288 q63 q1289 (by decide +kernel) rfl ⟨Nat.le_of_ble_eq_true rfl, Nat.le_of_ble_eq_true rfl⟩ hl.1 (Nat.le_of_ble_eq_true rfl) dX1_cell_6 ⟨by first | exact Nat.le_of_ble_eq_true rfl | omega, by first | exact Nat.le_of_ble_eq_true rfl | omega⟩) (fun r u H locs hp hX => ?_)
  have hr_ : r = nB (inN k 0 3) := hp
  subst hr_
  have hX : nvS D a0 (mW dA a (nI 0) trace sorts shL cells words said kind longOf letters saidRow at_ rdW rKind rLong rLet looked lkL next heard far ways waysT free freeT rdgs rWord rMany rStands rRow ex) s.heap H locs := hX
  refine W.cs (cells' := 0) (slots' := 0) (Nat.add_zero _) (Nat.add_zero _) ?_
  refine nv_if_eqB (tgt := 19) zx zb dX1_cell_9 (by decide) (fun c9 => ?_) (fun c9 => ?_)
  · refine lv_ldc2 (v := (-9223372036854775808)) zx zb zC.2.2.2.1 (zC.2.2.2.2.1 _ q1416) dX1_cell_19 ?_
    rw [← zQ]
    exact nv_endl zC zr zk (nI 0) hX (by exact ⟨by unfold F_cell; rw [if_neg (fun z => absurd (z.1.symm.trans c9) (by decide))], by unfold g_cell; rw [if_neg (fun z => absurd (z.1.symm.trans c9) (by decide))]⟩) (by omega) (by omega) dX1_cell_22
  · obtain ⟨sh, -, hsh, rfl⟩ := inN_t (by decide) (by decide) c9
    have esh : i2n (nI sh) = sh := nI_clamp (by omega)
    have hsl_ := hsl sh
    refine lv_iload_n zx zb dX1_cell_12 rfl (lv_at hl 3 rfl) ?_
    refine nv_ki zC hX (nv_rS (n := 1) (As := [.int sort]) (rest := []) zC hX (mm_isSort (v := sort)) nvGb0 (fun _ _ _ => trivial) q1293 q1294 q63 q1295 (by decide +kernel) rfl ⟨Nat.le_of_ble_eq_true rfl, Nat.le_of_ble_eq_true rfl⟩ hl.1 (Nat.le_of_ble_eq_true rfl) dX1_cell_13 ⟨by first | exact Nat.le_of_ble_eq_true rfl | omega, by first | exact Nat.le_of_ble_eq_true rfl | omega⟩) (fun r u H locs hp hX => ?_)
    have hr_ : r = nB (inN sort 0 2) := hp
    subst hr_
    have hX : nvS D a0 (mW dA a (nI 0) trace sorts shL cells words said kind longOf letters saidRow at_ rdW rKind rLong rLet looked lkL next heard far ways waysT free freeT rdgs rWord rMany rStands rRow ex) s.heap H locs := hX
    refine W.cs (cells' := 0) (slots' := 0) (Nat.add_zero _) (Nat.add_zero _) ?_
    refine nv_if_neB (tgt := 23) zx zb dX1_cell_16 (by decide) (fun c16 => ?_) (fun c16 => ?_)
    · refine lv_aload_n zx zb dX1_cell_23 rfl (lv_at hl 0 rfl) ?_
      refine nv_get zC hX in_X1 0 rfl rfl 2 (by decide) q1194 (fun _ h => h) rfl dX1_cell_24 ?_
      refine lv_iload_n zx zb dX1_cell_27 rfl (lv_at hl 1 rfl) ?_
      refine nv_iald (v := oI (sorts sh)) zC hX 1 rfl (by omega) (by decide) rfl dX1_cell_28 ?_
      refine lv_bipush (v := (-9)) zx zb dX1_cell_29 (by decide) ?_
      refine lv_icmp_eq (x := oI (sorts sh)) (y := (-9)) (tgt := 50) zx zb dX1_cell_31 (by decide) (fun c31 => ?_) (fun c31 => ?_)
      · have c31 : sorts sh = none := (oI_n (fun v h => Nat.lt_trans (hso _ v h) (by decide))).mp c31
        refine lv_aload_n zx zb dX1_cell_50 rfl (lv_at hl 0 rfl) ?_
        refine nv_get zC hX in_X1 0 rfl rfl 2 (by decide) q1194 (fun _ h => h) rfl dX1_cell_51 ?_
        refine lv_iload_n zx zb dX1_cell_54 rfl (lv_at hl 1 rfl) ?_
        refine nv_iald (v := oI (sorts sh)) zC hX 1 rfl (by omega) (by decide) rfl dX1_cell_55 ?_
        refine lv_bipush (v := (-9)) zx zb dX1_cell_56 (by decide) ?_
        refine lv_icmp_ne (x := oI (sorts sh)) (y := (-9)) (tgt := 67) zx zb dX1_cell_58 (by decide) (fun c58 => ?_) (fun c58 => ?_)
        · have c58 : sorts sh ≠ none := fun z => c58 ((oI_n (fun v h => Nat.lt_trans (hso _ v h) (by decide))).mpr z)
          refine lv_iload_n zx zb dX1_cell_67 rfl (lv_at hl 2 rfl) ?_
          refine lv_iconst (v := nI 0) zx zb dX1_cell_68 (by decide) ?_
          refine lv_aload_n zx zb dX1_cell_69 rfl (lv_at hl 0 rfl) ?_
          refine nv_get zC hX in_X1 0 rfl rfl 3 (by decide) q1195 (fun _ h => h) rfl dX1_cell_70 ?_
          refine lv_iload_n zx zb dX1_cell_73 rfl (lv_at hl 1 rfl) ?_
          refine nv_iald (v := nI (shL sh)) zC hX 2 rfl (by omega) (by decide) rfl dX1_cell_74 ?_
          refine lv_iconst (v := nI 1) zx zb dX1_cell_75 (by decide) ?_
          refine lv_isub zx zb dX1_cell_76 ?_
          refine nv_ki zC hX (nv_rS (n := 3) (As := [.int i, .int (nI 0), .int ((nI (shL sh)) - (nI 1))]) (rest := []) zC hX (mm_within (v := i) (lo := nI 0) (hi := (nI (shL sh)) - (nI 1))) nvGb0 (fun _ _ _ => trivial) q1290 q1291 q63 q1292 (by decide +kernel) rfl ⟨Nat.le_of_ble_eq_true rfl, Nat.le_of_ble_eq_true rfl⟩ hl.1 (Nat.le_of_ble_eq_true rfl) dX1_cell_77 ⟨by first | exact Nat.le_of_ble_eq_true rfl | omega, by first | exact Nat.le_of_ble_eq_true rfl | omega⟩) (fun r u H locs hp hX => ?_)
          have hr_ : r = nB (decide (nI 0 ≤ i) && decide (i ≤ (nI (shL sh)) - (nI 1))) := hp
          subst hr_
          have hX : nvS D a0 (mW dA a (nI 0) trace sorts shL cells words said kind longOf letters saidRow at_ rdW rKind rLong rLet looked lkL next heard far ways waysT free freeT rdgs rWord rMany rStands rRow ex) s.heap H locs := hX
          refine W.cs (cells' := 0) (slots' := 0) (Nat.add_zero _) (Nat.add_zero _) ?_
          refine nv_if_neB (tgt := 89) zx zb dX1_cell_80 (by decide) (fun c80 => ?_) (fun c80 => ?_)
          · rw [isW_m hsl_] at c80
            obtain ⟨ii, hi, rfl⟩ := isW_t (by omega) c80
            have ei : i2n (nI ii) = ii := nI_clamp (by omega)
            have hg : g_cell sorts shL (nI sh) (nI ii) sort = 0 := by unfold g_cell; rw [if_pos ⟨c9, c16⟩, esh, if_neg (fun z => z.1 c31), if_neg c58, if_pos c80]
            refine lv_aload_n zx zb dX1_cell_89 rfl (lv_at hl 0 rfl) ?_
            refine nv_get zC hX in_X1 0 rfl rfl 4 (by decide) q1196 (fun _ h => h) rfl dX1_cell_90 ?_
            refine lv_bipush (v := nI 60) zx zb dX1_cell_93 (by decide) ?_
            refine lv_iload_n zx zb dX1_cell_95 rfl (lv_at hl 1 rfl) ?_
            refine nv_imul zx zb dX1_cell_96 ?_
            refine lv_iload_n zx zb dX1_cell_97 rfl (lv_at hl 2 rfl) ?_
            refine nv_iadd zx zb dX1_cell_98 ?_
            refine nv_iald (v := cells ((60 * sh) + ii)) zC hX 3 rfl (by omega) (by decide) rfl dX1_cell_99 ?_
            refine lv_i2l zx zb dX1_cell_100 rfl ?_
            rw [← zQ]
            exact nv_endl zC zr zk (nI 0) hX (by exact ⟨by unfold F_cell; rw [if_pos ⟨c9, c16, hg⟩, esh, ei], by rw [hg]⟩) (by omega) (by omega) dX1_cell_101
          · rw [isW_m hsl_] at c80
            have hg : g_cell sorts shL (nI sh) i sort = 3 := by unfold g_cell; rw [if_pos ⟨c9, c16⟩, esh, if_neg (fun z => z.1 c31), if_neg c58, if_neg (fun z => absurd (z.symm.trans c80) (by decide))]
            refine lv_aload_n zx zb dX1_cell_83 rfl (lv_at hl 0 rfl) ?_
            refine lv_iconst (v := nI 3) zx zb dX1_cell_84 (by decide) ?_
            refine nv_kl zC hX (nv_rV (n := 1) (As := [.int (nI 3)]) (rest := []) (q0 := 0) zC hX (mm_lost (k := 3)) nvGb0 (fun _ _ _ => trivial) rfl rfl q1489 q1491 qs56 q63 q1492 (by decide +kernel) rfl ⟨Nat.le_of_ble_eq_true rfl, Nat.le_of_ble_eq_true rfl⟩ hl.1 (Nat.le_of_ble_eq_true rfl) dX1_cell_85 ⟨by first | exact Nat.le_of_ble_eq_true rfl | omega, by first | exact Nat.le_of_ble_eq_true rfl | omega⟩) (fun r u H locs hp hX => ?_)
            have hr_ : r = (-9223372036854775808) := hp
            subst hr_
            have hX : nvS D a0 (mW dA a (nI 3) trace sorts shL cells words said kind longOf letters saidRow at_ rdW rKind rLong rLet looked lkL next heard far ways waysT free freeT rdgs rWord rMany rStands rRow ex) s.heap H locs := hX
            refine W.cs (cells' := 0) (slots' := 0) (Nat.add_zero _) (Nat.add_zero _) ?_
            rw [← zQ]
            exact nv_endl zC zr zk (nI 3) hX (by exact ⟨by unfold F_cell; rw [if_neg (fun z => absurd (z.2.2.symm.trans hg) (by decide))], by rw [hg]⟩) (by omega) (by omega) dX1_cell_88
        · have c58 : sorts sh = none := (oI_n (fun v h => Nat.lt_trans (hso _ v h) (by decide))).mp c58
          have hg : g_cell sorts shL (nI sh) i sort = 1 := by unfold g_cell; rw [if_pos ⟨c9, c16⟩, esh, if_neg (fun z => z.1 c31), if_pos c58]
          refine lv_aload_n zx zb dX1_cell_61 rfl (lv_at hl 0 rfl) ?_
          refine lv_iconst (v := nI 1) zx zb dX1_cell_62 (by decide) ?_
          refine nv_kl zC hX (nv_rV (n := 1) (As := [.int (nI 1)]) (rest := []) (q0 := 0) zC hX (mm_lost (k := 1)) nvGb0 (fun _ _ _ => trivial) rfl rfl q1489 q1491 qs56 q63 q1492 (by decide +kernel) rfl ⟨Nat.le_of_ble_eq_true rfl, Nat.le_of_ble_eq_true rfl⟩ hl.1 (Nat.le_of_ble_eq_true rfl) dX1_cell_63 ⟨by first | exact Nat.le_of_ble_eq_true rfl | omega, by first | exact Nat.le_of_ble_eq_true rfl | omega⟩) (fun r u H locs hp hX => ?_)
          have hr_ : r = (-9223372036854775808) := hp
          subst hr_
          have hX : nvS D a0 (mW dA a (nI 1) trace sorts shL cells words said kind longOf letters saidRow at_ rdW rKind rLong rLet looked lkL next heard far ways waysT free freeT rdgs rWord rMany rStands rRow ex) s.heap H locs := hX
          refine W.cs (cells' := 0) (slots' := 0) (Nat.add_zero _) (Nat.add_zero _) ?_
          rw [← zQ]
          exact nv_endl zC zr zk (nI 1) hX (by exact ⟨by unfold F_cell; rw [if_neg (fun z => absurd (z.2.2.symm.trans hg) (by decide))], by rw [hg]⟩) (by omega) (by omega) dX1_cell_66
      · have c31 : sorts sh ≠ none := fun z => c31 ((oI_n (fun v h => Nat.lt_trans (hso _ v h) (by decide))).mpr z)
        refine lv_aload_n zx zb dX1_cell_34 rfl (lv_at hl 0 rfl) ?_
        refine nv_get zC hX in_X1 0 rfl rfl 2 (by decide) q1194 (fun _ h => h) rfl dX1_cell_35 ?_
        refine lv_iload_n zx zb dX1_cell_38 rfl (lv_at hl 1 rfl) ?_
        refine nv_iald (v := oI (sorts sh)) zC hX 1 rfl (by omega) (by decide) rfl dX1_cell_39 ?_
        refine lv_iload_n zx zb dX1_cell_40 rfl (lv_at hl 3 rfl) ?_
        refine lv_icmp_eq (x := oI (sorts sh)) (y := sort) (tgt := 50) zx zb dX1_cell_41 (by decide) (fun c41 => ?_) (fun c41 => ?_)
        · refine lv_aload_n zx zb dX1_cell_50 rfl (lv_at hl 0 rfl) ?_
          refine nv_get zC hX in_X1 0 rfl rfl 2 (by decide) q1194 (fun _ h => h) rfl dX1_cell_51 ?_
          refine lv_iload_n zx zb dX1_cell_54 rfl (lv_at hl 1 rfl) ?_
          refine nv_iald (v := oI (sorts sh)) zC hX 1 rfl (by omega) (by decide) rfl dX1_cell_55 ?_
          refine lv_bipush (v := (-9)) zx zb dX1_cell_56 (by decide) ?_
          refine lv_icmp_ne (x := oI (sorts sh)) (y := (-9)) (tgt := 67) zx zb dX1_cell_58 (by decide) (fun c58 => ?_) (fun c58 => ?_)
          · have c58 : sorts sh ≠ none := fun z => c58 ((oI_n (fun v h => Nat.lt_trans (hso _ v h) (by decide))).mpr z)
            refine lv_iload_n zx zb dX1_cell_67 rfl (lv_at hl 2 rfl) ?_
            refine lv_iconst (v := nI 0) zx zb dX1_cell_68 (by decide) ?_
            refine lv_aload_n zx zb dX1_cell_69 rfl (lv_at hl 0 rfl) ?_
            refine nv_get zC hX in_X1 0 rfl rfl 3 (by decide) q1195 (fun _ h => h) rfl dX1_cell_70 ?_
            refine lv_iload_n zx zb dX1_cell_73 rfl (lv_at hl 1 rfl) ?_
            refine nv_iald (v := nI (shL sh)) zC hX 2 rfl (by omega) (by decide) rfl dX1_cell_74 ?_
            refine lv_iconst (v := nI 1) zx zb dX1_cell_75 (by decide) ?_
            refine lv_isub zx zb dX1_cell_76 ?_
            refine nv_ki zC hX (nv_rS (n := 3) (As := [.int i, .int (nI 0), .int ((nI (shL sh)) - (nI 1))]) (rest := []) zC hX (mm_within (v := i) (lo := nI 0) (hi := (nI (shL sh)) - (nI 1))) nvGb0 (fun _ _ _ => trivial) q1290 q1291 q63 q1292 (by decide +kernel) rfl ⟨Nat.le_of_ble_eq_true rfl, Nat.le_of_ble_eq_true rfl⟩ hl.1 (Nat.le_of_ble_eq_true rfl) dX1_cell_77 ⟨by first | exact Nat.le_of_ble_eq_true rfl | omega, by first | exact Nat.le_of_ble_eq_true rfl | omega⟩) (fun r u H locs hp hX => ?_)
            have hr_ : r = nB (decide (nI 0 ≤ i) && decide (i ≤ (nI (shL sh)) - (nI 1))) := hp
            subst hr_
            have hX : nvS D a0 (mW dA a (nI 0) trace sorts shL cells words said kind longOf letters saidRow at_ rdW rKind rLong rLet looked lkL next heard far ways waysT free freeT rdgs rWord rMany rStands rRow ex) s.heap H locs := hX
            refine W.cs (cells' := 0) (slots' := 0) (Nat.add_zero _) (Nat.add_zero _) ?_
            refine nv_if_neB (tgt := 89) zx zb dX1_cell_80 (by decide) (fun c80 => ?_) (fun c80 => ?_)
            · rw [isW_m hsl_] at c80
              obtain ⟨ii, hi, rfl⟩ := isW_t (by omega) c80
              have ei : i2n (nI ii) = ii := nI_clamp (by omega)
              have hg : g_cell sorts shL (nI sh) (nI ii) sort = 0 := by unfold g_cell; rw [if_pos ⟨c9, c16⟩, esh, if_neg (fun z => z.2 c41), if_neg c58, if_pos c80]
              refine lv_aload_n zx zb dX1_cell_89 rfl (lv_at hl 0 rfl) ?_
              refine nv_get zC hX in_X1 0 rfl rfl 4 (by decide) q1196 (fun _ h => h) rfl dX1_cell_90 ?_
              refine lv_bipush (v := nI 60) zx zb dX1_cell_93 (by decide) ?_
              refine lv_iload_n zx zb dX1_cell_95 rfl (lv_at hl 1 rfl) ?_
              refine nv_imul zx zb dX1_cell_96 ?_
              refine lv_iload_n zx zb dX1_cell_97 rfl (lv_at hl 2 rfl) ?_
              refine nv_iadd zx zb dX1_cell_98 ?_
              refine nv_iald (v := cells ((60 * sh) + ii)) zC hX 3 rfl (by omega) (by decide) rfl dX1_cell_99 ?_
              refine lv_i2l zx zb dX1_cell_100 rfl ?_
              rw [← zQ]
              exact nv_endl zC zr zk (nI 0) hX (by exact ⟨by unfold F_cell; rw [if_pos ⟨c9, c16, hg⟩, esh, ei], by rw [hg]⟩) (by omega) (by omega) dX1_cell_101
            · rw [isW_m hsl_] at c80
              have hg : g_cell sorts shL (nI sh) i sort = 3 := by unfold g_cell; rw [if_pos ⟨c9, c16⟩, esh, if_neg (fun z => z.2 c41), if_neg c58, if_neg (fun z => absurd (z.symm.trans c80) (by decide))]
              refine lv_aload_n zx zb dX1_cell_83 rfl (lv_at hl 0 rfl) ?_
              refine lv_iconst (v := nI 3) zx zb dX1_cell_84 (by decide) ?_
              refine nv_kl zC hX (nv_rV (n := 1) (As := [.int (nI 3)]) (rest := []) (q0 := 0) zC hX (mm_lost (k := 3)) nvGb0 (fun _ _ _ => trivial) rfl rfl q1489 q1491 qs56 q63 q1492 (by decide +kernel) rfl ⟨Nat.le_of_ble_eq_true rfl, Nat.le_of_ble_eq_true rfl⟩ hl.1 (Nat.le_of_ble_eq_true rfl) dX1_cell_85 ⟨by first | exact Nat.le_of_ble_eq_true rfl | omega, by first | exact Nat.le_of_ble_eq_true rfl | omega⟩) (fun r u H locs hp hX => ?_)
              have hr_ : r = (-9223372036854775808) := hp
              subst hr_
              have hX : nvS D a0 (mW dA a (nI 3) trace sorts shL cells words said kind longOf letters saidRow at_ rdW rKind rLong rLet looked lkL next heard far ways waysT free freeT rdgs rWord rMany rStands rRow ex) s.heap H locs := hX
              refine W.cs (cells' := 0) (slots' := 0) (Nat.add_zero _) (Nat.add_zero _) ?_
              rw [← zQ]
              exact nv_endl zC zr zk (nI 3) hX (by exact ⟨by unfold F_cell; rw [if_neg (fun z => absurd (z.2.2.symm.trans hg) (by decide))], by rw [hg]⟩) (by omega) (by omega) dX1_cell_88
          · have c58 : sorts sh = none := (oI_n (fun v h => Nat.lt_trans (hso _ v h) (by decide))).mp c58
            have hg : g_cell sorts shL (nI sh) i sort = 1 := by unfold g_cell; rw [if_pos ⟨c9, c16⟩, esh, if_neg (fun z => z.2 c41), if_pos c58]
            refine lv_aload_n zx zb dX1_cell_61 rfl (lv_at hl 0 rfl) ?_
            refine lv_iconst (v := nI 1) zx zb dX1_cell_62 (by decide) ?_
            refine nv_kl zC hX (nv_rV (n := 1) (As := [.int (nI 1)]) (rest := []) (q0 := 0) zC hX (mm_lost (k := 1)) nvGb0 (fun _ _ _ => trivial) rfl rfl q1489 q1491 qs56 q63 q1492 (by decide +kernel) rfl ⟨Nat.le_of_ble_eq_true rfl, Nat.le_of_ble_eq_true rfl⟩ hl.1 (Nat.le_of_ble_eq_true rfl) dX1_cell_63 ⟨by first | exact Nat.le_of_ble_eq_true rfl | omega, by first | exact Nat.le_of_ble_eq_true rfl | omega⟩) (fun r u H locs hp hX => ?_)
            have hr_ : r = (-9223372036854775808) := hp
            subst hr_
            have hX : nvS D a0 (mW dA a (nI 1) trace sorts shL cells words said kind longOf letters saidRow at_ rdW rKind rLong rLet looked lkL next heard far ways waysT free freeT rdgs rWord rMany rStands rRow ex) s.heap H locs := hX
            refine W.cs (cells' := 0) (slots' := 0) (Nat.add_zero _) (Nat.add_zero _) ?_
            rw [← zQ]
            exact nv_endl zC zr zk (nI 1) hX (by exact ⟨by unfold F_cell; rw [if_neg (fun z => absurd (z.2.2.symm.trans hg) (by decide))], by rw [hg]⟩) (by omega) (by omega) dX1_cell_66
        · have hg : g_cell sorts shL (nI sh) i sort = 2 := by unfold g_cell; rw [if_pos ⟨c9, c16⟩, esh, if_pos ⟨c31, c41⟩]
          refine lv_aload_n zx zb dX1_cell_44 rfl (lv_at hl 0 rfl) ?_
          refine lv_iconst (v := nI 2) zx zb dX1_cell_45 (by decide) ?_
          refine nv_kl zC hX (nv_rV (n := 1) (As := [.int (nI 2)]) (rest := []) (q0 := 0) zC hX (mm_lost (k := 2)) nvGb0 (fun _ _ _ => trivial) rfl rfl q1489 q1491 qs56 q63 q1492 (by decide +kernel) rfl ⟨Nat.le_of_ble_eq_true rfl, Nat.le_of_ble_eq_true rfl⟩ hl.1 (Nat.le_of_ble_eq_true rfl) dX1_cell_46 ⟨by first | exact Nat.le_of_ble_eq_true rfl | omega, by first | exact Nat.le_of_ble_eq_true rfl | omega⟩) (fun r u H locs hp hX => ?_)
          have hr_ : r = (-9223372036854775808) := hp
          subst hr_
          have hX : nvS D a0 (mW dA a (nI 2) trace sorts shL cells words said kind longOf letters saidRow at_ rdW rKind rLong rLet looked lkL next heard far ways waysT free freeT rdgs rWord rMany rStands rRow ex) s.heap H locs := hX
          refine W.cs (cells' := 0) (slots' := 0) (Nat.add_zero _) (Nat.add_zero _) ?_
          rw [← zQ]
          exact nv_endl zC zr zk (nI 2) hX (by exact ⟨by unfold F_cell; rw [if_neg (fun z => absurd (z.2.2.symm.trans hg) (by decide))], by rw [hg]⟩) (by omega) (by omega) dX1_cell_49
    · refine lv_ldc2 (v := (-9223372036854775808)) zx zb zC.2.2.2.1 (zC.2.2.2.2.1 _ q1416) dX1_cell_19 ?_
      rw [← zQ]
      exact nv_endl zC zr zk (nI 0) hX (by exact ⟨by unfold F_cell; rw [if_neg (fun z => absurd (z.2.1.symm.trans c16) (by decide))], by unfold g_cell; rw [if_neg (fun z => absurd (z.2.symm.trans c16) (by decide))]⟩) (by omega) (by omega) dX1_cell_22

set_option maxHeartbeats 4000000 in
theorem mm_copy  (k : Int32) (i : Int32) (o : Int32) (j : Int32) (n : Int32) (hso : ∀ q v, sorts q = some v → v < 3) (hsl : ∀ q, shL q ≤ 60) : nMt l D dA a0 yX1_copy cX1_copy 10 (some .int) 3 54 0 0 nvG0 [.ref (a 0), .int k, .int i, .int o, .int j, .int n] (mW dA a fault trace sorts shL cells words said kind longOf letters saidRow at_ rdW rKind rLong rLet looked lkL next heard far ways waysT free freeT rdgs rWord rMany rStands rRow ex) (nQi D a0 (fun (r : Int32) (u : Int32 × (Nat → Int32)) => r = F_copy sorts shL k i o j n ∧ u.1 = nI (g_copy sorts shL k i o j n) ∧ u.2 = G_copy sorts shL cells k i o j n) (fun (u : Int32 × (Nat → Int32)) => mW dA a u.1 trace sorts shL u.2 words said kind longOf letters saidRow at_ rdW rKind rLong rLet looked lkL next heard far ways waysT free freeT rdgs rWord rMany rStands rRow ex)) := by
  refine nv_start (by decide) (Nat.le_of_ble_eq_true rfl) fun zp ze s zm zlo zme zcd ls zC zr zk znm hX zG hl => ?_
  have zx := zC.1
  have zb := zC.2.1
  generalize zargs : ([.ref (a 0), .int k, .int i, .int o, .int j, .int n] : List Value).toArray = zar at zC ⊢
  generalize zQ : MQ zlo _ zar s _ _ _ = Q
  have hX : nvS D a0 (mW dA a fault trace sorts shL cells words said kind longOf letters saidRow at_ rdW rKind rLong rLet looked lkL next heard far ways waysT free freeT rdgs rWord rMany rStands rRow ex) s.heap s.heap [] := hX
  have hl : lv_has ls 10 [(0, .ref (a 0)), (1, .int k), (2, .int i), (3, .int o), (4, .int j), (5, .int n)] := hl
  obtain ⟨H, zH⟩ : ∃ H, H = s.heap := ⟨_, rfl⟩
  have hX : nvS D a0 (mW dA a fault trace sorts shL cells words said kind longOf letters saidRow at_ rdW rKind rLong rLet looked lkL next heard far ways waysT free freeT rdgs rWord rMany rStands rRow ex) s.heap H [] := by rw [zH]; exact hX
  rw [show W zp l ze (rm_ 3 54 0 0) s zm zar zlo zme zcd s.heap [] 0 0 Q = W zp l ze (rm_ 3 54 0 0) s zm zar zlo zme zcd H [] 0 0 Q by rw [zH]]
  generalize ([] : List Loc) = locs at hX ⊢
  refine lv_aload_n zx zb dX1_copy_0 rfl (lv_at hl 0 rfl) ?_
  refine lv_iconst (v := nI 0) zx zb dX1_copy_1 (by decide) ?_
  refine nv_put zC hX in_X1 tyX1 tyX1_ok nmX1 0 rfl rfl 0 (by decide) q1192 (fun _ h => h) rfl rfl rfl (Nat.le_of_ble_eq_true rfl) (w' := mW dA a (nI 0) trace sorts shL cells words said kind longOf letters saidRow at_ rdW rKind rLong rLet looked lkL next heard far ways waysT free freeT rdgs rWord rMany rStands rRow ex) rfl dX1_copy_2 (fun H locs hX => ?_)
  refine lv_iload_n zx zb dX1_copy_5 rfl (lv_at hl 1 rfl) ?_
  refine nv_ki zC hX (nv_rS (n := 1) (As := [.int k]) (rest := []) zC hX (mm_isSheet (v := k)) nvGb0 (fun _ _ _ => trivial) q1287 q1288 q63 q1289 (by decide +kernel) rfl ⟨Nat.le_of_ble_eq_true rfl, Nat.le_of_ble_eq_true rfl⟩ hl.1 (Nat.le_of_ble_eq_true rfl) dX1_copy_6 ⟨by first | exact Nat.le_of_ble_eq_true rfl | omega, by first | exact Nat.le_of_ble_eq_true rfl | omega⟩) (fun r u H locs hp hX => ?_)
  have hr_ : r = nB (inN k 0 3) := hp
  subst hr_
  have hX : nvS D a0 (mW dA a (nI 0) trace sorts shL cells words said kind longOf letters saidRow at_ rdW rKind rLong rLet looked lkL next heard far ways waysT free freeT rdgs rWord rMany rStands rRow ex) s.heap H locs := hX
  refine W.cs (cells' := 0) (slots' := 0) (Nat.add_zero _) (Nat.add_zero _) ?_
  refine nv_if_eqB (tgt := 19) zx zb dX1_copy_9 (by decide) (fun c9 => ?_) (fun c9 => ?_)
  · refine lv_iconst (v := (-1)) zx zb dX1_copy_19 (by decide) ?_
    rw [← zQ]
    exact nv_endi zC zr zk (nI 0, cells) hX (by (try dsimp only); have h0 : okCp k o = false := (by unfold okCp; simp [c9]); exact ⟨by unfold F_copy; rw [h0]; rfl, by unfold g_copy; rw [h0]; rfl, by unfold G_copy; rw [h0]; rfl⟩) (by omega) (by omega) dX1_copy_20
  · obtain ⟨sk, -, hsk, rfl⟩ := inN_t (by decide) (by decide) c9
    have esk : i2n (nI sk) = sk := nI_clamp (by omega)
    have hslk := hsl sk
    refine lv_iload_n zx zb dX1_copy_12 rfl (lv_at hl 3 rfl) ?_
    refine nv_ki zC hX (nv_rS (n := 1) (As := [.int o]) (rest := []) zC hX (mm_isSheet (v := o)) nvGb0 (fun _ _ _ => trivial) q1287 q1288 q63 q1289 (by decide +kernel) rfl ⟨Nat.le_of_ble_eq_true rfl, Nat.le_of_ble_eq_true rfl⟩ hl.1 (Nat.le_of_ble_eq_true rfl) dX1_copy_13 ⟨by first | exact Nat.le_of_ble_eq_true rfl | omega, by first | exact Nat.le_of_ble_eq_true rfl | omega⟩) (fun r u H locs hp hX => ?_)
    have hr_ : r = nB (inN o 0 3) := hp
    subst hr_
    have hX : nvS D a0 (mW dA a (nI 0) trace sorts shL cells words said kind longOf letters saidRow at_ rdW rKind rLong rLet looked lkL next heard far ways waysT free freeT rdgs rWord rMany rStands rRow ex) s.heap H locs := hX
    refine W.cs (cells' := 0) (slots' := 0) (Nat.add_zero _) (Nat.add_zero _) ?_
    refine nv_if_neB (tgt := 21) zx zb dX1_copy_16 (by decide) (fun c16 => ?_) (fun c16 => ?_)
    · obtain ⟨so_, -, hso_, rfl⟩ := inN_t (by decide) (by decide) c16
      have eso : i2n (nI so_) = so_ := nI_clamp (by omega)
      have hslo := hsl so_
      have h0 : okCp (nI sk) (nI so_) = true := by unfold okCp; rw [c9, c16]; rfl
      refine lv_aload_n zx zb dX1_copy_21 rfl (lv_at hl 0 rfl) ?_
      refine nv_get zC hX in_X1 0 rfl rfl 2 (by decide) q1194 (fun _ h => h) rfl dX1_copy_22 ?_
      refine lv_iload_n zx zb dX1_copy_25 rfl (lv_at hl 1 rfl) ?_
      refine nv_iald (v := oI (sorts sk)) zC hX 1 rfl (by omega) (by decide) rfl dX1_copy_26 ?_
      refine lv_bipush (v := (-9)) zx zb dX1_copy_27 (by decide) ?_
      refine lv_icmp_eq (x := oI (sorts sk)) (y := (-9)) (tgt := 43) zx zb dX1_copy_29 (by decide) (fun c29 => ?_) (fun c29 => ?_)
      · have c29 : sorts sk = none := (oI_n (fun v h => Nat.lt_trans (hso _ v h) (by decide))).mp c29
        have hg : g_copy sorts shL (nI sk) i (nI so_) j n = 1 := by unfold g_copy; rw [h0, if_pos rfl, esk, eso, if_pos (Or.inl c29)]
        refine lv_aload_n zx zb dX1_copy_43 rfl (lv_at hl 0 rfl) ?_
        refine lv_iconst (v := nI 1) zx zb dX1_copy_44 (by decide) ?_
        refine nv_ki zC hX (nv_rV (n := 1) (As := [.int (nI 1)]) (rest := []) (q0 := 0) zC hX (mm_fails (k := 1)) nvGb0 (fun _ _ _ => trivial) rfl rfl q1300 q1302 qs30 q63 q1303 (by decide +kernel) rfl ⟨Nat.le_of_ble_eq_true rfl, Nat.le_of_ble_eq_true rfl⟩ hl.1 (Nat.le_of_ble_eq_true rfl) dX1_copy_45 ⟨by first | exact Nat.le_of_ble_eq_true rfl | omega, by first | exact Nat.le_of_ble_eq_true rfl | omega⟩) (fun r u H locs hp hX => ?_)
        have hr_ : r = (-10) - nI 1 := hp
        subst hr_
        have hX : nvS D a0 (mW dA a (nI 1) trace sorts shL cells words said kind longOf letters saidRow at_ rdW rKind rLong rLet looked lkL next heard far ways waysT free freeT rdgs rWord rMany rStands rRow ex) s.heap H locs := hX
        refine W.cs (cells' := 0) (slots' := 0) (Nat.add_zero _) (Nat.add_zero _) ?_
        rw [← zQ]
        exact nv_endi zC zr zk (nI 1, cells) hX (by (try dsimp only); exact ⟨by unfold F_copy; rw [h0, if_pos rfl, hg]; rfl, by rw [hg], by unfold G_copy; rw [if_neg (fun z => absurd (z.2.symm.trans hg) (by decide))]⟩) (by omega) (by omega) dX1_copy_48
      · have c29 : sorts sk ≠ none := fun z => c29 ((oI_n (fun v h => Nat.lt_trans (hso _ v h) (by decide))).mpr z)
        refine lv_aload_n zx zb dX1_copy_32 rfl (lv_at hl 0 rfl) ?_
        refine nv_get zC hX in_X1 0 rfl rfl 2 (by decide) q1194 (fun _ h => h) rfl dX1_copy_33 ?_
        refine lv_iload_n zx zb dX1_copy_36 rfl (lv_at hl 3 rfl) ?_
        refine nv_iald (v := oI (sorts so_)) zC hX 1 rfl (by omega) (by decide) rfl dX1_copy_37 ?_
        refine lv_bipush (v := (-9)) zx zb dX1_copy_38 (by decide) ?_
        refine lv_icmp_ne (x := oI (sorts so_)) (y := (-9)) (tgt := 49) zx zb dX1_copy_40 (by decide) (fun c40 => ?_) (fun c40 => ?_)
        · have c40 : sorts so_ ≠ none := fun z => c40 ((oI_n (fun v h => Nat.lt_trans (hso _ v h) (by decide))).mpr z)
          refine lv_aload_n zx zb dX1_copy_49 rfl (lv_at hl 0 rfl) ?_
          refine nv_get zC hX in_X1 0 rfl rfl 2 (by decide) q1194 (fun _ h => h) rfl dX1_copy_50 ?_
          refine lv_iload_n zx zb dX1_copy_53 rfl (lv_at hl 1 rfl) ?_
          refine nv_iald (v := oI (sorts sk)) zC hX 1 rfl (by omega) (by decide) rfl dX1_copy_54 ?_
          refine lv_aload_n zx zb dX1_copy_55 rfl (lv_at hl 0 rfl) ?_
          refine nv_get zC hX in_X1 0 rfl rfl 2 (by decide) q1194 (fun _ h => h) rfl dX1_copy_56 ?_
          refine lv_iload_n zx zb dX1_copy_59 rfl (lv_at hl 3 rfl) ?_
          refine nv_iald (v := oI (sorts so_)) zC hX 1 rfl (by omega) (by decide) rfl dX1_copy_60 ?_
          refine lv_icmp_eq (x := oI (sorts sk)) (y := oI (sorts so_)) (tgt := 70) zx zb dX1_copy_61 (by decide) (fun c61 => ?_) (fun c61 => ?_)
          · refine lv_iload_n zx zb dX1_copy_70 rfl (lv_at hl 2 rfl) ?_
            refine lv_if_lt (x := i) (tgt := 109) zx zb dX1_copy_71 (by decide) (fun c71 => ?_) (fun c71 => ?_)
            · refine lv_iconst (v := nI 0) zx zb dX1_copy_109 (by decide) ?_
              refine nv_as (show nI 0 = nB false from (nB_as0 rfl)) ?_
              refine lv_istore (lv' := [(6, .int (nB false)), (0, .ref (a 0)), (1, .int (nI sk)), (2, .int i), (3, .int (nI so_)), (4, .int j), (5, .int n)]) zx zb dX1_copy_110 hl (by decide) rfl (fun ls hl => ?_)
              refine lv_iload zx zb dX1_copy_112 (lv_at hl 0 rfl) ?_
              refine nv_if_eqB (tgt := 144) zx zb dX1_copy_114 (by decide) (fun c114 => ?_) (fun c114 => ?_)
              · have hg : g_copy sorts shL (nI sk) i (nI so_) j n = 3 := by unfold g_copy; rw [h0, if_pos rfl, esk, eso, if_neg (fun z => z.elim c29 c40), if_neg (fun z => z c61), if_pos (Or.inl c71)]
                refine lv_aload_n zx zb dX1_copy_144 rfl (lv_at hl 1 rfl) ?_
                refine lv_iconst (v := nI 3) zx zb dX1_copy_145 (by decide) ?_
                refine nv_ki zC hX (nv_rV (n := 1) (As := [.int (nI 3)]) (rest := []) (q0 := 0) zC hX (mm_fails (k := 3)) nvGb0 (fun _ _ _ => trivial) rfl rfl q1300 q1302 qs30 q63 q1303 (by decide +kernel) rfl ⟨Nat.le_of_ble_eq_true rfl, Nat.le_of_ble_eq_true rfl⟩ hl.1 (Nat.le_of_ble_eq_true rfl) dX1_copy_146 ⟨by first | exact Nat.le_of_ble_eq_true rfl | omega, by first | exact Nat.le_of_ble_eq_true rfl | omega⟩) (fun r u H locs hp hX => ?_)
                have hr_ : r = (-10) - nI 3 := hp
                subst hr_
                have hX : nvS D a0 (mW dA a (nI 3) trace sorts shL cells words said kind longOf letters saidRow at_ rdW rKind rLong rLet looked lkL next heard far ways waysT free freeT rdgs rWord rMany rStands rRow ex) s.heap H locs := hX
                refine W.cs (cells' := 0) (slots' := 0) (Nat.add_zero _) (Nat.add_zero _) ?_
                rw [← zQ]
                exact nv_endi zC zr zk (nI 3, cells) hX (by (try dsimp only); exact ⟨by unfold F_copy; rw [h0, if_pos rfl, hg]; rfl, by rw [hg], by unfold G_copy; rw [if_neg (fun z => absurd (z.2.symm.trans hg) (by decide))]⟩) (by omega) (by omega) dX1_copy_149
              · cases c114
            · refine lv_iload zx zb dX1_copy_74 (lv_at hl 4 rfl) ?_
              refine lv_if_lt (x := j) (tgt := 109) zx zb dX1_copy_76 (by decide) (fun c76 => ?_) (fun c76 => ?_)
              · refine lv_iconst (v := nI 0) zx zb dX1_copy_109 (by decide) ?_
                refine nv_as (show nI 0 = nB false from (nB_as0 rfl)) ?_
                refine lv_istore (lv' := [(6, .int (nB false)), (0, .ref (a 0)), (1, .int (nI sk)), (2, .int i), (3, .int (nI so_)), (4, .int j), (5, .int n)]) zx zb dX1_copy_110 hl (by decide) rfl (fun ls hl => ?_)
                refine lv_iload zx zb dX1_copy_112 (lv_at hl 0 rfl) ?_
                refine nv_if_eqB (tgt := 144) zx zb dX1_copy_114 (by decide) (fun c114 => ?_) (fun c114 => ?_)
                · have hg : g_copy sorts shL (nI sk) i (nI so_) j n = 3 := by unfold g_copy; rw [h0, if_pos rfl, esk, eso, if_neg (fun z => z.elim c29 c40), if_neg (fun z => z c61), if_pos (Or.inr (Or.inl c76))]
                  refine lv_aload_n zx zb dX1_copy_144 rfl (lv_at hl 1 rfl) ?_
                  refine lv_iconst (v := nI 3) zx zb dX1_copy_145 (by decide) ?_
                  refine nv_ki zC hX (nv_rV (n := 1) (As := [.int (nI 3)]) (rest := []) (q0 := 0) zC hX (mm_fails (k := 3)) nvGb0 (fun _ _ _ => trivial) rfl rfl q1300 q1302 qs30 q63 q1303 (by decide +kernel) rfl ⟨Nat.le_of_ble_eq_true rfl, Nat.le_of_ble_eq_true rfl⟩ hl.1 (Nat.le_of_ble_eq_true rfl) dX1_copy_146 ⟨by first | exact Nat.le_of_ble_eq_true rfl | omega, by first | exact Nat.le_of_ble_eq_true rfl | omega⟩) (fun r u H locs hp hX => ?_)
                  have hr_ : r = (-10) - nI 3 := hp
                  subst hr_
                  have hX : nvS D a0 (mW dA a (nI 3) trace sorts shL cells words said kind longOf letters saidRow at_ rdW rKind rLong rLet looked lkL next heard far ways waysT free freeT rdgs rWord rMany rStands rRow ex) s.heap H locs := hX
                  refine W.cs (cells' := 0) (slots' := 0) (Nat.add_zero _) (Nat.add_zero _) ?_
                  rw [← zQ]
                  exact nv_endi zC zr zk (nI 3, cells) hX (by (try dsimp only); exact ⟨by unfold F_copy; rw [h0, if_pos rfl, hg]; rfl, by rw [hg], by unfold G_copy; rw [if_neg (fun z => absurd (z.2.symm.trans hg) (by decide))]⟩) (by omega) (by omega) dX1_copy_149
                · cases c114
              · refine lv_iload zx zb dX1_copy_79 (lv_at hl 5 rfl) ?_
                refine lv_if_lt (x := n) (tgt := 109) zx zb dX1_copy_81 (by decide) (fun c81 => ?_) (fun c81 => ?_)
                · refine lv_iconst (v := nI 0) zx zb dX1_copy_109 (by decide) ?_
                  refine nv_as (show nI 0 = nB false from (nB_as0 rfl)) ?_
                  refine lv_istore (lv' := [(6, .int (nB false)), (0, .ref (a 0)), (1, .int (nI sk)), (2, .int i), (3, .int (nI so_)), (4, .int j), (5, .int n)]) zx zb dX1_copy_110 hl (by decide) rfl (fun ls hl => ?_)
                  refine lv_iload zx zb dX1_copy_112 (lv_at hl 0 rfl) ?_
                  refine nv_if_eqB (tgt := 144) zx zb dX1_copy_114 (by decide) (fun c114 => ?_) (fun c114 => ?_)
                  · have hg : g_copy sorts shL (nI sk) i (nI so_) j n = 3 := by unfold g_copy; rw [h0, if_pos rfl, esk, eso, if_neg (fun z => z.elim c29 c40), if_neg (fun z => z c61), if_pos (Or.inr (Or.inr (Or.inl c81)))]
                    refine lv_aload_n zx zb dX1_copy_144 rfl (lv_at hl 1 rfl) ?_
                    refine lv_iconst (v := nI 3) zx zb dX1_copy_145 (by decide) ?_
                    refine nv_ki zC hX (nv_rV (n := 1) (As := [.int (nI 3)]) (rest := []) (q0 := 0) zC hX (mm_fails (k := 3)) nvGb0 (fun _ _ _ => trivial) rfl rfl q1300 q1302 qs30 q63 q1303 (by decide +kernel) rfl ⟨Nat.le_of_ble_eq_true rfl, Nat.le_of_ble_eq_true rfl⟩ hl.1 (Nat.le_of_ble_eq_true rfl) dX1_copy_146 ⟨by first | exact Nat.le_of_ble_eq_true rfl | omega, by first | exact Nat.le_of_ble_eq_true rfl | omega⟩) (fun r u H locs hp hX => ?_)
                    have hr_ : r = (-10) - nI 3 := hp
                    subst hr_
                    have hX : nvS D a0 (mW dA a (nI 3) trace sorts shL cells words said kind longOf letters saidRow at_ rdW rKind rLong rLet looked lkL next heard far ways waysT free freeT rdgs rWord rMany rStands rRow ex) s.heap H locs := hX
                    refine W.cs (cells' := 0) (slots' := 0) (Nat.add_zero _) (Nat.add_zero _) ?_
                    rw [← zQ]
                    exact nv_endi zC zr zk (nI 3, cells) hX (by (try dsimp only); exact ⟨by unfold F_copy; rw [h0, if_pos rfl, hg]; rfl, by rw [hg], by unfold G_copy; rw [if_neg (fun z => absurd (z.2.symm.trans hg) (by decide))]⟩) (by omega) (by omega) dX1_copy_149
                  · cases c114
                · refine lv_iload_n zx zb dX1_copy_84 rfl (lv_at hl 2 rfl) ?_
                  refine lv_aload_n zx zb dX1_copy_85 rfl (lv_at hl 0 rfl) ?_
                  refine nv_get zC hX in_X1 0 rfl rfl 3 (by decide) q1195 (fun _ h => h) rfl dX1_copy_86 ?_
                  refine lv_iload_n zx zb dX1_copy_89 rfl (lv_at hl 1 rfl) ?_
                  refine nv_iald (v := nI (shL sk)) zC hX 2 rfl (by omega) (by decide) rfl dX1_copy_90 ?_
                  refine lv_icmp_gt (x := i) (y := nI (shL sk)) (tgt := 109) zx zb dX1_copy_91 (by decide) (fun c91 => ?_) (fun c91 => ?_)
                  · refine lv_iconst (v := nI 0) zx zb dX1_copy_109 (by decide) ?_
                    refine nv_as (show nI 0 = nB false from (nB_as0 rfl)) ?_
                    refine lv_istore (lv' := [(6, .int (nB false)), (0, .ref (a 0)), (1, .int (nI sk)), (2, .int i), (3, .int (nI so_)), (4, .int j), (5, .int n)]) zx zb dX1_copy_110 hl (by decide) rfl (fun ls hl => ?_)
                    refine lv_iload zx zb dX1_copy_112 (lv_at hl 0 rfl) ?_
                    refine nv_if_eqB (tgt := 144) zx zb dX1_copy_114 (by decide) (fun c114 => ?_) (fun c114 => ?_)
                    · have hg : g_copy sorts shL (nI sk) i (nI so_) j n = 3 := by unfold g_copy; rw [h0, if_pos rfl, esk, eso, if_neg (fun z => z.elim c29 c40), if_neg (fun z => z c61), if_pos (Or.inr (Or.inr (Or.inr (Or.inl c91))))]
                      refine lv_aload_n zx zb dX1_copy_144 rfl (lv_at hl 1 rfl) ?_
                      refine lv_iconst (v := nI 3) zx zb dX1_copy_145 (by decide) ?_
                      refine nv_ki zC hX (nv_rV (n := 1) (As := [.int (nI 3)]) (rest := []) (q0 := 0) zC hX (mm_fails (k := 3)) nvGb0 (fun _ _ _ => trivial) rfl rfl q1300 q1302 qs30 q63 q1303 (by decide +kernel) rfl ⟨Nat.le_of_ble_eq_true rfl, Nat.le_of_ble_eq_true rfl⟩ hl.1 (Nat.le_of_ble_eq_true rfl) dX1_copy_146 ⟨by first | exact Nat.le_of_ble_eq_true rfl | omega, by first | exact Nat.le_of_ble_eq_true rfl | omega⟩) (fun r u H locs hp hX => ?_)
                      have hr_ : r = (-10) - nI 3 := hp
                      subst hr_
                      have hX : nvS D a0 (mW dA a (nI 3) trace sorts shL cells words said kind longOf letters saidRow at_ rdW rKind rLong rLet looked lkL next heard far ways waysT free freeT rdgs rWord rMany rStands rRow ex) s.heap H locs := hX
                      refine W.cs (cells' := 0) (slots' := 0) (Nat.add_zero _) (Nat.add_zero _) ?_
                      rw [← zQ]
                      exact nv_endi zC zr zk (nI 3, cells) hX (by (try dsimp only); exact ⟨by unfold F_copy; rw [h0, if_pos rfl, hg]; rfl, by rw [hg], by unfold G_copy; rw [if_neg (fun z => absurd (z.2.symm.trans hg) (by decide))]⟩) (by omega) (by omega) dX1_copy_149
                    · cases c114
                  · refine lv_iload zx zb dX1_copy_94 (lv_at hl 4 rfl) ?_
                    refine lv_aload_n zx zb dX1_copy_96 rfl (lv_at hl 0 rfl) ?_
                    refine nv_get zC hX in_X1 0 rfl rfl 3 (by decide) q1195 (fun _ h => h) rfl dX1_copy_97 ?_
                    refine lv_iload_n zx zb dX1_copy_100 rfl (lv_at hl 3 rfl) ?_
                    refine nv_iald (v := nI (shL so_)) zC hX 2 rfl (by omega) (by decide) rfl dX1_copy_101 ?_
                    refine lv_icmp_gt (x := j) (y := nI (shL so_)) (tgt := 109) zx zb dX1_copy_102 (by decide) (fun c102 => ?_) (fun c102 => ?_)
                    · refine lv_iconst (v := nI 0) zx zb dX1_copy_109 (by decide) ?_
                      refine nv_as (show nI 0 = nB false from (nB_as0 rfl)) ?_
                      refine lv_istore (lv' := [(6, .int (nB false)), (0, .ref (a 0)), (1, .int (nI sk)), (2, .int i), (3, .int (nI so_)), (4, .int j), (5, .int n)]) zx zb dX1_copy_110 hl (by decide) rfl (fun ls hl => ?_)
                      refine lv_iload zx zb dX1_copy_112 (lv_at hl 0 rfl) ?_
                      refine nv_if_eqB (tgt := 144) zx zb dX1_copy_114 (by decide) (fun c114 => ?_) (fun c114 => ?_)
                      · have hg : g_copy sorts shL (nI sk) i (nI so_) j n = 3 := by unfold g_copy; rw [h0, if_pos rfl, esk, eso, if_neg (fun z => z.elim c29 c40), if_neg (fun z => z c61), if_pos (Or.inr (Or.inr (Or.inr (Or.inr (Or.inl c102)))))]
                        refine lv_aload_n zx zb dX1_copy_144 rfl (lv_at hl 1 rfl) ?_
                        refine lv_iconst (v := nI 3) zx zb dX1_copy_145 (by decide) ?_
                        refine nv_ki zC hX (nv_rV (n := 1) (As := [.int (nI 3)]) (rest := []) (q0 := 0) zC hX (mm_fails (k := 3)) nvGb0 (fun _ _ _ => trivial) rfl rfl q1300 q1302 qs30 q63 q1303 (by decide +kernel) rfl ⟨Nat.le_of_ble_eq_true rfl, Nat.le_of_ble_eq_true rfl⟩ hl.1 (Nat.le_of_ble_eq_true rfl) dX1_copy_146 ⟨by first | exact Nat.le_of_ble_eq_true rfl | omega, by first | exact Nat.le_of_ble_eq_true rfl | omega⟩) (fun r u H locs hp hX => ?_)
                        have hr_ : r = (-10) - nI 3 := hp
                        subst hr_
                        have hX : nvS D a0 (mW dA a (nI 3) trace sorts shL cells words said kind longOf letters saidRow at_ rdW rKind rLong rLet looked lkL next heard far ways waysT free freeT rdgs rWord rMany rStands rRow ex) s.heap H locs := hX
                        refine W.cs (cells' := 0) (slots' := 0) (Nat.add_zero _) (Nat.add_zero _) ?_
                        rw [← zQ]
                        exact nv_endi zC zr zk (nI 3, cells) hX (by (try dsimp only); exact ⟨by unfold F_copy; rw [h0, if_pos rfl, hg]; rfl, by rw [hg], by unfold G_copy; rw [if_neg (fun z => absurd (z.2.symm.trans hg) (by decide))]⟩) (by omega) (by omega) dX1_copy_149
                      · cases c114
                    · refine lv_iconst (v := nI 1) zx zb dX1_copy_105 (by decide) ?_
                      refine lv_goto (tgt := 110) zx zb dX1_copy_106 (by decide) ?_
                      refine nv_as (show nI 1 = nB true from (nB_as1 rfl)) ?_
                      refine lv_istore (lv' := [(6, .int (nB true)), (0, .ref (a 0)), (1, .int (nI sk)), (2, .int i), (3, .int (nI so_)), (4, .int j), (5, .int n)]) zx zb dX1_copy_110 hl (by decide) rfl (fun ls hl => ?_)
                      refine lv_iload zx zb dX1_copy_112 (lv_at hl 0 rfl) ?_
                      refine nv_if_eqB (tgt := 144) zx zb dX1_copy_114 (by decide) (fun c114 => ?_) (fun c114 => ?_)
                      · cases c114
                      · refine lv_iload zx zb dX1_copy_117 (lv_at hl 6 rfl) ?_
                        refine lv_aload_n zx zb dX1_copy_119 rfl (lv_at hl 1 rfl) ?_
                        refine nv_get zC hX in_X1 0 rfl rfl 3 (by decide) q1195 (fun _ h => h) rfl dX1_copy_120 ?_
                        refine lv_iload_n zx zb dX1_copy_123 rfl (lv_at hl 2 rfl) ?_
                        refine nv_iald (v := nI (shL sk)) zC hX 2 rfl (by omega) (by decide) rfl dX1_copy_124 ?_
                        refine lv_iload_n zx zb dX1_copy_125 rfl (lv_at hl 3 rfl) ?_
                        refine lv_isub zx zb dX1_copy_126 ?_
                        refine lv_icmp_gt (x := n) (y := (nI (shL sk)) - i) (tgt := 144) zx zb dX1_copy_127 (by decide) (fun c127 => ?_) (fun c127 => ?_)
                        · have hg : g_copy sorts shL (nI sk) i (nI so_) j n = 3 := by unfold g_copy; rw [h0, if_pos rfl, esk, eso, if_neg (fun z => z.elim c29 c40), if_neg (fun z => z c61), if_pos (Or.inr (Or.inr (Or.inr (Or.inr (Or.inr (Or.inl c127))))))]
                          refine lv_aload_n zx zb dX1_copy_144 rfl (lv_at hl 1 rfl) ?_
                          refine lv_iconst (v := nI 3) zx zb dX1_copy_145 (by decide) ?_
                          refine nv_ki zC hX (nv_rV (n := 1) (As := [.int (nI 3)]) (rest := []) (q0 := 0) zC hX (mm_fails (k := 3)) nvGb0 (fun _ _ _ => trivial) rfl rfl q1300 q1302 qs30 q63 q1303 (by decide +kernel) rfl ⟨Nat.le_of_ble_eq_true rfl, Nat.le_of_ble_eq_true rfl⟩ hl.1 (Nat.le_of_ble_eq_true rfl) dX1_copy_146 ⟨by first | exact Nat.le_of_ble_eq_true rfl | omega, by first | exact Nat.le_of_ble_eq_true rfl | omega⟩) (fun r u H locs hp hX => ?_)
                          have hr_ : r = (-10) - nI 3 := hp
                          subst hr_
                          have hX : nvS D a0 (mW dA a (nI 3) trace sorts shL cells words said kind longOf letters saidRow at_ rdW rKind rLong rLet looked lkL next heard far ways waysT free freeT rdgs rWord rMany rStands rRow ex) s.heap H locs := hX
                          refine W.cs (cells' := 0) (slots' := 0) (Nat.add_zero _) (Nat.add_zero _) ?_
                          rw [← zQ]
                          exact nv_endi zC zr zk (nI 3, cells) hX (by (try dsimp only); exact ⟨by unfold F_copy; rw [h0, if_pos rfl, hg]; rfl, by rw [hg], by unfold G_copy; rw [if_neg (fun z => absurd (z.2.symm.trans hg) (by decide))]⟩) (by omega) (by omega) dX1_copy_149
                        · refine lv_iload zx zb dX1_copy_130 (lv_at hl 6 rfl) ?_
                          refine lv_aload_n zx zb dX1_copy_132 rfl (lv_at hl 1 rfl) ?_
                          refine nv_get zC hX in_X1 0 rfl rfl 3 (by decide) q1195 (fun _ h => h) rfl dX1_copy_133 ?_
                          refine lv_iload_n zx zb dX1_copy_136 rfl (lv_at hl 4 rfl) ?_
                          refine nv_iald (v := nI (shL so_)) zC hX 2 rfl (by omega) (by decide) rfl dX1_copy_137 ?_
                          refine lv_iload zx zb dX1_copy_138 (lv_at hl 5 rfl) ?_
                          refine lv_isub zx zb dX1_copy_140 ?_
                          refine lv_icmp_le (x := n) (y := (nI (shL so_)) - j) (tgt := 150) zx zb dX1_copy_141 (by decide) (fun c141 => ?_) (fun c141 => ?_)
                          · have hg : g_copy sorts shL (nI sk) i (nI so_) j n = 0 := by unfold g_copy; rw [h0, if_pos rfl, esk, eso, if_neg (fun z => z.elim c29 c40), if_neg (fun z => z c61), if_neg (fun z => by rcases z with z | z | z | z | z | z | z; exact c71 z; exact c76 z; exact c81 z; exact c91 z; exact c102 z; exact c127 z; exact Int32.not_le.mpr z c141)]
                            obtain ⟨nn, hnn, rfl⟩ := nI_of c81
                            obtain ⟨ii, hii, rfl⟩ := nI_of c71
                            obtain ⟨jj, hjj, rfl⟩ := nI_of c76
                            have hi1 : ii ≤ shL sk := Nat.le_of_not_lt fun z => c91 (nI_lt z hii)
                            have hj1 : jj ≤ shL so_ := Nat.le_of_not_lt fun z => c102 (nI_lt z hjj)
                            have hn1 : nn ≤ shL sk - ii := Nat.le_of_not_lt fun z => c127 (by rw [pk_sub hi1]; exact nI_lt z hnn)
                            have hn2 : nn ≤ shL so_ - jj := Nat.le_of_not_lt fun z => absurd c141 (by rw [pk_sub hj1]; exact nI_ge z hnn)
                            have en : i2n (nI nn) = nn := nI_clamp hnn
                            have ei : i2n (nI ii) = ii := nI_clamp hii
                            have ej : i2n (nI jj) = jj := nI_clamp hjj
                            refine lv_iload_n zx zb dX1_copy_150 rfl (lv_at hl 3 rfl) ?_
                            refine lv_iload zx zb dX1_copy_151 (lv_at hl 5 rfl) ?_
                            refine nv_icmp_ge (tgt := 160) zx zb (by omega) (by omega) dX1_copy_153 (by decide) (fun c153 => ?_) (fun c153 => ?_)
                            · refine lv_iconst (v := nI 0) zx zb dX1_copy_160 (by decide) ?_
                              refine nv_as (show nI 0 = nB false from (nB_as0 rfl)) ?_
                              refine lv_istore (lv' := [(7, .int (nB false)), (6, .int (nB true)), (0, .ref (a 0)), (1, .int (nI sk)), (2, .int (nI ii)), (3, .int (nI so_)), (4, .int (nI jj)), (5, .int (nI nn))]) zx zb dX1_copy_161 hl (by decide) rfl (fun ls hl => ?_)
                              refine lv_iconst (v := nI 0) zx zb dX1_copy_163 (by decide) ?_
                              refine lv_istore (lv' := [(8, .int (nI 0)), (7, .int (nB false)), (6, .int (nB true)), (0, .ref (a 0)), (1, .int (nI sk)), (2, .int (nI ii)), (3, .int (nI so_)), (4, .int (nI jj)), (5, .int (nI nn))]) zx zb dX1_copy_164 hl (by decide) rfl (fun ls hl => ?_)
                              have L166 : ∀ (zn : Nat) (q : Nat) (hq : q ≤ nn), nn - q < zn → ∀ (H : Heap) (locs : List Loc) (ls : Array Slot), nvS D a0 (mW dA a (nI 0) trace sorts shL (cpC cells (60 * sk + ii) (60 * so_ + jj) q) words said kind longOf letters saidRow at_ rdW rKind rLong rLet looked lkL next heard far ways waysT free freeT rdgs rWord rMany rStands rRow ex) s.heap H locs → lv_has ls 10 [(8, .int (nI q)), (7, .int (nB false)), (6, .int (nB true)), (0, .ref (a 0)), (1, .int (nI sk)), (2, .int (nI ii)), (3, .int (nI so_)), (4, .int (nI jj)), (5, .int (nI nn))] → W zp l ze (rm_ 3 54 0 0) s zm zar zlo zme zcd H locs 0 0 Q (F0 zm 166 ls []) := by
                                intro zn
                                induction zn with
                                | zero => intro q hq zf; exact absurd zf (Nat.not_lt_zero _)
                                | succ zn ih166 =>
                                  intro q hq zf H locs ls hX hl
                                  refine lv_iload zx zb dX1_copy_166 (lv_at hl 0 rfl) ?_
                                  refine lv_iload zx zb dX1_copy_168 (lv_at hl 8 rfl) ?_
                                  refine nv_icmp_ge (tgt := 227) zx zb (by omega) (by omega) dX1_copy_170 (by decide) (fun c170 => ?_) (fun c170 => ?_)
                                  · refine lv_iload zx zb dX1_copy_227 (lv_at hl 8 rfl) ?_
                                    rw [← zQ]
                                    exact nv_endi zC zr zk (nI 0, cpC cells (60 * sk + ii) (60 * so_ + jj) q) hX (by (try dsimp only); exact ⟨by unfold F_copy; rw [h0, if_pos rfl, if_pos hg], by rw [hg], by unfold G_copy; rw [if_pos ⟨h0, hg⟩, esk, eso, ei, ej, en, show nn = q by omega]⟩) (by omega) (by omega) dX1_copy_229
                                  · refine lv_iload zx zb dX1_copy_173 (lv_at hl 1 rfl) ?_
                                    refine nv_if_eqB (tgt := 188) zx zb dX1_copy_175 (by decide) (fun c175 => ?_) (fun c175 => ?_)
                                    · refine lv_iload zx zb dX1_copy_188 (lv_at hl 0 rfl) ?_
                                      refine lv_istore (lv' := [(9, .int (nI q)), (8, .int (nI q)), (7, .int (nB false)), (6, .int (nB true)), (0, .ref (a 0)), (1, .int (nI sk)), (2, .int (nI ii)), (3, .int (nI so_)), (4, .int (nI jj)), (5, .int (nI nn))]) zx zb dX1_copy_190 hl (by decide) rfl (fun ls hl => ?_)
                                      refine lv_aload_n zx zb dX1_copy_192 rfl (lv_at hl 4 rfl) ?_
                                      refine nv_get zC hX in_X1 0 rfl rfl 4 (by decide) q1196 (fun _ h => h) rfl dX1_copy_193 ?_
                                      refine lv_bipush (v := nI 60) zx zb dX1_copy_196 (by decide) ?_
                                      refine lv_iload_n zx zb dX1_copy_198 rfl (lv_at hl 7 rfl) ?_
                                      refine nv_imul zx zb dX1_copy_199 ?_
                                      refine lv_iload zx zb dX1_copy_200 (lv_at hl 8 rfl) ?_
                                      refine nv_iadd zx zb dX1_copy_202 ?_
                                      refine lv_iload zx zb dX1_copy_203 (lv_at hl 0 rfl) ?_
                                      refine nv_iadd zx zb dX1_copy_205 ?_
                                      refine lv_aload_n zx zb dX1_copy_206 rfl (lv_at hl 4 rfl) ?_
                                      refine nv_get zC hX in_X1 0 rfl rfl 4 (by decide) q1196 (fun _ h => h) rfl dX1_copy_207 ?_
                                      refine lv_bipush (v := nI 60) zx zb dX1_copy_210 (by decide) ?_
                                      refine lv_iload_n zx zb dX1_copy_212 rfl (lv_at hl 5 rfl) ?_
                                      refine nv_imul zx zb dX1_copy_213 ?_
                                      refine lv_iload_n zx zb dX1_copy_214 rfl (lv_at hl 6 rfl) ?_
                                      refine nv_iadd zx zb dX1_copy_215 ?_
                                      refine lv_iload zx zb dX1_copy_216 (lv_at hl 0 rfl) ?_
                                      refine nv_iadd zx zb dX1_copy_218 ?_
                                      refine nv_iald (v := (cpC cells (60 * sk + ii) (60 * so_ + jj) q) (((60 * sk) + ii) + q)) zC hX 3 rfl (by omega) (by decide) rfl dX1_copy_219 ?_
                                      refine nv_iast zC hX 3 rfl (by omega) (by decide) rfl (w' := mW dA a (nI 0) trace sorts shL (upd (cpC cells (60 * sk + ii) (60 * so_ + jj) q) (((60 * so_) + jj) + q) ((cpC cells (60 * sk + ii) (60 * so_ + jj) q) (((60 * sk) + ii) + q))) words said kind longOf letters saidRow at_ rdW rKind rLong rLet looked lkL next heard far ways waysT free freeT rdgs rWord rMany rStands rRow ex) rfl dX1_copy_220 (fun H locs hX => ?_)
                                      have hX : nvS D a0 (mW dA a (nI 0) trace sorts shL (cpC cells (60 * sk + ii) (60 * so_ + jj) (q + 1)) words said kind longOf letters saidRow at_ rdW rKind rLong rLet looked lkL next heard far ways waysT free freeT rdgs rWord rMany rStands rRow ex) s.heap H locs := by (rw [← cpC_s (by omega)]; exact hX)
                                      refine lv_iinc (v := nI (q + 1)) (lv' := [(8, .int (nI (q + 1))), (9, .int (nI q)), (7, .int (nB false)), (6, .int (nB true)), (0, .ref (a 0)), (1, .int (nI sk)), (2, .int (nI ii)), (3, .int (nI so_)), (4, .int (nI jj)), (5, .int (nI nn))]) zx zb dX1_copy_221 hl (k := 1) rfl (nI_1 _) (by decide) rfl (fun ls hl => ?_)
                                      refine lv_goto (tgt := 166) zx zb dX1_copy_224 (by decide) ?_
                                      exact ih166 (q + 1) (by omega) (by omega) _ _ _ hX (lv_sub hl [0, 2, 3, 4, 5, 6, 7, 8, 9] rfl)
                                    · cases c175
                              rw [← cpC_0 cells (60 * sk + ii) (60 * so_ + jj)] at hX
                              exact L166 _ 0 (by omega) (Nat.lt_succ_self _) _ _ _ hX (lv_sub hl [0, 1, 2, 3, 4, 5, 6, 7, 8] rfl)
                            · refine lv_iconst (v := nI 1) zx zb dX1_copy_156 (by decide) ?_
                              refine lv_goto (tgt := 161) zx zb dX1_copy_157 (by decide) ?_
                              refine nv_as (show nI 1 = nB true from (nB_as1 rfl)) ?_
                              refine lv_istore (lv' := [(7, .int (nB true)), (6, .int (nB true)), (0, .ref (a 0)), (1, .int (nI sk)), (2, .int (nI ii)), (3, .int (nI so_)), (4, .int (nI jj)), (5, .int (nI nn))]) zx zb dX1_copy_161 hl (by decide) rfl (fun ls hl => ?_)
                              refine lv_iconst (v := nI 0) zx zb dX1_copy_163 (by decide) ?_
                              refine lv_istore (lv' := [(8, .int (nI 0)), (7, .int (nB true)), (6, .int (nB true)), (0, .ref (a 0)), (1, .int (nI sk)), (2, .int (nI ii)), (3, .int (nI so_)), (4, .int (nI jj)), (5, .int (nI nn))]) zx zb dX1_copy_164 hl (by decide) rfl (fun ls hl => ?_)
                              have L166 : ∀ (zn : Nat) (q : Nat) (hq : q ≤ nn), nn - q < zn → ∀ (H : Heap) (locs : List Loc) (ls : Array Slot), nvS D a0 (mW dA a (nI 0) trace sorts shL (cpB cells (60 * sk + ii) (60 * so_ + jj) nn q) words said kind longOf letters saidRow at_ rdW rKind rLong rLet looked lkL next heard far ways waysT free freeT rdgs rWord rMany rStands rRow ex) s.heap H locs → lv_has ls 10 [(8, .int (nI q)), (7, .int (nB true)), (6, .int (nB true)), (0, .ref (a 0)), (1, .int (nI sk)), (2, .int (nI ii)), (3, .int (nI so_)), (4, .int (nI jj)), (5, .int (nI nn))] → W zp l ze (rm_ 3 54 0 0) s zm zar zlo zme zcd H locs 0 0 Q (F0 zm 166 ls []) := by
                                intro zn
                                induction zn with
                                | zero => intro q hq zf; exact absurd zf (Nat.not_lt_zero _)
                                | succ zn ih166 =>
                                  intro q hq zf H locs ls hX hl
                                  refine lv_iload zx zb dX1_copy_166 (lv_at hl 0 rfl) ?_
                                  refine lv_iload zx zb dX1_copy_168 (lv_at hl 8 rfl) ?_
                                  refine nv_icmp_ge (tgt := 227) zx zb (by omega) (by omega) dX1_copy_170 (by decide) (fun c170 => ?_) (fun c170 => ?_)
                                  · refine lv_iload zx zb dX1_copy_227 (lv_at hl 8 rfl) ?_
                                    rw [← zQ]
                                    exact nv_endi zC zr zk (nI 0, cpB cells (60 * sk + ii) (60 * so_ + jj) nn q) hX (by (try dsimp only); exact ⟨by unfold F_copy; rw [h0, if_pos rfl, if_pos hg], by rw [hg], by unfold G_copy; rw [if_pos ⟨h0, hg⟩, esk, eso, ei, ej, en, show nn = q by omega, cpB_n]⟩) (by omega) (by omega) dX1_copy_229
                                  · refine lv_iload zx zb dX1_copy_173 (lv_at hl 1 rfl) ?_
                                    refine nv_if_eqB (tgt := 188) zx zb dX1_copy_175 (by decide) (fun c175 => ?_) (fun c175 => ?_)
                                    · cases c175
                                    · refine lv_iload zx zb dX1_copy_178 (lv_at hl 8 rfl) ?_
                                      refine lv_iconst (v := nI 1) zx zb dX1_copy_180 (by decide) ?_
                                      refine nv_isub zx zb (by omega) dX1_copy_181 ?_
                                      refine lv_iload zx zb dX1_copy_182 (lv_at hl 0 rfl) ?_
                                      refine nv_isub zx zb (by omega) dX1_copy_184 ?_
                                      refine lv_goto (tgt := 190) zx zb dX1_copy_185 (by decide) ?_
                                      refine lv_istore (lv' := [(9, .int (nI ((nn - 1) - q))), (8, .int (nI q)), (7, .int (nB true)), (6, .int (nB true)), (0, .ref (a 0)), (1, .int (nI sk)), (2, .int (nI ii)), (3, .int (nI so_)), (4, .int (nI jj)), (5, .int (nI nn))]) zx zb dX1_copy_190 hl (by decide) rfl (fun ls hl => ?_)
                                      refine lv_aload_n zx zb dX1_copy_192 rfl (lv_at hl 4 rfl) ?_
                                      refine nv_get zC hX in_X1 0 rfl rfl 4 (by decide) q1196 (fun _ h => h) rfl dX1_copy_193 ?_
                                      refine lv_bipush (v := nI 60) zx zb dX1_copy_196 (by decide) ?_
                                      refine lv_iload_n zx zb dX1_copy_198 rfl (lv_at hl 7 rfl) ?_
                                      refine nv_imul zx zb dX1_copy_199 ?_
                                      refine lv_iload zx zb dX1_copy_200 (lv_at hl 8 rfl) ?_
                                      refine nv_iadd zx zb dX1_copy_202 ?_
                                      refine lv_iload zx zb dX1_copy_203 (lv_at hl 0 rfl) ?_
                                      refine nv_iadd zx zb dX1_copy_205 ?_
                                      refine lv_aload_n zx zb dX1_copy_206 rfl (lv_at hl 4 rfl) ?_
                                      refine nv_get zC hX in_X1 0 rfl rfl 4 (by decide) q1196 (fun _ h => h) rfl dX1_copy_207 ?_
                                      refine lv_bipush (v := nI 60) zx zb dX1_copy_210 (by decide) ?_
                                      refine lv_iload_n zx zb dX1_copy_212 rfl (lv_at hl 5 rfl) ?_
                                      refine nv_imul zx zb dX1_copy_213 ?_
                                      refine lv_iload_n zx zb dX1_copy_214 rfl (lv_at hl 6 rfl) ?_
                                      refine nv_iadd zx zb dX1_copy_215 ?_
                                      refine lv_iload zx zb dX1_copy_216 (lv_at hl 0 rfl) ?_
                                      refine nv_iadd zx zb dX1_copy_218 ?_
                                      refine nv_iald (v := (cpB cells (60 * sk + ii) (60 * so_ + jj) nn q) (((60 * sk) + ii) + ((nn - 1) - q))) zC hX 3 rfl (by omega) (by decide) rfl dX1_copy_219 ?_
                                      refine nv_iast zC hX 3 rfl (by omega) (by decide) rfl (w' := mW dA a (nI 0) trace sorts shL (upd (cpB cells (60 * sk + ii) (60 * so_ + jj) nn q) (((60 * so_) + jj) + ((nn - 1) - q)) ((cpB cells (60 * sk + ii) (60 * so_ + jj) nn q) (((60 * sk) + ii) + ((nn - 1) - q)))) words said kind longOf letters saidRow at_ rdW rKind rLong rLet looked lkL next heard far ways waysT free freeT rdgs rWord rMany rStands rRow ex) rfl dX1_copy_220 (fun H locs hX => ?_)
                                      have hX : nvS D a0 (mW dA a (nI 0) trace sorts shL (cpB cells (60 * sk + ii) (60 * so_ + jj) nn (q + 1)) words said kind longOf letters saidRow at_ rdW rKind rLong rLet looked lkL next heard far ways waysT free freeT rdgs rWord rMany rStands rRow ex) s.heap H locs := by (rw [← cpB_s c170 (by omega)]; exact hX)
                                      refine lv_iinc (v := nI (q + 1)) (lv' := [(8, .int (nI (q + 1))), (9, .int (nI ((nn - 1) - q))), (7, .int (nB true)), (6, .int (nB true)), (0, .ref (a 0)), (1, .int (nI sk)), (2, .int (nI ii)), (3, .int (nI so_)), (4, .int (nI jj)), (5, .int (nI nn))]) zx zb dX1_copy_221 hl (k := 1) rfl (nI_1 _) (by decide) rfl (fun ls hl => ?_)
                                      refine lv_goto (tgt := 166) zx zb dX1_copy_224 (by decide) ?_
                                      exact ih166 (q + 1) (by omega) (by omega) _ _ _ hX (lv_sub hl [0, 2, 3, 4, 5, 6, 7, 8, 9] rfl)
                              rw [← cpB_0 cells (60 * sk + ii) (60 * so_ + jj) nn] at hX
                              exact L166 _ 0 (by omega) (Nat.lt_succ_self _) _ _ _ hX (lv_sub hl [0, 1, 2, 3, 4, 5, 6, 7, 8] rfl)
                          · have hg : g_copy sorts shL (nI sk) i (nI so_) j n = 3 := by unfold g_copy; rw [h0, if_pos rfl, esk, eso, if_neg (fun z => z.elim c29 c40), if_neg (fun z => z c61), if_pos (Or.inr (Or.inr (Or.inr (Or.inr (Or.inr (Or.inr ((Int32.not_le.mp c141))))))))]
                            refine lv_aload_n zx zb dX1_copy_144 rfl (lv_at hl 1 rfl) ?_
                            refine lv_iconst (v := nI 3) zx zb dX1_copy_145 (by decide) ?_
                            refine nv_ki zC hX (nv_rV (n := 1) (As := [.int (nI 3)]) (rest := []) (q0 := 0) zC hX (mm_fails (k := 3)) nvGb0 (fun _ _ _ => trivial) rfl rfl q1300 q1302 qs30 q63 q1303 (by decide +kernel) rfl ⟨Nat.le_of_ble_eq_true rfl, Nat.le_of_ble_eq_true rfl⟩ hl.1 (Nat.le_of_ble_eq_true rfl) dX1_copy_146 ⟨by first | exact Nat.le_of_ble_eq_true rfl | omega, by first | exact Nat.le_of_ble_eq_true rfl | omega⟩) (fun r u H locs hp hX => ?_)
                            have hr_ : r = (-10) - nI 3 := hp
                            subst hr_
                            have hX : nvS D a0 (mW dA a (nI 3) trace sorts shL cells words said kind longOf letters saidRow at_ rdW rKind rLong rLet looked lkL next heard far ways waysT free freeT rdgs rWord rMany rStands rRow ex) s.heap H locs := hX
                            refine W.cs (cells' := 0) (slots' := 0) (Nat.add_zero _) (Nat.add_zero _) ?_
                            rw [← zQ]
                            exact nv_endi zC zr zk (nI 3, cells) hX (by (try dsimp only); exact ⟨by unfold F_copy; rw [h0, if_pos rfl, hg]; rfl, by rw [hg], by unfold G_copy; rw [if_neg (fun z => absurd (z.2.symm.trans hg) (by decide))]⟩) (by omega) (by omega) dX1_copy_149
          · have hg : g_copy sorts shL (nI sk) i (nI so_) j n = 2 := by unfold g_copy; rw [h0, if_pos rfl, esk, eso, if_neg (fun z => z.elim c29 c40), if_pos c61]
            refine lv_aload_n zx zb dX1_copy_64 rfl (lv_at hl 0 rfl) ?_
            refine lv_iconst (v := nI 2) zx zb dX1_copy_65 (by decide) ?_
            refine nv_ki zC hX (nv_rV (n := 1) (As := [.int (nI 2)]) (rest := []) (q0 := 0) zC hX (mm_fails (k := 2)) nvGb0 (fun _ _ _ => trivial) rfl rfl q1300 q1302 qs30 q63 q1303 (by decide +kernel) rfl ⟨Nat.le_of_ble_eq_true rfl, Nat.le_of_ble_eq_true rfl⟩ hl.1 (Nat.le_of_ble_eq_true rfl) dX1_copy_66 ⟨by first | exact Nat.le_of_ble_eq_true rfl | omega, by first | exact Nat.le_of_ble_eq_true rfl | omega⟩) (fun r u H locs hp hX => ?_)
            have hr_ : r = (-10) - nI 2 := hp
            subst hr_
            have hX : nvS D a0 (mW dA a (nI 2) trace sorts shL cells words said kind longOf letters saidRow at_ rdW rKind rLong rLet looked lkL next heard far ways waysT free freeT rdgs rWord rMany rStands rRow ex) s.heap H locs := hX
            refine W.cs (cells' := 0) (slots' := 0) (Nat.add_zero _) (Nat.add_zero _) ?_
            rw [← zQ]
            exact nv_endi zC zr zk (nI 2, cells) hX (by (try dsimp only); exact ⟨by unfold F_copy; rw [h0, if_pos rfl, hg]; rfl, by rw [hg], by unfold G_copy; rw [if_neg (fun z => absurd (z.2.symm.trans hg) (by decide))]⟩) (by omega) (by omega) dX1_copy_69
        · have c40 : sorts so_ = none := (oI_n (fun v h => Nat.lt_trans (hso _ v h) (by decide))).mp c40
          have hg : g_copy sorts shL (nI sk) i (nI so_) j n = 1 := by unfold g_copy; rw [h0, if_pos rfl, esk, eso, if_pos (Or.inr c40)]
          refine lv_aload_n zx zb dX1_copy_43 rfl (lv_at hl 0 rfl) ?_
          refine lv_iconst (v := nI 1) zx zb dX1_copy_44 (by decide) ?_
          refine nv_ki zC hX (nv_rV (n := 1) (As := [.int (nI 1)]) (rest := []) (q0 := 0) zC hX (mm_fails (k := 1)) nvGb0 (fun _ _ _ => trivial) rfl rfl q1300 q1302 qs30 q63 q1303 (by decide +kernel) rfl ⟨Nat.le_of_ble_eq_true rfl, Nat.le_of_ble_eq_true rfl⟩ hl.1 (Nat.le_of_ble_eq_true rfl) dX1_copy_45 ⟨by first | exact Nat.le_of_ble_eq_true rfl | omega, by first | exact Nat.le_of_ble_eq_true rfl | omega⟩) (fun r u H locs hp hX => ?_)
          have hr_ : r = (-10) - nI 1 := hp
          subst hr_
          have hX : nvS D a0 (mW dA a (nI 1) trace sorts shL cells words said kind longOf letters saidRow at_ rdW rKind rLong rLet looked lkL next heard far ways waysT free freeT rdgs rWord rMany rStands rRow ex) s.heap H locs := hX
          refine W.cs (cells' := 0) (slots' := 0) (Nat.add_zero _) (Nat.add_zero _) ?_
          rw [← zQ]
          exact nv_endi zC zr zk (nI 1, cells) hX (by (try dsimp only); exact ⟨by unfold F_copy; rw [h0, if_pos rfl, hg]; rfl, by rw [hg], by unfold G_copy; rw [if_neg (fun z => absurd (z.2.symm.trans hg) (by decide))]⟩) (by omega) (by omega) dX1_copy_48
    · refine lv_iconst (v := (-1)) zx zb dX1_copy_19 (by decide) ?_
      rw [← zQ]
      exact nv_endi zC zr zk (nI 0, cells) hX (by (try dsimp only); have h0 : okCp (nI sk) o = false := (by unfold okCp; simp [c9, c16]); exact ⟨by unfold F_copy; rw [h0]; rfl, by unfold g_copy; rw [h0]; rfl, by unfold G_copy; rw [h0]; rfl⟩) (by omega) (by omega) dX1_copy_20
end
