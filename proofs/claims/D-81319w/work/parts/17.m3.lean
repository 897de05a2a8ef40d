/-! THE MODEL: contracts, printed by tools/model.py -/
set_option maxRecDepth 100000
section
variable {l : Launch} {D : va_G} {dA : Nat → ClassId} {a0 : Nat} {a : Nat → Nat} {ex : va_W} {fault : Int32} {trace : Int32} {sorts : Nat → Option Nat} {shL : Nat → Nat} {cells : Nat → Int32} {words : Nat} {said : Nat} {kind : Nat → Nat} {longOf : Nat → Nat} {letters : Nat → Nat} {saidRow : Nat → Nat} {at_ : Nat} {rdW : Nat} {rKind : Nat → Option Nat} {rLong : Nat → Nat} {rLet : Nat → Nat} {looked : Nat → Nat} {lkL : Nat} {next : Nat → Nat} {heard : Nat → Nat} {far : Nat → Option Nat} {ways : Nat → Nat} {waysT : Nat → Nat} {free : Nat → Nat} {freeT : Nat → Nat} {rdgs : Nat} {rWord : Nat → Nat} {rMany : Nat → Nat} {rStands : Nat → Nat} {rRow : Nat → Nat}
set_option maxHeartbeats 4000000 in
theorem mm_longest   (hok : mOK words kind longOf letters) (hlk : ∀ j, looked j < 3) : nMt l D dA a0 yX1_longest cX1_longest 2 (some .int) 5 109 0 0 nvG0 [.ref (a 0)] (mW dA a fault trace sorts shL cells words said kind longOf letters saidRow at_ rdW rKind rLong rLet looked lkL next heard far ways waysT free freeT rdgs rWord rMany rStands rRow ex) (nQi D a0 (fun (r : Int32) (u : (Nat → Nat) × (Nat → Nat) × (Nat → Nat) × (Nat → Nat) × (Nat → Nat)) => r = F_longest kind longOf letters words ∧ (∀ j, u.2.2.1 j < 3)) (fun (u : (Nat → Nat) × (Nat → Nat) × (Nat → Nat) × (Nat → Nat) × (Nat → Nat)) => mW dA a fault trace sorts shL cells words said kind longOf letters saidRow at_ rdW rKind rLong rLet u.2.2.1 lkL u.1 u.2.1 far ways waysT u.2.2.2.1 u.2.2.2.2 rdgs rWord rMany rStands rRow ex)) := by
  refine nv_start (by decide) (Nat.le_of_ble_eq_true rfl) fun zp ze s zm zlo zme zcd ls zC zr zk znm hX zG hl => ?_
  have zx := zC.1
  have zb := zC.2.1
  generalize zargs : ([.ref (a 0)] : List Value).toArray = zar at zC ⊢
  generalize zQ : MQ zlo _ zar s _ _ _ = Q
  have hX : nvS D a0 (mW dA a fault trace sorts shL cells words said kind longOf letters saidRow at_ rdW rKind rLong rLet looked lkL next heard far ways waysT free freeT rdgs rWord rMany rStands rRow ex) s.heap s.heap [] := hX
  have hl : lv_has ls 2 [(0, .ref (a 0))] := hl
  obtain ⟨H, zH⟩ : ∃ H, H = s.heap := ⟨_, rfl⟩
  have hX : nvS D a0 (mW dA a fault trace sorts shL cells words said kind longOf letters saidRow at_ rdW rKind rLong rLet looked lkL next heard far ways waysT free freeT rdgs rWord rMany rStands rRow ex) s.heap H [] := by rw [zH]; exact hX
  rw [show W zp l ze (rm_ 5 109 0 0) s zm zar zlo zme zcd s.heap [] 0 0 Q = W zp l ze (rm_ 5 109 0 0) s zm zar zlo zme zcd H [] 0 0 Q by rw [zH]]
  generalize ([] : List Loc) = locs at hX ⊢
  have hw4 := hok.1
  have hlt := hok.2.2.2
  refine lv_aload_n zx zb dX1_longest_0 rfl (lv_at hl 0 rfl) ?_
  refine nv_get zC hX in_X1 0 rfl rfl 5 (by decide) q1197 (fun _ h => h) rfl dX1_longest_1 ?_
  refine nv_if_ne (tgt := 10) zx zb (by omega) dX1_longest_4 (by decide) (fun c4 => ?_) (fun c4 => ?_)
  · refine lv_aload_n zx zb dX1_longest_10 rfl (lv_at hl 0 rfl) ?_
    refine nv_kv zC hX (nv_rV (n := 0) (As := []) (rest := []) (q0 := 0) zC hX (mm_findNext (hok := (by first | assumption | omega)) (hlk := (by first | assumption | omega))) nvGb0 (fun _ _ _ => trivial) rfl rfl q1396 q1398 qs47 q63 q1399 (by decide +kernel) rfl ⟨Nat.le_of_ble_eq_true rfl, Nat.le_of_ble_eq_true rfl⟩ hl.1 (Nat.le_of_ble_eq_true rfl) dX1_longest_11 ⟨by first | exact Nat.le_of_ble_eq_true rfl | omega, by first | exact Nat.le_of_ble_eq_true rfl | omega⟩) (fun u H locs hp hX => ?_)
    obtain ⟨next'_1, heard'_1, looked'_1⟩ := u
    have h11 : nxOK next'_1 heard'_1 kind longOf letters words ∧ (∀ j, looked'_1 j < 3) := hp
    have hX : nvS D a0 (mW dA a fault trace sorts shL cells words said kind longOf letters saidRow at_ rdW rKind rLong rLet looked'_1 lkL next'_1 heard'_1 far ways waysT free freeT rdgs rWord rMany rStands rRow ex) s.heap H locs := hX
    refine W.cs (cells' := 0) (slots' := 0) (Nat.add_zero _) (Nat.add_zero _) ?_
    obtain ⟨hnx, hlk2⟩ := h11
    refine lv_iconst (v := nI 0) zx zb dX1_longest_14 (by decide) ?_
    refine lv_istore_n (lv' := [(1, .int (nI 0)), (0, .ref (a 0))]) zx zb dX1_longest_15 rfl hl (by decide) rfl (fun ls hl => ?_)
    have L16 : ∀ (zn : Nat) (fr : Nat → Nat) (k : Nat) (hk : k ≤ 40) (h1 : ∀ j, j < k → fr j = (frN kind longOf letters words 0 j).toNat), 40 - k < zn → ∀ (H : Heap) (locs : List Loc) (ls : Array Slot), nvS D a0 (mW dA a fault trace sorts shL cells words said kind longOf letters saidRow at_ rdW rKind rLong rLet looked'_1 lkL next'_1 heard'_1 far ways waysT fr freeT rdgs rWord rMany rStands rRow ex) s.heap H locs → lv_has ls 2 [(1, .int (nI k)), (0, .ref (a 0))] → W zp l ze (rm_ 5 109 0 0) s zm zar zlo zme zcd H locs 0 0 Q (F0 zm 16 ls []) := by
      intro zn
      induction zn with
      | zero => intro fr k hk h1 zf; exact absurd zf (Nat.not_lt_zero _)
      | succ zn ih16 =>
        intro fr k hk h1 zf H locs ls hX hl
        refine lv_iload_n zx zb dX1_longest_16 rfl (lv_at hl 0 rfl) ?_
        refine lv_bipush (v := nI 40) zx zb dX1_longest_17 (by decide) ?_
        refine nv_icmp_ge (tgt := 43) zx zb (by omega) (by omega) dX1_longest_19 (by decide) (fun c19 => ?_) (fun c19 => ?_)
        · refine lv_iconst (v := nI 0) zx zb dX1_longest_43 (by decide) ?_
          refine lv_istore_n (lv' := [(1, .int (nI 0)), (0, .ref (a 0))]) zx zb dX1_longest_44 rfl hl (by decide) rfl (fun ls hl => ?_)
          have L45 : ∀ (zn : Nat) (fr ft : Nat → Nat) (n : Nat) (hn : n ≤ 41) (h2 : ∀ j, j < 40 → fr j = (frN kind longOf letters words n j).toNat) (hno : fstUp (fun n => !anyUp (gfP kind longOf letters words (frN kind longOf letters words n)) 120) n = none), 41 - n < zn → ∀ (H : Heap) (locs : List Loc) (ls : Array Slot), nvS D a0 (mW dA a fault trace sorts shL cells words said kind longOf letters saidRow at_ rdW rKind rLong rLet looked'_1 lkL next'_1 heard'_1 far ways waysT fr ft rdgs rWord rMany rStands rRow ex) s.heap H locs → lv_has ls 2 [(1, .int (nI n)), (0, .ref (a 0))] → W zp l ze (rm_ 5 109 0 0) s zm zar zlo zme zcd H locs 0 0 Q (F0 zm 45 ls []) := by
            intro zn
            induction zn with
            | zero => intro fr ft n hn h2 hno zf; exact absurd zf (Nat.not_lt_zero _)
            | succ zn ih45 =>
              intro fr ft n hn h2 hno zf H locs ls hX hl
              refine lv_iload_n zx zb dX1_longest_45 rfl (lv_at hl 0 rfl) ?_
              refine lv_bipush (v := nI 40) zx zb dX1_longest_46 (by decide) ?_
              refine nv_icmp_gt (tgt := 66) zx zb (by omega) (by omega) dX1_longest_48 (by decide) (fun c48 => ?_) (fun c48 => ?_)
              · refine lv_bipush (v := (-9)) zx zb dX1_longest_66 (by decide) ?_
                rw [← zQ]
                exact nv_endi zC zr zk (next'_1, heard'_1, looked'_1, fr, ft) hX (by (try dsimp only); exact ⟨by unfold F_longest; rw [if_neg (by omega), show (41 : Nat) = n by omega, hno], hlk2⟩) (by omega) (by omega) dX1_longest_68
              · refine lv_aload_n zx zb dX1_longest_51 rfl (lv_at hl 1 rfl) ?_
                refine nv_ki zC hX (nv_rV (n := 0) (As := []) (rest := []) (q0 := 0) zC hX (mm_goesFree (F := (frN kind longOf letters words n)) (hok := (by first | assumption | omega)) (hnx := (by first | assumption | omega)) (hF := (by first | assumption | omega))) nvGb0 (fun _ _ _ => trivial) rfl rfl q1433 q1435 qs53 q63 q1436 (by decide +kernel) rfl ⟨Nat.le_of_ble_eq_true rfl, Nat.le_of_ble_eq_true rfl⟩ hl.1 (Nat.le_of_ble_eq_true rfl) dX1_longest_52 ⟨by first | exact Nat.le_of_ble_eq_true rfl | omega, by first | exact Nat.le_of_ble_eq_true rfl | omega⟩) (fun r u H locs hp hX => ?_)
                obtain ⟨free'_2, freeT'_2⟩ := u
                obtain ⟨hr_, h52⟩ : r = nB (anyUp (gfP kind longOf letters words (frN kind longOf letters words n)) 120) ∧ (∀ j, j < 40 → free'_2 j = (gfS kind longOf letters words (frN kind longOf letters words n) j).toNat) := hp
                subst hr_
                have hX : nvS D a0 (mW dA a fault trace sorts shL cells words said kind longOf letters saidRow at_ rdW rKind rLong rLet looked'_1 lkL next'_1 heard'_1 far ways waysT free'_2 freeT'_2 rdgs rWord rMany rStands rRow ex) s.heap H locs := hX
                refine W.cs (cells' := 0) (slots' := 0) (Nat.add_zero _) (Nat.add_zero _) ?_
                refine nv_if_neB (tgt := 60) zx zb dX1_longest_55 (by decide) (fun c55 => ?_) (fun c55 => ?_)
                · refine lv_iinc (v := nI (n + 1)) (lv' := [(1, .int (nI (n + 1))), (0, .ref (a 0))]) zx zb dX1_longest_60 hl (k := 0) rfl (nI_1 _) (by decide) rfl (fun ls hl => ?_)
                  refine lv_goto (tgt := 45) zx zb dX1_longest_63 (by decide) ?_
                  exact ih45 free'_2 freeT'_2 (n + 1) (by omega) h52 (fstUp_n hno (by simp [c55])) (by omega) _ _ _ hX (lv_sub hl [0, 1] rfl)
                · refine lv_iload_n zx zb dX1_longest_58 rfl (lv_at hl 0 rfl) ?_
                  rw [← zQ]
                  exact nv_endi zC zr zk (next'_1, heard'_1, looked'_1, free'_2, freeT'_2) hX (by (try dsimp only); exact ⟨by unfold F_longest; rw [if_neg (by omega), fstUp_m (fstUp_t hno (by simp [c55])) (show n + 1 ≤ 41 by omega)]; rfl, hlk2⟩) (by omega) (by omega) dX1_longest_59
          exact L45 _ fr freeT 0 (by omega) (fun j hj => h1 j (by omega)) rfl (Nat.lt_succ_self _) _ _ _ hX (lv_sub hl [0, 1] rfl)
        · refine lv_aload_n zx zb dX1_longest_22 rfl (lv_at hl 1 rfl) ?_
          refine nv_get zC hX in_X1 0 rfl rfl 23 (by decide) q1215 (fun _ h => h) rfl dX1_longest_23 ?_
          refine lv_iload_n zx zb dX1_longest_26 rfl (lv_at hl 0 rfl) ?_
          refine lv_iload_n zx zb dX1_longest_27 rfl (lv_at hl 0 rfl) ?_
          refine nv_if_ne (tgt := 35) zx zb (by omega) dX1_longest_28 (by decide) (fun c28 => ?_) (fun c28 => ?_)
          · refine lv_iconst (v := nI 0) zx zb dX1_longest_35 (by decide) ?_
            refine nv_iast zC hX 17 rfl (by omega) (by decide) (nF_up _ _ _) (w' := mW dA a fault trace sorts shL cells words said kind longOf letters saidRow at_ rdW rKind rLong rLet looked'_1 lkL next'_1 heard'_1 far ways waysT (va_up fr k 0) freeT rdgs rWord rMany rStands rRow ex) rfl dX1_longest_36 (fun H locs hX => ?_)
            refine lv_iinc (v := nI (k + 1)) (lv' := [(1, .int (nI (k + 1))), (0, .ref (a 0))]) zx zb dX1_longest_37 hl (k := 0) rfl (nI_1 _) (by decide) rfl (fun ls hl => ?_)
            refine lv_goto (tgt := 16) zx zb dX1_longest_40 (by decide) ?_
            exact ih16 (va_up fr k 0) (k + 1) (by omega) (up_preG h1 (by simp [frN, show k ≠ 0 by omega])) (by omega) _ _ _ hX (lv_sub hl [0, 1] rfl)
          · refine lv_iconst (v := nI 1) zx zb dX1_longest_31 (by decide) ?_
            refine lv_goto (tgt := 36) zx zb dX1_longest_32 (by decide) ?_
            refine nv_iast zC hX 17 rfl (by omega) (by decide) (nF_up _ _ _) (w' := mW dA a fault trace sorts shL cells words said kind longOf letters saidRow at_ rdW rKind rLong rLet looked'_1 lkL next'_1 heard'_1 far ways waysT (va_up fr k 1) freeT rdgs rWord rMany rStands rRow ex) rfl dX1_longest_36 (fun H locs hX => ?_)
            refine lv_iinc (v := nI (k + 1)) (lv' := [(1, .int (nI (k + 1))), (0, .ref (a 0))]) zx zb dX1_longest_37 hl (k := 0) rfl (nI_1 _) (by decide) rfl (fun ls hl => ?_)
            refine lv_goto (tgt := 16) zx zb dX1_longest_40 (by decide) ?_
            exact ih16 (va_up fr k 1) (k + 1) (by omega) (up_preG h1 (by simp [frN, c28])) (by omega) _ _ _ hX (lv_sub hl [0, 1] rfl)
    exact L16 _ free 0 (by omega) lt_0 (Nat.lt_succ_self _) _ _ _ hX (lv_sub hl [0, 1] rfl)
  · refine lv_bipush (v := (-3)) zx zb dX1_longest_7 (by decide) ?_
    rw [← zQ]
    exact nv_endi zC zr zk (next, heard, looked, free, freeT) hX (by (try dsimp only); exact ⟨by unfold F_longest; rw [if_pos c4], hlk⟩) (by omega) (by omega) dX1_longest_9

set_option maxHeartbeats 4000000 in
theorem mm_isIn  (w : Nat) (o : Nat) (hok : mOK words kind longOf letters) (hlk : ∀ j, looked j < 3) (hw : w < 4) (ho : o < 4) : nMt l D dA a0 yX1_isIn cX1_isIn 5 (some .boolean) 4 85 0 0 nvG0 [.ref (a 0), .int (nI w), .int (nI o)] (mW dA a fault trace sorts shL cells words said kind longOf letters saidRow at_ rdW rKind rLong rLet looked lkL next heard far ways waysT free freeT rdgs rWord rMany rStands rRow ex) (nQi D a0 (fun (r : Int32) (u : (Nat → Nat) × Nat) => r = nB (isInB kind longOf letters w o 0 && isInB kind longOf letters w o 1) ∧ (∀ j, u.1 j < 3)) (fun (u : (Nat → Nat) × Nat) => mW dA a fault trace sorts shL cells words said kind longOf letters saidRow at_ rdW rKind rLong rLet u.1 u.2 next heard far ways waysT free freeT rdgs rWord rMany rStands rRow ex)) := by
  refine nv_start (by decide) (Nat.le_of_ble_eq_true rfl) fun zp ze s zm zlo zme zcd ls zC zr zk znm hX zG hl => ?_
  have zx := zC.1
  have zb := zC.2.1
  generalize zargs : ([.ref (a 0), .int (nI w), .int (nI o)] : List Value).toArray = zar at zC ⊢
  generalize zQ : MQ zlo _ zar s _ _ _ = Q
  have hX : nvS D a0 (mW dA a fault trace sorts shL cells words said kind longOf letters saidRow at_ rdW rKind rLong rLet looked lkL next heard far ways waysT free freeT rdgs rWord rMany rStands rRow ex) s.heap s.heap [] := hX
  have hl : lv_has ls 5 [(0, .ref (a 0)), (1, .int (nI w)), (2, .int (nI o))] := hl
  obtain ⟨H, zH⟩ : ∃ H, H = s.heap := ⟨_, rfl⟩
  have hX : nvS D a0 (mW dA a fault trace sorts shL cells words said kind longOf letters saidRow at_ rdW rKind rLong rLet looked lkL next heard far ways waysT free freeT rdgs rWord rMany rStands rRow ex) s.heap H [] := by rw [zH]; exact hX
  rw [show W zp l ze (rm_ 4 85 0 0) s zm zar zlo zme zcd s.heap [] 0 0 Q = W zp l ze (rm_ 4 85 0 0) s zm zar zlo zme zcd H [] 0 0 Q by rw [zH]]
  generalize ([] : List Loc) = locs at hX ⊢
  have hw4 := hok.1
  have hlt := hok.2.2.2
  have hkd_o := hok.2.1 o
  have hln_o := hok.2.2.1 o
  refine lv_iconst (v := nI 0) zx zb dX1_isIn_0 (by decide) ?_
  refine lv_istore_n (lv' := [(3, .int (nI 0)), (0, .ref (a 0)), (1, .int (nI w)), (2, .int (nI o))]) zx zb dX1_isIn_1 rfl hl (by decide) rfl (fun ls hl => ?_)
  have L2 : ∀ (zn : Nat) (lk : Nat → Nat) (lL f : Nat) (hf : f ≤ 2) (h1 : ∀ g, g < f → isInB kind longOf letters w o g = true) (h3 : ∀ j, lk j < 3), 2 - f < zn → ∀ (H : Heap) (locs : List Loc) (ls : Array Slot), nvS D a0 (mW dA a fault trace sorts shL cells words said kind longOf letters saidRow at_ rdW rKind rLong rLet lk lL next heard far ways waysT free freeT rdgs rWord rMany rStands rRow ex) s.heap H locs → lv_has ls 5 [(3, .int (nI f)), (0, .ref (a 0)), (1, .int (nI w)), (2, .int (nI o))] → W zp l ze (rm_ 4 85 0 0) s zm zar zlo zme zcd H locs 0 0 Q (F0 zm 2 ls []) := by
    intro zn
    induction zn with
    | zero => intro lk lL f hf h1 h3 zf; exact absurd zf (Nat.not_lt_zero _)
    | succ zn ih2 =>
      intro lk lL f hf h1 h3 zf H locs ls hX hl
      refine lv_iload_n zx zb dX1_isIn_2 rfl (lv_at hl 0 rfl) ?_
      refine lv_iconst (v := nI 2) zx zb dX1_isIn_3 (by decide) ?_
      refine nv_icmp_ge (tgt := 66) zx zb (by omega) (by omega) dX1_isIn_4 (by decide) (fun c4 => ?_) (fun c4 => ?_)
      · refine lv_iconst (v := nI 1) zx zb dX1_isIn_66 (by decide) ?_
        rw [← zQ]
        refine nv_as (y := nB true) rfl ?_
        exact nv_endz zC zr zk (lk, lL) hX (by (try dsimp only); exact ⟨nB_e1 (by rw [h1 0 (by omega), h1 1 (by omega)]; rfl), h3⟩) (by omega) (by omega) dX1_isIn_67
      · refine lv_aload_n zx zb dX1_isIn_7 rfl (lv_at hl 1 rfl) ?_
        refine lv_aload_n zx zb dX1_isIn_8 rfl (lv_at hl 1 rfl) ?_
        refine nv_get zC hX in_X1 0 rfl rfl 8 (by decide) q1200 (fun _ h => h) rfl dX1_isIn_9 ?_
        refine lv_iload_n zx zb dX1_isIn_12 rfl (lv_at hl 3 rfl) ?_
        refine nv_iald (v := nI (longOf o)) zC hX 5 rfl (by omega) (by decide) rfl dX1_isIn_13 ?_
        refine nv_put zC hX in_X1 tyX1 tyX1_ok nmX1 0 rfl rfl 17 (by decide) q1209 (fun _ h => h) rfl rfl rfl (Nat.le_of_ble_eq_true rfl) (w' := mW dA a fault trace sorts shL cells words said kind longOf letters saidRow at_ rdW rKind rLong rLet lk (longOf o) next heard far ways waysT free freeT rdgs rWord rMany rStands rRow ex) rfl dX1_isIn_14 (fun H locs hX => ?_)
        refine lv_iconst (v := nI 0) zx zb dX1_isIn_17 (by decide) ?_
        refine lv_istore (lv' := [(4, .int (nI 0)), (3, .int (nI f)), (0, .ref (a 0)), (1, .int (nI w)), (2, .int (nI o))]) zx zb dX1_isIn_18 hl (by decide) rfl (fun ls hl => ?_)
        have L20 : ∀ (zn : Nat) (lk2 : Nat → Nat) (k : Nat) (hk : k ≤ longOf o) (h4 : ∀ j, j < k → lk2 j = hdF (kind o) (longOf o) (fun k => letters (4 * o + k)) f j) (h5 : ∀ j, lk2 j < 3), longOf o - k < zn → ∀ (H : Heap) (locs : List Loc) (ls : Array Slot), nvS D a0 (mW dA a fault trace sorts shL cells words said kind longOf letters saidRow at_ rdW rKind rLong rLet lk2 (longOf o) next heard far ways waysT free freeT rdgs rWord rMany rStands rRow ex) s.heap H locs → lv_has ls 5 [(4, .int (nI k)), (3, .int (nI f)), (0, .ref (a 0)), (1, .int (nI w)), (2, .int (nI o))] → W zp l ze (rm_ 4 85 0 0) s zm zar zlo zme zcd H locs 0 0 Q (F0 zm 20 ls []) := by
          intro zn
          induction zn with
          | zero => intro lk2 k hk h4 h5 zf; exact absurd zf (Nat.not_lt_zero _)
          | succ zn ih20 =>
            intro lk2 k hk h4 h5 zf H locs ls hX hl
            refine lv_iload zx zb dX1_isIn_20 (lv_at hl 0 rfl) ?_
            refine lv_aload_n zx zb dX1_isIn_22 rfl (lv_at hl 2 rfl) ?_
            refine nv_get zC hX in_X1 0 rfl rfl 17 (by decide) q1209 (fun _ h => h) rfl dX1_isIn_23 ?_
            refine nv_icmp_ge (tgt := 50) zx zb (by omega) (by omega) dX1_isIn_26 (by decide) (fun c26 => ?_) (fun c26 => ?_)
            · refine lv_aload_n zx zb dX1_isIn_50 rfl (lv_at hl 2 rfl) ?_
              refine lv_iload_n zx zb dX1_isIn_51 rfl (lv_at hl 3 rfl) ?_
              refine nv_ki zC hX (nv_rV (n := 1) (As := [.int (nI w)]) (rest := []) (q0 := 0) zC hX (mm_timesHeard (w := w) (hok := (by first | assumption | omega)) (hlk := (by first | assumption | omega)) (hw := (by first | assumption | omega)) (hll := (by first | assumption | omega))) nvGb0 (fun _ _ _ => trivial) rfl rfl q1336 q1338 qs38 q63 q1339 (by decide +kernel) rfl ⟨Nat.le_of_ble_eq_true rfl, Nat.le_of_ble_eq_true rfl⟩ hl.1 (Nat.le_of_ble_eq_true rfl) dX1_isIn_52 ⟨by first | exact Nat.le_of_ble_eq_true rfl | omega, by first | exact Nat.le_of_ble_eq_true rfl | omega⟩) (fun r u H locs hp hX => ?_)
              have hr_ : r = nI (tmW kind longOf letters lk2 (longOf o) w) := hp
              subst hr_
              have hX : nvS D a0 (mW dA a fault trace sorts shL cells words said kind longOf letters saidRow at_ rdW rKind rLong rLet lk2 (longOf o) next heard far ways waysT free freeT rdgs rWord rMany rStands rRow ex) s.heap H locs := hX
              refine W.cs (cells' := 0) (slots' := 0) (Nat.add_zero _) (Nat.add_zero _) ?_
              refine nv_if_ne (tgt := 60) zx zb (Nat.lt_of_le_of_lt (cntUp_le _ _) (by omega)) dX1_isIn_55 (by decide) (fun c55 => ?_) (fun c55 => ?_)
              · refine lv_iinc (v := nI (f + 1)) (lv' := [(3, .int (nI (f + 1))), (4, .int (nI k)), (0, .ref (a 0)), (1, .int (nI w)), (2, .int (nI o))]) zx zb dX1_isIn_60 hl (k := 1) rfl (nI_1 _) (by decide) rfl (fun ls hl => ?_)
                refine lv_goto (tgt := 2) zx zb dX1_isIn_63 (by decide) ?_
                exact ih2 lk2 (longOf o) (f + 1) (by omega) (lt_s h1 (decide_eq_true (by rw [← tmW_cg (fun j hj => h4 j (by omega))]; exact c55))) h5 (by omega) _ _ _ hX (lv_sub hl [0, 2, 3, 4] rfl)
              · refine lv_iconst (v := nI 0) zx zb dX1_isIn_58 (by decide) ?_
                rw [← zQ]
                refine nv_as (y := nB false) rfl ?_
                exact nv_endz zC zr zk (lk2, longOf o) hX (by (try dsimp only); have hz : isInB kind longOf letters w o f = false := decide_eq_false (by rw [← tmW_cg (fun j hj => h4 j (by omega)), c55]; exact Nat.lt_irrefl 0); refine ⟨nB_e0 ?_, h5⟩; rcases (by omega : f = 0 ∨ f = 1) with z | z <;> rw [z] at hz <;> simp [hz]) (by omega) (by omega) dX1_isIn_59
            · refine lv_aload_n zx zb dX1_isIn_29 rfl (lv_at hl 2 rfl) ?_
              refine nv_get zC hX in_X1 0 rfl rfl 16 (by decide) q1208 (fun _ h => h) rfl dX1_isIn_30 ?_
              refine lv_iload zx zb dX1_isIn_33 (lv_at hl 0 rfl) ?_
              refine lv_aload_n zx zb dX1_isIn_35 rfl (lv_at hl 2 rfl) ?_
              refine lv_iload_n zx zb dX1_isIn_36 rfl (lv_at hl 4 rfl) ?_
              refine lv_iload_n zx zb dX1_isIn_37 rfl (lv_at hl 1 rfl) ?_
              refine lv_iload zx zb dX1_isIn_38 (lv_at hl 0 rfl) ?_
              refine nv_ki zC hX (nv_rV (n := 3) (As := [.int (nI o), .int (nI f), .int (nI k)]) (rest := [.int (nI k), .ref (a 11)]) (q0 := 0) zC hX (mm_letterOf (w := o) (f := f) (k := k) (hok := (by first | assumption | omega)) (hw := (by first | assumption | omega)) (hf := (by first | assumption | omega)) (hk := (by first | assumption | omega))) nvGb0 (fun _ _ _ => trivial) rfl rfl q1328 q1330 qs36 q63 q1331 (by decide +kernel) rfl ⟨Nat.le_of_ble_eq_true rfl, Nat.le_of_ble_eq_true rfl⟩ hl.1 (Nat.le_of_ble_eq_true rfl) dX1_isIn_40 ⟨by first | exact Nat.le_of_ble_eq_true rfl | omega, by first | exact Nat.le_of_ble_eq_true rfl | omega⟩) (fun r u H locs hp hX => ?_)
              have hr_ : r = nI (hdF (kind o) (longOf o) (fun k => letters (4 * o + k)) f k) := hp
              subst hr_
              have hX : nvS D a0 (mW dA a fault trace sorts shL cells words said kind longOf letters saidRow at_ rdW rKind rLong rLet lk2 (longOf o) next heard far ways waysT free freeT rdgs rWord rMany rStands rRow ex) s.heap H locs := hX
              refine W.cs (cells' := 0) (slots' := 0) (Nat.add_zero _) (Nat.add_zero _) ?_
              refine nv_iast zC hX 11 rfl (by omega) (by decide) (nF_up _ _ _) (w' := mW dA a fault trace sorts shL cells words said kind longOf letters saidRow at_ rdW rKind rLong rLet (va_up lk2 k (hdF (kind o) (longOf o) (fun k => letters (4 * o + k)) f k)) (longOf o) next heard far ways waysT free freeT rdgs rWord rMany rStands rRow ex) rfl dX1_isIn_43 (fun H locs hX => ?_)
              refine lv_iinc (v := nI (k + 1)) (lv' := [(4, .int (nI (k + 1))), (3, .int (nI f)), (0, .ref (a 0)), (1, .int (nI w)), (2, .int (nI o))]) zx zb dX1_isIn_44 hl (k := 0) rfl (nI_1 _) (by decide) rfl (fun ls hl => ?_)
              refine lv_goto (tgt := 20) zx zb dX1_isIn_47 (by decide) ?_
              exact ih20 (va_up lk2 k (hdF (kind o) (longOf o) (fun k => letters (4 * o + k)) f k)) (k + 1) (by omega) (up_preG h4 rfl) (up_lt h5 (hlt _)) (by omega) _ _ _ hX (lv_sub hl [0, 1, 2, 3, 4] rfl)
        exact L20 _ lk 0 (by omega) lt_0 h3 (Nat.lt_succ_self _) _ _ _ hX (lv_sub hl [0, 1, 2, 3, 4] rfl)
  exact L2 _ looked lkL 0 (by omega) lt_0 hlk (Nat.lt_succ_self _) _ _ _ hX (lv_sub hl [0, 1, 2, 3] rfl)

set_option maxHeartbeats 4000000 in
theorem mm_spare   (hok : mOK words kind longOf letters) (hlk : ∀ j, looked j < 3) : nMt l D dA a0 yX1_spare cX1_spare 4 (some .int) 5 109 0 0 nvG0 [.ref (a 0)] (mW dA a fault trace sorts shL cells words said kind longOf letters saidRow at_ rdW rKind rLong rLet looked lkL next heard far ways waysT free freeT rdgs rWord rMany rStands rRow ex) (nQi D a0 (fun (r : Int32) (u : (Nat → Nat) × Nat) => r = F_spare kind longOf letters words ∧ (∀ j, u.1 j < 3)) (fun (u : (Nat → Nat) × Nat) => mW dA a fault trace sorts shL cells words said kind longOf letters saidRow at_ rdW rKind rLong rLet u.1 u.2 next heard far ways waysT free freeT rdgs rWord rMany rStands rRow ex)) := by
  refine nv_start (by decide) (Nat.le_of_ble_eq_true rfl) fun zp ze s zm zlo zme zcd ls zC zr zk znm hX zG hl => ?_
  have zx := zC.1
  have zb := zC.2.1
  generalize zargs : ([.ref (a 0)] : List Value).toArray = zar at zC ⊢
  generalize zQ : MQ zlo _ zar s _ _ _ = Q
  have hX : nvS D a0 (mW dA a fault trace sorts shL cells words said kind longOf letters saidRow at_ rdW rKind rLong rLet looked lkL next heard far ways waysT free freeT rdgs rWord rMany rStands rRow ex) s.heap s.heap [] := hX
  have hl : lv_has ls 4 [(0, .ref (a 0))] := hl
  obtain ⟨H, zH⟩ : ∃ H, H = s.heap := ⟨_, rfl⟩
  have hX : nvS D a0 (mW dA a fault trace sorts shL cells words said kind longOf letters saidRow at_ rdW rKind rLong rLet looked lkL next heard far ways waysT free freeT rdgs rWord rMany rStands rRow ex) s.heap H [] := by rw [zH]; exact hX
  rw [show W zp l ze (rm_ 5 109 0 0) s zm zar zlo zme zcd s.heap [] 0 0 Q = W zp l ze (rm_ 5 109 0 0) s zm zar zlo zme zcd H [] 0 0 Q by rw [zH]]
  generalize ([] : List Loc) = locs at hX ⊢
  have hw4 := hok.1
  have hlt := hok.2.2.2
  refine lv_aload_n zx zb dX1_spare_0 rfl (lv_at hl 0 rfl) ?_
  refine nv_get zC hX in_X1 0 rfl rfl 5 (by decide) q1197 (fun _ h => h) rfl dX1_spare_1 ?_
  refine nv_if_ne (tgt := 10) zx zb (by omega) dX1_spare_4 (by decide) (fun c4 => ?_) (fun c4 => ?_)
  · refine lv_iconst (v := nI 0) zx zb dX1_spare_10 (by decide) ?_
    refine lv_istore_n (lv' := [(1, .int (nI 0)), (0, .ref (a 0))]) zx zb dX1_spare_11 rfl hl (by decide) rfl (fun ls hl => ?_)
    refine lv_iconst (v := nI 0) zx zb dX1_spare_12 (by decide) ?_
    refine lv_istore_n (lv' := [(2, .int (nI 0)), (1, .int (nI 0)), (0, .ref (a 0))]) zx zb dX1_spare_13 rfl hl (by decide) rfl (fun ls hl => ?_)
    have L14 : ∀ (zn : Nat) (lk : Nat → Nat) (lL w : Nat) (hw : w ≤ words) (h3 : ∀ j, lk j < 3), words - w < zn → ∀ (H : Heap) (locs : List Loc) (ls : Array Slot), nvS D a0 (mW dA a fault trace sorts shL cells words said kind longOf letters saidRow at_ rdW rKind rLong rLet lk lL next heard far ways waysT free freeT rdgs rWord rMany rStands rRow ex) s.heap H locs → lv_has ls 4 [(2, .int (nI w)), (1, .int (nI (bitsUp (fun w => spU kind longOf letters w words) w))), (0, .ref (a 0))] → W zp l ze (rm_ 5 109 0 0) s zm zar zlo zme zcd H locs 0 0 Q (F0 zm 14 ls []) := by
      intro zn
      induction zn with
      | zero => intro lk lL w hw h3 zf; exact absurd zf (Nat.not_lt_zero _)
      | succ zn ih14 =>
        intro lk lL w hw h3 zf H locs ls hX hl
        refine lv_iload_n zx zb dX1_spare_14 rfl (lv_at hl 0 rfl) ?_
        refine lv_aload_n zx zb dX1_spare_15 rfl (lv_at hl 2 rfl) ?_
        refine nv_get zC hX in_X1 0 rfl rfl 5 (by decide) q1197 (fun _ h => h) rfl dX1_spare_16 ?_
        refine nv_icmp_ge (tgt := 68) zx zb (by omega) (by omega) dX1_spare_19 (by decide) (fun c19 => ?_) (fun c19 => ?_)
        · refine lv_iload_n zx zb dX1_spare_68 rfl (lv_at hl 1 rfl) ?_
          rw [← zQ]
          exact nv_endi zC zr zk (lk, lL) hX (by (try dsimp only); exact ⟨by unfold F_spare; rw [if_neg (by omega), show w = words by omega], h3⟩) (by omega) (by omega) dX1_spare_69
        · refine lv_iconst (v := nI 0) zx zb dX1_spare_22 (by decide) ?_
          refine lv_istore_n (lv' := [(3, .int (nI 0)), (2, .int (nI w)), (1, .int (nI (bitsUp (fun w => spU kind longOf letters w words) w))), (0, .ref (a 0))]) zx zb dX1_spare_23 rfl hl (by decide) rfl (fun ls hl => ?_)
          have L24 : ∀ (zn : Nat) (lk2 : Nat → Nat) (lL2 o : Nat) (ho : o ≤ words) (h4 : ∀ j, lk2 j < 3), words - o < zn → ∀ (H : Heap) (locs : List Loc) (ls : Array Slot), nvS D a0 (mW dA a fault trace sorts shL cells words said kind longOf letters saidRow at_ rdW rKind rLong rLet lk2 lL2 next heard far ways waysT free freeT rdgs rWord rMany rStands rRow ex) s.heap H locs → lv_has ls 4 [(3, .int (nI o)), (2, .int (nI w)), (1, .int (nI (bitsUp (fun w => spU kind longOf letters w words) w ||| (if spU kind longOf letters w o then 2 ^ w else 0)))), (0, .ref (a 0))] → W zp l ze (rm_ 5 109 0 0) s zm zar zlo zme zcd H locs 0 0 Q (F0 zm 24 ls []) := by
            intro zn
            induction zn with
            | zero => intro lk2 lL2 o ho h4 zf; exact absurd zf (Nat.not_lt_zero _)
            | succ zn ih24 =>
              intro lk2 lL2 o ho h4 zf H locs ls hX hl
              refine lv_iload_n zx zb dX1_spare_24 rfl (lv_at hl 0 rfl) ?_
              refine lv_aload_n zx zb dX1_spare_25 rfl (lv_at hl 3 rfl) ?_
              refine nv_get zC hX in_X1 0 rfl rfl 5 (by decide) q1197 (fun _ h => h) rfl dX1_spare_26 ?_
              refine nv_icmp_ge (tgt := 62) zx zb (by omega) (by omega) dX1_spare_29 (by decide) (fun c29 => ?_) (fun c29 => ?_)
              · refine lv_iinc (v := nI (w + 1)) (lv' := [(2, .int (nI (w + 1))), (3, .int (nI o)), (1, .int (nI (bitsUp (fun w => spU kind longOf letters w words) w ||| (if spU kind longOf letters w o then 2 ^ w else 0)))), (0, .ref (a 0))]) zx zb dX1_spare_62 hl (k := 1) rfl (nI_1 _) (by decide) rfl (fun ls hl => ?_)
                refine lv_goto (tgt := 14) zx zb dX1_spare_65 (by decide) ?_
                rw [show bitsUp (fun w => spU kind longOf letters w words) w ||| (if spU kind longOf letters w o then 2 ^ w else 0) = bitsUp (fun w => spU kind longOf letters w words) (w + 1) from congrArg (fun z => bitsUp (fun w => spU kind longOf letters w words) w ||| (if spU kind longOf letters w z then 2 ^ w else 0)) (show o = words by omega)] at hl
                exact ih14 lk2 lL2 (w + 1) (by omega) h4 (by omega) _ _ _ hX (lv_sub hl [0, 2, 3] rfl)
              · refine lv_iload_n zx zb dX1_spare_32 rfl (lv_at hl 2 rfl) ?_
                refine lv_iload_n zx zb dX1_spare_33 rfl (lv_at hl 0 rfl) ?_
                refine lv_iload_n zx zb dX1_spare_34 rfl (lv_at hl 1 rfl) ?_
                refine nv_icmp_eq (tgt := 53) zx zb (by omega) (by omega) dX1_spare_35 (by decide) (fun c35 => ?_) (fun c35 => ?_)
                · have hpf : (fun o => decide (o ≠ w) && (isInB kind longOf letters w o 0 && isInB kind longOf letters w o 1)) o = false := by simp [c35]
                  refine lv_iconst (v := nI 0) zx zb dX1_spare_53 (by decide) ?_
                  refine nv_ior zx zb dX1_spare_54 ?_
                  refine nv_as (show nI ((bitsUp (fun w => spU kind longOf letters w words) w ||| (if spU kind longOf letters w o then 2 ^ w else 0)) ||| 0) = nI (bitsUp (fun w => spU kind longOf letters w words) w ||| (if spU kind longOf letters w (o + 1) then 2 ^ w else 0)) from (congrArg nI (show _ = _ by rw [show spU kind longOf letters w (o + 1) = spU kind longOf letters w o from anyUp_f hpf]; exact or_0))) ?_
                  refine lv_istore_n (lv' := [(1, .int (nI (bitsUp (fun w => spU kind longOf letters w words) w ||| (if spU kind longOf letters w (o + 1) then 2 ^ w else 0)))), (3, .int (nI o)), (2, .int (nI w)), (0, .ref (a 0))]) zx zb dX1_spare_55 rfl hl (by decide) rfl (fun ls hl => ?_)
                  refine lv_iinc (v := nI (o + 1)) (lv' := [(3, .int (nI (o + 1))), (1, .int (nI (bitsUp (fun w => spU kind longOf letters w words) w ||| (if spU kind longOf letters w (o + 1) then 2 ^ w else 0)))), (2, .int (nI w)), (0, .ref (a 0))]) zx zb dX1_spare_56 hl (k := 1) rfl (nI_1 _) (by decide) rfl (fun ls hl => ?_)
                  refine lv_goto (tgt := 24) zx zb dX1_spare_59 (by decide) ?_
                  exact ih24 lk2 lL2 (o + 1) (by omega) h4 (by omega) _ _ _ hX (lv_sub hl [0, 2, 1, 3] rfl)
                · refine lv_aload_n zx zb dX1_spare_38 rfl (lv_at hl 3 rfl) ?_
                  refine lv_iload_n zx zb dX1_spare_39 rfl (lv_at hl 1 rfl) ?_
                  refine lv_iload_n zx zb dX1_spare_40 rfl (lv_at hl 0 rfl) ?_
                  refine nv_ki zC hX (nv_rV (n := 2) (As := [.int (nI w), .int (nI o)]) (rest := [.int (nI (bitsUp (fun w => spU kind longOf letters w words) w ||| (if spU kind longOf letters w o then 2 ^ w else 0)))]) (q0 := 0) zC hX (mm_isIn (w := w) (o := o) (hok := (by first | assumption | omega)) (hlk := (by first | assumption | omega)) (hw := (by first | assumption | omega)) (ho := (by first | assumption | omega))) nvGb0 (fun _ _ _ => trivial) rfl rfl q1441 q1443 qs54 q63 q1444 (by decide +kernel) rfl ⟨Nat.le_of_ble_eq_true rfl, Nat.le_of_ble_eq_true rfl⟩ hl.1 (Nat.le_of_ble_eq_true rfl) dX1_spare_41 ⟨by first | exact Nat.le_of_ble_eq_true rfl | omega, by first | exact Nat.le_of_ble_eq_true rfl | omega⟩) (fun r u H locs hp hX => ?_)
                  obtain ⟨looked'_1, lkL'_1⟩ := u
                  obtain ⟨hr_, h41⟩ : r = nB (isInB kind longOf letters w o 0 && isInB kind longOf letters w o 1) ∧ (∀ j, looked'_1 j < 3) := hp
                  subst hr_
                  have hX : nvS D a0 (mW dA a fault trace sorts shL cells words said kind longOf letters saidRow at_ rdW rKind rLong rLet looked'_1 lkL'_1 next heard far ways waysT free freeT rdgs rWord rMany rStands rRow ex) s.heap H locs := hX
                  refine W.cs (cells' := 0) (slots' := 0) (Nat.add_zero _) (Nat.add_zero _) ?_
                  refine nv_if_eqB (tgt := 53) zx zb dX1_spare_44 (by decide) (fun c44 => ?_) (fun c44 => ?_)
                  · have hpf : (fun o => decide (o ≠ w) && (isInB kind longOf letters w o 0 && isInB kind longOf letters w o 1)) o = false := by simp only [c44, Bool.and_false]
                    refine lv_iconst (v := nI 0) zx zb dX1_spare_53 (by decide) ?_
                    refine nv_ior zx zb dX1_spare_54 ?_
                    refine nv_as (show nI ((bitsUp (fun w => spU kind longOf letters w words) w ||| (if spU kind longOf letters w o then 2 ^ w else 0)) ||| 0) = nI (bitsUp (fun w => spU kind longOf letters w words) w ||| (if spU kind longOf letters w (o + 1) then 2 ^ w else 0)) from (congrArg nI (show _ = _ by rw [show spU kind longOf letters w (o + 1) = spU kind longOf letters w o from anyUp_f hpf]; exact or_0))) ?_
                    refine lv_istore_n (lv' := [(1, .int (nI (bitsUp (fun w => spU kind longOf letters w words) w ||| (if spU kind longOf letters w (o + 1) then 2 ^ w else 0)))), (3, .int (nI o)), (2, .int (nI w)), (0, .ref (a 0))]) zx zb dX1_spare_55 rfl hl (by decide) rfl (fun ls hl => ?_)
                    refine lv_iinc (v := nI (o + 1)) (lv' := [(3, .int (nI (o + 1))), (1, .int (nI (bitsUp (fun w => spU kind longOf letters w words) w ||| (if spU kind longOf letters w (o + 1) then 2 ^ w else 0)))), (2, .int (nI w)), (0, .ref (a 0))]) zx zb dX1_spare_56 hl (k := 1) rfl (nI_1 _) (by decide) rfl (fun ls hl => ?_)
                    refine lv_goto (tgt := 24) zx zb dX1_spare_59 (by decide) ?_
                    exact ih24 looked'_1 lkL'_1 (o + 1) (by omega) h41 (by omega) _ _ _ hX (lv_sub hl [0, 2, 1, 3] rfl)
                  · have hpt : (fun o => decide (o ≠ w) && (isInB kind longOf letters w o 0 && isInB kind longOf letters w o 1)) o = true := by simp only [c44, Bool.and_true]; exact decide_eq_true c35
                    refine lv_iconst (v := nI 1) zx zb dX1_spare_47 (by decide) ?_
                    refine lv_iload_n zx zb dX1_spare_48 rfl (lv_at hl 1 rfl) ?_
                    refine nv_ishl1 zx zb (by omega) dX1_spare_49 ?_
                    refine lv_goto (tgt := 54) zx zb dX1_spare_50 (by decide) ?_
                    refine nv_ior zx zb dX1_spare_54 ?_
                    refine nv_as (show nI ((bitsUp (fun w => spU kind longOf letters w words) w ||| (if spU kind longOf letters w o then 2 ^ w else 0)) ||| (2 ^ w)) = nI (bitsUp (fun w => spU kind longOf letters w words) w ||| (if spU kind longOf letters w (o + 1) then 2 ^ w else 0)) from (congrArg nI (show _ = _ by rw [show spU kind longOf letters w (o + 1) = true from anyUp_t hpt]; exact sp_t))) ?_
                    refine lv_istore_n (lv' := [(1, .int (nI (bitsUp (fun w => spU kind longOf letters w words) w ||| (if spU kind longOf letters w (o + 1) then 2 ^ w else 0)))), (3, .int (nI o)), (2, .int (nI w)), (0, .ref (a 0))]) zx zb dX1_spare_55 rfl hl (by decide) rfl (fun ls hl => ?_)
                    refine lv_iinc (v := nI (o + 1)) (lv' := [(3, .int (nI (o + 1))), (1, .int (nI (bitsUp (fun w => spU kind longOf letters w words) w ||| (if spU kind longOf letters w (o + 1) then 2 ^ w else 0)))), (2, .int (nI w)), (0, .ref (a 0))]) zx zb dX1_spare_56 hl (k := 1) rfl (nI_1 _) (by decide) rfl (fun ls hl => ?_)
                    refine lv_goto (tgt := 24) zx zb dX1_spare_59 (by decide) ?_
                    exact ih24 looked'_1 lkL'_1 (o + 1) (by omega) h41 (by omega) _ _ _ hX (lv_sub hl [0, 2, 1, 3] rfl)
          rw [show bitsUp (fun w => spU kind longOf letters w words) w = bitsUp (fun w => spU kind longOf letters w words) w ||| (if spU kind longOf letters w 0 then 2 ^ w else 0) from (or_0).symm] at hl
          exact L24 _ lk lL 0 (by omega) h3 (Nat.lt_succ_self _) _ _ _ hX (lv_sub hl [0, 1, 2, 3] rfl)
    exact L14 _ looked lkL 0 (by omega) hlk (Nat.lt_succ_self _) _ _ _ hX (lv_sub hl [0, 1, 2] rfl)
  · refine lv_bipush (v := (-3)) zx zb dX1_spare_7 (by decide) ?_
    rw [← zQ]
    exact nv_endi zC zr zk (looked, lkL) hX (by (try dsimp only); exact ⟨by unfold F_spare; rw [if_pos c4], hlk⟩) (by omega) (by omega) dX1_spare_9

set_option maxHeartbeats 4000000 in
theorem mm_over  (x : Int32) (y : Int32) (hok : mOK words kind longOf letters) : nMt l D dA a0 yX1_over cX1_over 7 (some .int) 2 33 0 0 nvG0 [.ref (a 0), .int x, .int y] (mW dA a fault trace sorts shL cells words said kind longOf letters saidRow at_ rdW rKind rLong rLet looked lkL next heard far ways waysT free freeT rdgs rWord rMany rStands rRow ex) (nQi D a0 (fun (r : Int32) (_ : Unit) => r = F_over words longOf letters x y) (fun (_ : Unit) => mW dA a fault trace sorts shL cells words said kind longOf letters saidRow at_ rdW rKind rLong rLet looked lkL next heard far ways waysT free freeT rdgs rWord rMany rStands rRow ex)) := by
  refine nv_start (by decide) (Nat.le_of_ble_eq_true rfl) fun zp ze s zm zlo zme zcd ls zC zr zk znm hX zG hl => ?_
  have zx := zC.1
  have zb := zC.2.1
  generalize zargs : ([.ref (a 0), .int x, .int y] : List Value).toArray = zar at zC ⊢
  generalize zQ : MQ zlo _ zar s _ _ _ = Q
  have hX : nvS D a0 (mW dA a fault trace sorts shL cells words said kind longOf letters saidRow at_ rdW rKind rLong rLet looked lkL next heard far ways waysT free freeT rdgs rWord rMany rStands rRow ex) s.heap s.heap [] := hX
  have hl : lv_has ls 7 [(0, .ref (a 0)), (1, .int x), (2, .int y)] := hl
  obtain ⟨H, zH⟩ : ∃ H, H = s.heap := ⟨_, rfl⟩
  have hX : nvS D a0 (mW dA a fault trace sorts shL cells words said kind longOf letters saidRow at_ rdW rKind rLong rLet looked lkL next heard far ways waysT free freeT rdgs rWord rMany rStands rRow ex) s.heap H [] := by rw [zH]; exact hX
  rw [show W zp l ze (rm_ 2 33 0 0) s zm zar zlo zme zcd s.heap [] 0 0 Q = W zp l ze (rm_ 2 33 0 0) s zm zar zlo zme zcd H [] 0 0 Q by rw [zH]]
  generalize ([] : List Loc) = locs at hX ⊢
  have hw4 := hok.1
  have hlt := hok.2.2.2
  refine lv_aload_n zx zb dX1_over_0 rfl (lv_at hl 0 rfl) ?_
  refine lv_iload_n zx zb dX1_over_1 rfl (lv_at hl 1 rfl) ?_
  refine nv_ki zC hX (nv_rV (n := 1) (As := [.int x]) (rest := []) (q0 := 0) zC hX (mm_isWord (v := x)) nvGb0 (fun _ _ _ => trivial) rfl rfl q1320 q1322 qs34 q63 q1323 (by decide +kernel) rfl ⟨Nat.le_of_ble_eq_true rfl, Nat.le_of_ble_eq_true rfl⟩ hl.1 (Nat.le_of_ble_eq_true rfl) dX1_over_2 ⟨by first | exact Nat.le_of_ble_eq_true rfl | omega, by first | exact Nat.le_of_ble_eq_true rfl | omega⟩) (fun r u H locs hp hX => ?_)
  have hr_ : r = nB (isW words x) := hp
  subst hr_
  have hX : nvS D a0 (mW dA a fault trace sorts shL cells words said kind longOf letters saidRow at_ rdW rKind rLong rLet looked lkL next heard far ways waysT free freeT rdgs rWord rMany rStands rRow ex) s.heap H locs := hX
  refine W.cs (cells' := 0) (slots' := 0) (Nat.add_zero _) (Nat.add_zero _) ?_
  refine nv_if_eqB (tgt := 16) zx zb dX1_over_5 (by decide) (fun c5 => ?_) (fun c5 => ?_)
  · refine lv_iconst (v := (-1)) zx zb dX1_over_16 (by decide) ?_
    rw [← zQ]
    exact nv_endi zC zr zk () hX (by unfold F_over; rw [if_neg (fun z => absurd (z.1.symm.trans c5) (by decide))]) (by omega) (by omega) dX1_over_17
  · refine lv_aload_n zx zb dX1_over_8 rfl (lv_at hl 0 rfl) ?_
    refine lv_iload_n zx zb dX1_over_9 rfl (lv_at hl 2 rfl) ?_
    refine nv_ki zC hX (nv_rV (n := 1) (As := [.int y]) (rest := []) (q0 := 0) zC hX (mm_isWord (v := y)) nvGb0 (fun _ _ _ => trivial) rfl rfl q1320 q1322 qs34 q63 q1323 (by decide +kernel) rfl ⟨Nat.le_of_ble_eq_true rfl, Nat.le_of_ble_eq_true rfl⟩ hl.1 (Nat.le_of_ble_eq_true rfl) dX1_over_10 ⟨by first | exact Nat.le_of_ble_eq_true rfl | omega, by first | exact Nat.le_of_ble_eq_true rfl | omega⟩) (fun r u H locs hp hX => ?_)
    have hr_ : r = nB (isW words y) := hp
    subst hr_
    have hX : nvS D a0 (mW dA a fault trace sorts shL cells words said kind longOf letters saidRow at_ rdW rKind rLong rLet looked lkL next heard far ways waysT free freeT rdgs rWord rMany rStands rRow ex) s.heap H locs := hX
    refine W.cs (cells' := 0) (slots' := 0) (Nat.add_zero _) (Nat.add_zero _) ?_
    refine nv_if_neB (tgt := 18) zx zb dX1_over_13 (by decide) (fun c13 => ?_) (fun c13 => ?_)
    · obtain ⟨i, hi, rfl⟩ := isW_t (by omega) c5
      obtain ⟨j, hj, rfl⟩ := isW_t (by omega) c13
      have hln_i := hok.2.2.1 i
      have hln_j := hok.2.2.1 j
      refine lv_aload_n zx zb dX1_over_18 rfl (lv_at hl 0 rfl) ?_
      refine nv_get zC hX in_X1 0 rfl rfl 8 (by decide) q1200 (fun _ h => h) rfl dX1_over_19 ?_
      refine lv_iload_n zx zb dX1_over_22 rfl (lv_at hl 1 rfl) ?_
      refine nv_iald (v := nI (longOf i)) zC hX 5 rfl (by omega) (by decide) rfl dX1_over_23 ?_
      refine lv_aload_n zx zb dX1_over_24 rfl (lv_at hl 0 rfl) ?_
      refine nv_get zC hX in_X1 0 rfl rfl 8 (by decide) q1200 (fun _ h => h) rfl dX1_over_25 ?_
      refine lv_iload_n zx zb dX1_over_28 rfl (lv_at hl 2 rfl) ?_
      refine nv_iald (v := nI (longOf j)) zC hX 5 rfl (by omega) (by decide) rfl dX1_over_29 ?_
      have J48 : ∀   (H : Heap) (locs : List Loc) (ls : Array Slot), nvS D a0 (mW dA a fault trace sorts shL cells words said kind longOf letters saidRow at_ rdW rKind rLong rLet looked lkL next heard far ways waysT free freeT rdgs rWord rMany rStands rRow ex) s.heap H locs → lv_has ls 7 [(0, .ref (a 0)), (1, .int (nI i)), (2, .int (nI j))] → W zp l ze (rm_ 2 33 0 0) s zm zar zlo zme zcd H locs 0 0 Q (F0 zm 48 ls [.int (nI (min (longOf i) (longOf j)))]) := by
        intro   H locs ls hX hl
        refine lv_istore_n (lv' := [(3, .int (nI (min (longOf i) (longOf j)))), (0, .ref (a 0)), (1, .int (nI i)), (2, .int (nI j))]) zx zb dX1_over_48 rfl hl (by decide) rfl (fun ls hl => ?_)
        refine lv_iload_n zx zb dX1_over_49 rfl (lv_at hl 0 rfl) ?_
        refine lv_istore (lv' := [(4, .int (nI (min (longOf i) (longOf j)))), (3, .int (nI (min (longOf i) (longOf j)))), (0, .ref (a 0)), (1, .int (nI i)), (2, .int (nI j))]) zx zb dX1_over_50 hl (by decide) rfl (fun ls hl => ?_)
        have L52 : ∀ (zn : Nat) (n : Nat) (hn : n ≤ min (longOf i) (longOf j)) (hno : ovD (fun n => ovP longOf letters i j n n) (min (longOf i) (longOf j)) = ovD (fun n => ovP longOf letters i j n n) n), n < zn → ∀ (H : Heap) (locs : List Loc) (ls : Array Slot), nvS D a0 (mW dA a fault trace sorts shL cells words said kind longOf letters saidRow at_ rdW rKind rLong rLet looked lkL next heard far ways waysT free freeT rdgs rWord rMany rStands rRow ex) s.heap H locs → lv_has ls 7 [(4, .int (nI n)), (3, .int (nI (min (longOf i) (longOf j)))), (0, .ref (a 0)), (1, .int (nI i)), (2, .int (nI j))] → W zp l ze (rm_ 2 33 0 0) s zm zar zlo zme zcd H locs 0 0 Q (F0 zm 52 ls []) := by
          intro zn
          induction zn with
          | zero => intro n hn hno zf; exact absurd zf (Nat.not_lt_zero _)
          | succ zn ih52 =>
            intro n hn hno zf H locs ls hX hl
            refine lv_iload zx zb dX1_over_52 (lv_at hl 0 rfl) ?_
            refine nv_if_le (tgt := 137) zx zb (by omega) dX1_over_54 (by decide) (fun c54 => ?_) (fun c54 => ?_)
            · refine lv_iconst (v := nI 0) zx zb dX1_over_137 (by decide) ?_
              rw [← zQ]
              exact nv_endi zC zr zk () hX (by unfold F_over; rw [if_pos ⟨c5, c13⟩]; show nI 0 = nI (ovD _ _); simp only [i2n, nI_clamp (show i < 2 ^ 31 by omega), nI_clamp (show j < 2 ^ 31 by omega)]; rw [hno, c54]; rfl) (by omega) (by omega) dX1_over_138
            · refine lv_iconst (v := nI 1) zx zb dX1_over_57 (by decide) ?_
              refine nv_as (show nI 1 = nB (ovP longOf letters i j n 0) from (nB_as1 ovP_0)) ?_
              refine lv_istore (lv' := [(5, .int (nB (ovP longOf letters i j n 0))), (4, .int (nI n)), (3, .int (nI (min (longOf i) (longOf j)))), (0, .ref (a 0)), (1, .int (nI i)), (2, .int (nI j))]) zx zb dX1_over_58 hl (by decide) rfl (fun ls hl => ?_)
              refine lv_iconst (v := nI 0) zx zb dX1_over_60 (by decide) ?_
              refine lv_istore (lv' := [(6, .int (nI 0)), (5, .int (nB (ovP longOf letters i j n 0))), (4, .int (nI n)), (3, .int (nI (min (longOf i) (longOf j)))), (0, .ref (a 0)), (1, .int (nI i)), (2, .int (nI j))]) zx zb dX1_over_61 hl (by decide) rfl (fun ls hl => ?_)
              have L63 : ∀ (zn : Nat) (k : Nat) (hk : k ≤ n), n - k < zn → ∀ (H : Heap) (locs : List Loc) (ls : Array Slot), nvS D a0 (mW dA a fault trace sorts shL cells words said kind longOf letters saidRow at_ rdW rKind rLong rLet looked lkL next heard far ways waysT free freeT rdgs rWord rMany rStands rRow ex) s.heap H locs → lv_has ls 7 [(6, .int (nI k)), (5, .int (nB (ovP longOf letters i j n k))), (4, .int (nI n)), (3, .int (nI (min (longOf i) (longOf j)))), (0, .ref (a 0)), (1, .int (nI i)), (2, .int (nI j))] → W zp l ze (rm_ 2 33 0 0) s zm zar zlo zme zcd H locs 0 0 Q (F0 zm 63 ls []) := by
                intro zn
                induction zn with
                | zero => intro k hk zf; exact absurd zf (Nat.not_lt_zero _)
                | succ zn ih63 =>
                  intro k hk zf H locs ls hX hl
                  refine lv_iload zx zb dX1_over_63 (lv_at hl 0 rfl) ?_
                  refine lv_iload zx zb dX1_over_65 (lv_at hl 2 rfl) ?_
                  refine nv_icmp_ge (tgt := 123) zx zb (by omega) (by omega) dX1_over_67 (by decide) (fun c67 => ?_) (fun c67 => ?_)
                  · refine lv_iload zx zb dX1_over_123 (lv_at hl 1 rfl) ?_
                    refine nv_if_eqB (tgt := 131) zx zb dX1_over_125 (by decide) (fun c125 => ?_) (fun c125 => ?_)
                    · refine lv_iinc (v := nI (n - 1)) (lv' := [(4, .int (nI (n - 1))), (6, .int (nI k)), (5, .int (nB (ovP longOf letters i j n k))), (3, .int (nI (min (longOf i) (longOf j)))), (0, .ref (a 0)), (1, .int (nI i)), (2, .int (nI j))]) zx zb dX1_over_131 hl (k := 2) rfl (nI_dec (by omega)) (by decide) rfl (fun ls hl => ?_)
                      refine lv_goto (tgt := 52) zx zb dX1_over_134 (by decide) ?_
                      exact ih52 (n - 1) (by omega) (hno.trans (ovD_f c54 (ovP_ff c125 hk))) (by omega) _ _ _ hX (lv_sub hl [0, 3, 4, 5, 6] rfl)
                    · refine lv_iload zx zb dX1_over_128 (lv_at hl 2 rfl) ?_
                      rw [← zQ]
                      exact nv_endi zC zr zk () hX (by first | exact absurd (c125.symm.trans c72) (by decide) | (have hz : ovP longOf letters i j n n = true := ovP_tt c125 c67; unfold F_over; rw [if_pos ⟨c5, c13⟩]; show nI n = nI (ovD _ _); simp only [i2n, nI_clamp (show i < 2 ^ 31 by omega), nI_clamp (show j < 2 ^ 31 by omega)]; rw [hno, ovD_t (P := fun n => ovP longOf letters i j n n) c54 hz])) (by omega) (by omega) dX1_over_130
                  · refine lv_iload zx zb dX1_over_70 (lv_at hl 1 rfl) ?_
                    refine nv_if_eqB (tgt := 123) zx zb dX1_over_72 (by decide) (fun c72 => ?_) (fun c72 => ?_)
                    · refine lv_iload zx zb dX1_over_123 (lv_at hl 1 rfl) ?_
                      refine nv_if_eqB (tgt := 131) zx zb dX1_over_125 (by decide) (fun c125 => ?_) (fun c125 => ?_)
                      · refine lv_iinc (v := nI (n - 1)) (lv' := [(4, .int (nI (n - 1))), (6, .int (nI k)), (5, .int (nB (ovP longOf letters i j n k))), (3, .int (nI (min (longOf i) (longOf j)))), (0, .ref (a 0)), (1, .int (nI i)), (2, .int (nI j))]) zx zb dX1_over_131 hl (k := 2) rfl (nI_dec (by omega)) (by decide) rfl (fun ls hl => ?_)
                        refine lv_goto (tgt := 52) zx zb dX1_over_134 (by decide) ?_
                        exact ih52 (n - 1) (by omega) (hno.trans (ovD_f c54 (ovP_ff c125 hk))) (by omega) _ _ _ hX (lv_sub hl [0, 3, 4, 5, 6] rfl)
                      · refine lv_iload zx zb dX1_over_128 (lv_at hl 2 rfl) ?_
                        rw [← zQ]
                        exact nv_endi zC zr zk () hX (by first | exact absurd (c125.symm.trans c72) (by decide) | (have hz : ovP longOf letters i j n n = true := ovP_tt c125 c67; unfold F_over; rw [if_pos ⟨c5, c13⟩]; show nI n = nI (ovD _ _); simp only [i2n, nI_clamp (show i < 2 ^ 31 by omega), nI_clamp (show j < 2 ^ 31 by omega)]; rw [hno, ovD_t (P := fun n => ovP longOf letters i j n n) c54 hz])) (by omega) (by omega) dX1_over_130
                    · refine lv_aload_n zx zb dX1_over_75 rfl (lv_at hl 4 rfl) ?_
                      refine nv_get zC hX in_X1 0 rfl rfl 9 (by decide) q1201 (fun _ h => h) rfl dX1_over_76 ?_
                      refine lv_iconst (v := nI 4) zx zb dX1_over_79 (by decide) ?_
                      refine lv_iload_n zx zb dX1_over_80 rfl (lv_at hl 5 rfl) ?_
                      refine nv_imul zx zb dX1_over_81 ?_
                      refine lv_aload_n zx zb dX1_over_82 rfl (lv_at hl 4 rfl) ?_
                      refine nv_get zC hX in_X1 0 rfl rfl 8 (by decide) q1200 (fun _ h => h) rfl dX1_over_83 ?_
                      refine lv_iload_n zx zb dX1_over_86 rfl (lv_at hl 5 rfl) ?_
                      refine nv_iald (v := nI (longOf i)) zC hX 5 rfl (by omega) (by decide) rfl dX1_over_87 ?_
                      refine nv_iadd zx zb dX1_over_88 ?_
                      refine lv_iload zx zb dX1_over_89 (lv_at hl 2 rfl) ?_
                      refine nv_isub zx zb (by omega) dX1_over_91 ?_
                      refine lv_iload zx zb dX1_over_92 (lv_at hl 0 rfl) ?_
                      refine nv_iadd zx zb dX1_over_94 ?_
                      refine nv_iald (v := nI (letters ((((4 * i) + (longOf i)) - n) + k))) zC hX 6 rfl (by omega) (by decide) rfl dX1_over_95 ?_
                      refine lv_aload_n zx zb dX1_over_96 rfl (lv_at hl 4 rfl) ?_
                      refine nv_get zC hX in_X1 0 rfl rfl 9 (by decide) q1201 (fun _ h => h) rfl dX1_over_97 ?_
                      refine lv_iconst (v := nI 4) zx zb dX1_over_100 (by decide) ?_
                      refine lv_iload_n zx zb dX1_over_101 rfl (lv_at hl 6 rfl) ?_
                      refine nv_imul zx zb dX1_over_102 ?_
                      refine lv_iload zx zb dX1_over_103 (lv_at hl 0 rfl) ?_
                      refine nv_iadd zx zb dX1_over_105 ?_
                      refine nv_iald (v := nI (letters ((4 * j) + k))) zC hX 6 rfl (by omega) (by decide) rfl dX1_over_106 ?_
                      refine nv_icmp_ne (tgt := 114) zx zb (Nat.lt_of_lt_of_le (hlt _) (by decide)) (Nat.lt_of_lt_of_le (hlt _) (by decide)) dX1_over_107 (by decide) (fun c107 => ?_) (fun c107 => ?_)
                      · refine lv_iconst (v := nI 0) zx zb dX1_over_114 (by decide) ?_
                        refine nv_as (show nI 0 = nB (ovP longOf letters i j n (k + 1)) from (nB_as0 (ovP_n c107))) ?_
                        refine lv_istore (lv' := [(5, .int (nB (ovP longOf letters i j n (k + 1)))), (6, .int (nI k)), (4, .int (nI n)), (3, .int (nI (min (longOf i) (longOf j)))), (0, .ref (a 0)), (1, .int (nI i)), (2, .int (nI j))]) zx zb dX1_over_115 hl (by decide) rfl (fun ls hl => ?_)
                        refine lv_iinc (v := nI (k + 1)) (lv' := [(6, .int (nI (k + 1))), (5, .int (nB (ovP longOf letters i j n (k + 1)))), (4, .int (nI n)), (3, .int (nI (min (longOf i) (longOf j)))), (0, .ref (a 0)), (1, .int (nI i)), (2, .int (nI j))]) zx zb dX1_over_117 hl (k := 1) rfl (nI_1 _) (by decide) rfl (fun ls hl => ?_)
                        refine lv_goto (tgt := 63) zx zb dX1_over_120 (by decide) ?_
                        exact ih63 (k + 1) (by omega) (by omega) _ _ _ hX (lv_sub hl [0, 1, 2, 3, 4, 5, 6] rfl)
                      · refine lv_iconst (v := nI 1) zx zb dX1_over_110 (by decide) ?_
                        refine lv_goto (tgt := 115) zx zb dX1_over_111 (by decide) ?_
                        refine nv_as (show nI 1 = nB (ovP longOf letters i j n (k + 1)) from (nB_as1 (ovP_s c72 c107))) ?_
                        refine lv_istore (lv' := [(5, .int (nB (ovP longOf letters i j n (k + 1)))), (6, .int (nI k)), (4, .int (nI n)), (3, .int (nI (min (longOf i) (longOf j)))), (0, .ref (a 0)), (1, .int (nI i)), (2, .int (nI j))]) zx zb dX1_over_115 hl (by decide) rfl (fun ls hl => ?_)
                        refine lv_iinc (v := nI (k + 1)) (lv' := [(6, .int (nI (k + 1))), (5, .int (nB (ovP longOf letters i j n (k + 1)))), (4, .int (nI n)), (3, .int (nI (min (longOf i) (longOf j)))), (0, .ref (a 0)), (1, .int (nI i)), (2, .int (nI j))]) zx zb dX1_over_117 hl (k := 1) rfl (nI_1 _) (by decide) rfl (fun ls hl => ?_)
                        refine lv_goto (tgt := 63) zx zb dX1_over_120 (by decide) ?_
                        exact ih63 (k + 1) (by omega) (by omega) _ _ _ hX (lv_sub hl [0, 1, 2, 3, 4, 5, 6] rfl)
              exact L63 _ 0 (by omega) (Nat.lt_succ_self _) _ _ _ hX (lv_sub hl [0, 1, 2, 3, 4, 5, 6] rfl)
        exact L52 _ (min (longOf i) (longOf j)) (Nat.le_refl _) rfl (Nat.lt_succ_self _) _ _ _ hX (lv_sub hl [0, 1, 2, 3, 4] rfl)
      refine nv_icmp_ge (tgt := 42) zx zb (by omega) (by omega) dX1_over_30 (by decide) (fun c30 => ?_) (fun c30 => ?_)
      · refine lv_aload_n zx zb dX1_over_42 rfl (lv_at hl 0 rfl) ?_
        refine nv_get zC hX in_X1 0 rfl rfl 8 (by decide) q1200 (fun _ h => h) rfl dX1_over_43 ?_
        refine lv_iload_n zx zb dX1_over_46 rfl (lv_at hl 2 rfl) ?_
        refine nv_iald (v := nI (longOf j)) zC hX 5 rfl (by omega) (by decide) rfl dX1_over_47 ?_
        refine nv_as (show nI (longOf j) = nI (min (longOf i) (longOf j)) from (congrArg nI (show _ = _ by omega))) ?_
        exact J48   _ _ _ hX (lv_sub hl [0, 1, 2] rfl)
      · refine lv_aload_n zx zb dX1_over_33 rfl (lv_at hl 0 rfl) ?_
        refine nv_get zC hX in_X1 0 rfl rfl 8 (by decide) q1200 (fun _ h => h) rfl dX1_over_34 ?_
        refine lv_iload_n zx zb dX1_over_37 rfl (lv_at hl 1 rfl) ?_
        refine nv_iald (v := nI (longOf i)) zC hX 5 rfl (by omega) (by decide) rfl dX1_over_38 ?_
        refine lv_goto (tgt := 48) zx zb dX1_over_39 (by decide) ?_
        refine nv_as (show nI (longOf i) = nI (min (longOf i) (longOf j)) from (congrArg nI (show _ = _ by omega))) ?_
        exact J48   _ _ _ hX (lv_sub hl [0, 1, 2] rfl)
    · refine lv_iconst (v := (-1)) zx zb dX1_over_16 (by decide) ?_
      rw [← zQ]
      exact nv_endi zC zr zk () hX (by unfold F_over; rw [if_neg (fun z => absurd (z.2.symm.trans c13) (by decide))]) (by omega) (by omega) dX1_over_17

set_option maxHeartbeats 4000000 in
theorem mm_hush   (hw4 : words ≤ 4) : nMt l D dA a0 yX1_hush cX1_hush 2 (some .int) 1 12 0 0 nvG0 [.ref (a 0)] (mW dA a fault trace sorts shL cells words said kind longOf letters saidRow at_ rdW rKind rLong rLet looked lkL next heard far ways waysT free freeT rdgs rWord rMany rStands rRow ex) (nQi D a0 (fun (r : Int32) (said' : Nat) => r = F_hush words said ∧ said' = G_hush words said) (fun (said' : Nat) => mW dA a fault trace sorts shL cells words said' kind longOf letters saidRow at_ rdW rKind rLong rLet looked lkL next heard far ways waysT free freeT rdgs rWord rMany rStands rRow ex)) := by
  refine nv_start (by decide) (Nat.le_of_ble_eq_true rfl) fun zp ze s zm zlo zme zcd ls zC zr zk znm hX zG hl => ?_
  have zx := zC.1
  have zb := zC.2.1
  generalize zargs : ([.ref (a 0)] : List Value).toArray = zar at zC ⊢
  generalize zQ : MQ zlo _ zar s _ _ _ = Q
  have hX : nvS D a0 (mW dA a fault trace sorts shL cells words said kind longOf letters saidRow at_ rdW rKind rLong rLet looked lkL next heard far ways waysT free freeT rdgs rWord rMany rStands rRow ex) s.heap s.heap [] := hX
  have hl : lv_has ls 2 [(0, .ref (a 0))] := hl
  obtain ⟨H, zH⟩ : ∃ H, H = s.heap := ⟨_, rfl⟩
  have hX : nvS D a0 (mW dA a fault trace sorts shL cells words said kind longOf letters saidRow at_ rdW rKind rLong rLet looked lkL next heard far ways waysT free freeT rdgs rWord rMany rStands rRow ex) s.heap H [] := by rw [zH]; exact hX
  rw [show W zp l ze (rm_ 1 12 0 0) s zm zar zlo zme zcd s.heap [] 0 0 Q = W zp l ze (rm_ 1 12 0 0) s zm zar zlo zme zcd H [] 0 0 Q by rw [zH]]
  generalize ([] : List Loc) = locs at hX ⊢
  refine lv_aload_n zx zb dX1_hush_0 rfl (lv_at hl 0 rfl) ?_
  refine nv_get zC hX in_X1 0 rfl rfl 5 (by decide) q1197 (fun _ h => h) rfl dX1_hush_1 ?_
  refine nv_if_ne (tgt := 10) zx zb (by omega) dX1_hush_4 (by decide) (fun c4 => ?_) (fun c4 => ?_)
  · refine lv_aload_n zx zb dX1_hush_10 rfl (lv_at hl 0 rfl) ?_
    refine nv_get zC hX in_X1 0 rfl rfl 6 (by decide) q1198 (fun _ h => h) rfl dX1_hush_11 ?_
    refine lv_istore_n (lv' := [(1, .int (nI said)), (0, .ref (a 0))]) zx zb dX1_hush_14 rfl hl (by decide) rfl (fun ls hl => ?_)
    refine lv_aload_n zx zb dX1_hush_15 rfl (lv_at hl 1 rfl) ?_
    refine lv_iconst (v := nI 0) zx zb dX1_hush_16 (by decide) ?_
    refine nv_put zC hX in_X1 tyX1 tyX1_ok nmX1 0 rfl rfl 6 (by decide) q1198 (fun _ h => h) rfl rfl rfl (Nat.le_of_ble_eq_true rfl) (w' := mW dA a fault trace sorts shL cells words 0 kind longOf letters saidRow at_ rdW rKind rLong rLet looked lkL next heard far ways waysT free freeT rdgs rWord rMany rStands rRow ex) rfl dX1_hush_17 (fun H locs hX => ?_)
    refine lv_iload_n zx zb dX1_hush_20 rfl (lv_at hl 0 rfl) ?_
    rw [← zQ]
    exact nv_endi zC zr zk 0 hX (by exact ⟨by unfold F_hush; rw [if_neg (by omega)], by unfold G_hush; rw [if_neg (by omega)]⟩) (by omega) (by omega) dX1_hush_21
  · refine lv_bipush (v := (-3)) zx zb dX1_hush_7 (by decide) ?_
    rw [← zQ]
    exact nv_endi zC zr zk said hX (by exact ⟨by unfold F_hush; rw [if_pos c4], by unfold G_hush; rw [if_pos c4]⟩) (by omega) (by omega) dX1_hush_9

set_option maxHeartbeats 4000000 in
theorem mm_say  (v : Int32) (hok : mOK words kind longOf letters) (hlk : ∀ j, looked j < 3) (hsd : ∀ j, saidRow j < 3) (hs60 : said ≤ 60) : nMt l D dA a0 yX1_say cX1_say 2 (some .int) 4 85 0 0 nvG0 [.ref (a 0), .int v] (mW dA a fault trace sorts shL cells words said kind longOf letters saidRow at_ rdW rKind rLong rLet looked lkL next heard far ways waysT free freeT rdgs rWord rMany rStands rRow ex) (nQi D a0 (fun (r : Int32) (u : (Nat → Nat) × Nat × (Nat → Nat) × Nat) => r = F_say words said kind longOf letters saidRow v ∧ u.1 = G_sayRow words said saidRow v ∧ u.2.1 = G_said words said v ∧ (∀ j, u.2.2.1 j < 3)) (fun (u : (Nat → Nat) × Nat × (Nat → Nat) × Nat) => mW dA a fault trace sorts shL cells words u.2.1 kind longOf letters u.1 at_ rdW rKind rLong rLet u.2.2.1 u.2.2.2 next heard far ways waysT free freeT rdgs rWord rMany rStands rRow ex)) := by
  refine nv_start (by decide) (Nat.le_of_ble_eq_true rfl) fun zp ze s zm zlo zme zcd ls zC zr zk znm hX zG hl => ?_
  have zx := zC.1
  have zb := zC.2.1
  generalize zargs : ([.ref (a 0), .int v] : List Value).toArray = zar at zC ⊢
  generalize zQ : MQ zlo _ zar s _ _ _ = Q
  have hX : nvS D a0 (mW dA a fault trace sorts shL cells words said kind longOf letters saidRow at_ rdW rKind rLong rLet looked lkL next heard far ways waysT free freeT rdgs rWord rMany rStands rRow ex) s.heap s.heap [] := hX
  have hl : lv_has ls 2 [(0, .ref (a 0)), (1, .int v)] := hl
  obtain ⟨H, zH⟩ : ∃ H, H = s.heap := ⟨_, rfl⟩
  have hX : nvS D a0 (mW dA a fault trace sorts shL cells words said kind longOf letters saidRow at_ rdW rKind rLong rLet looked lkL next heard far ways waysT free freeT rdgs rWord rMany rStands rRow ex) s.heap H [] := by rw [zH]; exact hX
  rw [show W zp l ze (rm_ 4 85 0 0) s zm zar zlo zme zcd s.heap [] 0 0 Q = W zp l ze (rm_ 4 85 0 0) s zm zar zlo zme zcd H [] 0 0 Q by rw [zH]]
  generalize ([] : List Loc) = locs at hX ⊢
  have hw4 := hok.1
  have hlt := hok.2.2.2
  refine lv_iload_n zx zb dX1_say_0 rfl (lv_at hl 1 rfl) ?_
  refine lv_iconst (v := nI 0) zx zb dX1_say_1 (by decide) ?_
  refine lv_iconst (v := nI 2) zx zb dX1_say_2 (by decide) ?_
  refine nv_ki zC hX (nv_rS (n := 3) (As := [.int v, .int (nI 0), .int (nI 2)]) (rest := []) zC hX (mm_within (v := v) (lo := nI 0) (hi := nI 2)) nvGb0 (fun _ _ _ => trivial) q1290 q1291 q63 q1292 (by decide +kernel) rfl ⟨Nat.le_of_ble_eq_true rfl, Nat.le_of_ble_eq_true rfl⟩ hl.1 (Nat.le_of_ble_eq_true rfl) dX1_say_3 ⟨by first | exact Nat.le_of_ble_eq_true rfl | omega, by first | exact Nat.le_of_ble_eq_true rfl | omega⟩) (fun r u H locs hp hX => ?_)
  have hr_ : r = nB (inN v 0 2) := hp
  subst hr_
  have hX : nvS D a0 (mW dA a fault trace sorts shL cells words said kind longOf letters saidRow at_ rdW rKind rLong rLet looked lkL next heard far ways waysT free freeT rdgs rWord rMany rStands rRow ex) s.heap H locs := hX
  refine W.cs (cells' := 0) (slots' := 0) (Nat.add_zero _) (Nat.add_zero _) ?_
  refine nv_if_neB (tgt := 12) zx zb dX1_say_6 (by decide) (fun c6 => ?_) (fun c6 => ?_)
  · obtain ⟨jj, -, hj, rfl⟩ := inN_t (by decide) (by decide) c6
    refine lv_aload_n zx zb dX1_say_12 rfl (lv_at hl 0 rfl) ?_
    refine nv_get zC hX in_X1 0 rfl rfl 5 (by decide) q1197 (fun _ h => h) rfl dX1_say_13 ?_
    refine nv_if_ne (tgt := 22) zx zb (by omega) dX1_say_16 (by decide) (fun c16 => ?_) (fun c16 => ?_)
    · refine lv_aload_n zx zb dX1_say_22 rfl (lv_at hl 0 rfl) ?_
      refine nv_get zC hX in_X1 0 rfl rfl 6 (by decide) q1198 (fun _ h => h) rfl dX1_say_23 ?_
      refine lv_bipush (v := nI 60) zx zb dX1_say_26 (by decide) ?_
      refine nv_icmp_ne (tgt := 34) zx zb (by omega) (by omega) dX1_say_28 (by decide) (fun c28 => ?_) (fun c28 => ?_)
      · refine lv_aload_n zx zb dX1_say_34 rfl (lv_at hl 0 rfl) ?_
        refine nv_get zC hX in_X1 0 rfl rfl 10 (by decide) q1202 (fun _ h => h) rfl dX1_say_35 ?_
        refine lv_aload_n zx zb dX1_say_38 rfl (lv_at hl 0 rfl) ?_
        refine nv_get zC hX in_X1 0 rfl rfl 6 (by decide) q1198 (fun _ h => h) rfl dX1_say_39 ?_
        refine lv_iload_n zx zb dX1_say_42 rfl (lv_at hl 1 rfl) ?_
        refine nv_iast zC hX 7 rfl (by omega) (by decide) (nF_up _ _ _) (w' := mW dA a fault trace sorts shL cells words said kind longOf letters (va_up saidRow said jj) at_ rdW rKind rLong rLet looked lkL next heard far ways waysT free freeT rdgs rWord rMany rStands rRow ex) rfl dX1_say_43 (fun H locs hX => ?_)
        refine lv_aload_n zx zb dX1_say_44 rfl (lv_at hl 0 rfl) ?_
        refine lv_dup zx zb dX1_say_45 rfl ?_
        refine nv_get zC hX in_X1 0 rfl rfl 6 (by decide) q1198 (fun _ h => h) rfl dX1_say_46 ?_
        refine lv_iconst (v := nI 1) zx zb dX1_say_49 (by decide) ?_
        refine nv_iadd zx zb dX1_say_50 ?_
        refine nv_put zC hX in_X1 tyX1 tyX1_ok nmX1 0 rfl rfl 6 (by decide) q1198 (fun _ h => h) rfl rfl rfl (Nat.le_of_ble_eq_true rfl) (w' := mW dA a fault trace sorts shL cells words (said + 1) kind longOf letters (va_up saidRow said jj) at_ rdW rKind rLong rLet looked lkL next heard far ways waysT free freeT rdgs rWord rMany rStands rRow ex) rfl dX1_say_51 (fun H locs hX => ?_)
        refine lv_aload_n zx zb dX1_say_54 rfl (lv_at hl 0 rfl) ?_
        refine nv_kv zC hX (nv_rV (n := 0) (As := []) (rest := []) (q0 := 0) zC hX (mm_lookAtSaid (hlk := (by first | assumption | omega)) (hsd := (up_lt hsd (by omega))) (hs60 := (by first | assumption | omega))) nvGb0 (fun _ _ _ => trivial) rfl rfl q1332 q1334 qs37 q63 q1335 (by decide +kernel) rfl ⟨Nat.le_of_ble_eq_true rfl, Nat.le_of_ble_eq_true rfl⟩ hl.1 (Nat.le_of_ble_eq_true rfl) dX1_say_55 ⟨by first | exact Nat.le_of_ble_eq_true rfl | omega, by first | exact Nat.le_of_ble_eq_true rfl | omega⟩) (fun u H locs hp hX => ?_)
        obtain ⟨looked'_2, rfl⟩ : ∃ z, z = u := ⟨_, rfl⟩
        have h55 : (∀ j, j < (said + 1) → looked'_2 j = (va_up saidRow said jj) j) ∧ (∀ j, looked'_2 j < 3) := hp
        have hX : nvS D a0 (mW dA a fault trace sorts shL cells words (said + 1) kind longOf letters (va_up saidRow said jj) at_ rdW rKind rLong rLet looked'_2 (said + 1) next heard far ways waysT free freeT rdgs rWord rMany rStands rRow ex) s.heap H locs := hX
        refine W.cs (cells' := 0) (slots' := 0) (Nat.add_zero _) (Nat.add_zero _) ?_
        obtain ⟨hl1, hl2⟩ := h55
        refine lv_aload_n zx zb dX1_say_58 rfl (lv_at hl 0 rfl) ?_
        refine lv_aload_n zx zb dX1_say_59 rfl (lv_at hl 0 rfl) ?_
        refine nv_get zC hX in_X1 0 rfl rfl 6 (by decide) q1198 (fun _ h => h) rfl dX1_say_60 ?_
        refine nv_ki zC hX (nv_rV (n := 1) (As := [.int (nI (said + 1))]) (rest := []) (q0 := 0) zC hX (mm_heardBehind (b := said + 1) (hok := (by first | assumption | omega)) (hlk := (by first | assumption | omega)) (hb := (by first | assumption | omega))) nvGb0 (fun _ _ _ => trivial) rfl rfl q1352 q1354 qs40 q63 q1355 (by decide +kernel) rfl ⟨Nat.le_of_ble_eq_true rfl, Nat.le_of_ble_eq_true rfl⟩ hl.1 (Nat.le_of_ble_eq_true rfl) dX1_say_63 ⟨by first | exact Nat.le_of_ble_eq_true rfl | omega, by first | exact Nat.le_of_ble_eq_true rfl | omega⟩) (fun r u H locs hp hX => ?_)
        have hr_ : r = nI (hbW kind longOf letters looked'_2 words (said + 1)) := hp
        subst hr_
        have hX : nvS D a0 (mW dA a fault trace sorts shL cells words (said + 1) kind longOf letters (va_up saidRow said jj) at_ rdW rKind rLong rLet looked'_2 (said + 1) next heard far ways waysT free freeT rdgs rWord rMany rStands rRow ex) s.heap H locs := hX
        refine W.cs (cells' := 0) (slots' := 0) (Nat.add_zero _) (Nat.add_zero _) ?_
        rw [← zQ]
        exact nv_endi zC zr zk (va_up saidRow said jj, said + 1, looked'_2, said + 1) hX (by (try dsimp only); have h0 : okSay words said (nI jj) = true := (by unfold okSay; rw [show inN (nI jj) 0 2 = true from c6, decide_eq_true (show 0 < words by omega), decide_eq_true c28]; rfl); exact ⟨by unfold F_say; rw [h0, if_pos rfl, i2n, nI_clamp (show jj < 2 ^ 31 by omega)]; exact congrArg nI (hbW_cg hl1), by unfold G_sayRow; rw [h0, i2n, nI_clamp (show jj < 2 ^ 31 by omega)]; rfl, by unfold G_said; rw [h0]; rfl, hl2⟩) (by omega) (by omega) dX1_say_66
      · refine lv_bipush (v := (-4)) zx zb dX1_say_31 (by decide) ?_
        rw [← zQ]
        exact nv_endi zC zr zk (saidRow, said, looked, lkL) hX (by (try dsimp only); have h0 : okSay words said (nI jj) = false := (by unfold okSay; rw [show decide (said ≠ 60) = false from decide_eq_false (by omega)]; simp); exact ⟨by unfold F_say; rw [h0, if_neg (by decide), if_neg (fun z => absurd (z.symm.trans c6) (by decide)), if_neg (by omega)], by unfold G_sayRow; rw [h0]; rfl, by unfold G_said; rw [h0]; rfl, hlk⟩) (by omega) (by omega) dX1_say_33
    · refine lv_bipush (v := (-3)) zx zb dX1_say_19 (by decide) ?_
      rw [← zQ]
      exact nv_endi zC zr zk (saidRow, said, looked, lkL) hX (by (try dsimp only); have h0 : okSay words said (nI jj) = false := (by unfold okSay; rw [show decide (0 < words) = false from decide_eq_false (by omega)]; simp); exact ⟨by unfold F_say; rw [h0, if_neg (by decide), if_neg (fun z => absurd (z.symm.trans c6) (by decide)), if_pos c16], by unfold G_sayRow; rw [h0]; rfl, by unfold G_said; rw [h0]; rfl, hlk⟩) (by omega) (by omega) dX1_say_21
  · refine lv_bipush (v := (-2)) zx zb dX1_say_9 (by decide) ?_
    rw [← zQ]
    exact nv_endi zC zr zk (saidRow, said, looked, lkL) hX (by (try dsimp only); have h0 : okSay words said v = false := (by unfold okSay; rw [show inN v 0 2 = false from c6]; rfl); exact ⟨by unfold F_say; rw [h0, if_neg (by decide), if_pos c6], by unfold G_sayRow; rw [h0]; rfl, by unfold G_said; rw [h0]; rfl, hlk⟩) (by omega) (by omega) dX1_say_11

set_option maxHeartbeats 4000000 in
theorem mm_spell  (x : Int32) (k : Int32) (v : Int32) (hok : mOK words kind longOf letters) (hl1 : ∀ w, w < words → 1 ≤ longOf w) : nMt l D dA a0 yX1_spell cX1_spell 5 (some .int) 2 34 0 0 nvG0 [.ref (a 0), .int x, .int k, .int v] (mW dA a fault trace sorts shL cells words said kind longOf letters saidRow at_ rdW rKind rLong rLet looked lkL next heard far ways waysT free freeT rdgs rWord rMany rStands rRow ex) (nQi D a0 (fun (r : Int32) (letters' : Nat → Nat) => r = F_spell words longOf letters x k v ∧ letters' = G_spell words longOf letters x k v) (fun (letters' : Nat → Nat) => mW dA a fault trace sorts shL cells words said kind longOf letters' saidRow at_ rdW rKind rLong rLet looked lkL next heard far ways waysT free freeT rdgs rWord rMany rStands rRow ex)) := by
  refine nv_start (by decide) (Nat.le_of_ble_eq_true rfl) fun zp ze s zm zlo zme zcd ls zC zr zk znm hX zG hl => ?_
  have zx := zC.1
  have zb := zC.2.1
  generalize zargs : ([.ref (a 0), .int x, .int k, .int v] : List Value).toArray = zar at zC ⊢
  generalize zQ : MQ zlo _ zar s _ _ _ = Q
  have hX : nvS D a0 (mW dA a fault trace sorts shL cells words said kind longOf letters saidRow at_ rdW rKind rLong rLet looked lkL next heard far ways waysT free freeT rdgs rWord rMany rStands rRow ex) s.heap s.heap [] := hX
  have hl : lv_has ls 5 [(0, .ref (a 0)), (1, .int x), (2, .int k), (3, .int v)] := hl
  obtain ⟨H, zH⟩ : ∃ H, H = s.heap := ⟨_, rfl⟩
  have hX : nvS D a0 (mW dA a fault trace sorts shL cells words said kind longOf letters saidRow at_ rdW rKind rLong rLet looked lkL next heard far ways waysT free freeT rdgs rWord rMany rStands rRow ex) s.heap H [] := by rw [zH]; exact hX
  rw [show W zp l ze (rm_ 2 34 0 0) s zm zar zlo zme zcd s.heap [] 0 0 Q = W zp l ze (rm_ 2 34 0 0) s zm zar zlo zme zcd H [] 0 0 Q by rw [zH]]
  generalize ([] : List Loc) = locs at hX ⊢
  have hw4 := hok.1
  have hlt := hok.2.2.2
  refine lv_aload_n zx zb dX1_spell_0 rfl (lv_at hl 0 rfl) ?_
  refine lv_iload_n zx zb dX1_spell_1 rfl (lv_at hl 1 rfl) ?_
  refine nv_ki zC hX (nv_rV (n := 1) (As := [.int x]) (rest := []) (q0 := 0) zC hX (mm_isWord (v := x)) nvGb0 (fun _ _ _ => trivial) rfl rfl q1320 q1322 qs34 q63 q1323 (by decide +kernel) rfl ⟨Nat.le_of_ble_eq_true rfl, Nat.le_of_ble_eq_true rfl⟩ hl.1 (Nat.le_of_ble_eq_true rfl) dX1_spell_2 ⟨by first | exact Nat.le_of_ble_eq_true rfl | omega, by first | exact Nat.le_of_ble_eq_true rfl | omega⟩) (fun r u H locs hp hX => ?_)
  have hr_ : r = nB (isW words x) := hp
  subst hr_
  have hX : nvS D a0 (mW dA a fault trace sorts shL cells words said kind longOf letters saidRow at_ rdW rKind rLong rLet looked lkL next heard far ways waysT free freeT rdgs rWord rMany rStands rRow ex) s.heap H locs := hX
  refine W.cs (cells' := 0) (slots' := 0) (Nat.add_zero _) (Nat.add_zero _) ?_
  refine nv_if_eqB (tgt := 24) zx zb dX1_spell_5 (by decide) (fun c5 => ?_) (fun c5 => ?_)
  · refine lv_iconst (v := (-1)) zx zb dX1_spell_24 (by decide) ?_
    rw [← zQ]
    exact nv_endi zC zr zk letters hX (by have h0 : okSpell words longOf x k v = false := (by unfold okSpell; rw [c5]; rfl); exact ⟨by unfold F_spell; rw [h0, if_neg (by decide), if_neg (fun z => absurd (z.1.symm.trans c5) (by decide))], by unfold G_spell; rw [h0]; rfl⟩) (by omega) (by omega) dX1_spell_25
  · obtain ⟨ii, hi, rfl⟩ := isW_t (by omega) c5
    have hln_i := hok.2.2.1 ii
    have hl1_i := hl1 ii hi
    have ei : i2n (nI ii) = ii := nI_clamp (by omega)
    refine lv_iload_n zx zb dX1_spell_8 rfl (lv_at hl 2 rfl) ?_
    refine lv_iconst (v := nI 0) zx zb dX1_spell_9 (by decide) ?_
    refine lv_aload_n zx zb dX1_spell_10 rfl (lv_at hl 0 rfl) ?_
    refine nv_get zC hX in_X1 0 rfl rfl 8 (by decide) q1200 (fun _ h => h) rfl dX1_spell_11 ?_
    refine lv_iload_n zx zb dX1_spell_14 rfl (lv_at hl 1 rfl) ?_
    refine nv_iald (v := nI (longOf ii)) zC hX 5 rfl (by omega) (by decide) rfl dX1_spell_15 ?_
    refine lv_iconst (v := nI 1) zx zb dX1_spell_16 (by decide) ?_
    refine nv_isub zx zb (by omega) dX1_spell_17 ?_
    refine nv_ki zC hX (nv_rS (n := 3) (As := [.int k, .int (nI 0), .int (nI ((longOf ii) - 1))]) (rest := []) zC hX (mm_within (v := k) (lo := nI 0) (hi := nI ((longOf ii) - 1))) nvGb0 (fun _ _ _ => trivial) q1290 q1291 q63 q1292 (by decide +kernel) rfl ⟨Nat.le_of_ble_eq_true rfl, Nat.le_of_ble_eq_true rfl⟩ hl.1 (Nat.le_of_ble_eq_true rfl) dX1_spell_18 ⟨by first | exact Nat.le_of_ble_eq_true rfl | omega, by first | exact Nat.le_of_ble_eq_true rfl | omega⟩) (fun r u H locs hp hX => ?_)
    have hr_ : r = nB (inN k 0 ((longOf ii) - 1)) := hp
    subst hr_
    have hX : nvS D a0 (mW dA a fault trace sorts shL cells words said kind longOf letters saidRow at_ rdW rKind rLong rLet looked lkL next heard far ways waysT free freeT rdgs rWord rMany rStands rRow ex) s.heap H locs := hX
    refine W.cs (cells' := 0) (slots' := 0) (Nat.add_zero _) (Nat.add_zero _) ?_
    refine nv_if_neB (tgt := 26) zx zb dX1_spell_21 (by decide) (fun c21 => ?_) (fun c21 => ?_)
    · rw [isW_k hl1_i (by omega)] at c21
      obtain ⟨jj, hj, rfl⟩ := isW_t (by omega) c21
      have ej : i2n (nI jj) = jj := nI_clamp (by omega)
      refine lv_iload_n zx zb dX1_spell_26 rfl (lv_at hl 3 rfl) ?_
      refine lv_iconst (v := nI 0) zx zb dX1_spell_27 (by decide) ?_
      refine lv_iconst (v := nI 2) zx zb dX1_spell_28 (by decide) ?_
      refine nv_ki zC hX (nv_rS (n := 3) (As := [.int v, .int (nI 0), .int (nI 2)]) (rest := []) zC hX (mm_within (v := v) (lo := nI 0) (hi := nI 2)) nvGb0 (fun _ _ _ => trivial) q1290 q1291 q63 q1292 (by decide +kernel) rfl ⟨Nat.le_of_ble_eq_true rfl, Nat.le_of_ble_eq_true rfl⟩ hl.1 (Nat.le_of_ble_eq_true rfl) dX1_spell_29 ⟨by first | exact Nat.le_of_ble_eq_true rfl | omega, by first | exact Nat.le_of_ble_eq_true rfl | omega⟩) (fun r u H locs hp hX => ?_)
      have hr_ : r = nB (inN v 0 2) := hp
      subst hr_
      have hX : nvS D a0 (mW dA a fault trace sorts shL cells words said kind longOf letters saidRow at_ rdW rKind rLong rLet looked lkL next heard far ways waysT free freeT rdgs rWord rMany rStands rRow ex) s.heap H locs := hX
      refine W.cs (cells' := 0) (slots' := 0) (Nat.add_zero _) (Nat.add_zero _) ?_
      refine nv_if_neB (tgt := 38) zx zb dX1_spell_32 (by decide) (fun c32 => ?_) (fun c32 => ?_)
      · obtain ⟨uu, -, hu, rfl⟩ := inN_t (by decide) (by decide) c32
        have eu : i2n (nI uu) = uu := nI_clamp (by omega)
        refine lv_aload_n zx zb dX1_spell_38 rfl (lv_at hl 0 rfl) ?_
        refine nv_get zC hX in_X1 0 rfl rfl 9 (by decide) q1201 (fun _ h => h) rfl dX1_spell_39 ?_
        refine lv_iconst (v := nI 4) zx zb dX1_spell_42 (by decide) ?_
        refine lv_iload_n zx zb dX1_spell_43 rfl (lv_at hl 1 rfl) ?_
        refine nv_imul zx zb dX1_spell_44 ?_
        refine lv_iload_n zx zb dX1_spell_45 rfl (lv_at hl 2 rfl) ?_
        refine nv_iadd zx zb dX1_spell_46 ?_
        refine nv_iald (v := nI (letters ((4 * ii) + jj))) zC hX 6 rfl (by omega) (by decide) rfl dX1_spell_47 ?_
        refine lv_istore (lv' := [(4, .int (nI (letters ((4 * ii) + jj)))), (0, .ref (a 0)), (1, .int (nI ii)), (2, .int (nI jj)), (3, .int (nI uu))]) zx zb dX1_spell_48 hl (by decide) rfl (fun ls hl => ?_)
        refine lv_aload_n zx zb dX1_spell_50 rfl (lv_at hl 1 rfl) ?_
        refine nv_get zC hX in_X1 0 rfl rfl 9 (by decide) q1201 (fun _ h => h) rfl dX1_spell_51 ?_
        refine lv_iconst (v := nI 4) zx zb dX1_spell_54 (by decide) ?_
        refine lv_iload_n zx zb dX1_spell_55 rfl (lv_at hl 2 rfl) ?_
        refine nv_imul zx zb dX1_spell_56 ?_
        refine lv_iload_n zx zb dX1_spell_57 rfl (lv_at hl 3 rfl) ?_
        refine nv_iadd zx zb dX1_spell_58 ?_
        refine lv_iload_n zx zb dX1_spell_59 rfl (lv_at hl 4 rfl) ?_
        refine nv_iast zC hX 6 rfl (by omega) (by decide) (nF_up _ _ _) (w' := mW dA a fault trace sorts shL cells words said kind longOf (va_up letters ((4 * ii) + jj) uu) saidRow at_ rdW rKind rLong rLet looked lkL next heard far ways waysT free freeT rdgs rWord rMany rStands rRow ex) rfl dX1_spell_60 (fun H locs hX => ?_)
        refine lv_iload zx zb dX1_spell_61 (lv_at hl 0 rfl) ?_
        rw [← zQ]
        exact nv_endi zC zr zk (va_up letters ((4 * ii) + jj) uu) hX (by have h0 : okSpell words longOf (nI ii) (nI jj) (nI uu) = true := (by unfold okSpell; rw [ei, c5, c21, show inN (nI uu) 0 2 = true from c32]; rfl); exact ⟨by unfold F_spell; rw [h0, if_pos rfl, ei, ej], by unfold G_spell; rw [h0, ei, ej, eu]; rfl⟩) (by omega) (by omega) dX1_spell_63
      · refine lv_bipush (v := (-2)) zx zb dX1_spell_35 (by decide) ?_
        rw [← zQ]
        exact nv_endi zC zr zk letters hX (by have h0 : okSpell words longOf (nI ii) (nI jj) v = false := (by unfold okSpell; rw [show inN v 0 2 = false from c32, Bool.and_false, Bool.and_false]); exact ⟨by unfold F_spell; rw [h0, if_neg (by decide), ei, if_pos ⟨c5, c21⟩], by unfold G_spell; rw [h0]; rfl⟩) (by omega) (by omega) dX1_spell_37
    · rw [isW_k hl1_i (by omega)] at c21
      refine lv_iconst (v := (-1)) zx zb dX1_spell_24 (by decide) ?_
      rw [← zQ]
      exact nv_endi zC zr zk letters hX (by have h0 : okSpell words longOf (nI ii) k v = false := (by unfold okSpell; rw [ei, c21, Bool.false_and, Bool.and_false]); exact ⟨by unfold F_spell; rw [h0, if_neg (by decide), if_neg (fun z => by rw [ei] at z; exact absurd (z.2.symm.trans c21) (by decide))], by unfold G_spell; rw [h0]; rfl⟩) (by omega) (by omega) dX1_spell_25

set_option maxHeartbeats 4000000 in
theorem mm_ofWord  (x : Int32) (what : Int32) (hok : mOK words kind longOf letters) (hlk : ∀ j, looked j < 3) (hsd : ∀ j, saidRow j < 3) (hs60 : said ≤ 60) : nMt l D dA a0 yX1_ofWord cX1_ofWord 3 (some .int) 4 85 0 0 nvG0 [.ref (a 0), .int x, .int what] (mW dA a fault trace sorts shL cells words said kind longOf letters saidRow at_ rdW rKind rLong rLet looked lkL next heard far ways waysT free freeT rdgs rWord rMany rStands rRow ex) (nQi D a0 (fun (r : Int32) (u : (Nat → Nat) × Nat) => r = F_ofWord words said kind longOf letters saidRow x what ∧ (∀ j, u.1 j < 3)) (fun (u : (Nat → Nat) × Nat) => mW dA a fault trace sorts shL cells words said kind longOf letters saidRow at_ rdW rKind rLong rLet u.1 u.2 next heard far ways waysT free freeT rdgs rWord rMany rStands rRow ex)) := by
  refine nv_start (by decide) (Nat.le_of_ble_eq_true rfl) fun zp ze s zm zlo zme zcd ls zC zr zk znm hX zG hl => ?_
  have zx := zC.1
  have zb := zC.2.1
  generalize zargs : ([.ref (a 0), .int x, .int what] : List Value).toArray = zar at zC ⊢
  generalize zQ : MQ zlo _ zar s _ _ _ = Q
  have hX : nvS D a0 (mW dA a fault trace sorts shL cells words said kind longOf letters saidRow at_ rdW rKind rLong rLet looked lkL next heard far ways waysT free freeT rdgs rWord rMany rStands rRow ex) s.heap s.heap [] := hX
  have hl : lv_has ls 3 [(0, .ref (a 0)), (1, .int x), (2, .int what)] := hl
  obtain ⟨H, zH⟩ : ∃ H, H = s.heap := ⟨_, rfl⟩
  have hX : nvS D a0 (mW dA a fault trace sorts shL cells words said kind longOf letters saidRow at_ rdW rKind rLong rLet looked lkL next heard far ways waysT free freeT rdgs rWord rMany rStands rRow ex) s.heap H [] := by rw [zH]; exact hX
  rw [show W zp l ze (rm_ 4 85 0 0) s zm zar zlo zme zcd s.heap [] 0 0 Q = W zp l ze (rm_ 4 85 0 0) s zm zar zlo zme zcd H [] 0 0 Q by rw [zH]]
  generalize ([] : List Loc) = locs at hX ⊢
  have hw4 := hok.1
  have hlt := hok.2.2.2
  refine lv_aload_n zx zb dX1_ofWord_0 rfl (lv_at hl 0 rfl) ?_
  refine lv_iload_n zx zb dX1_ofWord_1 rfl (lv_at hl 1 rfl) ?_
  refine nv_ki zC hX (nv_rV (n := 1) (As := [.int x]) (rest := []) (q0 := 0) zC hX (mm_isWord (v := x)) nvGb0 (fun _ _ _ => trivial) rfl rfl q1320 q1322 qs34 q63 q1323 (by decide +kernel) rfl ⟨Nat.le_of_ble_eq_true rfl, Nat.le_of_ble_eq_true rfl⟩ hl.1 (Nat.le_of_ble_eq_true rfl) dX1_ofWord_2 ⟨by first | exact Nat.le_of_ble_eq_true rfl | omega, by first | exact Nat.le_of_ble_eq_true rfl | omega⟩) (fun r u H locs hp hX => ?_)
  have hr_ : r = nB (isW words x) := hp
  subst hr_
  have hX : nvS D a0 (mW dA a fault trace sorts shL cells words said kind longOf letters saidRow at_ rdW rKind rLong rLet looked lkL next heard far ways waysT free freeT rdgs rWord rMany rStands rRow ex) s.heap H locs := hX
  refine W.cs (cells' := 0) (slots' := 0) (Nat.add_zero _) (Nat.add_zero _) ?_
  refine nv_if_neB (tgt := 10) zx zb dX1_ofWord_5 (by decide) (fun c5 => ?_) (fun c5 => ?_)
  · obtain ⟨ii, hi, rfl⟩ := isW_t (by omega) c5
    have hln_i := hok.2.2.1 ii
    have hkd_i := hok.2.1 ii
    have ei : i2n (nI ii) = ii := nI_clamp (by omega)
    refine lv_iload_n zx zb dX1_ofWord_10 rfl (lv_at hl 2 rfl) ?_
    refine lv_bipush (v := nI 10) zx zb dX1_ofWord_11 (by decide) ?_
    refine lv_bipush (v := nI 13) zx zb dX1_ofWord_13 (by decide) ?_
    refine nv_ki zC hX (nv_rS (n := 3) (As := [.int what, .int (nI 10), .int (nI 13)]) (rest := []) zC hX (mm_within (v := what) (lo := nI 10) (hi := nI 13)) nvGb0 (fun _ _ _ => trivial) q1290 q1291 q63 q1292 (by decide +kernel) rfl ⟨Nat.le_of_ble_eq_true rfl, Nat.le_of_ble_eq_true rfl⟩ hl.1 (Nat.le_of_ble_eq_true rfl) dX1_ofWord_15 ⟨by first | exact Nat.le_of_ble_eq_true rfl | omega, by first | exact Nat.le_of_ble_eq_true rfl | omega⟩) (fun r u H locs hp hX => ?_)
    have hr_ : r = nB (inN what 10 13) := hp
    subst hr_
    have hX : nvS D a0 (mW dA a fault trace sorts shL cells words said kind longOf letters saidRow at_ rdW rKind rLong rLet looked lkL next heard far ways waysT free freeT rdgs rWord rMany rStands rRow ex) s.heap H locs := hX
    refine W.cs (cells' := 0) (slots' := 0) (Nat.add_zero _) (Nat.add_zero _) ?_
    refine nv_if_eqB (tgt := 53) zx zb dX1_ofWord_18 (by decide) (fun c18 => ?_) (fun c18 => ?_)
    · refine lv_iload_n zx zb dX1_ofWord_53 rfl (lv_at hl 2 rfl) ?_
      rcases sw_lt (what) (n := 4) (by decide) with ⟨sw, swh, swe⟩ | swo
      · rcases (by omega : sw = 0 ∨ sw = 1 ∨ sw = 2 ∨ sw = 3) with swi | swi | swi | swi
        · rw [swi] at swe
          subst swe
          refine lv_tableIn (tgt := 84) zx zb dX1_ofWord_54 (by decide) (by decide) rfl (by decide) ?_
          refine lv_aload_n zx zb dX1_ofWord_84 rfl (lv_at hl 0 rfl) ?_
          refine nv_get zC hX in_X1 0 rfl rfl 7 (by decide) q1199 (fun _ h => h) rfl dX1_ofWord_85 ?_
          refine lv_iload_n zx zb dX1_ofWord_88 rfl (lv_at hl 1 rfl) ?_
          refine nv_iald (v := nI (kind ii)) zC hX 4 rfl (by omega) (by decide) rfl dX1_ofWord_89 ?_
          rw [← zQ]
          exact nv_endi zC zr zk (looked, lkL) hX (by (try dsimp only); refine ⟨?_, hlk⟩; unfold F_ofWord; rw [if_pos c5, if_neg (by decide), ei, if_pos rfl]) (by omega) (by omega) dX1_ofWord_90
        · rw [swi] at swe
          subst swe
          refine lv_tableIn (tgt := 91) zx zb dX1_ofWord_54 (by decide) (by decide) rfl (by decide) ?_
          refine lv_aload_n zx zb dX1_ofWord_91 rfl (lv_at hl 0 rfl) ?_
          refine nv_get zC hX in_X1 0 rfl rfl 8 (by decide) q1200 (fun _ h => h) rfl dX1_ofWord_92 ?_
          refine lv_iload_n zx zb dX1_ofWord_95 rfl (lv_at hl 1 rfl) ?_
          refine nv_iald (v := nI (longOf ii)) zC hX 5 rfl (by omega) (by decide) rfl dX1_ofWord_96 ?_
          rw [← zQ]
          exact nv_endi zC zr zk (looked, lkL) hX (by (try dsimp only); refine ⟨?_, hlk⟩; unfold F_ofWord; rw [if_pos c5, if_neg (by decide), ei, if_neg (by decide), if_pos rfl]) (by omega) (by omega) dX1_ofWord_97
        · rw [swi] at swe
          subst swe
          refine lv_tableIn (tgt := 98) zx zb dX1_ofWord_54 (by decide) (by decide) rfl (by decide) ?_
          refine lv_aload_n zx zb dX1_ofWord_98 rfl (lv_at hl 0 rfl) ?_
          refine lv_iload_n zx zb dX1_ofWord_99 rfl (lv_at hl 1 rfl) ?_
          refine nv_ki zC hX (nv_rV (n := 1) (As := [.int (nI ii)]) (rest := []) (q0 := 0) zC hX (mm_areForms (w := ii) (hok := (by first | assumption | omega)) (hw := (by first | assumption | omega))) nvGb0 (fun _ _ _ => trivial) rfl rfl q1324 q1326 qs35 q63 q1327 (by decide +kernel) rfl ⟨Nat.le_of_ble_eq_true rfl, Nat.le_of_ble_eq_true rfl⟩ hl.1 (Nat.le_of_ble_eq_true rfl) dX1_ofWord_100 ⟨by first | exact Nat.le_of_ble_eq_true rfl | omega, by first | exact Nat.le_of_ble_eq_true rfl | omega⟩) (fun r u H locs hp hX => ?_)
          have hr_ : r = nB (!decide (∀ k, k < longOf ii → hdF (kind ii) (longOf ii) (fun k => letters (4 * ii + k)) 0 k = hdF (kind ii) (longOf ii) (fun k => letters (4 * ii + k)) 1 k)) := hp
          subst hr_
          have hX : nvS D a0 (mW dA a fault trace sorts shL cells words said kind longOf letters saidRow at_ rdW rKind rLong rLet looked lkL next heard far ways waysT free freeT rdgs rWord rMany rStands rRow ex) s.heap H locs := hX
          refine W.cs (cells' := 0) (slots' := 0) (Nat.add_zero _) (Nat.add_zero _) ?_
          refine nv_if_eqB (tgt := 110) zx zb dX1_ofWord_103 (by decide) (fun c103 => ?_) (fun c103 => ?_)
          · refine lv_iconst (v := nI 1) zx zb dX1_ofWord_110 (by decide) ?_
            rw [← zQ]
            exact nv_endi zC zr zk (looked, lkL) hX (by (try dsimp only); refine ⟨?_, hlk⟩; unfold F_ofWord; rw [if_pos c5, if_neg (by decide), ei, if_neg (by decide), if_neg (by decide), if_pos rfl, if_neg (fun z => by rw [show frmB kind longOf letters ii = false from c103] at z; cases z)]) (by omega) (by omega) dX1_ofWord_111
          · refine lv_iconst (v := nI 2) zx zb dX1_ofWord_106 (by decide) ?_
            refine lv_goto (tgt := 111) zx zb dX1_ofWord_107 (by decide) ?_
            rw [← zQ]
            exact nv_endi zC zr zk (looked, lkL) hX (by (try dsimp only); refine ⟨?_, hlk⟩; unfold F_ofWord; rw [if_pos c5, if_neg (by decide), ei, if_neg (by decide), if_neg (by decide), if_pos rfl, if_pos (show frmB kind longOf letters ii = true from c103)]) (by omega) (by omega) dX1_ofWord_111
        · rw [swi] at swe
          subst swe
          refine lv_tableIn (tgt := 112) zx zb dX1_ofWord_54 (by decide) (by decide) rfl (by decide) ?_
          refine lv_aload_n zx zb dX1_ofWord_112 rfl (lv_at hl 0 rfl) ?_
          refine nv_kv zC hX (nv_rV (n := 0) (As := []) (rest := []) (q0 := 0) zC hX (mm_lookAtSaid (hlk := (by first | assumption | omega)) (hsd := (by first | assumption | omega)) (hs60 := (by first | assumption | omega))) nvGb0 (fun _ _ _ => trivial) rfl rfl q1332 q1334 qs37 q63 q1335 (by decide +kernel) rfl ⟨Nat.le_of_ble_eq_true rfl, Nat.le_of_ble_eq_true rfl⟩ hl.1 (Nat.le_of_ble_eq_true rfl) dX1_ofWord_113 ⟨by first | exact Nat.le_of_ble_eq_true rfl | omega, by first | exact Nat.le_of_ble_eq_true rfl | omega⟩) (fun u H locs hp hX => ?_)
          obtain ⟨looked'_4, rfl⟩ : ∃ z, z = u := ⟨_, rfl⟩
          have h113 : (∀ j, j < said → looked'_4 j = saidRow j) ∧ (∀ j, looked'_4 j < 3) := hp
          have hX : nvS D a0 (mW dA a fault trace sorts shL cells words said kind longOf letters saidRow at_ rdW rKind rLong rLet looked'_4 said next heard far ways waysT free freeT rdgs rWord rMany rStands rRow ex) s.heap H locs := hX
          refine W.cs (cells' := 0) (slots' := 0) (Nat.add_zero _) (Nat.add_zero _) ?_
          obtain ⟨hl1, hl2⟩ := h113
          refine lv_aload_n zx zb dX1_ofWord_116 rfl (lv_at hl 0 rfl) ?_
          refine lv_iload_n zx zb dX1_ofWord_117 rfl (lv_at hl 1 rfl) ?_
          refine nv_ki zC hX (nv_rV (n := 1) (As := [.int (nI ii)]) (rest := []) (q0 := 0) zC hX (mm_timesHeard (w := ii) (hok := (by first | assumption | omega)) (hlk := (by first | assumption | omega)) (hw := (by first | assumption | omega)) (hll := (by first | assumption | omega))) nvGb0 (fun _ _ _ => trivial) rfl rfl q1336 q1338 qs38 q63 q1339 (by decide +kernel) rfl ⟨Nat.le_of_ble_eq_true rfl, Nat.le_of_ble_eq_true rfl⟩ hl.1 (Nat.le_of_ble_eq_true rfl) dX1_ofWord_118 ⟨by first | exact Nat.le_of_ble_eq_true rfl | omega, by first | exact Nat.le_of_ble_eq_true rfl | omega⟩) (fun r u H locs hp hX => ?_)
          have hr_ : r = nI (tmW kind longOf letters looked'_4 said ii) := hp
          subst hr_
          have hX : nvS D a0 (mW dA a fault trace sorts shL cells words said kind longOf letters saidRow at_ rdW rKind rLong rLet looked'_4 said next heard far ways waysT free freeT rdgs rWord rMany rStands rRow ex) s.heap H locs := hX
          refine W.cs (cells' := 0) (slots' := 0) (Nat.add_zero _) (Nat.add_zero _) ?_
          rw [← zQ]
          exact nv_endi zC zr zk (looked'_4, said) hX (by (try dsimp only); refine ⟨?_, hl2⟩; unfold F_ofWord; rw [if_pos c5, if_neg (by decide), ei, if_neg (by decide), if_neg (by decide), if_neg (by decide), if_pos rfl]; exact congrArg nI (tmW_cg hl1)) (by omega) (by omega) dX1_ofWord_121
      · refine lv_tableOut (tgt := 122) zx zb dX1_ofWord_54 (by omega) (by decide) ?_
        refine lv_bipush (v := (-2)) zx zb dX1_ofWord_122 (by decide) ?_
        rw [← zQ]
        exact nv_endi zC zr zk (looked, lkL) hX (by (try dsimp only); refine ⟨?_, hlk⟩; unfold F_ofWord; have q : ∀ i : Nat, i < 4 → what ≠ nI i := fun i hi z => (by rw [z, nI_toInt (show i < 2 ^ 31 by omega)] at swo; omega); rw [if_pos c5, if_neg (fun z => absurd (z.symm.trans c18) (by decide)), if_neg (q 0 (by decide)), if_neg (q 1 (by decide)), if_neg (q 2 (by decide)), if_neg (q 3 (by decide))]) (by omega) (by omega) dX1_ofWord_124
    · obtain ⟨jj, hj0, hj, rfl⟩ := inN_t (by decide) (by decide) c18
      have ej : i2n (nI jj) = jj := nI_clamp (by omega)
      refine lv_iload_n zx zb dX1_ofWord_21 rfl (lv_at hl 2 rfl) ?_
      refine lv_bipush (v := nI 10) zx zb dX1_ofWord_22 (by decide) ?_
      refine nv_isub zx zb (by omega) dX1_ofWord_24 ?_
      refine lv_aload_n zx zb dX1_ofWord_25 rfl (lv_at hl 0 rfl) ?_
      refine nv_get zC hX in_X1 0 rfl rfl 8 (by decide) q1200 (fun _ h => h) rfl dX1_ofWord_26 ?_
      refine lv_iload_n zx zb dX1_ofWord_29 rfl (lv_at hl 1 rfl) ?_
      refine nv_iald (v := nI (longOf ii)) zC hX 5 rfl (by omega) (by decide) rfl dX1_ofWord_30 ?_
      refine nv_icmp_ge (tgt := 50) zx zb (by omega) (by omega) dX1_ofWord_31 (by decide) (fun c31 => ?_) (fun c31 => ?_)
      · refine lv_bipush (v := (-9)) zx zb dX1_ofWord_50 (by decide) ?_
        rw [← zQ]
        exact nv_endi zC zr zk (looked, lkL) hX (by (try dsimp only); refine ⟨?_, hlk⟩; unfold F_ofWord; rw [if_pos c5, if_pos c18, ei, ej, if_neg (by omega)]) (by omega) (by omega) dX1_ofWord_52
      · refine lv_aload_n zx zb dX1_ofWord_34 rfl (lv_at hl 0 rfl) ?_
        refine nv_get zC hX in_X1 0 rfl rfl 9 (by decide) q1201 (fun _ h => h) rfl dX1_ofWord_35 ?_
        refine lv_iconst (v := nI 4) zx zb dX1_ofWord_38 (by decide) ?_
        refine lv_iload_n zx zb dX1_ofWord_39 rfl (lv_at hl 1 rfl) ?_
        refine nv_imul zx zb dX1_ofWord_40 ?_
        refine lv_iload_n zx zb dX1_ofWord_41 rfl (lv_at hl 2 rfl) ?_
        refine nv_iadd zx zb dX1_ofWord_42 ?_
        refine lv_bipush (v := nI 10) zx zb dX1_ofWord_43 (by decide) ?_
        refine nv_isub zx zb (by omega) dX1_ofWord_45 ?_
        refine nv_iald (v := nI (letters (((4 * ii) + jj) - 10))) zC hX 6 rfl (by omega) (by decide) rfl dX1_ofWord_46 ?_
        refine lv_goto (tgt := 52) zx zb dX1_ofWord_47 (by decide) ?_
        rw [← zQ]
        exact nv_endi zC zr zk (looked, lkL) hX (by (try dsimp only); refine ⟨?_, hlk⟩; unfold F_ofWord; rw [if_pos c5, if_pos c18, ei, ej, if_pos (by omega), show 4 * ii + jj - 10 = 4 * ii + (jj - 10) by omega]) (by omega) (by omega) dX1_ofWord_52
  · refine lv_iconst (v := (-1)) zx zb dX1_ofWord_8 (by decide) ?_
    rw [← zQ]
    exact nv_endi zC zr zk (looked, lkL) hX (by (try dsimp only); exact ⟨by unfold F_ofWord; rw [if_neg (fun z => absurd (z.symm.trans c5) (by decide))], hlk⟩) (by omega) (by omega) dX1_ofWord_9
end
