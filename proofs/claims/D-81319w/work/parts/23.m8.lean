/-! THE MODEL: contracts, printed by tools/model.py -/
set_option maxRecDepth 100000
section
variable {l : Launch} {D : va_G} {dA : Nat → ClassId} {a0 : Nat} {a : Nat → Nat} {ex : va_W} {fault : Int32} {trace : Int32} {sorts : Nat → Option Nat} {shL : Nat → Nat} {cells : Nat → Int32} {words : Nat} {said : Nat} {kind : Nat → Nat} {longOf : Nat → Nat} {letters : Nat → Nat} {saidRow : Nat → Nat} {at_ : Nat} {rdW : Nat} {rKind : Nat → Option Nat} {rLong : Nat → Nat} {rLet : Nat → Nat} {looked : Nat → Nat} {lkL : Nat} {next : Nat → Nat} {heard : Nat → Nat} {far : Nat → Option Nat} {ways : Nat → Nat} {waysT : Nat → Nat} {free : Nat → Nat} {freeT : Nat → Nat} {rdgs : Nat} {rWord : Nat → Nat} {rMany : Nat → Nat} {rStands : Nat → Nat} {rRow : Nat → Nat}
set_option maxHeartbeats 4000000 in
theorem mm_isSign  (en : Nat) (code : Nat) (hen : en ≤ 240) (hat : at_ ≤ 240) (hcd : code < 2 ^ 31) : nMt l D dA a0 yX1_isSign cX1_isSign 3 (some .boolean) 1 12 0 0 nvG0 [.ref (a 0), .int (nI en), .int (nI code)] (mW dA a fault trace sorts shL cells words said kind longOf letters saidRow at_ rdW rKind rLong rLet looked lkL next heard far ways waysT free freeT rdgs rWord rMany rStands rRow ex) (nQi D a0 (fun (r : Int32) (at_' : Nat) => r = nB (isg cells at_ en code) ∧ at_' = (if isg cells at_ en code then at_ + 1 else at_)) (fun (at_' : Nat) => mW dA a fault trace sorts shL cells words said kind longOf letters saidRow at_' rdW rKind rLong rLet looked lkL next heard far ways waysT free freeT rdgs rWord rMany rStands rRow ex)) := by
  refine nv_start (by decide) (Nat.le_of_ble_eq_true rfl) fun zp ze s zm zlo zme zcd ls zC zr zk znm hX zG hl => ?_
  have zx := zC.1
  have zb := zC.2.1
  generalize zargs : ([.ref (a 0), .int (nI en), .int (nI code)] : List Value).toArray = zar at zC ⊢
  generalize zQ : MQ zlo _ zar s _ _ _ = Q
  have hX : nvS D a0 (mW dA a fault trace sorts shL cells words said kind longOf letters saidRow at_ rdW rKind rLong rLet looked lkL next heard far ways waysT free freeT rdgs rWord rMany rStands rRow ex) s.heap s.heap [] := hX
  have hl : lv_has ls 3 [(0, .ref (a 0)), (1, .int (nI en)), (2, .int (nI code))] := hl
  obtain ⟨H, zH⟩ : ∃ H, H = s.heap := ⟨_, rfl⟩
  have hX : nvS D a0 (mW dA a fault trace sorts shL cells words said kind longOf letters saidRow at_ rdW rKind rLong rLet looked lkL next heard far ways waysT free freeT rdgs rWord rMany rStands rRow ex) s.heap H [] := by rw [zH]; exact hX
  rw [show W zp l ze (rm_ 1 12 0 0) s zm zar zlo zme zcd s.heap [] 0 0 Q = W zp l ze (rm_ 1 12 0 0) s zm zar zlo zme zcd H [] 0 0 Q by rw [zH]]
  generalize ([] : List Loc) = locs at hX ⊢
  refine lv_aload_n zx zb dX1_isSign_0 rfl (lv_at hl 0 rfl) ?_
  refine nv_get zC hX in_X1 0 rfl rfl 11 (by decide) q1203 (fun _ h => h) rfl dX1_isSign_1 ?_
  refine lv_iload_n zx zb dX1_isSign_4 rfl (lv_at hl 1 rfl) ?_
  refine nv_icmp_ge (tgt := 21) zx zb (by omega) (by omega) dX1_isSign_5 (by decide) (fun c5 => ?_) (fun c5 => ?_)
  · refine lv_iconst (v := nI 0) zx zb dX1_isSign_21 (by decide) ?_
    rw [← zQ]
    refine nv_as (y := nB false) rfl ?_
    exact nv_endz zC zr zk at_ hX (by have h0 : isg cells at_ en code = false := (by unfold isg; rw [decide_eq_false (show ¬ at_ < en by omega)]; rfl); exact ⟨nB_e0 h0, by rw [h0]; rfl⟩) (by omega) (by omega) dX1_isSign_22
  · refine lv_aload_n zx zb dX1_isSign_8 rfl (lv_at hl 0 rfl) ?_
    refine nv_get zC hX in_X1 0 rfl rfl 4 (by decide) q1196 (fun _ h => h) rfl dX1_isSign_9 ?_
    refine lv_aload_n zx zb dX1_isSign_12 rfl (lv_at hl 0 rfl) ?_
    refine nv_get zC hX in_X1 0 rfl rfl 11 (by decide) q1203 (fun _ h => h) rfl dX1_isSign_13 ?_
    refine nv_iald (v := cells at_) zC hX 3 rfl (by omega) (by decide) rfl dX1_isSign_16 ?_
    refine lv_iload_n zx zb dX1_isSign_17 rfl (lv_at hl 2 rfl) ?_
    refine lv_icmp_eq (x := cells at_) (y := nI code) (tgt := 23) zx zb dX1_isSign_18 (by decide) (fun c18 => ?_) (fun c18 => ?_)
    · refine lv_aload_n zx zb dX1_isSign_23 rfl (lv_at hl 0 rfl) ?_
      refine lv_dup zx zb dX1_isSign_24 rfl ?_
      refine nv_get zC hX in_X1 0 rfl rfl 11 (by decide) q1203 (fun _ h => h) rfl dX1_isSign_25 ?_
      refine lv_iconst (v := nI 1) zx zb dX1_isSign_28 (by decide) ?_
      refine nv_iadd zx zb dX1_isSign_29 ?_
      refine nv_put zC hX in_X1 tyX1 tyX1_ok nmX1 0 rfl rfl 11 (by decide) q1203 (fun _ h => h) rfl rfl rfl (Nat.le_of_ble_eq_true rfl) (w' := mW dA a fault trace sorts shL cells words said kind longOf letters saidRow (at_ + 1) rdW rKind rLong rLet looked lkL next heard far ways waysT free freeT rdgs rWord rMany rStands rRow ex) rfl dX1_isSign_30 (fun H locs hX => ?_)
      refine lv_iconst (v := nI 1) zx zb dX1_isSign_33 (by decide) ?_
      rw [← zQ]
      refine nv_as (y := nB true) rfl ?_
      exact nv_endz zC zr zk (at_ + 1) hX (by have h0 : isg cells at_ en code = true := (by unfold isg; rw [decide_eq_true c5, decide_eq_true c18]; rfl); exact ⟨nB_e1 h0, by rw [h0]; rfl⟩) (by omega) (by omega) dX1_isSign_34
    · refine lv_iconst (v := nI 0) zx zb dX1_isSign_21 (by decide) ?_
      rw [← zQ]
      refine nv_as (y := nB false) rfl ?_
      exact nv_endz zC zr zk at_ hX (by have h0 : isg cells at_ en code = false := (by unfold isg; rw [decide_eq_false c18, Bool.and_false]); exact ⟨nB_e0 h0, by rw [h0]; rfl⟩) (by omega) (by omega) dX1_isSign_22

set_option maxHeartbeats 4000000 in
theorem mm_readWord  (en : Nat) (w : Nat) (hen : en ≤ 240) (hat : at_ ≤ en) (hw : w < 4) (hrl : ∀ z, rLet z < 3) (hrg : ∀ z, rLong z ≤ 4) : nMt l D dA a0 yX1_readWord cX1_readWord 4 (some .boolean) 2 34 0 0 nvG0 [.ref (a 0), .int (nI en), .int (nI w)] (mW dA a fault trace sorts shL cells words said kind longOf letters saidRow at_ rdW rKind rLong rLet looked lkL next heard far ways waysT free freeT rdgs rWord rMany rStands rRow ex) (nQi D a0 (fun (r : Int32) (u : Nat × (Nat → Option Nat) × (Nat → Nat) × (Nat → Nat)) => r = nB ((rdW_ cells en at_).1) ∧ u.1 = (rdW_ cells en at_).2 ∧ (∀ z, u.2.2.2 z < 3) ∧ (∀ z, u.2.2.1 z ≤ 4) ∧ (∀ z, z ≠ w → u.2.1 z = rKind z ∧ u.2.2.1 z = rLong z) ∧ (∀ z, z < 4 * w ∨ 4 * w + 4 ≤ z → u.2.2.2 z = rLet z) ∧ ((rdW_ cells en at_).1 = true → u.2.1 w = pkd (cells at_) ∧ u.2.1 w ≠ none ∧ u.2.2.1 w = pLen cells en (at_ + 2) 4 ∧ 0 < u.2.2.1 w ∧ ∀ z, z < u.2.2.1 w → u.2.2.2 (4 * w + z) = i2n (cells (at_ + 2 + z)) - 97)) (fun (u : Nat × (Nat → Option Nat) × (Nat → Nat) × (Nat → Nat)) => mW dA a fault trace sorts shL cells words said kind longOf letters saidRow u.1 rdW u.2.1 u.2.2.1 u.2.2.2 looked lkL next heard far ways waysT free freeT rdgs rWord rMany rStands rRow ex)) := by
  refine nv_start (by decide) (Nat.le_of_ble_eq_true rfl) fun zp ze s zm zlo zme zcd ls zC zr zk znm hX zG hl => ?_
  have zx := zC.1
  have zb := zC.2.1
  generalize zargs : ([.ref (a 0), .int (nI en), .int (nI w)] : List Value).toArray = zar at zC ⊢
  generalize zQ : MQ zlo _ zar s _ _ _ = Q
  have hX : nvS D a0 (mW dA a fault trace sorts shL cells words said kind longOf letters saidRow at_ rdW rKind rLong rLet looked lkL next heard far ways waysT free freeT rdgs rWord rMany rStands rRow ex) s.heap s.heap [] := hX
  have hl : lv_has ls 4 [(0, .ref (a 0)), (1, .int (nI en)), (2, .int (nI w))] := hl
  obtain ⟨H, zH⟩ : ∃ H, H = s.heap := ⟨_, rfl⟩
  have hX : nvS D a0 (mW dA a fault trace sorts shL cells words said kind longOf letters saidRow at_ rdW rKind rLong rLet looked lkL next heard far ways waysT free freeT rdgs rWord rMany rStands rRow ex) s.heap H [] := by rw [zH]; exact hX
  rw [show W zp l ze (rm_ 2 34 0 0) s zm zar zlo zme zcd s.heap [] 0 0 Q = W zp l ze (rm_ 2 34 0 0) s zm zar zlo zme zcd H [] 0 0 Q by rw [zH]]
  generalize ([] : List Loc) = locs at hX ⊢
  refine lv_aload_n zx zb dX1_readWord_0 rfl (lv_at hl 0 rfl) ?_
  refine nv_get zC hX in_X1 0 rfl rfl 11 (by decide) q1203 (fun _ h => h) rfl dX1_readWord_1 ?_
  refine lv_iload_n zx zb dX1_readWord_4 rfl (lv_at hl 1 rfl) ?_
  have J59 : ∀   (H : Heap) (locs : List Loc) (ls : Array Slot), nvS D a0 (mW dA a fault trace sorts shL cells words said kind longOf letters saidRow at_ rdW rKind rLong rLet looked lkL next heard far ways waysT free freeT rdgs rWord rMany rStands rRow ex) s.heap H locs → lv_has ls 4 [(0, .ref (a 0)), (1, .int (nI en)), (2, .int (nI w))] → W zp l ze (rm_ 2 34 0 0) s zm zar zlo zme zcd H locs 0 0 Q (F0 zm 59 ls [.int (oI (pK cells en at_)), .int (nI w), .ref (a 8)]) := by
    intro   H locs ls hX hl
    refine nv_iast zC hX 8 rfl (by omega) (by decide) (oF_up _ _ _) (w' := mW dA a fault trace sorts shL cells words said kind longOf letters saidRow at_ rdW (va_up rKind w (pK cells en at_)) rLong rLet looked lkL next heard far ways waysT free freeT rdgs rWord rMany rStands rRow ex) rfl dX1_readWord_59 (fun H locs hX => ?_)
    refine lv_aload_n zx zb dX1_readWord_60 rfl (lv_at hl 0 rfl) ?_
    refine nv_get zC hX in_X1 0 rfl rfl 13 (by decide) q1205 (fun _ h => h) rfl dX1_readWord_61 ?_
    refine lv_iload_n zx zb dX1_readWord_64 rfl (lv_at hl 2 rfl) ?_
    refine nv_iald (v := oI (pK cells en at_)) zC hX 8 rfl (by omega) (by decide) (congrArg oI (va_up_self _ _ _)) dX1_readWord_65 ?_
    refine lv_bipush (v := (-9)) zx zb dX1_readWord_66 (by decide) ?_
    refine lv_icmp_ne (x := oI (pK cells en at_)) (y := (-9)) (tgt := 73) zx zb dX1_readWord_68 (by decide) (fun c68 => ?_) (fun c68 => ?_)
    · have hpk : pK cells en at_ ≠ none := fun z => c68 (by rw [z]; rfl)
      obtain ⟨hpi, hpe⟩ := pK_in hpk
      refine lv_aload_n zx zb dX1_readWord_73 rfl (lv_at hl 0 rfl) ?_
      refine lv_dup zx zb dX1_readWord_74 rfl ?_
      refine nv_get zC hX in_X1 0 rfl rfl 11 (by decide) q1203 (fun _ h => h) rfl dX1_readWord_75 ?_
      refine lv_iconst (v := nI 1) zx zb dX1_readWord_78 (by decide) ?_
      refine nv_iadd zx zb dX1_readWord_79 ?_
      refine nv_put zC hX in_X1 tyX1 tyX1_ok nmX1 0 rfl rfl 11 (by decide) q1203 (fun _ h => h) rfl rfl rfl (Nat.le_of_ble_eq_true rfl) (w' := mW dA a fault trace sorts shL cells words said kind longOf letters saidRow (at_ + 1) rdW (va_up rKind w (pK cells en at_)) rLong rLet looked lkL next heard far ways waysT free freeT rdgs rWord rMany rStands rRow ex) rfl dX1_readWord_80 (fun H locs hX => ?_)
      refine lv_aload_n zx zb dX1_readWord_83 rfl (lv_at hl 0 rfl) ?_
      refine lv_iload_n zx zb dX1_readWord_84 rfl (lv_at hl 1 rfl) ?_
      refine lv_bipush (v := nI 47) zx zb dX1_readWord_85 (by decide) ?_
      refine nv_ki zC hX (nv_rV (n := 2) (As := [.int (nI en), .int (nI 47)]) (rest := []) (q0 := 0) zC hX (mm_isSign (en := en) (code := 47) (hen := (by first | assumption | omega)) (hat := (by first | assumption | omega)) (hcd := (by first | assumption | omega))) nvGb0 (fun _ _ _ => trivial) rfl rfl q1308 q1310 qs32 q63 q1311 (by decide +kernel) rfl ⟨Nat.le_of_ble_eq_true rfl, Nat.le_of_ble_eq_true rfl⟩ hl.1 (Nat.le_of_ble_eq_true rfl) dX1_readWord_87 ⟨by first | exact Nat.le_of_ble_eq_true rfl | omega, by first | exact Nat.le_of_ble_eq_true rfl | omega⟩) (fun r u H locs hp hX => ?_)
      obtain ⟨at_'_1, rfl⟩ : ∃ z, z = u := ⟨_, rfl⟩
      obtain ⟨hr_, h87⟩ : r = nB (isg cells (at_ + 1) en 47) ∧ at_'_1 = (if isg cells (at_ + 1) en 47 then at_ + 1 + 1 else at_ + 1) := hp
      subst hr_
      have hX : nvS D a0 (mW dA a fault trace sorts shL cells words said kind longOf letters saidRow at_'_1 rdW (va_up rKind w (pK cells en at_)) rLong rLet looked lkL next heard far ways waysT free freeT rdgs rWord rMany rStands rRow ex) s.heap H locs := hX
      refine W.cs (cells' := 0) (slots' := 0) (Nat.add_zero _) (Nat.add_zero _) ?_
      refine nv_if_neB (tgt := 95) zx zb dX1_readWord_90 (by decide) (fun c90 => ?_) (fun c90 => ?_)
      · rw [if_pos c90] at h87
        subst h87
        have hi2 := isg_in c90
        refine lv_aload_n zx zb dX1_readWord_95 rfl (lv_at hl 0 rfl) ?_
        refine nv_get zC hX in_X1 0 rfl rfl 14 (by decide) q1206 (fun _ h => h) rfl dX1_readWord_96 ?_
        refine lv_iload_n zx zb dX1_readWord_99 rfl (lv_at hl 2 rfl) ?_
        refine lv_iconst (v := nI 0) zx zb dX1_readWord_100 (by decide) ?_
        refine nv_iast zC hX 9 rfl (by omega) (by decide) (nF_up _ _ _) (w' := mW dA a fault trace sorts shL cells words said kind longOf letters saidRow (at_ + 1 + 1) rdW (va_up rKind w (pK cells en at_)) (va_up rLong w 0) rLet looked lkL next heard far ways waysT free freeT rdgs rWord rMany rStands rRow ex) rfl dX1_readWord_101 (fun H locs hX => ?_)
        have L102 : ∀ (zn : Nat) (rl : Nat → Nat) (k : Nat) (hk : k ≤ 4) (hl1 : pLen cells en (at_ + 2) k = k) (hr1 : ∀ z, rl z < 3) (hr2 : ∀ z, z < 4 * w ∨ 4 * w + 4 ≤ z → rl z = rLet z) (hr3 : ∀ z, z < k → rl (4 * w + z) = i2n (cells (at_ + 2 + z)) - 97) (hke : at_ + 2 + k ≤ en), 4 - k < zn → ∀ (H : Heap) (locs : List Loc) (ls : Array Slot), nvS D a0 (mW dA a fault trace sorts shL cells words said kind longOf letters saidRow (at_ + 2 + k) rdW (va_up rKind w (pK cells en at_)) (va_up rLong w k) rl looked lkL next heard far ways waysT free freeT rdgs rWord rMany rStands rRow ex) s.heap H locs → lv_has ls 4 [(0, .ref (a 0)), (1, .int (nI en)), (2, .int (nI w))] → W zp l ze (rm_ 2 34 0 0) s zm zar zlo zme zcd H locs 0 0 Q (F0 zm 102 ls []) := by
          intro zn
          induction zn with
          | zero => intro rl k hk hl1 hr1 hr2 hr3 hke zf; exact absurd zf (Nat.not_lt_zero _)
          | succ zn ih102 =>
            intro rl k hk hl1 hr1 hr2 hr3 hke zf H locs ls hX hl
            refine lv_aload_n zx zb dX1_readWord_102 rfl (lv_at hl 0 rfl) ?_
            refine nv_get zC hX in_X1 0 rfl rfl 14 (by decide) q1206 (fun _ h => h) rfl dX1_readWord_103 ?_
            refine lv_iload_n zx zb dX1_readWord_106 rfl (lv_at hl 2 rfl) ?_
            refine nv_iald (v := nI k) zC hX 9 rfl (by omega) (by decide) (congrArg nI (va_up_self _ _ _)) dX1_readWord_107 ?_
            refine lv_iconst (v := nI 4) zx zb dX1_readWord_108 (by decide) ?_
            refine nv_icmp_ge (tgt := 189) zx zb (by omega) (by omega) dX1_readWord_109 (by decide) (fun c109 => ?_) (fun c109 => ?_)
            · have hst : pLen cells en (at_ + 2) 4 = k := by rw [show (4 : Nat) = k by omega]; exact hl1
              refine lv_aload_n zx zb dX1_readWord_189 rfl (lv_at hl 0 rfl) ?_
              refine nv_get zC hX in_X1 0 rfl rfl 14 (by decide) q1206 (fun _ h => h) rfl dX1_readWord_190 ?_
              refine lv_iload_n zx zb dX1_readWord_193 rfl (lv_at hl 2 rfl) ?_
              refine nv_iald (v := nI k) zC hX 9 rfl (by omega) (by decide) (congrArg nI (va_up_self _ _ _)) dX1_readWord_194 ?_
              refine nv_if_le (tgt := 202) zx zb (by omega) dX1_readWord_195 (by decide) (fun c195 => ?_) (fun c195 => ?_)
              · refine lv_iconst (v := nI 0) zx zb dX1_readWord_202 (by decide) ?_
                refine nv_as (show nI 0 = nB (decide (0 < k)) from (nB_as0 (decide_eq_false (by omega)))) ?_
                rw [← zQ]
                exact nv_endz zC zr zk (at_ + 2 + k, va_up rKind w (pK cells en at_), va_up rLong w k, rl) hX (by (try dsimp only); rw [rdW_k hpk c90 hst]; exact ⟨rfl, rfl, hr1, (fun z => by by_cases q : z = w; (rw [q, va_up_self]; exact hk); (rw [va_up_ne _ _ q]; exact hrg z)), (fun z hz => ⟨va_up_ne _ _ hz, va_up_ne _ _ hz⟩), hr2, fun hz => ⟨by rw [va_up_self]; exact hpe, by rw [va_up_self]; exact hpk, by rw [va_up_self, hst], by rw [va_up_self]; exact of_decide_eq_true hz, by rw [va_up_self]; exact hr3⟩⟩) (by omega) (by omega) dX1_readWord_203
              · refine lv_iconst (v := nI 1) zx zb dX1_readWord_198 (by decide) ?_
                refine lv_goto (tgt := 203) zx zb dX1_readWord_199 (by decide) ?_
                refine nv_as (show nI 1 = nB (decide (0 < k)) from (nB_as1 (decide_eq_true (by omega)))) ?_
                rw [← zQ]
                exact nv_endz zC zr zk (at_ + 2 + k, va_up rKind w (pK cells en at_), va_up rLong w k, rl) hX (by (try dsimp only); rw [rdW_k hpk c90 hst]; exact ⟨rfl, rfl, hr1, (fun z => by by_cases q : z = w; (rw [q, va_up_self]; exact hk); (rw [va_up_ne _ _ q]; exact hrg z)), (fun z hz => ⟨va_up_ne _ _ hz, va_up_ne _ _ hz⟩), hr2, fun hz => ⟨by rw [va_up_self]; exact hpe, by rw [va_up_self]; exact hpk, by rw [va_up_self, hst], by rw [va_up_self]; exact of_decide_eq_true hz, by rw [va_up_self]; exact hr3⟩⟩) (by omega) (by omega) dX1_readWord_203
            · refine lv_aload_n zx zb dX1_readWord_112 rfl (lv_at hl 0 rfl) ?_
              refine nv_get zC hX in_X1 0 rfl rfl 11 (by decide) q1203 (fun _ h => h) rfl dX1_readWord_113 ?_
              refine lv_iload_n zx zb dX1_readWord_116 rfl (lv_at hl 1 rfl) ?_
              refine nv_icmp_ge (tgt := 189) zx zb (by omega) (by omega) dX1_readWord_117 (by decide) (fun c117 => ?_) (fun c117 => ?_)
              · have hst : pLen cells en (at_ + 2) 4 = k := pLen_stop hl1 (fun z => by omega) 4 hk
                refine lv_aload_n zx zb dX1_readWord_189 rfl (lv_at hl 0 rfl) ?_
                refine nv_get zC hX in_X1 0 rfl rfl 14 (by decide) q1206 (fun _ h => h) rfl dX1_readWord_190 ?_
                refine lv_iload_n zx zb dX1_readWord_193 rfl (lv_at hl 2 rfl) ?_
                refine nv_iald (v := nI k) zC hX 9 rfl (by omega) (by decide) (congrArg nI (va_up_self _ _ _)) dX1_readWord_194 ?_
                refine nv_if_le (tgt := 202) zx zb (by omega) dX1_readWord_195 (by decide) (fun c195 => ?_) (fun c195 => ?_)
                · refine lv_iconst (v := nI 0) zx zb dX1_readWord_202 (by decide) ?_
                  refine nv_as (show nI 0 = nB (decide (0 < k)) from (nB_as0 (decide_eq_false (by omega)))) ?_
                  rw [← zQ]
                  exact nv_endz zC zr zk (at_ + 2 + k, va_up rKind w (pK cells en at_), va_up rLong w k, rl) hX (by (try dsimp only); rw [rdW_k hpk c90 hst]; exact ⟨rfl, rfl, hr1, (fun z => by by_cases q : z = w; (rw [q, va_up_self]; exact hk); (rw [va_up_ne _ _ q]; exact hrg z)), (fun z hz => ⟨va_up_ne _ _ hz, va_up_ne _ _ hz⟩), hr2, fun hz => ⟨by rw [va_up_self]; exact hpe, by rw [va_up_self]; exact hpk, by rw [va_up_self, hst], by rw [va_up_self]; exact of_decide_eq_true hz, by rw [va_up_self]; exact hr3⟩⟩) (by omega) (by omega) dX1_readWord_203
                · refine lv_iconst (v := nI 1) zx zb dX1_readWord_198 (by decide) ?_
                  refine lv_goto (tgt := 203) zx zb dX1_readWord_199 (by decide) ?_
                  refine nv_as (show nI 1 = nB (decide (0 < k)) from (nB_as1 (decide_eq_true (by omega)))) ?_
                  rw [← zQ]
                  exact nv_endz zC zr zk (at_ + 2 + k, va_up rKind w (pK cells en at_), va_up rLong w k, rl) hX (by (try dsimp only); rw [rdW_k hpk c90 hst]; exact ⟨rfl, rfl, hr1, (fun z => by by_cases q : z = w; (rw [q, va_up_self]; exact hk); (rw [va_up_ne _ _ q]; exact hrg z)), (fun z hz => ⟨va_up_ne _ _ hz, va_up_ne _ _ hz⟩), hr2, fun hz => ⟨by rw [va_up_self]; exact hpe, by rw [va_up_self]; exact hpk, by rw [va_up_self, hst], by rw [va_up_self]; exact of_decide_eq_true hz, by rw [va_up_self]; exact hr3⟩⟩) (by omega) (by omega) dX1_readWord_203
              · refine lv_aload_n zx zb dX1_readWord_120 rfl (lv_at hl 0 rfl) ?_
                refine nv_get zC hX in_X1 0 rfl rfl 4 (by decide) q1196 (fun _ h => h) rfl dX1_readWord_121 ?_
                refine lv_aload_n zx zb dX1_readWord_124 rfl (lv_at hl 0 rfl) ?_
                refine nv_get zC hX in_X1 0 rfl rfl 11 (by decide) q1203 (fun _ h => h) rfl dX1_readWord_125 ?_
                refine nv_iald (v := cells (at_ + 2 + k)) zC hX 3 rfl (by omega) (by decide) rfl dX1_readWord_128 ?_
                refine lv_bipush (v := nI 97) zx zb dX1_readWord_129 (by decide) ?_
                refine lv_bipush (v := nI 99) zx zb dX1_readWord_131 (by decide) ?_
                refine nv_ki zC hX (nv_rS (n := 3) (As := [.int (cells (at_ + 2 + k)), .int (nI 97), .int (nI 99)]) (rest := []) zC hX (mm_within (v := cells (at_ + 2 + k)) (lo := nI 97) (hi := nI 99)) nvGb0 (fun _ _ _ => trivial) q1290 q1291 q63 q1292 (by decide +kernel) rfl ⟨Nat.le_of_ble_eq_true rfl, Nat.le_of_ble_eq_true rfl⟩ hl.1 (Nat.le_of_ble_eq_true rfl) dX1_readWord_133 ⟨by first | exact Nat.le_of_ble_eq_true rfl | omega, by first | exact Nat.le_of_ble_eq_true rfl | omega⟩) (fun r u H locs hp hX => ?_)
                have hr_ : r = nB (inN (cells (at_ + 2 + k)) 97 99) := hp
                subst hr_
                have hX : nvS D a0 (mW dA a fault trace sorts shL cells words said kind longOf letters saidRow (at_ + 2 + k) rdW (va_up rKind w (pK cells en at_)) (va_up rLong w k) rl looked lkL next heard far ways waysT free freeT rdgs rWord rMany rStands rRow ex) s.heap H locs := hX
                refine W.cs (cells' := 0) (slots' := 0) (Nat.add_zero _) (Nat.add_zero _) ?_
                refine nv_if_eqB (tgt := 189) zx zb dX1_readWord_136 (by decide) (fun c136 => ?_) (fun c136 => ?_)
                · have hst : pLen cells en (at_ + 2) 4 = k := pLen_stop hl1 (fun z => absurd (z.2.symm.trans c136) (by decide)) 4 hk
                  refine lv_aload_n zx zb dX1_readWord_189 rfl (lv_at hl 0 rfl) ?_
                  refine nv_get zC hX in_X1 0 rfl rfl 14 (by decide) q1206 (fun _ h => h) rfl dX1_readWord_190 ?_
                  refine lv_iload_n zx zb dX1_readWord_193 rfl (lv_at hl 2 rfl) ?_
                  refine nv_iald (v := nI k) zC hX 9 rfl (by omega) (by decide) (congrArg nI (va_up_self _ _ _)) dX1_readWord_194 ?_
                  refine nv_if_le (tgt := 202) zx zb (by omega) dX1_readWord_195 (by decide) (fun c195 => ?_) (fun c195 => ?_)
                  · refine lv_iconst (v := nI 0) zx zb dX1_readWord_202 (by decide) ?_
                    refine nv_as (show nI 0 = nB (decide (0 < k)) from (nB_as0 (decide_eq_false (by omega)))) ?_
                    rw [← zQ]
                    exact nv_endz zC zr zk (at_ + 2 + k, va_up rKind w (pK cells en at_), va_up rLong w k, rl) hX (by (try dsimp only); rw [rdW_k hpk c90 hst]; exact ⟨rfl, rfl, hr1, (fun z => by by_cases q : z = w; (rw [q, va_up_self]; exact hk); (rw [va_up_ne _ _ q]; exact hrg z)), (fun z hz => ⟨va_up_ne _ _ hz, va_up_ne _ _ hz⟩), hr2, fun hz => ⟨by rw [va_up_self]; exact hpe, by rw [va_up_self]; exact hpk, by rw [va_up_self, hst], by rw [va_up_self]; exact of_decide_eq_true hz, by rw [va_up_self]; exact hr3⟩⟩) (by omega) (by omega) dX1_readWord_203
                  · refine lv_iconst (v := nI 1) zx zb dX1_readWord_198 (by decide) ?_
                    refine lv_goto (tgt := 203) zx zb dX1_readWord_199 (by decide) ?_
                    refine nv_as (show nI 1 = nB (decide (0 < k)) from (nB_as1 (decide_eq_true (by omega)))) ?_
                    rw [← zQ]
                    exact nv_endz zC zr zk (at_ + 2 + k, va_up rKind w (pK cells en at_), va_up rLong w k, rl) hX (by (try dsimp only); rw [rdW_k hpk c90 hst]; exact ⟨rfl, rfl, hr1, (fun z => by by_cases q : z = w; (rw [q, va_up_self]; exact hk); (rw [va_up_ne _ _ q]; exact hrg z)), (fun z hz => ⟨va_up_ne _ _ hz, va_up_ne _ _ hz⟩), hr2, fun hz => ⟨by rw [va_up_self]; exact hpe, by rw [va_up_self]; exact hpk, by rw [va_up_self, hst], by rw [va_up_self]; exact of_decide_eq_true hz, by rw [va_up_self]; exact hr3⟩⟩) (by omega) (by omega) dX1_readWord_203
                · refine lv_aload_n zx zb dX1_readWord_139 rfl (lv_at hl 0 rfl) ?_
                  refine nv_get zC hX in_X1 0 rfl rfl 15 (by decide) q1207 (fun _ h => h) rfl dX1_readWord_140 ?_
                  refine lv_iconst (v := nI 4) zx zb dX1_readWord_143 (by decide) ?_
                  refine lv_iload_n zx zb dX1_readWord_144 rfl (lv_at hl 2 rfl) ?_
                  refine nv_imul zx zb dX1_readWord_145 ?_
                  refine lv_aload_n zx zb dX1_readWord_146 rfl (lv_at hl 0 rfl) ?_
                  refine nv_get zC hX in_X1 0 rfl rfl 14 (by decide) q1206 (fun _ h => h) rfl dX1_readWord_147 ?_
                  refine lv_iload_n zx zb dX1_readWord_150 rfl (lv_at hl 2 rfl) ?_
                  refine nv_iald (v := nI k) zC hX 9 rfl (by omega) (by decide) (congrArg nI (va_up_self _ _ _)) dX1_readWord_151 ?_
                  refine nv_iadd zx zb dX1_readWord_152 ?_
                  refine lv_aload_n zx zb dX1_readWord_153 rfl (lv_at hl 0 rfl) ?_
                  refine nv_get zC hX in_X1 0 rfl rfl 4 (by decide) q1196 (fun _ h => h) rfl dX1_readWord_154 ?_
                  refine lv_aload_n zx zb dX1_readWord_157 rfl (lv_at hl 0 rfl) ?_
                  refine nv_get zC hX in_X1 0 rfl rfl 11 (by decide) q1203 (fun _ h => h) rfl dX1_readWord_158 ?_
                  refine nv_iald (v := cells (at_ + 2 + k)) zC hX 3 rfl (by omega) (by decide) rfl dX1_readWord_161 ?_
                  refine lv_bipush (v := nI 97) zx zb dX1_readWord_162 (by decide) ?_
                  refine lv_isub zx zb dX1_readWord_164 ?_
                  refine nv_as (show (cells (at_ + 2 + k)) - (nI 97) = nI (i2n (cells (at_ + 2 + k)) - 97) from (let_v c136).2.1) ?_
                  refine nv_iast zC hX 10 rfl (by omega) (by decide) (nF_up _ _ _) (w' := mW dA a fault trace sorts shL cells words said kind longOf letters saidRow (at_ + 2 + k) rdW (va_up rKind w (pK cells en at_)) (va_up rLong w k) (va_up rl ((4 * w) + k) (i2n (cells (at_ + 2 + k)) - 97)) looked lkL next heard far ways waysT free freeT rdgs rWord rMany rStands rRow ex) rfl dX1_readWord_165 (fun H locs hX => ?_)
                  refine lv_aload_n zx zb dX1_readWord_166 rfl (lv_at hl 0 rfl) ?_
                  refine nv_get zC hX in_X1 0 rfl rfl 14 (by decide) q1206 (fun _ h => h) rfl dX1_readWord_167 ?_
                  refine lv_iload_n zx zb dX1_readWord_170 rfl (lv_at hl 2 rfl) ?_
                  refine lv_dup2_11 zx zb dX1_readWord_171 rfl rfl ?_
                  refine nv_iald (v := nI k) zC hX 9 rfl (by omega) (by decide) (congrArg nI (va_up_self _ _ _)) dX1_readWord_172 ?_
                  refine lv_iconst (v := nI 1) zx zb dX1_readWord_173 (by decide) ?_
                  refine nv_iadd zx zb dX1_readWord_174 ?_
                  refine nv_iast zC hX 9 rfl (by omega) (by decide) (nF_up _ _ _) (w' := mW dA a fault trace sorts shL cells words said kind longOf letters saidRow (at_ + 2 + k) rdW (va_up rKind w (pK cells en at_)) (va_up (va_up rLong w k) w (k + 1)) (va_up rl ((4 * w) + k) (i2n (cells (at_ + 2 + k)) - 97)) looked lkL next heard far ways waysT free freeT rdgs rWord rMany rStands rRow ex) rfl dX1_readWord_175 (fun H locs hX => ?_)
                  have hX : nvS D a0 (mW dA a fault trace sorts shL cells words said kind longOf letters saidRow (at_ + 2 + k) rdW (va_up rKind w (pK cells en at_)) (va_up rLong w (k + 1)) (va_up rl ((4 * w) + k) (i2n (cells (at_ + 2 + k)) - 97)) looked lkL next heard far ways waysT free freeT rdgs rWord rMany rStands rRow ex) s.heap H locs := by (rw [bx_uu] at hX; exact hX)
                  refine lv_aload_n zx zb dX1_readWord_176 rfl (lv_at hl 0 rfl) ?_
                  refine lv_dup zx zb dX1_readWord_177 rfl ?_
                  refine nv_get zC hX in_X1 0 rfl rfl 11 (by decide) q1203 (fun _ h => h) rfl dX1_readWord_178 ?_
                  refine lv_iconst (v := nI 1) zx zb dX1_readWord_181 (by decide) ?_
                  refine nv_iadd zx zb dX1_readWord_182 ?_
                  refine nv_put zC hX in_X1 tyX1 tyX1_ok nmX1 0 rfl rfl 11 (by decide) q1203 (fun _ h => h) rfl rfl rfl (Nat.le_of_ble_eq_true rfl) (w' := mW dA a fault trace sorts shL cells words said kind longOf letters saidRow ((at_ + 2 + k) + 1) rdW (va_up rKind w (pK cells en at_)) (va_up rLong w (k + 1)) (va_up rl ((4 * w) + k) (i2n (cells (at_ + 2 + k)) - 97)) looked lkL next heard far ways waysT free freeT rdgs rWord rMany rStands rRow ex) rfl dX1_readWord_183 (fun H locs hX => ?_)
                  refine lv_goto (tgt := 102) zx zb dX1_readWord_186 (by decide) ?_
                  exact ih102 (va_up rl ((4 * w) + k) (i2n (cells (at_ + 2 + k)) - 97)) (k + 1) (by omega) (pLen_s hl1 c117 c136) (up_lt hr1 (let_v c136).1) (fun z hz => by rw [va_up_ne _ _ (by omega)]; exact hr2 z hz) (fun z hz => by rcases Nat.lt_or_ge z k with q | q; rw [va_up_ne _ _ (by omega)]; exact hr3 z q; rw [show z = k by omega, va_up_self]) (by omega) (by omega) _ _ _ hX (lv_sub hl [0, 1, 2] rfl)
        exact L102 _ rLet 0 (by omega) rfl hrl (fun _ _ => rfl) lt_0 (by omega) (Nat.lt_succ_self _) _ _ _ hX (lv_sub hl [0, 1, 2] rfl)
      · rw [show isg cells (at_ + 1) en 47 = false from c90] at h87
        rw [if_neg (by decide)] at h87
        subst h87
        refine lv_iconst (v := nI 0) zx zb dX1_readWord_93 (by decide) ?_
        rw [← zQ]
        refine nv_as (y := nB false) rfl ?_
        exact nv_endz zC zr zk (at_ + 1, va_up rKind w (pK cells en at_), rLong, rLet) hX (by (try dsimp only); rw [rdW_s hpk c90]; exact ⟨rfl, rfl, hrl, hrg, (fun z hz => ⟨va_up_ne _ _ hz, rfl⟩), fun _ _ => rfl, fun z => absurd z Bool.false_ne_true⟩) (by omega) (by omega) dX1_readWord_94
    · have hpk : pK cells en at_ = none := (oI_n (fun v h => pK_lt h)).mp c68
      refine lv_iconst (v := nI 0) zx zb dX1_readWord_71 (by decide) ?_
      rw [← zQ]
      refine nv_as (y := nB false) rfl ?_
      exact nv_endz zC zr zk (at_, va_up rKind w (pK cells en at_), rLong, rLet) hX (by (try dsimp only); rw [rdW_n hpk]; exact ⟨rfl, rfl, hrl, hrg, (fun z hz => ⟨va_up_ne _ _ hz, rfl⟩), fun _ _ => rfl, fun z => absurd z Bool.false_ne_true⟩) (by omega) (by omega) dX1_readWord_72
  refine nv_icmp_ge (tgt := 20) zx zb (by omega) (by omega) dX1_readWord_5 (by decide) (fun c5 => ?_) (fun c5 => ?_)
  · refine lv_iconst (v := nI 0) zx zb dX1_readWord_20 (by decide) ?_
    refine lv_istore_n (lv' := [(3, .int (nI 0)), (0, .ref (a 0)), (1, .int (nI en)), (2, .int (nI w))]) zx zb dX1_readWord_21 rfl hl (by decide) rfl (fun ls hl => ?_)
    refine lv_aload_n zx zb dX1_readWord_22 rfl (lv_at hl 1 rfl) ?_
    refine nv_get zC hX in_X1 0 rfl rfl 13 (by decide) q1205 (fun _ h => h) rfl dX1_readWord_23 ?_
    refine lv_iload_n zx zb dX1_readWord_26 rfl (lv_at hl 3 rfl) ?_
    refine lv_iload_n zx zb dX1_readWord_27 rfl (lv_at hl 0 rfl) ?_
    refine lv_bipush (v := nI 112) zx zb dX1_readWord_28 (by decide) ?_
    refine nv_icmp_ne (tgt := 37) zx zb (by omega) (by omega) dX1_readWord_30 (by decide) (fun c30 => ?_) (fun c30 => ?_)
    · refine lv_iload_n zx zb dX1_readWord_37 rfl (lv_at hl 0 rfl) ?_
      refine lv_bipush (v := nI 98) zx zb dX1_readWord_38 (by decide) ?_
      refine nv_icmp_ne (tgt := 47) zx zb (by omega) (by omega) dX1_readWord_40 (by decide) (fun c40 => ?_) (fun c40 => ?_)
      · refine lv_iload_n zx zb dX1_readWord_47 rfl (lv_at hl 0 rfl) ?_
        refine lv_bipush (v := nI 116) zx zb dX1_readWord_48 (by decide) ?_
        refine nv_icmp_ne (tgt := 57) zx zb (by omega) (by omega) dX1_readWord_50 (by decide) (fun c50 => ?_) (fun c50 => ?_)
        · refine lv_bipush (v := (-9)) zx zb dX1_readWord_57 (by decide) ?_
          refine nv_as (show (-9) = oI (pK cells en at_) from (by unfold pK; rw [if_neg (by omega)]; rfl)) ?_
          exact J59   _ _ _ hX (lv_sub hl [1, 2, 3] rfl)
        · omega
      · omega
    · omega
  · refine lv_aload_n zx zb dX1_readWord_8 rfl (lv_at hl 0 rfl) ?_
    refine nv_get zC hX in_X1 0 rfl rfl 4 (by decide) q1196 (fun _ h => h) rfl dX1_readWord_9 ?_
    refine lv_aload_n zx zb dX1_readWord_12 rfl (lv_at hl 0 rfl) ?_
    refine nv_get zC hX in_X1 0 rfl rfl 11 (by decide) q1203 (fun _ h => h) rfl dX1_readWord_13 ?_
    refine nv_iald (v := cells at_) zC hX 3 rfl (by omega) (by decide) rfl dX1_readWord_16 ?_
    refine lv_goto (tgt := 21) zx zb dX1_readWord_17 (by decide) ?_
    refine lv_istore_n (lv' := [(3, .int (cells at_)), (0, .ref (a 0)), (1, .int (nI en)), (2, .int (nI w))]) zx zb dX1_readWord_21 rfl hl (by decide) rfl (fun ls hl => ?_)
    refine lv_aload_n zx zb dX1_readWord_22 rfl (lv_at hl 1 rfl) ?_
    refine nv_get zC hX in_X1 0 rfl rfl 13 (by decide) q1205 (fun _ h => h) rfl dX1_readWord_23 ?_
    refine lv_iload_n zx zb dX1_readWord_26 rfl (lv_at hl 3 rfl) ?_
    refine lv_iload_n zx zb dX1_readWord_27 rfl (lv_at hl 0 rfl) ?_
    refine lv_bipush (v := nI 112) zx zb dX1_readWord_28 (by decide) ?_
    refine lv_icmp_ne (x := cells at_) (y := nI 112) (tgt := 37) zx zb dX1_readWord_30 (by decide) (fun c30 => ?_) (fun c30 => ?_)
    · refine lv_iload_n zx zb dX1_readWord_37 rfl (lv_at hl 0 rfl) ?_
      refine lv_bipush (v := nI 98) zx zb dX1_readWord_38 (by decide) ?_
      refine lv_icmp_ne (x := cells at_) (y := nI 98) (tgt := 47) zx zb dX1_readWord_40 (by decide) (fun c40 => ?_) (fun c40 => ?_)
      · refine lv_iload_n zx zb dX1_readWord_47 rfl (lv_at hl 0 rfl) ?_
        refine lv_bipush (v := nI 116) zx zb dX1_readWord_48 (by decide) ?_
        refine lv_icmp_ne (x := cells at_) (y := nI 116) (tgt := 57) zx zb dX1_readWord_50 (by decide) (fun c50 => ?_) (fun c50 => ?_)
        · refine lv_bipush (v := (-9)) zx zb dX1_readWord_57 (by decide) ?_
          refine nv_as (show (-9) = oI (pK cells en at_) from (by unfold pK pkd; rw [if_pos c5, if_neg c30, if_neg c40, if_neg c50]; rfl)) ?_
          exact J59   _ _ _ hX (lv_sub hl [1, 2, 3] rfl)
        · refine lv_iconst (v := nI 2) zx zb dX1_readWord_53 (by decide) ?_
          refine lv_goto (tgt := 59) zx zb dX1_readWord_54 (by decide) ?_
          refine nv_as (show nI 2 = oI (pK cells en at_) from (by unfold pK pkd; rw [if_pos c5, if_neg c30, if_neg c40, if_pos c50]; rfl)) ?_
          exact J59   _ _ _ hX (lv_sub hl [1, 2, 3] rfl)
      · refine lv_iconst (v := nI 1) zx zb dX1_readWord_43 (by decide) ?_
        refine lv_goto (tgt := 59) zx zb dX1_readWord_44 (by decide) ?_
        refine nv_as (show nI 1 = oI (pK cells en at_) from (by unfold pK pkd; rw [if_pos c5, if_neg c30, if_pos c40]; rfl)) ?_
        exact J59   _ _ _ hX (lv_sub hl [1, 2, 3] rfl)
    · refine lv_iconst (v := nI 0) zx zb dX1_readWord_33 (by decide) ?_
      refine lv_goto (tgt := 59) zx zb dX1_readWord_34 (by decide) ?_
      refine nv_as (show nI 0 = oI (pK cells en at_) from (by unfold pK pkd; rw [if_pos c5, if_pos c30]; rfl)) ?_
      exact J59   _ _ _ hX (lv_sub hl [1, 2, 3] rfl)

set_option maxHeartbeats 4000000 in
theorem mm_readAll  (en : Nat) (hen : en ≤ 240) (hat : at_ ≤ en) (hrl : ∀ z, rLet z < 3) (hrg : ∀ z, rLong z ≤ 4) : nMt l D dA a0 yX1_readAll cX1_readAll 2 (some .boolean) 3 57 0 0 nvG0 [.ref (a 0), .int (nI en)] (mW dA a fault trace sorts shL cells words said kind longOf letters saidRow at_ rdW rKind rLong rLet looked lkL next heard far ways waysT free freeT rdgs rWord rMany rStands rRow ex) (nQi D a0 (fun (r : Int32) (u : Nat × Nat × (Nat → Option Nat) × (Nat → Nat) × (Nat → Nat)) => r = nB ((pAll cells en at_).1) ∧ u.1 = (pAll cells en at_).2.1 ∧ u.2.1 = (pAll cells en at_).2.2 ∧ (∀ z, u.2.2.2.2 z < 3) ∧ (∀ z, u.2.2.2.1 z ≤ 4) ∧ u.2.1 ≤ 4 ∧ u.1 ≤ en ∧ ((pAll cells en at_).1 = true → wdsOK cells en at_ u.2.1 u.2.2.1 u.2.2.2.1 u.2.2.2.2 ∧ 0 < u.2.1)) (fun (u : Nat × Nat × (Nat → Option Nat) × (Nat → Nat) × (Nat → Nat)) => mW dA a fault trace sorts shL cells words said kind longOf letters saidRow u.1 u.2.1 u.2.2.1 u.2.2.2.1 u.2.2.2.2 looked lkL next heard far ways waysT free freeT rdgs rWord rMany rStands rRow ex)) := by
  refine nv_start (by decide) (Nat.le_of_ble_eq_true rfl) fun zp ze s zm zlo zme zcd ls zC zr zk znm hX zG hl => ?_
  have zx := zC.1
  have zb := zC.2.1
  generalize zargs : ([.ref (a 0), .int (nI en)] : List Value).toArray = zar at zC ⊢
  generalize zQ : MQ zlo _ zar s _ _ _ = Q
  have hX : nvS D a0 (mW dA a fault trace sorts shL cells words said kind longOf letters saidRow at_ rdW rKind rLong rLet looked lkL next heard far ways waysT free freeT rdgs rWord rMany rStands rRow ex) s.heap s.heap [] := hX
  have hl : lv_has ls 2 [(0, .ref (a 0)), (1, .int (nI en))] := hl
  obtain ⟨H, zH⟩ : ∃ H, H = s.heap := ⟨_, rfl⟩
  have hX : nvS D a0 (mW dA a fault trace sorts shL cells words said kind longOf letters saidRow at_ rdW rKind rLong rLet looked lkL next heard far ways waysT free freeT rdgs rWord rMany rStands rRow ex) s.heap H [] := by rw [zH]; exact hX
  rw [show W zp l ze (rm_ 3 57 0 0) s zm zar zlo zme zcd s.heap [] 0 0 Q = W zp l ze (rm_ 3 57 0 0) s zm zar zlo zme zcd H [] 0 0 Q by rw [zH]]
  generalize ([] : List Loc) = locs at hX ⊢
  refine lv_aload_n zx zb dX1_readAll_0 rfl (lv_at hl 0 rfl) ?_
  refine lv_iconst (v := nI 0) zx zb dX1_readAll_1 (by decide) ?_
  refine nv_put zC hX in_X1 tyX1 tyX1_ok nmX1 0 rfl rfl 12 (by decide) q1204 (fun _ h => h) rfl rfl rfl (Nat.le_of_ble_eq_true rfl) (w' := mW dA a fault trace sorts shL cells words said kind longOf letters saidRow at_ 0 rKind rLong rLet looked lkL next heard far ways waysT free freeT rdgs rWord rMany rStands rRow ex) rfl dX1_readAll_2 (fun H locs hX => ?_)
  refine lv_aload_n zx zb dX1_readAll_5 rfl (lv_at hl 0 rfl) ?_
  refine lv_iload_n zx zb dX1_readAll_6 rfl (lv_at hl 1 rfl) ?_
  refine lv_bipush (v := nI 119) zx zb dX1_readAll_7 (by decide) ?_
  refine nv_ki zC hX (nv_rV (n := 2) (As := [.int (nI en), .int (nI 119)]) (rest := []) (q0 := 0) zC hX (mm_isSign (en := en) (code := 119) (hen := (by first | assumption | omega)) (hat := (by first | assumption | omega)) (hcd := (by first | assumption | omega))) nvGb0 (fun _ _ _ => trivial) rfl rfl q1308 q1310 qs32 q63 q1311 (by decide +kernel) rfl ⟨Nat.le_of_ble_eq_true rfl, Nat.le_of_ble_eq_true rfl⟩ hl.1 (Nat.le_of_ble_eq_true rfl) dX1_readAll_9 ⟨by first | exact Nat.le_of_ble_eq_true rfl | omega, by first | exact Nat.le_of_ble_eq_true rfl | omega⟩) (fun r u H locs hp hX => ?_)
  obtain ⟨at_'_1, rfl⟩ : ∃ z, z = u := ⟨_, rfl⟩
  obtain ⟨hr_, h9⟩ : r = nB (isg cells at_ en 119) ∧ at_'_1 = (if isg cells at_ en 119 then at_ + 1 else at_) := hp
  subst hr_
  have hX : nvS D a0 (mW dA a fault trace sorts shL cells words said kind longOf letters saidRow at_'_1 0 rKind rLong rLet looked lkL next heard far ways waysT free freeT rdgs rWord rMany rStands rRow ex) s.heap H locs := hX
  refine W.cs (cells' := 0) (slots' := 0) (Nat.add_zero _) (Nat.add_zero _) ?_
  refine nv_if_neB (tgt := 17) zx zb dX1_readAll_12 (by decide) (fun c12 => ?_) (fun c12 => ?_)
  · rw [if_pos c12] at h9
    subst h9
    have hi0 := isg_in c12
    have hpa : pAll cells en at_ = pRun cells en 4 0 (at_ + 1) := by unfold pAll; rw [c12]; rfl
    have L17 : ∀ (zn : Nat) (rk : Nat → Option Nat) (rg rl : Nat → Nat) (p rr : Nat) (hr : rr ≤ 4) (hpe : p ≤ en) (hpp : p = pPos cells en at_ rr) (hrun : pRun cells en 4 0 (at_ + 1) = pRun cells en (4 - rr) rr p) (hr1 : ∀ z, rl z < 3) (hr2 : ∀ z, rg z ≤ 4) (hws : wdsOK cells en at_ rr rk rg rl), 4 - rr < zn → ∀ (H : Heap) (locs : List Loc) (ls : Array Slot), nvS D a0 (mW dA a fault trace sorts shL cells words said kind longOf letters saidRow p rr rk rg rl looked lkL next heard far ways waysT free freeT rdgs rWord rMany rStands rRow ex) s.heap H locs → lv_has ls 2 [(0, .ref (a 0)), (1, .int (nI en))] → W zp l ze (rm_ 3 57 0 0) s zm zar zlo zme zcd H locs 0 0 Q (F0 zm 17 ls []) := by
      intro zn
      induction zn with
      | zero => intro rk rg rl p rr hr hpe hpp hrun hr1 hr2 hws zf; exact absurd zf (Nat.not_lt_zero _)
      | succ zn ih17 =>
        intro rk rg rl p rr hr hpe hpp hrun hr1 hr2 hws zf H locs ls hX hl
        refine lv_aload_n zx zb dX1_readAll_17 rfl (lv_at hl 0 rfl) ?_
        refine nv_get zC hX in_X1 0 rfl rfl 12 (by decide) q1204 (fun _ h => h) rfl dX1_readAll_18 ?_
        refine nv_if_eq (tgt := 40) zx zb (by omega) dX1_readAll_21 (by decide) (fun c21 => ?_) (fun c21 => ?_)
        · have hgo : rr = 0 ∨ p < en := by omega
          have hr4 : rr < 4 := by omega
          refine lv_aload_n zx zb dX1_readAll_40 rfl (lv_at hl 0 rfl) ?_
          refine lv_iload_n zx zb dX1_readAll_41 rfl (lv_at hl 1 rfl) ?_
          refine lv_bipush (v := nI 59) zx zb dX1_readAll_42 (by decide) ?_
          refine nv_ki zC hX (nv_rV (n := 2) (As := [.int (nI en), .int (nI 59)]) (rest := []) (q0 := 0) zC hX (mm_isSign (en := en) (code := 59) (hen := (by first | assumption | omega)) (hat := (by first | assumption | omega)) (hcd := (by first | assumption | omega))) nvGb0 (fun _ _ _ => trivial) rfl rfl q1308 q1310 qs32 q63 q1311 (by decide +kernel) rfl ⟨Nat.le_of_ble_eq_true rfl, Nat.le_of_ble_eq_true rfl⟩ hl.1 (Nat.le_of_ble_eq_true rfl) dX1_readAll_44 ⟨by first | exact Nat.le_of_ble_eq_true rfl | omega, by first | exact Nat.le_of_ble_eq_true rfl | omega⟩) (fun r u H locs hp hX => ?_)
          obtain ⟨at_'_2, rfl⟩ : ∃ z, z = u := ⟨_, rfl⟩
          obtain ⟨hr_, h44⟩ : r = nB (isg cells p en 59) ∧ at_'_2 = (if isg cells p en 59 then p + 1 else p) := hp
          subst hr_
          have hX : nvS D a0 (mW dA a fault trace sorts shL cells words said kind longOf letters saidRow at_'_2 rr rk rg rl looked lkL next heard far ways waysT free freeT rdgs rWord rMany rStands rRow ex) s.heap H locs := hX
          refine W.cs (cells' := 0) (slots' := 0) (Nat.add_zero _) (Nat.add_zero _) ?_
          refine nv_if_eqB (tgt := 62) zx zb dX1_readAll_47 (by decide) (fun c47 => ?_) (fun c47 => ?_)
          · rw [show isg cells p en 59 = false from c47, if_neg (by decide)] at h44
            rw [h44] at hX
            have hpw : pW cells en p = (false, p) := by unfold pW; rw [c47]; rfl
            have hpr := hpa.trans (hrun.trans (pRun_f hr4 hgo (by rw [hpw])))
            rw [hpw] at hpr
            refine lv_iconst (v := nI 0) zx zb dX1_readAll_62 (by decide) ?_
            rw [← zQ]
            refine nv_as (y := nB false) rfl ?_
            exact nv_endz zC zr zk (p, rr, rk, rg, rl) hX (by (try dsimp only); rw [hpr]; exact ⟨rfl, rfl, rfl, hr1, hr2, hr, hpe, fun z => absurd z Bool.false_ne_true⟩) (by omega) (by omega) dX1_readAll_63
          · rw [if_pos c47] at h44
            subst h44
            have hi1 := isg_in c47
            have hpw : pW cells en p = rdW_ cells en (p + 1) := by unfold pW; rw [c47]; rfl
            refine lv_aload_n zx zb dX1_readAll_50 rfl (lv_at hl 0 rfl) ?_
            refine lv_iload_n zx zb dX1_readAll_51 rfl (lv_at hl 1 rfl) ?_
            refine lv_aload_n zx zb dX1_readAll_52 rfl (lv_at hl 0 rfl) ?_
            refine nv_get zC hX in_X1 0 rfl rfl 12 (by decide) q1204 (fun _ h => h) rfl dX1_readAll_53 ?_
            refine nv_ki zC hX (nv_rV (n := 2) (As := [.int (nI en), .int (nI rr)]) (rest := []) (q0 := 0) zC hX (mm_readWord (en := en) (w := rr) (hen := (by first | assumption | omega)) (hat := (by first | assumption | omega)) (hw := (by first | assumption | omega)) (hrl := (by first | assumption | omega)) (hrg := (by first | assumption | omega))) nvGb0 (fun _ _ _ => trivial) rfl rfl q1312 q1314 qs33 q63 q1315 (by decide +kernel) rfl ⟨Nat.le_of_ble_eq_true rfl, Nat.le_of_ble_eq_true rfl⟩ hl.1 (Nat.le_of_ble_eq_true rfl) dX1_readAll_56 ⟨by first | exact Nat.le_of_ble_eq_true rfl | omega, by first | exact Nat.le_of_ble_eq_true rfl | omega⟩) (fun r u H locs hp hX => ?_)
            obtain ⟨at_'_3, rKind'_3, rLong'_3, rLet'_3⟩ := u
            obtain ⟨hr_, h56⟩ : r = nB ((rdW_ cells en (p + 1)).1) ∧ at_'_3 = (rdW_ cells en (p + 1)).2 ∧ (∀ z, rLet'_3 z < 3) ∧ (∀ z, rLong'_3 z ≤ 4) ∧ (∀ z, z ≠ rr → rKind'_3 z = rk z ∧ rLong'_3 z = rg z) ∧ (∀ z, z < 4 * rr ∨ 4 * rr + 4 ≤ z → rLet'_3 z = rl z) ∧ ((rdW_ cells en (p + 1)).1 = true → rKind'_3 rr = pkd (cells (p + 1)) ∧ rKind'_3 rr ≠ none ∧ rLong'_3 rr = pLen cells en ((p + 1) + 2) 4 ∧ 0 < rLong'_3 rr ∧ ∀ z, z < rLong'_3 rr → rLet'_3 (4 * rr + z) = i2n (cells ((p + 1) + 2 + z)) - 97) := hp
            subst hr_
            have hX : nvS D a0 (mW dA a fault trace sorts shL cells words said kind longOf letters saidRow at_'_3 rr rKind'_3 rLong'_3 rLet'_3 looked lkL next heard far ways waysT free freeT rdgs rWord rMany rStands rRow ex) s.heap H locs := hX
            refine W.cs (cells' := 0) (slots' := 0) (Nat.add_zero _) (Nat.add_zero _) ?_
            obtain ⟨hat2, hq1, hq2, hq3, hq4, hq5⟩ := h56
            rw [← hpw] at hat2
            refine nv_if_neB (tgt := 64) zx zb dX1_readAll_59 (by decide) (fun c59 => ?_) (fun c59 => ?_)
            · have hpw1 : (pW cells en p).1 = true := by rw [hpw]; exact c59
              have hq5 := hq5 c59
              rw [hat2] at hX
              refine lv_aload_n zx zb dX1_readAll_64 rfl (lv_at hl 0 rfl) ?_
              refine lv_dup zx zb dX1_readAll_65 rfl ?_
              refine nv_get zC hX in_X1 0 rfl rfl 12 (by decide) q1204 (fun _ h => h) rfl dX1_readAll_66 ?_
              refine lv_iconst (v := nI 1) zx zb dX1_readAll_69 (by decide) ?_
              refine nv_iadd zx zb dX1_readAll_70 ?_
              refine nv_put zC hX in_X1 tyX1 tyX1_ok nmX1 0 rfl rfl 12 (by decide) q1204 (fun _ h => h) rfl rfl rfl (Nat.le_of_ble_eq_true rfl) (w' := mW dA a fault trace sorts shL cells words said kind longOf letters saidRow ((pW cells en p).2) (rr + 1) rKind'_3 rLong'_3 rLet'_3 looked lkL next heard far ways waysT free freeT rdgs rWord rMany rStands rRow ex) rfl dX1_readAll_71 (fun H locs hX => ?_)
              refine lv_goto (tgt := 17) zx zb dX1_readAll_74 (by decide) ?_
              exact ih17 rKind'_3 rLong'_3 rLet'_3 ((pW cells en p).2) (rr + 1) (by omega) (pW_le hpe) (by rw [hpp]; rfl) (hrun.trans (pRun_s (by omega) hgo hpw1)) hq1 hq2 (wds_s hws hq3 hq4 hr2 (by rw [← hpp]; exact isWd_of hq5.1 hq5.2.1 hq5.2.2.1 hq5.2.2.2.1 hq5.2.2.2.2)) (by omega) _ _ _ hX (lv_sub hl [0, 1] rfl)
            · have hpw1 : (pW cells en p).1 = false := by rw [hpw]; exact c59
              have hpr := hpa.trans (hrun.trans (pRun_f hr4 hgo hpw1))
              rw [hat2] at hX
              refine lv_iconst (v := nI 0) zx zb dX1_readAll_62 (by decide) ?_
              rw [← zQ]
              refine nv_as (y := nB false) rfl ?_
              exact nv_endz zC zr zk ((pW cells en p).2, rr, rKind'_3, rLong'_3, rLet'_3) hX (by (try dsimp only); rw [hpr]; exact ⟨rfl, rfl, rfl, hq1, hq2, hr, pW_le hpe, fun z => absurd z Bool.false_ne_true⟩) (by omega) (by omega) dX1_readAll_63
        · refine lv_aload_n zx zb dX1_readAll_24 rfl (lv_at hl 0 rfl) ?_
          refine nv_get zC hX in_X1 0 rfl rfl 12 (by decide) q1204 (fun _ h => h) rfl dX1_readAll_25 ?_
          refine lv_iconst (v := nI 4) zx zb dX1_readAll_28 (by decide) ?_
          refine nv_icmp_ge (tgt := 77) zx zb (by omega) (by omega) dX1_readAll_29 (by decide) (fun c29 => ?_) (fun c29 => ?_)
          · refine lv_aload_n zx zb dX1_readAll_77 rfl (lv_at hl 0 rfl) ?_
            refine nv_get zC hX in_X1 0 rfl rfl 11 (by decide) q1203 (fun _ h => h) rfl dX1_readAll_78 ?_
            refine lv_iload_n zx zb dX1_readAll_81 rfl (lv_at hl 1 rfl) ?_
            refine nv_icmp_ne (tgt := 89) zx zb (by omega) (by omega) dX1_readAll_82 (by decide) (fun c82 => ?_) (fun c82 => ?_)
            · refine lv_iconst (v := nI 0) zx zb dX1_readAll_89 (by decide) ?_
              have hpr := hpa.trans (hrun.trans (pRun_x (by omega)))
              refine nv_as (show nI 0 = nB (decide (p = en)) from (nB_as0 (decide_eq_false c82))) ?_
              rw [← zQ]
              exact nv_endz zC zr zk (p, rr, rk, rg, rl) hX (by (try dsimp only); rw [hpr]; exact ⟨rfl, rfl, rfl, hr1, hr2, hr, hpe, fun _ => ⟨hws, by omega⟩⟩) (by omega) (by omega) dX1_readAll_90
            · refine lv_iconst (v := nI 1) zx zb dX1_readAll_85 (by decide) ?_
              refine lv_goto (tgt := 90) zx zb dX1_readAll_86 (by decide) ?_
              have hpr := hpa.trans (hrun.trans (pRun_x (by omega)))
              refine nv_as (show nI 1 = nB (decide (p = en)) from (nB_as1 (decide_eq_true c82))) ?_
              rw [← zQ]
              exact nv_endz zC zr zk (p, rr, rk, rg, rl) hX (by (try dsimp only); rw [hpr]; exact ⟨rfl, rfl, rfl, hr1, hr2, hr, hpe, fun _ => ⟨hws, by omega⟩⟩) (by omega) (by omega) dX1_readAll_90
          · refine lv_aload_n zx zb dX1_readAll_32 rfl (lv_at hl 0 rfl) ?_
            refine nv_get zC hX in_X1 0 rfl rfl 11 (by decide) q1203 (fun _ h => h) rfl dX1_readAll_33 ?_
            refine lv_iload_n zx zb dX1_readAll_36 rfl (lv_at hl 1 rfl) ?_
            refine nv_icmp_ge (tgt := 77) zx zb (by omega) (by omega) dX1_readAll_37 (by decide) (fun c37 => ?_) (fun c37 => ?_)
            · refine lv_aload_n zx zb dX1_readAll_77 rfl (lv_at hl 0 rfl) ?_
              refine nv_get zC hX in_X1 0 rfl rfl 11 (by decide) q1203 (fun _ h => h) rfl dX1_readAll_78 ?_
              refine lv_iload_n zx zb dX1_readAll_81 rfl (lv_at hl 1 rfl) ?_
              refine nv_icmp_ne (tgt := 89) zx zb (by omega) (by omega) dX1_readAll_82 (by decide) (fun c82 => ?_) (fun c82 => ?_)
              · refine lv_iconst (v := nI 0) zx zb dX1_readAll_89 (by decide) ?_
                have hpr := hpa.trans (hrun.trans (pRun_x (by omega)))
                refine nv_as (show nI 0 = nB (decide (p = en)) from (nB_as0 (decide_eq_false c82))) ?_
                rw [← zQ]
                exact nv_endz zC zr zk (p, rr, rk, rg, rl) hX (by (try dsimp only); rw [hpr]; exact ⟨rfl, rfl, rfl, hr1, hr2, hr, hpe, fun _ => ⟨hws, by omega⟩⟩) (by omega) (by omega) dX1_readAll_90
              · refine lv_iconst (v := nI 1) zx zb dX1_readAll_85 (by decide) ?_
                refine lv_goto (tgt := 90) zx zb dX1_readAll_86 (by decide) ?_
                have hpr := hpa.trans (hrun.trans (pRun_x (by omega)))
                refine nv_as (show nI 1 = nB (decide (p = en)) from (nB_as1 (decide_eq_true c82))) ?_
                rw [← zQ]
                exact nv_endz zC zr zk (p, rr, rk, rg, rl) hX (by (try dsimp only); rw [hpr]; exact ⟨rfl, rfl, rfl, hr1, hr2, hr, hpe, fun _ => ⟨hws, by omega⟩⟩) (by omega) (by omega) dX1_readAll_90
            · have hgo : rr = 0 ∨ p < en := by omega
              have hr4 : rr < 4 := by omega
              refine lv_aload_n zx zb dX1_readAll_40 rfl (lv_at hl 0 rfl) ?_
              refine lv_iload_n zx zb dX1_readAll_41 rfl (lv_at hl 1 rfl) ?_
              refine lv_bipush (v := nI 59) zx zb dX1_readAll_42 (by decide) ?_
              refine nv_ki zC hX (nv_rV (n := 2) (As := [.int (nI en), .int (nI 59)]) (rest := []) (q0 := 0) zC hX (mm_isSign (en := en) (code := 59) (hen := (by first | assumption | omega)) (hat := (by first | assumption | omega)) (hcd := (by first | assumption | omega))) nvGb0 (fun _ _ _ => trivial) rfl rfl q1308 q1310 qs32 q63 q1311 (by decide +kernel) rfl ⟨Nat.le_of_ble_eq_true rfl, Nat.le_of_ble_eq_true rfl⟩ hl.1 (Nat.le_of_ble_eq_true rfl) dX1_readAll_44 ⟨by first | exact Nat.le_of_ble_eq_true rfl | omega, by first | exact Nat.le_of_ble_eq_true rfl | omega⟩) (fun r u H locs hp hX => ?_)
              obtain ⟨at_'_4, rfl⟩ : ∃ z, z = u := ⟨_, rfl⟩
              obtain ⟨hr_, h44⟩ : r = nB (isg cells p en 59) ∧ at_'_4 = (if isg cells p en 59 then p + 1 else p) := hp
              subst hr_
              have hX : nvS D a0 (mW dA a fault trace sorts shL cells words said kind longOf letters saidRow at_'_4 rr rk rg rl looked lkL next heard far ways waysT free freeT rdgs rWord rMany rStands rRow ex) s.heap H locs := hX
              refine W.cs (cells' := 0) (slots' := 0) (Nat.add_zero _) (Nat.add_zero _) ?_
              refine nv_if_eqB (tgt := 62) zx zb dX1_readAll_47 (by decide) (fun c47 => ?_) (fun c47 => ?_)
              · rw [show isg cells p en 59 = false from c47, if_neg (by decide)] at h44
                rw [h44] at hX
                have hpw : pW cells en p = (false, p) := by unfold pW; rw [c47]; rfl
                have hpr := hpa.trans (hrun.trans (pRun_f hr4 hgo (by rw [hpw])))
                rw [hpw] at hpr
                refine lv_iconst (v := nI 0) zx zb dX1_readAll_62 (by decide) ?_
                rw [← zQ]
                refine nv_as (y := nB false) rfl ?_
                exact nv_endz zC zr zk (p, rr, rk, rg, rl) hX (by (try dsimp only); rw [hpr]; exact ⟨rfl, rfl, rfl, hr1, hr2, hr, hpe, fun z => absurd z Bool.false_ne_true⟩) (by omega) (by omega) dX1_readAll_63
              · rw [if_pos c47] at h44
                subst h44
                have hi1 := isg_in c47
                have hpw : pW cells en p = rdW_ cells en (p + 1) := by unfold pW; rw [c47]; rfl
                refine lv_aload_n zx zb dX1_readAll_50 rfl (lv_at hl 0 rfl) ?_
                refine lv_iload_n zx zb dX1_readAll_51 rfl (lv_at hl 1 rfl) ?_
                refine lv_aload_n zx zb dX1_readAll_52 rfl (lv_at hl 0 rfl) ?_
                refine nv_get zC hX in_X1 0 rfl rfl 12 (by decide) q1204 (fun _ h => h) rfl dX1_readAll_53 ?_
                refine nv_ki zC hX (nv_rV (n := 2) (As := [.int (nI en), .int (nI rr)]) (rest := []) (q0 := 0) zC hX (mm_readWord (en := en) (w := rr) (hen := (by first | assumption | omega)) (hat := (by first | assumption | omega)) (hw := (by first | assumption | omega)) (hrl := (by first | assumption | omega)) (hrg := (by first | assumption | omega))) nvGb0 (fun _ _ _ => trivial) rfl rfl q1312 q1314 qs33 q63 q1315 (by decide +kernel) rfl ⟨Nat.le_of_ble_eq_true rfl, Nat.le_of_ble_eq_true rfl⟩ hl.1 (Nat.le_of_ble_eq_true rfl) dX1_readAll_56 ⟨by first | exact Nat.le_of_ble_eq_true rfl | omega, by first | exact Nat.le_of_ble_eq_true rfl | omega⟩) (fun r u H locs hp hX => ?_)
                obtain ⟨at_'_5, rKind'_5, rLong'_5, rLet'_5⟩ := u
                obtain ⟨hr_, h56⟩ : r = nB ((rdW_ cells en (p + 1)).1) ∧ at_'_5 = (rdW_ cells en (p + 1)).2 ∧ (∀ z, rLet'_5 z < 3) ∧ (∀ z, rLong'_5 z ≤ 4) ∧ (∀ z, z ≠ rr → rKind'_5 z = rk z ∧ rLong'_5 z = rg z) ∧ (∀ z, z < 4 * rr ∨ 4 * rr + 4 ≤ z → rLet'_5 z = rl z) ∧ ((rdW_ cells en (p + 1)).1 = true → rKind'_5 rr = pkd (cells (p + 1)) ∧ rKind'_5 rr ≠ none ∧ rLong'_5 rr = pLen cells en ((p + 1) + 2) 4 ∧ 0 < rLong'_5 rr ∧ ∀ z, z < rLong'_5 rr → rLet'_5 (4 * rr + z) = i2n (cells ((p + 1) + 2 + z)) - 97) := hp
                subst hr_
                have hX : nvS D a0 (mW dA a fault trace sorts shL cells words said kind longOf letters saidRow at_'_5 rr rKind'_5 rLong'_5 rLet'_5 looked lkL next heard far ways waysT free freeT rdgs rWord rMany rStands rRow ex) s.heap H locs := hX
                refine W.cs (cells' := 0) (slots' := 0) (Nat.add_zero _) (Nat.add_zero _) ?_
                obtain ⟨hat2, hq1, hq2, hq3, hq4, hq5⟩ := h56
                rw [← hpw] at hat2
                refine nv_if_neB (tgt := 64) zx zb dX1_readAll_59 (by decide) (fun c59 => ?_) (fun c59 => ?_)
                · have hpw1 : (pW cells en p).1 = true := by rw [hpw]; exact c59
                  have hq5 := hq5 c59
                  rw [hat2] at hX
                  refine lv_aload_n zx zb dX1_readAll_64 rfl (lv_at hl 0 rfl) ?_
                  refine lv_dup zx zb dX1_readAll_65 rfl ?_
                  refine nv_get zC hX in_X1 0 rfl rfl 12 (by decide) q1204 (fun _ h => h) rfl dX1_readAll_66 ?_
                  refine lv_iconst (v := nI 1) zx zb dX1_readAll_69 (by decide) ?_
                  refine nv_iadd zx zb dX1_readAll_70 ?_
                  refine nv_put zC hX in_X1 tyX1 tyX1_ok nmX1 0 rfl rfl 12 (by decide) q1204 (fun _ h => h) rfl rfl rfl (Nat.le_of_ble_eq_true rfl) (w' := mW dA a fault trace sorts shL cells words said kind longOf letters saidRow ((pW cells en p).2) (rr + 1) rKind'_5 rLong'_5 rLet'_5 looked lkL next heard far ways waysT free freeT rdgs rWord rMany rStands rRow ex) rfl dX1_readAll_71 (fun H locs hX => ?_)
                  refine lv_goto (tgt := 17) zx zb dX1_readAll_74 (by decide) ?_
                  exact ih17 rKind'_5 rLong'_5 rLet'_5 ((pW cells en p).2) (rr + 1) (by omega) (pW_le hpe) (by rw [hpp]; rfl) (hrun.trans (pRun_s (by omega) hgo hpw1)) hq1 hq2 (wds_s hws hq3 hq4 hr2 (by rw [← hpp]; exact isWd_of hq5.1 hq5.2.1 hq5.2.2.1 hq5.2.2.2.1 hq5.2.2.2.2)) (by omega) _ _ _ hX (lv_sub hl [0, 1] rfl)
                · have hpw1 : (pW cells en p).1 = false := by rw [hpw]; exact c59
                  have hpr := hpa.trans (hrun.trans (pRun_f hr4 hgo hpw1))
                  rw [hat2] at hX
                  refine lv_iconst (v := nI 0) zx zb dX1_readAll_62 (by decide) ?_
                  rw [← zQ]
                  refine nv_as (y := nB false) rfl ?_
                  exact nv_endz zC zr zk ((pW cells en p).2, rr, rKind'_5, rLong'_5, rLet'_5) hX (by (try dsimp only); rw [hpr]; exact ⟨rfl, rfl, rfl, hq1, hq2, hr, pW_le hpe, fun z => absurd z Bool.false_ne_true⟩) (by omega) (by omega) dX1_readAll_63
    exact L17 _ rKind rLong rLet (at_ + 1) 0 (by omega) (by omega) rfl rfl hrl hrg (fun w h => absurd h (Nat.not_lt_zero _)) (Nat.lt_succ_self _) _ _ _ hX (lv_sub hl [0, 1] rfl)
  · rw [show isg cells at_ en 119 = false from c12, if_neg (by decide)] at h9
    rw [h9] at hX
    have hpa : pAll cells en at_ = (false, (at_, 0)) := by unfold pAll; rw [c12]; rfl
    refine lv_iconst (v := nI 0) zx zb dX1_readAll_15 (by decide) ?_
    rw [← zQ]
    refine nv_as (y := nB false) rfl ?_
    exact nv_endz zC zr zk (at_, 0, rKind, rLong, rLet) hX (by (try dsimp only); rw [hpa]; exact ⟨rfl, rfl, rfl, hrl, hrg, by decide, hat, fun z => absurd z Bool.false_ne_true⟩) (by omega) (by omega) dX1_readAll_16
end
