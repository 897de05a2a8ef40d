/-! THE MODEL: contracts, printed by tools/model.py -/
set_option maxRecDepth 100000
section
variable {l : Launch} {D : va_G} {dA : Nat → ClassId} {a0 : Nat} {a : Nat → Nat} {ex : va_W} {fault : Int32} {trace : Int32} {sorts : Nat → Option Nat} {shL : Nat → Nat} {cells : Nat → Int32} {words : Nat} {said : Nat} {kind : Nat → Nat} {longOf : Nat → Nat} {letters : Nat → Nat} {saidRow : Nat → Nat} {at_ : Nat} {rdW : Nat} {rKind : Nat → Option Nat} {rLong : Nat → Nat} {rLet : Nat → Nat} {looked : Nat → Nat} {lkL : Nat} {next : Nat → Nat} {heard : Nat → Nat} {far : Nat → Option Nat} {ways : Nat → Nat} {waysT : Nat → Nat} {free : Nat → Nat} {freeT : Nat → Nat} {rdgs : Nat} {rWord : Nat → Nat} {rMany : Nat → Nat} {rStands : Nat → Nat} {rRow : Nat → Nat}
set_option maxHeartbeats 4000000 in
theorem mm_words  (sheet : Int32) (sort : Int32) (i : Int32) (n : Int32) (hok : mOK words kind longOf letters) (hso : ∀ q v, sorts q = some v → v < 3) (hsl : ∀ q, shL q ≤ 60) (hrl : ∀ z, rLet z < 3) (hrg : ∀ z, rLong z ≤ 4) : nMt l D dA a0 yX1_words cX1_words 9 (some .int) 4 78 0 0 nvG0 [.ref (a 0), .int sheet, .int sort, .int i, .int n] (mW dA a fault trace sorts shL cells words said kind longOf letters saidRow at_ rdW rKind rLong rLet looked lkL next heard far ways waysT free freeT rdgs rWord rMany rStands rRow ex) (nQi D a0 (fun (r : Int32) (u : Int32 × Nat × Nat × Nat × (Nat → Nat) × (Nat → Nat) × (Nat → Nat) × Nat × Nat × (Nat → Option Nat) × (Nat → Nat) × (Nat → Nat)) => r = F_words sorts shL cells sheet sort i n ∧ u.1 = nI (g_words sorts shL sheet sort i n) ∧ wordsOK sorts shL cells sheet sort i n words said rdgs kind longOf letters u.2.1 u.2.2.1 u.2.2.2.1 u.2.2.2.2.1 u.2.2.2.2.2.1 u.2.2.2.2.2.2.1 ∧ mOK u.2.1 u.2.2.2.2.1 u.2.2.2.2.2.1 u.2.2.2.2.2.2.1 ∧ (∀ z, u.2.2.2.2.2.2.2.2.2.2.2 z < 3) ∧ (∀ z, u.2.2.2.2.2.2.2.2.2.2.1 z ≤ 4)) (fun (u : Int32 × Nat × Nat × Nat × (Nat → Nat) × (Nat → Nat) × (Nat → Nat) × Nat × Nat × (Nat → Option Nat) × (Nat → Nat) × (Nat → Nat)) => mW dA a u.1 trace sorts shL cells u.2.1 u.2.2.1 u.2.2.2.2.1 u.2.2.2.2.2.1 u.2.2.2.2.2.2.1 saidRow u.2.2.2.2.2.2.2.1 u.2.2.2.2.2.2.2.2.1 u.2.2.2.2.2.2.2.2.2.1 u.2.2.2.2.2.2.2.2.2.2.1 u.2.2.2.2.2.2.2.2.2.2.2 looked lkL next heard far ways waysT free freeT u.2.2.2.1 rWord rMany rStands rRow ex)) := by
  refine nv_start (by decide) (Nat.le_of_ble_eq_true rfl) fun zp ze s zm zlo zme zcd ls zC zr zk znm hX zG hl => ?_
  have zx := zC.1
  have zb := zC.2.1
  generalize zargs : ([.ref (a 0), .int sheet, .int sort, .int i, .int n] : List Value).toArray = zar at zC ⊢
  generalize zQ : MQ zlo _ zar s _ _ _ = Q
  have hX : nvS D a0 (mW dA a fault trace sorts shL cells words said kind longOf letters saidRow at_ rdW rKind rLong rLet looked lkL next heard far ways waysT free freeT rdgs rWord rMany rStands rRow ex) s.heap s.heap [] := hX
  have hl : lv_has ls 9 [(0, .ref (a 0)), (1, .int sheet), (2, .int sort), (3, .int i), (4, .int n)] := hl
  obtain ⟨H, zH⟩ : ∃ H, H = s.heap := ⟨_, rfl⟩
  have hX : nvS D a0 (mW dA a fault trace sorts shL cells words said kind longOf letters saidRow at_ rdW rKind rLong rLet looked lkL next heard far ways waysT free freeT rdgs rWord rMany rStands rRow ex) s.heap H [] := by rw [zH]; exact hX
  rw [show W zp l ze (rm_ 4 78 0 0) s zm zar zlo zme zcd s.heap [] 0 0 Q = W zp l ze (rm_ 4 78 0 0) s zm zar zlo zme zcd H [] 0 0 Q by rw [zH]]
  generalize ([] : List Loc) = locs at hX ⊢
  have hw4 := hok.1
  have hlt := hok.2.2.2
  refine lv_aload_n zx zb dX1_words_0 rfl (lv_at hl 0 rfl) ?_
  refine lv_iconst (v := nI 0) zx zb dX1_words_1 (by decide) ?_
  refine nv_put zC hX in_X1 tyX1 tyX1_ok nmX1 0 rfl rfl 0 (by decide) q1192 (fun _ h => h) rfl rfl rfl (Nat.le_of_ble_eq_true rfl) (w' := mW dA a (nI 0) trace sorts shL cells words said kind longOf letters saidRow at_ rdW rKind rLong rLet looked lkL next heard far ways waysT free freeT rdgs rWord rMany rStands rRow ex) rfl dX1_words_2 (fun H locs hX => ?_)
  refine lv_iload_n zx zb dX1_words_5 rfl (lv_at hl 1 rfl) ?_
  refine nv_ki zC hX (nv_rS (n := 1) (As := [.int sheet]) (rest := []) zC hX (mm_isSheet (v := sheet)) nvGb0 (fun _ _ _ => trivial) q1287 q1288 q63 q1289 (by decide +kernel) rfl ⟨Nat.le_of_ble_eq_true rfl, Nat.le_of_ble_eq_true rfl⟩ hl.1 (Nat.le_of_ble_eq_true rfl) dX1_words_6 ⟨by first | exact Nat.le_of_ble_eq_true rfl | omega, by first | exact Nat.le_of_ble_eq_true rfl | omega⟩) (fun r u H locs hp hX => ?_)
  have hr_ : r = nB (inN sheet 0 3) := hp
  subst hr_
  have hX : nvS D a0 (mW dA a (nI 0) trace sorts shL cells words said kind longOf letters saidRow at_ rdW rKind rLong rLet looked lkL next heard far ways waysT free freeT rdgs rWord rMany rStands rRow ex) s.heap H locs := hX
  refine W.cs (cells' := 0) (slots' := 0) (Nat.add_zero _) (Nat.add_zero _) ?_
  refine nv_if_neB (tgt := 14) zx zb dX1_words_9 (by decide) (fun c9 => ?_) (fun c9 => ?_)
  · obtain ⟨sh, -, hsh, rfl⟩ := inN_t (by decide) (by decide) c9
    have esh : i2n (nI sh) = sh := nI_clamp (by omega)
    have hsl_ := hsl sh
    refine lv_iload_n zx zb dX1_words_14 rfl (lv_at hl 2 rfl) ?_
    refine nv_ki zC hX (nv_rS (n := 1) (As := [.int sort]) (rest := []) zC hX (mm_isSort (v := sort)) nvGb0 (fun _ _ _ => trivial) q1293 q1294 q63 q1295 (by decide +kernel) rfl ⟨Nat.le_of_ble_eq_true rfl, Nat.le_of_ble_eq_true rfl⟩ hl.1 (Nat.le_of_ble_eq_true rfl) dX1_words_15 ⟨by first | exact Nat.le_of_ble_eq_true rfl | omega, by first | exact Nat.le_of_ble_eq_true rfl | omega⟩) (fun r u H locs hp hX => ?_)
    have hr_ : r = nB (inN sort 0 2) := hp
    subst hr_
    have hX : nvS D a0 (mW dA a (nI 0) trace sorts shL cells words said kind longOf letters saidRow at_ rdW rKind rLong rLet looked lkL next heard far ways waysT free freeT rdgs rWord rMany rStands rRow ex) s.heap H locs := hX
    refine W.cs (cells' := 0) (slots' := 0) (Nat.add_zero _) (Nat.add_zero _) ?_
    refine nv_if_neB (tgt := 24) zx zb dX1_words_18 (by decide) (fun c18 => ?_) (fun c18 => ?_)
    · have h0 : okWs (nI sh) sort = true := by unfold okWs; rw [c9, c18]; rfl
      have hgr : g_words sorts shL (nI sh) sort i n = agN sorts shL sh sort i n := by unfold g_words; rw [h0, esh]; rfl
      refine lv_aload_n zx zb dX1_words_24 rfl (lv_at hl 0 rfl) ?_
      refine lv_iload_n zx zb dX1_words_25 rfl (lv_at hl 1 rfl) ?_
      refine lv_iload_n zx zb dX1_words_26 rfl (lv_at hl 2 rfl) ?_
      refine lv_iload_n zx zb dX1_words_27 rfl (lv_at hl 3 rfl) ?_
      refine lv_iload zx zb dX1_words_28 (lv_at hl 4 rfl) ?_
      refine nv_ki zC hX (nv_rV (n := 4) (As := [.int (nI sh), .int sort, .int i, .int n]) (rest := []) (q0 := 0) zC hX (mm_against (sheet := sh) (sort := sort) (i := i) (n := n) (hso := (by first | assumption | omega)) (hsl := (by first | assumption | omega)) (hsh := (by first | assumption | omega))) nvGb0 (fun _ _ _ => trivial) rfl rfl q1296 q1298 qs29 q63 q1299 (by decide +kernel) rfl ⟨Nat.le_of_ble_eq_true rfl, Nat.le_of_ble_eq_true rfl⟩ hl.1 (Nat.le_of_ble_eq_true rfl) dX1_words_30 ⟨by first | exact Nat.le_of_ble_eq_true rfl | omega, by first | exact Nat.le_of_ble_eq_true rfl | omega⟩) (fun r u H locs hp hX => ?_)
      have hr_ : r = nI (agN sorts shL sh sort i n) := hp
      subst hr_
      have hX : nvS D a0 (mW dA a (nI 0) trace sorts shL cells words said kind longOf letters saidRow at_ rdW rKind rLong rLet looked lkL next heard far ways waysT free freeT rdgs rWord rMany rStands rRow ex) s.heap H locs := hX
      refine W.cs (cells' := 0) (slots' := 0) (Nat.add_zero _) (Nat.add_zero _) ?_
      refine lv_istore (lv' := [(5, .int (nI (agN sorts shL sh sort i n))), (0, .ref (a 0)), (1, .int (nI sh)), (2, .int sort), (3, .int i), (4, .int n)]) zx zb dX1_words_33 hl (by decide) rfl (fun ls hl => ?_)
      refine lv_iload zx zb dX1_words_35 (lv_at hl 0 rfl) ?_
      refine nv_if_eq (tgt := 47) zx zb (Nat.lt_trans (agN_lt _ _ _ _ _ _) (by decide)) dX1_words_37 (by decide) (fun c37 => ?_) (fun c37 => ?_)
      · obtain ⟨ii, nn, rfl, rfl, hin, -, -⟩ := agN_0 (hsl _) c37
        have hl := lv_sub hl [1, 2, 3, 4, 5] rfl
        have hsl_ := hsl sh
        have ei : i2n (nI ii) = ii := nI_clamp (by omega)
        have en : i2n (nI nn) = nn := nI_clamp (by omega)
        have hpr : pRes cells (nI sh) (nI ii) (nI nn) = pAll cells (60 * sh + ii + nn) (60 * sh + ii) := by unfold pRes; rw [esh, ei, en]
        have hF : F_words sorts shL cells (nI sh) sort (nI ii) (nI nn) = (if (pRes cells (nI sh) (nI ii) (nI nn)).1 then nI (pRes cells (nI sh) (nI ii) (nI nn)).2.2 else (-100) - nI ((pRes cells (nI sh) (nI ii) (nI nn)).2.1 - (60 * sh + ii))) := by unfold F_words; rw [h0, if_pos rfl, hgr, if_neg (by omega), esh, ei]
        refine lv_bipush (v := nI 60) zx zb dX1_words_47 (by decide) ?_
        refine lv_iload_n zx zb dX1_words_49 rfl (lv_at hl 1 rfl) ?_
        refine nv_imul zx zb dX1_words_50 ?_
        refine lv_iload_n zx zb dX1_words_51 rfl (lv_at hl 3 rfl) ?_
        refine nv_iadd zx zb dX1_words_52 ?_
        refine lv_istore (lv' := [(6, .int (nI ((60 * sh) + ii))), (0, .ref (a 0)), (1, .int (nI sh)), (2, .int sort), (3, .int (nI ii)), (4, .int (nI nn))]) zx zb dX1_words_53 hl (by decide) rfl (fun ls hl => ?_)
        refine lv_aload_n zx zb dX1_words_55 rfl (lv_at hl 1 rfl) ?_
        refine lv_iload zx zb dX1_words_56 (lv_at hl 0 rfl) ?_
        refine nv_put zC hX in_X1 tyX1 tyX1_ok nmX1 0 rfl rfl 11 (by decide) q1203 (fun _ h => h) rfl rfl rfl (Nat.le_of_ble_eq_true rfl) (w' := mW dA a (nI 0) trace sorts shL cells words said kind longOf letters saidRow ((60 * sh) + ii) rdW rKind rLong rLet looked lkL next heard far ways waysT free freeT rdgs rWord rMany rStands rRow ex) rfl dX1_words_58 (fun H locs hX => ?_)
        refine lv_aload_n zx zb dX1_words_61 rfl (lv_at hl 1 rfl) ?_
        refine lv_iload zx zb dX1_words_62 (lv_at hl 0 rfl) ?_
        refine lv_iload zx zb dX1_words_64 (lv_at hl 5 rfl) ?_
        refine nv_iadd zx zb dX1_words_66 ?_
        refine nv_ki zC hX (nv_rV (n := 1) (As := [.int (nI (((60 * sh) + ii) + nn))]) (rest := []) (q0 := 0) zC hX (mm_readAll (en := ((60 * sh) + ii) + nn) (hen := (by first | assumption | omega)) (hat := (by first | assumption | omega)) (hrl := (by first | assumption | omega)) (hrg := (by first | assumption | omega))) nvGb0 (fun _ _ _ => trivial) rfl rfl q1304 q1306 qs31 q63 q1307 (by decide +kernel) rfl ⟨Nat.le_of_ble_eq_true rfl, Nat.le_of_ble_eq_true rfl⟩ hl.1 (Nat.le_of_ble_eq_true rfl) dX1_words_67 ⟨by first | exact Nat.le_of_ble_eq_true rfl | omega, by first | exact Nat.le_of_ble_eq_true rfl | omega⟩) (fun r u H locs hp hX => ?_)
        obtain ⟨at_'_4, rdW'_4, rKind'_4, rLong'_4, rLet'_4⟩ := u
        obtain ⟨hr_, h67⟩ : r = nB ((pAll cells (((60 * sh) + ii) + nn) ((60 * sh) + ii)).1) ∧ at_'_4 = (pAll cells (((60 * sh) + ii) + nn) ((60 * sh) + ii)).2.1 ∧ rdW'_4 = (pAll cells (((60 * sh) + ii) + nn) ((60 * sh) + ii)).2.2 ∧ (∀ z, rLet'_4 z < 3) ∧ (∀ z, rLong'_4 z ≤ 4) ∧ rdW'_4 ≤ 4 ∧ at_'_4 ≤ (((60 * sh) + ii) + nn) ∧ ((pAll cells (((60 * sh) + ii) + nn) ((60 * sh) + ii)).1 = true → wdsOK cells (((60 * sh) + ii) + nn) ((60 * sh) + ii) rdW'_4 rKind'_4 rLong'_4 rLet'_4 ∧ 0 < rdW'_4) := hp
        subst hr_
        have hX : nvS D a0 (mW dA a (nI 0) trace sorts shL cells words said kind longOf letters saidRow at_'_4 rdW'_4 rKind'_4 rLong'_4 rLet'_4 looked lkL next heard far ways waysT free freeT rdgs rWord rMany rStands rRow ex) s.heap H locs := hX
        refine W.cs (cells' := 0) (slots' := 0) (Nat.add_zero _) (Nat.add_zero _) ?_
        obtain ⟨hq1, hq2, hq3, hq4, hq5, hq6, hq7⟩ := h67
        rw [← hpr] at hq1 hq2 hq7
        have hge : 60 * sh + ii ≤ at_'_4 := by rw [hq1, hpr]; exact pAll_ge
        refine nv_if_neB (tgt := 84) zx zb dX1_words_70 (by decide) (fun c70 => ?_) (fun c70 => ?_)
        · have hq7 := hq7 (by rw [hpr]; exact c70)
          obtain ⟨hwd, hw0⟩ := hq7
          refine lv_aload_n zx zb dX1_words_84 rfl (lv_at hl 1 rfl) ?_
          refine lv_aload_n zx zb dX1_words_85 rfl (lv_at hl 1 rfl) ?_
          refine nv_get zC hX in_X1 0 rfl rfl 12 (by decide) q1204 (fun _ h => h) rfl dX1_words_86 ?_
          refine nv_put zC hX in_X1 tyX1 tyX1_ok nmX1 0 rfl rfl 5 (by decide) q1197 (fun _ h => h) rfl rfl rfl (Nat.le_of_ble_eq_true rfl) (w' := mW dA a (nI 0) trace sorts shL cells rdW'_4 said kind longOf letters saidRow at_'_4 rdW'_4 rKind'_4 rLong'_4 rLet'_4 looked lkL next heard far ways waysT free freeT rdgs rWord rMany rStands rRow ex) rfl dX1_words_89 (fun H locs hX => ?_)
          refine lv_iconst (v := nI 0) zx zb dX1_words_92 (by decide) ?_
          refine lv_istore (lv' := [(7, .int (nI 0)), (6, .int (nI ((60 * sh) + ii))), (0, .ref (a 0)), (1, .int (nI sh)), (2, .int sort), (3, .int (nI ii)), (4, .int (nI nn))]) zx zb dX1_words_93 hl (by decide) rfl (fun ls hl => ?_)
          have L95 : ∀ (zn : Nat) (kd lo le : Nat → Nat) (w : Nat) (hw : w ≤ rdW'_4) (hk1 : ∀ z, z < w → some (kd z) = rKind'_4 z) (hk2 : ∀ z, z < w → lo z = rLong'_4 z) (hk3 : ∀ z, z < 4 * w → le z = rLet'_4 z) (ht1 : ∀ z, kd z < 3) (ht2 : ∀ z, lo z ≤ 4) (ht3 : ∀ z, le z < 3), rdW'_4 - w < zn → ∀ (H : Heap) (locs : List Loc) (ls : Array Slot), nvS D a0 (mW dA a (nI 0) trace sorts shL cells rdW'_4 said kd lo le saidRow at_'_4 rdW'_4 rKind'_4 rLong'_4 rLet'_4 looked lkL next heard far ways waysT free freeT rdgs rWord rMany rStands rRow ex) s.heap H locs → lv_has ls 9 [(7, .int (nI w)), (6, .int (nI ((60 * sh) + ii))), (0, .ref (a 0)), (1, .int (nI sh)), (2, .int sort), (3, .int (nI ii)), (4, .int (nI nn))] → W zp l ze (rm_ 4 78 0 0) s zm zar zlo zme zcd H locs 0 0 Q (F0 zm 95 ls []) := by
            intro zn
            induction zn with
            | zero => intro kd lo le w hw hk1 hk2 hk3 ht1 ht2 ht3 zf; exact absurd zf (Nat.not_lt_zero _)
            | succ zn ih95 =>
              intro kd lo le w hw hk1 hk2 hk3 ht1 ht2 ht3 zf H locs ls hX hl
              refine lv_iload zx zb dX1_words_95 (lv_at hl 0 rfl) ?_
              refine lv_aload_n zx zb dX1_words_97 rfl (lv_at hl 2 rfl) ?_
              refine nv_get zC hX in_X1 0 rfl rfl 5 (by decide) q1197 (fun _ h => h) rfl dX1_words_98 ?_
              refine nv_icmp_ge (tgt := 177) zx zb (by omega) (by omega) dX1_words_101 (by decide) (fun c101 => ?_) (fun c101 => ?_)
              · refine lv_aload_n zx zb dX1_words_177 rfl (lv_at hl 2 rfl) ?_
                refine lv_iconst (v := nI 0) zx zb dX1_words_178 (by decide) ?_
                refine nv_put zC hX in_X1 tyX1 tyX1_ok nmX1 0 rfl rfl 6 (by decide) q1198 (fun _ h => h) rfl rfl rfl (Nat.le_of_ble_eq_true rfl) (w' := mW dA a (nI 0) trace sorts shL cells rdW'_4 0 kd lo le saidRow at_'_4 rdW'_4 rKind'_4 rLong'_4 rLet'_4 looked lkL next heard far ways waysT free freeT rdgs rWord rMany rStands rRow ex) rfl dX1_words_179 (fun H locs hX => ?_)
                refine lv_aload_n zx zb dX1_words_182 rfl (lv_at hl 2 rfl) ?_
                refine lv_iconst (v := nI 0) zx zb dX1_words_183 (by decide) ?_
                refine nv_put zC hX in_X1 tyX1 tyX1_ok nmX1 0 rfl rfl 25 (by decide) q1217 (fun _ h => h) rfl rfl rfl (Nat.le_of_ble_eq_true rfl) (w' := mW dA a (nI 0) trace sorts shL cells rdW'_4 0 kd lo le saidRow at_'_4 rdW'_4 rKind'_4 rLong'_4 rLet'_4 looked lkL next heard far ways waysT free freeT 0 rWord rMany rStands rRow ex) rfl dX1_words_184 (fun H locs hX => ?_)
                refine lv_aload_n zx zb dX1_words_187 rfl (lv_at hl 2 rfl) ?_
                refine nv_get zC hX in_X1 0 rfl rfl 5 (by decide) q1197 (fun _ h => h) rfl dX1_words_188 ?_
                rw [← zQ]
                exact nv_endi zC zr zk (nI 0, rdW'_4, 0, 0, kd, lo, le, at_'_4, rdW'_4, rKind'_4, rLong'_4, rLet'_4) hX (by (try dsimp only); have h2 : okW2 sorts shL cells (nI sh) sort (nI ii) (nI nn) = true := (by unfold okW2; rw [h0, hgr, c37, hpr, show (pAll cells (60 * sh + ii + nn) (60 * sh + ii)).1 = true from c70]; rfl); exact ⟨by rw [hF, hpr, if_pos c70, ← hpr, hq2], by rw [hgr, c37], ⟨fun z => absurd (h2.symm.trans z) (by decide), fun _ => ⟨hq2, rfl, rfl, hw0, by rw [esh, ei, en]; exact wds_c hwd (fun w h => hk1 w (by omega)) (fun w h => hk2 w (by omega)) (fun z h => hk3 z (by omega))⟩⟩, ⟨hq5, ht1, ht2, ht3⟩, hq3, hq4⟩) (by omega) (by omega) dX1_words_191
              · have hwd_w := hwd w c101
                obtain ⟨kv, hkv⟩ := Option.ne_none_iff_exists'.mp hwd_w.2.1
                have hkv3 : kv < 3 := pkd_lt (hwd_w.1.symm.trans hkv)
                refine lv_aload_n zx zb dX1_words_104 rfl (lv_at hl 2 rfl) ?_
                refine nv_get zC hX in_X1 0 rfl rfl 7 (by decide) q1199 (fun _ h => h) rfl dX1_words_105 ?_
                refine lv_iload zx zb dX1_words_108 (lv_at hl 0 rfl) ?_
                refine lv_aload_n zx zb dX1_words_110 rfl (lv_at hl 2 rfl) ?_
                refine nv_get zC hX in_X1 0 rfl rfl 13 (by decide) q1205 (fun _ h => h) rfl dX1_words_111 ?_
                refine lv_iload zx zb dX1_words_114 (lv_at hl 0 rfl) ?_
                refine nv_iald (v := nI kv) zC hX 8 rfl (by omega) (by decide) (congrArg oI hkv) dX1_words_116 ?_
                refine nv_iast zC hX 4 rfl (by omega) (by decide) (nF_up _ _ _) (w' := mW dA a (nI 0) trace sorts shL cells rdW'_4 said (va_up kd w kv) lo le saidRow at_'_4 rdW'_4 rKind'_4 rLong'_4 rLet'_4 looked lkL next heard far ways waysT free freeT rdgs rWord rMany rStands rRow ex) rfl dX1_words_117 (fun H locs hX => ?_)
                refine lv_aload_n zx zb dX1_words_118 rfl (lv_at hl 2 rfl) ?_
                refine nv_get zC hX in_X1 0 rfl rfl 8 (by decide) q1200 (fun _ h => h) rfl dX1_words_119 ?_
                refine lv_iload zx zb dX1_words_122 (lv_at hl 0 rfl) ?_
                refine lv_aload_n zx zb dX1_words_124 rfl (lv_at hl 2 rfl) ?_
                refine nv_get zC hX in_X1 0 rfl rfl 14 (by decide) q1206 (fun _ h => h) rfl dX1_words_125 ?_
                refine lv_iload zx zb dX1_words_128 (lv_at hl 0 rfl) ?_
                refine nv_iald (v := nI (rLong'_4 w)) zC hX 9 rfl (by omega) (by decide) rfl dX1_words_130 ?_
                refine nv_iast zC hX 5 rfl (by omega) (by decide) (nF_up _ _ _) (w' := mW dA a (nI 0) trace sorts shL cells rdW'_4 said (va_up kd w kv) (va_up lo w (rLong'_4 w)) le saidRow at_'_4 rdW'_4 rKind'_4 rLong'_4 rLet'_4 looked lkL next heard far ways waysT free freeT rdgs rWord rMany rStands rRow ex) rfl dX1_words_131 (fun H locs hX => ?_)
                refine lv_iconst (v := nI 0) zx zb dX1_words_132 (by decide) ?_
                refine lv_istore (lv' := [(8, .int (nI 0)), (7, .int (nI w)), (6, .int (nI ((60 * sh) + ii))), (0, .ref (a 0)), (1, .int (nI sh)), (2, .int sort), (3, .int (nI ii)), (4, .int (nI nn))]) zx zb dX1_words_133 hl (by decide) rfl (fun ls hl => ?_)
                have L135 : ∀ (zn : Nat) (le2 : Nat → Nat) (k : Nat) (hk : k ≤ 4) (hk4 : ∀ z, z < 4 * w + k → le2 z = rLet'_4 z) (ht4 : ∀ z, le2 z < 3), 4 - k < zn → ∀ (H : Heap) (locs : List Loc) (ls : Array Slot), nvS D a0 (mW dA a (nI 0) trace sorts shL cells rdW'_4 said (va_up kd w kv) (va_up lo w (rLong'_4 w)) le2 saidRow at_'_4 rdW'_4 rKind'_4 rLong'_4 rLet'_4 looked lkL next heard far ways waysT free freeT rdgs rWord rMany rStands rRow ex) s.heap H locs → lv_has ls 9 [(8, .int (nI k)), (7, .int (nI w)), (6, .int (nI ((60 * sh) + ii))), (0, .ref (a 0)), (1, .int (nI sh)), (2, .int sort), (3, .int (nI ii)), (4, .int (nI nn))] → W zp l ze (rm_ 4 78 0 0) s zm zar zlo zme zcd H locs 0 0 Q (F0 zm 135 ls []) := by
                  intro zn
                  induction zn with
                  | zero => intro le2 k hk hk4 ht4 zf; exact absurd zf (Nat.not_lt_zero _)
                  | succ zn ih135 =>
                    intro le2 k hk hk4 ht4 zf H locs ls hX hl
                    refine lv_iload zx zb dX1_words_135 (lv_at hl 0 rfl) ?_
                    refine lv_iconst (v := nI 4) zx zb dX1_words_137 (by decide) ?_
                    refine nv_icmp_ge (tgt := 171) zx zb (by omega) (by omega) dX1_words_138 (by decide) (fun c138 => ?_) (fun c138 => ?_)
                    · refine lv_iinc (v := nI (w + 1)) (lv' := [(7, .int (nI (w + 1))), (8, .int (nI k)), (6, .int (nI ((60 * sh) + ii))), (0, .ref (a 0)), (1, .int (nI sh)), (2, .int sort), (3, .int (nI ii)), (4, .int (nI nn))]) zx zb dX1_words_171 hl (k := 1) rfl (nI_1 _) (by decide) rfl (fun ls hl => ?_)
                      refine lv_goto (tgt := 95) zx zb dX1_words_174 (by decide) ?_
                      exact ih95 (va_up kd w kv) (va_up lo w (rLong'_4 w)) le2 (w + 1) (by omega) (fun z hz => by by_cases q : z = w; (rw [q, va_up_self, hkv]); (rw [va_up_ne _ _ q]; exact hk1 z (by omega))) (up_preG hk2 rfl) (fun z hz => hk4 z (by omega)) (up_lt ht1 hkv3) (fun z => by by_cases q : z = w; (rw [q, va_up_self]; exact hq4 w); (rw [va_up_ne _ _ q]; exact ht2 z)) ht4 (by omega) _ _ _ hX (lv_sub hl [0, 2, 3, 4, 5, 6, 7] rfl)
                    · refine lv_aload_n zx zb dX1_words_141 rfl (lv_at hl 3 rfl) ?_
                      refine nv_get zC hX in_X1 0 rfl rfl 9 (by decide) q1201 (fun _ h => h) rfl dX1_words_142 ?_
                      refine lv_iconst (v := nI 4) zx zb dX1_words_145 (by decide) ?_
                      refine lv_iload zx zb dX1_words_146 (lv_at hl 1 rfl) ?_
                      refine nv_imul zx zb dX1_words_148 ?_
                      refine lv_iload zx zb dX1_words_149 (lv_at hl 0 rfl) ?_
                      refine nv_iadd zx zb dX1_words_151 ?_
                      refine lv_aload_n zx zb dX1_words_152 rfl (lv_at hl 3 rfl) ?_
                      refine nv_get zC hX in_X1 0 rfl rfl 15 (by decide) q1207 (fun _ h => h) rfl dX1_words_153 ?_
                      refine lv_iconst (v := nI 4) zx zb dX1_words_156 (by decide) ?_
                      refine lv_iload zx zb dX1_words_157 (lv_at hl 1 rfl) ?_
                      refine nv_imul zx zb dX1_words_159 ?_
                      refine lv_iload zx zb dX1_words_160 (lv_at hl 0 rfl) ?_
                      refine nv_iadd zx zb dX1_words_162 ?_
                      refine nv_iald (v := nI (rLet'_4 ((4 * w) + k))) zC hX 10 rfl (by omega) (by decide) rfl dX1_words_163 ?_
                      refine nv_iast zC hX 6 rfl (by omega) (by decide) (nF_up _ _ _) (w' := mW dA a (nI 0) trace sorts shL cells rdW'_4 said (va_up kd w kv) (va_up lo w (rLong'_4 w)) (va_up le2 ((4 * w) + k) (rLet'_4 ((4 * w) + k))) saidRow at_'_4 rdW'_4 rKind'_4 rLong'_4 rLet'_4 looked lkL next heard far ways waysT free freeT rdgs rWord rMany rStands rRow ex) rfl dX1_words_164 (fun H locs hX => ?_)
                      refine lv_iinc (v := nI (k + 1)) (lv' := [(8, .int (nI (k + 1))), (7, .int (nI w)), (6, .int (nI ((60 * sh) + ii))), (0, .ref (a 0)), (1, .int (nI sh)), (2, .int sort), (3, .int (nI ii)), (4, .int (nI nn))]) zx zb dX1_words_165 hl (k := 0) rfl (nI_1 _) (by decide) rfl (fun ls hl => ?_)
                      refine lv_goto (tgt := 135) zx zb dX1_words_168 (by decide) ?_
                      exact ih135 (va_up le2 ((4 * w) + k) (rLet'_4 ((4 * w) + k))) (k + 1) (by omega) (up_pre hk4) (up_lt ht4 (hq3 _)) (by omega) _ _ _ hX (lv_sub hl [0, 1, 2, 3, 4, 5, 6, 7] rfl)
                exact L135 _ le 0 (by omega) (fun z hz => hk3 z (by omega)) ht3 (Nat.lt_succ_self _) _ _ _ hX (lv_sub hl [0, 1, 2, 3, 4, 5, 6, 7] rfl)
          exact L95 _ kind longOf letters 0 (by omega) lt_0 lt_0 (fun z h => by omega) hok.2.1 hok.2.2.1 hok.2.2.2 (Nat.lt_succ_self _) _ _ _ hX (lv_sub hl [0, 1, 2, 3, 4, 5, 6] rfl)
        · refine lv_bipush (v := (-100)) zx zb dX1_words_73 (by decide) ?_
          refine lv_aload_n zx zb dX1_words_75 rfl (lv_at hl 1 rfl) ?_
          refine nv_get zC hX in_X1 0 rfl rfl 11 (by decide) q1203 (fun _ h => h) rfl dX1_words_76 ?_
          refine lv_iload zx zb dX1_words_79 (lv_at hl 0 rfl) ?_
          refine nv_isub zx zb hge dX1_words_81 ?_
          refine lv_isub zx zb dX1_words_82 ?_
          rw [← zQ]
          exact nv_endi zC zr zk (nI 0, words, said, rdgs, kind, longOf, letters, at_'_4, rdW'_4, rKind'_4, rLong'_4, rLet'_4) hX (by (try dsimp only); have h2 : okW2 sorts shL cells (nI sh) sort (nI ii) (nI nn) = false := (by unfold okW2; rw [hpr, show (pAll cells (60 * sh + ii + nn) (60 * sh + ii)).1 = false from c70]; simp); exact ⟨by rw [hF, hpr, if_neg (fun z => absurd (z.symm.trans c70) (by decide)), ← hpr, ← hq1], by rw [hgr, c37], ⟨fun _ => ⟨rfl, rfl, rfl, rfl, rfl, rfl⟩, fun z => absurd (z.symm.trans h2) (by decide)⟩, hok, hq3, hq4⟩) (by omega) (by omega) dX1_words_83
      · refine lv_aload_n zx zb dX1_words_40 rfl (lv_at hl 1 rfl) ?_
        refine lv_iload zx zb dX1_words_41 (lv_at hl 0 rfl) ?_
        refine nv_ki zC hX (nv_rV (n := 1) (As := [.int (nI (agN sorts shL sh sort i n))]) (rest := []) (q0 := 0) zC hX (mm_fails (k := agN sorts shL sh sort i n)) nvGb0 (fun _ _ _ => trivial) rfl rfl q1300 q1302 qs30 q63 q1303 (by decide +kernel) rfl ⟨Nat.le_of_ble_eq_true rfl, Nat.le_of_ble_eq_true rfl⟩ hl.1 (Nat.le_of_ble_eq_true rfl) dX1_words_43 ⟨by first | exact Nat.le_of_ble_eq_true rfl | omega, by first | exact Nat.le_of_ble_eq_true rfl | omega⟩) (fun r u H locs hp hX => ?_)
        have hr_ : r = (-10) - nI (agN sorts shL sh sort i n) := hp
        subst hr_
        have hX : nvS D a0 (mW dA a (nI (agN sorts shL sh sort i n)) trace sorts shL cells words said kind longOf letters saidRow at_ rdW rKind rLong rLet looked lkL next heard far ways waysT free freeT rdgs rWord rMany rStands rRow ex) s.heap H locs := hX
        refine W.cs (cells' := 0) (slots' := 0) (Nat.add_zero _) (Nat.add_zero _) ?_
        rw [← zQ]
        exact nv_endi zC zr zk (nI (agN sorts shL sh sort i n), words, said, rdgs, kind, longOf, letters, at_, rdW, rKind, rLong, rLet) hX (by (try dsimp only); have h2 : okW2 sorts shL cells (nI sh) sort i n = false := (by unfold okW2; rw [h0, hgr, decide_eq_false (by omega)]; rfl); exact ⟨by unfold F_words; rw [h0, if_pos rfl, hgr, if_pos (by omega)], by rw [hgr], ⟨fun _ => ⟨rfl, rfl, rfl, rfl, rfl, rfl⟩, fun z => absurd (z.symm.trans h2) (by decide)⟩, hok, hrl, hrg⟩) (by omega) (by omega) dX1_words_46
    · refine lv_bipush (v := (-2)) zx zb dX1_words_21 (by decide) ?_
      rw [← zQ]
      exact nv_endi zC zr zk (nI 0, words, said, rdgs, kind, longOf, letters, at_, rdW, rKind, rLong, rLet) hX (by (try dsimp only); have h0 : okWs (nI sh) sort = false := (by unfold okWs; rw [c18, Bool.and_false]); have h2 : okW2 sorts shL cells (nI sh) sort i n = false := (by unfold okW2; rw [h0]; rfl); exact ⟨by unfold F_words; rw [h0, if_neg (by decide), c9]; rfl, by unfold g_words; rw [h0]; rfl, ⟨fun _ => ⟨rfl, rfl, rfl, rfl, rfl, rfl⟩, fun z => absurd (z.symm.trans h2) (by decide)⟩, hok, hrl, hrg⟩) (by omega) (by omega) dX1_words_23
  · refine lv_iconst (v := (-1)) zx zb dX1_words_12 (by decide) ?_
    rw [← zQ]
    exact nv_endi zC zr zk (nI 0, words, said, rdgs, kind, longOf, letters, at_, rdW, rKind, rLong, rLet) hX (by (try dsimp only); have h0 : okWs sheet sort = false := (by unfold okWs; rw [c9]; rfl); have h2 : okW2 sorts shL cells sheet sort i n = false := (by unfold okW2; rw [h0]; rfl); exact ⟨by unfold F_words; rw [h0, if_neg (by decide), c9]; rfl, by unfold g_words; rw [h0]; rfl, ⟨fun _ => ⟨rfl, rfl, rfl, rfl, rfl, rfl⟩, fun z => absurd (z.symm.trans h2) (by decide)⟩, hok, hrl, hrg⟩) (by omega) (by omega) dX1_words_13
end
