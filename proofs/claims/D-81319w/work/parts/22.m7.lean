/-! THE MODEL: contracts, printed by tools/model.py -/
set_option maxRecDepth 100000
section
variable {l : Launch} {D : va_G} {dA : Nat → ClassId} {a0 : Nat} {a : Nat → Nat} {ex : va_W} {fault : Int32} {trace : Int32} {sorts : Nat → Option Nat} {shL : Nat → Nat} {cells : Nat → Int32} {words : Nat} {said : Nat} {kind : Nat → Nat} {longOf : Nat → Nat} {letters : Nat → Nat} {saidRow : Nat → Nat} {at_ : Nat} {rdW : Nat} {rKind : Nat → Option Nat} {rLong : Nat → Nat} {rLet : Nat → Nat} {looked : Nat → Nat} {lkL : Nat} {next : Nat → Nat} {heard : Nat → Nat} {far : Nat → Option Nat} {ways : Nat → Nat} {waysT : Nat → Nat} {free : Nat → Nat} {freeT : Nat → Nat} {rdgs : Nat} {rWord : Nat → Nat} {rMany : Nat → Nat} {rStands : Nat → Nat} {rRow : Nat → Nat}
set_option maxHeartbeats 4000000 in
theorem mm_reading  (w : Int32) (sheet : Int32) (sort : Int32) (i : Int32) (n : Int32) (st : Int32) (hw4 : words ≤ 4) (hso : ∀ q v, sorts q = some v → v < 3) (hsl : ∀ q, shL q ≤ 60) (hr8 : rdgs ≤ 8) : nMt l D dA a0 yX1_reading cX1_reading 10 (some .int) 3 57 0 0 nvG0 [.ref (a 0), .int w, .int sheet, .int sort, .int i, .int n, .int st] (mW dA a fault trace sorts shL cells words said kind longOf letters saidRow at_ rdW rKind rLong rLet looked lkL next heard far ways waysT free freeT rdgs rWord rMany rStands rRow ex) (nQi D a0 (fun (r : Int32) (u : Int32 × Nat × (Nat → Nat) × (Nat → Nat) × (Nat → Nat) × (Nat → Nat)) => r = F_read words sorts shL cells rdgs w sheet sort i n st ∧ u.1 = nI (g_read words sorts shL w sheet sort i n st) ∧ u.2.1 = (if okRd2 words sorts shL cells rdgs w sheet sort i n st then rdgs + 1 else rdgs) ∧ u.2.2.1 = (if okRd2 words sorts shL cells rdgs w sheet sort i n st then va_up rWord rdgs (i2n w) else rWord) ∧ u.2.2.2.1 = (if okRd2 words sorts shL cells rdgs w sheet sort i n st then va_up rMany rdgs (i2n n) else rMany) ∧ u.2.2.2.2.1 = (if okRd2 words sorts shL cells rdgs w sheet sort i n st then va_up rStands rdgs (i2n st) else rStands) ∧ u.2.2.2.2.2 = (if okRd2 words sorts shL cells rdgs w sheet sort i n st then rwP rRow (8 * rdgs) (i2n n) (rwC cells (60 * i2n sheet + i2n i) (i2n n)) else rRow)) (fun (u : Int32 × Nat × (Nat → Nat) × (Nat → Nat) × (Nat → Nat) × (Nat → Nat)) => mW dA a u.1 trace sorts shL cells words said kind longOf letters saidRow at_ rdW rKind rLong rLet looked lkL next heard far ways waysT free freeT u.2.1 u.2.2.1 u.2.2.2.1 u.2.2.2.2.1 u.2.2.2.2.2 ex)) := by
  refine nv_start (by decide) (Nat.le_of_ble_eq_true rfl) fun zp ze s zm zlo zme zcd ls zC zr zk znm hX zG hl => ?_
  have zx := zC.1
  have zb := zC.2.1
  generalize zargs : ([.ref (a 0), .int w, .int sheet, .int sort, .int i, .int n, .int st] : List Value).toArray = zar at zC ⊢
  generalize zQ : MQ zlo _ zar s _ _ _ = Q
  have hX : nvS D a0 (mW dA a fault trace sorts shL cells words said kind longOf letters saidRow at_ rdW rKind rLong rLet looked lkL next heard far ways waysT free freeT rdgs rWord rMany rStands rRow ex) s.heap s.heap [] := hX
  have hl : lv_has ls 10 [(0, .ref (a 0)), (1, .int w), (2, .int sheet), (3, .int sort), (4, .int i), (5, .int n), (6, .int st)] := hl
  obtain ⟨H, zH⟩ : ∃ H, H = s.heap := ⟨_, rfl⟩
  have hX : nvS D a0 (mW dA a fault trace sorts shL cells words said kind longOf letters saidRow at_ rdW rKind rLong rLet looked lkL next heard far ways waysT free freeT rdgs rWord rMany rStands rRow ex) s.heap H [] := by rw [zH]; exact hX
  rw [show W zp l ze (rm_ 3 57 0 0) s zm zar zlo zme zcd s.heap [] 0 0 Q = W zp l ze (rm_ 3 57 0 0) s zm zar zlo zme zcd H [] 0 0 Q by rw [zH]]
  generalize ([] : List Loc) = locs at hX ⊢
  refine lv_aload_n zx zb dX1_reading_0 rfl (lv_at hl 0 rfl) ?_
  refine lv_iconst (v := nI 0) zx zb dX1_reading_1 (by decide) ?_
  refine nv_put zC hX in_X1 tyX1 tyX1_ok nmX1 0 rfl rfl 0 (by decide) q1192 (fun _ h => h) rfl rfl rfl (Nat.le_of_ble_eq_true rfl) (w' := mW dA a (nI 0) trace sorts shL cells words said kind longOf letters saidRow at_ rdW rKind rLong rLet looked lkL next heard far ways waysT free freeT rdgs rWord rMany rStands rRow ex) rfl dX1_reading_2 (fun H locs hX => ?_)
  refine lv_aload_n zx zb dX1_reading_5 rfl (lv_at hl 0 rfl) ?_
  refine lv_iload_n zx zb dX1_reading_6 rfl (lv_at hl 1 rfl) ?_
  refine nv_ki zC hX (nv_rV (n := 1) (As := [.int w]) (rest := []) (q0 := 0) zC hX (mm_isWord (v := w)) nvGb0 (fun _ _ _ => trivial) rfl rfl q1320 q1322 qs34 q63 q1323 (by decide +kernel) rfl ⟨Nat.le_of_ble_eq_true rfl, Nat.le_of_ble_eq_true rfl⟩ hl.1 (Nat.le_of_ble_eq_true rfl) dX1_reading_7 ⟨by first | exact Nat.le_of_ble_eq_true rfl | omega, by first | exact Nat.le_of_ble_eq_true rfl | omega⟩) (fun r u H locs hp hX => ?_)
  have hr_ : r = nB (isW words w) := hp
  subst hr_
  have hX : nvS D a0 (mW dA a (nI 0) trace sorts shL cells words said kind longOf letters saidRow at_ rdW rKind rLong rLet looked lkL next heard far ways waysT free freeT rdgs rWord rMany rStands rRow ex) s.heap H locs := hX
  refine W.cs (cells' := 0) (slots' := 0) (Nat.add_zero _) (Nat.add_zero _) ?_
  refine nv_if_eqB (tgt := 20) zx zb dX1_reading_10 (by decide) (fun c10 => ?_) (fun c10 => ?_)
  · refine lv_iconst (v := (-1)) zx zb dX1_reading_20 (by decide) ?_
    rw [← zQ]
    exact nv_endi zC zr zk (nI 0, rdgs, rWord, rMany, rStands, rRow) hX (by (try dsimp only); have h0 : okRd words w sheet sort n st = false := (by unfold okRd; simp [c10]); have h2 : okRd2 words sorts shL cells rdgs w sheet sort i n st = false := (by unfold okRd2; rw [h0]; rfl); exact ⟨by unfold F_read; rw [h0, if_neg (by decide), if_neg (fun z => absurd (z.1.symm.trans c10) (by decide))], by unfold g_read; rw [h0]; rfl, by rw [h2]; rfl, by rw [h2]; rfl, by rw [h2]; rfl, by rw [h2]; rfl, by rw [h2]; rfl⟩) (by omega) (by omega) dX1_reading_21
  · obtain ⟨wi, hwi, rfl⟩ := isW_t (by omega) c10
    have ew : i2n (nI wi) = wi := nI_clamp (by omega)
    refine lv_iload_n zx zb dX1_reading_13 rfl (lv_at hl 2 rfl) ?_
    refine nv_ki zC hX (nv_rS (n := 1) (As := [.int sheet]) (rest := []) zC hX (mm_isSheet (v := sheet)) nvGb0 (fun _ _ _ => trivial) q1287 q1288 q63 q1289 (by decide +kernel) rfl ⟨Nat.le_of_ble_eq_true rfl, Nat.le_of_ble_eq_true rfl⟩ hl.1 (Nat.le_of_ble_eq_true rfl) dX1_reading_14 ⟨by first | exact Nat.le_of_ble_eq_true rfl | omega, by first | exact Nat.le_of_ble_eq_true rfl | omega⟩) (fun r u H locs hp hX => ?_)
    have hr_ : r = nB (inN sheet 0 3) := hp
    subst hr_
    have hX : nvS D a0 (mW dA a (nI 0) trace sorts shL cells words said kind longOf letters saidRow at_ rdW rKind rLong rLet looked lkL next heard far ways waysT free freeT rdgs rWord rMany rStands rRow ex) s.heap H locs := hX
    refine W.cs (cells' := 0) (slots' := 0) (Nat.add_zero _) (Nat.add_zero _) ?_
    refine nv_if_neB (tgt := 22) zx zb dX1_reading_17 (by decide) (fun c17 => ?_) (fun c17 => ?_)
    · obtain ⟨sh, -, hsh, rfl⟩ := inN_t (by decide) (by decide) c17
      have esh : i2n (nI sh) = sh := nI_clamp (by omega)
      have hsl_ := hsl sh
      refine lv_iload_n zx zb dX1_reading_22 rfl (lv_at hl 3 rfl) ?_
      refine nv_ki zC hX (nv_rS (n := 1) (As := [.int sort]) (rest := []) zC hX (mm_isSort (v := sort)) nvGb0 (fun _ _ _ => trivial) q1293 q1294 q63 q1295 (by decide +kernel) rfl ⟨Nat.le_of_ble_eq_true rfl, Nat.le_of_ble_eq_true rfl⟩ hl.1 (Nat.le_of_ble_eq_true rfl) dX1_reading_23 ⟨by first | exact Nat.le_of_ble_eq_true rfl | omega, by first | exact Nat.le_of_ble_eq_true rfl | omega⟩) (fun r u H locs hp hX => ?_)
      have hr_ : r = nB (inN sort 0 2) := hp
      subst hr_
      have hX : nvS D a0 (mW dA a (nI 0) trace sorts shL cells words said kind longOf letters saidRow at_ rdW rKind rLong rLet looked lkL next heard far ways waysT free freeT rdgs rWord rMany rStands rRow ex) s.heap H locs := hX
      refine W.cs (cells' := 0) (slots' := 0) (Nat.add_zero _) (Nat.add_zero _) ?_
      refine nv_if_eqB (tgt := 50) zx zb dX1_reading_26 (by decide) (fun c26 => ?_) (fun c26 => ?_)
      · refine lv_bipush (v := (-2)) zx zb dX1_reading_50 (by decide) ?_
        rw [← zQ]
        exact nv_endi zC zr zk (nI 0, rdgs, rWord, rMany, rStands, rRow) hX (by (try dsimp only); have h0 : okRd words (nI wi) (nI sh) sort n st = false := (by unfold okRd; simp [c26]); have h2 : okRd2 words sorts shL cells rdgs (nI wi) (nI sh) sort i n st = false := (by unfold okRd2; rw [h0]; rfl); exact ⟨by unfold F_read; rw [h0, if_neg (by decide), if_pos ⟨c10, c17⟩], by unfold g_read; rw [h0]; rfl, by rw [h2]; rfl, by rw [h2]; rfl, by rw [h2]; rfl, by rw [h2]; rfl, by rw [h2]; rfl⟩) (by omega) (by omega) dX1_reading_52
      · refine lv_iload zx zb dX1_reading_29 (lv_at hl 5 rfl) ?_
        refine lv_iconst (v := nI 0) zx zb dX1_reading_31 (by decide) ?_
        refine lv_bipush (v := nI 8) zx zb dX1_reading_32 (by decide) ?_
        refine nv_ki zC hX (nv_rS (n := 3) (As := [.int n, .int (nI 0), .int (nI 8)]) (rest := []) zC hX (mm_within (v := n) (lo := nI 0) (hi := nI 8)) nvGb0 (fun _ _ _ => trivial) q1290 q1291 q63 q1292 (by decide +kernel) rfl ⟨Nat.le_of_ble_eq_true rfl, Nat.le_of_ble_eq_true rfl⟩ hl.1 (Nat.le_of_ble_eq_true rfl) dX1_reading_34 ⟨by first | exact Nat.le_of_ble_eq_true rfl | omega, by first | exact Nat.le_of_ble_eq_true rfl | omega⟩) (fun r u H locs hp hX => ?_)
        have hr_ : r = nB (inN n 0 8) := hp
        subst hr_
        have hX : nvS D a0 (mW dA a (nI 0) trace sorts shL cells words said kind longOf letters saidRow at_ rdW rKind rLong rLet looked lkL next heard far ways waysT free freeT rdgs rWord rMany rStands rRow ex) s.heap H locs := hX
        refine W.cs (cells' := 0) (slots' := 0) (Nat.add_zero _) (Nat.add_zero _) ?_
        refine nv_if_eqB (tgt := 50) zx zb dX1_reading_37 (by decide) (fun c37 => ?_) (fun c37 => ?_)
        · refine lv_bipush (v := (-2)) zx zb dX1_reading_50 (by decide) ?_
          rw [← zQ]
          exact nv_endi zC zr zk (nI 0, rdgs, rWord, rMany, rStands, rRow) hX (by (try dsimp only); have h0 : okRd words (nI wi) (nI sh) sort n st = false := (by unfold okRd; simp [c37]); have h2 : okRd2 words sorts shL cells rdgs (nI wi) (nI sh) sort i n st = false := (by unfold okRd2; rw [h0]; rfl); exact ⟨by unfold F_read; rw [h0, if_neg (by decide), if_pos ⟨c10, c17⟩], by unfold g_read; rw [h0]; rfl, by rw [h2]; rfl, by rw [h2]; rfl, by rw [h2]; rfl, by rw [h2]; rfl, by rw [h2]; rfl⟩) (by omega) (by omega) dX1_reading_52
        · refine lv_iload zx zb dX1_reading_40 (lv_at hl 6 rfl) ?_
          refine lv_iconst (v := nI 0) zx zb dX1_reading_42 (by decide) ?_
          refine lv_iconst (v := nI 1) zx zb dX1_reading_43 (by decide) ?_
          refine nv_ki zC hX (nv_rS (n := 3) (As := [.int st, .int (nI 0), .int (nI 1)]) (rest := []) zC hX (mm_within (v := st) (lo := nI 0) (hi := nI 1)) nvGb0 (fun _ _ _ => trivial) q1290 q1291 q63 q1292 (by decide +kernel) rfl ⟨Nat.le_of_ble_eq_true rfl, Nat.le_of_ble_eq_true rfl⟩ hl.1 (Nat.le_of_ble_eq_true rfl) dX1_reading_44 ⟨by first | exact Nat.le_of_ble_eq_true rfl | omega, by first | exact Nat.le_of_ble_eq_true rfl | omega⟩) (fun r u H locs hp hX => ?_)
          have hr_ : r = nB (inN st 0 1) := hp
          subst hr_
          have hX : nvS D a0 (mW dA a (nI 0) trace sorts shL cells words said kind longOf letters saidRow at_ rdW rKind rLong rLet looked lkL next heard far ways waysT free freeT rdgs rWord rMany rStands rRow ex) s.heap H locs := hX
          refine W.cs (cells' := 0) (slots' := 0) (Nat.add_zero _) (Nat.add_zero _) ?_
          refine nv_if_neB (tgt := 53) zx zb dX1_reading_47 (by decide) (fun c47 => ?_) (fun c47 => ?_)
          · obtain ⟨sd, -, hsd_, rfl⟩ := inN_t (by decide) (by decide) c47
            have esd : i2n (nI sd) = sd := nI_clamp (by omega)
            have h0 : okRd words (nI wi) (nI sh) sort n (nI sd) = true := by unfold okRd; rw [c10, c17, c26, c37, c47]; rfl
            have hgr : g_read words sorts shL (nI wi) (nI sh) sort i n (nI sd) = agN sorts shL sh sort i n := by unfold g_read; rw [h0, esh]; rfl
            refine lv_aload_n zx zb dX1_reading_53 rfl (lv_at hl 0 rfl) ?_
            refine lv_iload_n zx zb dX1_reading_54 rfl (lv_at hl 2 rfl) ?_
            refine lv_iload_n zx zb dX1_reading_55 rfl (lv_at hl 3 rfl) ?_
            refine lv_iload zx zb dX1_reading_56 (lv_at hl 4 rfl) ?_
            refine lv_iload zx zb dX1_reading_58 (lv_at hl 5 rfl) ?_
            refine nv_ki zC hX (nv_rV (n := 4) (As := [.int (nI sh), .int sort, .int i, .int n]) (rest := []) (q0 := 0) zC hX (mm_against (sheet := sh) (sort := sort) (i := i) (n := n) (hso := (by first | assumption | omega)) (hsl := (by first | assumption | omega)) (hsh := (by first | assumption | omega))) nvGb0 (fun _ _ _ => trivial) rfl rfl q1296 q1298 qs29 q63 q1299 (by decide +kernel) rfl ⟨Nat.le_of_ble_eq_true rfl, Nat.le_of_ble_eq_true rfl⟩ hl.1 (Nat.le_of_ble_eq_true rfl) dX1_reading_60 ⟨by first | exact Nat.le_of_ble_eq_true rfl | omega, by first | exact Nat.le_of_ble_eq_true rfl | omega⟩) (fun r u H locs hp hX => ?_)
            have hr_ : r = nI (agN sorts shL sh sort i n) := hp
            subst hr_
            have hX : nvS D a0 (mW dA a (nI 0) trace sorts shL cells words said kind longOf letters saidRow at_ rdW rKind rLong rLet looked lkL next heard far ways waysT free freeT rdgs rWord rMany rStands rRow ex) s.heap H locs := hX
            refine W.cs (cells' := 0) (slots' := 0) (Nat.add_zero _) (Nat.add_zero _) ?_
            refine lv_istore (lv' := [(7, .int (nI (agN sorts shL sh sort i n))), (0, .ref (a 0)), (1, .int (nI wi)), (2, .int (nI sh)), (3, .int sort), (4, .int i), (5, .int n), (6, .int (nI sd))]) zx zb dX1_reading_63 hl (by decide) rfl (fun ls hl => ?_)
            refine lv_iload zx zb dX1_reading_65 (lv_at hl 0 rfl) ?_
            refine nv_if_eq (tgt := 77) zx zb (Nat.lt_trans (agN_lt _ _ _ _ _ _) (by decide)) dX1_reading_67 (by decide) (fun c67 => ?_) (fun c67 => ?_)
            · obtain ⟨ii, nn, rfl, rfl, hin, -, -⟩ := agN_0 (hsl _) c67
              have hl := lv_sub hl [1, 2, 3, 4, 5, 6, 7] rfl
              have hsl_ := hsl sh
              have ei : i2n (nI ii) = ii := nI_clamp (by omega)
              have en : i2n (nI nn) = nn := nI_clamp (by omega)
              refine lv_bipush (v := nI 60) zx zb dX1_reading_77 (by decide) ?_
              refine lv_iload_n zx zb dX1_reading_79 rfl (lv_at hl 2 rfl) ?_
              refine nv_imul zx zb dX1_reading_80 ?_
              refine lv_iload zx zb dX1_reading_81 (lv_at hl 4 rfl) ?_
              refine nv_iadd zx zb dX1_reading_83 ?_
              refine lv_istore (lv' := [(8, .int (nI ((60 * sh) + ii))), (0, .ref (a 0)), (1, .int (nI wi)), (2, .int (nI sh)), (3, .int sort), (4, .int (nI ii)), (5, .int (nI nn)), (6, .int (nI sd))]) zx zb dX1_reading_84 hl (by decide) rfl (fun ls hl => ?_)
              refine lv_aload_n zx zb dX1_reading_86 rfl (lv_at hl 1 rfl) ?_
              refine lv_iload zx zb dX1_reading_87 (lv_at hl 0 rfl) ?_
              refine lv_iload zx zb dX1_reading_89 (lv_at hl 6 rfl) ?_
              refine nv_ki zC hX (nv_rV (n := 2) (As := [.int (nI ((60 * sh) + ii)), .int (nI nn)]) (rest := []) (q0 := 0) zC hX (mm_areLetters (i := (60 * sh) + ii) (n := nn) (hi := (by first | assumption | omega))) nvGb0 (fun _ _ _ => trivial) rfl rfl q1364 q1366 qs41 q63 q1367 (by decide +kernel) rfl ⟨Nat.le_of_ble_eq_true rfl, Nat.le_of_ble_eq_true rfl⟩ hl.1 (Nat.le_of_ble_eq_true rfl) dX1_reading_91 ⟨by first | exact Nat.le_of_ble_eq_true rfl | omega, by first | exact Nat.le_of_ble_eq_true rfl | omega⟩) (fun r u H locs hp hX => ?_)
              have hr_ : r = nB (decide (∀ j, j < nn → inN (cells (((60 * sh) + ii) + j)) 0 2 = true)) := hp
              subst hr_
              have hX : nvS D a0 (mW dA a (nI 0) trace sorts shL cells words said kind longOf letters saidRow at_ rdW rKind rLong rLet looked lkL next heard far ways waysT free freeT rdgs rWord rMany rStands rRow ex) s.heap H locs := hX
              refine W.cs (cells' := 0) (slots' := 0) (Nat.add_zero _) (Nat.add_zero _) ?_
              refine nv_if_neB (tgt := 100) zx zb dX1_reading_94 (by decide) (fun c94 => ?_) (fun c94 => ?_)
              · refine lv_aload_n zx zb dX1_reading_100 rfl (lv_at hl 1 rfl) ?_
                refine nv_get zC hX in_X1 0 rfl rfl 25 (by decide) q1217 (fun _ h => h) rfl dX1_reading_101 ?_
                refine lv_bipush (v := nI 8) zx zb dX1_reading_104 (by decide) ?_
                refine nv_icmp_ne (tgt := 112) zx zb (by omega) (by omega) dX1_reading_106 (by decide) (fun c106 => ?_) (fun c106 => ?_)
                · have h3 : alB cells (60 * sh + ii) nn = true := c94
                  obtain ⟨hr1, hr2⟩ := alB_v h3
                  have hn8 : nn ≤ 8 := by have z := c37; rw [inN_n (by decide) (by decide) (by omega)] at z; exact (of_decide_eq_true z).2
                  refine lv_aload_n zx zb dX1_reading_112 rfl (lv_at hl 1 rfl) ?_
                  refine nv_get zC hX in_X1 0 rfl rfl 26 (by decide) q1218 (fun _ h => h) rfl dX1_reading_113 ?_
                  refine lv_aload_n zx zb dX1_reading_116 rfl (lv_at hl 1 rfl) ?_
                  refine nv_get zC hX in_X1 0 rfl rfl 25 (by decide) q1217 (fun _ h => h) rfl dX1_reading_117 ?_
                  refine lv_iload_n zx zb dX1_reading_120 rfl (lv_at hl 2 rfl) ?_
                  refine nv_iast zC hX 19 rfl (by omega) (by decide) (nF_up _ _ _) (w' := mW dA a (nI 0) trace sorts shL cells words said kind longOf letters saidRow at_ rdW rKind rLong rLet looked lkL next heard far ways waysT free freeT rdgs (va_up rWord rdgs wi) rMany rStands rRow ex) rfl dX1_reading_121 (fun H locs hX => ?_)
                  refine lv_aload_n zx zb dX1_reading_122 rfl (lv_at hl 1 rfl) ?_
                  refine nv_get zC hX in_X1 0 rfl rfl 27 (by decide) q1219 (fun _ h => h) rfl dX1_reading_123 ?_
                  refine lv_aload_n zx zb dX1_reading_126 rfl (lv_at hl 1 rfl) ?_
                  refine nv_get zC hX in_X1 0 rfl rfl 25 (by decide) q1217 (fun _ h => h) rfl dX1_reading_127 ?_
                  refine lv_iload zx zb dX1_reading_130 (lv_at hl 6 rfl) ?_
                  refine nv_iast zC hX 20 rfl (by omega) (by decide) (nF_up _ _ _) (w' := mW dA a (nI 0) trace sorts shL cells words said kind longOf letters saidRow at_ rdW rKind rLong rLet looked lkL next heard far ways waysT free freeT rdgs (va_up rWord rdgs wi) (va_up rMany rdgs nn) rStands rRow ex) rfl dX1_reading_132 (fun H locs hX => ?_)
                  refine lv_aload_n zx zb dX1_reading_133 rfl (lv_at hl 1 rfl) ?_
                  refine nv_get zC hX in_X1 0 rfl rfl 28 (by decide) q1220 (fun _ h => h) rfl dX1_reading_134 ?_
                  refine lv_aload_n zx zb dX1_reading_137 rfl (lv_at hl 1 rfl) ?_
                  refine nv_get zC hX in_X1 0 rfl rfl 25 (by decide) q1217 (fun _ h => h) rfl dX1_reading_138 ?_
                  refine lv_iload zx zb dX1_reading_141 (lv_at hl 7 rfl) ?_
                  refine nv_iast zC hX 21 rfl (by omega) (by decide) (nF_up _ _ _) (w' := mW dA a (nI 0) trace sorts shL cells words said kind longOf letters saidRow at_ rdW rKind rLong rLet looked lkL next heard far ways waysT free freeT rdgs (va_up rWord rdgs wi) (va_up rMany rdgs nn) (va_up rStands rdgs sd) rRow ex) rfl dX1_reading_143 (fun H locs hX => ?_)
                  refine lv_iconst (v := nI 0) zx zb dX1_reading_144 (by decide) ?_
                  refine lv_istore (lv' := [(9, .int (nI 0)), (8, .int (nI ((60 * sh) + ii))), (0, .ref (a 0)), (1, .int (nI wi)), (2, .int (nI sh)), (3, .int sort), (4, .int (nI ii)), (5, .int (nI nn)), (6, .int (nI sd))]) zx zb dX1_reading_145 hl (by decide) rfl (fun ls hl => ?_)
                  have L147 : ∀ (zn : Nat) (k : Nat) (hk : k ≤ nn), nn - k < zn → ∀ (H : Heap) (locs : List Loc) (ls : Array Slot), nvS D a0 (mW dA a (nI 0) trace sorts shL cells words said kind longOf letters saidRow at_ rdW rKind rLong rLet looked lkL next heard far ways waysT free freeT rdgs (va_up rWord rdgs wi) (va_up rMany rdgs nn) (va_up rStands rdgs sd) (rwP rRow (8 * rdgs) k (rwC cells (60 * sh + ii) nn)) ex) s.heap H locs → lv_has ls 10 [(9, .int (nI k)), (8, .int (nI ((60 * sh) + ii))), (0, .ref (a 0)), (1, .int (nI wi)), (2, .int (nI sh)), (3, .int sort), (4, .int (nI ii)), (5, .int (nI nn)), (6, .int (nI sd))] → W zp l ze (rm_ 3 57 0 0) s zm zar zlo zme zcd H locs 0 0 Q (F0 zm 147 ls []) := by
                    intro zn
                    induction zn with
                    | zero => intro k hk zf; exact absurd zf (Nat.not_lt_zero _)
                    | succ zn ih147 =>
                      intro k hk zf H locs ls hX hl
                      refine lv_iload zx zb dX1_reading_147 (lv_at hl 0 rfl) ?_
                      refine lv_iload zx zb dX1_reading_149 (lv_at hl 7 rfl) ?_
                      refine nv_icmp_ge (tgt := 185) zx zb (by omega) (by omega) dX1_reading_151 (by decide) (fun c151 => ?_) (fun c151 => ?_)
                      · refine lv_aload_n zx zb dX1_reading_185 rfl (lv_at hl 2 rfl) ?_
                        refine lv_dup zx zb dX1_reading_186 rfl ?_
                        refine nv_get zC hX in_X1 0 rfl rfl 25 (by decide) q1217 (fun _ h => h) rfl dX1_reading_187 ?_
                        refine lv_iconst (v := nI 1) zx zb dX1_reading_190 (by decide) ?_
                        refine nv_iadd zx zb dX1_reading_191 ?_
                        refine nv_put zC hX in_X1 tyX1 tyX1_ok nmX1 0 rfl rfl 25 (by decide) q1217 (fun _ h => h) rfl rfl rfl (Nat.le_of_ble_eq_true rfl) (w' := mW dA a (nI 0) trace sorts shL cells words said kind longOf letters saidRow at_ rdW rKind rLong rLet looked lkL next heard far ways waysT free freeT (rdgs + 1) (va_up rWord rdgs wi) (va_up rMany rdgs nn) (va_up rStands rdgs sd) (rwP rRow (8 * rdgs) k (rwC cells (60 * sh + ii) nn)) ex) rfl dX1_reading_192 (fun H locs hX => ?_)
                        refine lv_aload_n zx zb dX1_reading_195 rfl (lv_at hl 2 rfl) ?_
                        refine nv_get zC hX in_X1 0 rfl rfl 25 (by decide) q1217 (fun _ h => h) rfl dX1_reading_196 ?_
                        refine lv_iconst (v := nI 1) zx zb dX1_reading_199 (by decide) ?_
                        refine nv_isub zx zb (by omega) dX1_reading_200 ?_
                        rw [← zQ]
                        exact nv_endi zC zr zk (nI 0, rdgs + 1, va_up rWord rdgs wi, va_up rMany rdgs nn, va_up rStands rdgs sd, rwP rRow (8 * rdgs) k (rwC cells (60 * sh + ii) nn)) hX (by (try dsimp only); have h2 : okRd2 words sorts shL cells rdgs (nI wi) (nI sh) sort (nI ii) (nI nn) (nI sd) = true := (by unfold okRd2; rw [h0, hgr, c67, esh, ei, en, h3, decide_eq_true (show rdgs ≠ 8 from c106)]; rfl); exact ⟨by unfold F_read; rw [h0, if_pos rfl, hgr, if_neg (by omega), esh, ei, en, h3, if_pos rfl, if_neg c106, Nat.add_sub_cancel], by rw [hgr, c67], by rw [h2]; rfl, by rw [h2, ew]; rfl, by rw [h2, en]; rfl, by rw [h2, esd]; rfl, by rw [h2, en, esh, ei, show nn = k by omega]; rfl⟩) (by omega) (by omega) dX1_reading_201
                      · refine lv_aload_n zx zb dX1_reading_154 rfl (lv_at hl 2 rfl) ?_
                        refine nv_get zC hX in_X1 0 rfl rfl 29 (by decide) q1221 (fun _ h => h) rfl dX1_reading_155 ?_
                        refine lv_bipush (v := nI 8) zx zb dX1_reading_158 (by decide) ?_
                        refine lv_aload_n zx zb dX1_reading_160 rfl (lv_at hl 2 rfl) ?_
                        refine nv_get zC hX in_X1 0 rfl rfl 25 (by decide) q1217 (fun _ h => h) rfl dX1_reading_161 ?_
                        refine nv_imul zx zb dX1_reading_164 ?_
                        refine lv_iload zx zb dX1_reading_165 (lv_at hl 0 rfl) ?_
                        refine nv_iadd zx zb dX1_reading_167 ?_
                        refine lv_aload_n zx zb dX1_reading_168 rfl (lv_at hl 2 rfl) ?_
                        refine nv_get zC hX in_X1 0 rfl rfl 4 (by decide) q1196 (fun _ h => h) rfl dX1_reading_169 ?_
                        refine lv_iload zx zb dX1_reading_172 (lv_at hl 1 rfl) ?_
                        refine lv_iload zx zb dX1_reading_174 (lv_at hl 0 rfl) ?_
                        refine nv_iadd zx zb dX1_reading_176 ?_
                        refine nv_iald (v := nI (rwC cells (60 * sh + ii) nn k)) zC hX 3 rfl (by omega) (by decide) (hr2 k c151) dX1_reading_177 ?_
                        refine nv_iast zC hX 22 rfl (by omega) (by decide) (nF_up _ _ _) (w' := mW dA a (nI 0) trace sorts shL cells words said kind longOf letters saidRow at_ rdW rKind rLong rLet looked lkL next heard far ways waysT free freeT rdgs (va_up rWord rdgs wi) (va_up rMany rdgs nn) (va_up rStands rdgs sd) (va_up (rwP rRow (8 * rdgs) k (rwC cells (60 * sh + ii) nn)) ((8 * rdgs) + k) (rwC cells (60 * sh + ii) nn k)) ex) rfl dX1_reading_178 (fun H locs hX => ?_)
                        have hX : nvS D a0 (mW dA a (nI 0) trace sorts shL cells words said kind longOf letters saidRow at_ rdW rKind rLong rLet looked lkL next heard far ways waysT free freeT rdgs (va_up rWord rdgs wi) (va_up rMany rdgs nn) (va_up rStands rdgs sd) (rwP rRow (8 * rdgs) (k + 1) (rwC cells (60 * sh + ii) nn)) ex) s.heap H locs := by (rw [← rwP_s]; exact hX)
                        refine lv_iinc (v := nI (k + 1)) (lv' := [(9, .int (nI (k + 1))), (8, .int (nI ((60 * sh) + ii))), (0, .ref (a 0)), (1, .int (nI wi)), (2, .int (nI sh)), (3, .int sort), (4, .int (nI ii)), (5, .int (nI nn)), (6, .int (nI sd))]) zx zb dX1_reading_179 hl (k := 0) rfl (nI_1 _) (by decide) rfl (fun ls hl => ?_)
                        refine lv_goto (tgt := 147) zx zb dX1_reading_182 (by decide) ?_
                        exact ih147 (k + 1) (by omega) (by omega) _ _ _ hX (lv_sub hl [0, 1, 2, 3, 4, 5, 6, 7, 8] rfl)
                  rw [← rwP_0 rRow (8 * rdgs) (rwC cells (60 * sh + ii) nn)] at hX
                  exact L147 _ 0 (by omega) (Nat.lt_succ_self _) _ _ _ hX (lv_sub hl [0, 1, 2, 3, 4, 5, 6, 7, 8] rfl)
                · refine lv_bipush (v := (-4)) zx zb dX1_reading_109 (by decide) ?_
                  rw [← zQ]
                  exact nv_endi zC zr zk (nI 0, rdgs, rWord, rMany, rStands, rRow) hX (by (try dsimp only); have h3 : alB cells (60 * sh + ii) nn = true := c94; have h2 : okRd2 words sorts shL cells rdgs (nI wi) (nI sh) sort (nI ii) (nI nn) (nI sd) = false := (by unfold okRd2; rw [decide_eq_false (show ¬ rdgs ≠ 8 by omega)]; simp); exact ⟨by unfold F_read; rw [h0, if_pos rfl, hgr, if_neg (by omega), esh, ei, en, h3, if_pos rfl, if_pos c106], by rw [hgr, c67], by rw [h2]; rfl, by rw [h2]; rfl, by rw [h2]; rfl, by rw [h2]; rfl, by rw [h2]; rfl⟩) (by omega) (by omega) dX1_reading_111
              · refine lv_bipush (v := (-2)) zx zb dX1_reading_97 (by decide) ?_
                rw [← zQ]
                exact nv_endi zC zr zk (nI 0, rdgs, rWord, rMany, rStands, rRow) hX (by (try dsimp only); have h3 : alB cells (60 * sh + ii) nn = false := c94; have h2 : okRd2 words sorts shL cells rdgs (nI wi) (nI sh) sort (nI ii) (nI nn) (nI sd) = false := (by unfold okRd2; rw [esh, ei, en, h3]; simp); exact ⟨by unfold F_read; rw [h0, if_pos rfl, hgr, if_neg (by omega), esh, ei, en, h3]; rfl, by rw [hgr, c67], by rw [h2]; rfl, by rw [h2]; rfl, by rw [h2]; rfl, by rw [h2]; rfl, by rw [h2]; rfl⟩) (by omega) (by omega) dX1_reading_99
            · refine lv_aload_n zx zb dX1_reading_70 rfl (lv_at hl 1 rfl) ?_
              refine lv_iload zx zb dX1_reading_71 (lv_at hl 0 rfl) ?_
              refine nv_ki zC hX (nv_rV (n := 1) (As := [.int (nI (agN sorts shL sh sort i n))]) (rest := []) (q0 := 0) zC hX (mm_fails (k := agN sorts shL sh sort i n)) nvGb0 (fun _ _ _ => trivial) rfl rfl q1300 q1302 qs30 q63 q1303 (by decide +kernel) rfl ⟨Nat.le_of_ble_eq_true rfl, Nat.le_of_ble_eq_true rfl⟩ hl.1 (Nat.le_of_ble_eq_true rfl) dX1_reading_73 ⟨by first | exact Nat.le_of_ble_eq_true rfl | omega, by first | exact Nat.le_of_ble_eq_true rfl | omega⟩) (fun r u H locs hp hX => ?_)
              have hr_ : r = (-10) - nI (agN sorts shL sh sort i n) := hp
              subst hr_
              have hX : nvS D a0 (mW dA a (nI (agN sorts shL sh sort i n)) trace sorts shL cells words said kind longOf letters saidRow at_ rdW rKind rLong rLet looked lkL next heard far ways waysT free freeT rdgs rWord rMany rStands rRow ex) s.heap H locs := hX
              refine W.cs (cells' := 0) (slots' := 0) (Nat.add_zero _) (Nat.add_zero _) ?_
              rw [← zQ]
              exact nv_endi zC zr zk (nI (agN sorts shL sh sort i n), rdgs, rWord, rMany, rStands, rRow) hX (by (try dsimp only); have h2 : okRd2 words sorts shL cells rdgs (nI wi) (nI sh) sort i n (nI sd) = false := (by unfold okRd2; rw [h0, hgr, decide_eq_false (by omega)]; rfl); exact ⟨by unfold F_read; rw [h0, if_pos rfl, hgr, if_pos (by omega)], by rw [hgr], by rw [h2]; rfl, by rw [h2]; rfl, by rw [h2]; rfl, by rw [h2]; rfl, by rw [h2]; rfl⟩) (by omega) (by omega) dX1_reading_76
          · refine lv_bipush (v := (-2)) zx zb dX1_reading_50 (by decide) ?_
            rw [← zQ]
            exact nv_endi zC zr zk (nI 0, rdgs, rWord, rMany, rStands, rRow) hX (by (try dsimp only); have h0 : okRd words (nI wi) (nI sh) sort n st = false := (by unfold okRd; simp [c47]); have h2 : okRd2 words sorts shL cells rdgs (nI wi) (nI sh) sort i n st = false := (by unfold okRd2; rw [h0]; rfl); exact ⟨by unfold F_read; rw [h0, if_neg (by decide), if_pos ⟨c10, c17⟩], by unfold g_read; rw [h0]; rfl, by rw [h2]; rfl, by rw [h2]; rfl, by rw [h2]; rfl, by rw [h2]; rfl, by rw [h2]; rfl⟩) (by omega) (by omega) dX1_reading_52
    · refine lv_iconst (v := (-1)) zx zb dX1_reading_20 (by decide) ?_
      rw [← zQ]
      exact nv_endi zC zr zk (nI 0, rdgs, rWord, rMany, rStands, rRow) hX (by (try dsimp only); have h0 : okRd words (nI wi) sheet sort n st = false := (by unfold okRd; simp [c17]); have h2 : okRd2 words sorts shL cells rdgs (nI wi) sheet sort i n st = false := (by unfold okRd2; rw [h0]; rfl); exact ⟨by unfold F_read; rw [h0, if_neg (by decide), if_neg (fun z => absurd (z.2.symm.trans c17) (by decide))], by unfold g_read; rw [h0]; rfl, by rw [h2]; rfl, by rw [h2]; rfl, by rw [h2]; rfl, by rw [h2]; rfl, by rw [h2]; rfl⟩) (by omega) (by omega) dX1_reading_21

set_option maxHeartbeats 4000000 in
theorem mm_all  (k : Int32) (hok : mOK words kind longOf letters) (hlk : ∀ j, looked j < 3) : nMt l D dA a0 yX1_all cX1_all 5 (some .int) 6 133 0 0 nvG0 [.ref (a 0), .int k] (mW dA a fault trace sorts shL cells words said kind longOf letters saidRow at_ rdW rKind rLong rLet looked lkL next heard far ways waysT free freeT rdgs rWord rMany rStands rRow ex) (nQi D a0 (fun (r : Int32) (u : (Nat → Nat) × (Nat → Nat) × (Nat → Nat) × (Nat → Option Nat)) => r = F_all kind longOf letters words k ∧ (∀ z, u.2.2.1 z < 3)) (fun (u : (Nat → Nat) × (Nat → Nat) × (Nat → Nat) × (Nat → Option Nat)) => mW dA a fault trace sorts shL cells words said kind longOf letters saidRow at_ rdW rKind rLong rLet u.2.2.1 lkL u.1 u.2.1 u.2.2.2 ways waysT free freeT rdgs rWord rMany rStands rRow ex)) := by
  refine nv_start (by decide) (Nat.le_of_ble_eq_true rfl) fun zp ze s zm zlo zme zcd ls zC zr zk znm hX zG hl => ?_
  have zx := zC.1
  have zb := zC.2.1
  generalize zargs : ([.ref (a 0), .int k] : List Value).toArray = zar at zC ⊢
  generalize zQ : MQ zlo _ zar s _ _ _ = Q
  have hX : nvS D a0 (mW dA a fault trace sorts shL cells words said kind longOf letters saidRow at_ rdW rKind rLong rLet looked lkL next heard far ways waysT free freeT rdgs rWord rMany rStands rRow ex) s.heap s.heap [] := hX
  have hl : lv_has ls 5 [(0, .ref (a 0)), (1, .int k)] := hl
  obtain ⟨H, zH⟩ : ∃ H, H = s.heap := ⟨_, rfl⟩
  have hX : nvS D a0 (mW dA a fault trace sorts shL cells words said kind longOf letters saidRow at_ rdW rKind rLong rLet looked lkL next heard far ways waysT free freeT rdgs rWord rMany rStands rRow ex) s.heap H [] := by rw [zH]; exact hX
  rw [show W zp l ze (rm_ 6 133 0 0) s zm zar zlo zme zcd s.heap [] 0 0 Q = W zp l ze (rm_ 6 133 0 0) s zm zar zlo zme zcd H [] 0 0 Q by rw [zH]]
  generalize ([] : List Loc) = locs at hX ⊢
  have hw4 := hok.1
  have hlt := hok.2.2.2
  refine lv_iload_n zx zb dX1_all_0 rfl (lv_at hl 1 rfl) ?_
  refine lv_iconst (v := (-1)) zx zb dX1_all_1 (by decide) ?_
  refine lv_bipush (v := nI 15) zx zb dX1_all_2 (by decide) ?_
  refine nv_ki zC hX (nv_rS (n := 3) (As := [.int k, .int (-1), .int (nI 15)]) (rest := []) zC hX (mm_within (v := k) (lo := (-1)) (hi := nI 15)) nvGb0 (fun _ _ _ => trivial) q1290 q1291 q63 q1292 (by decide +kernel) rfl ⟨Nat.le_of_ble_eq_true rfl, Nat.le_of_ble_eq_true rfl⟩ hl.1 (Nat.le_of_ble_eq_true rfl) dX1_all_4 ⟨by first | exact Nat.le_of_ble_eq_true rfl | omega, by first | exact Nat.le_of_ble_eq_true rfl | omega⟩) (fun r u H locs hp hX => ?_)
  have hr_ : r = nB (decide ((-1) ≤ k) && decide (k ≤ nI 15)) := hp
  subst hr_
  have hX : nvS D a0 (mW dA a fault trace sorts shL cells words said kind longOf letters saidRow at_ rdW rKind rLong rLet looked lkL next heard far ways waysT free freeT rdgs rWord rMany rStands rRow ex) s.heap H locs := hX
  refine W.cs (cells' := 0) (slots' := 0) (Nat.add_zero _) (Nat.add_zero _) ?_
  refine nv_if_neB (tgt := 13) zx zb dX1_all_7 (by decide) (fun c7 => ?_) (fun c7 => ?_)
  · refine lv_aload_n zx zb dX1_all_13 rfl (lv_at hl 0 rfl) ?_
    refine nv_get zC hX in_X1 0 rfl rfl 5 (by decide) q1197 (fun _ h => h) rfl dX1_all_14 ?_
    refine nv_if_ne (tgt := 23) zx zb (by omega) dX1_all_17 (by decide) (fun c17 => ?_) (fun c17 => ?_)
    · refine lv_aload_n zx zb dX1_all_23 rfl (lv_at hl 0 rfl) ?_
      refine nv_kv zC hX (nv_rV (n := 0) (As := []) (rest := []) (q0 := 0) zC hX (mm_findFar (hok := (by first | assumption | omega)) (hlk := (by first | assumption | omega))) nvGb0 (fun _ _ _ => trivial) rfl rfl q1392 q1394 qs46 q63 q1395 (by decide +kernel) rfl ⟨Nat.le_of_ble_eq_true rfl, Nat.le_of_ble_eq_true rfl⟩ hl.1 (Nat.le_of_ble_eq_true rfl) dX1_all_24 ⟨by first | exact Nat.le_of_ble_eq_true rfl | omega, by first | exact Nat.le_of_ble_eq_true rfl | omega⟩) (fun u H locs hp hX => ?_)
      obtain ⟨next'_2, heard'_2, looked'_2, far'_2⟩ := u
      have h24 : nxOK next'_2 heard'_2 kind longOf letters words ∧ (∀ j, looked'_2 j < 3) ∧ ffOK kind longOf letters words far'_2 := hp
      have hX : nvS D a0 (mW dA a fault trace sorts shL cells words said kind longOf letters saidRow at_ rdW rKind rLong rLet looked'_2 lkL next'_2 heard'_2 far'_2 ways waysT free freeT rdgs rWord rMany rStands rRow ex) s.heap H locs := hX
      refine W.cs (cells' := 0) (slots' := 0) (Nat.add_zero _) (Nat.add_zero _) ?_
      obtain ⟨hnx, hlk2, hff⟩ := h24
      have hD := ffOK_D hff
      have hstl : ∀ k c, k < 640 → c < 3 → stC kind longOf letters words k c < 640 := fun k c _ hc => stC_lt hw4 hc
      refine lv_iload_n zx zb dX1_all_27 rfl (lv_at hl 1 rfl) ?_
      refine lv_iconst (v := (-1)) zx zb dX1_all_28 (by decide) ?_
      refine lv_icmp_ne (x := k) (y := (-1)) (tgt := 39) zx zb dX1_all_29 (by decide) (fun c29 => ?_) (fun c29 => ?_)
      · refine lv_iload_n zx zb dX1_all_39 rfl (lv_at hl 1 rfl) ?_
        refine lv_aload_n zx zb dX1_all_40 rfl (lv_at hl 0 rfl) ?_
        refine nv_get zC hX in_X1 0 rfl rfl 20 (by decide) q1212 (fun _ h => h) rfl dX1_all_41 ?_
        refine lv_iconst (v := nI 0) zx zb dX1_all_44 (by decide) ?_
        refine nv_iald (v := oI (far'_2 0)) zC hX 14 rfl (by omega) (by decide) rfl dX1_all_45 ?_
        rw [hD 0 (by decide)]
        refine lv_icmp_lt (x := k) (y := oI (dsD kind longOf letters words 0)) (tgt := 52) zx zb dX1_all_46 (by decide) (fun c46 => ?_) (fun c46 => ?_)
        · obtain ⟨kk, v0, rfl, hv0, hkv, hk15⟩ := all_k c7 c29 c46 (fun v h => dsU_lt h)
          refine lv_iconst (v := nI 0) zx zb dX1_all_52 (by decide) ?_
          refine lv_istore_n (lv' := [(2, .int (nI 0)), (0, .ref (a 0)), (1, .int (nI kk))]) zx zb dX1_all_53 rfl hl (by decide) rfl (fun ls hl => ?_)
          refine lv_iconst (v := nI 0) zx zb dX1_all_54 (by decide) ?_
          refine lv_istore_n (lv' := [(3, .int (nI 0)), (2, .int (nI 0)), (0, .ref (a 0)), (1, .int (nI kk))]) zx zb dX1_all_55 rfl hl (by decide) rfl (fun ls hl => ?_)
          refine lv_iconst (v := nI 0) zx zb dX1_all_56 (by decide) ?_
          refine lv_istore (lv' := [(4, .int (nI 0)), (3, .int (nI 0)), (2, .int (nI 0)), (0, .ref (a 0)), (1, .int (nI kk))]) zx zb dX1_all_57 hl (by decide) rfl (fun ls hl => ?_)
          have L59 : ∀ (zn : Nat) (q : Nat) (hq : q ≤ kk + 1) (hs : (grA (stC kind longOf letters words) (dsD kind longOf letters words) 0 q).1 < 640) (hd : dsD kind longOf letters words (grA (stC kind longOf letters words) (dsD kind longOf letters words) 0 q).1 = some (v0 - q)), kk + 1 - q < zn → ∀ (H : Heap) (locs : List Loc) (ls : Array Slot), nvS D a0 (mW dA a fault trace sorts shL cells words said kind longOf letters saidRow at_ rdW rKind rLong rLet looked'_2 lkL next'_2 heard'_2 far'_2 ways waysT free freeT rdgs rWord rMany rStands rRow ex) s.heap H locs → lv_has ls 5 [(4, .int (nI q)), (3, .int (nI ((grA (stC kind longOf letters words) (dsD kind longOf letters words) 0 q).2))), (2, .int (nI ((grA (stC kind longOf letters words) (dsD kind longOf letters words) 0 q).1))), (0, .ref (a 0)), (1, .int (nI kk))] → W zp l ze (rm_ 6 133 0 0) s zm zar zlo zme zcd H locs 0 0 Q (F0 zm 59 ls []) := by
            intro zn
            induction zn with
            | zero => intro q hq hs hd zf; exact absurd zf (Nat.not_lt_zero _)
            | succ zn ih59 =>
              intro q hq hs hd zf H locs ls hX hl
              refine lv_iload zx zb dX1_all_59 (lv_at hl 0 rfl) ?_
              refine lv_iload_n zx zb dX1_all_61 rfl (lv_at hl 4 rfl) ?_
              refine nv_icmp_gt (tgt := 108) zx zb (by omega) (by omega) dX1_all_62 (by decide) (fun c62 => ?_) (fun c62 => ?_)
              · refine lv_iload_n zx zb dX1_all_108 rfl (lv_at hl 1 rfl) ?_
                rw [← zQ]
                exact nv_endi zC zr zk (next'_2, heard'_2, looked'_2, far'_2) hX (by (try dsimp only); have ek : i2n (nI kk) = kk := nI_clamp (by omega); exact ⟨by unfold F_all; rw [if_pos c7, if_neg (by omega), if_neg c29, if_pos c46, ek, show kk + 1 = q by omega], hlk2⟩) (by omega) (by omega) dX1_all_109
              · obtain ⟨c0, hc0, hd0⟩ := dsU_pred (show dsD kind longOf letters words (grA (stC kind longOf letters words) (dsD kind longOf letters words) 0 q).1 = some (v0 - q - 1 + 1) by rw [hd, show v0 - q - 1 + 1 = v0 - q by omega])
                refine lv_iconst (v := nI 0) zx zb dX1_all_65 (by decide) ?_
                refine lv_istore_n (lv' := [(3, .int (nI 0)), (4, .int (nI q)), (2, .int (nI ((grA (stC kind longOf letters words) (dsD kind longOf letters words) 0 q).1))), (0, .ref (a 0)), (1, .int (nI kk))]) zx zb dX1_all_66 rfl hl (by decide) rfl (fun ls hl => ?_)
                have L67 : ∀ (zn : Nat) (c : Nat) (hc : c ≤ c0) (hno : ∀ i, i < c → decide (dsD kind longOf letters words (stC kind longOf letters words (grA (stC kind longOf letters words) (dsD kind longOf letters words) 0 q).1 i) = some (v0 - q - 1)) = false), 3 - c < zn → ∀ (H : Heap) (locs : List Loc) (ls : Array Slot), nvS D a0 (mW dA a fault trace sorts shL cells words said kind longOf letters saidRow at_ rdW rKind rLong rLet looked'_2 lkL next'_2 heard'_2 far'_2 ways waysT free freeT rdgs rWord rMany rStands rRow ex) s.heap H locs → lv_has ls 5 [(3, .int (nI c)), (4, .int (nI q)), (2, .int (nI ((grA (stC kind longOf letters words) (dsD kind longOf letters words) 0 q).1))), (0, .ref (a 0)), (1, .int (nI kk))] → W zp l ze (rm_ 6 133 0 0) s zm zar zlo zme zcd H locs 0 0 Q (F0 zm 67 ls []) := by
                  intro zn
                  induction zn with
                  | zero => intro c hc hno zf; exact absurd zf (Nat.not_lt_zero _)
                  | succ zn ih67 =>
                    intro c hc hno zf H locs ls hX hl
                    refine lv_aload_n zx zb dX1_all_67 rfl (lv_at hl 3 rfl) ?_
                    refine nv_get zC hX in_X1 0 rfl rfl 20 (by decide) q1212 (fun _ h => h) rfl dX1_all_68 ?_
                    refine lv_aload_n zx zb dX1_all_71 rfl (lv_at hl 3 rfl) ?_
                    refine lv_iload_n zx zb dX1_all_72 rfl (lv_at hl 2 rfl) ?_
                    refine lv_iload_n zx zb dX1_all_73 rfl (lv_at hl 0 rfl) ?_
                    refine nv_ki zC hX (nv_rV (n := 2) (As := [.int (nI ((grA (stC kind longOf letters words) (dsD kind longOf letters words) 0 q).1)), .int (nI c)]) (rest := [.ref (a 14)]) (q0 := 0) zC hX (mm_behindLetter (k := (grA (stC kind longOf letters words) (dsD kind longOf letters words) 0 q).1) (c := c) (hk := hs) (hc := (by first | assumption | omega))) nvGb0 (fun _ _ _ => trivial) rfl rfl q1408 q1410 qs50 q63 q1411 (by decide +kernel) rfl ⟨Nat.le_of_ble_eq_true rfl, Nat.le_of_ble_eq_true rfl⟩ hl.1 (Nat.le_of_ble_eq_true rfl) dX1_all_74 ⟨by first | exact Nat.le_of_ble_eq_true rfl | omega, by first | exact Nat.le_of_ble_eq_true rfl | omega⟩) (fun r u H locs hp hX => ?_)
                    have hr_ : r = nI (stM next'_2 heard'_2 ((grA (stC kind longOf letters words) (dsD kind longOf letters words) 0 q).1) c) := hp
                    subst hr_
                    have hX : nvS D a0 (mW dA a fault trace sorts shL cells words said kind longOf letters saidRow at_ rdW rKind rLong rLet looked'_2 lkL next'_2 heard'_2 far'_2 ways waysT free freeT rdgs rWord rMany rStands rRow ex) s.heap H locs := hX
                    refine W.cs (cells' := 0) (slots' := 0) (Nat.add_zero _) (Nat.add_zero _) ?_
                    have hst := stM_C hnx hs (show c < 3 by omega)
                    rw [hst]
                    have hst2 := hstl (grA (stC kind longOf letters words) (dsD kind longOf letters words) 0 q).1 c hs (by omega)
                    refine nv_iald (v := oI (dsD kind longOf letters words (stC kind longOf letters words (grA (stC kind longOf letters words) (dsD kind longOf letters words) 0 q).1 c))) zC hX 14 rfl (by omega) (by decide) (congrArg oI (hD _ hst2)) dX1_all_77 ?_
                    refine lv_aload_n zx zb dX1_all_78 rfl (lv_at hl 3 rfl) ?_
                    refine nv_get zC hX in_X1 0 rfl rfl 20 (by decide) q1212 (fun _ h => h) rfl dX1_all_79 ?_
                    refine lv_iload_n zx zb dX1_all_82 rfl (lv_at hl 2 rfl) ?_
                    refine nv_iald (v := oI (dsD kind longOf letters words (grA (stC kind longOf letters words) (dsD kind longOf letters words) 0 q).1)) zC hX 14 rfl (by omega) (by decide) (congrArg oI (hD _ hs)) dX1_all_83 ?_
                    refine lv_iconst (v := nI 1) zx zb dX1_all_84 (by decide) ?_
                    refine lv_isub zx zb dX1_all_85 ?_
                    refine nv_as (show (oI (dsD kind longOf letters words (grA (stC kind longOf letters words) (dsD kind longOf letters words) 0 q).1)) - (nI 1) = nI (v0 - q - 1) from (by rw [hd]; exact pk_sub (by omega))) ?_
                    refine lv_icmp_eq (x := oI (dsD kind longOf letters words (stC kind longOf letters words (grA (stC kind longOf letters words) (dsD kind longOf letters words) 0 q).1 c))) (y := nI (v0 - q - 1)) (tgt := 95) zx zb dX1_all_86 (by decide) (fun c86 => ?_) (fun c86 => ?_)
                    · have hc86 : dsD kind longOf letters words (stC kind longOf letters words (grA (stC kind longOf letters words) (dsD kind longOf letters words) 0 q).1 c) = some (v0 - q - 1) := (oI_s (fun v h => dsU_lt h) (by have := dsU_lt hv0; omega)).mp c86
                      obtain ⟨hgl, hgs⟩ := grA_s hd (show v0 - q = v0 - q - 1 + 1 by omega) (show c < 3 by omega) hc86 hno
                      refine lv_aload_n zx zb dX1_all_95 rfl (lv_at hl 3 rfl) ?_
                      refine lv_iload_n zx zb dX1_all_96 rfl (lv_at hl 2 rfl) ?_
                      refine lv_iload_n zx zb dX1_all_97 rfl (lv_at hl 0 rfl) ?_
                      refine nv_ki zC hX (nv_rV (n := 2) (As := [.int (nI ((grA (stC kind longOf letters words) (dsD kind longOf letters words) 0 q).1)), .int (nI c)]) (rest := []) (q0 := 0) zC hX (mm_behindLetter (k := (grA (stC kind longOf letters words) (dsD kind longOf letters words) 0 q).1) (c := c) (hk := hs) (hc := (by first | assumption | omega))) nvGb0 (fun _ _ _ => trivial) rfl rfl q1408 q1410 qs50 q63 q1411 (by decide +kernel) rfl ⟨Nat.le_of_ble_eq_true rfl, Nat.le_of_ble_eq_true rfl⟩ hl.1 (Nat.le_of_ble_eq_true rfl) dX1_all_98 ⟨by first | exact Nat.le_of_ble_eq_true rfl | omega, by first | exact Nat.le_of_ble_eq_true rfl | omega⟩) (fun r u H locs hp hX => ?_)
                      have hr_ : r = nI (stM next'_2 heard'_2 ((grA (stC kind longOf letters words) (dsD kind longOf letters words) 0 q).1) c) := hp
                      subst hr_
                      have hX : nvS D a0 (mW dA a fault trace sorts shL cells words said kind longOf letters saidRow at_ rdW rKind rLong rLet looked'_2 lkL next'_2 heard'_2 far'_2 ways waysT free freeT rdgs rWord rMany rStands rRow ex) s.heap H locs := hX
                      refine W.cs (cells' := 0) (slots' := 0) (Nat.add_zero _) (Nat.add_zero _) ?_
                      rw [stM_C hnx hs (show c < 3 by omega)]
                      refine lv_istore_n (lv' := [(2, .int (nI (stC kind longOf letters words (grA (stC kind longOf letters words) (dsD kind longOf letters words) 0 q).1 c))), (3, .int (nI c)), (4, .int (nI q)), (0, .ref (a 0)), (1, .int (nI kk))]) zx zb dX1_all_101 rfl hl (by decide) rfl (fun ls hl => ?_)
                      refine lv_iinc (v := nI (q + 1)) (lv' := [(4, .int (nI (q + 1))), (2, .int (nI (stC kind longOf letters words (grA (stC kind longOf letters words) (dsD kind longOf letters words) 0 q).1 c))), (3, .int (nI c)), (0, .ref (a 0)), (1, .int (nI kk))]) zx zb dX1_all_102 hl (k := 2) rfl (nI_1 _) (by decide) rfl (fun ls hl => ?_)
                      refine lv_goto (tgt := 59) zx zb dX1_all_105 (by decide) ?_
                      rw [← hgs, ← hgl] at hl
                      exact ih59 (q + 1) (by omega) (by rw [hgs]; exact hst2) (by rw [hgs, show v0 - (q + 1) = v0 - q - 1 by omega]; exact hc86) (by omega) _ _ _ hX (lv_sub hl [0, 2, 1, 3, 4] rfl)
                    · have hcn : dsD kind longOf letters words (stC kind longOf letters words (grA (stC kind longOf letters words) (dsD kind longOf letters words) 0 q).1 c) ≠ some (v0 - q - 1) := fun z => c86 (by rw [z]; rfl)
                      refine lv_iinc (v := nI (c + 1)) (lv' := [(3, .int (nI (c + 1))), (4, .int (nI q)), (2, .int (nI ((grA (stC kind longOf letters words) (dsD kind longOf letters words) 0 q).1))), (0, .ref (a 0)), (1, .int (nI kk))]) zx zb dX1_all_89 hl (k := 0) rfl (nI_1 _) (by decide) rfl (fun ls hl => ?_)
                      refine lv_goto (tgt := 67) zx zb dX1_all_92 (by decide) ?_
                      exact ih67 (c + 1) (by rcases Nat.lt_or_ge c c0 with z | z; exact z; rw [show c = c0 by omega] at hcn; exact absurd hd0 hcn) (lt_s hno (decide_eq_false hcn)) (by omega) _ _ _ hX (lv_sub hl [0, 1, 2, 3, 4] rfl)
                exact L67 _ 0 (by omega) lt_0 (Nat.lt_succ_self _) _ _ _ hX (lv_sub hl [0, 1, 2, 3, 4] rfl)
          exact L59 _ 0 (by omega) (show (0 : Nat) < 640 by decide) hv0 (Nat.lt_succ_self _) _ _ _ hX (lv_sub hl [0, 1, 2, 3, 4] rfl)
        · refine lv_bipush (v := (-9)) zx zb dX1_all_49 (by decide) ?_
          rw [← zQ]
          exact nv_endi zC zr zk (next'_2, heard'_2, looked'_2, far'_2) hX (by (try dsimp only); exact ⟨by unfold F_all; rw [if_pos c7, if_neg (by omega), if_neg c29, if_neg c46], hlk2⟩) (by omega) (by omega) dX1_all_51
      · refine lv_aload_n zx zb dX1_all_32 rfl (lv_at hl 0 rfl) ?_
        refine nv_get zC hX in_X1 0 rfl rfl 20 (by decide) q1212 (fun _ h => h) rfl dX1_all_33 ?_
        refine lv_iconst (v := nI 0) zx zb dX1_all_36 (by decide) ?_
        refine nv_iald (v := oI (far'_2 0)) zC hX 14 rfl (by omega) (by decide) rfl dX1_all_37 ?_
        rw [← zQ]
        exact nv_endi zC zr zk (next'_2, heard'_2, looked'_2, far'_2) hX (by (try dsimp only); exact ⟨by unfold F_all; rw [if_pos c7, if_neg (by omega), if_pos c29]; exact congrArg oI (hD 0 (by decide)), hlk2⟩) (by omega) (by omega) dX1_all_38
    · refine lv_bipush (v := (-3)) zx zb dX1_all_20 (by decide) ?_
      rw [← zQ]
      exact nv_endi zC zr zk (next, heard, looked, far) hX (by (try dsimp only); exact ⟨by unfold F_all; rw [if_pos c7, if_pos c17], hlk⟩) (by omega) (by omega) dX1_all_22
  · refine lv_bipush (v := (-2)) zx zb dX1_all_10 (by decide) ?_
    rw [← zQ]
    exact nv_endi zC zr zk (next, heard, looked, far) hX (by (try dsimp only); exact ⟨by unfold F_all; rw [if_neg (fun z => absurd (z.symm.trans c7) (by decide))], hlk⟩) (by omega) (by omega) dX1_all_12
end
