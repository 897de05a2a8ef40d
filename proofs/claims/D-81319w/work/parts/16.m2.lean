/-! THE MODEL: contracts, printed by tools/model.py -/
set_option maxRecDepth 100000
section
variable {l : Launch} {D : va_G} {dA : Nat → ClassId} {a0 : Nat} {a : Nat → Nat} {ex : va_W} {fault : Int32} {trace : Int32} {sorts : Nat → Option Nat} {shL : Nat → Nat} {cells : Nat → Int32} {words : Nat} {said : Nat} {kind : Nat → Nat} {longOf : Nat → Nat} {letters : Nat → Nat} {saidRow : Nat → Nat} {at_ : Nat} {rdW : Nat} {rKind : Nat → Option Nat} {rLong : Nat → Nat} {rLet : Nat → Nat} {looked : Nat → Nat} {lkL : Nat} {next : Nat → Nat} {heard : Nat → Nat} {far : Nat → Option Nat} {ways : Nat → Nat} {waysT : Nat → Nat} {free : Nat → Nat} {freeT : Nat → Nat} {rdgs : Nat} {rWord : Nat → Nat} {rMany : Nat → Nat} {rStands : Nat → Nat} {rRow : Nat → Nat}
set_option maxHeartbeats 4000000 in
theorem mm_findFar   (hok : mOK words kind longOf letters) (hlk : ∀ j, looked j < 3) : nMt l D dA a0 yX1_findFar cX1_findFar 5 (none) 5 109 0 0 nvG0 [.ref (a 0)] (mW dA a fault trace sorts shL cells words said kind longOf letters saidRow at_ rdW rKind rLong rLet looked lkL next heard far ways waysT free freeT rdgs rWord rMany rStands rRow ex) (nQv D a0 (fun (u : (Nat → Nat) × (Nat → Nat) × (Nat → Nat) × (Nat → Option Nat)) => nxOK u.1 u.2.1 kind longOf letters words ∧ (∀ j, u.2.2.1 j < 3) ∧ ffOK kind longOf letters words u.2.2.2) (fun (u : (Nat → Nat) × (Nat → Nat) × (Nat → Nat) × (Nat → Option Nat)) => mW dA a fault trace sorts shL cells words said kind longOf letters saidRow at_ rdW rKind rLong rLet u.2.2.1 lkL u.1 u.2.1 u.2.2.2 ways waysT free freeT rdgs rWord rMany rStands rRow ex)) := by
  refine nv_start (by decide) (Nat.le_of_ble_eq_true rfl) fun zp ze s zm zlo zme zcd ls zC zr zk znm hX zG hl => ?_
  have zx := zC.1
  have zb := zC.2.1
  generalize zargs : ([.ref (a 0)] : List Value).toArray = zar at zC ⊢
  generalize zQ : MQ zlo _ zar s _ _ _ = Q
  have hX : nvS D a0 (mW dA a fault trace sorts shL cells words said kind longOf letters saidRow at_ rdW rKind rLong rLet looked lkL next heard far ways waysT free freeT rdgs rWord rMany rStands rRow ex) s.heap s.heap [] := hX
  have hl : lv_has ls 5 [(0, .ref (a 0))] := hl
  obtain ⟨H, zH⟩ : ∃ H, H = s.heap := ⟨_, rfl⟩
  have hX : nvS D a0 (mW dA a fault trace sorts shL cells words said kind longOf letters saidRow at_ rdW rKind rLong rLet looked lkL next heard far ways waysT free freeT rdgs rWord rMany rStands rRow ex) s.heap H [] := by rw [zH]; exact hX
  rw [show W zp l ze (rm_ 5 109 0 0) s zm zar zlo zme zcd s.heap [] 0 0 Q = W zp l ze (rm_ 5 109 0 0) s zm zar zlo zme zcd H [] 0 0 Q by rw [zH]]
  generalize ([] : List Loc) = locs at hX ⊢
  have hw4 := hok.1
  have hlt := hok.2.2.2
  refine lv_aload_n zx zb dX1_findFar_0 rfl (lv_at hl 0 rfl) ?_
  refine nv_kv zC hX (nv_rV (n := 0) (As := []) (rest := []) (q0 := 0) zC hX (mm_findNext (hok := (by first | assumption | omega)) (hlk := (by first | assumption | omega))) nvGb0 (fun _ _ _ => trivial) rfl rfl q1396 q1398 qs47 q63 q1399 (by decide +kernel) rfl ⟨Nat.le_of_ble_eq_true rfl, Nat.le_of_ble_eq_true rfl⟩ hl.1 (Nat.le_of_ble_eq_true rfl) dX1_findFar_1 ⟨by first | exact Nat.le_of_ble_eq_true rfl | omega, by first | exact Nat.le_of_ble_eq_true rfl | omega⟩) (fun u H locs hp hX => ?_)
  obtain ⟨next'_1, heard'_1, looked'_1⟩ := u
  have h1 : nxOK next'_1 heard'_1 kind longOf letters words ∧ (∀ j, looked'_1 j < 3) := hp
  have hX : nvS D a0 (mW dA a fault trace sorts shL cells words said kind longOf letters saidRow at_ rdW rKind rLong rLet looked'_1 lkL next'_1 heard'_1 far ways waysT free freeT rdgs rWord rMany rStands rRow ex) s.heap H locs := hX
  refine W.cs (cells' := 0) (slots' := 0) (Nat.add_zero _) (Nat.add_zero _) ?_
  obtain ⟨hnx, hlk2⟩ := h1
  have hstl : ∀ k c, k < 640 → c < 3 → stC kind longOf letters words k c < 640 := fun k c _ hc => stC_lt hw4 hc
  refine lv_iconst (v := nI 0) zx zb dX1_findFar_4 (by decide) ?_
  refine lv_istore_n (lv' := [(1, .int (nI 0)), (0, .ref (a 0))]) zx zb dX1_findFar_5 rfl hl (by decide) rfl (fun ls hl => ?_)
  have L6 : ∀ (zn : Nat) (fr : Nat → Option Nat) (k : Nat) (hk : k ≤ 640) (h1 : ∀ j, j < k → fr j = dsU (stC kind longOf letters words) (ffG words) (0) j), 640 - k < zn → ∀ (H : Heap) (locs : List Loc) (ls : Array Slot), nvS D a0 (mW dA a fault trace sorts shL cells words said kind longOf letters saidRow at_ rdW rKind rLong rLet looked'_1 lkL next'_1 heard'_1 fr ways waysT free freeT rdgs rWord rMany rStands rRow ex) s.heap H locs → lv_has ls 5 [(1, .int (nI k)), (0, .ref (a 0))] → W zp l ze (rm_ 5 109 0 0) s zm zar zlo zme zcd H locs 0 0 Q (F0 zm 6 ls []) := by
    intro zn
    induction zn with
    | zero => intro fr k hk h1 zf; exact absurd zf (Nat.not_lt_zero _)
    | succ zn ih6 =>
      intro fr k hk h1 zf H locs ls hX hl
      refine lv_iload_n zx zb dX1_findFar_6 rfl (lv_at hl 0 rfl) ?_
      refine lv_sipush (v := nI 640) zx zb dX1_findFar_7 (by decide) ?_
      refine nv_icmp_ge (tgt := 42) zx zb (by omega) (by omega) dX1_findFar_10 (by decide) (fun c10 => ?_) (fun c10 => ?_)
      · refine lv_iconst (v := nI 1) zx zb dX1_findFar_42 (by decide) ?_
        refine nv_as (show nI 1 = nB true from (nB_as1 rfl)) ?_
        refine lv_istore_n (lv' := [(1, .int (nB true)), (0, .ref (a 0))]) zx zb dX1_findFar_43 rfl hl (by decide) rfl (fun ls hl => ?_)
        refine lv_iconst (v := nI 1) zx zb dX1_findFar_44 (by decide) ?_
        refine lv_istore_n (lv' := [(2, .int (nI 1)), (1, .int (nB true)), (0, .ref (a 0))]) zx zb dX1_findFar_45 rfl hl (by decide) rfl (fun ls hl => ?_)
        have L46 : ∀ (zn : Nat) (fr : Nat → Option Nat) (d : Nat) (mo : Bool) (h1 : ∀ k, k < 640 → fr k = dsU (stC kind longOf letters words) (ffG words) (d) k) (h2 : mo = false → ∃ d0, d = d0 + 1 ∧ ffS (stC kind longOf letters words) (ffG words) d0 640) (h3 : nonesN fr 640 + d + mo.toNat ≤ 641), nonesN fr 640 + mo.toNat < zn → ∀ (H : Heap) (locs : List Loc) (ls : Array Slot), nvS D a0 (mW dA a fault trace sorts shL cells words said kind longOf letters saidRow at_ rdW rKind rLong rLet looked'_1 lkL next'_1 heard'_1 fr ways waysT free freeT rdgs rWord rMany rStands rRow ex) s.heap H locs → lv_has ls 5 [(2, .int (nI (d + 1))), (1, .int (nB mo)), (0, .ref (a 0))] → W zp l ze (rm_ 5 109 0 0) s zm zar zlo zme zcd H locs 0 0 Q (F0 zm 46 ls []) := by
          intro zn
          induction zn with
          | zero => intro fr d mo h1 h2 h3 zf; exact absurd zf (Nat.not_lt_zero _)
          | succ zn ih46 =>
            intro fr d mo h1 h2 h3 zf H locs ls hX hl
            refine lv_iload_n zx zb dX1_findFar_46 rfl (lv_at hl 1 rfl) ?_
            refine nv_if_eqB (tgt := 126) zx zb dX1_findFar_47 (by decide) (fun c47 => ?_) (fun c47 => ?_)
            · rw [← zQ]
              exact nv_endv zC zr zk (next'_1, heard'_1, looked'_1, fr) hX (by (try dsimp only); obtain ⟨d0, e0, hs0⟩ := h2 c47; exact ⟨hnx, hlk2, d, h1, fun n k q1 q2 => by rw [dsU_stable hstl hs0 n k (by omega) q2, dsU_stable hstl hs0 d k (by omega) q2], by omega⟩) (by omega) (by omega) dX1_findFar_126
            · refine lv_iconst (v := nI 0) zx zb dX1_findFar_50 (by decide) ?_
              refine nv_as (show nI 0 = nB false from (nB_as0 rfl)) ?_
              refine lv_istore_n (lv' := [(1, .int (nB false)), (2, .int (nI (d + 1))), (0, .ref (a 0))]) zx zb dX1_findFar_51 rfl hl (by decide) rfl (fun ls hl => ?_)
              refine lv_iconst (v := nI 0) zx zb dX1_findFar_52 (by decide) ?_
              refine lv_istore_n (lv' := [(3, .int (nI 0)), (1, .int (nB false)), (2, .int (nI (d + 1))), (0, .ref (a 0))]) zx zb dX1_findFar_53 rfl hl (by decide) rfl (fun ls hl => ?_)
              have L54 : ∀ (zn : Nat) (fr2 : Nat → Option Nat) (k : Nat) (m2 : Bool) (hk : k ≤ 640) (hm : ffM (stC kind longOf letters words) (ffG words) d k 0 fr2) (hs : m2 = false → ffS (stC kind longOf letters words) (ffG words) d k) (hc2 : nonesN fr2 640 + m2.toNat ≤ nonesN fr 640), 640 - k < zn → ∀ (H : Heap) (locs : List Loc) (ls : Array Slot), nvS D a0 (mW dA a fault trace sorts shL cells words said kind longOf letters saidRow at_ rdW rKind rLong rLet looked'_1 lkL next'_1 heard'_1 fr2 ways waysT free freeT rdgs rWord rMany rStands rRow ex) s.heap H locs → lv_has ls 5 [(3, .int (nI k)), (1, .int (nB m2)), (2, .int (nI (d + 1))), (0, .ref (a 0))] → W zp l ze (rm_ 5 109 0 0) s zm zar zlo zme zcd H locs 0 0 Q (F0 zm 54 ls []) := by
                intro zn
                induction zn with
                | zero => intro fr2 k m2 hk hm hs hc2 zf; exact absurd zf (Nat.not_lt_zero _)
                | succ zn ih54 =>
                  intro fr2 k m2 hk hm hs hc2 zf H locs ls hX hl
                  refine lv_iload_n zx zb dX1_findFar_54 rfl (lv_at hl 0 rfl) ?_
                  refine lv_sipush (v := nI 640) zx zb dX1_findFar_55 (by decide) ?_
                  refine nv_icmp_ge (tgt := 120) zx zb (by omega) (by omega) dX1_findFar_58 (by decide) (fun c58 => ?_) (fun c58 => ?_)
                  · refine lv_iinc (v := nI (d + 1 + 1)) (lv' := [(2, .int (nI (d + 1 + 1))), (3, .int (nI k)), (1, .int (nB m2)), (0, .ref (a 0))]) zx zb dX1_findFar_120 hl (k := 2) rfl (nI_1 _) (by decide) rfl (fun ls hl => ?_)
                    refine lv_goto (tgt := 46) zx zb dX1_findFar_123 (by decide) ?_
                    have hz : mo.toNat = 1 := by rw [c47]; rfl
                    exact ih46 fr2 (d + 1) m2 (ffM_end hm c58) (fun z => ⟨d, rfl, fun j hj => hs z j (by omega)⟩) (by omega) (by omega) _ _ _ hX (lv_sub hl [0, 2, 3] rfl)
                  · refine lv_iconst (v := nI 0) zx zb dX1_findFar_61 (by decide) ?_
                    refine lv_istore (lv' := [(4, .int (nI 0)), (3, .int (nI k)), (1, .int (nB m2)), (2, .int (nI (d + 1))), (0, .ref (a 0))]) zx zb dX1_findFar_62 hl (by decide) rfl (fun ls hl => ?_)
                    have L64 : ∀ (zn : Nat) (fr3 : Nat → Option Nat) (c : Nat) (m3 : Bool) (hc : c ≤ 3) (hm3 : ffM (stC kind longOf letters words) (ffG words) d k c fr3) (hs3 : m3 = false → ffS (stC kind longOf letters words) (ffG words) d k ∧ fr3 k = dsU (stC kind longOf letters words) (ffG words) (d) k) (hc3 : nonesN fr3 640 + m3.toNat ≤ nonesN fr 640), 3 - c < zn → ∀ (H : Heap) (locs : List Loc) (ls : Array Slot), nvS D a0 (mW dA a fault trace sorts shL cells words said kind longOf letters saidRow at_ rdW rKind rLong rLet looked'_1 lkL next'_1 heard'_1 fr3 ways waysT free freeT rdgs rWord rMany rStands rRow ex) s.heap H locs → lv_has ls 5 [(4, .int (nI c)), (3, .int (nI k)), (1, .int (nB m3)), (2, .int (nI (d + 1))), (0, .ref (a 0))] → W zp l ze (rm_ 5 109 0 0) s zm zar zlo zme zcd H locs 0 0 Q (F0 zm 64 ls []) := by
                      intro zn
                      induction zn with
                      | zero => intro fr3 c m3 hc hm3 hs3 hc3 zf; exact absurd zf (Nat.not_lt_zero _)
                      | succ zn ih64 =>
                        intro fr3 c m3 hc hm3 hs3 hc3 zf H locs ls hX hl
                        refine lv_iload zx zb dX1_findFar_64 (lv_at hl 0 rfl) ?_
                        refine lv_iconst (v := nI 3) zx zb dX1_findFar_66 (by decide) ?_
                        refine nv_icmp_ge (tgt := 114) zx zb (by omega) (by omega) dX1_findFar_67 (by decide) (fun c67 => ?_) (fun c67 => ?_)
                        · refine lv_iinc (v := nI (k + 1)) (lv' := [(3, .int (nI (k + 1))), (4, .int (nI c)), (1, .int (nB m3)), (2, .int (nI (d + 1))), (0, .ref (a 0))]) zx zb dX1_findFar_114 hl (k := 1) rfl (nI_1 _) (by decide) rfl (fun ls hl => ?_)
                          refine lv_goto (tgt := 54) zx zb dX1_findFar_117 (by decide) ?_
                          have hz : c = 3 ∨ (c ≤ 3 ∧ fr3 k ≠ none) := Or.inl (by omega)
                          exact ih54 fr3 (k + 1) m3 (by omega) (ffM_next hm3 c58 hz) (fun z => ffS_next (hs3 z).1 hm3 c58 hz (hs3 z).2) hc3 (by omega) _ _ _ hX (lv_sub hl [0, 2, 3, 4] rfl)
                        · refine lv_aload_n zx zb dX1_findFar_70 rfl (lv_at hl 4 rfl) ?_
                          refine nv_get zC hX in_X1 0 rfl rfl 20 (by decide) q1212 (fun _ h => h) rfl dX1_findFar_71 ?_
                          refine lv_iload_n zx zb dX1_findFar_74 rfl (lv_at hl 1 rfl) ?_
                          refine nv_iald (v := oI (fr3 k)) zC hX 14 rfl (by omega) (by decide) rfl dX1_findFar_75 ?_
                          refine lv_bipush (v := (-9)) zx zb dX1_findFar_76 (by decide) ?_
                          refine lv_icmp_ne (x := oI (fr3 k)) (y := (-9)) (tgt := 114) zx zb dX1_findFar_78 (by decide) (fun c78 => ?_) (fun c78 => ?_)
                          · refine lv_iinc (v := nI (k + 1)) (lv' := [(3, .int (nI (k + 1))), (4, .int (nI c)), (1, .int (nB m3)), (2, .int (nI (d + 1))), (0, .ref (a 0))]) zx zb dX1_findFar_114 hl (k := 1) rfl (nI_1 _) (by decide) rfl (fun ls hl => ?_)
                            refine lv_goto (tgt := 54) zx zb dX1_findFar_117 (by decide) ?_
                            have hz : c = 3 ∨ (c ≤ 3 ∧ fr3 k ≠ none) := Or.inr ⟨hc, fun z => c78 (by rw [z]; rfl)⟩
                            exact ih54 fr3 (k + 1) m3 (by omega) (ffM_next hm3 c58 hz) (fun z => ffS_next (hs3 z).1 hm3 c58 hz (hs3 z).2) hc3 (by omega) _ _ _ hX (lv_sub hl [0, 2, 3, 4] rfl)
                          · have hn : fr3 k = none := (oI_n (fun v => ffM_b hm3 (by omega) c58)).mp c78
                            refine lv_aload_n zx zb dX1_findFar_81 rfl (lv_at hl 4 rfl) ?_
                            refine nv_get zC hX in_X1 0 rfl rfl 20 (by decide) q1212 (fun _ h => h) rfl dX1_findFar_82 ?_
                            refine lv_aload_n zx zb dX1_findFar_85 rfl (lv_at hl 4 rfl) ?_
                            refine lv_iload_n zx zb dX1_findFar_86 rfl (lv_at hl 1 rfl) ?_
                            refine lv_iload zx zb dX1_findFar_87 (lv_at hl 0 rfl) ?_
                            refine nv_ki zC hX (nv_rV (n := 2) (As := [.int (nI k), .int (nI c)]) (rest := [.ref (a 14)]) (q0 := 0) zC hX (mm_behindLetter (k := k) (c := c) (hk := (by first | assumption | omega)) (hc := (by first | assumption | omega))) nvGb0 (fun _ _ _ => trivial) rfl rfl q1408 q1410 qs50 q63 q1411 (by decide +kernel) rfl ⟨Nat.le_of_ble_eq_true rfl, Nat.le_of_ble_eq_true rfl⟩ hl.1 (Nat.le_of_ble_eq_true rfl) dX1_findFar_89 ⟨by first | exact Nat.le_of_ble_eq_true rfl | omega, by first | exact Nat.le_of_ble_eq_true rfl | omega⟩) (fun r u H locs hp hX => ?_)
                            have hr_ : r = nI (stM next'_1 heard'_1 k c) := hp
                            subst hr_
                            have hX : nvS D a0 (mW dA a fault trace sorts shL cells words said kind longOf letters saidRow at_ rdW rKind rLong rLet looked'_1 lkL next'_1 heard'_1 fr3 ways waysT free freeT rdgs rWord rMany rStands rRow ex) s.heap H locs := hX
                            refine W.cs (cells' := 0) (slots' := 0) (Nat.add_zero _) (Nat.add_zero _) ?_
                            have hst := stM_C hnx c58 c67
                            rw [hst]
                            have hst2 := hstl k c c58 c67
                            refine nv_iald (v := oI (fr3 (stC kind longOf letters words k c))) zC hX 14 rfl (by omega) (by decide) rfl dX1_findFar_92 ?_
                            refine lv_iload_n zx zb dX1_findFar_93 rfl (lv_at hl 3 rfl) ?_
                            refine lv_iconst (v := nI 1) zx zb dX1_findFar_94 (by decide) ?_
                            refine nv_isub zx zb (by omega) dX1_findFar_95 ?_
                            refine nv_as (show nI ((d + 1) - 1) = nI d from (congrArg nI (by omega))) ?_
                            refine lv_icmp_ne (x := oI (fr3 (stC kind longOf letters words k c))) (y := nI d) (tgt := 108) zx zb dX1_findFar_96 (by decide) (fun c96 => ?_) (fun c96 => ?_)
                            · refine lv_iinc (v := nI (c + 1)) (lv' := [(4, .int (nI (c + 1))), (3, .int (nI k)), (1, .int (nB m3)), (2, .int (nI (d + 1))), (0, .ref (a 0))]) zx zb dX1_findFar_108 hl (k := 0) rfl (nI_1 _) (by decide) rfl (fun ls hl => ?_)
                              refine lv_goto (tgt := 64) zx zb dX1_findFar_111 (by decide) ?_
                              exact ih64 fr3 (c + 1) m3 (by omega) (ffM_keep hm3 c58 hn (fun z => c96 ((oI_s (fun v => ffM_b hm3 (by omega) hst2) (by omega)).mpr ((ffM_read hm3 c58 hn hst2).mpr z)))) hs3 hc3 (by omega) _ _ _ hX (lv_sub hl [0, 1, 2, 3, 4] rfl)
                            · refine lv_aload_n zx zb dX1_findFar_99 rfl (lv_at hl 4 rfl) ?_
                              refine nv_get zC hX in_X1 0 rfl rfl 20 (by decide) q1212 (fun _ h => h) rfl dX1_findFar_100 ?_
                              refine lv_iload_n zx zb dX1_findFar_103 rfl (lv_at hl 1 rfl) ?_
                              refine lv_iload_n zx zb dX1_findFar_104 rfl (lv_at hl 3 rfl) ?_
                              refine nv_iast zC hX 14 rfl (by omega) (by decide) (oF_ups _ _ _) (w' := mW dA a fault trace sorts shL cells words said kind longOf letters saidRow at_ rdW rKind rLong rLet looked'_1 lkL next'_1 heard'_1 (va_up fr3 k (some (d + 1))) ways waysT free freeT rdgs rWord rMany rStands rRow ex) rfl dX1_findFar_105 (fun H locs hX => ?_)
                              refine lv_iconst (v := nI 1) zx zb dX1_findFar_106 (by decide) ?_
                              refine nv_as (show nI 1 = nB true from (nB_as1 rfl)) ?_
                              refine lv_istore_n (lv' := [(1, .int (nB true)), (4, .int (nI c)), (3, .int (nI k)), (2, .int (nI (d + 1))), (0, .ref (a 0))]) zx zb dX1_findFar_107 rfl hl (by decide) rfl (fun ls hl => ?_)
                              refine lv_iinc (v := nI (c + 1)) (lv' := [(4, .int (nI (c + 1))), (1, .int (nB true)), (3, .int (nI k)), (2, .int (nI (d + 1))), (0, .ref (a 0))]) zx zb dX1_findFar_108 hl (k := 1) rfl (nI_1 _) (by decide) rfl (fun ls hl => ?_)
                              refine lv_goto (tgt := 64) zx zb dX1_findFar_111 (by decide) ?_
                              exact ih64 (va_up fr3 k (some (d + 1))) (c + 1) true (by omega) (ffM_put hm3 c58 hn ((ffM_read hm3 c58 hn hst2).mp ((oI_s (fun v => ffM_b hm3 (by omega) hst2) (by omega)).mp c96))) (fun z => by cases z) (by have z := nones_up (v := d + 1) c58 hn; show _ + 1 ≤ _; omega) (by omega) _ _ _ hX (lv_sub hl [0, 2, 1, 3, 4] rfl)
                    exact L64 _ fr2 0 m2 (by omega) hm (fun z => ⟨hs z, hm.2 c58⟩) hc2 (Nat.lt_succ_self _) _ _ _ hX (lv_sub hl [0, 1, 2, 3, 4] rfl)
              exact L54 _ fr 0 false (by omega) (ffM_start h1) (fun _ => lt_0) (Nat.le_refl _) (Nat.lt_succ_self _) _ _ _ hX (lv_sub hl [0, 1, 2, 3] rfl)
        exact L46 _ fr 0 true (fun j hj => h1 j (by omega)) (fun z => by cases z) (by have z := cntUp_le (fun k => (fr k).isNone) 640; show _ + 0 + 1 ≤ 641; exact Nat.succ_le_succ z) (Nat.lt_succ_self _) _ _ _ hX (lv_sub hl [0, 1, 2] rfl)
      · refine lv_aload_n zx zb dX1_findFar_13 rfl (lv_at hl 1 rfl) ?_
        refine nv_get zC hX in_X1 0 rfl rfl 20 (by decide) q1212 (fun _ h => h) rfl dX1_findFar_14 ?_
        refine lv_iload_n zx zb dX1_findFar_17 rfl (lv_at hl 0 rfl) ?_
        refine lv_iload_n zx zb dX1_findFar_18 rfl (lv_at hl 0 rfl) ?_
        refine lv_bipush (v := nI 16) zx zb dX1_findFar_19 (by decide) ?_
        refine nv_irem zx zb (by omega) (by omega) (by omega) dX1_findFar_21 ?_
        refine lv_aload_n zx zb dX1_findFar_22 rfl (lv_at hl 1 rfl) ?_
        refine nv_ki zC hX (nv_rV (n := 0) (As := []) (rest := [.int (nI (k % 16)), .int (nI k), .ref (a 14)]) (q0 := 0) zC hX (mm_allWords (hw4 := (by first | assumption | omega))) nvGb0 (fun _ _ _ => trivial) rfl rfl q1404 q1406 qs49 q63 q1407 (by decide +kernel) rfl ⟨Nat.le_of_ble_eq_true rfl, Nat.le_of_ble_eq_true rfl⟩ hl.1 (Nat.le_of_ble_eq_true rfl) dX1_findFar_23 ⟨by first | exact Nat.le_of_ble_eq_true rfl | omega, by first | exact Nat.le_of_ble_eq_true rfl | omega⟩) (fun r u H locs hp hX => ?_)
        have hr_ : r = nI (2 ^ words - 1) := hp
        subst hr_
        have hX : nvS D a0 (mW dA a fault trace sorts shL cells words said kind longOf letters saidRow at_ rdW rKind rLong rLet looked'_1 lkL next'_1 heard'_1 fr ways waysT free freeT rdgs rWord rMany rStands rRow ex) s.heap H locs := hX
        refine W.cs (cells' := 0) (slots' := 0) (Nat.add_zero _) (Nat.add_zero _) ?_
        refine nv_icmp_ne (tgt := 33) zx zb (by omega) (Nat.lt_of_le_of_lt (Nat.sub_le _ _) (Nat.lt_of_le_of_lt (pw4 hw4) (by decide))) dX1_findFar_26 (by decide) (fun c26 => ?_) (fun c26 => ?_)
        · refine lv_bipush (v := (-9)) zx zb dX1_findFar_33 (by decide) ?_
          refine nv_iast zC hX 14 rfl (by omega) (by decide) (oF_upn _ _) (w' := mW dA a fault trace sorts shL cells words said kind longOf letters saidRow at_ rdW rKind rLong rLet looked'_1 lkL next'_1 heard'_1 (va_up fr k none) ways waysT free freeT rdgs rWord rMany rStands rRow ex) rfl dX1_findFar_35 (fun H locs hX => ?_)
          refine lv_iinc (v := nI (k + 1)) (lv' := [(1, .int (nI (k + 1))), (0, .ref (a 0))]) zx zb dX1_findFar_36 hl (k := 0) rfl (nI_1 _) (by decide) rfl (fun ls hl => ?_)
          refine lv_goto (tgt := 6) zx zb dX1_findFar_39 (by decide) ?_
          exact ih6 (va_up fr k none) (k + 1) (by omega) (up_preG h1 (by simp [dsU, c26])) (by omega) _ _ _ hX (lv_sub hl [0, 1] rfl)
        · refine lv_iconst (v := nI 0) zx zb dX1_findFar_29 (by decide) ?_
          refine lv_goto (tgt := 35) zx zb dX1_findFar_30 (by decide) ?_
          refine nv_iast zC hX 14 rfl (by omega) (by decide) (oF_ups _ _ _) (w' := mW dA a fault trace sorts shL cells words said kind longOf letters saidRow at_ rdW rKind rLong rLet looked'_1 lkL next'_1 heard'_1 (va_up fr k (some 0)) ways waysT free freeT rdgs rWord rMany rStands rRow ex) rfl dX1_findFar_35 (fun H locs hX => ?_)
          refine lv_iinc (v := nI (k + 1)) (lv' := [(1, .int (nI (k + 1))), (0, .ref (a 0))]) zx zb dX1_findFar_36 hl (k := 0) rfl (nI_1 _) (by decide) rfl (fun ls hl => ?_)
          refine lv_goto (tgt := 6) zx zb dX1_findFar_39 (by decide) ?_
          exact ih6 (va_up fr k (some 0)) (k + 1) (by omega) (up_preG h1 (by simp [dsU, c26])) (by omega) _ _ _ hX (lv_sub hl [0, 1] rfl)
  exact L6 _ far 0 (by omega) lt_0 (Nat.lt_succ_self _) _ _ _ hX (lv_sub hl [0, 1] rfl)

set_option maxHeartbeats 4000000 in
theorem mm_findWays  (n : Nat) (hok : mOK words kind longOf letters) (hlk : ∀ j, looked j < 3) (hn : n ≤ 30) : nMt l D dA a0 yX1_findWays cX1_findWays 5 (none) 5 109 0 0 nvG0 [.ref (a 0), .int (nI n)] (mW dA a fault trace sorts shL cells words said kind longOf letters saidRow at_ rdW rKind rLong rLet looked lkL next heard far ways waysT free freeT rdgs rWord rMany rStands rRow ex) (nQv D a0 (fun (u : (Nat → Nat) × (Nat → Nat) × (Nat → Nat) × (Nat → Nat) × (Nat → Nat)) => nxOK u.1 u.2.1 kind longOf letters words ∧ (∀ j, u.2.2.1 j < 3) ∧ wyOK kind longOf letters words n u.2.2.2.1) (fun (u : (Nat → Nat) × (Nat → Nat) × (Nat → Nat) × (Nat → Nat) × (Nat → Nat)) => mW dA a fault trace sorts shL cells words said kind longOf letters saidRow at_ rdW rKind rLong rLet u.2.2.1 lkL u.1 u.2.1 far u.2.2.2.1 u.2.2.2.2 free freeT rdgs rWord rMany rStands rRow ex)) := by
  refine nv_start (by decide) (Nat.le_of_ble_eq_true rfl) fun zp ze s zm zlo zme zcd ls zC zr zk znm hX zG hl => ?_
  have zx := zC.1
  have zb := zC.2.1
  generalize zargs : ([.ref (a 0), .int (nI n)] : List Value).toArray = zar at zC ⊢
  generalize zQ : MQ zlo _ zar s _ _ _ = Q
  have hX : nvS D a0 (mW dA a fault trace sorts shL cells words said kind longOf letters saidRow at_ rdW rKind rLong rLet looked lkL next heard far ways waysT free freeT rdgs rWord rMany rStands rRow ex) s.heap s.heap [] := hX
  have hl : lv_has ls 5 [(0, .ref (a 0)), (1, .int (nI n))] := hl
  obtain ⟨H, zH⟩ : ∃ H, H = s.heap := ⟨_, rfl⟩
  have hX : nvS D a0 (mW dA a fault trace sorts shL cells words said kind longOf letters saidRow at_ rdW rKind rLong rLet looked lkL next heard far ways waysT free freeT rdgs rWord rMany rStands rRow ex) s.heap H [] := by rw [zH]; exact hX
  rw [show W zp l ze (rm_ 5 109 0 0) s zm zar zlo zme zcd s.heap [] 0 0 Q = W zp l ze (rm_ 5 109 0 0) s zm zar zlo zme zcd H [] 0 0 Q by rw [zH]]
  generalize ([] : List Loc) = locs at hX ⊢
  have hw4 := hok.1
  have hlt := hok.2.2.2
  refine lv_aload_n zx zb dX1_findWays_0 rfl (lv_at hl 0 rfl) ?_
  refine nv_kv zC hX (nv_rV (n := 0) (As := []) (rest := []) (q0 := 0) zC hX (mm_findNext (hok := (by first | assumption | omega)) (hlk := (by first | assumption | omega))) nvGb0 (fun _ _ _ => trivial) rfl rfl q1396 q1398 qs47 q63 q1399 (by decide +kernel) rfl ⟨Nat.le_of_ble_eq_true rfl, Nat.le_of_ble_eq_true rfl⟩ hl.1 (Nat.le_of_ble_eq_true rfl) dX1_findWays_1 ⟨by first | exact Nat.le_of_ble_eq_true rfl | omega, by first | exact Nat.le_of_ble_eq_true rfl | omega⟩) (fun u H locs hp hX => ?_)
  obtain ⟨next'_1, heard'_1, looked'_1⟩ := u
  have h1 : nxOK next'_1 heard'_1 kind longOf letters words ∧ (∀ j, looked'_1 j < 3) := hp
  have hX : nvS D a0 (mW dA a fault trace sorts shL cells words said kind longOf letters saidRow at_ rdW rKind rLong rLet looked'_1 lkL next'_1 heard'_1 far ways waysT free freeT rdgs rWord rMany rStands rRow ex) s.heap H locs := hX
  refine W.cs (cells' := 0) (slots' := 0) (Nat.add_zero _) (Nat.add_zero _) ?_
  obtain ⟨hnx, hlk2⟩ := h1
  have hstl : ∀ k c, k < 640 → c < 3 → stC kind longOf letters words k c < 640 := fun k c _ hc => stC_lt hw4 hc
  refine lv_iconst (v := nI 0) zx zb dX1_findWays_4 (by decide) ?_
  refine lv_istore_n (lv' := [(2, .int (nI 0)), (0, .ref (a 0)), (1, .int (nI n))]) zx zb dX1_findWays_5 rfl hl (by decide) rfl (fun ls hl => ?_)
  have L6 : ∀ (zn : Nat) (wy : Nat → Nat) (k : Nat) (hk : k ≤ 640) (h1 : ∀ j, j < k → wy j = wyN (stC kind longOf letters words) 0 640 0 j), 640 - k < zn → ∀ (H : Heap) (locs : List Loc) (ls : Array Slot), nvS D a0 (mW dA a fault trace sorts shL cells words said kind longOf letters saidRow at_ rdW rKind rLong rLet looked'_1 lkL next'_1 heard'_1 far wy waysT free freeT rdgs rWord rMany rStands rRow ex) s.heap H locs → lv_has ls 5 [(2, .int (nI k)), (0, .ref (a 0)), (1, .int (nI n))] → W zp l ze (rm_ 5 109 0 0) s zm zar zlo zme zcd H locs 0 0 Q (F0 zm 6 ls []) := by
    intro zn
    induction zn with
    | zero => intro wy k hk h1 zf; exact absurd zf (Nat.not_lt_zero _)
    | succ zn ih6 =>
      intro wy k hk h1 zf H locs ls hX hl
      refine lv_iload_n zx zb dX1_findWays_6 rfl (lv_at hl 0 rfl) ?_
      refine lv_sipush (v := nI 640) zx zb dX1_findWays_7 (by decide) ?_
      refine nv_icmp_ge (tgt := 34) zx zb (by omega) (by omega) dX1_findWays_10 (by decide) (fun c10 => ?_) (fun c10 => ?_)
      · refine lv_iconst (v := nI 0) zx zb dX1_findWays_34 (by decide) ?_
        refine lv_istore_n (lv' := [(2, .int (nI 0)), (0, .ref (a 0)), (1, .int (nI n))]) zx zb dX1_findWays_35 rfl hl (by decide) rfl (fun ls hl => ?_)
        have L36 : ∀ (zn : Nat) (wy wt : Nat → Nat) (t : Nat) (ht : t ≤ n) (h1 : ∀ j, j < 640 → wy j = wyN (stC kind longOf letters words) 0 640 t j), n - t < zn → ∀ (H : Heap) (locs : List Loc) (ls : Array Slot), nvS D a0 (mW dA a fault trace sorts shL cells words said kind longOf letters saidRow at_ rdW rKind rLong rLet looked'_1 lkL next'_1 heard'_1 far wy wt free freeT rdgs rWord rMany rStands rRow ex) s.heap H locs → lv_has ls 5 [(2, .int (nI t)), (0, .ref (a 0)), (1, .int (nI n))] → W zp l ze (rm_ 5 109 0 0) s zm zar zlo zme zcd H locs 0 0 Q (F0 zm 36 ls []) := by
          intro zn
          induction zn with
          | zero => intro wy wt t ht h1 zf; exact absurd zf (Nat.not_lt_zero _)
          | succ zn ih36 =>
            intro wy wt t ht h1 zf H locs ls hX hl
            refine lv_iload_n zx zb dX1_findWays_36 rfl (lv_at hl 0 rfl) ?_
            refine lv_iload_n zx zb dX1_findWays_37 rfl (lv_at hl 2 rfl) ?_
            refine nv_icmp_ge (tgt := 158) zx zb (by omega) (by omega) dX1_findWays_38 (by decide) (fun c38 => ?_) (fun c38 => ?_)
            · rw [← zQ]
              exact nv_endv zC zr zk (next'_1, heard'_1, looked'_1, wy, wt) hX (by (try dsimp only); exact ⟨hnx, hlk2, by rw [show n = t by omega]; exact h1⟩) (by omega) (by omega) dX1_findWays_158
            · refine lv_iconst (v := nI 0) zx zb dX1_findWays_41 (by decide) ?_
              refine lv_istore_n (lv' := [(3, .int (nI 0)), (2, .int (nI t)), (0, .ref (a 0)), (1, .int (nI n))]) zx zb dX1_findWays_42 rfl hl (by decide) rfl (fun ls hl => ?_)
              have L43 : ∀ (zn : Nat) (wt : Nat → Nat) (k : Nat) (hk : k ≤ 640) (h3 : ∀ j, j < k → wt j = 0), 640 - k < zn → ∀ (H : Heap) (locs : List Loc) (ls : Array Slot), nvS D a0 (mW dA a fault trace sorts shL cells words said kind longOf letters saidRow at_ rdW rKind rLong rLet looked'_1 lkL next'_1 heard'_1 far wy wt free freeT rdgs rWord rMany rStands rRow ex) s.heap H locs → lv_has ls 5 [(3, .int (nI k)), (2, .int (nI t)), (0, .ref (a 0)), (1, .int (nI n))] → W zp l ze (rm_ 5 109 0 0) s zm zar zlo zme zcd H locs 0 0 Q (F0 zm 43 ls []) := by
                intro zn
                induction zn with
                | zero => intro wt k hk h3 zf; exact absurd zf (Nat.not_lt_zero _)
                | succ zn ih43 =>
                  intro wt k hk h3 zf H locs ls hX hl
                  refine lv_iload_n zx zb dX1_findWays_43 rfl (lv_at hl 0 rfl) ?_
                  refine lv_sipush (v := nI 640) zx zb dX1_findWays_44 (by decide) ?_
                  refine nv_icmp_ge (tgt := 63) zx zb (by omega) (by omega) dX1_findWays_47 (by decide) (fun c47 => ?_) (fun c47 => ?_)
                  · refine lv_iconst (v := nI 0) zx zb dX1_findWays_63 (by decide) ?_
                    refine lv_istore_n (lv' := [(3, .int (nI 0)), (2, .int (nI t)), (0, .ref (a 0)), (1, .int (nI n))]) zx zb dX1_findWays_64 rfl hl (by decide) rfl (fun ls hl => ?_)
                    have L65 : ∀ (zn : Nat) (wt : Nat → Nat) (k : Nat) (hk : k ≤ 640) (h4 : ∀ j, j < 640 → wt j = adK wy (stC kind longOf letters words) j k), 640 - k < zn → ∀ (H : Heap) (locs : List Loc) (ls : Array Slot), nvS D a0 (mW dA a fault trace sorts shL cells words said kind longOf letters saidRow at_ rdW rKind rLong rLet looked'_1 lkL next'_1 heard'_1 far wy wt free freeT rdgs rWord rMany rStands rRow ex) s.heap H locs → lv_has ls 5 [(3, .int (nI k)), (2, .int (nI t)), (0, .ref (a 0)), (1, .int (nI n))] → W zp l ze (rm_ 5 109 0 0) s zm zar zlo zme zcd H locs 0 0 Q (F0 zm 65 ls []) := by
                      intro zn
                      induction zn with
                      | zero => intro wt k hk h4 zf; exact absurd zf (Nat.not_lt_zero _)
                      | succ zn ih65 =>
                        intro wt k hk h4 zf H locs ls hX hl
                        refine lv_iload_n zx zb dX1_findWays_65 rfl (lv_at hl 0 rfl) ?_
                        refine lv_sipush (v := nI 640) zx zb dX1_findWays_66 (by decide) ?_
                        refine nv_icmp_ge (tgt := 125) zx zb (by omega) (by omega) dX1_findWays_69 (by decide) (fun c69 => ?_) (fun c69 => ?_)
                        · refine lv_iconst (v := nI 0) zx zb dX1_findWays_125 (by decide) ?_
                          refine lv_istore_n (lv' := [(3, .int (nI 0)), (2, .int (nI t)), (0, .ref (a 0)), (1, .int (nI n))]) zx zb dX1_findWays_126 rfl hl (by decide) rfl (fun ls hl => ?_)
                          have L127 : ∀ (zn : Nat) (wy2 : Nat → Nat) (k2 : Nat) (hk2 : k2 ≤ 640) (h6 : ∀ j, j < k2 → wy2 j = wt j), 640 - k2 < zn → ∀ (H : Heap) (locs : List Loc) (ls : Array Slot), nvS D a0 (mW dA a fault trace sorts shL cells words said kind longOf letters saidRow at_ rdW rKind rLong rLet looked'_1 lkL next'_1 heard'_1 far wy2 wt free freeT rdgs rWord rMany rStands rRow ex) s.heap H locs → lv_has ls 5 [(3, .int (nI k2)), (2, .int (nI t)), (0, .ref (a 0)), (1, .int (nI n))] → W zp l ze (rm_ 5 109 0 0) s zm zar zlo zme zcd H locs 0 0 Q (F0 zm 127 ls []) := by
                            intro zn
                            induction zn with
                            | zero => intro wy2 k2 hk2 h6 zf; exact absurd zf (Nat.not_lt_zero _)
                            | succ zn ih127 =>
                              intro wy2 k2 hk2 h6 zf H locs ls hX hl
                              refine lv_iload_n zx zb dX1_findWays_127 rfl (lv_at hl 0 rfl) ?_
                              refine lv_sipush (v := nI 640) zx zb dX1_findWays_128 (by decide) ?_
                              refine nv_icmp_ge (tgt := 152) zx zb (by omega) (by omega) dX1_findWays_131 (by decide) (fun c131 => ?_) (fun c131 => ?_)
                              · refine lv_iinc (v := nI (t + 1)) (lv' := [(2, .int (nI (t + 1))), (3, .int (nI k2)), (0, .ref (a 0)), (1, .int (nI n))]) zx zb dX1_findWays_152 hl (k := 1) rfl (nI_1 _) (by decide) rfl (fun ls hl => ?_)
                                refine lv_goto (tgt := 36) zx zb dX1_findWays_155 (by decide) ?_
                                exact ih36 wy2 wt (t + 1) (by omega) (fun j hj => by rw [h6 j (by omega), h4 j hj, show k = 640 by omega]; exact adK_cg h1 640 (Nat.le_refl _)) (by omega) _ _ _ hX (lv_sub hl [0, 2, 3] rfl)
                              · refine lv_aload_n zx zb dX1_findWays_134 rfl (lv_at hl 2 rfl) ?_
                                refine nv_get zC hX in_X1 0 rfl rfl 21 (by decide) q1213 (fun _ h => h) rfl dX1_findWays_135 ?_
                                refine lv_iload_n zx zb dX1_findWays_138 rfl (lv_at hl 0 rfl) ?_
                                refine lv_aload_n zx zb dX1_findWays_139 rfl (lv_at hl 2 rfl) ?_
                                refine nv_get zC hX in_X1 0 rfl rfl 22 (by decide) q1214 (fun _ h => h) rfl dX1_findWays_140 ?_
                                refine lv_iload_n zx zb dX1_findWays_143 rfl (lv_at hl 0 rfl) ?_
                                refine nv_lald (v := lN (wt k2)) zC hX 16 rfl (by omega) (by decide) rfl dX1_findWays_144 ?_
                                refine nv_last zC hX 15 rfl (by omega) (by decide) (nL_up _ _ _) (w' := mW dA a fault trace sorts shL cells words said kind longOf letters saidRow at_ rdW rKind rLong rLet looked'_1 lkL next'_1 heard'_1 far (va_up wy2 k2 (wt k2)) wt free freeT rdgs rWord rMany rStands rRow ex) rfl dX1_findWays_145 (fun H locs hX => ?_)
                                refine lv_iinc (v := nI (k2 + 1)) (lv' := [(3, .int (nI (k2 + 1))), (2, .int (nI t)), (0, .ref (a 0)), (1, .int (nI n))]) zx zb dX1_findWays_146 hl (k := 0) rfl (nI_1 _) (by decide) rfl (fun ls hl => ?_)
                                refine lv_goto (tgt := 127) zx zb dX1_findWays_149 (by decide) ?_
                                exact ih127 (va_up wy2 k2 (wt k2)) (k2 + 1) (by omega) (up_pre h6) (by omega) _ _ _ hX (lv_sub hl [0, 1, 2, 3] rfl)
                          exact L127 _ wy 0 (by omega) lt_0 (Nat.lt_succ_self _) _ _ _ hX (lv_sub hl [0, 1, 2, 3] rfl)
                        · refine lv_iconst (v := nI 0) zx zb dX1_findWays_72 (by decide) ?_
                          refine lv_istore (lv' := [(4, .int (nI 0)), (3, .int (nI k)), (2, .int (nI t)), (0, .ref (a 0)), (1, .int (nI n))]) zx zb dX1_findWays_73 hl (by decide) rfl (fun ls hl => ?_)
                          have L75 : ∀ (zn : Nat) (wt : Nat → Nat) (c : Nat) (hc : c ≤ 3) (h5 : ∀ j, j < 640 → wt j = adK wy (stC kind longOf letters words) j k + adL wy (stC kind longOf letters words) k j c), 3 - c < zn → ∀ (H : Heap) (locs : List Loc) (ls : Array Slot), nvS D a0 (mW dA a fault trace sorts shL cells words said kind longOf letters saidRow at_ rdW rKind rLong rLet looked'_1 lkL next'_1 heard'_1 far wy wt free freeT rdgs rWord rMany rStands rRow ex) s.heap H locs → lv_has ls 5 [(4, .int (nI c)), (3, .int (nI k)), (2, .int (nI t)), (0, .ref (a 0)), (1, .int (nI n))] → W zp l ze (rm_ 5 109 0 0) s zm zar zlo zme zcd H locs 0 0 Q (F0 zm 75 ls []) := by
                            intro zn
                            induction zn with
                            | zero => intro wt c hc h5 zf; exact absurd zf (Nat.not_lt_zero _)
                            | succ zn ih75 =>
                              intro wt c hc h5 zf H locs ls hX hl
                              refine lv_iload zx zb dX1_findWays_75 (lv_at hl 0 rfl) ?_
                              refine lv_iconst (v := nI 3) zx zb dX1_findWays_77 (by decide) ?_
                              refine nv_icmp_ge (tgt := 119) zx zb (by omega) (by omega) dX1_findWays_78 (by decide) (fun c78 => ?_) (fun c78 => ?_)
                              · refine lv_iinc (v := nI (k + 1)) (lv' := [(3, .int (nI (k + 1))), (4, .int (nI c)), (2, .int (nI t)), (0, .ref (a 0)), (1, .int (nI n))]) zx zb dX1_findWays_119 hl (k := 1) rfl (nI_1 _) (by decide) rfl (fun ls hl => ?_)
                                refine lv_goto (tgt := 65) zx zb dX1_findWays_122 (by decide) ?_
                                exact ih65 wt (k + 1) (by omega) (ad_skip h5 (Or.inl (by omega))) (by omega) _ _ _ hX (lv_sub hl [0, 2, 3, 4] rfl)
                              · refine lv_aload_n zx zb dX1_findWays_81 rfl (lv_at hl 3 rfl) ?_
                                refine nv_get zC hX in_X1 0 rfl rfl 21 (by decide) q1213 (fun _ h => h) rfl dX1_findWays_82 ?_
                                refine lv_iload_n zx zb dX1_findWays_85 rfl (lv_at hl 1 rfl) ?_
                                refine nv_lald (v := lN (wy k)) zC hX 15 rfl (by omega) (by decide) rfl dX1_findWays_86 ?_
                                refine lv_lconst (v := lN 0) zx zb dX1_findWays_87 (by decide) ?_
                                refine W.lcmp zx zb dX1_findWays_88 ?_
                                refine lv_if_le (x := lg_cmp (lN (wy k)) (lN 0)) (tgt := 119) zx zb dX1_findWays_89 (by decide) (fun c89 => ?_) (fun c89 => ?_)
                                · have c89 := (lcN_le (by rw [h1 k c69]; exact Nat.lt_of_le_of_lt (wyN_le (by decide) hstl _ _ c69) (Nat.lt_of_le_of_lt (Nat.pow_le_pow_right (by decide) (show t ≤ 30 by omega)) (by decide))) (by decide)).mp c89
                                  refine lv_iinc (v := nI (k + 1)) (lv' := [(3, .int (nI (k + 1))), (4, .int (nI c)), (2, .int (nI t)), (0, .ref (a 0)), (1, .int (nI n))]) zx zb dX1_findWays_119 hl (k := 1) rfl (nI_1 _) (by decide) rfl (fun ls hl => ?_)
                                  refine lv_goto (tgt := 65) zx zb dX1_findWays_122 (by decide) ?_
                                  exact ih65 wt (k + 1) (by omega) (ad_skip h5 (Or.inr (by omega))) (by omega) _ _ _ hX (lv_sub hl [0, 2, 3, 4] rfl)
                                · have c89 := (fun z => c89 ((lcN_le (by rw [h1 k c69]; exact Nat.lt_of_le_of_lt (wyN_le (by decide) hstl _ _ c69) (Nat.lt_of_le_of_lt (Nat.pow_le_pow_right (by decide) (show t ≤ 30 by omega)) (by decide))) (by decide)).mpr z))
                                  have c89 := Nat.lt_of_not_le c89
                                  refine lv_aload_n zx zb dX1_findWays_92 rfl (lv_at hl 3 rfl) ?_
                                  refine nv_get zC hX in_X1 0 rfl rfl 22 (by decide) q1214 (fun _ h => h) rfl dX1_findWays_93 ?_
                                  refine lv_aload_n zx zb dX1_findWays_96 rfl (lv_at hl 3 rfl) ?_
                                  refine lv_iload_n zx zb dX1_findWays_97 rfl (lv_at hl 1 rfl) ?_
                                  refine lv_iload zx zb dX1_findWays_98 (lv_at hl 0 rfl) ?_
                                  refine nv_ki zC hX (nv_rV (n := 2) (As := [.int (nI k), .int (nI c)]) (rest := [.ref (a 16)]) (q0 := 0) zC hX (mm_behindLetter (k := k) (c := c) (hk := (by first | assumption | omega)) (hc := (by first | assumption | omega))) nvGb0 (fun _ _ _ => trivial) rfl rfl q1408 q1410 qs50 q63 q1411 (by decide +kernel) rfl ⟨Nat.le_of_ble_eq_true rfl, Nat.le_of_ble_eq_true rfl⟩ hl.1 (Nat.le_of_ble_eq_true rfl) dX1_findWays_100 ⟨by first | exact Nat.le_of_ble_eq_true rfl | omega, by first | exact Nat.le_of_ble_eq_true rfl | omega⟩) (fun r u H locs hp hX => ?_)
                                  have hr_ : r = nI (stM next'_1 heard'_1 k c) := hp
                                  subst hr_
                                  have hX : nvS D a0 (mW dA a fault trace sorts shL cells words said kind longOf letters saidRow at_ rdW rKind rLong rLet looked'_1 lkL next'_1 heard'_1 far wy wt free freeT rdgs rWord rMany rStands rRow ex) s.heap H locs := hX
                                  refine W.cs (cells' := 0) (slots' := 0) (Nat.add_zero _) (Nat.add_zero _) ?_
                                  have hst := stM_C hnx c69 c78
                                  rw [hst]
                                  have hst2 := hstl k c c69 c78
                                  refine lv_dup2_11 zx zb dX1_findWays_103 rfl rfl ?_
                                  refine nv_lald (v := lN (wt (stC kind longOf letters words k c))) zC hX 16 rfl (by omega) (by decide) rfl dX1_findWays_104 ?_
                                  refine lv_aload_n zx zb dX1_findWays_105 rfl (lv_at hl 3 rfl) ?_
                                  refine nv_get zC hX in_X1 0 rfl rfl 21 (by decide) q1213 (fun _ h => h) rfl dX1_findWays_106 ?_
                                  refine lv_iload_n zx zb dX1_findWays_109 rfl (lv_at hl 1 rfl) ?_
                                  refine nv_lald (v := lN (wy k)) zC hX 15 rfl (by omega) (by decide) rfl dX1_findWays_110 ?_
                                  refine nv_ladd zx zb dX1_findWays_111 ?_
                                  refine nv_last zC hX 16 rfl (by omega) (by decide) (nL_up _ _ _) (w' := mW dA a fault trace sorts shL cells words said kind longOf letters saidRow at_ rdW rKind rLong rLet looked'_1 lkL next'_1 heard'_1 far wy (va_up wt (stC kind longOf letters words k c) ((wt (stC kind longOf letters words k c)) + (wy k))) free freeT rdgs rWord rMany rStands rRow ex) rfl dX1_findWays_112 (fun H locs hX => ?_)
                                  refine lv_iinc (v := nI (c + 1)) (lv' := [(4, .int (nI (c + 1))), (3, .int (nI k)), (2, .int (nI t)), (0, .ref (a 0)), (1, .int (nI n))]) zx zb dX1_findWays_113 hl (k := 0) rfl (nI_1 _) (by decide) rfl (fun ls hl => ?_)
                                  refine lv_goto (tgt := 75) zx zb dX1_findWays_116 (by decide) ?_
                                  exact ih75 (va_up wt (stC kind longOf letters words k c) ((wt (stC kind longOf letters words k c)) + (wy k))) (c + 1) (by omega) (ad_put h5) (by omega) _ _ _ hX (lv_sub hl [0, 1, 2, 3, 4] rfl)
                          exact L75 _ wt 0 (by omega) (fun j hj => (h4 j hj).trans (Nat.add_zero _).symm) (Nat.lt_succ_self _) _ _ _ hX (lv_sub hl [0, 1, 2, 3, 4] rfl)
                    exact L65 _ wt 0 (by omega) (fun j hj => h3 j (by omega)) (Nat.lt_succ_self _) _ _ _ hX (lv_sub hl [0, 1, 2, 3] rfl)
                  · refine lv_aload_n zx zb dX1_findWays_50 rfl (lv_at hl 2 rfl) ?_
                    refine nv_get zC hX in_X1 0 rfl rfl 22 (by decide) q1214 (fun _ h => h) rfl dX1_findWays_51 ?_
                    refine lv_iload_n zx zb dX1_findWays_54 rfl (lv_at hl 0 rfl) ?_
                    refine lv_lconst (v := lN 0) zx zb dX1_findWays_55 (by decide) ?_
                    refine nv_last zC hX 16 rfl (by omega) (by decide) (nL_up _ _ _) (w' := mW dA a fault trace sorts shL cells words said kind longOf letters saidRow at_ rdW rKind rLong rLet looked'_1 lkL next'_1 heard'_1 far wy (va_up wt k 0) free freeT rdgs rWord rMany rStands rRow ex) rfl dX1_findWays_56 (fun H locs hX => ?_)
                    refine lv_iinc (v := nI (k + 1)) (lv' := [(3, .int (nI (k + 1))), (2, .int (nI t)), (0, .ref (a 0)), (1, .int (nI n))]) zx zb dX1_findWays_57 hl (k := 0) rfl (nI_1 _) (by decide) rfl (fun ls hl => ?_)
                    refine lv_goto (tgt := 43) zx zb dX1_findWays_60 (by decide) ?_
                    exact ih43 (va_up wt k 0) (k + 1) (by omega) (up_preG h3 rfl) (by omega) _ _ _ hX (lv_sub hl [0, 1, 2, 3] rfl)
              exact L43 _ wt 0 (by omega) lt_0 (Nat.lt_succ_self _) _ _ _ hX (lv_sub hl [0, 1, 2, 3] rfl)
        exact L36 _ wy waysT 0 (by omega) (fun j hj => h1 j (by omega)) (Nat.lt_succ_self _) _ _ _ hX (lv_sub hl [0, 1, 2] rfl)
      · refine lv_aload_n zx zb dX1_findWays_13 rfl (lv_at hl 1 rfl) ?_
        refine nv_get zC hX in_X1 0 rfl rfl 21 (by decide) q1213 (fun _ h => h) rfl dX1_findWays_14 ?_
        refine lv_iload_n zx zb dX1_findWays_17 rfl (lv_at hl 0 rfl) ?_
        refine lv_iload_n zx zb dX1_findWays_18 rfl (lv_at hl 0 rfl) ?_
        refine nv_if_ne (tgt := 26) zx zb (by omega) dX1_findWays_19 (by decide) (fun c19 => ?_) (fun c19 => ?_)
        · refine lv_lconst (v := lN 0) zx zb dX1_findWays_26 (by decide) ?_
          refine nv_last zC hX 15 rfl (by omega) (by decide) (nL_up _ _ _) (w' := mW dA a fault trace sorts shL cells words said kind longOf letters saidRow at_ rdW rKind rLong rLet looked'_1 lkL next'_1 heard'_1 far (va_up wy k 0) waysT free freeT rdgs rWord rMany rStands rRow ex) rfl dX1_findWays_27 (fun H locs hX => ?_)
          refine lv_iinc (v := nI (k + 1)) (lv' := [(2, .int (nI (k + 1))), (0, .ref (a 0)), (1, .int (nI n))]) zx zb dX1_findWays_28 hl (k := 0) rfl (nI_1 _) (by decide) rfl (fun ls hl => ?_)
          refine lv_goto (tgt := 6) zx zb dX1_findWays_31 (by decide) ?_
          exact ih6 (va_up wy k 0) (k + 1) (by omega) (up_preG h1 (by simp [wyN, show k ≠ 0 by omega])) (by omega) _ _ _ hX (lv_sub hl [0, 1, 2] rfl)
        · refine lv_lconst (v := lN 1) zx zb dX1_findWays_22 (by decide) ?_
          refine lv_goto (tgt := 27) zx zb dX1_findWays_23 (by decide) ?_
          refine nv_last zC hX 15 rfl (by omega) (by decide) (nL_up _ _ _) (w' := mW dA a fault trace sorts shL cells words said kind longOf letters saidRow at_ rdW rKind rLong rLet looked'_1 lkL next'_1 heard'_1 far (va_up wy k 1) waysT free freeT rdgs rWord rMany rStands rRow ex) rfl dX1_findWays_27 (fun H locs hX => ?_)
          refine lv_iinc (v := nI (k + 1)) (lv' := [(2, .int (nI (k + 1))), (0, .ref (a 0)), (1, .int (nI n))]) zx zb dX1_findWays_28 hl (k := 0) rfl (nI_1 _) (by decide) rfl (fun ls hl => ?_)
          refine lv_goto (tgt := 6) zx zb dX1_findWays_31 (by decide) ?_
          exact ih6 (va_up wy k 1) (k + 1) (by omega) (up_preG h1 (by simp [wyN, c19])) (by omega) _ _ _ hX (lv_sub hl [0, 1, 2] rfl)
  exact L6 _ ways 0 (by omega) lt_0 (Nat.lt_succ_self _) _ _ _ hX (lv_sub hl [0, 1, 2] rfl)

set_option maxHeartbeats 4000000 in
theorem mm_waysWith  (set : Nat) (hs : set < 16) : nMt l D dA a0 yX1_waysWith cX1_waysWith 5 (some .long) 1 12 0 0 nvG0 [.ref (a 0), .int (nI set)] (mW dA a fault trace sorts shL cells words said kind longOf letters saidRow at_ rdW rKind rLong rLet looked lkL next heard far ways waysT free freeT rdgs rWord rMany rStands rRow ex) (nQl D a0 (fun (r : Int64) (_ : Unit) => r = lN (sumUp (fun e => ways (16 * e + set)) 40)) (fun (_ : Unit) => mW dA a fault trace sorts shL cells words said kind longOf letters saidRow at_ rdW rKind rLong rLet looked lkL next heard far ways waysT free freeT rdgs rWord rMany rStands rRow ex)) := by
  refine nv_start (by decide) (Nat.le_of_ble_eq_true rfl) fun zp ze s zm zlo zme zcd ls zC zr zk znm hX zG hl => ?_
  have zx := zC.1
  have zb := zC.2.1
  generalize zargs : ([.ref (a 0), .int (nI set)] : List Value).toArray = zar at zC ⊢
  generalize zQ : MQ zlo _ zar s _ _ _ = Q
  have hX : nvS D a0 (mW dA a fault trace sorts shL cells words said kind longOf letters saidRow at_ rdW rKind rLong rLet looked lkL next heard far ways waysT free freeT rdgs rWord rMany rStands rRow ex) s.heap s.heap [] := hX
  have hl : lv_has ls 5 [(0, .ref (a 0)), (1, .int (nI set))] := hl
  obtain ⟨H, zH⟩ : ∃ H, H = s.heap := ⟨_, rfl⟩
  have hX : nvS D a0 (mW dA a fault trace sorts shL cells words said kind longOf letters saidRow at_ rdW rKind rLong rLet looked lkL next heard far ways waysT free freeT rdgs rWord rMany rStands rRow ex) s.heap H [] := by rw [zH]; exact hX
  rw [show W zp l ze (rm_ 1 12 0 0) s zm zar zlo zme zcd s.heap [] 0 0 Q = W zp l ze (rm_ 1 12 0 0) s zm zar zlo zme zcd H [] 0 0 Q by rw [zH]]
  generalize ([] : List Loc) = locs at hX ⊢
  refine lv_lconst (v := lN 0) zx zb dX1_waysWith_0 (by decide) ?_
  refine lv_lstore_n (lv' := [(2, .long (lN 0)), (0, .ref (a 0)), (1, .int (nI set))]) zx zb dX1_waysWith_1 rfl hl (by decide) rfl (fun ls hl => ?_)
  refine lv_iconst (v := nI 0) zx zb dX1_waysWith_2 (by decide) ?_
  refine lv_istore (lv' := [(4, .int (nI 0)), (2, .long (lN 0)), (0, .ref (a 0)), (1, .int (nI set))]) zx zb dX1_waysWith_3 hl (by decide) rfl (fun ls hl => ?_)
  have L5 : ∀ (zn : Nat) (k : Nat) (hk : k ≤ 40), 40 - k < zn → ∀ (H : Heap) (locs : List Loc) (ls : Array Slot), nvS D a0 (mW dA a fault trace sorts shL cells words said kind longOf letters saidRow at_ rdW rKind rLong rLet looked lkL next heard far ways waysT free freeT rdgs rWord rMany rStands rRow ex) s.heap H locs → lv_has ls 5 [(4, .int (nI k)), (2, .long (lN (sumUp (fun e => ways (16 * e + set)) k))), (0, .ref (a 0)), (1, .int (nI set))] → W zp l ze (rm_ 1 12 0 0) s zm zar zlo zme zcd H locs 0 0 Q (F0 zm 5 ls []) := by
    intro zn
    induction zn with
    | zero => intro k hk zf; exact absurd zf (Nat.not_lt_zero _)
    | succ zn ih5 =>
      intro k hk zf H locs ls hX hl
      refine lv_iload zx zb dX1_waysWith_5 (lv_at hl 0 rfl) ?_
      refine lv_bipush (v := nI 40) zx zb dX1_waysWith_7 (by decide) ?_
      refine nv_icmp_ge (tgt := 33) zx zb (by omega) (by omega) dX1_waysWith_9 (by decide) (fun c9 => ?_) (fun c9 => ?_)
      · refine lv_lload_n zx zb dX1_waysWith_33 rfl (lv_at hl 1 rfl) ?_
        rw [← zQ]
        exact nv_endl zC zr zk () hX (by rw [show k = 40 by omega]) (by omega) (by omega) dX1_waysWith_34
      · refine lv_lload_n zx zb dX1_waysWith_12 rfl (lv_at hl 1 rfl) ?_
        refine lv_aload_n zx zb dX1_waysWith_13 rfl (lv_at hl 2 rfl) ?_
        refine nv_get zC hX in_X1 0 rfl rfl 21 (by decide) q1213 (fun _ h => h) rfl dX1_waysWith_14 ?_
        refine lv_bipush (v := nI 16) zx zb dX1_waysWith_17 (by decide) ?_
        refine lv_iload zx zb dX1_waysWith_19 (lv_at hl 0 rfl) ?_
        refine nv_imul zx zb dX1_waysWith_21 ?_
        refine lv_iload_n zx zb dX1_waysWith_22 rfl (lv_at hl 3 rfl) ?_
        refine nv_iadd zx zb dX1_waysWith_23 ?_
        refine nv_lald (v := lN (ways ((16 * k) + set))) zC hX 15 rfl (by omega) (by decide) rfl dX1_waysWith_24 ?_
        refine nv_ladd zx zb dX1_waysWith_25 ?_
        refine nv_asl (show lN ((sumUp (fun e => ways (16 * e + set)) k) + (ways ((16 * k) + set))) = lN (sumUp (fun e => ways (16 * e + set)) (k + 1)) from (Eq.refl _)) ?_
        refine lv_lstore_n (lv' := [(2, .long (lN (sumUp (fun e => ways (16 * e + set)) (k + 1)))), (4, .int (nI k)), (0, .ref (a 0)), (1, .int (nI set))]) zx zb dX1_waysWith_26 rfl hl (by decide) rfl (fun ls hl => ?_)
        refine lv_iinc (v := nI (k + 1)) (lv' := [(4, .int (nI (k + 1))), (2, .long (lN (sumUp (fun e => ways (16 * e + set)) (k + 1)))), (0, .ref (a 0)), (1, .int (nI set))]) zx zb dX1_waysWith_27 hl (k := 1) rfl (nI_1 _) (by decide) rfl (fun ls hl => ?_)
        refine lv_goto (tgt := 5) zx zb dX1_waysWith_30 (by decide) ?_
        exact ih5 (k + 1) (by omega) (by omega) _ _ _ hX (lv_sub hl [0, 1, 2, 3] rfl)
  exact L5 _ 0 (by omega) (Nat.lt_succ_self _) _ _ _ hX (lv_sub hl [0, 1, 2, 3] rfl)

set_option maxHeartbeats 4000000 in
theorem mm_have  (n : Int32) (hok : mOK words kind longOf letters) (hlk : ∀ j, looked j < 3) : nMt l D dA a0 yX1_have cX1_have 2 (some .long) 6 133 0 0 nvG0 [.ref (a 0), .int n] (mW dA a fault trace sorts shL cells words said kind longOf letters saidRow at_ rdW rKind rLong rLet looked lkL next heard far ways waysT free freeT rdgs rWord rMany rStands rRow ex) (nQl D a0 (fun (r : Int64) (u : (Nat → Nat) × (Nat → Nat) × (Nat → Nat) × (Nat → Nat) × (Nat → Nat)) => r = F_have kind longOf letters words n (2 ^ words - 1) ∧ (∀ j, u.2.2.1 j < 3)) (fun (u : (Nat → Nat) × (Nat → Nat) × (Nat → Nat) × (Nat → Nat) × (Nat → Nat)) => mW dA a fault trace sorts shL cells words said kind longOf letters saidRow at_ rdW rKind rLong rLet u.2.2.1 lkL u.1 u.2.1 far u.2.2.2.1 u.2.2.2.2 free freeT rdgs rWord rMany rStands rRow ex)) := by
  refine nv_start (by decide) (Nat.le_of_ble_eq_true rfl) fun zp ze s zm zlo zme zcd ls zC zr zk znm hX zG hl => ?_
  have zx := zC.1
  have zb := zC.2.1
  generalize zargs : ([.ref (a 0), .int n] : List Value).toArray = zar at zC ⊢
  generalize zQ : MQ zlo _ zar s _ _ _ = Q
  have hX : nvS D a0 (mW dA a fault trace sorts shL cells words said kind longOf letters saidRow at_ rdW rKind rLong rLet looked lkL next heard far ways waysT free freeT rdgs rWord rMany rStands rRow ex) s.heap s.heap [] := hX
  have hl : lv_has ls 2 [(0, .ref (a 0)), (1, .int n)] := hl
  obtain ⟨H, zH⟩ : ∃ H, H = s.heap := ⟨_, rfl⟩
  have hX : nvS D a0 (mW dA a fault trace sorts shL cells words said kind longOf letters saidRow at_ rdW rKind rLong rLet looked lkL next heard far ways waysT free freeT rdgs rWord rMany rStands rRow ex) s.heap H [] := by rw [zH]; exact hX
  rw [show W zp l ze (rm_ 6 133 0 0) s zm zar zlo zme zcd s.heap [] 0 0 Q = W zp l ze (rm_ 6 133 0 0) s zm zar zlo zme zcd H [] 0 0 Q by rw [zH]]
  generalize ([] : List Loc) = locs at hX ⊢
  have hw4 := hok.1
  have hlt := hok.2.2.2
  refine lv_iload_n zx zb dX1_have_0 rfl (lv_at hl 1 rfl) ?_
  refine lv_iconst (v := nI 0) zx zb dX1_have_1 (by decide) ?_
  refine lv_bipush (v := nI 30) zx zb dX1_have_2 (by decide) ?_
  refine nv_ki zC hX (nv_rS (n := 3) (As := [.int n, .int (nI 0), .int (nI 30)]) (rest := []) zC hX (mm_within (v := n) (lo := nI 0) (hi := nI 30)) nvGb0 (fun _ _ _ => trivial) q1290 q1291 q63 q1292 (by decide +kernel) rfl ⟨Nat.le_of_ble_eq_true rfl, Nat.le_of_ble_eq_true rfl⟩ hl.1 (Nat.le_of_ble_eq_true rfl) dX1_have_4 ⟨by first | exact Nat.le_of_ble_eq_true rfl | omega, by first | exact Nat.le_of_ble_eq_true rfl | omega⟩) (fun r u H locs hp hX => ?_)
  have hr_ : r = nB (inN n 0 30) := hp
  subst hr_
  have hX : nvS D a0 (mW dA a fault trace sorts shL cells words said kind longOf letters saidRow at_ rdW rKind rLong rLet looked lkL next heard far ways waysT free freeT rdgs rWord rMany rStands rRow ex) s.heap H locs := hX
  refine W.cs (cells' := 0) (slots' := 0) (Nat.add_zero _) (Nat.add_zero _) ?_
  refine nv_if_eqB (tgt := 17) zx zb dX1_have_7 (by decide) (fun c7 => ?_) (fun c7 => ?_)
  · refine lv_ldc2 (v := (-9223372036854775808)) zx zb zC.2.2.2.1 (zC.2.2.2.2.1 _ q1416) dX1_have_17 ?_
    rw [← zQ]
    exact nv_endl zC zr zk (next, heard, looked, ways, waysT) hX (by (try dsimp only); exact ⟨(if_neg (fun z => by rw [show inN n 0 30 = false from c7] at z; exact absurd z.1 (by decide))).symm, hlk⟩) (by omega) (by omega) dX1_have_20
  · obtain ⟨j, -, hj, rfl⟩ := inN_t (by decide) (by decide) c7
    refine lv_aload_n zx zb dX1_have_10 rfl (lv_at hl 0 rfl) ?_
    refine nv_get zC hX in_X1 0 rfl rfl 5 (by decide) q1197 (fun _ h => h) rfl dX1_have_11 ?_
    refine nv_if_ne (tgt := 21) zx zb (by omega) dX1_have_14 (by decide) (fun c14 => ?_) (fun c14 => ?_)
    · have hp4 := pw4 hw4
      refine lv_aload_n zx zb dX1_have_21 rfl (lv_at hl 0 rfl) ?_
      refine lv_iload_n zx zb dX1_have_22 rfl (lv_at hl 1 rfl) ?_
      refine nv_kv zC hX (nv_rV (n := 1) (As := [.int (nI j)]) (rest := []) (q0 := 0) zC hX (mm_findWays (n := j) (hok := (by first | assumption | omega)) (hlk := (by first | assumption | omega)) (hn := (by first | assumption | omega))) nvGb0 (fun _ _ _ => trivial) rfl rfl q1417 q1419 qs51 q63 q1420 (by decide +kernel) rfl ⟨Nat.le_of_ble_eq_true rfl, Nat.le_of_ble_eq_true rfl⟩ hl.1 (Nat.le_of_ble_eq_true rfl) dX1_have_23 ⟨by first | exact Nat.le_of_ble_eq_true rfl | omega, by first | exact Nat.le_of_ble_eq_true rfl | omega⟩) (fun u H locs hp hX => ?_)
      obtain ⟨next'_2, heard'_2, looked'_2, ways'_2, waysT'_2⟩ := u
      have h23 : nxOK next'_2 heard'_2 kind longOf letters words ∧ (∀ j, looked'_2 j < 3) ∧ wyOK kind longOf letters words j ways'_2 := hp
      have hX : nvS D a0 (mW dA a fault trace sorts shL cells words said kind longOf letters saidRow at_ rdW rKind rLong rLet looked'_2 lkL next'_2 heard'_2 far ways'_2 waysT'_2 free freeT rdgs rWord rMany rStands rRow ex) s.heap H locs := hX
      refine W.cs (cells' := 0) (slots' := 0) (Nat.add_zero _) (Nat.add_zero _) ?_
      refine lv_aload_n zx zb dX1_have_26 rfl (lv_at hl 0 rfl) ?_
      refine lv_aload_n zx zb dX1_have_27 rfl (lv_at hl 0 rfl) ?_
      refine nv_ki zC hX (nv_rV (n := 0) (As := []) (rest := [.ref (a 0)]) (q0 := 0) zC hX (mm_allWords (hw4 := (by first | assumption | omega))) nvGb0 (fun _ _ _ => trivial) rfl rfl q1404 q1406 qs49 q63 q1407 (by decide +kernel) rfl ⟨Nat.le_of_ble_eq_true rfl, Nat.le_of_ble_eq_true rfl⟩ hl.1 (Nat.le_of_ble_eq_true rfl) dX1_have_28 ⟨by first | exact Nat.le_of_ble_eq_true rfl | omega, by first | exact Nat.le_of_ble_eq_true rfl | omega⟩) (fun r u H locs hp hX => ?_)
      have hr_ : r = nI (2 ^ words - 1) := hp
      subst hr_
      have hX : nvS D a0 (mW dA a fault trace sorts shL cells words said kind longOf letters saidRow at_ rdW rKind rLong rLet looked'_2 lkL next'_2 heard'_2 far ways'_2 waysT'_2 free freeT rdgs rWord rMany rStands rRow ex) s.heap H locs := hX
      refine W.cs (cells' := 0) (slots' := 0) (Nat.add_zero _) (Nat.add_zero _) ?_
      refine nv_kl zC hX (nv_rV (n := 1) (As := [.int (nI (2 ^ words - 1))]) (rest := []) (q0 := 0) zC hX (mm_waysWith (set := 2 ^ words - 1) (hs := (by first | assumption | omega))) nvGb0 (fun _ _ _ => trivial) rfl rfl q1421 q1423 qs52 q63 q1424 (by decide +kernel) rfl ⟨Nat.le_of_ble_eq_true rfl, Nat.le_of_ble_eq_true rfl⟩ hl.1 (Nat.le_of_ble_eq_true rfl) dX1_have_31 ⟨by first | exact Nat.le_of_ble_eq_true rfl | omega, by first | exact Nat.le_of_ble_eq_true rfl | omega⟩) (fun r u H locs hp hX => ?_)
      have hr_ : r = lN (sumUp (fun e => ways'_2 (16 * e + (2 ^ words - 1))) 40) := hp
      subst hr_
      have hX : nvS D a0 (mW dA a fault trace sorts shL cells words said kind longOf letters saidRow at_ rdW rKind rLong rLet looked'_2 lkL next'_2 heard'_2 far ways'_2 waysT'_2 free freeT rdgs rWord rMany rStands rRow ex) s.heap H locs := hX
      refine W.cs (cells' := 0) (slots' := 0) (Nat.add_zero _) (Nat.add_zero _) ?_
      rw [← zQ]
      exact nv_endl zC zr zk (next'_2, heard'_2, looked'_2, ways'_2, waysT'_2) hX (by (try dsimp only); refine ⟨?_, h23.2.1⟩; unfold F_have; rw [if_pos ⟨c7, by omega⟩, nI_clamp (by omega)]; exact congrArg lN (sumUp_cg (fun e he => h23.2.2 _ (by omega)))) (by omega) (by omega) dX1_have_34
    · refine lv_ldc2 (v := (-9223372036854775808)) zx zb zC.2.2.2.1 (zC.2.2.2.2.1 _ q1416) dX1_have_17 ?_
      rw [← zQ]
      exact nv_endl zC zr zk (next, heard, looked, ways, waysT) hX (by (try dsimp only); exact ⟨(if_neg (fun z => by omega)).symm, hlk⟩) (by omega) (by omega) dX1_have_20

set_option maxHeartbeats 4000000 in
theorem mm_free  (n : Int32) (hok : mOK words kind longOf letters) (hlk : ∀ j, looked j < 3) : nMt l D dA a0 yX1_free cX1_free 2 (some .long) 6 133 0 0 nvG0 [.ref (a 0), .int n] (mW dA a fault trace sorts shL cells words said kind longOf letters saidRow at_ rdW rKind rLong rLet looked lkL next heard far ways waysT free freeT rdgs rWord rMany rStands rRow ex) (nQl D a0 (fun (r : Int64) (u : (Nat → Nat) × (Nat → Nat) × (Nat → Nat) × (Nat → Nat) × (Nat → Nat)) => r = F_have kind longOf letters words n (0) ∧ (∀ j, u.2.2.1 j < 3)) (fun (u : (Nat → Nat) × (Nat → Nat) × (Nat → Nat) × (Nat → Nat) × (Nat → Nat)) => mW dA a fault trace sorts shL cells words said kind longOf letters saidRow at_ rdW rKind rLong rLet u.2.2.1 lkL u.1 u.2.1 far u.2.2.2.1 u.2.2.2.2 free freeT rdgs rWord rMany rStands rRow ex)) := by
  refine nv_start (by decide) (Nat.le_of_ble_eq_true rfl) fun zp ze s zm zlo zme zcd ls zC zr zk znm hX zG hl => ?_
  have zx := zC.1
  have zb := zC.2.1
  generalize zargs : ([.ref (a 0), .int n] : List Value).toArray = zar at zC ⊢
  generalize zQ : MQ zlo _ zar s _ _ _ = Q
  have hX : nvS D a0 (mW dA a fault trace sorts shL cells words said kind longOf letters saidRow at_ rdW rKind rLong rLet looked lkL next heard far ways waysT free freeT rdgs rWord rMany rStands rRow ex) s.heap s.heap [] := hX
  have hl : lv_has ls 2 [(0, .ref (a 0)), (1, .int n)] := hl
  obtain ⟨H, zH⟩ : ∃ H, H = s.heap := ⟨_, rfl⟩
  have hX : nvS D a0 (mW dA a fault trace sorts shL cells words said kind longOf letters saidRow at_ rdW rKind rLong rLet looked lkL next heard far ways waysT free freeT rdgs rWord rMany rStands rRow ex) s.heap H [] := by rw [zH]; exact hX
  rw [show W zp l ze (rm_ 6 133 0 0) s zm zar zlo zme zcd s.heap [] 0 0 Q = W zp l ze (rm_ 6 133 0 0) s zm zar zlo zme zcd H [] 0 0 Q by rw [zH]]
  generalize ([] : List Loc) = locs at hX ⊢
  have hw4 := hok.1
  have hlt := hok.2.2.2
  refine lv_iload_n zx zb dX1_free_0 rfl (lv_at hl 1 rfl) ?_
  refine lv_iconst (v := nI 0) zx zb dX1_free_1 (by decide) ?_
  refine lv_bipush (v := nI 30) zx zb dX1_free_2 (by decide) ?_
  refine nv_ki zC hX (nv_rS (n := 3) (As := [.int n, .int (nI 0), .int (nI 30)]) (rest := []) zC hX (mm_within (v := n) (lo := nI 0) (hi := nI 30)) nvGb0 (fun _ _ _ => trivial) q1290 q1291 q63 q1292 (by decide +kernel) rfl ⟨Nat.le_of_ble_eq_true rfl, Nat.le_of_ble_eq_true rfl⟩ hl.1 (Nat.le_of_ble_eq_true rfl) dX1_free_4 ⟨by first | exact Nat.le_of_ble_eq_true rfl | omega, by first | exact Nat.le_of_ble_eq_true rfl | omega⟩) (fun r u H locs hp hX => ?_)
  have hr_ : r = nB (inN n 0 30) := hp
  subst hr_
  have hX : nvS D a0 (mW dA a fault trace sorts shL cells words said kind longOf letters saidRow at_ rdW rKind rLong rLet looked lkL next heard far ways waysT free freeT rdgs rWord rMany rStands rRow ex) s.heap H locs := hX
  refine W.cs (cells' := 0) (slots' := 0) (Nat.add_zero _) (Nat.add_zero _) ?_
  refine nv_if_eqB (tgt := 17) zx zb dX1_free_7 (by decide) (fun c7 => ?_) (fun c7 => ?_)
  · refine lv_ldc2 (v := (-9223372036854775808)) zx zb zC.2.2.2.1 (zC.2.2.2.2.1 _ q1416) dX1_free_17 ?_
    rw [← zQ]
    exact nv_endl zC zr zk (next, heard, looked, ways, waysT) hX (by (try dsimp only); exact ⟨(if_neg (fun z => by rw [show inN n 0 30 = false from c7] at z; exact absurd z.1 (by decide))).symm, hlk⟩) (by omega) (by omega) dX1_free_20
  · obtain ⟨j, -, hj, rfl⟩ := inN_t (by decide) (by decide) c7
    refine lv_aload_n zx zb dX1_free_10 rfl (lv_at hl 0 rfl) ?_
    refine nv_get zC hX in_X1 0 rfl rfl 5 (by decide) q1197 (fun _ h => h) rfl dX1_free_11 ?_
    refine nv_if_ne (tgt := 21) zx zb (by omega) dX1_free_14 (by decide) (fun c14 => ?_) (fun c14 => ?_)
    · have hp4 := pw4 hw4
      refine lv_aload_n zx zb dX1_free_21 rfl (lv_at hl 0 rfl) ?_
      refine lv_iload_n zx zb dX1_free_22 rfl (lv_at hl 1 rfl) ?_
      refine nv_kv zC hX (nv_rV (n := 1) (As := [.int (nI j)]) (rest := []) (q0 := 0) zC hX (mm_findWays (n := j) (hok := (by first | assumption | omega)) (hlk := (by first | assumption | omega)) (hn := (by first | assumption | omega))) nvGb0 (fun _ _ _ => trivial) rfl rfl q1417 q1419 qs51 q63 q1420 (by decide +kernel) rfl ⟨Nat.le_of_ble_eq_true rfl, Nat.le_of_ble_eq_true rfl⟩ hl.1 (Nat.le_of_ble_eq_true rfl) dX1_free_23 ⟨by first | exact Nat.le_of_ble_eq_true rfl | omega, by first | exact Nat.le_of_ble_eq_true rfl | omega⟩) (fun u H locs hp hX => ?_)
      obtain ⟨next'_2, heard'_2, looked'_2, ways'_2, waysT'_2⟩ := u
      have h23 : nxOK next'_2 heard'_2 kind longOf letters words ∧ (∀ j, looked'_2 j < 3) ∧ wyOK kind longOf letters words j ways'_2 := hp
      have hX : nvS D a0 (mW dA a fault trace sorts shL cells words said kind longOf letters saidRow at_ rdW rKind rLong rLet looked'_2 lkL next'_2 heard'_2 far ways'_2 waysT'_2 free freeT rdgs rWord rMany rStands rRow ex) s.heap H locs := hX
      refine W.cs (cells' := 0) (slots' := 0) (Nat.add_zero _) (Nat.add_zero _) ?_
      refine lv_aload_n zx zb dX1_free_26 rfl (lv_at hl 0 rfl) ?_
      refine lv_iconst (v := nI 0) zx zb dX1_free_27 (by decide) ?_
      refine nv_kl zC hX (nv_rV (n := 1) (As := [.int (nI 0)]) (rest := []) (q0 := 0) zC hX (mm_waysWith (set := 0) (hs := (by first | assumption | omega))) nvGb0 (fun _ _ _ => trivial) rfl rfl q1421 q1423 qs52 q63 q1424 (by decide +kernel) rfl ⟨Nat.le_of_ble_eq_true rfl, Nat.le_of_ble_eq_true rfl⟩ hl.1 (Nat.le_of_ble_eq_true rfl) dX1_free_28 ⟨by first | exact Nat.le_of_ble_eq_true rfl | omega, by first | exact Nat.le_of_ble_eq_true rfl | omega⟩) (fun r u H locs hp hX => ?_)
      have hr_ : r = lN (sumUp (fun e => ways'_2 (16 * e + 0)) 40) := hp
      subst hr_
      have hX : nvS D a0 (mW dA a fault trace sorts shL cells words said kind longOf letters saidRow at_ rdW rKind rLong rLet looked'_2 lkL next'_2 heard'_2 far ways'_2 waysT'_2 free freeT rdgs rWord rMany rStands rRow ex) s.heap H locs := hX
      refine W.cs (cells' := 0) (slots' := 0) (Nat.add_zero _) (Nat.add_zero _) ?_
      rw [← zQ]
      exact nv_endl zC zr zk (next'_2, heard'_2, looked'_2, ways'_2, waysT'_2) hX (by (try dsimp only); refine ⟨?_, h23.2.1⟩; unfold F_have; rw [if_pos ⟨c7, by omega⟩, nI_clamp (by omega)]; exact congrArg lN (sumUp_cg (fun e he => h23.2.2 _ (by omega)))) (by omega) (by omega) dX1_free_31
    · refine lv_ldc2 (v := (-9223372036854775808)) zx zb zC.2.2.2.1 (zC.2.2.2.2.1 _ q1416) dX1_free_17 ?_
      rw [← zQ]
      exact nv_endl zC zr zk (next, heard, looked, ways, waysT) hX (by (try dsimp only); exact ⟨(if_neg (fun z => by omega)).symm, hlk⟩) (by omega) (by omega) dX1_free_20

set_option maxHeartbeats 4000000 in
theorem mm_goesFree  (F : Nat → Bool) (hok : mOK words kind longOf letters) (hnx : nxOK next heard kind longOf letters words) (hF : ∀ j, j < 40 → free j = (F j).toNat) : nMt l D dA a0 yX1_goesFree cX1_goesFree 3 (some .boolean) 1 12 0 0 nvG0 [.ref (a 0)] (mW dA a fault trace sorts shL cells words said kind longOf letters saidRow at_ rdW rKind rLong rLet looked lkL next heard far ways waysT free freeT rdgs rWord rMany rStands rRow ex) (nQi D a0 (fun (r : Int32) (u : (Nat → Nat) × (Nat → Nat)) => r = nB (anyUp (gfP kind longOf letters words F) 120) ∧ (∀ j, j < 40 → u.1 j = (gfS kind longOf letters words F j).toNat)) (fun (u : (Nat → Nat) × (Nat → Nat)) => mW dA a fault trace sorts shL cells words said kind longOf letters saidRow at_ rdW rKind rLong rLet looked lkL next heard far ways waysT u.1 u.2 rdgs rWord rMany rStands rRow ex)) := by
  refine nv_start (by decide) (Nat.le_of_ble_eq_true rfl) fun zp ze s zm zlo zme zcd ls zC zr zk znm hX zG hl => ?_
  have zx := zC.1
  have zb := zC.2.1
  generalize zargs : ([.ref (a 0)] : List Value).toArray = zar at zC ⊢
  generalize zQ : MQ zlo _ zar s _ _ _ = Q
  have hX : nvS D a0 (mW dA a fault trace sorts shL cells words said kind longOf letters saidRow at_ rdW rKind rLong rLet looked lkL next heard far ways waysT free freeT rdgs rWord rMany rStands rRow ex) s.heap s.heap [] := hX
  have hl : lv_has ls 3 [(0, .ref (a 0))] := hl
  obtain ⟨H, zH⟩ : ∃ H, H = s.heap := ⟨_, rfl⟩
  have hX : nvS D a0 (mW dA a fault trace sorts shL cells words said kind longOf letters saidRow at_ rdW rKind rLong rLet looked lkL next heard far ways waysT free freeT rdgs rWord rMany rStands rRow ex) s.heap H [] := by rw [zH]; exact hX
  rw [show W zp l ze (rm_ 1 12 0 0) s zm zar zlo zme zcd s.heap [] 0 0 Q = W zp l ze (rm_ 1 12 0 0) s zm zar zlo zme zcd H [] 0 0 Q by rw [zH]]
  generalize ([] : List Loc) = locs at hX ⊢
  have hw4 := hok.1
  have hlt := hok.2.2.2
  refine lv_iconst (v := nI 0) zx zb dX1_goesFree_0 (by decide) ?_
  refine lv_istore_n (lv' := [(1, .int (nI 0)), (0, .ref (a 0))]) zx zb dX1_goesFree_1 rfl hl (by decide) rfl (fun ls hl => ?_)
  have L2 : ∀ (zn : Nat) (ft : Nat → Nat) (k : Nat) (hk : k ≤ 40) (h1 : ∀ j, j < k → ft j = 0), 40 - k < zn → ∀ (H : Heap) (locs : List Loc) (ls : Array Slot), nvS D a0 (mW dA a fault trace sorts shL cells words said kind longOf letters saidRow at_ rdW rKind rLong rLet looked lkL next heard far ways waysT free ft rdgs rWord rMany rStands rRow ex) s.heap H locs → lv_has ls 3 [(1, .int (nI k)), (0, .ref (a 0))] → W zp l ze (rm_ 1 12 0 0) s zm zar zlo zme zcd H locs 0 0 Q (F0 zm 2 ls []) := by
    intro zn
    induction zn with
    | zero => intro ft k hk h1 zf; exact absurd zf (Nat.not_lt_zero _)
    | succ zn ih2 =>
      intro ft k hk h1 zf H locs ls hX hl
      refine lv_iload_n zx zb dX1_goesFree_2 rfl (lv_at hl 0 rfl) ?_
      refine lv_bipush (v := nI 40) zx zb dX1_goesFree_3 (by decide) ?_
      refine nv_icmp_ge (tgt := 21) zx zb (by omega) (by omega) dX1_goesFree_5 (by decide) (fun c5 => ?_) (fun c5 => ?_)
      · refine lv_iconst (v := nI 0) zx zb dX1_goesFree_21 (by decide) ?_
        refine nv_as (show nI 0 = nB (anyUp (gfP kind longOf letters words F) 0) from (nB_as0 rfl)) ?_
        refine lv_istore_n (lv' := [(1, .int (nB (anyUp (gfP kind longOf letters words F) 0))), (0, .ref (a 0))]) zx zb dX1_goesFree_22 rfl hl (by decide) rfl (fun ls hl => ?_)
        refine lv_iconst (v := nI 0) zx zb dX1_goesFree_23 (by decide) ?_
        refine lv_istore_n (lv' := [(2, .int (nI 0)), (1, .int (nB (anyUp (gfP kind longOf letters words F) 0))), (0, .ref (a 0))]) zx zb dX1_goesFree_24 rfl hl (by decide) rfl (fun ls hl => ?_)
        have L25 : ∀ (zn : Nat) (ft : Nat → Nat) (b : Nat) (hb : b ≤ 120) (h2 : ∀ j, j < 40 → ft j = (anyUp (fun b => gfP kind longOf letters words F b && decide (nxM (b / 3) (b % 3) = j)) b).toNat), 120 - b < zn → ∀ (H : Heap) (locs : List Loc) (ls : Array Slot), nvS D a0 (mW dA a fault trace sorts shL cells words said kind longOf letters saidRow at_ rdW rKind rLong rLet looked lkL next heard far ways waysT free ft rdgs rWord rMany rStands rRow ex) s.heap H locs → lv_has ls 3 [(2, .int (nI b)), (1, .int (nB (anyUp (gfP kind longOf letters words F) b))), (0, .ref (a 0))] → W zp l ze (rm_ 1 12 0 0) s zm zar zlo zme zcd H locs 0 0 Q (F0 zm 25 ls []) := by
          intro zn
          induction zn with
          | zero => intro ft b hb h2 zf; exact absurd zf (Nat.not_lt_zero _)
          | succ zn ih25 =>
            intro ft b hb h2 zf H locs ls hX hl
            refine lv_iload_n zx zb dX1_goesFree_25 rfl (lv_at hl 0 rfl) ?_
            refine lv_bipush (v := nI 120) zx zb dX1_goesFree_26 (by decide) ?_
            refine nv_icmp_ge (tgt := 72) zx zb (by omega) (by omega) dX1_goesFree_28 (by decide) (fun c28 => ?_) (fun c28 => ?_)
            · refine lv_iconst (v := nI 0) zx zb dX1_goesFree_72 (by decide) ?_
              refine lv_istore_n (lv' := [(2, .int (nI 0)), (1, .int (nB (anyUp (gfP kind longOf letters words F) b))), (0, .ref (a 0))]) zx zb dX1_goesFree_73 rfl hl (by decide) rfl (fun ls hl => ?_)
              have L74 : ∀ (zn : Nat) (fr : Nat → Nat) (k2 : Nat) (hk2 : k2 ≤ 40) (h6 : ∀ j, j < k2 → fr j = ft j), 40 - k2 < zn → ∀ (H : Heap) (locs : List Loc) (ls : Array Slot), nvS D a0 (mW dA a fault trace sorts shL cells words said kind longOf letters saidRow at_ rdW rKind rLong rLet looked lkL next heard far ways waysT fr ft rdgs rWord rMany rStands rRow ex) s.heap H locs → lv_has ls 3 [(2, .int (nI k2)), (1, .int (nB (anyUp (gfP kind longOf letters words F) b))), (0, .ref (a 0))] → W zp l ze (rm_ 1 12 0 0) s zm zar zlo zme zcd H locs 0 0 Q (F0 zm 74 ls []) := by
                intro zn
                induction zn with
                | zero => intro fr k2 hk2 h6 zf; exact absurd zf (Nat.not_lt_zero _)
                | succ zn ih74 =>
                  intro fr k2 hk2 h6 zf H locs ls hX hl
                  refine lv_iload_n zx zb dX1_goesFree_74 rfl (lv_at hl 0 rfl) ?_
                  refine lv_bipush (v := nI 40) zx zb dX1_goesFree_75 (by decide) ?_
                  refine nv_icmp_ge (tgt := 98) zx zb (by omega) (by omega) dX1_goesFree_77 (by decide) (fun c77 => ?_) (fun c77 => ?_)
                  · refine lv_iload_n zx zb dX1_goesFree_98 rfl (lv_at hl 1 rfl) ?_
                    rw [← zQ]
                    exact nv_endz zC zr zk (fr, ft) hX (by (try dsimp only); exact ⟨by rw [show b = 120 by omega], fun j hj => by show fr j = _; rw [h6 j (by omega), h2 j hj, show b = 120 by omega]; rfl⟩) (by omega) (by omega) dX1_goesFree_99
                  · refine lv_aload_n zx zb dX1_goesFree_80 rfl (lv_at hl 2 rfl) ?_
                    refine nv_get zC hX in_X1 0 rfl rfl 23 (by decide) q1215 (fun _ h => h) rfl dX1_goesFree_81 ?_
                    refine lv_iload_n zx zb dX1_goesFree_84 rfl (lv_at hl 0 rfl) ?_
                    refine lv_aload_n zx zb dX1_goesFree_85 rfl (lv_at hl 2 rfl) ?_
                    refine nv_get zC hX in_X1 0 rfl rfl 24 (by decide) q1216 (fun _ h => h) rfl dX1_goesFree_86 ?_
                    refine lv_iload_n zx zb dX1_goesFree_89 rfl (lv_at hl 0 rfl) ?_
                    refine nv_iald (v := nI (ft k2)) zC hX 18 rfl (by omega) (by decide) rfl dX1_goesFree_90 ?_
                    refine nv_iast zC hX 17 rfl (by omega) (by decide) (nF_up _ _ _) (w' := mW dA a fault trace sorts shL cells words said kind longOf letters saidRow at_ rdW rKind rLong rLet looked lkL next heard far ways waysT (va_up fr k2 (ft k2)) ft rdgs rWord rMany rStands rRow ex) rfl dX1_goesFree_91 (fun H locs hX => ?_)
                    refine lv_iinc (v := nI (k2 + 1)) (lv' := [(2, .int (nI (k2 + 1))), (1, .int (nB (anyUp (gfP kind longOf letters words F) b))), (0, .ref (a 0))]) zx zb dX1_goesFree_92 hl (k := 0) rfl (nI_1 _) (by decide) rfl (fun ls hl => ?_)
                    refine lv_goto (tgt := 74) zx zb dX1_goesFree_95 (by decide) ?_
                    exact ih74 (va_up fr k2 (ft k2)) (k2 + 1) (by omega) (up_pre h6) (by omega) _ _ _ hX (lv_sub hl [0, 1, 2] rfl)
              exact L74 _ free 0 (by omega) lt_0 (Nat.lt_succ_self _) _ _ _ hX (lv_sub hl [0, 1, 2] rfl)
            · refine lv_aload_n zx zb dX1_goesFree_31 rfl (lv_at hl 2 rfl) ?_
              refine nv_get zC hX in_X1 0 rfl rfl 23 (by decide) q1215 (fun _ h => h) rfl dX1_goesFree_32 ?_
              refine lv_iload_n zx zb dX1_goesFree_35 rfl (lv_at hl 0 rfl) ?_
              refine lv_iconst (v := nI 3) zx zb dX1_goesFree_36 (by decide) ?_
              refine nv_idiv zx zb (by omega) (by omega) (by omega) dX1_goesFree_37 ?_
              refine nv_iald (v := nI ((F (b / 3)).toNat)) zC hX 17 rfl (by omega) (by decide) (congrArg nI (hF _ (by omega))) dX1_goesFree_38 ?_
              refine lv_iconst (v := nI 1) zx zb dX1_goesFree_39 (by decide) ?_
              refine nv_icmp_ne (tgt := 66) zx zb (Nat.lt_of_le_of_lt (Bool.toNat_le _) (by decide)) (by omega) dX1_goesFree_40 (by decide) (fun c40 => ?_) (fun c40 => ?_)
              · have hf0 : F (b / 3) = false := by cases hz : F (b / 3) with | false => rfl | true => exact absurd (by rw [hz]; rfl) c40
                refine lv_iinc (v := nI (b + 1)) (lv' := [(2, .int (nI (b + 1))), (1, .int (nB (anyUp (gfP kind longOf letters words F) b))), (0, .ref (a 0))]) zx zb dX1_goesFree_66 hl (k := 0) rfl (nI_1 _) (by decide) rfl (fun ls hl => ?_)
                refine lv_goto (tgt := 25) zx zb dX1_goesFree_69 (by decide) ?_
                have hp : gfP kind longOf letters words F b = false := by simp [gfP, hf0]
                rw [show anyUp (gfP kind longOf letters words F) b = anyUp (gfP kind longOf letters words F) (b + 1) from (anyUp_f hp).symm] at hl
                exact ih25 ft (b + 1) (by omega) (gf_no h2 hp) (by omega) _ _ _ hX (lv_sub hl [0, 1, 2] rfl)
              · have hf1 : F (b / 3) = true := by cases hz : F (b / 3) with | true => rfl | false => rw [hz] at c40; exact absurd c40 (by decide)
                refine lv_aload_n zx zb dX1_goesFree_43 rfl (lv_at hl 2 rfl) ?_
                refine nv_get zC hX in_X1 0 rfl rfl 19 (by decide) q1211 (fun _ h => h) rfl dX1_goesFree_44 ?_
                refine lv_iload_n zx zb dX1_goesFree_47 rfl (lv_at hl 0 rfl) ?_
                refine nv_iald (v := nI (heard b)) zC hX 13 rfl (by omega) (by decide) rfl dX1_goesFree_48 ?_
                have hhb := nxOK_h hnx c28
                have hh16 := hbM_lt (kind := kind) (longOf := longOf) (letters := letters) (e := b / 3) (c := b % 3) hw4
                refine nv_if_ne (tgt := 66) zx zb (by omega) dX1_goesFree_49 (by decide) (fun c49 => ?_) (fun c49 => ?_)
                · have hh0 : hbM kind longOf letters words (b / 3) (b % 3) ≠ 0 := by omega
                  refine lv_iinc (v := nI (b + 1)) (lv' := [(2, .int (nI (b + 1))), (1, .int (nB (anyUp (gfP kind longOf letters words F) b))), (0, .ref (a 0))]) zx zb dX1_goesFree_66 hl (k := 0) rfl (nI_1 _) (by decide) rfl (fun ls hl => ?_)
                  refine lv_goto (tgt := 25) zx zb dX1_goesFree_69 (by decide) ?_
                  have hp : gfP kind longOf letters words F b = false := by simp [gfP, hh0]
                  rw [show anyUp (gfP kind longOf letters words F) b = anyUp (gfP kind longOf letters words F) (b + 1) from (anyUp_f hp).symm] at hl
                  exact ih25 ft (b + 1) (by omega) (gf_no h2 hp) (by omega) _ _ _ hX (lv_sub hl [0, 1, 2] rfl)
                · have hp : gfP kind longOf letters words F b = true := by simp [gfP, hf1, ← hhb, c49]
                  have hnl : next b < 40 := by rw [nxOK_n hnx c28]; exact nxM_lt (Nat.mod_lt _ (by decide))
                  refine lv_aload_n zx zb dX1_goesFree_52 rfl (lv_at hl 2 rfl) ?_
                  refine nv_get zC hX in_X1 0 rfl rfl 24 (by decide) q1216 (fun _ h => h) rfl dX1_goesFree_53 ?_
                  refine lv_aload_n zx zb dX1_goesFree_56 rfl (lv_at hl 2 rfl) ?_
                  refine nv_get zC hX in_X1 0 rfl rfl 18 (by decide) q1210 (fun _ h => h) rfl dX1_goesFree_57 ?_
                  refine lv_iload_n zx zb dX1_goesFree_60 rfl (lv_at hl 0 rfl) ?_
                  refine nv_iald (v := nI (next b)) zC hX 12 rfl (by omega) (by decide) rfl dX1_goesFree_61 ?_
                  refine lv_iconst (v := nI 1) zx zb dX1_goesFree_62 (by decide) ?_
                  refine nv_iast zC hX 18 rfl (by omega) (by decide) (nF_up _ _ _) (w' := mW dA a fault trace sorts shL cells words said kind longOf letters saidRow at_ rdW rKind rLong rLet looked lkL next heard far ways waysT free (va_up ft (next b) 1) rdgs rWord rMany rStands rRow ex) rfl dX1_goesFree_63 (fun H locs hX => ?_)
                  refine lv_iconst (v := nI 1) zx zb dX1_goesFree_64 (by decide) ?_
                  refine nv_as (show nI 1 = nB (anyUp (gfP kind longOf letters words F) (b + 1)) from (nB_as1 (anyUp_t hp))) ?_
                  refine lv_istore_n (lv' := [(1, .int (nB (anyUp (gfP kind longOf letters words F) (b + 1)))), (2, .int (nI b)), (0, .ref (a 0))]) zx zb dX1_goesFree_65 rfl hl (by decide) rfl (fun ls hl => ?_)
                  refine lv_iinc (v := nI (b + 1)) (lv' := [(2, .int (nI (b + 1))), (1, .int (nB (anyUp (gfP kind longOf letters words F) (b + 1)))), (0, .ref (a 0))]) zx zb dX1_goesFree_66 hl (k := 1) rfl (nI_1 _) (by decide) rfl (fun ls hl => ?_)
                  refine lv_goto (tgt := 25) zx zb dX1_goesFree_69 (by decide) ?_
                  exact ih25 (va_up ft (next b) 1) (b + 1) (by omega) (by rw [nxOK_n hnx c28]; exact gf_up h2 hp) (by omega) _ _ _ hX (lv_sub hl [0, 1, 2] rfl)
        exact L25 _ ft 0 (by omega) (fun j hj => h1 j (by omega)) (Nat.lt_succ_self _) _ _ _ hX (lv_sub hl [0, 1, 2] rfl)
      · refine lv_aload_n zx zb dX1_goesFree_8 rfl (lv_at hl 1 rfl) ?_
        refine nv_get zC hX in_X1 0 rfl rfl 24 (by decide) q1216 (fun _ h => h) rfl dX1_goesFree_9 ?_
        refine lv_iload_n zx zb dX1_goesFree_12 rfl (lv_at hl 0 rfl) ?_
        refine lv_iconst (v := nI 0) zx zb dX1_goesFree_13 (by decide) ?_
        refine nv_iast zC hX 18 rfl (by omega) (by decide) (nF_up _ _ _) (w' := mW dA a fault trace sorts shL cells words said kind longOf letters saidRow at_ rdW rKind rLong rLet looked lkL next heard far ways waysT free (va_up ft k 0) rdgs rWord rMany rStands rRow ex) rfl dX1_goesFree_14 (fun H locs hX => ?_)
        refine lv_iinc (v := nI (k + 1)) (lv' := [(1, .int (nI (k + 1))), (0, .ref (a 0))]) zx zb dX1_goesFree_15 hl (k := 0) rfl (nI_1 _) (by decide) rfl (fun ls hl => ?_)
        refine lv_goto (tgt := 2) zx zb dX1_goesFree_18 (by decide) ?_
        exact ih2 (va_up ft k 0) (k + 1) (by omega) (up_preG h1 rfl) (by omega) _ _ _ hX (lv_sub hl [0, 1] rfl)
  exact L2 _ freeT 0 (by omega) lt_0 (Nat.lt_succ_self _) _ _ _ hX (lv_sub hl [0, 1] rfl)
end
