/-! printed by klass.py -/
set_option maxRecDepth 100000
section CL_54_d2
variable {l : Launch} {D : va_G} {dA : Nat → ClassId} {a0 ez : Nat} {ex : va_W} {a : Nat → Nat} {rn : Nat} {rt : Nat} {trace : Int32} {len : Nat} {stand : Nat} {first : Option Nat} {allh : Option Nat} {hAll : Nat} {fault : Int32} {row : Nat → Nat} {hOf : Nat → Nat} {farOf : Nat → Option Nat} {rowsN : Nat → Nat} {rowsT : Nat → Nat} {mcW : Int32} {edW : Nat} {words : Nat} {mcR : Int32} {edR : Nat} {rdgs : Nat} {sh : Nat → Option Nat} {kind longOf letters : Nat → Nat} {fW : Nat → Option Nat} {pa la : Nat → Nat} {rWord rMany rStands rRow : Nat → Nat} {fR : Nat → Option Nat} {pr lr : Nat → Nat}
set_option maxHeartbeats 4000000 in
theorem mx_goOn  (F : Nat → Bool) (m_ : Nat) (hW : wdIn dA (a 0) words kind longOf letters edW ez fW pa la ex) (hok : wOK words kind longOf letters) (hm : m_ = bitsUp F 54) (h0 : F 0 = false) : nMt l D dA a0 yX0_goOn cX0_goOn 8 (some .long) 6 128 0 0 (nvE a0 ez) [.ref (a 0), .long (lN m_)] (xW dA a rn rt trace len stand first allh hAll fault row hOf farOf rowsN rowsT mcW edW words mcR edR rdgs sh ex) (nQl D a0 (fun (r : Int64) (_ : Unit) => r = lN (nxB kind longOf letters words F 162)) (fun (_ : Unit) => xW dA a rn rt trace len stand first allh hAll fault row hOf farOf rowsN rowsT mcW edW words mcR edR rdgs sh ex)) := by
  refine nv_start (by decide) (Nat.le_of_ble_eq_true rfl) fun zp ze s zm zlo zme zcd ls zC zr zk znm hX zG hl => ?_
  have zx := zC.1
  have zb := zC.2.1
  generalize zargs : ([.ref (a 0), .long (lN m_)] : List Value).toArray = zar at zC ⊢
  generalize zQ : MQ zlo _ zar s _ _ _ = Q
  have hX : nvS D a0 (xW dA a rn rt trace len stand first allh hAll fault row hOf farOf rowsN rowsT mcW edW words mcR edR rdgs sh ex) s.heap s.heap [] := hX
  have hl : lv_has ls 8 [(0, .ref (a 0)), (1, .long (lN m_))] := hl
  obtain ⟨H, zH⟩ : ∃ H, H = s.heap := ⟨_, rfl⟩
  have hX : nvS D a0 (xW dA a rn rt trace len stand first allh hAll fault row hOf farOf rowsN rowsT mcW edW words mcR edR rdgs sh ex) s.heap H [] := by rw [zH]; exact hX
  rw [show W zp l ze (rm_ 6 128 0 0) s zm zar zlo zme zcd s.heap [] 0 0 Q = W zp l ze (rm_ 6 128 0 0) s zm zar zlo zme zcd H [] 0 0 Q by rw [zH]]
  generalize ([] : List Loc) = locs at hX ⊢
  have hw4 := hok.1
  have hm63 : m_ < 2 ^ 63 := (by rw [hm]; exact (Nat.lt_trans (bitsUp_lt _ 54) (by decide)))
  refine lv_lconst (v := lN 0) zx zb dX0_goOn_0 (by decide) ?_
  refine lv_lstore_n (lv' := [(3, .long (lN 0)), (0, .ref (a 0)), (1, .long (lN m_))]) zx zb dX0_goOn_1 rfl hl (by decide) rfl (fun ls hl => ?_)
  refine lv_iconst (v := nI 1) zx zb dX0_goOn_2 (by decide) ?_
  refine lv_istore (lv' := [(5, .int (nI 1)), (3, .long (lN 0)), (0, .ref (a 0)), (1, .long (lN m_))]) zx zb dX0_goOn_3 hl (by decide) rfl (fun ls hl => ?_)
  have L5 : ∀ (zn : Nat) (e : Nat) (he : e ≤ 53), 53 - e < zn → ∀ (H : Heap) (locs : List Loc) (ls : Array Slot), nvS D a0 (xW dA a rn rt trace len stand first allh hAll fault row hOf farOf rowsN rowsT mcW edW words mcR edR rdgs sh ex) s.heap H locs → lv_has ls 8 [(5, .int (nI (e + 1))), (3, .long (lN (nxB kind longOf letters words F (3 * (e + 1))))), (0, .ref (a 0)), (1, .long (lN m_))] → W zp l ze (rm_ 6 128 0 0) s zm zar zlo zme zcd H locs 0 0 Q (F0 zm 5 ls []) := by
    intro zn
    induction zn with
    | zero => intro e he zf; exact absurd zf (Nat.not_lt_zero _)
    | succ zn ih5 =>
      intro e he zf H locs ls hX hl
      refine lv_iload zx zb dX0_goOn_5 (lv_at hl 0 rfl) ?_
      refine lv_bipush (v := nI 54) zx zb dX0_goOn_7 (by decide) ?_
      refine nv_icmp_ge (tgt := 83) zx zb (by omega) (by omega) dX0_goOn_9 (by decide) (fun c9 => ?_) (fun c9 => ?_)
      · refine lv_lload_n zx zb dX0_goOn_83 rfl (lv_at hl 1 rfl) ?_
        rw [← zQ]
        exact nv_endl zC zr zk () hX (by rw [show e = 53 by omega]) (by omega) (by omega) dX0_goOn_84
      · refine lv_iconst (v := nI 0) zx zb dX0_goOn_12 (by decide) ?_
        refine lv_istore (lv' := [(6, .int (nI 0)), (5, .int (nI (e + 1))), (3, .long (lN (nxB kind longOf letters words F (3 * (e + 1))))), (0, .ref (a 0)), (1, .long (lN m_))]) zx zb dX0_goOn_13 hl (by decide) rfl (fun ls hl => ?_)
        have L15 : ∀ (zn : Nat) (c : Nat) (hc : c ≤ 3), 3 - c < zn → ∀ (H : Heap) (locs : List Loc) (ls : Array Slot), nvS D a0 (xW dA a rn rt trace len stand first allh hAll fault row hOf farOf rowsN rowsT mcW edW words mcR edR rdgs sh ex) s.heap H locs → lv_has ls 8 [(6, .int (nI c)), (5, .int (nI (e + 1))), (3, .long (lN (nxB kind longOf letters words F (3 * (e + 1) + c)))), (0, .ref (a 0)), (1, .long (lN m_))] → W zp l ze (rm_ 6 128 0 0) s zm zar zlo zme zcd H locs 0 0 Q (F0 zm 15 ls []) := by
          intro zn
          induction zn with
          | zero => intro c hc zf; exact absurd zf (Nat.not_lt_zero _)
          | succ zn ih15 =>
            intro c hc zf H locs ls hX hl
            refine lv_iload zx zb dX0_goOn_15 (lv_at hl 0 rfl) ?_
            refine lv_iconst (v := nI 3) zx zb dX0_goOn_17 (by decide) ?_
            refine nv_icmp_ge (tgt := 77) zx zb (by omega) (by omega) dX0_goOn_18 (by decide) (fun c18 => ?_) (fun c18 => ?_)
            · refine lv_iinc (v := nI (e + 1 + 1)) (lv' := [(5, .int (nI (e + 1 + 1))), (6, .int (nI c)), (3, .long (lN (nxB kind longOf letters words F (3 * (e + 1) + c)))), (0, .ref (a 0)), (1, .long (lN m_))]) zx zb dX0_goOn_77 hl (k := 1) rfl (nI_1 _) (by decide) rfl (fun ls hl => ?_)
              refine lv_goto (tgt := 5) zx zb dX0_goOn_80 (by decide) ?_
              rw [show nxB kind longOf letters words F (3 * (e + 1) + c) = nxB kind longOf letters words F (3 * (e + 1 + 1)) from congrArg (nxB kind longOf letters words F) (by omega)] at hl
              exact ih5 (e + 1) (by omega) (by omega) _ _ _ hX (lv_sub hl [0, 2, 3, 4] rfl)
            · refine lv_lload_n zx zb dX0_goOn_21 rfl (lv_at hl 4 rfl) ?_
              refine lv_iload zx zb dX0_goOn_22 (lv_at hl 1 rfl) ?_
              refine lv_lshr zx zb dX0_goOn_24 rfl ?_
              refine nv_asl (show (lN m_) >>> ((nI (e + 1)).toInt64 &&& 63) = lN (m_ / 2 ^ (e + 1)) from (lN_shr hm63 (by omega))) ?_
              refine lv_lconst (v := lN 1) zx zb dX0_goOn_25 (by decide) ?_
              refine lv_land zx zb dX0_goOn_26 ?_
              refine nv_asl (show (lN (m_ / 2 ^ (e + 1))) &&& (lN 1) = lN ((F (e + 1)).toNat) from (by rw [lN_and1 (Nat.lt_of_le_of_lt (Nat.div_le_self _ _) hm63), hm, bitsUp_d (by omega)])) ?_
              refine lv_lconst (v := lN 1) zx zb dX0_goOn_27 (by decide) ?_
              refine W.lcmp zx zb dX0_goOn_28 ?_
              refine lv_if_ne (x := lg_cmp (lN ((F (e + 1)).toNat)) (lN 1)) (tgt := 47) zx zb dX0_goOn_29 (by decide) (fun c29 => ?_) (fun c29 => ?_)
              · have c29 := fun z => c29 ((lcN_eq (by cases F (e + 1) <;> decide) (by decide)).mpr z)
                have hF : F (e + 1) = false := by cases h : F (e + 1) with | false => rfl | true => exact absurd (by rw [h]; rfl) c29
                refine lv_iconst (v := nI 0) zx zb dX0_goOn_47 (by decide) ?_
                refine nv_as (show nI 0 = nB (gPX kind longOf letters words F (3 * (e + 1) + c)) from (nB_as0 (by rw [gPX_at c18, hF]; rfl))) ?_
                refine lv_istore (lv' := [(7, .int (nB (gPX kind longOf letters words F (3 * (e + 1) + c)))), (6, .int (nI c)), (5, .int (nI (e + 1))), (3, .long (lN (nxB kind longOf letters words F (3 * (e + 1) + c)))), (0, .ref (a 0)), (1, .long (lN m_))]) zx zb dX0_goOn_48 hl (by decide) rfl (fun ls hl => ?_)
                refine lv_lload_n zx zb dX0_goOn_50 rfl (lv_at hl 3 rfl) ?_
                refine lv_iload zx zb dX0_goOn_51 (lv_at hl 0 rfl) ?_
                refine nv_if_eqB (tgt := 68) zx zb dX0_goOn_53 (by decide) (fun c53 => ?_) (fun c53 => ?_)
                · refine lv_lconst (v := lN 0) zx zb dX0_goOn_68 (by decide) ?_
                  refine lv_lor zx zb dX0_goOn_69 ?_
                  refine nv_asl (show (lN (nxB kind longOf letters words F (3 * (e + 1) + c))) ||| (lN 0) = lN (nxB kind longOf letters words F (3 * (e + 1) + (c + 1))) from (by rw [lN_or]; exact congrArg lN (nxB_f c53))) ?_
                  refine lv_lstore_n (lv' := [(3, .long (lN (nxB kind longOf letters words F (3 * (e + 1) + (c + 1))))), (7, .int (nB (gPX kind longOf letters words F (3 * (e + 1) + c)))), (6, .int (nI c)), (5, .int (nI (e + 1))), (0, .ref (a 0)), (1, .long (lN m_))]) zx zb dX0_goOn_70 rfl hl (by decide) rfl (fun ls hl => ?_)
                  refine lv_iinc (v := nI (c + 1)) (lv' := [(6, .int (nI (c + 1))), (3, .long (lN (nxB kind longOf letters words F (3 * (e + 1) + (c + 1))))), (7, .int (nB (gPX kind longOf letters words F (3 * (e + 1) + c)))), (5, .int (nI (e + 1))), (0, .ref (a 0)), (1, .long (lN m_))]) zx zb dX0_goOn_71 hl (k := 2) rfl (nI_1 _) (by decide) rfl (fun ls hl => ?_)
                  refine lv_goto (tgt := 15) zx zb dX0_goOn_74 (by decide) ?_
                  exact ih15 (c + 1) (by omega) (by omega) _ _ _ hX (lv_sub hl [0, 3, 1, 4, 5] rfl)
                · refine lv_lconst (v := lN 1) zx zb dX0_goOn_56 (by decide) ?_
                  refine lv_iload zx zb dX0_goOn_57 (lv_at hl 2 rfl) ?_
                  refine lv_iload zx zb dX0_goOn_59 (lv_at hl 1 rfl) ?_
                  refine nv_ki zC hX (nv_rS (n := 2) (As := [.int (nI (e + 1)), .int (nI c)]) (rest := [.long (lN 1), .long (lN (nxB kind longOf letters words F (3 * (e + 1) + c)))]) zC hX (mx_endWith (e := e + 1) (c := c) (he := (by omega)) (hc := c18)) nvGb0 (fun _ _ _ => trivial) q307 q308 q59 q309 (by decide +kernel) rfl ⟨Nat.le_of_ble_eq_true rfl, Nat.le_of_ble_eq_true rfl⟩ hl.1 (Nat.le_of_ble_eq_true rfl) dX0_goOn_61 ⟨by first | exact Nat.le_of_ble_eq_true rfl | omega, by first | exact Nat.le_of_ble_eq_true rfl | omega⟩) (fun r u H locs hp hX => ?_)
                  have hr_ : r = nI (nxE (e + 1) c) := hp
                  subst hr_
                  have hX : nvS D a0 (xW dA a rn rt trace len stand first allh hAll fault row hOf farOf rowsN rowsT mcW edW words mcR edR rdgs sh ex) s.heap H locs := hX
                  refine W.cs (cells' := 0) (slots' := 0) (Nat.add_zero _) (Nat.add_zero _) ?_
                  refine lv_lshl zx zb dX0_goOn_64 rfl ?_
                  refine nv_asl (show (lN 1) <<< ((nI (nxE (e + 1) c)).toInt64 &&& 63) = lN (2 ^ nxE (e + 1) c) from (lN_shl1 _ (Nat.lt_trans (nxE_lt (by omega) c18) (by decide)))) ?_
                  refine lv_goto (tgt := 69) zx zb dX0_goOn_65 (by decide) ?_
                  refine lv_lor zx zb dX0_goOn_69 ?_
                  refine nv_asl (show (lN (nxB kind longOf letters words F (3 * (e + 1) + c))) ||| (lN (2 ^ nxE (e + 1) c)) = lN (nxB kind longOf letters words F (3 * (e + 1) + (c + 1))) from (by rw [lN_or]; have z := nxB_t c53 (by rw [nxB_at c18]; exact nxE_lt (by omega) c18); rw [nxB_at c18] at z; exact congrArg lN z)) ?_
                  refine lv_lstore_n (lv' := [(3, .long (lN (nxB kind longOf letters words F (3 * (e + 1) + (c + 1))))), (7, .int (nB (gPX kind longOf letters words F (3 * (e + 1) + c)))), (6, .int (nI c)), (5, .int (nI (e + 1))), (0, .ref (a 0)), (1, .long (lN m_))]) zx zb dX0_goOn_70 rfl hl (by decide) rfl (fun ls hl => ?_)
                  refine lv_iinc (v := nI (c + 1)) (lv' := [(6, .int (nI (c + 1))), (3, .long (lN (nxB kind longOf letters words F (3 * (e + 1) + (c + 1))))), (7, .int (nB (gPX kind longOf letters words F (3 * (e + 1) + c)))), (5, .int (nI (e + 1))), (0, .ref (a 0)), (1, .long (lN m_))]) zx zb dX0_goOn_71 hl (k := 2) rfl (nI_1 _) (by decide) rfl (fun ls hl => ?_)
                  refine lv_goto (tgt := 15) zx zb dX0_goOn_74 (by decide) ?_
                  exact ih15 (c + 1) (by omega) (by omega) _ _ _ hX (lv_sub hl [0, 3, 1, 4, 5] rfl)
              · have c29 := (lcN_eq (by cases F (e + 1) <;> decide) (by decide)).mp c29
                have hF : F (e + 1) = true := by cases h : F (e + 1) with | true => rfl | false => rw [h] at c29; exact absurd c29 (by decide)
                refine lv_aload_n zx zb dX0_goOn_32 rfl (lv_at hl 3 rfl) ?_
                refine lv_iload zx zb dX0_goOn_33 (lv_at hl 1 rfl) ?_
                refine lv_iload zx zb dX0_goOn_35 (lv_at hl 0 rfl) ?_
                refine nv_ki zC hX (nv_rV (n := 2) (As := [.int (nI (e + 1)), .int (nI c)]) (rest := []) (q0 := 0) zC hX (mx_heardBy (e := e + 1) (c := c) (hW := (by first | assumption | omega)) (hok := (by first | assumption | omega)) (he := (by omega)) (hc := c18)) (nvE_b a0 ez) (nvE_keep zG hX) rfl rfl q263 q265 qs2 q59 q266 (by decide +kernel) rfl ⟨Nat.le_of_ble_eq_true rfl, Nat.le_of_ble_eq_true rfl⟩ hl.1 (Nat.le_of_ble_eq_true rfl) dX0_goOn_37 ⟨by first | exact Nat.le_of_ble_eq_true rfl | omega, by first | exact Nat.le_of_ble_eq_true rfl | omega⟩) (fun r u H locs hp hX => ?_)
                have hr_ : r = nI (hbE kind longOf letters words (3 * (e + 1) + c)) := hp
                subst hr_
                have hX : nvS D a0 (xW dA a rn rt trace len stand first allh hAll fault row hOf farOf rowsN rowsT mcW edW words mcR edR rdgs sh ex) s.heap H locs := hX
                refine W.cs (cells' := 0) (slots' := 0) (Nat.add_zero _) (Nat.add_zero _) ?_
                refine nv_if_ne (tgt := 47) zx zb (Nat.lt_of_lt_of_le hbE_lt (Nat.le_trans (pw4 hw4) (by decide))) dX0_goOn_40 (by decide) (fun c40 => ?_) (fun c40 => ?_)
                · refine lv_iconst (v := nI 0) zx zb dX0_goOn_47 (by decide) ?_
                  refine nv_as (show nI 0 = nB (gPX kind longOf letters words F (3 * (e + 1) + c)) from (nB_as0 (by rw [gPX_at c18, decide_eq_false (by omega), Bool.and_false]))) ?_
                  refine lv_istore (lv' := [(7, .int (nB (gPX kind longOf letters words F (3 * (e + 1) + c)))), (6, .int (nI c)), (5, .int (nI (e + 1))), (3, .long (lN (nxB kind longOf letters words F (3 * (e + 1) + c)))), (0, .ref (a 0)), (1, .long (lN m_))]) zx zb dX0_goOn_48 hl (by decide) rfl (fun ls hl => ?_)
                  refine lv_lload_n zx zb dX0_goOn_50 rfl (lv_at hl 3 rfl) ?_
                  refine lv_iload zx zb dX0_goOn_51 (lv_at hl 0 rfl) ?_
                  refine nv_if_eqB (tgt := 68) zx zb dX0_goOn_53 (by decide) (fun c53 => ?_) (fun c53 => ?_)
                  · refine lv_lconst (v := lN 0) zx zb dX0_goOn_68 (by decide) ?_
                    refine lv_lor zx zb dX0_goOn_69 ?_
                    refine nv_asl (show (lN (nxB kind longOf letters words F (3 * (e + 1) + c))) ||| (lN 0) = lN (nxB kind longOf letters words F (3 * (e + 1) + (c + 1))) from (by rw [lN_or]; exact congrArg lN (nxB_f c53))) ?_
                    refine lv_lstore_n (lv' := [(3, .long (lN (nxB kind longOf letters words F (3 * (e + 1) + (c + 1))))), (7, .int (nB (gPX kind longOf letters words F (3 * (e + 1) + c)))), (6, .int (nI c)), (5, .int (nI (e + 1))), (0, .ref (a 0)), (1, .long (lN m_))]) zx zb dX0_goOn_70 rfl hl (by decide) rfl (fun ls hl => ?_)
                    refine lv_iinc (v := nI (c + 1)) (lv' := [(6, .int (nI (c + 1))), (3, .long (lN (nxB kind longOf letters words F (3 * (e + 1) + (c + 1))))), (7, .int (nB (gPX kind longOf letters words F (3 * (e + 1) + c)))), (5, .int (nI (e + 1))), (0, .ref (a 0)), (1, .long (lN m_))]) zx zb dX0_goOn_71 hl (k := 2) rfl (nI_1 _) (by decide) rfl (fun ls hl => ?_)
                    refine lv_goto (tgt := 15) zx zb dX0_goOn_74 (by decide) ?_
                    exact ih15 (c + 1) (by omega) (by omega) _ _ _ hX (lv_sub hl [0, 3, 1, 4, 5] rfl)
                  · refine lv_lconst (v := lN 1) zx zb dX0_goOn_56 (by decide) ?_
                    refine lv_iload zx zb dX0_goOn_57 (lv_at hl 2 rfl) ?_
                    refine lv_iload zx zb dX0_goOn_59 (lv_at hl 1 rfl) ?_
                    refine nv_ki zC hX (nv_rS (n := 2) (As := [.int (nI (e + 1)), .int (nI c)]) (rest := [.long (lN 1), .long (lN (nxB kind longOf letters words F (3 * (e + 1) + c)))]) zC hX (mx_endWith (e := e + 1) (c := c) (he := (by omega)) (hc := c18)) nvGb0 (fun _ _ _ => trivial) q307 q308 q59 q309 (by decide +kernel) rfl ⟨Nat.le_of_ble_eq_true rfl, Nat.le_of_ble_eq_true rfl⟩ hl.1 (Nat.le_of_ble_eq_true rfl) dX0_goOn_61 ⟨by first | exact Nat.le_of_ble_eq_true rfl | omega, by first | exact Nat.le_of_ble_eq_true rfl | omega⟩) (fun r u H locs hp hX => ?_)
                    have hr_ : r = nI (nxE (e + 1) c) := hp
                    subst hr_
                    have hX : nvS D a0 (xW dA a rn rt trace len stand first allh hAll fault row hOf farOf rowsN rowsT mcW edW words mcR edR rdgs sh ex) s.heap H locs := hX
                    refine W.cs (cells' := 0) (slots' := 0) (Nat.add_zero _) (Nat.add_zero _) ?_
                    refine lv_lshl zx zb dX0_goOn_64 rfl ?_
                    refine nv_asl (show (lN 1) <<< ((nI (nxE (e + 1) c)).toInt64 &&& 63) = lN (2 ^ nxE (e + 1) c) from (lN_shl1 _ (Nat.lt_trans (nxE_lt (by omega) c18) (by decide)))) ?_
                    refine lv_goto (tgt := 69) zx zb dX0_goOn_65 (by decide) ?_
                    refine lv_lor zx zb dX0_goOn_69 ?_
                    refine nv_asl (show (lN (nxB kind longOf letters words F (3 * (e + 1) + c))) ||| (lN (2 ^ nxE (e + 1) c)) = lN (nxB kind longOf letters words F (3 * (e + 1) + (c + 1))) from (by rw [lN_or]; have z := nxB_t c53 (by rw [nxB_at c18]; exact nxE_lt (by omega) c18); rw [nxB_at c18] at z; exact congrArg lN z)) ?_
                    refine lv_lstore_n (lv' := [(3, .long (lN (nxB kind longOf letters words F (3 * (e + 1) + (c + 1))))), (7, .int (nB (gPX kind longOf letters words F (3 * (e + 1) + c)))), (6, .int (nI c)), (5, .int (nI (e + 1))), (0, .ref (a 0)), (1, .long (lN m_))]) zx zb dX0_goOn_70 rfl hl (by decide) rfl (fun ls hl => ?_)
                    refine lv_iinc (v := nI (c + 1)) (lv' := [(6, .int (nI (c + 1))), (3, .long (lN (nxB kind longOf letters words F (3 * (e + 1) + (c + 1))))), (7, .int (nB (gPX kind longOf letters words F (3 * (e + 1) + c)))), (5, .int (nI (e + 1))), (0, .ref (a 0)), (1, .long (lN m_))]) zx zb dX0_goOn_71 hl (k := 2) rfl (nI_1 _) (by decide) rfl (fun ls hl => ?_)
                    refine lv_goto (tgt := 15) zx zb dX0_goOn_74 (by decide) ?_
                    exact ih15 (c + 1) (by omega) (by omega) _ _ _ hX (lv_sub hl [0, 3, 1, 4, 5] rfl)
                · refine lv_iconst (v := nI 1) zx zb dX0_goOn_43 (by decide) ?_
                  refine lv_goto (tgt := 48) zx zb dX0_goOn_44 (by decide) ?_
                  refine nv_as (show nI 1 = nB (gPX kind longOf letters words F (3 * (e + 1) + c)) from (nB_as1 (by rw [gPX_at c18, hF, decide_eq_true c40]; rfl))) ?_
                  refine lv_istore (lv' := [(7, .int (nB (gPX kind longOf letters words F (3 * (e + 1) + c)))), (6, .int (nI c)), (5, .int (nI (e + 1))), (3, .long (lN (nxB kind longOf letters words F (3 * (e + 1) + c)))), (0, .ref (a 0)), (1, .long (lN m_))]) zx zb dX0_goOn_48 hl (by decide) rfl (fun ls hl => ?_)
                  refine lv_lload_n zx zb dX0_goOn_50 rfl (lv_at hl 3 rfl) ?_
                  refine lv_iload zx zb dX0_goOn_51 (lv_at hl 0 rfl) ?_
                  refine nv_if_eqB (tgt := 68) zx zb dX0_goOn_53 (by decide) (fun c53 => ?_) (fun c53 => ?_)
                  · refine lv_lconst (v := lN 0) zx zb dX0_goOn_68 (by decide) ?_
                    refine lv_lor zx zb dX0_goOn_69 ?_
                    refine nv_asl (show (lN (nxB kind longOf letters words F (3 * (e + 1) + c))) ||| (lN 0) = lN (nxB kind longOf letters words F (3 * (e + 1) + (c + 1))) from (by rw [lN_or]; exact congrArg lN (nxB_f c53))) ?_
                    refine lv_lstore_n (lv' := [(3, .long (lN (nxB kind longOf letters words F (3 * (e + 1) + (c + 1))))), (7, .int (nB (gPX kind longOf letters words F (3 * (e + 1) + c)))), (6, .int (nI c)), (5, .int (nI (e + 1))), (0, .ref (a 0)), (1, .long (lN m_))]) zx zb dX0_goOn_70 rfl hl (by decide) rfl (fun ls hl => ?_)
                    refine lv_iinc (v := nI (c + 1)) (lv' := [(6, .int (nI (c + 1))), (3, .long (lN (nxB kind longOf letters words F (3 * (e + 1) + (c + 1))))), (7, .int (nB (gPX kind longOf letters words F (3 * (e + 1) + c)))), (5, .int (nI (e + 1))), (0, .ref (a 0)), (1, .long (lN m_))]) zx zb dX0_goOn_71 hl (k := 2) rfl (nI_1 _) (by decide) rfl (fun ls hl => ?_)
                    refine lv_goto (tgt := 15) zx zb dX0_goOn_74 (by decide) ?_
                    exact ih15 (c + 1) (by omega) (by omega) _ _ _ hX (lv_sub hl [0, 3, 1, 4, 5] rfl)
                  · refine lv_lconst (v := lN 1) zx zb dX0_goOn_56 (by decide) ?_
                    refine lv_iload zx zb dX0_goOn_57 (lv_at hl 2 rfl) ?_
                    refine lv_iload zx zb dX0_goOn_59 (lv_at hl 1 rfl) ?_
                    refine nv_ki zC hX (nv_rS (n := 2) (As := [.int (nI (e + 1)), .int (nI c)]) (rest := [.long (lN 1), .long (lN (nxB kind longOf letters words F (3 * (e + 1) + c)))]) zC hX (mx_endWith (e := e + 1) (c := c) (he := (by omega)) (hc := c18)) nvGb0 (fun _ _ _ => trivial) q307 q308 q59 q309 (by decide +kernel) rfl ⟨Nat.le_of_ble_eq_true rfl, Nat.le_of_ble_eq_true rfl⟩ hl.1 (Nat.le_of_ble_eq_true rfl) dX0_goOn_61 ⟨by first | exact Nat.le_of_ble_eq_true rfl | omega, by first | exact Nat.le_of_ble_eq_true rfl | omega⟩) (fun r u H locs hp hX => ?_)
                    have hr_ : r = nI (nxE (e + 1) c) := hp
                    subst hr_
                    have hX : nvS D a0 (xW dA a rn rt trace len stand first allh hAll fault row hOf farOf rowsN rowsT mcW edW words mcR edR rdgs sh ex) s.heap H locs := hX
                    refine W.cs (cells' := 0) (slots' := 0) (Nat.add_zero _) (Nat.add_zero _) ?_
                    refine lv_lshl zx zb dX0_goOn_64 rfl ?_
                    refine nv_asl (show (lN 1) <<< ((nI (nxE (e + 1) c)).toInt64 &&& 63) = lN (2 ^ nxE (e + 1) c) from (lN_shl1 _ (Nat.lt_trans (nxE_lt (by omega) c18) (by decide)))) ?_
                    refine lv_goto (tgt := 69) zx zb dX0_goOn_65 (by decide) ?_
                    refine lv_lor zx zb dX0_goOn_69 ?_
                    refine nv_asl (show (lN (nxB kind longOf letters words F (3 * (e + 1) + c))) ||| (lN (2 ^ nxE (e + 1) c)) = lN (nxB kind longOf letters words F (3 * (e + 1) + (c + 1))) from (by rw [lN_or]; have z := nxB_t c53 (by rw [nxB_at c18]; exact nxE_lt (by omega) c18); rw [nxB_at c18] at z; exact congrArg lN z)) ?_
                    refine lv_lstore_n (lv' := [(3, .long (lN (nxB kind longOf letters words F (3 * (e + 1) + (c + 1))))), (7, .int (nB (gPX kind longOf letters words F (3 * (e + 1) + c)))), (6, .int (nI c)), (5, .int (nI (e + 1))), (0, .ref (a 0)), (1, .long (lN m_))]) zx zb dX0_goOn_70 rfl hl (by decide) rfl (fun ls hl => ?_)
                    refine lv_iinc (v := nI (c + 1)) (lv' := [(6, .int (nI (c + 1))), (3, .long (lN (nxB kind longOf letters words F (3 * (e + 1) + (c + 1))))), (7, .int (nB (gPX kind longOf letters words F (3 * (e + 1) + c)))), (5, .int (nI (e + 1))), (0, .ref (a 0)), (1, .long (lN m_))]) zx zb dX0_goOn_71 hl (k := 2) rfl (nI_1 _) (by decide) rfl (fun ls hl => ?_)
                    refine lv_goto (tgt := 15) zx zb dX0_goOn_74 (by decide) ?_
                    exact ih15 (c + 1) (by omega) (by omega) _ _ _ hX (lv_sub hl [0, 3, 1, 4, 5] rfl)
        exact L15 _ 0 (by omega) (Nat.lt_succ_self _) _ _ _ hX (lv_sub hl [0, 1, 2, 3, 4] rfl)
  rw [show lN 0 = lN (nxB kind longOf letters words F (3 * (0 + 1))) from congrArg lN (nxB_3 h0).symm] at hl
  exact L5 _ 0 (by omega) (Nat.lt_succ_self _) _ _ _ hX (lv_sub hl [0, 1, 2, 3] rfl)

set_option maxHeartbeats 4000000 in
theorem mx_longest   (hW : wdIn dA (a 0) words kind longOf letters edW ez fW pa la ex) (hok : wOK words kind longOf letters) : nMt l D dA a0 yX0_longest cX0_longest 4 (some .int) 7 155 0 0 (nvE a0 ez) [.ref (a 0)] (xW dA a rn rt trace len stand first allh hAll fault row hOf farOf rowsN rowsT mcW edW words mcR edR rdgs sh ex) (nQi D a0 (fun (r : Int32) (_ : Unit) => r = F_longest kind longOf letters words) (fun (_ : Unit) => xW dA a rn rt trace len stand first allh hAll fault row hOf farOf rowsN rowsT mcW edW words mcR edR rdgs sh ex)) := by
  refine nv_start (by decide) (Nat.le_of_ble_eq_true rfl) fun zp ze s zm zlo zme zcd ls zC zr zk znm hX zG hl => ?_
  have zx := zC.1
  have zb := zC.2.1
  generalize zargs : ([.ref (a 0)] : List Value).toArray = zar at zC ⊢
  generalize zQ : MQ zlo _ zar s _ _ _ = Q
  have hX : nvS D a0 (xW dA a rn rt trace len stand first allh hAll fault row hOf farOf rowsN rowsT mcW edW words mcR edR rdgs sh ex) s.heap s.heap [] := hX
  have hl : lv_has ls 4 [(0, .ref (a 0))] := hl
  obtain ⟨H, zH⟩ : ∃ H, H = s.heap := ⟨_, rfl⟩
  have hX : nvS D a0 (xW dA a rn rt trace len stand first allh hAll fault row hOf farOf rowsN rowsT mcW edW words mcR edR rdgs sh ex) s.heap H [] := by rw [zH]; exact hX
  rw [show W zp l ze (rm_ 7 155 0 0) s zm zar zlo zme zcd s.heap [] 0 0 Q = W zp l ze (rm_ 7 155 0 0) s zm zar zlo zme zcd H [] 0 0 Q by rw [zH]]
  generalize ([] : List Loc) = locs at hX ⊢
  have hw4 := hok.1
  refine lv_aload_n zx zb dX0_longest_0 rfl (lv_at hl 0 rfl) ?_
  refine nv_ki zC hX (nv_rV (n := 0) (As := []) (rest := []) (q0 := 0) zC hX (mx_noWords (hw := (by first | assumption | omega))) (nvE_b a0 ez) (nvE_keep zG hX) rfl rfl q332 q334 qs4 q59 q335 (by decide +kernel) rfl ⟨Nat.le_of_ble_eq_true rfl, Nat.le_of_ble_eq_true rfl⟩ hl.1 (Nat.le_of_ble_eq_true rfl) dX0_longest_1 ⟨by first | exact Nat.le_of_ble_eq_true rfl | omega, by first | exact Nat.le_of_ble_eq_true rfl | omega⟩) (fun r u H locs hp hX => ?_)
  have hr_ : r = nB (decide (words = 0)) := hp
  subst hr_
  have hX : nvS D a0 (xW dA a rn rt trace len stand first allh hAll fault row hOf farOf rowsN rowsT mcW edW words mcR edR rdgs sh ex) s.heap H locs := hX
  refine W.cs (cells' := 0) (slots' := 0) (Nat.add_zero _) (Nat.add_zero _) ?_
  refine nv_if_eqB (tgt := 10) zx zb dX0_longest_4 (by decide) (fun c4 => ?_) (fun c4 => ?_)
  · have e_ := of_decide_eq_false c4
    refine lv_ldc2 (v := lN 2) zx zb zC.2.2.2.1 (zC.2.2.2.2.1 _ q327) dX0_longest_10 ?_
    refine lv_lstore_n (lv' := [(1, .long (lN 2)), (0, .ref (a 0))]) zx zb dX0_longest_13 rfl hl (by decide) rfl (fun ls hl => ?_)
    refine lv_iconst (v := (-1)) zx zb dX0_longest_14 (by decide) ?_
    refine lv_istore_n (lv' := [(3, .int (-1)), (1, .long (lN 2)), (0, .ref (a 0))]) zx zb dX0_longest_15 rfl hl (by decide) rfl (fun ls hl => ?_)
    have L16 : ∀ (zn : Nat) (j : Nat) (hj : j ≤ 61) (hal : ∀ i, i < j → anN kind longOf letters words i = true), 61 - j < zn → ∀ (H : Heap) (locs : List Loc) (ls : Array Slot), nvS D a0 (xW dA a rn rt trace len stand first allh hAll fault row hOf farOf rowsN rowsT mcW edW words mcR edR rdgs sh ex) s.heap H locs → lv_has ls 4 [(3, .int (nI j - nI 1)), (1, .long (lN (bitsUp (frX kind longOf letters words j) 54))), (0, .ref (a 0))] → W zp l ze (rm_ 7 155 0 0) s zm zar zlo zme zcd H locs 0 0 Q (F0 zm 16 ls []) := by
      intro zn
      induction zn with
      | zero => intro j hj hal zf; exact absurd zf (Nat.not_lt_zero _)
      | succ zn ih16 =>
        intro j hj hal zf H locs ls hX hl
        refine lv_lload_n zx zb dX0_longest_16 rfl (lv_at hl 1 rfl) ?_
        refine lv_lconst (v := lN 0) zx zb dX0_longest_17 (by decide) ?_
        refine W.lcmp zx zb dX0_longest_18 ?_
        refine lv_if_eq (x := lg_cmp (lN (bitsUp (frX kind longOf letters words j) 54)) (lN 0)) (tgt := 40) zx zb dX0_longest_19 (by decide) (fun c19 => ?_) (fun c19 => ?_)
        · have c19 := (lcN_eq (Nat.lt_trans (bitsUp_lt _ 54) (by decide)) (by decide)).mp c19
          refine lv_lload_n zx zb dX0_longest_40 rfl (lv_at hl 1 rfl) ?_
          refine lv_lconst (v := lN 0) zx zb dX0_longest_41 (by decide) ?_
          refine W.lcmp zx zb dX0_longest_42 ?_
          refine lv_if_ne (x := lg_cmp (lN (bitsUp (frX kind longOf letters words j) 54)) (lN 0)) (tgt := 50) zx zb dX0_longest_43 (by decide) (fun c43 => ?_) (fun c43 => ?_)
          · exact absurd ((lcN_eq (Nat.lt_trans (bitsUp_lt _ 54) (by decide)) (by decide)).mpr c19) c43
          · have c43 := (lcN_eq (Nat.lt_trans (bitsUp_lt _ 54) (by decide)) (by decide)).mp c43
            refine lv_iload_n zx zb dX0_longest_46 rfl (lv_at hl 0 rfl) ?_
            refine lv_goto (tgt := 52) zx zb dX0_longest_47 (by decide) ?_
            rw [← zQ]
            exact nv_endi zC zr zk () hX (by obtain ⟨z1, z2⟩ := long_v e_ hal (by rw [← frX_an hok]; exact bits_0.mp c43); rw [z2, pk_sub z1]) (by omega) (by omega) dX0_longest_52
        · have c19 := fun z => c19 ((lcN_eq (Nat.lt_trans (bitsUp_lt _ 54) (by decide)) (by decide)).mpr z)
          have han : anN kind longOf letters words j = true := by rw [← frX_an hok]; cases h : anyUp (frX kind longOf letters words j) 54 with | true => rfl | false => exact absurd (bits_0.mpr h) c19
          refine lv_iload_n zx zb dX0_longest_22 rfl (lv_at hl 0 rfl) ?_
          refine lv_bipush (v := nI 60) zx zb dX0_longest_23 (by decide) ?_
          refine lv_icmp_ge (x := nI j - nI 1) (y := nI 60) (tgt := 40) zx zb dX0_longest_25 (by decide) (fun c25 => ?_) (fun c25 => ?_)
          · have hj61 := (lg_60 hj).mp c25
            refine lv_lload_n zx zb dX0_longest_40 rfl (lv_at hl 1 rfl) ?_
            refine lv_lconst (v := lN 0) zx zb dX0_longest_41 (by decide) ?_
            refine W.lcmp zx zb dX0_longest_42 ?_
            refine lv_if_ne (x := lg_cmp (lN (bitsUp (frX kind longOf letters words j) 54)) (lN 0)) (tgt := 50) zx zb dX0_longest_43 (by decide) (fun c43 => ?_) (fun c43 => ?_)
            · have c43 := fun z => c43 ((lcN_eq (Nat.lt_trans (bitsUp_lt _ 54) (by decide)) (by decide)).mpr z)
              refine lv_bipush (v := (-9)) zx zb dX0_longest_50 (by decide) ?_
              rw [← zQ]
              exact nv_endi zC zr zk () hX (by exact (long_n e_ (by omega) hal).symm) (by omega) (by omega) dX0_longest_52
            · exact absurd ((lcN_eq (Nat.lt_trans (bitsUp_lt _ 54) (by decide)) (by decide)).mp c43) c19
          · have hj61 : ¬ 61 ≤ j := fun z => c25 ((lg_60 hj).mpr z)
            refine lv_aload_n zx zb dX0_longest_28 rfl (lv_at hl 2 rfl) ?_
            refine lv_lload_n zx zb dX0_longest_29 rfl (lv_at hl 1 rfl) ?_
            refine nv_kl zC hX (nv_rV (n := 1) (As := [.long (lN (bitsUp (frX kind longOf letters words j) 54))]) (rest := []) (q0 := 0) zC hX (mx_goOn (F := frX kind longOf letters words j) (m_ := bitsUp (frX kind longOf letters words j) 54) (hW := (by first | assumption | omega)) (hok := (by first | assumption | omega)) (hm := rfl) (h0 := (by cases h : frX kind longOf letters words j 0 with | false => rfl | true => obtain ⟨m0, a1, a2⟩ := (frX_eq hok j).2 0 (by decide) h; have := (phi_lt m0 a1).1; omega))) (nvE_b a0 ez) (nvE_keep zG hX) rfl rfl q395 q397 qs9 q59 q398 (by decide +kernel) rfl ⟨Nat.le_of_ble_eq_true rfl, Nat.le_of_ble_eq_true rfl⟩ hl.1 (Nat.le_of_ble_eq_true rfl) dX0_longest_30 ⟨by first | exact Nat.le_of_ble_eq_true rfl | omega, by first | exact Nat.le_of_ble_eq_true rfl | omega⟩) (fun r u H locs hp hX => ?_)
            have hr_ : r = lN (nxB kind longOf letters words (frX kind longOf letters words j) 162) := hp
            subst hr_
            have hX : nvS D a0 (xW dA a rn rt trace len stand first allh hAll fault row hOf farOf rowsN rowsT mcW edW words mcR edR rdgs sh ex) s.heap H locs := hX
            refine W.cs (cells' := 0) (slots' := 0) (Nat.add_zero _) (Nat.add_zero _) ?_
            refine nv_asl (show lN (nxB kind longOf letters words (frX kind longOf letters words j) 162) = lN (bitsUp (frX kind longOf letters words (j + 1)) 54) from rfl) ?_
            refine lv_lstore_n (lv' := [(1, .long (lN (bitsUp (frX kind longOf letters words (j + 1)) 54))), (3, .int (nI j - nI 1)), (0, .ref (a 0))]) zx zb dX0_longest_33 rfl hl (by decide) rfl (fun ls hl => ?_)
            refine lv_iinc (v := nI (j + 1) - nI 1) (lv' := [(3, .int (nI (j + 1) - nI 1)), (1, .long (lN (bitsUp (frX kind longOf letters words (j + 1)) 54))), (0, .ref (a 0))]) zx zb dX0_longest_34 hl (k := 1) rfl (lg_s j) (by decide) rfl (fun ls hl => ?_)
            refine lv_goto (tgt := 16) zx zb dX0_longest_37 (by decide) ?_
            exact ih16 (j + 1) (by omega) (fun i hi => by
              by_cases z : i = j
              · rw [z]; exact han
              · exact hal i (by omega)) (by omega) _ _ _ hX (lv_sub hl [0, 1, 2] rfl)
    rw [show lN 2 = lN (bitsUp (frX kind longOf letters words 0) 54) from congrArg lN lg_2.symm, show ((-1) : Int32) = nI 0 - nI 1 from by decide] at hl
    exact L16 _ 0 (by omega) (fun i h => absurd h (Nat.not_lt_zero _)) (Nat.lt_succ_self _) _ _ _ hX (lv_sub hl [0, 1, 2] rfl)
  · refine lv_bipush (v := (-3)) zx zb dX0_longest_7 (by decide) ?_
    rw [← zQ]
    exact nv_endi zC zr zk () hX (by unfold F_longest; rw [if_pos (of_decide_eq_true c4)]) (by omega) (by omega) dX0_longest_9
end CL_54_d2
