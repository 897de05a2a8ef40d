/-! printed by klass.py -/
set_option maxRecDepth 100000
section CL_48_c9
variable {l : Launch} {D : va_G} {dA : Nat → ClassId} {a0 ez : Nat} {ex : va_W} {a : Nat → Nat} {rn : Nat} {rt : Nat} {trace : Int32} {len : Nat} {stand : Nat} {first : Option Nat} {allh : Option Nat} {hAll : Nat} {fault : Int32} {row : Nat → Nat} {hOf : Nat → Nat} {farOf : Nat → Option Nat} {rowsN : Nat → Nat} {rowsT : Nat → Nat} {mcW : Int32} {edW : Nat} {words : Nat} {mcR : Int32} {edR : Nat} {rdgs : Nat} {sh : Nat → Option Nat} {kind longOf letters : Nat → Nat} {fW : Nat → Option Nat} {pa la : Nat → Nat} {rWord rMany rStands rRow : Nat → Nat} {fR : Nat → Option Nat} {pr lr : Nat → Nat}
set_option maxHeartbeats 4000000 in
theorem mx_all  (k : Int32) (hW : wdIn dA (a 0) words kind longOf letters edW ez fW pa la ex) (hok : wOK words kind longOf letters) : nMt l D dA a0 yX0_all cX0_all 7 (some .int) 7 154 0 0 (nvE a0 ez) [.ref (a 0), .int k] (xW dA a rn rt trace len stand first allh hAll fault row hOf farOf rowsN rowsT mcW edW words mcR edR rdgs sh ex) (nQi D a0 (fun (r : Int32) (farOf' : Nat → Option Nat) => r = F_all kind longOf letters words k) (fun (farOf' : Nat → Option Nat) => xW dA a rn rt trace len stand first allh hAll fault row hOf farOf' rowsN rowsT mcW edW words mcR edR rdgs sh ex)) := by
  refine nv_start (by decide) (Nat.le_of_ble_eq_true rfl) fun zp ze s zm zlo zme zcd ls zC zr zk znm hX zG hl => ?_
  have zx := zC.1
  have zb := zC.2.1
  generalize zargs : ([.ref (a 0), .int k] : List Value).toArray = zar at zC ⊢
  generalize zQ : MQ zlo _ zar s _ _ _ = Q
  have hX : nvS D a0 (xW dA a rn rt trace len stand first allh hAll fault row hOf farOf rowsN rowsT mcW edW words mcR edR rdgs sh ex) s.heap s.heap [] := hX
  have hl : lv_has ls 7 [(0, .ref (a 0)), (1, .int k)] := hl
  obtain ⟨H, zH⟩ : ∃ H, H = s.heap := ⟨_, rfl⟩
  have hX : nvS D a0 (xW dA a rn rt trace len stand first allh hAll fault row hOf farOf rowsN rowsT mcW edW words mcR edR rdgs sh ex) s.heap H [] := by rw [zH]; exact hX
  rw [show W zp l ze (rm_ 7 154 0 0) s zm zar zlo zme zcd s.heap [] 0 0 Q = W zp l ze (rm_ 7 154 0 0) s zm zar zlo zme zcd H [] 0 0 Q by rw [zH]]
  generalize ([] : List Loc) = locs at hX ⊢
  have hw4 := hok.1
  have hp16 := pw4 hw4
  have hp1 : 0 < 2 ^ words := Nat.pow_pos (by decide)
  refine lv_iload_n zx zb dX0_all_0 rfl (lv_at hl 1 rfl) ?_
  refine lv_i2l zx zb dX0_all_1 rfl ?_
  refine lv_ldc2 (v := (-1)) zx zb zC.2.2.2.1 (zC.2.2.2.2.1 _ q360) dX0_all_2 ?_
  refine lv_ldc2 (v := lN 15) zx zb zC.2.2.2.1 (zC.2.2.2.2.1 _ q361) dX0_all_5 ?_
  refine nv_ki zC hX (nv_rS (n := 3) (As := [.long k.toInt64, .long (-1), .long (lN 15)]) (rest := []) zC hX (mx_in (v := k.toInt64) (lo := (-1)) (hi := lN 15)) nvGb0 (fun _ _ _ => trivial) q197 q198 q59 q199 (by decide +kernel) rfl ⟨Nat.le_of_ble_eq_true rfl, Nat.le_of_ble_eq_true rfl⟩ hl.1 (Nat.le_of_ble_eq_true rfl) dX0_all_8 ⟨by first | exact Nat.le_of_ble_eq_true rfl | omega, by first | exact Nat.le_of_ble_eq_true rfl | omega⟩) (fun r u H locs hp hX => ?_)
  have hr_ : r = nB (decide ((-1) ≤ k.toInt64) && decide (k.toInt64 ≤ lN 15)) := hp
  subst hr_
  have hX : nvS D a0 (xW dA a rn rt trace len stand first allh hAll fault row hOf farOf rowsN rowsT mcW edW words mcR edR rdgs sh ex) s.heap H locs := hX
  refine W.cs (cells' := 0) (slots' := 0) (Nat.add_zero _) (Nat.add_zero _) ?_
  refine nv_as (show nB (decide ((-1) ≤ k.toInt64) && decide (k.toInt64 ≤ lN 15)) = nB (decide ((-1) ≤ k) && decide (k ≤ nI 15)) from (congrArg nB (all_in k))) ?_
  refine nv_if_neB (tgt := 17) zx zb dX0_all_11 (by decide) (fun c11 => ?_) (fun c11 => ?_)
  · refine lv_aload_n zx zb dX0_all_17 rfl (lv_at hl 0 rfl) ?_
    refine nv_ki zC hX (nv_rV (n := 0) (As := []) (rest := []) (q0 := 0) zC hX (mx_noWords (hw := (by first | assumption | omega))) (nvE_b a0 ez) (nvE_keep zG hX) rfl rfl q332 q334 qs4 q59 q335 (by decide +kernel) rfl ⟨Nat.le_of_ble_eq_true rfl, Nat.le_of_ble_eq_true rfl⟩ hl.1 (Nat.le_of_ble_eq_true rfl) dX0_all_18 ⟨by first | exact Nat.le_of_ble_eq_true rfl | omega, by first | exact Nat.le_of_ble_eq_true rfl | omega⟩) (fun r u H locs hp hX => ?_)
    have hr_ : r = nB (decide (words = 0)) := hp
    subst hr_
    have hX : nvS D a0 (xW dA a rn rt trace len stand first allh hAll fault row hOf farOf rowsN rowsT mcW edW words mcR edR rdgs sh ex) s.heap H locs := hX
    refine W.cs (cells' := 0) (slots' := 0) (Nat.add_zero _) (Nat.add_zero _) ?_
    refine nv_if_eqB (tgt := 27) zx zb dX0_all_21 (by decide) (fun c21 => ?_) (fun c21 => ?_)
    · refine lv_aload_n zx zb dX0_all_27 rfl (lv_at hl 0 rfl) ?_
      have e_ := of_decide_eq_false c21
      refine nv_kv zC hX (nv_rV (n := 0) (As := []) (rest := []) (q0 := 0) zC hX (mx_measures (hW := (by first | assumption | omega)) (hok := (by first | assumption | omega))) (nvE_b a0 ez) (nvE_keep zG hX) rfl rfl q362 q364 qs5 q59 q365 (by decide +kernel) rfl ⟨Nat.le_of_ble_eq_true rfl, Nat.le_of_ble_eq_true rfl⟩ hl.1 (Nat.le_of_ble_eq_true rfl) dX0_all_28 ⟨by first | exact Nat.le_of_ble_eq_true rfl | omega, by first | exact Nat.le_of_ble_eq_true rfl | omega⟩) (fun u H locs hp hX => ?_)
      obtain ⟨farOf'_3, d'_3, v'_3⟩ := u
      have h28 : (∀ j, goE words j → farOf'_3 j = dsU (stE kind longOf letters words) (gE words) d'_3 j) ∧ (dsU (stE kind longOf letters words) (gE words) d'_3 1 = some v'_3) ∧ d'_3 ≤ 16 := hp
      have hX : nvS D a0 (xW dA a rn rt trace len stand first allh hAll fault row hOf farOf'_3 rowsN rowsT mcW edW words mcR edR rdgs sh ex) s.heap H locs := hX
      refine W.cs (cells' := 0) (slots' := 0) (Nat.add_zero _) (Nat.add_zero _) ?_
      obtain ⟨hf, hv, hd⟩ := h28
      have hvd : v'_3 ≤ d'_3 := dsU_le hv
      generalize farOf'_3 = fo at hf hX
      generalize v'_3 = v at hv hvd
      generalize d'_3 = d at hf hv hvd hd
      have go1 : goE words 1 := ⟨by decide, by rw [show 1 / 54 = 0 from rfl]; exact hp1⟩
      have hD0 : dsD kind longOf letters words 0 = some v := (al_d hok (by decide) hvd (by omega)).mp (by rw [psi_0]; exact hv)
      have hfo1 : fo 1 = some v := (hf 1 go1).trans hv
      have hv31 : v < 2 ^ 31 := (by omega)
      refine lv_aload_n zx zb dX0_all_31 rfl (lv_at hl 0 rfl) ?_
      refine nv_get zC hX in_X0 0 rfl rfl 9 (by decide) q140 (fun _ h => h) rfl dX0_all_32 ?_
      refine lv_iconst (v := nI 1) zx zb dX0_all_35 (by decide) ?_
      refine nv_iald (v := nI v) zC hX 4 rfl (by decide) (by decide) (show oI (fo 1) = nI v by rw [hfo1]; rfl) dX0_all_36 ?_
      refine lv_istore_n (lv' := [(2, .int (nI v)), (0, .ref (a 0)), (1, .int k)]) zx zb dX0_all_37 rfl hl (by decide) rfl (fun ls hl => ?_)
      refine lv_iconst (v := nI 0) zx zb dX0_all_38 (by decide) ?_
      refine lv_istore_n (lv' := [(3, .int (nI 0)), (2, .int (nI v)), (0, .ref (a 0)), (1, .int k)]) zx zb dX0_all_39 rfl hl (by decide) rfl (fun ls hl => ?_)
      refine lv_iconst (v := nI 1) zx zb dX0_all_40 (by decide) ?_
      refine lv_istore (lv' := [(4, .int (nI 1)), (3, .int (nI 0)), (2, .int (nI v)), (0, .ref (a 0)), (1, .int k)]) zx zb dX0_all_41 hl (by decide) rfl (fun ls hl => ?_)
      refine lv_bipush (v := (-9)) zx zb dX0_all_43 (by decide) ?_
      refine lv_istore (lv' := [(5, .int (-9)), (4, .int (nI 1)), (3, .int (nI 0)), (2, .int (nI v)), (0, .ref (a 0)), (1, .int k)]) zx zb dX0_all_45 hl (by decide) rfl (fun ls hl => ?_)
      refine lv_iconst (v := nI 0) zx zb dX0_all_47 (by decide) ?_
      refine lv_istore (lv' := [(6, .int (nI 0)), (5, .int (-9)), (4, .int (nI 1)), (3, .int (nI 0)), (2, .int (nI v)), (0, .ref (a 0)), (1, .int k)]) zx zb dX0_all_48 hl (by decide) rfl (fun ls hl => ?_)
      have L50 : ∀ (zn : Nat) (q : Nat) (hqv : q ≤ v) (hqk : q = 0 ∨ nI (q - 1) ≤ k) (hs : (grA (stC kind longOf letters words) (dsD kind longOf letters words) 0 q).1 < 640) (hgo : goE words (psi (grA (stC kind longOf letters words) (dsD kind longOf letters words) 0 q).1)) (hD : dsD kind longOf letters words ((grA (stC kind longOf letters words) (dsD kind longOf letters words) 0 q).1) = some (v - q)), v - q < zn → ∀ (H : Heap) (locs : List Loc) (ls : Array Slot), nvS D a0 (xW dA a rn rt trace len stand first allh hAll fault row hOf fo rowsN rowsT mcW edW words mcR edR rdgs sh ex) s.heap H locs → lv_has ls 7 [(6, .int (nI q)), (5, .int (lsI q (grA (stC kind longOf letters words) (dsD kind longOf letters words) 0 q).2)), (4, .int (nI (phi ((grA (stC kind longOf letters words) (dsD kind longOf letters words) 0 q).1 / 16)))), (3, .int (nI ((grA (stC kind longOf letters words) (dsD kind longOf letters words) 0 q).1 % 16))), (2, .int (nI v)), (0, .ref (a 0)), (1, .int k)] → W zp l ze (rm_ 7 154 0 0) s zm zar zlo zme zcd H locs 0 0 Q (F0 zm 50 ls []) := by
        intro zn
        induction zn with
        | zero => intro q hqv hqk hs hgo hD zf; exact absurd zf (Nat.not_lt_zero _)
        | succ zn ih50 =>
          intro q hqv hqk hs hgo hD zf H locs ls hX hl
          refine lv_iload zx zb dX0_all_50 (lv_at hl 0 rfl) ?_
          refine lv_iload_n zx zb dX0_all_52 rfl (lv_at hl 6 rfl) ?_
          refine lv_icmp_gt (x := nI q) (y := k) (tgt := 132) zx zb dX0_all_53 (by decide) (fun c53 => ?_) (fun c53 => ?_)
          · refine lv_iload_n zx zb dX0_all_132 rfl (lv_at hl 6 rfl) ?_
            refine lv_if_ge (x := k) (tgt := 140) zx zb dX0_all_133 (by decide) (fun c133 => ?_) (fun c133 => ?_)
            · refine lv_iload_n zx zb dX0_all_140 rfl (lv_at hl 6 rfl) ?_
              refine lv_iload_n zx zb dX0_all_141 rfl (lv_at hl 4 rfl) ?_
              refine lv_icmp_ge (x := k) (y := nI v) (tgt := 150) zx zb dX0_all_142 (by decide) (fun c142 => ?_) (fun c142 => ?_)
              · refine lv_bipush (v := (-9)) zx zb dX0_all_150 (by decide) ?_
                rw [← zQ]
                exact nv_endi zC zr zk fo hX (by unfold F_all; rw [if_pos c11, if_neg e_, hD0, if_neg (all_m1 c133)]; exact all_end2 c133 c142 hv31) (by omega) (by omega) dX0_all_152
              · refine lv_iload zx zb dX0_all_145 (lv_at hl 1 rfl) ?_
                refine lv_goto (tgt := 152) zx zb dX0_all_147 (by decide) ?_
                rw [← zQ]
                exact nv_endi zC zr zk fo hX (by unfold F_all; rw [if_pos c11, if_neg e_, hD0, if_neg (all_m1 c133), if_pos (show k < oI (some v) from Int32.not_le.mp c142)]; rw [all_end3 c133 c142 hv31 hqv hqk (Or.inl c53)]; rfl) (by omega) (by omega) dX0_all_152
            · refine lv_iload_n zx zb dX0_all_136 rfl (lv_at hl 4 rfl) ?_
              refine lv_goto (tgt := 152) zx zb dX0_all_137 (by decide) ?_
              rw [← zQ]
              exact nv_endi zC zr zk fo hX (by unfold F_all; rw [if_pos c11, if_neg e_, hD0]; exact all_end1 c11 c133) (by omega) (by omega) dX0_all_152
          · refine lv_iload zx zb dX0_all_56 (lv_at hl 0 rfl) ?_
            refine lv_iload_n zx zb dX0_all_58 rfl (lv_at hl 4 rfl) ?_
            refine nv_icmp_ge (tgt := 132) zx zb (by omega) hv31 dX0_all_59 (by decide) (fun c59 => ?_) (fun c59 => ?_)
            · refine lv_iload_n zx zb dX0_all_132 rfl (lv_at hl 6 rfl) ?_
              refine lv_if_ge (x := k) (tgt := 140) zx zb dX0_all_133 (by decide) (fun c133 => ?_) (fun c133 => ?_)
              · refine lv_iload_n zx zb dX0_all_140 rfl (lv_at hl 6 rfl) ?_
                refine lv_iload_n zx zb dX0_all_141 rfl (lv_at hl 4 rfl) ?_
                refine lv_icmp_ge (x := k) (y := nI v) (tgt := 150) zx zb dX0_all_142 (by decide) (fun c142 => ?_) (fun c142 => ?_)
                · refine lv_bipush (v := (-9)) zx zb dX0_all_150 (by decide) ?_
                  rw [← zQ]
                  exact nv_endi zC zr zk fo hX (by unfold F_all; rw [if_pos c11, if_neg e_, hD0, if_neg (all_m1 c133)]; exact all_end2 c133 c142 hv31) (by omega) (by omega) dX0_all_152
                · refine lv_iload zx zb dX0_all_145 (lv_at hl 1 rfl) ?_
                  refine lv_goto (tgt := 152) zx zb dX0_all_147 (by decide) ?_
                  rw [← zQ]
                  exact nv_endi zC zr zk fo hX (by unfold F_all; rw [if_pos c11, if_neg e_, hD0, if_neg (all_m1 c133), if_pos (show k < oI (some v) from Int32.not_le.mp c142)]; rw [all_end3 c133 c142 hv31 hqv hqk (Or.inr c59)]; rfl) (by omega) (by omega) dX0_all_152
              · refine lv_iload_n zx zb dX0_all_136 rfl (lv_at hl 4 rfl) ?_
                refine lv_goto (tgt := 152) zx zb dX0_all_137 (by decide) ?_
                rw [← zQ]
                exact nv_endi zC zr zk fo hX (by unfold F_all; rw [if_pos c11, if_neg e_, hD0]; exact all_end1 c11 c133) (by omega) (by omega) dX0_all_152
            · refine lv_iconst (v := nI 0) zx zb dX0_all_62 (by decide) ?_
              refine lv_istore (lv' := [(5, .int (nI 0)), (6, .int (nI q)), (4, .int (nI (phi ((grA (stC kind longOf letters words) (dsD kind longOf letters words) 0 q).1 / 16)))), (3, .int (nI ((grA (stC kind longOf letters words) (dsD kind longOf letters words) 0 q).1 % 16))), (2, .int (nI v)), (0, .ref (a 0)), (1, .int k)]) zx zb dX0_all_63 hl (by decide) rfl (fun ls hl => ?_)
              have L65 : ∀ (zn : Nat) (c : Nat) (hc3 : c < 3) (hno : ∀ i, i < c → decide (dsD kind longOf letters words (stC kind longOf letters words (grA (stC kind longOf letters words) (dsD kind longOf letters words) 0 q).1 i) = some (v - q - 1)) = false), 3 - c < zn → ∀ (H : Heap) (locs : List Loc) (ls : Array Slot), nvS D a0 (xW dA a rn rt trace len stand first allh hAll fault row hOf fo rowsN rowsT mcW edW words mcR edR rdgs sh ex) s.heap H locs → lv_has ls 7 [(5, .int (nI c)), (6, .int (nI q)), (4, .int (nI (phi ((grA (stC kind longOf letters words) (dsD kind longOf letters words) 0 q).1 / 16)))), (3, .int (nI ((grA (stC kind longOf letters words) (dsD kind longOf letters words) 0 q).1 % 16))), (2, .int (nI v)), (0, .ref (a 0)), (1, .int k)] → W zp l ze (rm_ 7 154 0 0) s zm zar zlo zme zcd H locs 0 0 Q (F0 zm 65 ls []) := by
                intro zn
                induction zn with
                | zero => intro c hc3 hno zf; exact absurd zf (Nat.not_lt_zero _)
                | succ zn ih65 =>
                  intro c hc3 hno zf H locs ls hX hl
                  have hgt := al_go (kind := kind) (longOf := longOf) (letters := letters) hok hs hc3 hgo
                  have htl := stC_lt (kind := kind) (longOf := longOf) (letters := letters) (k := (grA (stC kind longOf letters words) (dsD kind longOf letters words) 0 q).1) hw4 hc3
                  have hix := psi_lt htl
                  refine lv_aload_n zx zb dX0_all_65 rfl (lv_at hl 5 rfl) ?_
                  refine nv_get zC hX in_X0 0 rfl rfl 9 (by decide) q140 (fun _ h => h) rfl dX0_all_66 ?_
                  refine lv_bipush (v := nI 54) zx zb dX0_all_69 (by decide) ?_
                  refine lv_iload_n zx zb dX0_all_71 rfl (lv_at hl 3 rfl) ?_
                  refine lv_aload_n zx zb dX0_all_72 rfl (lv_at hl 5 rfl) ?_
                  refine lv_iload zx zb dX0_all_73 (lv_at hl 2 rfl) ?_
                  refine lv_iload zx zb dX0_all_75 (lv_at hl 0 rfl) ?_
                  refine nv_ki zC hX (nv_rV (n := 2) (As := [.int (nI (phi ((grA (stC kind longOf letters words) (dsD kind longOf letters words) 0 q).1 / 16))), .int (nI c)]) (rest := [.int (nI ((grA (stC kind longOf letters words) (dsD kind longOf letters words) 0 q).1 % 16)), .int (nI 54), .ref (a 4)]) (q0 := 0) zC hX (mx_heardBy (e := phi ((grA (stC kind longOf letters words) (dsD kind longOf letters words) 0 q).1 / 16)) (c := c) (hW := (by first | assumption | omega)) (hok := (by first | assumption | omega)) (he := (phi_lt _ (by omega)).2) (hc := hc3)) (nvE_b a0 ez) (nvE_keep zG hX) rfl rfl q263 q265 qs2 q59 q266 (by decide +kernel) rfl ⟨Nat.le_of_ble_eq_true rfl, Nat.le_of_ble_eq_true rfl⟩ hl.1 (Nat.le_of_ble_eq_true rfl) dX0_all_77 ⟨by first | exact Nat.le_of_ble_eq_true rfl | omega, by first | exact Nat.le_of_ble_eq_true rfl | omega⟩) (fun r u H locs hp hX => ?_)
                  have hr_ : r = nI (hbE kind longOf letters words (3 * (phi ((grA (stC kind longOf letters words) (dsD kind longOf letters words) 0 q).1 / 16)) + c)) := hp
                  subst hr_
                  have hX : nvS D a0 (xW dA a rn rt trace len stand first allh hAll fault row hOf fo rowsN rowsT mcW edW words mcR edR rdgs sh ex) s.heap H locs := hX
                  refine W.cs (cells' := 0) (slots' := 0) (Nat.add_zero _) (Nat.add_zero _) ?_
                  refine nv_ior zx zb dX0_all_80 ?_
                  refine nv_imul zx zb dX0_all_81 ?_
                  refine lv_iload zx zb dX0_all_82 (lv_at hl 2 rfl) ?_
                  refine lv_iload zx zb dX0_all_84 (lv_at hl 0 rfl) ?_
                  refine nv_ki zC hX (nv_rS (n := 2) (As := [.int (nI (phi ((grA (stC kind longOf letters words) (dsD kind longOf letters words) 0 q).1 / 16))), .int (nI c)]) (rest := [.int (nI (54 * (((grA (stC kind longOf letters words) (dsD kind longOf letters words) 0 q).1 % 16) ||| (hbE kind longOf letters words (3 * (phi ((grA (stC kind longOf letters words) (dsD kind longOf letters words) 0 q).1 / 16)) + c))))), .ref (a 4)]) zC hX (mx_endWith (e := phi ((grA (stC kind longOf letters words) (dsD kind longOf letters words) 0 q).1 / 16)) (c := c) (he := (Nat.lt_trans (phi_lt _ (by omega)).2 (by decide))) (hc := hc3)) nvGb0 (fun _ _ _ => trivial) q307 q308 q59 q309 (by decide +kernel) rfl ⟨Nat.le_of_ble_eq_true rfl, Nat.le_of_ble_eq_true rfl⟩ hl.1 (Nat.le_of_ble_eq_true rfl) dX0_all_86 ⟨by first | exact Nat.le_of_ble_eq_true rfl | omega, by first | exact Nat.le_of_ble_eq_true rfl | omega⟩) (fun r u H locs hp hX => ?_)
                  have hr_ : r = nI (nxE (phi ((grA (stC kind longOf letters words) (dsD kind longOf letters words) 0 q).1 / 16)) c) := hp
                  subst hr_
                  have hX : nvS D a0 (xW dA a rn rt trace len stand first allh hAll fault row hOf fo rowsN rowsT mcW edW words mcR edR rdgs sh ex) s.heap H locs := hX
                  refine W.cs (cells' := 0) (slots' := 0) (Nat.add_zero _) (Nat.add_zero _) ?_
                  refine nv_iadd zx zb dX0_all_89 ?_
                  refine nv_as (show nI ((54 * (((grA (stC kind longOf letters words) (dsD kind longOf letters words) 0 q).1 % 16) ||| (hbE kind longOf letters words (3 * (phi ((grA (stC kind longOf letters words) (dsD kind longOf letters words) 0 q).1 / 16)) + c)))) + (nxE (phi ((grA (stC kind longOf letters words) (dsD kind longOf letters words) 0 q).1 / 16)) c)) = nI (psi (stC kind longOf letters words (grA (stC kind longOf letters words) (dsD kind longOf letters words) 0 q).1 c)) from (congrArg nI (al_ix hok hs hc3))) ?_
                  refine nv_iald (v := oI (fo (psi (stC kind longOf letters words (grA (stC kind longOf letters words) (dsD kind longOf letters words) 0 q).1 c)))) zC hX 4 rfl hix (by decide) rfl dX0_all_90 ?_
                  refine lv_iload_n zx zb dX0_all_91 rfl (lv_at hl 4 rfl) ?_
                  refine lv_iload zx zb dX0_all_92 (lv_at hl 1 rfl) ?_
                  refine nv_isub zx zb (by omega) dX0_all_94 ?_
                  refine lv_iconst (v := nI 1) zx zb dX0_all_95 (by decide) ?_
                  refine nv_isub zx zb (by omega) dX0_all_96 ?_
                  refine lv_icmp_eq (x := oI (fo (psi (stC kind longOf letters words (grA (stC kind longOf letters words) (dsD kind longOf letters words) 0 q).1 c)))) (y := nI ((v - q) - 1)) (tgt := 106) zx zb dX0_all_97 (by decide) (fun c97 => ?_) (fun c97 => ?_)
                  · have e97 : dsD kind longOf letters words (stC kind longOf letters words (grA (stC kind longOf letters words) (dsD kind longOf letters words) 0 q).1 c) = some (v - q - 1) := (al_d hok htl (by omega) (by omega)).mp ((hf _ hgt).symm.trans ((oI_s (fun w hw_ => by rw [hf _ hgt] at hw_; have := dsU_le hw_; omega) (by omega)).mp c97))
                    refine lv_iload_n zx zb dX0_all_106 rfl (lv_at hl 3 rfl) ?_
                    refine lv_aload_n zx zb dX0_all_107 rfl (lv_at hl 5 rfl) ?_
                    refine lv_iload zx zb dX0_all_108 (lv_at hl 2 rfl) ?_
                    refine lv_iload zx zb dX0_all_110 (lv_at hl 0 rfl) ?_
                    refine nv_ki zC hX (nv_rV (n := 2) (As := [.int (nI (phi ((grA (stC kind longOf letters words) (dsD kind longOf letters words) 0 q).1 / 16))), .int (nI c)]) (rest := [.int (nI ((grA (stC kind longOf letters words) (dsD kind longOf letters words) 0 q).1 % 16))]) (q0 := 0) zC hX (mx_heardBy (e := phi ((grA (stC kind longOf letters words) (dsD kind longOf letters words) 0 q).1 / 16)) (c := c) (hW := (by first | assumption | omega)) (hok := (by first | assumption | omega)) (he := (phi_lt _ (by omega)).2) (hc := hc3)) (nvE_b a0 ez) (nvE_keep zG hX) rfl rfl q263 q265 qs2 q59 q266 (by decide +kernel) rfl ⟨Nat.le_of_ble_eq_true rfl, Nat.le_of_ble_eq_true rfl⟩ hl.1 (Nat.le_of_ble_eq_true rfl) dX0_all_112 ⟨by first | exact Nat.le_of_ble_eq_true rfl | omega, by first | exact Nat.le_of_ble_eq_true rfl | omega⟩) (fun r u H locs hp hX => ?_)
                    have hr_ : r = nI (hbE kind longOf letters words (3 * (phi ((grA (stC kind longOf letters words) (dsD kind longOf letters words) 0 q).1 / 16)) + c)) := hp
                    subst hr_
                    have hX : nvS D a0 (xW dA a rn rt trace len stand first allh hAll fault row hOf fo rowsN rowsT mcW edW words mcR edR rdgs sh ex) s.heap H locs := hX
                    refine W.cs (cells' := 0) (slots' := 0) (Nat.add_zero _) (Nat.add_zero _) ?_
                    refine nv_ior zx zb dX0_all_115 ?_
                    refine lv_istore_n (lv' := [(3, .int (nI (((grA (stC kind longOf letters words) (dsD kind longOf letters words) 0 q).1 % 16) ||| (hbE kind longOf letters words (3 * (phi ((grA (stC kind longOf letters words) (dsD kind longOf letters words) 0 q).1 / 16)) + c))))), (5, .int (nI c)), (6, .int (nI q)), (4, .int (nI (phi ((grA (stC kind longOf letters words) (dsD kind longOf letters words) 0 q).1 / 16)))), (2, .int (nI v)), (0, .ref (a 0)), (1, .int k)]) zx zb dX0_all_116 rfl hl (by decide) rfl (fun ls hl => ?_)
                    refine lv_iload zx zb dX0_all_117 (lv_at hl 3 rfl) ?_
                    refine lv_iload zx zb dX0_all_119 (lv_at hl 1 rfl) ?_
                    refine nv_ki zC hX (nv_rS (n := 2) (As := [.int (nI (phi ((grA (stC kind longOf letters words) (dsD kind longOf letters words) 0 q).1 / 16))), .int (nI c)]) (rest := []) zC hX (mx_endWith (e := phi ((grA (stC kind longOf letters words) (dsD kind longOf letters words) 0 q).1 / 16)) (c := c) (he := (Nat.lt_trans (phi_lt _ (by omega)).2 (by decide))) (hc := hc3)) nvGb0 (fun _ _ _ => trivial) q307 q308 q59 q309 (by decide +kernel) rfl ⟨Nat.le_of_ble_eq_true rfl, Nat.le_of_ble_eq_true rfl⟩ hl.1 (Nat.le_of_ble_eq_true rfl) dX0_all_121 ⟨by first | exact Nat.le_of_ble_eq_true rfl | omega, by first | exact Nat.le_of_ble_eq_true rfl | omega⟩) (fun r u H locs hp hX => ?_)
                    have hr_ : r = nI (nxE (phi ((grA (stC kind longOf letters words) (dsD kind longOf letters words) 0 q).1 / 16)) c) := hp
                    subst hr_
                    have hX : nvS D a0 (xW dA a rn rt trace len stand first allh hAll fault row hOf fo rowsN rowsT mcW edW words mcR edR rdgs sh ex) s.heap H locs := hX
                    refine W.cs (cells' := 0) (slots' := 0) (Nat.add_zero _) (Nat.add_zero _) ?_
                    refine lv_istore (lv' := [(4, .int (nI (nxE (phi ((grA (stC kind longOf letters words) (dsD kind longOf letters words) 0 q).1 / 16)) c))), (3, .int (nI (((grA (stC kind longOf letters words) (dsD kind longOf letters words) 0 q).1 % 16) ||| (hbE kind longOf letters words (3 * (phi ((grA (stC kind longOf letters words) (dsD kind longOf letters words) 0 q).1 / 16)) + c))))), (5, .int (nI c)), (6, .int (nI q)), (2, .int (nI v)), (0, .ref (a 0)), (1, .int k)]) zx zb dX0_all_124 hl (by decide) rfl (fun ls hl => ?_)
                    refine lv_iinc (v := nI (q + 1)) (lv' := [(6, .int (nI (q + 1))), (4, .int (nI (nxE (phi ((grA (stC kind longOf letters words) (dsD kind longOf letters words) 0 q).1 / 16)) c))), (3, .int (nI (((grA (stC kind longOf letters words) (dsD kind longOf letters words) 0 q).1 % 16) ||| (hbE kind longOf letters words (3 * (phi ((grA (stC kind longOf letters words) (dsD kind longOf letters words) 0 q).1 / 16)) + c))))), (5, .int (nI c)), (2, .int (nI v)), (0, .ref (a 0)), (1, .int k)]) zx zb dX0_all_126 hl (k := 3) rfl (nI_1 _) (by decide) rfl (fun ls hl => ?_)
                    refine lv_goto (tgt := 50) zx zb dX0_all_129 (by decide) ?_
                    obtain ⟨hg2, hg1⟩ := grA_s (v := v - q - 1) hD (by omega) hc3 e97 hno
                    rw [show nI c = lsI (q + 1) (grA (stC kind longOf letters words) (dsD kind longOf letters words) 0 (q + 1)).2 from by rw [hg2]; rfl, al_set hok hs hc3, al_end hok hs hc3, ← hg1] at hl
                    exact ih50 (q + 1) (by omega) (Or.inr (Int32.not_lt.mp c53)) (by rw [hg1]; exact stC_lt hw4 hc3) (by rw [hg1]; exact al_go hok hs hc3 hgo) (by rw [hg1, show v - (q + 1) = v - q - 1 by omega]; exact e97) (by omega) _ _ _ hX (lv_sub hl [0, 3, 1, 2, 4, 5, 6] rfl)
                  · have e97 : ¬ dsD kind longOf letters words (stC kind longOf letters words (grA (stC kind longOf letters words) (dsD kind longOf letters words) 0 q).1 c) = some (v - q - 1) := fun z => c97 ((oI_s (fun w hw_ => by rw [hf _ hgt] at hw_; have := dsU_le hw_; omega) (by omega)).mpr ((hf _ hgt).trans ((al_d hok htl (by omega) (by omega)).mpr z)))
                    refine lv_iinc (v := nI (c + 1)) (lv' := [(5, .int (nI (c + 1))), (6, .int (nI q)), (4, .int (nI (phi ((grA (stC kind longOf letters words) (dsD kind longOf letters words) 0 q).1 / 16)))), (3, .int (nI ((grA (stC kind longOf letters words) (dsD kind longOf letters words) 0 q).1 % 16))), (2, .int (nI v)), (0, .ref (a 0)), (1, .int k)]) zx zb dX0_all_100 hl (k := 0) rfl (nI_1 _) (by decide) rfl (fun ls hl => ?_)
                    refine lv_goto (tgt := 65) zx zb dX0_all_103 (by decide) ?_
                    have hno2 : ∀ i, i < c + 1 → decide (dsD kind longOf letters words (stC kind longOf letters words (grA (stC kind longOf letters words) (dsD kind longOf letters words) 0 q).1 i) = some (v - q - 1)) = false := fun i hi => by
                      by_cases z : i = c
                      · rw [z]; exact decide_eq_false e97
                      · exact hno i (by omega)
                    have hc2 : c + 1 < 3 := (Nat.lt_or_ge (c + 1) 3).elim id (fun z => by
                      obtain ⟨i, hi, hi2⟩ := dsU_pred (show dsD kind longOf letters words ((grA (stC kind longOf letters words) (dsD kind longOf letters words) 0 q).1) = some (v - q - 1 + 1) by rw [hD]; congr 1; omega)
                      exact absurd hi2 (of_decide_eq_false (hno2 i (by omega))))
                    exact ih65 (c + 1) hc2 hno2 (by omega) _ _ _ hX (lv_sub hl [0, 1, 2, 3, 4, 5, 6] rfl)
              exact L65 _ 0 (by decide) (fun i h => absurd h (Nat.not_lt_zero _)) (Nat.lt_succ_self _) _ _ _ hX (lv_sub hl [0, 1, 2, 3, 4, 5, 6] rfl)
      have hl : lv_has ls 7 [(6, .int (nI 0)), (5, .int (lsI 0 (grA (stC kind longOf letters words) (dsD kind longOf letters words) 0 0).2)), (4, .int (nI (phi ((grA (stC kind longOf letters words) (dsD kind longOf letters words) 0 0).1 / 16)))), (3, .int (nI ((grA (stC kind longOf letters words) (dsD kind longOf letters words) 0 0).1 % 16))), (2, .int (nI v)), (0, .ref (a 0)), (1, .int k)] := by rw [show (grA (stC kind longOf letters words) (dsD kind longOf letters words) 0 0).1 = 0 from rfl, show phi (0 / 16) = 1 from by decide +kernel, show 0 % 16 = 0 from rfl, show lsI 0 (grA (stC kind longOf letters words) (dsD kind longOf letters words) 0 0).2 = -9 from if_pos rfl]; exact hl
      exact L50 _ 0 (by omega) (Or.inl rfl) (show 0 < 640 by decide) (by show goE words (psi 0); rw [psi_0]; exact go1) hD0 (Nat.lt_succ_self _) _ _ _ hX (lv_sub hl [0, 1, 2, 3, 4, 5, 6] rfl)
    · refine lv_bipush (v := (-3)) zx zb dX0_all_24 (by decide) ?_
      rw [← zQ]
      exact nv_endi zC zr zk farOf hX (by unfold F_all; rw [if_pos c11, if_pos (of_decide_eq_true c21)]) (by omega) (by omega) dX0_all_26
  · refine lv_bipush (v := (-2)) zx zb dX0_all_14 (by decide) ?_
    rw [← zQ]
    exact nv_endi zC zr zk farOf hX (by unfold F_all; rw [if_neg (by rw [c11]; decide)]) (by omega) (by omega) dX0_all_16
end CL_48_c9
