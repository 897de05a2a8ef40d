/-! printed by klass.py -/
set_option maxRecDepth 100000
section CL_56_d3
variable {l : Launch} {D : va_G} {dA : Nat → ClassId} {a0 ez : Nat} {ex : va_W} {a : Nat → Nat} {rn : Nat} {rt : Nat} {trace : Int32} {len : Nat} {stand : Nat} {first : Option Nat} {allh : Option Nat} {hAll : Nat} {fault : Int32} {row : Nat → Nat} {hOf : Nat → Nat} {farOf : Nat → Option Nat} {rowsN : Nat → Nat} {rowsT : Nat → Nat} {mcW : Int32} {edW : Nat} {words : Nat} {mcR : Int32} {edR : Nat} {rdgs : Nat} {sh : Nat → Option Nat} {kind longOf letters : Nat → Nat} {fW : Nat → Option Nat} {pa la : Nat → Nat} {rWord rMany rStands rRow : Nat → Nat} {fR : Nat → Option Nat} {pr lr : Nat → Nat}
set_option maxHeartbeats 4000000 in
theorem mx_areSo   (hW : wdIn dA (a 0) words kind longOf letters edW ez fW pa la ex) (hok : wOK words kind longOf letters) (hR : rdIn dA rdgs rWord rMany rStands rRow edR ez fR pr lr ex) (hdo : dOK words rdgs rWord rMany rStands rRow) : nMt l D dA a0 yX0_areSo cX0_areSo 4 (some .boolean) 6 132 0 0 (nvE a0 ez) [.ref (a 0)] (xW dA a rn rt trace len stand first allh hAll fault row hOf farOf rowsN rowsT mcW edW words mcR edR rdgs sh ex) (nQi D a0 (fun (r : Int32) (_ : Unit) => r = nB (soB kind longOf letters rdgs rWord rMany rStands rRow)) (fun (_ : Unit) => xW dA a rn rt trace len stand first allh hAll fault row hOf farOf rowsN rowsT mcW edW words mcR edR rdgs sh ex)) := by
  refine nv_start (by decide) (Nat.le_of_ble_eq_true rfl) fun zp ze s zm zlo zme zcd ls zC zr zk znm hX zG hl => ?_
  have zx := zC.1
  have zb := zC.2.1
  generalize zargs : ([.ref (a 0)] : List Value).toArray = zar at zC ⊢
  generalize zQ : MQ zlo _ zar s _ _ _ = Q
  have hX : nvS D a0 (xW dA a rn rt trace len stand first allh hAll fault row hOf farOf rowsN rowsT mcW edW words mcR edR rdgs sh ex) s.heap s.heap [] := hX
  have hl : lv_has ls 4 [(0, .ref (a 0))] := hl
  obtain ⟨H, zH⟩ : ∃ H, H = s.heap := ⟨_, rfl⟩
  have hX : nvS D a0 (xW dA a rn rt trace len stand first allh hAll fault row hOf farOf rowsN rowsT mcW edW words mcR edR rdgs sh ex) s.heap H [] := by rw [zH]; exact hX
  rw [show W zp l ze (rm_ 6 132 0 0) s zm zar zlo zme zcd s.heap [] 0 0 Q = W zp l ze (rm_ 6 132 0 0) s zm zar zlo zme zcd H [] 0 0 Q by rw [zH]]
  generalize ([] : List Loc) = locs at hX ⊢
  have hw4 := hok.1
  have hr8 := hdo.1
  refine lv_iconst (v := nI 1) zx zb dX0_areSo_0 (by decide) ?_
  refine lv_istore_n (lv' := [(1, .int (nI 1)), (0, .ref (a 0))]) zx zb dX0_areSo_1 rfl hl (by decide) rfl (fun ls hl => ?_)
  refine lv_iconst (v := nI 0) zx zb dX0_areSo_2 (by decide) ?_
  refine lv_istore_n (lv' := [(2, .int (nI 0)), (1, .int (nI 1)), (0, .ref (a 0))]) zx zb dX0_areSo_3 rfl hl (by decide) rfl (fun ls hl => ?_)
  have L4 : ∀ (zn : Nat) (x : Nat) (hx : x ≤ rdgs), rdgs - x < zn → ∀ (H : Heap) (locs : List Loc) (ls : Array Slot), nvS D a0 (xW dA a rn rt trace len stand first allh hAll fault row hOf farOf rowsN rowsT mcW edW words mcR edR rdgs sh ex) s.heap H locs → lv_has ls 4 [(2, .int (nI x)), (1, .int (nB (soB kind longOf letters x rWord rMany rStands rRow))), (0, .ref (a 0))] → W zp l ze (rm_ 6 132 0 0) s zm zar zlo zme zcd H locs 0 0 Q (F0 zm 4 ls []) := by
    intro zn
    induction zn with
    | zero => intro x hx zf; exact absurd zf (Nat.not_lt_zero _)
    | succ zn ih4 =>
      intro x hx zf H locs ls hX hl
      refine lv_iload_n zx zb dX0_areSo_4 rfl (lv_at hl 0 rfl) ?_
      refine lv_aload_n zx zb dX0_areSo_5 rfl (lv_at hl 2 rfl) ?_
      refine nv_get zC hX in_X0 0 rfl rfl 12 (by decide) q143 (fun _ h => h) rfl dX0_areSo_6 ?_
      refine nv_kFi zC hX (nv_rF (q := (RJ2, TJ2, 3)) (x := ⟨"java/util/List", "size", "()I"⟩) (y := yJ2_size) (n := 0) (As := []) (rest := [.int (nI x)]) (q0 := 7) zC hX (mj_size (zh := a 5) (mc := mcR) (ed := edR) (n := rdgs) (hm := (List.mem_of_getElem? (i := 7) rfl))) nvGb0 (fun _ _ _ => trivial) (nvE_f0 zG) rfl rfl q188 q194 q192 q62 q196 (by decide +kernel) rfl ⟨Nat.le_of_ble_eq_true rfl, Nat.le_of_ble_eq_true rfl⟩ hl.1 (Nat.le_of_ble_eq_true rfl) dX0_areSo_9 ⟨by first | exact Nat.le_of_ble_eq_true rfl | omega, by first | exact Nat.le_of_ble_eq_true rfl | omega⟩) (fun r u H locs hp hX => ?_)
      have hr_ : r = nI rdgs := hp
      subst hr_
      have hX : nvS D a0 (xW dA a rn rt trace len stand first allh hAll fault row hOf farOf rowsN rowsT mcW edW words mcR edR rdgs sh ex) s.heap H locs := hX
      refine W.cs (cells' := 0) (slots' := 0) (Nat.add_zero _) (Nat.add_zero _) ?_
      refine nv_icmp_ge (tgt := 66) zx zb (by omega) (by omega) dX0_areSo_14 (by decide) (fun c14 => ?_) (fun c14 => ?_)
      · refine lv_iload_n zx zb dX0_areSo_66 rfl (lv_at hl 1 rfl) ?_
        rw [← zQ]
        exact nv_endz zC zr zk () hX (by rw [show x = rdgs by omega]) (by omega) (by omega) dX0_areSo_67
      · refine lv_aload_n zx zb dX0_areSo_17 rfl (lv_at hl 2 rfl) ?_
        refine nv_get zC hX in_X0 0 rfl rfl 12 (by decide) q143 (fun _ h => h) rfl dX0_areSo_18 ?_
        refine lv_iload_n zx zb dX0_areSo_21 rfl (lv_at hl 0 rfl) ?_
        refine nv_kFq zC hX (nv_rF (q := (RJ2, TJ2, 3)) (x := ⟨"java/util/List", "get", "(I)Ljava/lang/Object;"⟩) (y := yJ2_get) (n := 1) (As := [.int (nI x)]) (rest := []) (q0 := 7) zC hX (mj_get (zh := a 5) (mc := mcR) (ed := edR) (n := rdgs) (f := fR) (i := x) (hm := (List.mem_of_getElem? (i := 7) rfl)) (ha := (xw_m (hR.ed c14))) (hi := c14) (hn := (by omega))) nvGb0 (fun _ _ _ => trivial) (nvE_f1 zG) rfl rfl q201 q206 q204 q62 q208 (by decide +kernel) rfl ⟨Nat.le_of_ble_eq_true rfl, Nat.le_of_ble_eq_true rfl⟩ hl.1 (Nat.le_of_ble_eq_true rfl) dX0_areSo_22 ⟨by first | exact Nat.le_of_ble_eq_true rfl | omega, by first | exact Nat.le_of_ble_eq_true rfl | omega⟩) (fun r u H locs hp hX => ?_)
        have hr_ : r = fR x := hp
        subst hr_
        have hX : nvS D a0 (xW dA a rn rt trace len stand first allh hAll fault row hOf farOf rowsN rowsT mcW edW words mcR edR rdgs sh ex) s.heap H locs := hX
        refine W.cs (cells' := 0) (slots' := 0) (Nat.add_zero _) (Nat.add_zero _) ?_
        refine nv_asR (show fR x = some (pr x) from (hR.w c14)) ?_
        obtain ⟨yq, yhq⟩ := List.getElem?_of_mem (show _ ∈ xW dA a rn rt trace len stand first allh hAll fault row hOf farOf rowsN rowsT mcW edW words mcR edR rdgs sh ex from xw_m (hR.p c14))
        refine nv_castS (q := (RX8, TX8, 3)) zC hX yq yhq rfl q496 dX0_areSo_27 ?_
        refine lv_astore_n (lv' := [(3, .ref (pr x)), (2, .int (nI x)), (1, .int (nB (soB kind longOf letters x rWord rMany rStands rRow))), (0, .ref (a 0))]) zx zb dX0_areSo_30 rfl hl (by decide) rfl (fun ls hl => ?_)
        refine lv_iload_n zx zb dX0_areSo_31 rfl (lv_at hl 2 rfl) ?_
        refine lv_aload_n zx zb dX0_areSo_32 rfl (lv_at hl 3 rfl) ?_
        refine lv_aload_n zx zb dX0_areSo_33 rfl (lv_at hl 0 rfl) ?_
        refine nv_getNM zC hX in_X8 (xw_m (hR.p c14)) rfl 0 (by decide) (nvE_n0 zG) (fun _ h => h) rfl dX0_areSo_34 ?_
        refine lv_aload_n zx zb dX0_areSo_37 rfl (lv_at hl 0 rfl) ?_
        refine nv_getNM zC hX in_X8 (xw_m (hR.p c14)) rfl 1 (by decide) (nvE_n1 zG) (fun _ h => h) rfl dX0_areSo_38 ?_
        refine lv_iconst (v := nI 0) zx zb dX0_areSo_41 (by decide) ?_
        refine lv_iconst (v := nI 0) zx zb dX0_areSo_42 (by decide) ?_
        refine nv_ki zC hX (nv_rV (n := 4) (As := [.int (nI (rWord x)), .ref (lr x), .int (nI 0), .int (nB false)]) (rest := [.int (nB (soB kind longOf letters x rWord rMany rStands rRow))]) (q0 := 0) zC hX (mx_standsIn (m_ := rMany x) (g := fun k => rRow (8 * x + k)) (w := rWord x) (ra_ := lr x) (fr := 0) (bk := false) (hW := (by first | assumption | omega)) (hok := (by first | assumption | omega)) (hw := (hdo.2.1 x c14)) (hr := (hR.l c14)) (hm := (Nat.le_trans (hdo.2.2.1 x) (by decide))) (h3 := (fun j => hdo.2.2.2.2 _)) (hfr := (by decide))) (nvE_b a0 ez) (nvE_keep zG hX) rfl rfl q407 q409 qs11 q59 q410 (by decide +kernel) rfl ⟨Nat.le_of_ble_eq_true rfl, Nat.le_of_ble_eq_true rfl⟩ hl.1 (Nat.le_of_ble_eq_true rfl) dX0_areSo_43 ⟨by first | exact Nat.le_of_ble_eq_true rfl | omega, by first | exact Nat.le_of_ble_eq_true rfl | omega⟩) (fun r u H locs hp hX => ?_)
        have hr_ : r = nB (decide (0 < tmW kind longOf letters (siR (fun k => rRow (8 * x + k)) (rMany x) 0 false) (rMany x) (rWord x))) := hp
        subst hr_
        have hX : nvS D a0 (xW dA a rn rt trace len stand first allh hAll fault row hOf farOf rowsN rowsT mcW edW words mcR edR rdgs sh ex) s.heap H locs := hX
        refine W.cs (cells' := 0) (slots' := 0) (Nat.add_zero _) (Nat.add_zero _) ?_
        refine nv_as (show nB (decide (0 < tmW kind longOf letters (siR (fun k => rRow (8 * x + k)) (rMany x) 0 false) (rMany x) (rWord x))) = nB (decide (0 < tmW kind longOf letters (fun k => rRow (8 * x + k)) (rMany x) (rWord x))) from (congrArg (fun z => nB (decide (0 < z))) (tmW_cg (fun j hj => siR_0 hj)))) ?_
        refine lv_aload_n zx zb dX0_areSo_46 rfl (lv_at hl 0 rfl) ?_
        refine nv_getNM zC hX in_X8 (xw_m (hR.p c14)) rfl 2 (by decide) (nvE_n2 zG) (fun _ h => h) rfl dX0_areSo_47 ?_
        refine lv_icmp_ne (x := nB (decide (0 < tmW kind longOf letters (fun k => rRow (8 * x + k)) (rMany x) (rWord x)))) (y := nB (decide (rStands x = 1))) (tgt := 57) zx zb dX0_areSo_50 (by decide) (fun c50 => ?_) (fun c50 => ?_)
        · refine lv_iconst (v := nI 0) zx zb dX0_areSo_57 (by decide) ?_
          refine nv_as (show nI 0 = nB (decide (decide (0 < tmW kind longOf letters (fun k => rRow (8 * x + k)) (rMany x) (rWord x)) = decide (rStands x = 1))) from (nB_as0 (decide_eq_false (fun z => c50 (congrArg nB z))))) ?_
          refine nv_iandB zx zb dX0_areSo_58 ?_
          refine nv_as (show nB ((soB kind longOf letters x rWord rMany rStands rRow) && (decide (decide (0 < tmW kind longOf letters (fun k => rRow (8 * x + k)) (rMany x) (rWord x)) = decide (rStands x = 1)))) = nB (soB kind longOf letters (x + 1) rWord rMany rStands rRow) from (congrArg nB soB_s)) ?_
          refine lv_istore_n (lv' := [(1, .int (nB (soB kind longOf letters (x + 1) rWord rMany rStands rRow))), (3, .ref (pr x)), (2, .int (nI x)), (0, .ref (a 0))]) zx zb dX0_areSo_59 rfl hl (by decide) rfl (fun ls hl => ?_)
          refine lv_iinc (v := nI (x + 1)) (lv' := [(2, .int (nI (x + 1))), (1, .int (nB (soB kind longOf letters (x + 1) rWord rMany rStands rRow))), (3, .ref (pr x)), (0, .ref (a 0))]) zx zb dX0_areSo_60 hl (k := 2) rfl (nI_1 _) (by decide) rfl (fun ls hl => ?_)
          refine lv_goto (tgt := 4) zx zb dX0_areSo_63 (by decide) ?_
          exact ih4 (x + 1) (by omega) (by omega) _ _ _ hX (lv_sub hl [0, 1, 3] rfl)
        · refine lv_iconst (v := nI 1) zx zb dX0_areSo_53 (by decide) ?_
          refine lv_goto (tgt := 58) zx zb dX0_areSo_54 (by decide) ?_
          refine nv_as (show nI 1 = nB (decide (decide (0 < tmW kind longOf letters (fun k => rRow (8 * x + k)) (rMany x) (rWord x)) = decide (rStands x = 1))) from (nB_as1 (decide_eq_true (nB_ij c50)))) ?_
          refine nv_iandB zx zb dX0_areSo_58 ?_
          refine nv_as (show nB ((soB kind longOf letters x rWord rMany rStands rRow) && (decide (decide (0 < tmW kind longOf letters (fun k => rRow (8 * x + k)) (rMany x) (rWord x)) = decide (rStands x = 1)))) = nB (soB kind longOf letters (x + 1) rWord rMany rStands rRow) from (congrArg nB soB_s)) ?_
          refine lv_istore_n (lv' := [(1, .int (nB (soB kind longOf letters (x + 1) rWord rMany rStands rRow))), (3, .ref (pr x)), (2, .int (nI x)), (0, .ref (a 0))]) zx zb dX0_areSo_59 rfl hl (by decide) rfl (fun ls hl => ?_)
          refine lv_iinc (v := nI (x + 1)) (lv' := [(2, .int (nI (x + 1))), (1, .int (nB (soB kind longOf letters (x + 1) rWord rMany rStands rRow))), (3, .ref (pr x)), (0, .ref (a 0))]) zx zb dX0_areSo_60 hl (k := 2) rfl (nI_1 _) (by decide) rfl (fun ls hl => ?_)
          refine lv_goto (tgt := 4) zx zb dX0_areSo_63 (by decide) ?_
          exact ih4 (x + 1) (by omega) (by omega) _ _ _ hX (lv_sub hl [0, 1, 3] rfl)
  rw [show nI 1 = nB (soB kind longOf letters 0 rWord rMany rStands rRow) from nB_as1 soB_0] at hl
  exact L4 _ 0 (by omega) (Nat.lt_succ_self _) _ _ _ hX (lv_sub hl [0, 1, 2] rfl)
end CL_56_d3
