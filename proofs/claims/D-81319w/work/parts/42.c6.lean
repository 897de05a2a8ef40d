/-! printed by klass.py -/
set_option maxRecDepth 100000
section CL_42_c6
variable {l : Launch} {D : va_G} {dA : Nat → ClassId} {a0 ez : Nat} {ex : va_W} {a : Nat → Nat} {rn : Nat} {rt : Nat} {trace : Int32} {len : Nat} {stand : Nat} {first : Option Nat} {allh : Option Nat} {hAll : Nat} {fault : Int32} {row : Nat → Nat} {hOf : Nat → Nat} {farOf : Nat → Option Nat} {rowsN : Nat → Nat} {rowsT : Nat → Nat} {mcW : Int32} {edW : Nat} {words : Nat} {mcR : Int32} {edR : Nat} {rdgs : Nat} {sh : Nat → Option Nat} {kind longOf letters : Nat → Nat} {fW : Nat → Option Nat} {pa la : Nat → Nat} {rWord rMany rStands rRow : Nat → Nat} {fR : Nat → Option Nat} {pr lr : Nat → Nat}
set_option maxHeartbeats 4000000 in
theorem mx_standsIn  (m_ : Nat) (g : Nat → Nat) (w : Nat) (ra_ : Nat) (fr : Nat) (bk : Bool) (hW : wdIn dA (a 0) words kind longOf letters edW ez fW pa la ex) (hok : wOK words kind longOf letters) (hw : w < words) (hr : (ra_, aI dA m_ (nF g)) ∈ ex) (hm : m_ ≤ 60) (h3 : ∀ j, g j < 3) (hfr : fr ≤ 1) : nMt l D dA a0 yX0_standsIn cX0_standsIn 9 (some .boolean) 5 104 0 0 (nvE a0 ez) [.ref (a 0), .int (nI w), .ref ra_, .int (nI fr), .int (nB bk)] (xW dA a rn rt trace len stand first allh hAll fault row hOf farOf rowsN rowsT mcW edW words mcR edR rdgs sh ex) (nQi D a0 (fun (r : Int32) (_ : Unit) => r = nB (decide (0 < tmW kind longOf letters (siR g m_ fr bk) m_ w))) (fun (_ : Unit) => xW dA a rn rt trace len stand first allh hAll fault row hOf farOf rowsN rowsT mcW edW words mcR edR rdgs sh ex)) := by
  refine nv_start (by decide) (Nat.le_of_ble_eq_true rfl) fun zp ze s zm zlo zme zcd ls zC zr zk znm hX zG hl => ?_
  have zx := zC.1
  have zb := zC.2.1
  generalize zargs : ([.ref (a 0), .int (nI w), .ref ra_, .int (nI fr), .int (nB bk)] : List Value).toArray = zar at zC ⊢
  generalize zQ : MQ zlo _ zar s _ _ _ = Q
  have hX : nvS D a0 (xW dA a rn rt trace len stand first allh hAll fault row hOf farOf rowsN rowsT mcW edW words mcR edR rdgs sh ex) s.heap s.heap [] := hX
  have hl : lv_has ls 9 [(0, .ref (a 0)), (1, .int (nI w)), (2, .ref ra_), (3, .int (nI fr)), (4, .int (nB bk))] := hl
  obtain ⟨H, zH⟩ : ∃ H, H = s.heap := ⟨_, rfl⟩
  have hX : nvS D a0 (xW dA a rn rt trace len stand first allh hAll fault row hOf farOf rowsN rowsT mcW edW words mcR edR rdgs sh ex) s.heap H [] := by rw [zH]; exact hX
  rw [show W zp l ze (rm_ 5 104 0 0) s zm zar zlo zme zcd s.heap [] 0 0 Q = W zp l ze (rm_ 5 104 0 0) s zm zar zlo zme zcd H [] 0 0 Q by rw [zH]]
  generalize ([] : List Loc) = locs at hX ⊢
  have hw4 := hok.1
  have hs3 := siR_lt (m := m_) (fr := fr) (bk := bk) h3
  refine lv_iconst (v := nI 1) zx zb dX0_standsIn_0 (by decide) ?_
  refine lv_istore (lv' := [(5, .int (nI 1)), (0, .ref (a 0)), (1, .int (nI w)), (2, .ref ra_), (3, .int (nI fr)), (4, .int (nB bk))]) zx zb dX0_standsIn_1 hl (by decide) rfl (fun ls hl => ?_)
  refine lv_iconst (v := nI 0) zx zb dX0_standsIn_3 (by decide) ?_
  refine lv_istore (lv' := [(6, .int (nI 0)), (5, .int (nI 1)), (0, .ref (a 0)), (1, .int (nI w)), (2, .ref ra_), (3, .int (nI fr)), (4, .int (nB bk))]) zx zb dX0_standsIn_4 hl (by decide) rfl (fun ls hl => ?_)
  refine lv_iconst (v := nI 0) zx zb dX0_standsIn_6 (by decide) ?_
  refine lv_istore (lv' := [(7, .int (nI 0)), (6, .int (nI 0)), (5, .int (nI 1)), (0, .ref (a 0)), (1, .int (nI w)), (2, .ref ra_), (3, .int (nI fr)), (4, .int (nB bk))]) zx zb dX0_standsIn_7 hl (by decide) rfl (fun ls hl => ?_)
  have L9 : ∀ (zn : Nat) (k : Nat) (hk : k ≤ m_), m_ - k < zn → ∀ (H : Heap) (locs : List Loc) (ls : Array Slot), nvS D a0 (xW dA a rn rt trace len stand first allh hAll fault row hOf farOf rowsN rowsT mcW edW words mcR edR rdgs sh ex) s.heap H locs → lv_has ls 9 [(7, .int (nI k)), (6, .int (nB (decide (0 < tmW kind longOf letters (siR g m_ fr bk) k w)))), (5, .int (nI (enX (siR g m_ fr bk) k))), (0, .ref (a 0)), (1, .int (nI w)), (2, .ref ra_), (3, .int (nI fr)), (4, .int (nB bk))] → W zp l ze (rm_ 5 104 0 0) s zm zar zlo zme zcd H locs 0 0 Q (F0 zm 9 ls []) := by
    intro zn
    induction zn with
    | zero => intro k hk zf; exact absurd zf (Nat.not_lt_zero _)
    | succ zn ih9 =>
      intro k hk zf H locs ls hX hl
      refine lv_iload zx zb dX0_standsIn_9 (lv_at hl 0 rfl) ?_
      refine lv_aload_n zx zb dX0_standsIn_11 rfl (lv_at hl 5 rfl) ?_
      refine nv_alenM zC hX 0 (xw_m hr) rfl dX0_standsIn_12 ?_
      refine nv_icmp_ge (tgt := 82) zx zb (by omega) (by omega) dX0_standsIn_13 (by decide) (fun c13 => ?_) (fun c13 => ?_)
      · refine lv_iload zx zb dX0_standsIn_82 (lv_at hl 1 rfl) ?_
        have e_ : k = m_ := (by omega)
        rw [← zQ]
        exact nv_endz zC zr zk () hX (by rw [e_]) (by omega) (by omega) dX0_standsIn_84
      · have J39 : ∀ (j_ : Nat) (hj : j_ < m_) (hs : g j_ = siR g m_ fr bk k) (H : Heap) (locs : List Loc) (ls : Array Slot), nvS D a0 (xW dA a rn rt trace len stand first allh hAll fault row hOf farOf rowsN rowsT mcW edW words mcR edR rdgs sh ex) s.heap H locs → lv_has ls 9 [(7, .int (nI k)), (6, .int (nB (decide (0 < tmW kind longOf letters (siR g m_ fr bk) k w)))), (5, .int (nI (enX (siR g m_ fr bk) k))), (0, .ref (a 0)), (1, .int (nI w)), (2, .ref ra_), (3, .int (nI fr)), (4, .int (nB bk))] → W zp l ze (rm_ 5 104 0 0) s zm zar zlo zme zcd H locs 0 0 Q (F0 zm 39 ls [.int (nI j_), .ref ra_]) := by
          intro j_ hj hs H locs ls hX hl
          refine nv_ialdM (v := nI (siR g m_ fr bk k)) zC hX (xw_m hr) hj (by omega) (congrArg nI hs) dX0_standsIn_39 ?_
          refine lv_istore (lv' := [(8, .int (nI (siR g m_ fr bk k))), (7, .int (nI k)), (6, .int (nB (decide (0 < tmW kind longOf letters (siR g m_ fr bk) k w)))), (5, .int (nI (enX (siR g m_ fr bk) k))), (0, .ref (a 0)), (1, .int (nI w)), (2, .ref ra_), (3, .int (nI fr)), (4, .int (nB bk))]) zx zb dX0_standsIn_40 hl (by decide) rfl (fun ls hl => ?_)
          refine lv_iload zx zb dX0_standsIn_42 (lv_at hl 2 rfl) ?_
          refine lv_aload_n zx zb dX0_standsIn_44 rfl (lv_at hl 4 rfl) ?_
          refine nv_get zC hX in_X0 0 rfl rfl 3 (by decide) q134 (fun _ h => h) rfl dX0_standsIn_45 ?_
          refine lv_iload_n zx zb dX0_standsIn_48 rfl (lv_at hl 5 rfl) ?_
          refine nv_kFq zC hX (nv_rF (q := (RJ2, TJ2, 3)) (x := ⟨"java/util/List", "get", "(I)Ljava/lang/Object;"⟩) (y := yJ2_get) (n := 1) (As := [.int (nI w)]) (rest := [.int (nB (decide (0 < tmW kind longOf letters (siR g m_ fr bk) k w)))]) (q0 := 2) zC hX (mj_get (zh := a 2) (mc := mcW) (ed := edW) (n := words) (f := fW) (i := w) (hm := (List.mem_of_getElem? (i := 2) rfl)) (ha := (xw_m (hW.ed hw))) (hi := hw) (hn := (by omega))) nvGb0 (fun _ _ _ => trivial) (nvE_f1 zG) rfl rfl q201 q206 q204 q62 q208 (by decide +kernel) rfl ⟨Nat.le_of_ble_eq_true rfl, Nat.le_of_ble_eq_true rfl⟩ hl.1 (Nat.le_of_ble_eq_true rfl) dX0_standsIn_49 ⟨by first | exact Nat.le_of_ble_eq_true rfl | omega, by first | exact Nat.le_of_ble_eq_true rfl | omega⟩) (fun r u H locs hp hX => ?_)
          have hr_ : r = fW w := hp
          subst hr_
          have hX : nvS D a0 (xW dA a rn rt trace len stand first allh hAll fault row hOf farOf rowsN rowsT mcW edW words mcR edR rdgs sh ex) s.heap H locs := hX
          refine W.cs (cells' := 0) (slots' := 0) (Nat.add_zero _) (Nat.add_zero _) ?_
          refine nv_asR (show fW w = some (pa w) from (hW.w hw)) ?_
          refine nv_castP zC zG hX (hok.2.1 _) (xw_m (hW.p hw)) q219 dX0_standsIn_54 ?_
          refine lv_iload zx zb dX0_standsIn_57 (lv_at hl 3 rfl) ?_
          refine lv_iload zx zb dX0_standsIn_59 (lv_at hl 0 rfl) ?_
          refine nv_ki zC hX (nd_endsBy (kd := kind w) (zh := pa w) (la := la w) (x0 := a 0) (ln := longOf w) (lt := fun k_ => letters (4 * w + k_)) (e := enX (siR g m_ fr bk) k) (c := siR g m_ fr bk k) (hkd := (hok.2.1 _)) (hm := (xw_m (hW.p hw))) (ha := (xw_m (hW.l hw))) (hl1 := (hok.2.2.2.2 _ hw)) (hl4 := (hok.2.2.1 _)) (hlt := (fun j => hok.2.2.2.1 _)) (he := (enX_lt hs3 k).2) (hc := (hs3 _)) (rest := [.int (nB (decide (0 < tmW kind longOf letters (siR g m_ fr bk) k w)))]) zC hX q267 dX0_standsIn_61 hl.1 (Nat.le_of_ble_eq_true rfl) ⟨Nat.le_of_ble_eq_true rfl, Nat.le_of_ble_eq_true rfl⟩ ⟨by first | exact Nat.le_of_ble_eq_true rfl | omega, by first | exact Nat.le_of_ble_eq_true rfl | omega⟩) (fun r u H locs hp hX => ?_)
          have hr_ : r = nB (edB (kind w) (longOf w) (fun k_ => letters (4 * w + k_)) (3 * (enX (siR g m_ fr bk) k) + (siR g m_ fr bk k))) := hp
          subst hr_
          have hX : nvS D a0 (xW dA a rn rt trace len stand first allh hAll fault row hOf farOf rowsN rowsT mcW edW words mcR edR rdgs sh ex) s.heap H locs := hX
          refine W.cs (cells' := 0) (slots' := 0) (Nat.add_zero _) (Nat.add_zero _) ?_
          refine nv_iorB zx zb dX0_standsIn_64 ?_
          refine nv_as (show nB ((decide (0 < tmW kind longOf letters (siR g m_ fr bk) k w)) || (edB (kind w) (longOf w) (fun k_ => letters (4 * w + k_)) (3 * (enX (siR g m_ fr bk) k) + (siR g m_ fr bk k)))) = nB (decide (0 < tmW kind longOf letters (siR g m_ fr bk) (k + 1) w)) from (congrArg nB (by rw [ed_hd hs3 (hok.2.1 w) (hok.2.2.2.2 w hw) (hok.2.2.1 w) k]; exact cnt_or))) ?_
          refine lv_istore (lv' := [(6, .int (nB (decide (0 < tmW kind longOf letters (siR g m_ fr bk) (k + 1) w)))), (8, .int (nI (siR g m_ fr bk k))), (7, .int (nI k)), (5, .int (nI (enX (siR g m_ fr bk) k))), (0, .ref (a 0)), (1, .int (nI w)), (2, .ref ra_), (3, .int (nI fr)), (4, .int (nB bk))]) zx zb dX0_standsIn_65 hl (by decide) rfl (fun ls hl => ?_)
          refine lv_iload zx zb dX0_standsIn_67 (lv_at hl 3 rfl) ?_
          refine lv_iload zx zb dX0_standsIn_69 (lv_at hl 1 rfl) ?_
          refine nv_ki zC hX (nv_rS (n := 2) (As := [.int (nI (enX (siR g m_ fr bk) k)), .int (nI (siR g m_ fr bk k))]) (rest := []) zC hX (mx_endWith (e := enX (siR g m_ fr bk) k) (c := siR g m_ fr bk k) (he := (Nat.lt_trans (enX_lt hs3 k).2 (by decide))) (hc := (hs3 _))) nvGb0 (fun _ _ _ => trivial) q307 q308 q59 q309 (by decide +kernel) rfl ⟨Nat.le_of_ble_eq_true rfl, Nat.le_of_ble_eq_true rfl⟩ hl.1 (Nat.le_of_ble_eq_true rfl) dX0_standsIn_71 ⟨by first | exact Nat.le_of_ble_eq_true rfl | omega, by first | exact Nat.le_of_ble_eq_true rfl | omega⟩) (fun r u H locs hp hX => ?_)
          have hr_ : r = nI (nxE (enX (siR g m_ fr bk) k) (siR g m_ fr bk k)) := hp
          subst hr_
          have hX : nvS D a0 (xW dA a rn rt trace len stand first allh hAll fault row hOf farOf rowsN rowsT mcW edW words mcR edR rdgs sh ex) s.heap H locs := hX
          refine W.cs (cells' := 0) (slots' := 0) (Nat.add_zero _) (Nat.add_zero _) ?_
          refine nv_as (show nI (nxE (enX (siR g m_ fr bk) k) (siR g m_ fr bk k)) = nI (enX (siR g m_ fr bk) (k + 1)) from rfl) ?_
          refine lv_istore (lv' := [(5, .int (nI (enX (siR g m_ fr bk) (k + 1)))), (6, .int (nB (decide (0 < tmW kind longOf letters (siR g m_ fr bk) (k + 1) w)))), (8, .int (nI (siR g m_ fr bk k))), (7, .int (nI k)), (0, .ref (a 0)), (1, .int (nI w)), (2, .ref ra_), (3, .int (nI fr)), (4, .int (nB bk))]) zx zb dX0_standsIn_74 hl (by decide) rfl (fun ls hl => ?_)
          refine lv_iinc (v := nI (k + 1)) (lv' := [(7, .int (nI (k + 1))), (5, .int (nI (enX (siR g m_ fr bk) (k + 1)))), (6, .int (nB (decide (0 < tmW kind longOf letters (siR g m_ fr bk) (k + 1) w)))), (8, .int (nI (siR g m_ fr bk k))), (0, .ref (a 0)), (1, .int (nI w)), (2, .ref ra_), (3, .int (nI fr)), (4, .int (nB bk))]) zx zb dX0_standsIn_76 hl (k := 3) rfl (nI_1 _) (by decide) rfl (fun ls hl => ?_)
          refine lv_goto (tgt := 9) zx zb dX0_standsIn_79 (by decide) ?_
          exact ih9 (k + 1) (by omega) (by omega) _ _ _ hX (lv_sub hl [0, 2, 1, 4, 5, 6, 7, 8] rfl)
        refine lv_aload_n zx zb dX0_standsIn_16 rfl (lv_at hl 5 rfl) ?_
        refine lv_iload zx zb dX0_standsIn_17 (lv_at hl 7 rfl) ?_
        refine nv_if_eqB (tgt := 32) zx zb dX0_standsIn_19 (by decide) (fun c19 => ?_) (fun c19 => ?_)
        · refine lv_iload_n zx zb dX0_standsIn_32 rfl (lv_at hl 6 rfl) ?_
          refine lv_iload zx zb dX0_standsIn_33 (lv_at hl 0 rfl) ?_
          refine nv_iadd zx zb dX0_standsIn_35 ?_
          refine lv_aload_n zx zb dX0_standsIn_36 rfl (lv_at hl 5 rfl) ?_
          refine nv_alenM zC hX 0 (xw_m hr) rfl dX0_standsIn_37 ?_
          refine nv_irem zx zb (by omega) (by omega) (by omega) dX0_standsIn_38 ?_
          exact J39 ((fr + k) % m_) (Nat.mod_lt _ (by omega)) (by unfold siR; rw [c19]; rfl) _ _ _ hX (lv_sub hl [0, 1, 2, 3, 4, 5, 6, 7] rfl)
        · refine lv_aload_n zx zb dX0_standsIn_22 rfl (lv_at hl 5 rfl) ?_
          refine nv_alenM zC hX 0 (xw_m hr) rfl dX0_standsIn_23 ?_
          refine lv_iconst (v := nI 1) zx zb dX0_standsIn_24 (by decide) ?_
          refine nv_isub zx zb (by omega) dX0_standsIn_25 ?_
          refine lv_iload zx zb dX0_standsIn_26 (lv_at hl 0 rfl) ?_
          refine nv_isub zx zb (by omega) dX0_standsIn_28 ?_
          refine lv_goto (tgt := 39) zx zb dX0_standsIn_29 (by decide) ?_
          exact J39 ((m_ - 1) - k) (by omega) (by unfold siR; rw [c19]; rfl) _ _ _ hX (lv_sub hl [0, 1, 2, 3, 4, 5, 6, 7] rfl)
  have hl : lv_has ls 9 [(7, .int (nI 0)), (6, .int (nB (decide (0 < tmW kind longOf letters (siR g m_ fr bk) 0 w)))), (5, .int (nI (enX (siR g m_ fr bk) 0))), (0, .ref (a 0)), (1, .int (nI w)), (2, .ref ra_), (3, .int (nI fr)), (4, .int (nB bk))] := hl
  exact L9 _ 0 (by omega) (Nat.lt_succ_self _) _ _ _ hX (lv_sub hl [0, 1, 2, 3, 4, 5, 6, 7] rfl)

set_option maxHeartbeats 4000000 in
theorem mx_standsInEach  (w : Nat) (o : Nat) (hW : wdIn dA (a 0) words kind longOf letters edW ez fW pa la ex) (hok : wOK words kind longOf letters) (hw : w < words) (ho : o < words) : nMt l D dA a0 yX0_standsInEach cX0_standsInEach 5 (some .boolean) 6 132 0 0 (nvE a0 ez) [.ref (a 0), .int (nI w), .int (nI o)] (xW dA a rn rt trace len stand first allh hAll fault row hOf farOf rowsN rowsT mcW edW words mcR edR rdgs sh ex) (nQi D a0 (fun (r : Int32) (_ : Unit) => r = nB (isInB kind longOf letters w o 0 && isInB kind longOf letters w o 1)) (fun (_ : Unit) => xW dA a rn rt trace len stand first allh hAll fault row hOf farOf rowsN rowsT mcW edW words mcR edR rdgs sh ex)) := by
  refine nv_start (by decide) (Nat.le_of_ble_eq_true rfl) fun zp ze s zm zlo zme zcd ls zC zr zk znm hX zG hl => ?_
  have zx := zC.1
  have zb := zC.2.1
  generalize zargs : ([.ref (a 0), .int (nI w), .int (nI o)] : List Value).toArray = zar at zC ⊢
  generalize zQ : MQ zlo _ zar s _ _ _ = Q
  have hX : nvS D a0 (xW dA a rn rt trace len stand first allh hAll fault row hOf farOf rowsN rowsT mcW edW words mcR edR rdgs sh ex) s.heap s.heap [] := hX
  have hl : lv_has ls 5 [(0, .ref (a 0)), (1, .int (nI w)), (2, .int (nI o))] := hl
  obtain ⟨H, zH⟩ : ∃ H, H = s.heap := ⟨_, rfl⟩
  have hX : nvS D a0 (xW dA a rn rt trace len stand first allh hAll fault row hOf farOf rowsN rowsT mcW edW words mcR edR rdgs sh ex) s.heap H [] := by rw [zH]; exact hX
  rw [show W zp l ze (rm_ 6 132 0 0) s zm zar zlo zme zcd s.heap [] 0 0 Q = W zp l ze (rm_ 6 132 0 0) s zm zar zlo zme zcd H [] 0 0 Q by rw [zH]]
  generalize ([] : List Loc) = locs at hX ⊢
  have hw4 := hok.1
  have hkd := hok.2.1 o
  refine lv_aload_n zx zb dX0_standsInEach_0 rfl (lv_at hl 0 rfl) ?_
  refine nv_get zC hX in_X0 0 rfl rfl 3 (by decide) q134 (fun _ h => h) rfl dX0_standsInEach_1 ?_
  refine lv_iload_n zx zb dX0_standsInEach_4 rfl (lv_at hl 2 rfl) ?_
  refine nv_kFq zC hX (nv_rF (q := (RJ2, TJ2, 3)) (x := ⟨"java/util/List", "get", "(I)Ljava/lang/Object;"⟩) (y := yJ2_get) (n := 1) (As := [.int (nI o)]) (rest := []) (q0 := 2) zC hX (mj_get (zh := a 2) (mc := mcW) (ed := edW) (n := words) (f := fW) (i := o) (hm := (List.mem_of_getElem? (i := 2) rfl)) (ha := (xw_m (hW.ed ho))) (hi := ho) (hn := (by omega))) nvGb0 (fun _ _ _ => trivial) (nvE_f1 zG) rfl rfl q201 q206 q204 q62 q208 (by decide +kernel) rfl ⟨Nat.le_of_ble_eq_true rfl, Nat.le_of_ble_eq_true rfl⟩ hl.1 (Nat.le_of_ble_eq_true rfl) dX0_standsInEach_5 ⟨by first | exact Nat.le_of_ble_eq_true rfl | omega, by first | exact Nat.le_of_ble_eq_true rfl | omega⟩) (fun r u H locs hp hX => ?_)
  have hr_ : r = fW o := hp
  subst hr_
  have hX : nvS D a0 (xW dA a rn rt trace len stand first allh hAll fault row hOf farOf rowsN rowsT mcW edW words mcR edR rdgs sh ex) s.heap H locs := hX
  refine W.cs (cells' := 0) (slots' := 0) (Nat.add_zero _) (Nat.add_zero _) ?_
  refine nv_asR (show fW o = some (pa o) from (hW.w ho)) ?_
  refine nv_castP zC zG hX (hok.2.1 _) (xw_m (hW.p ho)) q219 dX0_standsInEach_10 ?_
  refine lv_astore_n (lv' := [(3, .ref (pa o)), (0, .ref (a 0)), (1, .int (nI w)), (2, .int (nI o))]) zx zb dX0_standsInEach_13 rfl hl (by decide) rfl (fun ls hl => ?_)
  refine lv_aload_n zx zb dX0_standsInEach_14 rfl (lv_at hl 1 rfl) ?_
  refine lv_iload_n zx zb dX0_standsInEach_15 rfl (lv_at hl 2 rfl) ?_
  refine lv_aload_n zx zb dX0_standsInEach_16 rfl (lv_at hl 0 rfl) ?_
  refine nv_getP zC hX (hok.2.1 _) (xw_m (hW.p ho)) q452 dX0_standsInEach_17 ?_
  refine lv_iconst (v := nI 0) zx zb dX0_standsInEach_20 (by decide) ?_
  refine lv_iconst (v := nI 0) zx zb dX0_standsInEach_21 (by decide) ?_
  refine nv_ki zC hX (nv_rV (n := 4) (As := [.int (nI w), .ref (la o), .int (nI 0), .int (nB false)]) (rest := []) (q0 := 0) zC hX (mx_standsIn (m_ := longOf o) (g := fun k => letters (4 * o + k)) (w := w) (ra_ := la o) (fr := 0) (bk := false) (hW := (by first | assumption | omega)) (hok := (by first | assumption | omega)) (hw := (by first | assumption | omega)) (hr := (hW.l ho)) (hm := (Nat.le_trans (hok.2.2.1 _) (by decide))) (h3 := (fun j => hok.2.2.2.1 _)) (hfr := (by first | assumption | omega))) (nvE_b a0 ez) (nvE_keep zG hX) rfl rfl q407 q409 qs11 q59 q410 (by decide +kernel) rfl ⟨Nat.le_of_ble_eq_true rfl, Nat.le_of_ble_eq_true rfl⟩ hl.1 (Nat.le_of_ble_eq_true rfl) dX0_standsInEach_22 ⟨by first | exact Nat.le_of_ble_eq_true rfl | omega, by first | exact Nat.le_of_ble_eq_true rfl | omega⟩) (fun r u H locs hp hX => ?_)
  have hr_ : r = nB (decide (0 < tmW kind longOf letters (siR (fun k => letters (4 * o + k)) (longOf o) 0 false) (longOf o) w)) := hp
  subst hr_
  have hX : nvS D a0 (xW dA a rn rt trace len stand first allh hAll fault row hOf farOf rowsN rowsT mcW edW words mcR edR rdgs sh ex) s.heap H locs := hX
  refine W.cs (cells' := 0) (slots' := 0) (Nat.add_zero _) (Nat.add_zero _) ?_
  refine nv_as (show nB (decide (0 < tmW kind longOf letters (siR (fun k => letters (4 * o + k)) (longOf o) 0 false) (longOf o) w)) = nB (isInB kind longOf letters w o 0) from (congrArg nB si_f0)) ?_
  refine lv_istore (lv' := [(4, .int (nB (isInB kind longOf letters w o 0))), (3, .ref (pa o)), (0, .ref (a 0)), (1, .int (nI w)), (2, .int (nI o))]) zx zb dX0_standsInEach_25 hl (by decide) rfl (fun ls hl => ?_)
  have J56 : ∀ (d_ : Bool) (hd1 : kind o = 1 → d_ = isInB kind longOf letters w o 1) (hd2 : kind o ≠ 1 → d_ = true) (H : Heap) (locs : List Loc) (ls : Array Slot), nvS D a0 (xW dA a rn rt trace len stand first allh hAll fault row hOf farOf rowsN rowsT mcW edW words mcR edR rdgs sh ex) s.heap H locs → lv_has ls 5 [(4, .int (nB (isInB kind longOf letters w o 0))), (3, .ref (pa o)), (0, .ref (a 0)), (1, .int (nI w)), (2, .int (nI o))] → W zp l ze (rm_ 6 132 0 0) s zm zar zlo zme zcd H locs 0 0 Q (F0 zm 56 ls [.int (nB d_), .int (nB (isInB kind longOf letters w o 0))]) := by
    intro d_ hd1 hd2 H locs ls hX hl
    refine nv_iandB zx zb dX0_standsInEach_56 ?_
    refine lv_istore (lv' := [(4, .int (nB ((isInB kind longOf letters w o 0) && d_))), (3, .ref (pa o)), (0, .ref (a 0)), (1, .int (nI w)), (2, .int (nI o))]) zx zb dX0_standsInEach_57 hl (by decide) rfl (fun ls hl => ?_)
    refine lv_iload zx zb dX0_standsInEach_59 (lv_at hl 0 rfl) ?_
    refine nv_if_eqB (tgt := 90) zx zb dX0_standsInEach_61 (by decide) (fun c61 => ?_) (fun c61 => ?_)
    · refine lv_iconst (v := nI 0) zx zb dX0_standsInEach_90 (by decide) ?_
      refine nv_as (show nI 0 = nB (isInB kind longOf letters w o 0 && isInB kind longOf letters w o 1) from (nB_as0 ((Decidable.em (kind o = 1)).elim (fun z => by rw [← hd1 z]; exact c61) (fun z => by rw [hd2 z, Bool.and_true] at c61; rw [c61]; rfl)))) ?_
      rw [← zQ]
      exact nv_endz zC zr zk () hX (by first | rfl | trivial) (by omega) (by omega) dX0_standsInEach_91
    · refine lv_aload_n zx zb dX0_standsInEach_64 rfl (lv_at hl 1 rfl) ?_
      refine nv_ki zC hX (nd_kind (kd := kind o) (zh := pa o) (la := la o) (x0 := a 0) (ln := longOf o) (lt := fun k_ => letters (4 * o + k_)) (hkd := (hok.2.1 _)) (hm := (xw_m (hW.p ho))) (ha := (xw_m (hW.l ho))) (hl1 := (hok.2.2.2.2 _ ho)) (hl4 := (hok.2.2.1 _)) (hlt := (fun j => hok.2.2.2.1 _)) (rest := []) zC hX q222 dX0_standsInEach_65 hl.1 (Nat.le_of_ble_eq_true rfl) ⟨Nat.le_of_ble_eq_true rfl, Nat.le_of_ble_eq_true rfl⟩ ⟨by first | exact Nat.le_of_ble_eq_true rfl | omega, by first | exact Nat.le_of_ble_eq_true rfl | omega⟩) (fun r u H locs hp hX => ?_)
      have hr_ : r = nI (kind o) := hp
      subst hr_
      have hX : nvS D a0 (xW dA a rn rt trace len stand first allh hAll fault row hOf farOf rowsN rowsT mcW edW words mcR edR rdgs sh ex) s.heap H locs := hX
      refine W.cs (cells' := 0) (slots' := 0) (Nat.add_zero _) (Nat.add_zero _) ?_
      refine lv_iconst (v := nI 2) zx zb dX0_standsInEach_68 (by decide) ?_
      refine nv_icmp_ne (tgt := 86) zx zb (by omega) (by decide) dX0_standsInEach_69 (by decide) (fun c69 => ?_) (fun c69 => ?_)
      · refine lv_iconst (v := nI 1) zx zb dX0_standsInEach_86 (by decide) ?_
        refine lv_goto (tgt := 91) zx zb dX0_standsInEach_87 (by decide) ?_
        refine nv_as (show nI 1 = nB (isInB kind longOf letters w o 0 && isInB kind longOf letters w o 1) from (nB_as1 ((Decidable.em (kind o = 1)).elim (fun z => by rw [← hd1 z]; exact c61) (fun z => by rw [hd2 z, Bool.and_true] at c61; rw [si_k0 (by omega), c61]; rfl)))) ?_
        rw [← zQ]
        exact nv_endz zC zr zk () hX (by first | rfl | trivial) (by omega) (by omega) dX0_standsInEach_91
      · refine lv_aload_n zx zb dX0_standsInEach_72 rfl (lv_at hl 2 rfl) ?_
        refine lv_iload_n zx zb dX0_standsInEach_73 rfl (lv_at hl 3 rfl) ?_
        refine lv_aload_n zx zb dX0_standsInEach_74 rfl (lv_at hl 1 rfl) ?_
        refine nv_getP zC hX (hok.2.1 _) (xw_m (hW.p ho)) q452 dX0_standsInEach_75 ?_
        refine lv_iconst (v := nI 1) zx zb dX0_standsInEach_78 (by decide) ?_
        refine lv_iconst (v := nI 0) zx zb dX0_standsInEach_79 (by decide) ?_
        refine nv_ki zC hX (nv_rV (n := 4) (As := [.int (nI w), .ref (la o), .int (nI 1), .int (nB false)]) (rest := []) (q0 := 0) zC hX (mx_standsIn (m_ := longOf o) (g := fun k => letters (4 * o + k)) (w := w) (ra_ := la o) (fr := 1) (bk := false) (hW := (by first | assumption | omega)) (hok := (by first | assumption | omega)) (hw := (by first | assumption | omega)) (hr := (hW.l ho)) (hm := (Nat.le_trans (hok.2.2.1 _) (by decide))) (h3 := (fun j => hok.2.2.2.1 _)) (hfr := (by first | assumption | omega))) (nvE_b a0 ez) (nvE_keep zG hX) rfl rfl q407 q409 qs11 q59 q410 (by decide +kernel) rfl ⟨Nat.le_of_ble_eq_true rfl, Nat.le_of_ble_eq_true rfl⟩ hl.1 (Nat.le_of_ble_eq_true rfl) dX0_standsInEach_80 ⟨by first | exact Nat.le_of_ble_eq_true rfl | omega, by first | exact Nat.le_of_ble_eq_true rfl | omega⟩) (fun r u H locs hp hX => ?_)
        have hr_ : r = nB (decide (0 < tmW kind longOf letters (siR (fun k => letters (4 * o + k)) (longOf o) 1 false) (longOf o) w)) := hp
        subst hr_
        have hX : nvS D a0 (xW dA a rn rt trace len stand first allh hAll fault row hOf farOf rowsN rowsT mcW edW words mcR edR rdgs sh ex) s.heap H locs := hX
        refine W.cs (cells' := 0) (slots' := 0) (Nat.add_zero _) (Nat.add_zero _) ?_
        refine nv_as (congrArg nB (si_f2 c69)) ?_
        refine nv_if_eqB (tgt := 90) zx zb dX0_standsInEach_83 (by decide) (fun c83 => ?_) (fun c83 => ?_)
        · refine lv_iconst (v := nI 0) zx zb dX0_standsInEach_90 (by decide) ?_
          refine nv_as (show nI 0 = nB (isInB kind longOf letters w o 0 && isInB kind longOf letters w o 1) from (nB_as0 (by rw [c83, Bool.and_false]))) ?_
          rw [← zQ]
          exact nv_endz zC zr zk () hX (by first | rfl | trivial) (by omega) (by omega) dX0_standsInEach_91
        · refine lv_iconst (v := nI 1) zx zb dX0_standsInEach_86 (by decide) ?_
          refine lv_goto (tgt := 91) zx zb dX0_standsInEach_87 (by decide) ?_
          refine nv_as (show nI 1 = nB (isInB kind longOf letters w o 0 && isInB kind longOf letters w o 1) from (nB_as1 (by rw [hd2 (by omega), Bool.and_true] at c61; rw [c61, c83]; rfl))) ?_
          rw [← zQ]
          exact nv_endz zC zr zk () hX (by first | rfl | trivial) (by omega) (by omega) dX0_standsInEach_91
  refine lv_iload zx zb dX0_standsInEach_27 (lv_at hl 0 rfl) ?_
  refine lv_aload_n zx zb dX0_standsInEach_29 rfl (lv_at hl 1 rfl) ?_
  refine nv_ki zC hX (nd_kind (kd := kind o) (zh := pa o) (la := la o) (x0 := a 0) (ln := longOf o) (lt := fun k_ => letters (4 * o + k_)) (hkd := (hok.2.1 _)) (hm := (xw_m (hW.p ho))) (ha := (xw_m (hW.l ho))) (hl1 := (hok.2.2.2.2 _ ho)) (hl4 := (hok.2.2.1 _)) (hlt := (fun j => hok.2.2.2.1 _)) (rest := [.int (nB (isInB kind longOf letters w o 0))]) zC hX q222 dX0_standsInEach_30 hl.1 (Nat.le_of_ble_eq_true rfl) ⟨Nat.le_of_ble_eq_true rfl, Nat.le_of_ble_eq_true rfl⟩ ⟨by first | exact Nat.le_of_ble_eq_true rfl | omega, by first | exact Nat.le_of_ble_eq_true rfl | omega⟩) (fun r u H locs hp hX => ?_)
  have hr_ : r = nI (kind o) := hp
  subst hr_
  have hX : nvS D a0 (xW dA a rn rt trace len stand first allh hAll fault row hOf farOf rowsN rowsT mcW edW words mcR edR rdgs sh ex) s.heap H locs := hX
  refine W.cs (cells' := 0) (slots' := 0) (Nat.add_zero _) (Nat.add_zero _) ?_
  refine lv_iconst (v := nI 1) zx zb dX0_standsInEach_33 (by decide) ?_
  refine nv_icmp_ne (tgt := 51) zx zb (by omega) (by decide) dX0_standsInEach_34 (by decide) (fun c34 => ?_) (fun c34 => ?_)
  · refine lv_iconst (v := nI 1) zx zb dX0_standsInEach_51 (by decide) ?_
    refine lv_goto (tgt := 56) zx zb dX0_standsInEach_52 (by decide) ?_
    exact J56 true (fun z => absurd z c34) (fun _ => rfl) _ _ _ hX (lv_sub hl [0, 1, 2, 3, 4] rfl)
  · refine lv_aload_n zx zb dX0_standsInEach_37 rfl (lv_at hl 2 rfl) ?_
    refine lv_iload_n zx zb dX0_standsInEach_38 rfl (lv_at hl 3 rfl) ?_
    refine lv_aload_n zx zb dX0_standsInEach_39 rfl (lv_at hl 1 rfl) ?_
    refine nv_getP zC hX (hok.2.1 _) (xw_m (hW.p ho)) q452 dX0_standsInEach_40 ?_
    refine lv_iconst (v := nI 0) zx zb dX0_standsInEach_43 (by decide) ?_
    refine lv_iconst (v := nI 1) zx zb dX0_standsInEach_44 (by decide) ?_
    refine nv_ki zC hX (nv_rV (n := 4) (As := [.int (nI w), .ref (la o), .int (nI 0), .int (nB true)]) (rest := [.int (nB (isInB kind longOf letters w o 0))]) (q0 := 0) zC hX (mx_standsIn (m_ := longOf o) (g := fun k => letters (4 * o + k)) (w := w) (ra_ := la o) (fr := 0) (bk := true) (hW := (by first | assumption | omega)) (hok := (by first | assumption | omega)) (hw := (by first | assumption | omega)) (hr := (hW.l ho)) (hm := (Nat.le_trans (hok.2.2.1 _) (by decide))) (h3 := (fun j => hok.2.2.2.1 _)) (hfr := (by first | assumption | omega))) (nvE_b a0 ez) (nvE_keep zG hX) rfl rfl q407 q409 qs11 q59 q410 (by decide +kernel) rfl ⟨Nat.le_of_ble_eq_true rfl, Nat.le_of_ble_eq_true rfl⟩ hl.1 (Nat.le_of_ble_eq_true rfl) dX0_standsInEach_45 ⟨by first | exact Nat.le_of_ble_eq_true rfl | omega, by first | exact Nat.le_of_ble_eq_true rfl | omega⟩) (fun r u H locs hp hX => ?_)
    have hr_ : r = nB (decide (0 < tmW kind longOf letters (siR (fun k => letters (4 * o + k)) (longOf o) 0 true) (longOf o) w)) := hp
    subst hr_
    have hX : nvS D a0 (xW dA a rn rt trace len stand first allh hAll fault row hOf farOf rowsN rowsT mcW edW words mcR edR rdgs sh ex) s.heap H locs := hX
    refine W.cs (cells' := 0) (slots' := 0) (Nat.add_zero _) (Nat.add_zero _) ?_
    refine nv_as (congrArg nB (si_f1 c34)) ?_
    refine nv_if_eqB (tgt := 55) zx zb dX0_standsInEach_48 (by decide) (fun c48 => ?_) (fun c48 => ?_)
    · refine lv_iconst (v := nI 0) zx zb dX0_standsInEach_55 (by decide) ?_
      exact J56 false (fun _ => c48.symm) (fun z => absurd c34 z) _ _ _ hX (lv_sub hl [0, 1, 2, 3, 4] rfl)
    · refine lv_iconst (v := nI 1) zx zb dX0_standsInEach_51 (by decide) ?_
      refine lv_goto (tgt := 56) zx zb dX0_standsInEach_52 (by decide) ?_
      exact J56 true (fun _ => c48.symm) (fun z => absurd c34 z) _ _ _ hX (lv_sub hl [0, 1, 2, 3, 4] rfl)

set_option maxHeartbeats 4000000 in
theorem mx_spare   (hW : wdIn dA (a 0) words kind longOf letters edW ez fW pa la ex) (hok : wOK words kind longOf letters) : nMt l D dA a0 yX0_spare cX0_spare 4 (some .int) 7 156 0 0 (nvE a0 ez) [.ref (a 0)] (xW dA a rn rt trace len stand first allh hAll fault row hOf farOf rowsN rowsT mcW edW words mcR edR rdgs sh ex) (nQi D a0 (fun (r : Int32) (_ : Unit) => r = F_spare kind longOf letters words) (fun (_ : Unit) => xW dA a rn rt trace len stand first allh hAll fault row hOf farOf rowsN rowsT mcW edW words mcR edR rdgs sh ex)) := by
  refine nv_start (by decide) (Nat.le_of_ble_eq_true rfl) fun zp ze s zm zlo zme zcd ls zC zr zk znm hX zG hl => ?_
  have zx := zC.1
  have zb := zC.2.1
  generalize zargs : ([.ref (a 0)] : List Value).toArray = zar at zC ⊢
  generalize zQ : MQ zlo _ zar s _ _ _ = Q
  have hX : nvS D a0 (xW dA a rn rt trace len stand first allh hAll fault row hOf farOf rowsN rowsT mcW edW words mcR edR rdgs sh ex) s.heap s.heap [] := hX
  have hl : lv_has ls 4 [(0, .ref (a 0))] := hl
  obtain ⟨H, zH⟩ : ∃ H, H = s.heap := ⟨_, rfl⟩
  have hX : nvS D a0 (xW dA a rn rt trace len stand first allh hAll fault row hOf farOf rowsN rowsT mcW edW words mcR edR rdgs sh ex) s.heap H [] := by rw [zH]; exact hX
  rw [show W zp l ze (rm_ 7 156 0 0) s zm zar zlo zme zcd s.heap [] 0 0 Q = W zp l ze (rm_ 7 156 0 0) s zm zar zlo zme zcd H [] 0 0 Q by rw [zH]]
  generalize ([] : List Loc) = locs at hX ⊢
  have hw4 := hok.1
  refine lv_aload_n zx zb dX0_spare_0 rfl (lv_at hl 0 rfl) ?_
  refine nv_ki zC hX (nv_rV (n := 0) (As := []) (rest := []) (q0 := 0) zC hX (mx_noWords (hw := (by first | assumption | omega))) (nvE_b a0 ez) (nvE_keep zG hX) rfl rfl q332 q334 qs4 q59 q335 (by decide +kernel) rfl ⟨Nat.le_of_ble_eq_true rfl, Nat.le_of_ble_eq_true rfl⟩ hl.1 (Nat.le_of_ble_eq_true rfl) dX0_spare_1 ⟨by first | exact Nat.le_of_ble_eq_true rfl | omega, by first | exact Nat.le_of_ble_eq_true rfl | omega⟩) (fun r u H locs hp hX => ?_)
  have hr_ : r = nB (decide (words = 0)) := hp
  subst hr_
  have hX : nvS D a0 (xW dA a rn rt trace len stand first allh hAll fault row hOf farOf rowsN rowsT mcW edW words mcR edR rdgs sh ex) s.heap H locs := hX
  refine W.cs (cells' := 0) (slots' := 0) (Nat.add_zero _) (Nat.add_zero _) ?_
  refine nv_if_eqB (tgt := 10) zx zb dX0_spare_4 (by decide) (fun c4 => ?_) (fun c4 => ?_)
  · refine lv_iconst (v := nI 0) zx zb dX0_spare_10 (by decide) ?_
    refine lv_istore_n (lv' := [(1, .int (nI 0)), (0, .ref (a 0))]) zx zb dX0_spare_11 rfl hl (by decide) rfl (fun ls hl => ?_)
    refine lv_iconst (v := nI 0) zx zb dX0_spare_12 (by decide) ?_
    refine lv_istore_n (lv' := [(2, .int (nI 0)), (1, .int (nI 0)), (0, .ref (a 0))]) zx zb dX0_spare_13 rfl hl (by decide) rfl (fun ls hl => ?_)
    have L14 : ∀ (zn : Nat) (w : Nat) (hw : w ≤ words), words - w < zn → ∀ (H : Heap) (locs : List Loc) (ls : Array Slot), nvS D a0 (xW dA a rn rt trace len stand first allh hAll fault row hOf farOf rowsN rowsT mcW edW words mcR edR rdgs sh ex) s.heap H locs → lv_has ls 4 [(2, .int (nI w)), (1, .int (nI (bitsUp (fun w => spU kind longOf letters w words) w))), (0, .ref (a 0))] → W zp l ze (rm_ 7 156 0 0) s zm zar zlo zme zcd H locs 0 0 Q (F0 zm 14 ls []) := by
      intro zn
      induction zn with
      | zero => intro w hw zf; exact absurd zf (Nat.not_lt_zero _)
      | succ zn ih14 =>
        intro w hw zf H locs ls hX hl
        refine lv_iload_n zx zb dX0_spare_14 rfl (lv_at hl 0 rfl) ?_
        refine lv_aload_n zx zb dX0_spare_15 rfl (lv_at hl 2 rfl) ?_
        refine nv_get zC hX in_X0 0 rfl rfl 3 (by decide) q134 (fun _ h => h) rfl dX0_spare_16 ?_
        refine nv_kFi zC hX (nv_rF (q := (RJ2, TJ2, 3)) (x := ⟨"java/util/List", "size", "()I"⟩) (y := yJ2_size) (n := 0) (As := []) (rest := [.int (nI w)]) (q0 := 2) zC hX (mj_size (zh := a 2) (mc := mcW) (ed := edW) (n := words) (hm := (List.mem_of_getElem? (i := 2) rfl))) nvGb0 (fun _ _ _ => trivial) (nvE_f0 zG) rfl rfl q188 q194 q192 q62 q196 (by decide +kernel) rfl ⟨Nat.le_of_ble_eq_true rfl, Nat.le_of_ble_eq_true rfl⟩ hl.1 (Nat.le_of_ble_eq_true rfl) dX0_spare_19 ⟨by first | exact Nat.le_of_ble_eq_true rfl | omega, by first | exact Nat.le_of_ble_eq_true rfl | omega⟩) (fun r u H locs hp hX => ?_)
        have hr_ : r = nI words := hp
        subst hr_
        have hX : nvS D a0 (xW dA a rn rt trace len stand first allh hAll fault row hOf farOf rowsN rowsT mcW edW words mcR edR rdgs sh ex) s.heap H locs := hX
        refine W.cs (cells' := 0) (slots' := 0) (Nat.add_zero _) (Nat.add_zero _) ?_
        refine nv_icmp_ge (tgt := 78) zx zb (by omega) (by omega) dX0_spare_24 (by decide) (fun c24 => ?_) (fun c24 => ?_)
        · refine lv_iload_n zx zb dX0_spare_78 rfl (lv_at hl 1 rfl) ?_
          rw [← zQ]
          exact nv_endi zC zr zk () hX (by have e_ : w = words := (by omega); unfold F_spare; rw [if_neg (of_decide_eq_false c4), e_]) (by omega) (by omega) dX0_spare_79
        · refine lv_iconst (v := nI 0) zx zb dX0_spare_27 (by decide) ?_
          refine lv_istore_n (lv' := [(3, .int (nI 0)), (2, .int (nI w)), (1, .int (nI (bitsUp (fun w => spU kind longOf letters w words) w))), (0, .ref (a 0))]) zx zb dX0_spare_28 rfl hl (by decide) rfl (fun ls hl => ?_)
          have L29 : ∀ (zn : Nat) (o : Nat) (ho : o ≤ words), words - o < zn → ∀ (H : Heap) (locs : List Loc) (ls : Array Slot), nvS D a0 (xW dA a rn rt trace len stand first allh hAll fault row hOf farOf rowsN rowsT mcW edW words mcR edR rdgs sh ex) s.heap H locs → lv_has ls 4 [(3, .int (nI o)), (2, .int (nI w)), (1, .int (nI (bitsUp (fun w => spU kind longOf letters w words) w ||| (if spU kind longOf letters w o then 2 ^ w else 0)))), (0, .ref (a 0))] → W zp l ze (rm_ 7 156 0 0) s zm zar zlo zme zcd H locs 0 0 Q (F0 zm 29 ls []) := by
            intro zn
            induction zn with
            | zero => intro o ho zf; exact absurd zf (Nat.not_lt_zero _)
            | succ zn ih29 =>
              intro o ho zf H locs ls hX hl
              refine lv_iload_n zx zb dX0_spare_29 rfl (lv_at hl 0 rfl) ?_
              refine lv_aload_n zx zb dX0_spare_30 rfl (lv_at hl 3 rfl) ?_
              refine nv_get zC hX in_X0 0 rfl rfl 3 (by decide) q134 (fun _ h => h) rfl dX0_spare_31 ?_
              refine nv_kFi zC hX (nv_rF (q := (RJ2, TJ2, 3)) (x := ⟨"java/util/List", "size", "()I"⟩) (y := yJ2_size) (n := 0) (As := []) (rest := [.int (nI o)]) (q0 := 2) zC hX (mj_size (zh := a 2) (mc := mcW) (ed := edW) (n := words) (hm := (List.mem_of_getElem? (i := 2) rfl))) nvGb0 (fun _ _ _ => trivial) (nvE_f0 zG) rfl rfl q188 q194 q192 q62 q196 (by decide +kernel) rfl ⟨Nat.le_of_ble_eq_true rfl, Nat.le_of_ble_eq_true rfl⟩ hl.1 (Nat.le_of_ble_eq_true rfl) dX0_spare_34 ⟨by first | exact Nat.le_of_ble_eq_true rfl | omega, by first | exact Nat.le_of_ble_eq_true rfl | omega⟩) (fun r u H locs hp hX => ?_)
              have hr_ : r = nI words := hp
              subst hr_
              have hX : nvS D a0 (xW dA a rn rt trace len stand first allh hAll fault row hOf farOf rowsN rowsT mcW edW words mcR edR rdgs sh ex) s.heap H locs := hX
              refine W.cs (cells' := 0) (slots' := 0) (Nat.add_zero _) (Nat.add_zero _) ?_
              refine nv_icmp_ge (tgt := 72) zx zb (by omega) (by omega) dX0_spare_39 (by decide) (fun c39 => ?_) (fun c39 => ?_)
              · refine lv_iinc (v := nI (w + 1)) (lv' := [(2, .int (nI (w + 1))), (3, .int (nI o)), (1, .int (nI (bitsUp (fun w => spU kind longOf letters w words) w ||| (if spU kind longOf letters w o then 2 ^ w else 0)))), (0, .ref (a 0))]) zx zb dX0_spare_72 hl (k := 1) rfl (nI_1 _) (by decide) rfl (fun ls hl => ?_)
                refine lv_goto (tgt := 14) zx zb dX0_spare_75 (by decide) ?_
                have e_ : o = words := (by omega)
                rw [e_, show bitsUp (fun w => spU kind longOf letters w words) w ||| (if spU kind longOf letters w words then 2 ^ w else 0) = bitsUp (fun w => spU kind longOf letters w words) (w + 1) from bitsUp_s (P := fun w => spU kind longOf letters w words)] at hl
                exact ih14 (w + 1) (by omega) (by omega) _ _ _ hX (lv_sub hl [0, 2, 3] rfl)
              · refine lv_iload_n zx zb dX0_spare_42 rfl (lv_at hl 2 rfl) ?_
                refine lv_iload_n zx zb dX0_spare_43 rfl (lv_at hl 0 rfl) ?_
                refine lv_iload_n zx zb dX0_spare_44 rfl (lv_at hl 1 rfl) ?_
                refine nv_icmp_eq (tgt := 63) zx zb (by omega) (by omega) dX0_spare_45 (by decide) (fun c45 => ?_) (fun c45 => ?_)
                · refine lv_iconst (v := nI 0) zx zb dX0_spare_63 (by decide) ?_
                  refine nv_ior zx zb dX0_spare_64 ?_
                  refine nv_as (show nI ((bitsUp (fun w => spU kind longOf letters w words) w ||| (if spU kind longOf letters w o then 2 ^ w else 0)) ||| 0) = nI (bitsUp (fun w => spU kind longOf letters w words) w ||| (if spU kind longOf letters w (o + 1) then 2 ^ w else 0)) from (congrArg nI (by rw [show spU kind longOf letters w (o + 1) = spU kind longOf letters w o from anyUp_f (by show (decide (o ≠ w) && _) = false; rw [decide_eq_false (fun z => z c45), Bool.false_and]), or_0]))) ?_
                  refine lv_istore_n (lv' := [(1, .int (nI (bitsUp (fun w => spU kind longOf letters w words) w ||| (if spU kind longOf letters w (o + 1) then 2 ^ w else 0)))), (3, .int (nI o)), (2, .int (nI w)), (0, .ref (a 0))]) zx zb dX0_spare_65 rfl hl (by decide) rfl (fun ls hl => ?_)
                  refine lv_iinc (v := nI (o + 1)) (lv' := [(3, .int (nI (o + 1))), (1, .int (nI (bitsUp (fun w => spU kind longOf letters w words) w ||| (if spU kind longOf letters w (o + 1) then 2 ^ w else 0)))), (2, .int (nI w)), (0, .ref (a 0))]) zx zb dX0_spare_66 hl (k := 1) rfl (nI_1 _) (by decide) rfl (fun ls hl => ?_)
                  refine lv_goto (tgt := 29) zx zb dX0_spare_69 (by decide) ?_
                  exact ih29 (o + 1) (by omega) (by omega) _ _ _ hX (lv_sub hl [0, 2, 1, 3] rfl)
                · refine lv_aload_n zx zb dX0_spare_48 rfl (lv_at hl 3 rfl) ?_
                  refine lv_iload_n zx zb dX0_spare_49 rfl (lv_at hl 1 rfl) ?_
                  refine lv_iload_n zx zb dX0_spare_50 rfl (lv_at hl 0 rfl) ?_
                  refine nv_ki zC hX (nv_rV (n := 2) (As := [.int (nI w), .int (nI o)]) (rest := [.int (nI (bitsUp (fun w => spU kind longOf letters w words) w ||| (if spU kind longOf letters w o then 2 ^ w else 0)))]) (q0 := 0) zC hX (mx_standsInEach (w := w) (o := o) (hW := (by first | assumption | omega)) (hok := (by first | assumption | omega)) (hw := (by omega)) (ho := (by omega))) (nvE_b a0 ez) (nvE_keep zG hX) rfl rfl q403 q405 qs10 q59 q406 (by decide +kernel) rfl ⟨Nat.le_of_ble_eq_true rfl, Nat.le_of_ble_eq_true rfl⟩ hl.1 (Nat.le_of_ble_eq_true rfl) dX0_spare_51 ⟨by first | exact Nat.le_of_ble_eq_true rfl | omega, by first | exact Nat.le_of_ble_eq_true rfl | omega⟩) (fun r u H locs hp hX => ?_)
                  have hr_ : r = nB (isInB kind longOf letters w o 0 && isInB kind longOf letters w o 1) := hp
                  subst hr_
                  have hX : nvS D a0 (xW dA a rn rt trace len stand first allh hAll fault row hOf farOf rowsN rowsT mcW edW words mcR edR rdgs sh ex) s.heap H locs := hX
                  refine W.cs (cells' := 0) (slots' := 0) (Nat.add_zero _) (Nat.add_zero _) ?_
                  refine nv_if_eqB (tgt := 63) zx zb dX0_spare_54 (by decide) (fun c54 => ?_) (fun c54 => ?_)
                  · refine lv_iconst (v := nI 0) zx zb dX0_spare_63 (by decide) ?_
                    refine nv_ior zx zb dX0_spare_64 ?_
                    refine nv_as (show nI ((bitsUp (fun w => spU kind longOf letters w words) w ||| (if spU kind longOf letters w o then 2 ^ w else 0)) ||| 0) = nI (bitsUp (fun w => spU kind longOf letters w words) w ||| (if spU kind longOf letters w (o + 1) then 2 ^ w else 0)) from (congrArg nI (by rw [show spU kind longOf letters w (o + 1) = spU kind longOf letters w o from anyUp_f (by show (decide (o ≠ w) && _) = false; rw [decide_eq_true c45, Bool.true_and]; exact c54), or_0]))) ?_
                    refine lv_istore_n (lv' := [(1, .int (nI (bitsUp (fun w => spU kind longOf letters w words) w ||| (if spU kind longOf letters w (o + 1) then 2 ^ w else 0)))), (3, .int (nI o)), (2, .int (nI w)), (0, .ref (a 0))]) zx zb dX0_spare_65 rfl hl (by decide) rfl (fun ls hl => ?_)
                    refine lv_iinc (v := nI (o + 1)) (lv' := [(3, .int (nI (o + 1))), (1, .int (nI (bitsUp (fun w => spU kind longOf letters w words) w ||| (if spU kind longOf letters w (o + 1) then 2 ^ w else 0)))), (2, .int (nI w)), (0, .ref (a 0))]) zx zb dX0_spare_66 hl (k := 1) rfl (nI_1 _) (by decide) rfl (fun ls hl => ?_)
                    refine lv_goto (tgt := 29) zx zb dX0_spare_69 (by decide) ?_
                    exact ih29 (o + 1) (by omega) (by omega) _ _ _ hX (lv_sub hl [0, 2, 1, 3] rfl)
                  · refine lv_iconst (v := nI 1) zx zb dX0_spare_57 (by decide) ?_
                    refine lv_iload_n zx zb dX0_spare_58 rfl (lv_at hl 1 rfl) ?_
                    refine nv_ishl1 zx zb (by omega) dX0_spare_59 ?_
                    refine lv_goto (tgt := 64) zx zb dX0_spare_60 (by decide) ?_
                    refine nv_ior zx zb dX0_spare_64 ?_
                    refine nv_as (show nI ((bitsUp (fun w => spU kind longOf letters w words) w ||| (if spU kind longOf letters w o then 2 ^ w else 0)) ||| (2 ^ w)) = nI (bitsUp (fun w => spU kind longOf letters w words) w ||| (if spU kind longOf letters w (o + 1) then 2 ^ w else 0)) from (congrArg nI (by rw [show spU kind longOf letters w (o + 1) = true from anyUp_t (by show (decide (o ≠ w) && _) = true; rw [decide_eq_true c45, Bool.true_and]; exact c54)]; exact sp_t))) ?_
                    refine lv_istore_n (lv' := [(1, .int (nI (bitsUp (fun w => spU kind longOf letters w words) w ||| (if spU kind longOf letters w (o + 1) then 2 ^ w else 0)))), (3, .int (nI o)), (2, .int (nI w)), (0, .ref (a 0))]) zx zb dX0_spare_65 rfl hl (by decide) rfl (fun ls hl => ?_)
                    refine lv_iinc (v := nI (o + 1)) (lv' := [(3, .int (nI (o + 1))), (1, .int (nI (bitsUp (fun w => spU kind longOf letters w words) w ||| (if spU kind longOf letters w (o + 1) then 2 ^ w else 0)))), (2, .int (nI w)), (0, .ref (a 0))]) zx zb dX0_spare_66 hl (k := 1) rfl (nI_1 _) (by decide) rfl (fun ls hl => ?_)
                    refine lv_goto (tgt := 29) zx zb dX0_spare_69 (by decide) ?_
                    exact ih29 (o + 1) (by omega) (by omega) _ _ _ hX (lv_sub hl [0, 2, 1, 3] rfl)
          rw [show bitsUp (fun w => spU kind longOf letters w words) w = bitsUp (fun w => spU kind longOf letters w words) w ||| (if spU kind longOf letters w 0 then 2 ^ w else 0) from (or_0 (x := bitsUp (fun w => spU kind longOf letters w words) w)).symm] at hl
          exact L29 _ 0 (by omega) (Nat.lt_succ_self _) _ _ _ hX (lv_sub hl [0, 1, 2, 3] rfl)
    exact L14 _ 0 (by omega) (Nat.lt_succ_self _) _ _ _ hX (lv_sub hl [0, 1, 2] rfl)
  · refine lv_bipush (v := (-3)) zx zb dX0_spare_7 (by decide) ?_
    rw [← zQ]
    exact nv_endi zC zr zk () hX (by unfold F_spare; rw [if_pos (of_decide_eq_true c4)]) (by omega) (by omega) dX0_spare_9

set_option maxHeartbeats 4000000 in
theorem mx_over  (x : Int32) (y : Int32) (hW : wdIn dA (a 0) words kind longOf letters edW ez fW pa la ex) (hok : wOK words kind longOf letters) : nMt l D dA a0 yX0_over cX0_over 9 (some .int) 4 76 0 0 (nvE a0 ez) [.ref (a 0), .int x, .int y] (xW dA a rn rt trace len stand first allh hAll fault row hOf farOf rowsN rowsT mcW edW words mcR edR rdgs sh ex) (nQi D a0 (fun (r : Int32) (_ : Unit) => r = F_over words longOf letters x y) (fun (_ : Unit) => xW dA a rn rt trace len stand first allh hAll fault row hOf farOf rowsN rowsT mcW edW words mcR edR rdgs sh ex)) := by
  refine nv_start (by decide) (Nat.le_of_ble_eq_true rfl) fun zp ze s zm zlo zme zcd ls zC zr zk znm hX zG hl => ?_
  have zx := zC.1
  have zb := zC.2.1
  generalize zargs : ([.ref (a 0), .int x, .int y] : List Value).toArray = zar at zC ⊢
  generalize zQ : MQ zlo _ zar s _ _ _ = Q
  have hX : nvS D a0 (xW dA a rn rt trace len stand first allh hAll fault row hOf farOf rowsN rowsT mcW edW words mcR edR rdgs sh ex) s.heap s.heap [] := hX
  have hl : lv_has ls 9 [(0, .ref (a 0)), (1, .int x), (2, .int y)] := hl
  obtain ⟨H, zH⟩ : ∃ H, H = s.heap := ⟨_, rfl⟩
  have hX : nvS D a0 (xW dA a rn rt trace len stand first allh hAll fault row hOf farOf rowsN rowsT mcW edW words mcR edR rdgs sh ex) s.heap H [] := by rw [zH]; exact hX
  rw [show W zp l ze (rm_ 4 76 0 0) s zm zar zlo zme zcd s.heap [] 0 0 Q = W zp l ze (rm_ 4 76 0 0) s zm zar zlo zme zcd H [] 0 0 Q by rw [zH]]
  generalize ([] : List Loc) = locs at hX ⊢
  have hw4 := hok.1
  refine lv_aload_n zx zb dX0_over_0 rfl (lv_at hl 0 rfl) ?_
  refine lv_iload_n zx zb dX0_over_1 rfl (lv_at hl 1 rfl) ?_
  refine nv_ki zC hX (nv_rV (n := 1) (As := [.int x]) (rest := []) (q0 := 0) zC hX (mx_noWord (v := x) (hw := (by first | assumption | omega))) (nvE_b a0 ez) (nvE_keep zG hX) rfl rfl q183 q185 qs0 q59 q186 (by decide +kernel) rfl ⟨Nat.le_of_ble_eq_true rfl, Nat.le_of_ble_eq_true rfl⟩ hl.1 (Nat.le_of_ble_eq_true rfl) dX0_over_2 ⟨by first | exact Nat.le_of_ble_eq_true rfl | omega, by first | exact Nat.le_of_ble_eq_true rfl | omega⟩) (fun r u H locs hp hX => ?_)
  have hr_ : r = nB (!isW words x) := hp
  subst hr_
  have hX : nvS D a0 (xW dA a rn rt trace len stand first allh hAll fault row hOf farOf rowsN rowsT mcW edW words mcR edR rdgs sh ex) s.heap H locs := hX
  refine W.cs (cells' := 0) (slots' := 0) (Nat.add_zero _) (Nat.add_zero _) ?_
  refine nv_if_neB (tgt := 16) zx zb dX0_over_5 (by decide) (fun c5 => ?_) (fun c5 => ?_)
  · refine lv_iconst (v := (-1)) zx zb dX0_over_16 (by decide) ?_
    rw [← zQ]
    exact nv_endi zC zr zk () hX (by unfold F_over; rw [if_neg (fun z => absurd z.1 (by have := c5; simp at this; simp [this]))]) (by omega) (by omega) dX0_over_17
  · obtain ⟨ii, hi, rfl⟩ := isW_t (by omega) (by simpa using c5 : isW words x = true)
    have eii : i2n (nI ii) = ii := nI_clamp (by omega)
    refine lv_aload_n zx zb dX0_over_8 rfl (lv_at hl 0 rfl) ?_
    refine lv_iload_n zx zb dX0_over_9 rfl (lv_at hl 2 rfl) ?_
    refine nv_ki zC hX (nv_rV (n := 1) (As := [.int y]) (rest := []) (q0 := 0) zC hX (mx_noWord (v := y) (hw := (by first | assumption | omega))) (nvE_b a0 ez) (nvE_keep zG hX) rfl rfl q183 q185 qs0 q59 q186 (by decide +kernel) rfl ⟨Nat.le_of_ble_eq_true rfl, Nat.le_of_ble_eq_true rfl⟩ hl.1 (Nat.le_of_ble_eq_true rfl) dX0_over_10 ⟨by first | exact Nat.le_of_ble_eq_true rfl | omega, by first | exact Nat.le_of_ble_eq_true rfl | omega⟩) (fun r u H locs hp hX => ?_)
    have hr_ : r = nB (!isW words y) := hp
    subst hr_
    have hX : nvS D a0 (xW dA a rn rt trace len stand first allh hAll fault row hOf farOf rowsN rowsT mcW edW words mcR edR rdgs sh ex) s.heap H locs := hX
    refine W.cs (cells' := 0) (slots' := 0) (Nat.add_zero _) (Nat.add_zero _) ?_
    refine nv_if_eqB (tgt := 18) zx zb dX0_over_13 (by decide) (fun c13 => ?_) (fun c13 => ?_)
    · obtain ⟨jj, hj, rfl⟩ := isW_t (by omega) (by simpa using c13 : isW words y = true)
      have ejj : i2n (nI jj) = jj := nI_clamp (by omega)
      have hli := hok.2.2.1 ii
      have hlj := hok.2.2.1 jj
      refine lv_aload_n zx zb dX0_over_18 rfl (lv_at hl 0 rfl) ?_
      refine nv_get zC hX in_X0 0 rfl rfl 3 (by decide) q134 (fun _ h => h) rfl dX0_over_19 ?_
      refine lv_iload_n zx zb dX0_over_22 rfl (lv_at hl 1 rfl) ?_
      refine nv_kFq zC hX (nv_rF (q := (RJ2, TJ2, 3)) (x := ⟨"java/util/List", "get", "(I)Ljava/lang/Object;"⟩) (y := yJ2_get) (n := 1) (As := [.int (nI ii)]) (rest := []) (q0 := 2) zC hX (mj_get (zh := a 2) (mc := mcW) (ed := edW) (n := words) (f := fW) (i := ii) (hm := (List.mem_of_getElem? (i := 2) rfl)) (ha := (xw_m (hW.ed hi))) (hi := hi) (hn := (by omega))) nvGb0 (fun _ _ _ => trivial) (nvE_f1 zG) rfl rfl q201 q206 q204 q62 q208 (by decide +kernel) rfl ⟨Nat.le_of_ble_eq_true rfl, Nat.le_of_ble_eq_true rfl⟩ hl.1 (Nat.le_of_ble_eq_true rfl) dX0_over_23 ⟨by first | exact Nat.le_of_ble_eq_true rfl | omega, by first | exact Nat.le_of_ble_eq_true rfl | omega⟩) (fun r u H locs hp hX => ?_)
      have hr_ : r = fW ii := hp
      subst hr_
      have hX : nvS D a0 (xW dA a rn rt trace len stand first allh hAll fault row hOf farOf rowsN rowsT mcW edW words mcR edR rdgs sh ex) s.heap H locs := hX
      refine W.cs (cells' := 0) (slots' := 0) (Nat.add_zero _) (Nat.add_zero _) ?_
      refine nv_asR (show fW ii = some (pa ii) from (hW.w hi)) ?_
      refine nv_castP zC zG hX (hok.2.1 _) (xw_m (hW.p hi)) q219 dX0_over_28 ?_
      refine nv_getP zC hX (hok.2.1 _) (xw_m (hW.p hi)) q452 dX0_over_31 ?_
      refine lv_astore_n (lv' := [(3, .ref (la ii)), (0, .ref (a 0)), (1, .int (nI ii)), (2, .int (nI jj))]) zx zb dX0_over_34 rfl hl (by decide) rfl (fun ls hl => ?_)
      refine lv_aload_n zx zb dX0_over_35 rfl (lv_at hl 1 rfl) ?_
      refine nv_get zC hX in_X0 0 rfl rfl 3 (by decide) q134 (fun _ h => h) rfl dX0_over_36 ?_
      refine lv_iload_n zx zb dX0_over_39 rfl (lv_at hl 3 rfl) ?_
      refine nv_kFq zC hX (nv_rF (q := (RJ2, TJ2, 3)) (x := ⟨"java/util/List", "get", "(I)Ljava/lang/Object;"⟩) (y := yJ2_get) (n := 1) (As := [.int (nI jj)]) (rest := []) (q0 := 2) zC hX (mj_get (zh := a 2) (mc := mcW) (ed := edW) (n := words) (f := fW) (i := jj) (hm := (List.mem_of_getElem? (i := 2) rfl)) (ha := (xw_m (hW.ed hj))) (hi := hj) (hn := (by omega))) nvGb0 (fun _ _ _ => trivial) (nvE_f1 zG) rfl rfl q201 q206 q204 q62 q208 (by decide +kernel) rfl ⟨Nat.le_of_ble_eq_true rfl, Nat.le_of_ble_eq_true rfl⟩ hl.1 (Nat.le_of_ble_eq_true rfl) dX0_over_40 ⟨by first | exact Nat.le_of_ble_eq_true rfl | omega, by first | exact Nat.le_of_ble_eq_true rfl | omega⟩) (fun r u H locs hp hX => ?_)
      have hr_ : r = fW jj := hp
      subst hr_
      have hX : nvS D a0 (xW dA a rn rt trace len stand first allh hAll fault row hOf farOf rowsN rowsT mcW edW words mcR edR rdgs sh ex) s.heap H locs := hX
      refine W.cs (cells' := 0) (slots' := 0) (Nat.add_zero _) (Nat.add_zero _) ?_
      refine nv_asR (show fW jj = some (pa jj) from (hW.w hj)) ?_
      refine nv_castP zC zG hX (hok.2.1 _) (xw_m (hW.p hj)) q219 dX0_over_45 ?_
      refine nv_getP zC hX (hok.2.1 _) (xw_m (hW.p hj)) q452 dX0_over_48 ?_
      refine lv_astore (lv' := [(4, .ref (la jj)), (3, .ref (la ii)), (0, .ref (a 0)), (1, .int (nI ii)), (2, .int (nI jj))]) zx zb dX0_over_51 hl (by decide) rfl (fun ls hl => ?_)
      refine lv_iconst (v := nI 0) zx zb dX0_over_53 (by decide) ?_
      refine lv_istore (lv' := [(5, .int (nI 0)), (4, .ref (la jj)), (3, .ref (la ii)), (0, .ref (a 0)), (1, .int (nI ii)), (2, .int (nI jj))]) zx zb dX0_over_54 hl (by decide) rfl (fun ls hl => ?_)
      refine lv_iconst (v := nI 1) zx zb dX0_over_56 (by decide) ?_
      refine lv_istore (lv' := [(6, .int (nI 1)), (5, .int (nI 0)), (4, .ref (la jj)), (3, .ref (la ii)), (0, .ref (a 0)), (1, .int (nI ii)), (2, .int (nI jj))]) zx zb dX0_over_57 hl (by decide) rfl (fun ls hl => ?_)
      have L59 : ∀ (zn : Nat) (n : Nat) (hn : n ≤ min (longOf ii) (longOf jj)), min (longOf ii) (longOf jj) - n < zn → ∀ (H : Heap) (locs : List Loc) (ls : Array Slot), nvS D a0 (xW dA a rn rt trace len stand first allh hAll fault row hOf farOf rowsN rowsT mcW edW words mcR edR rdgs sh ex) s.heap H locs → lv_has ls 9 [(6, .int (nI (n + 1))), (5, .int (nI (ovD (fun n => ovP longOf letters ii jj n n) n))), (4, .ref (la jj)), (3, .ref (la ii)), (0, .ref (a 0)), (1, .int (nI ii)), (2, .int (nI jj))] → W zp l ze (rm_ 4 76 0 0) s zm zar zlo zme zcd H locs 0 0 Q (F0 zm 59 ls []) := by
        intro zn
        induction zn with
        | zero => intro n hn zf; exact absurd zf (Nat.not_lt_zero _)
        | succ zn ih59 =>
          intro n hn zf H locs ls hX hl
          refine lv_iload zx zb dX0_over_59 (lv_at hl 0 rfl) ?_
          refine lv_aload_n zx zb dX0_over_61 rfl (lv_at hl 3 rfl) ?_
          refine nv_alenM zC hX 0 (xw_m (hW.l hi)) rfl dX0_over_62 ?_
          refine lv_aload zx zb dX0_over_63 (lv_at hl 2 rfl) ?_
          refine nv_alenM zC hX 0 (xw_m (hW.l hj)) rfl dX0_over_65 ?_
          refine nv_min zC hl.1 q353 (by omega) (by omega) ⟨Nat.le_of_ble_eq_true rfl, Nat.le_of_ble_eq_true rfl⟩ (Nat.le_of_ble_eq_true rfl) ⟨by first | exact Nat.le_of_ble_eq_true rfl | omega, by first | exact Nat.le_of_ble_eq_true rfl | omega⟩ dX0_over_66 ?_
          refine nv_icmp_gt (tgt := 139) zx zb (by omega) (by omega) dX0_over_69 (by decide) (fun c69 => ?_) (fun c69 => ?_)
          · refine lv_iload zx zb dX0_over_139 (lv_at hl 1 rfl) ?_
            rw [← zQ]
            exact nv_endi zC zr zk () hX (by have e_ : n = min (longOf ii) (longOf jj) := (by omega); unfold F_over; rw [if_pos ⟨by rw [isW_n (by omega) (by omega)]; exact decide_eq_true hi, by rw [isW_n (by omega) (by omega)]; exact decide_eq_true hj⟩, eii, ejj, e_]) (by omega) (by omega) dX0_over_141
          · refine lv_iconst (v := nI 1) zx zb dX0_over_72 (by decide) ?_
            refine lv_istore (lv' := [(7, .int (nI 1)), (6, .int (nI (n + 1))), (5, .int (nI (ovD (fun n => ovP longOf letters ii jj n n) n))), (4, .ref (la jj)), (3, .ref (la ii)), (0, .ref (a 0)), (1, .int (nI ii)), (2, .int (nI jj))]) zx zb dX0_over_73 hl (by decide) rfl (fun ls hl => ?_)
            refine lv_iconst (v := nI 0) zx zb dX0_over_75 (by decide) ?_
            refine lv_istore (lv' := [(8, .int (nI 0)), (7, .int (nI 1)), (6, .int (nI (n + 1))), (5, .int (nI (ovD (fun n => ovP longOf letters ii jj n n) n))), (4, .ref (la jj)), (3, .ref (la ii)), (0, .ref (a 0)), (1, .int (nI ii)), (2, .int (nI jj))]) zx zb dX0_over_76 hl (by decide) rfl (fun ls hl => ?_)
            have L78 : ∀ (zn : Nat) (k : Nat) (hk : k ≤ n + 1), n + 1 - k < zn → ∀ (H : Heap) (locs : List Loc) (ls : Array Slot), nvS D a0 (xW dA a rn rt trace len stand first allh hAll fault row hOf farOf rowsN rowsT mcW edW words mcR edR rdgs sh ex) s.heap H locs → lv_has ls 9 [(8, .int (nI k)), (7, .int (nB (ovP longOf letters ii jj (n + 1) k))), (6, .int (nI (n + 1))), (5, .int (nI (ovD (fun n => ovP longOf letters ii jj n n) n))), (4, .ref (la jj)), (3, .ref (la ii)), (0, .ref (a 0)), (1, .int (nI ii)), (2, .int (nI jj))] → W zp l ze (rm_ 4 76 0 0) s zm zar zlo zme zcd H locs 0 0 Q (F0 zm 78 ls []) := by
              intro zn
              induction zn with
              | zero => intro k hk zf; exact absurd zf (Nat.not_lt_zero _)
              | succ zn ih78 =>
                intro k hk zf H locs ls hX hl
                refine lv_iload zx zb dX0_over_78 (lv_at hl 0 rfl) ?_
                refine lv_iload zx zb dX0_over_80 (lv_at hl 2 rfl) ?_
                refine nv_icmp_ge (tgt := 119) zx zb (by omega) (by omega) dX0_over_82 (by decide) (fun c82 => ?_) (fun c82 => ?_)
                · have e_ : k = n + 1 := (by omega)
                  refine lv_iload zx zb dX0_over_119 (lv_at hl 1 rfl) ?_
                  refine nv_if_eqB (tgt := 129) zx zb dX0_over_121 (by decide) (fun c121 => ?_) (fun c121 => ?_)
                  · refine lv_iload zx zb dX0_over_129 (lv_at hl 3 rfl) ?_
                    refine nv_as (show nI (ovD (fun n => ovP longOf letters ii jj n n) n) = nI (ovD (fun n => ovP longOf letters ii jj n n) (n + 1)) from (congrArg nI (by rw [ovD_s, if_neg (by rw [e_] at c121; rw [c121]; decide)]))) ?_
                    refine lv_istore (lv' := [(5, .int (nI (ovD (fun n => ovP longOf letters ii jj n n) (n + 1)))), (8, .int (nI k)), (7, .int (nB (ovP longOf letters ii jj (n + 1) k))), (6, .int (nI (n + 1))), (4, .ref (la jj)), (3, .ref (la ii)), (0, .ref (a 0)), (1, .int (nI ii)), (2, .int (nI jj))]) zx zb dX0_over_131 hl (by decide) rfl (fun ls hl => ?_)
                    refine lv_iinc (v := nI (n + 1 + 1)) (lv' := [(6, .int (nI (n + 1 + 1))), (5, .int (nI (ovD (fun n => ovP longOf letters ii jj n n) (n + 1)))), (8, .int (nI k)), (7, .int (nB (ovP longOf letters ii jj (n + 1) k))), (4, .ref (la jj)), (3, .ref (la ii)), (0, .ref (a 0)), (1, .int (nI ii)), (2, .int (nI jj))]) zx zb dX0_over_133 hl (k := 3) rfl (nI_1 _) (by decide) rfl (fun ls hl => ?_)
                    refine lv_goto (tgt := 59) zx zb dX0_over_136 (by decide) ?_
                    exact ih59 (n + 1) (by omega) (by omega) _ _ _ hX (lv_sub hl [0, 1, 4, 5, 6, 7, 8] rfl)
                  · refine lv_iload zx zb dX0_over_124 (lv_at hl 2 rfl) ?_
                    refine lv_goto (tgt := 131) zx zb dX0_over_126 (by decide) ?_
                    refine nv_as (show nI (n + 1) = nI (ovD (fun n => ovP longOf letters ii jj n n) (n + 1)) from (congrArg nI (by rw [ovD_s, if_pos (by rw [e_] at c121; exact c121)]))) ?_
                    refine lv_istore (lv' := [(5, .int (nI (ovD (fun n => ovP longOf letters ii jj n n) (n + 1)))), (8, .int (nI k)), (7, .int (nB (ovP longOf letters ii jj (n + 1) k))), (6, .int (nI (n + 1))), (4, .ref (la jj)), (3, .ref (la ii)), (0, .ref (a 0)), (1, .int (nI ii)), (2, .int (nI jj))]) zx zb dX0_over_131 hl (by decide) rfl (fun ls hl => ?_)
                    refine lv_iinc (v := nI (n + 1 + 1)) (lv' := [(6, .int (nI (n + 1 + 1))), (5, .int (nI (ovD (fun n => ovP longOf letters ii jj n n) (n + 1)))), (8, .int (nI k)), (7, .int (nB (ovP longOf letters ii jj (n + 1) k))), (4, .ref (la jj)), (3, .ref (la ii)), (0, .ref (a 0)), (1, .int (nI ii)), (2, .int (nI jj))]) zx zb dX0_over_133 hl (k := 3) rfl (nI_1 _) (by decide) rfl (fun ls hl => ?_)
                    refine lv_goto (tgt := 59) zx zb dX0_over_136 (by decide) ?_
                    exact ih59 (n + 1) (by omega) (by omega) _ _ _ hX (lv_sub hl [0, 1, 4, 5, 6, 7, 8] rfl)
                · refine lv_iload zx zb dX0_over_85 (lv_at hl 1 rfl) ?_
                  refine lv_aload_n zx zb dX0_over_87 rfl (lv_at hl 5 rfl) ?_
                  refine lv_aload_n zx zb dX0_over_88 rfl (lv_at hl 5 rfl) ?_
                  refine nv_alenM zC hX 0 (xw_m (hW.l hi)) rfl dX0_over_89 ?_
                  refine lv_iload zx zb dX0_over_90 (lv_at hl 2 rfl) ?_
                  refine nv_isub zx zb (by omega) dX0_over_92 ?_
                  refine lv_iload zx zb dX0_over_93 (lv_at hl 0 rfl) ?_
                  refine nv_iadd zx zb dX0_over_95 ?_
                  refine nv_ialdM (v := nI (letters (4 * ii + longOf ii - (n + 1) + k))) zC hX (xw_m (hW.l hi)) (by omega) (by omega) (congrArg nI (congrArg letters (by omega))) dX0_over_96 ?_
                  refine lv_aload zx zb dX0_over_97 (lv_at hl 4 rfl) ?_
                  refine lv_iload zx zb dX0_over_99 (lv_at hl 0 rfl) ?_
                  refine nv_ialdM (v := nI (letters (4 * jj + k))) zC hX (xw_m (hW.l hj)) (by omega) (by omega) rfl dX0_over_101 ?_
                  refine nv_icmp_ne (tgt := 109) zx zb (Nat.lt_trans (hok.2.2.2.1 _) (by decide)) (Nat.lt_trans (hok.2.2.2.1 _) (by decide)) dX0_over_102 (by decide) (fun c102 => ?_) (fun c102 => ?_)
                  · refine lv_iconst (v := nI 0) zx zb dX0_over_109 (by decide) ?_
                    refine nv_as (show nI 0 = nB (decide (letters (4 * ii + longOf ii - (n + 1) + k) = letters (4 * jj + k))) from (nB_as0 (decide_eq_false c102))) ?_
                    refine nv_iandB zx zb dX0_over_110 ?_
                    refine nv_as (show nB ((ovP longOf letters ii jj (n + 1) k) && (decide (letters (4 * ii + longOf ii - (n + 1) + k) = letters (4 * jj + k)))) = nB (ovP longOf letters ii jj (n + 1) (k + 1)) from (congrArg nB ovP_b)) ?_
                    refine lv_istore (lv' := [(7, .int (nB (ovP longOf letters ii jj (n + 1) (k + 1)))), (8, .int (nI k)), (6, .int (nI (n + 1))), (5, .int (nI (ovD (fun n => ovP longOf letters ii jj n n) n))), (4, .ref (la jj)), (3, .ref (la ii)), (0, .ref (a 0)), (1, .int (nI ii)), (2, .int (nI jj))]) zx zb dX0_over_111 hl (by decide) rfl (fun ls hl => ?_)
                    refine lv_iinc (v := nI (k + 1)) (lv' := [(8, .int (nI (k + 1))), (7, .int (nB (ovP longOf letters ii jj (n + 1) (k + 1)))), (6, .int (nI (n + 1))), (5, .int (nI (ovD (fun n => ovP longOf letters ii jj n n) n))), (4, .ref (la jj)), (3, .ref (la ii)), (0, .ref (a 0)), (1, .int (nI ii)), (2, .int (nI jj))]) zx zb dX0_over_113 hl (k := 1) rfl (nI_1 _) (by decide) rfl (fun ls hl => ?_)
                    refine lv_goto (tgt := 78) zx zb dX0_over_116 (by decide) ?_
                    exact ih78 (k + 1) (by omega) (by omega) _ _ _ hX (lv_sub hl [0, 1, 2, 3, 4, 5, 6, 7, 8] rfl)
                  · refine lv_iconst (v := nI 1) zx zb dX0_over_105 (by decide) ?_
                    refine lv_goto (tgt := 110) zx zb dX0_over_106 (by decide) ?_
                    refine nv_as (show nI 1 = nB (decide (letters (4 * ii + longOf ii - (n + 1) + k) = letters (4 * jj + k))) from (nB_as1 (decide_eq_true c102))) ?_
                    refine nv_iandB zx zb dX0_over_110 ?_
                    refine nv_as (show nB ((ovP longOf letters ii jj (n + 1) k) && (decide (letters (4 * ii + longOf ii - (n + 1) + k) = letters (4 * jj + k)))) = nB (ovP longOf letters ii jj (n + 1) (k + 1)) from (congrArg nB ovP_b)) ?_
                    refine lv_istore (lv' := [(7, .int (nB (ovP longOf letters ii jj (n + 1) (k + 1)))), (8, .int (nI k)), (6, .int (nI (n + 1))), (5, .int (nI (ovD (fun n => ovP longOf letters ii jj n n) n))), (4, .ref (la jj)), (3, .ref (la ii)), (0, .ref (a 0)), (1, .int (nI ii)), (2, .int (nI jj))]) zx zb dX0_over_111 hl (by decide) rfl (fun ls hl => ?_)
                    refine lv_iinc (v := nI (k + 1)) (lv' := [(8, .int (nI (k + 1))), (7, .int (nB (ovP longOf letters ii jj (n + 1) (k + 1)))), (6, .int (nI (n + 1))), (5, .int (nI (ovD (fun n => ovP longOf letters ii jj n n) n))), (4, .ref (la jj)), (3, .ref (la ii)), (0, .ref (a 0)), (1, .int (nI ii)), (2, .int (nI jj))]) zx zb dX0_over_113 hl (k := 1) rfl (nI_1 _) (by decide) rfl (fun ls hl => ?_)
                    refine lv_goto (tgt := 78) zx zb dX0_over_116 (by decide) ?_
                    exact ih78 (k + 1) (by omega) (by omega) _ _ _ hX (lv_sub hl [0, 1, 2, 3, 4, 5, 6, 7, 8] rfl)
            rw [show nI 1 = nB (ovP longOf letters ii jj (n + 1) 0) from nB_as1 ovP_0] at hl
            exact L78 _ 0 (by omega) (Nat.lt_succ_self _) _ _ _ hX (lv_sub hl [0, 1, 2, 3, 4, 5, 6, 7, 8] rfl)
      exact L59 _ 0 (Nat.zero_le _) (Nat.lt_succ_self _) _ _ _ hX (lv_sub hl [0, 1, 2, 3, 4, 5, 6] rfl)
    · refine lv_iconst (v := (-1)) zx zb dX0_over_16 (by decide) ?_
      rw [← zQ]
      exact nv_endi zC zr zk () hX (by unfold F_over; rw [if_neg (fun z => absurd z.2 (by have := c13; simp at this; simp [this]))]) (by omega) (by omega) dX0_over_17

set_option maxHeartbeats 4000000 in
theorem mx_ofWord  (x : Int32) (what : Int32) (hW : wdIn dA (a 0) words kind longOf letters edW ez fW pa la ex) (hok : wOK words kind longOf letters) (hl60 : len ≤ 60) (h3 : ∀ j, row j < 3) : nMt l D dA a0 yX0_ofWord cX0_ofWord 4 (some .int) 7 154 0 0 (nvE a0 ez) [.ref (a 0), .int x, .int what] (xW dA a rn rt trace len stand first allh hAll fault row hOf farOf rowsN rowsT mcW edW words mcR edR rdgs sh ex) (nQi D a0 (fun (r : Int32) (u : Nat × Option Nat × Option Nat × Nat × (Nat → Nat)) => r = F_ofWord words len kind longOf letters row x what) (fun (u : Nat × Option Nat × Option Nat × Nat × (Nat → Nat)) => xW dA a rn rt trace len u.1 u.2.1 u.2.2.1 u.2.2.2.1 fault row u.2.2.2.2 farOf rowsN rowsT mcW edW words mcR edR rdgs sh ex)) := by
  refine nv_start (by decide) (Nat.le_of_ble_eq_true rfl) fun zp ze s zm zlo zme zcd ls zC zr zk znm hX zG hl => ?_
  have zx := zC.1
  have zb := zC.2.1
  generalize zargs : ([.ref (a 0), .int x, .int what] : List Value).toArray = zar at zC ⊢
  generalize zQ : MQ zlo _ zar s _ _ _ = Q
  have hX : nvS D a0 (xW dA a rn rt trace len stand first allh hAll fault row hOf farOf rowsN rowsT mcW edW words mcR edR rdgs sh ex) s.heap s.heap [] := hX
  have hl : lv_has ls 4 [(0, .ref (a 0)), (1, .int x), (2, .int what)] := hl
  obtain ⟨H, zH⟩ : ∃ H, H = s.heap := ⟨_, rfl⟩
  have hX : nvS D a0 (xW dA a rn rt trace len stand first allh hAll fault row hOf farOf rowsN rowsT mcW edW words mcR edR rdgs sh ex) s.heap H [] := by rw [zH]; exact hX
  rw [show W zp l ze (rm_ 7 154 0 0) s zm zar zlo zme zcd s.heap [] 0 0 Q = W zp l ze (rm_ 7 154 0 0) s zm zar zlo zme zcd H [] 0 0 Q by rw [zH]]
  generalize ([] : List Loc) = locs at hX ⊢
  have hw4 := hok.1
  refine lv_aload_n zx zb dX0_ofWord_0 rfl (lv_at hl 0 rfl) ?_
  refine lv_iload_n zx zb dX0_ofWord_1 rfl (lv_at hl 1 rfl) ?_
  refine nv_ki zC hX (nv_rV (n := 1) (As := [.int x]) (rest := []) (q0 := 0) zC hX (mx_noWord (v := x) (hw := (by first | assumption | omega))) (nvE_b a0 ez) (nvE_keep zG hX) rfl rfl q183 q185 qs0 q59 q186 (by decide +kernel) rfl ⟨Nat.le_of_ble_eq_true rfl, Nat.le_of_ble_eq_true rfl⟩ hl.1 (Nat.le_of_ble_eq_true rfl) dX0_ofWord_2 ⟨by first | exact Nat.le_of_ble_eq_true rfl | omega, by first | exact Nat.le_of_ble_eq_true rfl | omega⟩) (fun r u H locs hp hX => ?_)
  have hr_ : r = nB (!isW words x) := hp
  subst hr_
  have hX : nvS D a0 (xW dA a rn rt trace len stand first allh hAll fault row hOf farOf rowsN rowsT mcW edW words mcR edR rdgs sh ex) s.heap H locs := hX
  refine W.cs (cells' := 0) (slots' := 0) (Nat.add_zero _) (Nat.add_zero _) ?_
  refine nv_if_eqB (tgt := 10) zx zb dX0_ofWord_5 (by decide) (fun c5 => ?_) (fun c5 => ?_)
  · obtain ⟨ii, hi, rfl⟩ := isW_t (by omega) (by simpa using c5 : isW words x = true)
    have eii : i2n (nI ii) = ii := nI_clamp (by omega)
    have hli := hok.2.2.1 ii
    have hwi : isW words (nI ii) = true := by rw [isW_n (by omega) (by omega)]; exact decide_eq_true hi
    refine lv_aload_n zx zb dX0_ofWord_10 rfl (lv_at hl 0 rfl) ?_
    refine nv_get zC hX in_X0 0 rfl rfl 3 (by decide) q134 (fun _ h => h) rfl dX0_ofWord_11 ?_
    refine lv_iload_n zx zb dX0_ofWord_14 rfl (lv_at hl 1 rfl) ?_
    refine nv_kFq zC hX (nv_rF (q := (RJ2, TJ2, 3)) (x := ⟨"java/util/List", "get", "(I)Ljava/lang/Object;"⟩) (y := yJ2_get) (n := 1) (As := [.int (nI ii)]) (rest := []) (q0 := 2) zC hX (mj_get (zh := a 2) (mc := mcW) (ed := edW) (n := words) (f := fW) (i := ii) (hm := (List.mem_of_getElem? (i := 2) rfl)) (ha := (xw_m (hW.ed hi))) (hi := hi) (hn := (by omega))) nvGb0 (fun _ _ _ => trivial) (nvE_f1 zG) rfl rfl q201 q206 q204 q62 q208 (by decide +kernel) rfl ⟨Nat.le_of_ble_eq_true rfl, Nat.le_of_ble_eq_true rfl⟩ hl.1 (Nat.le_of_ble_eq_true rfl) dX0_ofWord_15 ⟨by first | exact Nat.le_of_ble_eq_true rfl | omega, by first | exact Nat.le_of_ble_eq_true rfl | omega⟩) (fun r u H locs hp hX => ?_)
    have hr_ : r = fW ii := hp
    subst hr_
    have hX : nvS D a0 (xW dA a rn rt trace len stand first allh hAll fault row hOf farOf rowsN rowsT mcW edW words mcR edR rdgs sh ex) s.heap H locs := hX
    refine W.cs (cells' := 0) (slots' := 0) (Nat.add_zero _) (Nat.add_zero _) ?_
    refine nv_asR (show fW ii = some (pa ii) from (hW.w hi)) ?_
    refine nv_castP zC zG hX (hok.2.1 _) (xw_m (hW.p hi)) q219 dX0_ofWord_20 ?_
    refine lv_astore_n (lv' := [(3, .ref (pa ii)), (0, .ref (a 0)), (1, .int (nI ii)), (2, .int what)]) zx zb dX0_ofWord_23 rfl hl (by decide) rfl (fun ls hl => ?_)
    refine lv_iload_n zx zb dX0_ofWord_24 rfl (lv_at hl 3 rfl) ?_
    refine lv_i2l zx zb dX0_ofWord_25 rfl ?_
    refine lv_ldc2 (v := lN 10) zx zb zC.2.2.2.1 (zC.2.2.2.2.1 _ q220) dX0_ofWord_26 ?_
    refine lv_ldc2 (v := lN 13) zx zb zC.2.2.2.1 (zC.2.2.2.2.1 _ q221) dX0_ofWord_29 ?_
    refine nv_ki zC hX (nv_rS (n := 3) (As := [.long what.toInt64, .long (lN 10), .long (lN 13)]) (rest := []) zC hX (mx_in (v := what.toInt64) (lo := lN 10) (hi := lN 13)) nvGb0 (fun _ _ _ => trivial) q197 q198 q59 q199 (by decide +kernel) rfl ⟨Nat.le_of_ble_eq_true rfl, Nat.le_of_ble_eq_true rfl⟩ hl.1 (Nat.le_of_ble_eq_true rfl) dX0_ofWord_32 ⟨by first | exact Nat.le_of_ble_eq_true rfl | omega, by first | exact Nat.le_of_ble_eq_true rfl | omega⟩) (fun r u H locs hp hX => ?_)
    have hr_ : r = nB (decide (lN 10 ≤ what.toInt64) && decide (what.toInt64 ≤ lN 13)) := hp
    subst hr_
    have hX : nvS D a0 (xW dA a rn rt trace len stand first allh hAll fault row hOf farOf rowsN rowsT mcW edW words mcR edR rdgs sh ex) s.heap H locs := hX
    refine W.cs (cells' := 0) (slots' := 0) (Nat.add_zero _) (Nat.add_zero _) ?_
    refine nv_as (show nB (decide (lN 10 ≤ what.toInt64) && decide (what.toInt64 ≤ lN 13)) = nB (inN what 10 13) from (congrArg nB (inN_l (by decide) (by decide)))) ?_
    refine nv_if_eqB (tgt := 65) zx zb dX0_ofWord_35 (by decide) (fun c35 => ?_) (fun c35 => ?_)
    · refine lv_iload_n zx zb dX0_ofWord_65 rfl (lv_at hl 3 rfl) ?_
      rcases sw_lt (what) (n := 4) (by decide) with ⟨sw, swh, swe⟩ | swo
      · rcases (by omega : sw = 0 ∨ sw = 1 ∨ sw = 2 ∨ sw = 3) with swi | swi | swi | swi
        · rw [swi] at swe
          subst swe
          refine lv_tableIn (tgt := 96) zx zb dX0_ofWord_66 (by decide) (by decide) rfl (by decide) ?_
          refine lv_aload_n zx zb dX0_ofWord_96 rfl (lv_at hl 0 rfl) ?_
          refine nv_ki zC hX (nd_kind (kd := kind ii) (zh := pa ii) (la := la ii) (x0 := a 0) (ln := longOf ii) (lt := fun k_ => letters (4 * ii + k_)) (hkd := (hok.2.1 _)) (hm := (xw_m (hW.p hi))) (ha := (xw_m (hW.l hi))) (hl1 := (hok.2.2.2.2 _ hi)) (hl4 := (hok.2.2.1 _)) (hlt := (fun j => hok.2.2.2.1 _)) (rest := []) zC hX q222 dX0_ofWord_97 hl.1 (Nat.le_of_ble_eq_true rfl) ⟨Nat.le_of_ble_eq_true rfl, Nat.le_of_ble_eq_true rfl⟩ ⟨by first | exact Nat.le_of_ble_eq_true rfl | omega, by first | exact Nat.le_of_ble_eq_true rfl | omega⟩) (fun r u H locs hp hX => ?_)
          have hr_ : r = nI (kind ii) := hp
          subst hr_
          have hX : nvS D a0 (xW dA a rn rt trace len stand first allh hAll fault row hOf farOf rowsN rowsT mcW edW words mcR edR rdgs sh ex) s.heap H locs := hX
          refine W.cs (cells' := 0) (slots' := 0) (Nat.add_zero _) (Nat.add_zero _) ?_
          rw [← zQ]
          exact nv_endi zC zr zk (stand, first, allh, hAll, hOf) hX (by (try dsimp only); unfold F_ofWord; rw [if_pos hwi, if_neg (by decide), eii, if_pos rfl]) (by omega) (by omega) dX0_ofWord_100
        · rw [swi] at swe
          subst swe
          refine lv_tableIn (tgt := 101) zx zb dX0_ofWord_66 (by decide) (by decide) rfl (by decide) ?_
          refine lv_aload_n zx zb dX0_ofWord_101 rfl (lv_at hl 0 rfl) ?_
          refine nv_getP zC hX (hok.2.1 _) (xw_m (hW.p hi)) q452 dX0_ofWord_102 ?_
          refine nv_alenM zC hX 0 (xw_m (hW.l hi)) rfl dX0_ofWord_105 ?_
          rw [← zQ]
          exact nv_endi zC zr zk (stand, first, allh, hAll, hOf) hX (by (try dsimp only); unfold F_ofWord; rw [if_pos hwi, if_neg (by decide), eii, if_neg (by decide), if_pos rfl]) (by omega) (by omega) dX0_ofWord_106
        · rw [swi] at swe
          subst swe
          refine lv_tableIn (tgt := 107) zx zb dX0_ofWord_66 (by decide) (by decide) rfl (by decide) ?_
          refine lv_aload_n zx zb dX0_ofWord_107 rfl (lv_at hl 0 rfl) ?_
          refine nv_ki zC hX (nd_forms (kd := kind ii) (zh := pa ii) (la := la ii) (x0 := a 0) (ln := longOf ii) (lt := fun k_ => letters (4 * ii + k_)) (hkd := (hok.2.1 _)) (hm := (xw_m (hW.p hi))) (ha := (xw_m (hW.l hi))) (hl1 := (hok.2.2.2.2 _ hi)) (hl4 := (hok.2.2.1 _)) (hlt := (fun j => hok.2.2.2.1 _)) (rest := []) zC hX q233 dX0_ofWord_108 hl.1 (Nat.le_of_ble_eq_true rfl) ⟨Nat.le_of_ble_eq_true rfl, Nat.le_of_ble_eq_true rfl⟩ ⟨by first | exact Nat.le_of_ble_eq_true rfl | omega, by first | exact Nat.le_of_ble_eq_true rfl | omega⟩) (fun r u H locs hp hX => ?_)
          have hr_ : r = nI (fmN (kind ii) (longOf ii) (fun k_ => letters (4 * ii + k_))) := hp
          subst hr_
          have hX : nvS D a0 (xW dA a rn rt trace len stand first allh hAll fault row hOf farOf rowsN rowsT mcW edW words mcR edR rdgs sh ex) s.heap H locs := hX
          refine W.cs (cells' := 0) (slots' := 0) (Nat.add_zero _) (Nat.add_zero _) ?_
          rw [← zQ]
          exact nv_endi zC zr zk (stand, first, allh, hAll, hOf) hX (by (try dsimp only); unfold F_ofWord; rw [if_pos hwi, if_neg (by decide), eii, if_neg (by decide), if_neg (by decide), if_pos rfl, fm_frm (hok.2.1 _) (hok.2.2.2.2 _ hi)]) (by omega) (by omega) dX0_ofWord_111
        · rw [swi] at swe
          subst swe
          refine lv_tableIn (tgt := 112) zx zb dX0_ofWord_66 (by decide) (by decide) rfl (by decide) ?_
          refine lv_aload_n zx zb dX0_ofWord_112 rfl (lv_at hl 1 rfl) ?_
          refine lv_aload_n zx zb dX0_ofWord_113 rfl (lv_at hl 1 rfl) ?_
          refine nv_get zC hX in_X0 0 rfl rfl 2 (by decide) q133 (fun _ h => h) rfl dX0_ofWord_114 ?_
          refine lv_aload_n zx zb dX0_ofWord_117 rfl (lv_at hl 1 rfl) ?_
          refine nv_get zC hX in_X0 0 rfl rfl 1 (by decide) q132 (fun _ h => h) rfl dX0_ofWord_118 ?_
          refine nv_kv zC hX (nv_rV (n := 2) (As := [.ref (a 1), .int (nI len)]) (rest := []) (q0 := 0) zC hX (mx_hears (m_ := 60) (rw := row) (ra_ := a 1) (n := len) (hW := (by first | assumption | omega)) (hok := (by first | assumption | omega)) (hr := (List.mem_cons_self)) (hn := hl60) (hm := (by decide)) (h3 := h3)) (nvE_b a0 ez) (nvE_keep zG hX) rfl rfl q256 q258 qs1 q59 q259 (by decide +kernel) rfl ⟨Nat.le_of_ble_eq_true rfl, Nat.le_of_ble_eq_true rfl⟩ hl.1 (Nat.le_of_ble_eq_true rfl) dX0_ofWord_121 ⟨by first | exact Nat.le_of_ble_eq_true rfl | omega, by first | exact Nat.le_of_ble_eq_true rfl | omega⟩) (fun u H locs hp hX => ?_)
          obtain ⟨hOf'_6, rfl⟩ : ∃ z, z = u := ⟨_, rfl⟩
          have h121 : (∀ w, w < words → hOf'_6 w = tmW kind longOf letters row len w) := hp
          have hX : nvS D a0 (xW dA a rn rt trace len (orUp (fun j => hbW kind longOf letters row words (j + 1)) len) (fstUp (fun j => decide (0 < hbW kind longOf letters row words (j + 1))) len) (fstUp (fun j => decide (orUp (fun j => hbW kind longOf letters row words (j + 1)) (j + 1) = 2 ^ words - 1)) len) (sumUp (fun j => popN (hbW kind longOf letters row words (j + 1))) len) fault row hOf'_6 farOf rowsN rowsT mcW edW words mcR edR rdgs sh ex) s.heap H locs := hX
          refine W.cs (cells' := 0) (slots' := 0) (Nat.add_zero _) (Nat.add_zero _) ?_
          refine lv_aload_n zx zb dX0_ofWord_124 rfl (lv_at hl 1 rfl) ?_
          refine nv_get zC hX in_X0 0 rfl rfl 8 (by decide) q139 (fun _ h => h) rfl dX0_ofWord_125 ?_
          refine lv_iload_n zx zb dX0_ofWord_128 rfl (lv_at hl 2 rfl) ?_
          refine nv_iald (v := nI (hOf'_6 ii)) zC hX 3 rfl (by omega) (by decide) rfl dX0_ofWord_129 ?_
          rw [← zQ]
          exact nv_endi zC zr zk (orUp (fun j => hbW kind longOf letters row words (j + 1)) len, fstUp (fun j => decide (0 < hbW kind longOf letters row words (j + 1))) len, fstUp (fun j => decide (orUp (fun j => hbW kind longOf letters row words (j + 1)) (j + 1) = 2 ^ words - 1)) len, sumUp (fun j => popN (hbW kind longOf letters row words (j + 1))) len, hOf'_6) hX (by (try dsimp only); unfold F_ofWord; rw [if_pos hwi, if_neg (by decide), eii, if_neg (by decide), if_neg (by decide), if_neg (by decide), if_pos rfl]; exact congrArg nI (h121 ii hi)) (by omega) (by omega) dX0_ofWord_130
      · refine lv_tableOut (tgt := 131) zx zb dX0_ofWord_66 (by omega) (by decide) ?_
        refine lv_bipush (v := (-2)) zx zb dX0_ofWord_131 (by decide) ?_
        rw [← zQ]
        exact nv_endi zC zr zk (stand, first, allh, hAll, hOf) hX (by (try dsimp only); unfold F_ofWord; have q : ∀ i : Nat, i < 4 → what ≠ nI i := fun i hi z => (by rw [z, nI_toInt (show i < 2 ^ 31 by omega)] at swo; omega); rw [if_pos hwi, if_neg (by rw [c35]; decide), if_neg (q 0 (by decide)), if_neg (q 1 (by decide)), if_neg (q 2 (by decide)), if_neg (q 3 (by decide))]) (by omega) (by omega) dX0_ofWord_133
    · obtain ⟨jj, hj0, hj, rfl⟩ := inN_t (by decide) (by decide) c35
      have ejj : i2n (nI jj) = jj := nI_clamp (by omega)
      refine lv_iload_n zx zb dX0_ofWord_38 rfl (lv_at hl 3 rfl) ?_
      refine lv_bipush (v := nI 10) zx zb dX0_ofWord_39 (by decide) ?_
      refine nv_isub zx zb (by omega) dX0_ofWord_41 ?_
      refine lv_aload_n zx zb dX0_ofWord_42 rfl (lv_at hl 0 rfl) ?_
      refine nv_getP zC hX (hok.2.1 _) (xw_m (hW.p hi)) q452 dX0_ofWord_43 ?_
      refine nv_alenM zC hX 0 (xw_m (hW.l hi)) rfl dX0_ofWord_46 ?_
      refine nv_icmp_ge (tgt := 62) zx zb (by omega) (by omega) dX0_ofWord_47 (by decide) (fun c47 => ?_) (fun c47 => ?_)
      · refine lv_bipush (v := (-9)) zx zb dX0_ofWord_62 (by decide) ?_
        rw [← zQ]
        exact nv_endi zC zr zk (stand, first, allh, hAll, hOf) hX (by (try dsimp only); unfold F_ofWord; rw [if_pos hwi, if_pos c35, eii, ejj, if_neg (by omega)]) (by omega) (by omega) dX0_ofWord_64
      · refine lv_aload_n zx zb dX0_ofWord_50 rfl (lv_at hl 0 rfl) ?_
        refine nv_getP zC hX (hok.2.1 _) (xw_m (hW.p hi)) q452 dX0_ofWord_51 ?_
        refine lv_iload_n zx zb dX0_ofWord_54 rfl (lv_at hl 3 rfl) ?_
        refine lv_bipush (v := nI 10) zx zb dX0_ofWord_55 (by decide) ?_
        refine nv_isub zx zb (by omega) dX0_ofWord_57 ?_
        refine nv_ialdM (v := nI (letters (4 * ii + (jj - 10)))) zC hX (xw_m (hW.l hi)) (by omega) (by omega) rfl dX0_ofWord_58 ?_
        refine lv_goto (tgt := 64) zx zb dX0_ofWord_59 (by decide) ?_
        rw [← zQ]
        exact nv_endi zC zr zk (stand, first, allh, hAll, hOf) hX (by (try dsimp only); unfold F_ofWord; rw [if_pos hwi, if_pos c35, eii, ejj, if_pos (by omega)]) (by omega) (by omega) dX0_ofWord_64
  · refine lv_iconst (v := (-1)) zx zb dX0_ofWord_8 (by decide) ?_
    rw [← zQ]
    exact nv_endi zC zr zk (stand, first, allh, hAll, hOf) hX (by (try dsimp only); unfold F_ofWord; rw [if_neg (by have := c5; simp at this; simp [this])]) (by omega) (by omega) dX0_ofWord_9
end CL_42_c6
