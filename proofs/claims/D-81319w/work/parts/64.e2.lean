/-! printed by klass2.py -/
set_option maxRecDepth 100000
section CL_64_e2
variable {l : Launch} {D : va_G} {dA : Nat → ClassId} {a0 ez : Nat} {ex : va_W} {a : Nat → Nat} {rn : Nat} {rt : Nat} {trace : Int32} {len : Nat} {stand : Nat} {first : Option Nat} {allh : Option Nat} {hAll : Nat} {fault : Int32} {row : Nat → Nat} {hOf : Nat → Nat} {farOf : Nat → Option Nat} {rowsN : Nat → Nat} {rowsT : Nat → Nat} {mcW : Int32} {edW : Nat} {words : Nat} {mcR : Int32} {edR : Nat} {rdgs : Nat} {sh : Nat → Option Nat} {kind longOf letters : Nat → Nat} {fW : Nat → Option Nat} {pa la : Nat → Nat} {rWord rMany rStands rRow : Nat → Nat} {fR : Nat → Option Nat} {pr lr : Nat → Nat} {so : Nat → Option Nat} {shL : Nat → Nat} {cl : Nat → Int32} {pS lS col : Nat → Nat} {ow : va_W} {mo : Nat}
set_option maxHeartbeats 4000000 in
theorem mx_spell  (x : Int32) (k : Int32) (v : Int32) (hT : tlI dA (a 0) ez words kind longOf letters edW fW pa la rdgs rWord rMany rStands rRow edR fR pr lr so shL cl sh pS lS col ow) (hok : wOK words kind longOf letters) (hdo : dOK words rdgs rWord rMany rStands rRow) : nMt l D dA a0 yX0_spell cX0_spell 5 (some .int) 4 76 0 0 (nvE a0 ez) [.ref (a 0), .int x, .int k, .int v] (xW dA a rn rt trace len stand first allh hAll fault row hOf farOf rowsN rowsT mcW edW words mcR edR rdgs sh (ow ++ ex)) (nQi D a0 (fun (r : Int32) (ow' : va_W) => r = F_spell words longOf letters x k v ∧ tlI dA (a 0) ez words kind longOf (G_spell words longOf letters x k v) edW fW pa la rdgs rWord rMany rStands rRow edR fR pr lr so shL cl sh pS lS col ow') (fun (ow' : va_W) => xW dA a rn rt trace len stand first allh hAll fault row hOf farOf rowsN rowsT mcW edW words mcR edR rdgs sh (ow' ++ ex))) := by
  refine nv_start (by decide) (Nat.le_of_ble_eq_true rfl) fun zp ze s zm zlo zme zcd ls zC zr zk znm hX zG hl => ?_
  have zx := zC.1
  have zb := zC.2.1
  generalize zargs : ([.ref (a 0), .int x, .int k, .int v] : List Value).toArray = zar at zC ⊢
  generalize zQ : MQ zlo _ zar s _ _ _ = Q
  have hX : nvS D a0 (xW dA a rn rt trace len stand first allh hAll fault row hOf farOf rowsN rowsT mcW edW words mcR edR rdgs sh (ow ++ ex)) s.heap s.heap [] := hX
  have hl : lv_has ls 5 [(0, .ref (a 0)), (1, .int x), (2, .int k), (3, .int v)] := hl
  obtain ⟨H, zH⟩ : ∃ H, H = s.heap := ⟨_, rfl⟩
  have hX : nvS D a0 (xW dA a rn rt trace len stand first allh hAll fault row hOf farOf rowsN rowsT mcW edW words mcR edR rdgs sh (ow ++ ex)) s.heap H [] := by rw [zH]; exact hX
  rw [show W zp l ze (rm_ 4 76 0 0) s zm zar zlo zme zcd s.heap [] 0 0 Q = W zp l ze (rm_ 4 76 0 0) s zm zar zlo zme zcd H [] 0 0 Q by rw [zH]]
  generalize ([] : List Loc) = locs at hX ⊢
  have hW := hT.1.mono (mem_app (r := ex))
  have hR := hT.2.1.mono (mem_app (r := ex))
  have hw4 := hok.1
  have hr8 := hdo.1
  refine lv_aload_n zx zb dX0_spell_0 rfl (lv_at hl 0 rfl) ?_
  refine lv_iload_n zx zb dX0_spell_1 rfl (lv_at hl 1 rfl) ?_
  refine nv_ki zC hX (nv_rV (n := 1) (As := [.int x]) (rest := []) (q0 := 0) zC hX (mx_noWord (v := x) (hw := (by first | assumption | omega))) (nvE_b a0 ez) (nvE_keep zG hX) rfl rfl q183 q185 qs0 q59 q186 (by decide +kernel) rfl ⟨Nat.le_of_ble_eq_true rfl, Nat.le_of_ble_eq_true rfl⟩ hl.1 (Nat.le_of_ble_eq_true rfl) dX0_spell_2 ⟨by first | exact Nat.le_of_ble_eq_true rfl | omega, by first | exact Nat.le_of_ble_eq_true rfl | omega⟩) (fun r u H locs hp hX => ?_)
  have hr_ : r = nB (!isW words x) := hp
  subst hr_
  have hX : nvS D a0 (xW dA a rn rt trace len stand first allh hAll fault row hOf farOf rowsN rowsT mcW edW words mcR edR rdgs sh (ow ++ ex)) s.heap H locs := hX
  refine W.cs (cells' := 0) (slots' := 0) (Nat.add_zero _) (Nat.add_zero _) ?_
  refine nv_if_neB (tgt := 37) zx zb dX0_spell_5 (by decide) (fun c5 => ?_) (fun c5 => ?_)
  · refine lv_iconst (v := (-1)) zx zb dX0_spell_37 (by decide) ?_
    rw [← zQ]
    exact nv_endi zC zr zk ow hX (have z : isW words x = false := (by simpa using c5); (⟨by simp [F_spell, okSpell, z], by rw [show G_spell words longOf letters x k v = letters from if_neg (by simp [okSpell, z])]; exact hT⟩)) (by omega) (by omega) dX0_spell_38
  · obtain ⟨ii, hi, rfl⟩ := isW_t (by omega) (by simpa using c5 : isW words x = true)
    have eii : i2n (nI ii) = ii := i2n_nI (by omega)
    have hwi : isW words (nI ii) = true := by rw [isW_n (by omega) (by omega)]; exact decide_eq_true hi
    have hli := hok.2.2.1 ii
    have hli1 := hok.2.2.2.2 ii hi
    have hk3 := hok.2.1 ii
    refine lv_iload_n zx zb dX0_spell_8 rfl (lv_at hl 2 rfl) ?_
    refine lv_i2l zx zb dX0_spell_9 rfl ?_
    refine lv_lconst (v := lN 0) zx zb dX0_spell_10 (by decide) ?_
    refine lv_aload_n zx zb dX0_spell_11 rfl (lv_at hl 0 rfl) ?_
    refine nv_get zC hX in_X0 0 rfl rfl 3 (by decide) q134 (fun _ h => h) rfl dX0_spell_12 ?_
    refine lv_iload_n zx zb dX0_spell_15 rfl (lv_at hl 1 rfl) ?_
    refine nv_kFq zC hX (nv_rF (q := (RJ2, TJ2, 3)) (x := ⟨"java/util/List", "get", "(I)Ljava/lang/Object;"⟩) (y := yJ2_get) (n := 1) (As := [.int (nI ii)]) (rest := [.long (lN 0), .long k.toInt64]) (q0 := 2) zC hX (mj_get (zh := a 2) (mc := mcW) (ed := edW) (n := words) (f := fW) (i := ii) (hm := (List.mem_of_getElem? (i := 2) rfl)) (ha := (xw_m (hW.ed hi))) (hi := hi) (hn := (by omega))) nvGb0 (fun _ _ _ => trivial) (nvE_f1 zG) rfl rfl q201 q206 q204 q62 q208 (by decide +kernel) rfl ⟨Nat.le_of_ble_eq_true rfl, Nat.le_of_ble_eq_true rfl⟩ hl.1 (Nat.le_of_ble_eq_true rfl) dX0_spell_16 ⟨by first | exact Nat.le_of_ble_eq_true rfl | omega, by first | exact Nat.le_of_ble_eq_true rfl | omega⟩) (fun r u H locs hp hX => ?_)
    have hr_ : r = fW ii := hp
    subst hr_
    have hX : nvS D a0 (xW dA a rn rt trace len stand first allh hAll fault row hOf farOf rowsN rowsT mcW edW words mcR edR rdgs sh (ow ++ ex)) s.heap H locs := hX
    refine W.cs (cells' := 0) (slots' := 0) (Nat.add_zero _) (Nat.add_zero _) ?_
    refine nv_asR (show fW ii = some (pa ii) from (hW.w hi)) ?_
    refine nv_castP zC zG hX (hok.2.1 _) (xw_m (hW.p hi)) q219 dX0_spell_21 ?_
    refine nv_getP zC hX (hok.2.1 _) (xw_m (hW.p hi)) q452 dX0_spell_24 ?_
    refine nv_alenM zC hX 0 (xw_m (hW.l hi)) rfl dX0_spell_27 ?_
    refine lv_iconst (v := nI 1) zx zb dX0_spell_28 (by decide) ?_
    refine nv_isub zx zb (by omega) dX0_spell_29 ?_
    refine lv_i2l (v := lN ((longOf ii) - 1)) zx zb dX0_spell_30 (nI_l (by omega)) ?_
    refine nv_ki zC hX (nv_rS (n := 3) (As := [.long k.toInt64, .long (lN 0), .long (lN ((longOf ii) - 1))]) (rest := []) zC hX (mx_in (v := k.toInt64) (lo := lN 0) (hi := lN ((longOf ii) - 1))) nvGb0 (fun _ _ _ => trivial) q197 q198 q59 q199 (by decide +kernel) rfl ⟨Nat.le_of_ble_eq_true rfl, Nat.le_of_ble_eq_true rfl⟩ hl.1 (Nat.le_of_ble_eq_true rfl) dX0_spell_31 ⟨by first | exact Nat.le_of_ble_eq_true rfl | omega, by first | exact Nat.le_of_ble_eq_true rfl | omega⟩) (fun r u H locs hp hX => ?_)
    have hr_ : r = nB (decide (lN 0 ≤ k.toInt64) && decide (k.toInt64 ≤ lN ((longOf ii) - 1))) := hp
    subst hr_
    have hX : nvS D a0 (xW dA a rn rt trace len stand first allh hAll fault row hOf farOf rowsN rowsT mcW edW words mcR edR rdgs sh (ow ++ ex)) s.heap H locs := hX
    refine W.cs (cells' := 0) (slots' := 0) (Nat.add_zero _) (Nat.add_zero _) ?_
    refine nv_as (show nB (decide (lN 0 ≤ k.toInt64) && decide (k.toInt64 ≤ lN ((longOf ii) - 1))) = nB (inN k 0 (longOf ii - 1)) from (congrArg nB (inN_l (by decide) (by omega)))) ?_
    refine nv_if_neB (tgt := 39) zx zb dX0_spell_34 (by decide) (fun c34 => ?_) (fun c34 => ?_)
    · have c34 := c34
      obtain ⟨kk, -, hkk, rfl⟩ := inN_t (by decide) (by omega) c34
      have ekk : i2n (nI kk) = kk := i2n_nI (by omega)
      have hkw : isW (longOf ii) (nI kk) = true := by rw [isW_in hli1 (by omega)]; exact c34
      refine lv_iload_n zx zb dX0_spell_39 rfl (lv_at hl 3 rfl) ?_
      refine nv_ki zC hX (nv_rS (n := 1) (As := [.int v]) (rest := []) zC hX (mx_isSign (v := v)) nvGb0 (fun _ _ _ => trivial) q324 q325 q59 q326 (by decide +kernel) rfl ⟨Nat.le_of_ble_eq_true rfl, Nat.le_of_ble_eq_true rfl⟩ hl.1 (Nat.le_of_ble_eq_true rfl) dX0_spell_40 ⟨by first | exact Nat.le_of_ble_eq_true rfl | omega, by first | exact Nat.le_of_ble_eq_true rfl | omega⟩) (fun r u H locs hp hX => ?_)
      have hr_ : r = nB (inN v 0 2) := hp
      subst hr_
      have hX : nvS D a0 (xW dA a rn rt trace len stand first allh hAll fault row hOf farOf rowsN rowsT mcW edW words mcR edR rdgs sh (ow ++ ex)) s.heap H locs := hX
      refine W.cs (cells' := 0) (slots' := 0) (Nat.add_zero _) (Nat.add_zero _) ?_
      refine nv_if_neB (tgt := 49) zx zb dX0_spell_43 (by decide) (fun c43 => ?_) (fun c43 => ?_)
      · have c43 := c43
        obtain ⟨vv, -, hvv, rfl⟩ := inN_t (by decide) (by decide) c43
        have evv : i2n (nI vv) = vv := i2n_nI (by omega)
        have ho_ : okSpell words longOf (nI ii) (nI kk) (nI vv) = true := by simp [okSpell, eii, hwi, hkw, c43]
        refine lv_aload_n zx zb dX0_spell_49 rfl (lv_at hl 0 rfl) ?_
        refine nv_get zC hX in_X0 0 rfl rfl 3 (by decide) q134 (fun _ h => h) rfl dX0_spell_50 ?_
        refine lv_iload_n zx zb dX0_spell_53 rfl (lv_at hl 1 rfl) ?_
        refine nv_kFq zC hX (nv_rF (q := (RJ2, TJ2, 3)) (x := ⟨"java/util/List", "get", "(I)Ljava/lang/Object;"⟩) (y := yJ2_get) (n := 1) (As := [.int (nI ii)]) (rest := []) (q0 := 2) zC hX (mj_get (zh := a 2) (mc := mcW) (ed := edW) (n := words) (f := fW) (i := ii) (hm := (List.mem_of_getElem? (i := 2) rfl)) (ha := (xw_m (hW.ed hi))) (hi := hi) (hn := (by omega))) nvGb0 (fun _ _ _ => trivial) (nvE_f1 zG) rfl rfl q201 q206 q204 q62 q208 (by decide +kernel) rfl ⟨Nat.le_of_ble_eq_true rfl, Nat.le_of_ble_eq_true rfl⟩ hl.1 (Nat.le_of_ble_eq_true rfl) dX0_spell_54 ⟨by first | exact Nat.le_of_ble_eq_true rfl | omega, by first | exact Nat.le_of_ble_eq_true rfl | omega⟩) (fun r u H locs hp hX => ?_)
        have hr_ : r = fW ii := hp
        subst hr_
        have hX : nvS D a0 (xW dA a rn rt trace len stand first allh hAll fault row hOf farOf rowsN rowsT mcW edW words mcR edR rdgs sh (ow ++ ex)) s.heap H locs := hX
        refine W.cs (cells' := 0) (slots' := 0) (Nat.add_zero _) (Nat.add_zero _) ?_
        refine nv_asR (show fW ii = some (pa ii) from (hW.w hi)) ?_
        refine nv_castP zC zG hX (hok.2.1 _) (xw_m (hW.p hi)) q219 dX0_spell_59 ?_
        refine nv_getP zC hX (hok.2.1 _) (xw_m (hW.p hi)) q452 dX0_spell_62 ?_
        refine lv_iload_n zx zb dX0_spell_65 rfl (lv_at hl 2 rfl) ?_
        refine nv_ialdM (v := nI (letters (4 * ii + kk))) zC hX (xw_m (hW.l hi)) (by omega) (by omega) rfl dX0_spell_66 ?_
        refine lv_istore (lv' := [(4, .int (nI (letters (4 * ii + kk)))), (0, .ref (a 0)), (1, .int (nI ii)), (2, .int (nI kk)), (3, .int (nI vv))]) zx zb dX0_spell_67 hl (by decide) rfl (fun ls hl => ?_)
        refine lv_aload_n zx zb dX0_spell_69 rfl (lv_at hl 1 rfl) ?_
        refine nv_get zC hX in_X0 0 rfl rfl 3 (by decide) q134 (fun _ h => h) rfl dX0_spell_70 ?_
        refine lv_iload_n zx zb dX0_spell_73 rfl (lv_at hl 2 rfl) ?_
        refine nv_kFq zC hX (nv_rF (q := (RJ2, TJ2, 3)) (x := ⟨"java/util/List", "get", "(I)Ljava/lang/Object;"⟩) (y := yJ2_get) (n := 1) (As := [.int (nI ii)]) (rest := []) (q0 := 2) zC hX (mj_get (zh := a 2) (mc := mcW) (ed := edW) (n := words) (f := fW) (i := ii) (hm := (List.mem_of_getElem? (i := 2) rfl)) (ha := (xw_m (hW.ed hi))) (hi := hi) (hn := (by omega))) nvGb0 (fun _ _ _ => trivial) (nvE_f1 zG) rfl rfl q201 q206 q204 q62 q208 (by decide +kernel) rfl ⟨Nat.le_of_ble_eq_true rfl, Nat.le_of_ble_eq_true rfl⟩ hl.1 (Nat.le_of_ble_eq_true rfl) dX0_spell_74 ⟨by first | exact Nat.le_of_ble_eq_true rfl | omega, by first | exact Nat.le_of_ble_eq_true rfl | omega⟩) (fun r u H locs hp hX => ?_)
        have hr_ : r = fW ii := hp
        subst hr_
        have hX : nvS D a0 (xW dA a rn rt trace len stand first allh hAll fault row hOf farOf rowsN rowsT mcW edW words mcR edR rdgs sh (ow ++ ex)) s.heap H locs := hX
        refine W.cs (cells' := 0) (slots' := 0) (Nat.add_zero _) (Nat.add_zero _) ?_
        refine nv_asR (show fW ii = some (pa ii) from (hW.w hi)) ?_
        refine nv_castP zC zG hX (hok.2.1 _) (xw_m (hW.p hi)) q219 dX0_spell_79 ?_
        refine nv_getP zC hX (hok.2.1 _) (xw_m (hW.p hi)) q452 dX0_spell_82 ?_
        refine lv_iload_n zx zb dX0_spell_85 rfl (lv_at hl 3 rfl) ?_
        refine lv_iload_n zx zb dX0_spell_86 rfl (lv_at hl 4 rfl) ?_
        have hX0 := hX
        obtain ⟨k_, hk_⟩ := List.getElem?_of_mem (hT.1.l hi)
        refine nv_iast zC hX (k_ + 9) (xW_9 hk_) (by omega) (by omega) rfl (w' := xW dA a rn rt trace len stand first allh hAll fault row hOf farOf rowsN rowsT mcW edW words mcR edR rdgs sh (ow.set k_ (la ii, aI dA (longOf ii) (upd (nF fun z => letters (4 * ii + z)) (kk) (nI vv))) ++ ex)) (xW_s9 hk_ _) dX0_spell_87 (fun H locs hX => ?_)
        have hK_ := hT.putL (v := vv) (k := kk) (hX0.un.sub xw_own) hw4 hr8 hok.2.2.1 hi (by omega) hk_
        obtain ⟨ow1, hX, hTow1, hNow1⟩ := hK_.nor hw4 hr8 (pre := xW dA a rn rt trace len stand first allh hAll fault row hOf farOf rowsN rowsT mcW edW words mcR edR rdgs sh ([])) (ex := ex) hX
        have hX : nvS D a0 (xW dA a rn rt trace len stand first allh hAll fault row hOf farOf rowsN rowsT mcW edW words mcR edR rdgs sh (ow1 ++ ex)) s.heap H locs := hX
        refine lv_iload zx zb dX0_spell_88 (lv_at hl 0 rfl) ?_
        rw [← zQ]
        exact nv_endi zC zr zk ow1 hX (⟨by unfold F_spell; rw [if_pos ho_, eii, ekk], by unfold G_spell; rw [if_pos ho_, eii, ekk, evv]; exact hTow1⟩) (by omega) (by omega) dX0_spell_90
      · refine lv_bipush (v := (-2)) zx zb dX0_spell_46 (by decide) ?_
        rw [← zQ]
        exact nv_endi zC zr zk ow hX (⟨by simp [F_spell, okSpell, c43, eii, hwi, hkw], by rw [show G_spell words longOf letters (nI ii) (nI kk) v = letters from if_neg (by simp [okSpell, c43, eii, hwi, hkw])]; exact hT⟩) (by omega) (by omega) dX0_spell_48
    · refine lv_iconst (v := (-1)) zx zb dX0_spell_37 (by decide) ?_
      rw [← zQ]
      exact nv_endi zC zr zk ow hX (have z : isW (longOf ii) k = false := (by rw [isW_in hli1 (by omega)]; exact c34); (⟨by simp [F_spell, okSpell, z, eii, hwi], by rw [show G_spell words longOf letters (nI ii) k v = letters from if_neg (by simp [okSpell, z, eii, hwi])]; exact hT⟩)) (by omega) (by omega) dX0_spell_38

set_option maxHeartbeats 4000000 in
theorem mx_lasts  (x : Int32) (hT : tlI dA (a 0) ez words kind longOf letters edW fW pa la rdgs rWord rMany rStands rRow edR fR pr lr so shL cl sh pS lS col ow) (hok : wOK words kind longOf letters) (hdo : dOK words rdgs rWord rMany rStands rRow) : nMt l D dA a0 yX0_lasts cX0_lasts 7 (some .int) 7 155 0 0 (nvE a0 ez) [.ref (a 0), .int x] (xW dA a rn rt trace len stand first allh hAll fault row hOf farOf rowsN rowsT mcW edW words mcR edR rdgs sh (ow ++ ex)) (nQi D a0 (fun (r : Int32) (ow' : va_W) => r = F_lasts words kind longOf letters rdgs rWord rMany rStands rRow x ∧ tlI dA (a 0) ez words kind longOf letters edW fW pa la rdgs rWord rMany rStands rRow edR fR pr lr so shL cl sh pS lS col ow') (fun (ow' : va_W) => xW dA a rn rt trace len stand first allh hAll fault row hOf farOf rowsN rowsT mcW edW words mcR edR rdgs sh (ow' ++ ex))) := by
  refine nv_start (by decide) (Nat.le_of_ble_eq_true rfl) fun zp ze s zm zlo zme zcd ls zC zr zk znm hX zG hl => ?_
  have zx := zC.1
  have zb := zC.2.1
  generalize zargs : ([.ref (a 0), .int x] : List Value).toArray = zar at zC ⊢
  generalize zQ : MQ zlo _ zar s _ _ _ = Q
  have hX : nvS D a0 (xW dA a rn rt trace len stand first allh hAll fault row hOf farOf rowsN rowsT mcW edW words mcR edR rdgs sh (ow ++ ex)) s.heap s.heap [] := hX
  have hl : lv_has ls 7 [(0, .ref (a 0)), (1, .int x)] := hl
  obtain ⟨H, zH⟩ : ∃ H, H = s.heap := ⟨_, rfl⟩
  have hX : nvS D a0 (xW dA a rn rt trace len stand first allh hAll fault row hOf farOf rowsN rowsT mcW edW words mcR edR rdgs sh (ow ++ ex)) s.heap H [] := by rw [zH]; exact hX
  rw [show W zp l ze (rm_ 7 155 0 0) s zm zar zlo zme zcd s.heap [] 0 0 Q = W zp l ze (rm_ 7 155 0 0) s zm zar zlo zme zcd H [] 0 0 Q by rw [zH]]
  generalize ([] : List Loc) = locs at hX ⊢
  have hW := hT.1.mono (mem_app (r := ex))
  have hR := hT.2.1.mono (mem_app (r := ex))
  have hw4 := hok.1
  have hr8 := hdo.1
  refine lv_aload_n zx zb dX0_lasts_0 rfl (lv_at hl 0 rfl) ?_
  refine lv_iload_n zx zb dX0_lasts_1 rfl (lv_at hl 1 rfl) ?_
  refine nv_ki zC hX (nv_rV (n := 1) (As := [.int x]) (rest := []) (q0 := 0) zC hX (mx_noWord (v := x) (hw := (by first | assumption | omega))) (nvE_b a0 ez) (nvE_keep zG hX) rfl rfl q183 q185 qs0 q59 q186 (by decide +kernel) rfl ⟨Nat.le_of_ble_eq_true rfl, Nat.le_of_ble_eq_true rfl⟩ hl.1 (Nat.le_of_ble_eq_true rfl) dX0_lasts_2 ⟨by first | exact Nat.le_of_ble_eq_true rfl | omega, by first | exact Nat.le_of_ble_eq_true rfl | omega⟩) (fun r u H locs hp hX => ?_)
  have hr_ : r = nB (!isW words x) := hp
  subst hr_
  have hX : nvS D a0 (xW dA a rn rt trace len stand first allh hAll fault row hOf farOf rowsN rowsT mcW edW words mcR edR rdgs sh (ow ++ ex)) s.heap H locs := hX
  refine W.cs (cells' := 0) (slots' := 0) (Nat.add_zero _) (Nat.add_zero _) ?_
  refine nv_if_eqB (tgt := 10) zx zb dX0_lasts_5 (by decide) (fun c5 => ?_) (fun c5 => ?_)
  · obtain ⟨ii, hi, rfl⟩ := isW_t (by omega) (by simpa using c5 : isW words x = true)
    have eii : i2n (nI ii) = ii := i2n_nI (by omega)
    have hwi : isW words (nI ii) = true := by rw [isW_n (by omega) (by omega)]; exact decide_eq_true hi
    have hli := hok.2.2.1 ii
    have hli1 := hok.2.2.2.2 ii hi
    have hk3 := hok.2.1 ii
    have hPe : 4 * ii + longOf ii - 1 = 4 * ii + (longOf ii - 1) := by omega
    refine lv_aload_n zx zb dX0_lasts_10 rfl (lv_at hl 0 rfl) ?_
    refine nv_get zC hX in_X0 0 rfl rfl 3 (by decide) q134 (fun _ h => h) rfl dX0_lasts_11 ?_
    refine lv_iload_n zx zb dX0_lasts_14 rfl (lv_at hl 1 rfl) ?_
    refine nv_kFq zC hX (nv_rF (q := (RJ2, TJ2, 3)) (x := ⟨"java/util/List", "get", "(I)Ljava/lang/Object;"⟩) (y := yJ2_get) (n := 1) (As := [.int (nI ii)]) (rest := []) (q0 := 2) zC hX (mj_get (zh := a 2) (mc := mcW) (ed := edW) (n := words) (f := fW) (i := ii) (hm := (List.mem_of_getElem? (i := 2) rfl)) (ha := (xw_m (hW.ed hi))) (hi := hi) (hn := (by omega))) nvGb0 (fun _ _ _ => trivial) (nvE_f1 zG) rfl rfl q201 q206 q204 q62 q208 (by decide +kernel) rfl ⟨Nat.le_of_ble_eq_true rfl, Nat.le_of_ble_eq_true rfl⟩ hl.1 (Nat.le_of_ble_eq_true rfl) dX0_lasts_15 ⟨by first | exact Nat.le_of_ble_eq_true rfl | omega, by first | exact Nat.le_of_ble_eq_true rfl | omega⟩) (fun r u H locs hp hX => ?_)
    have hr_ : r = fW ii := hp
    subst hr_
    have hX : nvS D a0 (xW dA a rn rt trace len stand first allh hAll fault row hOf farOf rowsN rowsT mcW edW words mcR edR rdgs sh (ow ++ ex)) s.heap H locs := hX
    refine W.cs (cells' := 0) (slots' := 0) (Nat.add_zero _) (Nat.add_zero _) ?_
    refine nv_asR (show fW ii = some (pa ii) from (hW.w hi)) ?_
    refine nv_castP zC zG hX (hok.2.1 _) (xw_m (hW.p hi)) q219 dX0_lasts_20 ?_
    refine nv_getP zC hX (hok.2.1 _) (xw_m (hW.p hi)) q452 dX0_lasts_23 ?_
    refine lv_astore_n (lv' := [(2, .ref (la ii)), (0, .ref (a 0)), (1, .int (nI ii))]) zx zb dX0_lasts_26 rfl hl (by decide) rfl (fun ls hl => ?_)
    refine lv_aload_n zx zb dX0_lasts_27 rfl (lv_at hl 0 rfl) ?_
    refine nv_alenM zC hX 0 (xw_m (hW.l hi)) rfl dX0_lasts_28 ?_
    refine lv_iconst (v := nI 1) zx zb dX0_lasts_29 (by decide) ?_
    refine nv_isub zx zb (by omega) dX0_lasts_30 ?_
    refine lv_istore_n (lv' := [(3, .int (nI ((longOf ii) - 1))), (2, .ref (la ii)), (0, .ref (a 0)), (1, .int (nI ii))]) zx zb dX0_lasts_31 rfl hl (by decide) rfl (fun ls hl => ?_)
    refine lv_aload_n zx zb dX0_lasts_32 rfl (lv_at hl 1 rfl) ?_
    refine lv_iload_n zx zb dX0_lasts_33 rfl (lv_at hl 0 rfl) ?_
    refine nv_ialdM (v := nI (letters (4 * ii + ((longOf ii) - 1)))) zC hX (xw_m (hW.l hi)) (by omega) (by omega) rfl dX0_lasts_34 ?_
    refine lv_istore (lv' := [(4, .int (nI (letters (4 * ii + ((longOf ii) - 1))))), (3, .int (nI ((longOf ii) - 1))), (2, .ref (la ii)), (0, .ref (a 0)), (1, .int (nI ii))]) zx zb dX0_lasts_35 hl (by decide) rfl (fun ls hl => ?_)
    refine lv_iconst (v := nI 0) zx zb dX0_lasts_37 (by decide) ?_
    refine lv_istore (lv' := [(5, .int (nI 0)), (4, .int (nI (letters (4 * ii + ((longOf ii) - 1))))), (3, .int (nI ((longOf ii) - 1))), (2, .ref (la ii)), (0, .ref (a 0)), (1, .int (nI ii))]) zx zb dX0_lasts_38 hl (by decide) rfl (fun ls hl => ?_)
    refine lv_iconst (v := nI 0) zx zb dX0_lasts_40 (by decide) ?_
    refine lv_istore (lv' := [(6, .int (nI 0)), (5, .int (nI 0)), (4, .int (nI (letters (4 * ii + ((longOf ii) - 1))))), (3, .int (nI ((longOf ii) - 1))), (2, .ref (la ii)), (0, .ref (a 0)), (1, .int (nI ii))]) zx zb dX0_lasts_41 hl (by decide) rfl (fun ls hl => ?_)
    have L43 : ∀ (zn : Nat) (v : Nat) (ow_ : va_W) (lt_ : Nat → Nat) (hv : v ≤ 3) (hTv : tlI dA (a 0) ez words kind longOf lt_ edW fW pa la rdgs rWord rMany rStands rRow edR fR pr lr so shL cl sh pS lS col ow_) (hl_ : ∀ j, j ≠ 4 * ii + (longOf ii - 1) → lt_ j = letters j), 3 - v < zn → ∀ (H : Heap) (locs : List Loc) (ls : Array Slot), nvS D a0 (xW dA a rn rt trace len stand first allh hAll fault row hOf farOf rowsN rowsT mcW edW words mcR edR rdgs sh (ow_ ++ ex)) s.heap H locs → lv_has ls 7 [(6, .int (nI v)), (5, .int (nI (bitsUp (fun v => soB kind longOf (va_up letters (4 * ii + (longOf ii - 1)) v) rdgs rWord rMany rStands rRow) v))), (4, .int (nI (letters (4 * ii + ((longOf ii) - 1))))), (3, .int (nI ((longOf ii) - 1))), (2, .ref (la ii)), (0, .ref (a 0)), (1, .int (nI ii))] → W zp l ze (rm_ 7 155 0 0) s zm zar zlo zme zcd H locs 0 0 Q (F0 zm 43 ls []) := by
      intro zn
      induction zn with
      | zero => intro v ow_ lt_ hv hTv hl_ zf; exact absurd zf (Nat.not_lt_zero _)
      | succ zn ih43 =>
        intro v ow_ lt_ hv hTv hl_ zf H locs ls hX hl
        refine lv_iload zx zb dX0_lasts_43 (lv_at hl 0 rfl) ?_
        refine lv_iconst (v := nI 3) zx zb dX0_lasts_45 (by decide) ?_
        refine nv_icmp_ge (tgt := 80) zx zb (by omega) (by omega) dX0_lasts_46 (by decide) (fun c46 => ?_) (fun c46 => ?_)
        · refine lv_aload_n zx zb dX0_lasts_80 rfl (lv_at hl 4 rfl) ?_
          refine lv_iload_n zx zb dX0_lasts_81 rfl (lv_at hl 3 rfl) ?_
          refine lv_iload zx zb dX0_lasts_82 (lv_at hl 2 rfl) ?_
          have hX0 := hX
          obtain ⟨k_, hk_⟩ := List.getElem?_of_mem (hTv.1.l hi)
          refine nv_iast zC hX (k_ + 9) (xW_9 hk_) (by omega) (by omega) rfl (w' := xW dA a rn rt trace len stand first allh hAll fault row hOf farOf rowsN rowsT mcW edW words mcR edR rdgs sh (ow_.set k_ (la ii, aI dA (longOf ii) (upd (nF fun z => lt_ (4 * ii + z)) ((longOf ii) - 1) (nI (letters (4 * ii + ((longOf ii) - 1)))))) ++ ex)) (xW_s9 hk_ _) dX0_lasts_84 (fun H locs hX => ?_)
          have hK_ := hTv.putL (v := letters (4 * ii + ((longOf ii) - 1))) (k := (longOf ii) - 1) (hX0.un.sub xw_own) hw4 hr8 hok.2.2.1 hi (by omega) hk_
          obtain ⟨ow2, hX, hTow2, hNow2⟩ := hK_.nor hw4 hr8 (pre := xW dA a rn rt trace len stand first allh hAll fault row hOf farOf rowsN rowsT mcW edW words mcR edR rdgs sh ([])) (ex := ex) hX
          have hX : nvS D a0 (xW dA a rn rt trace len stand first allh hAll fault row hOf farOf rowsN rowsT mcW edW words mcR edR rdgs sh (ow2 ++ ex)) s.heap H locs := hX
          rw [va_up_b hl_] at hTow2
          refine lv_iload zx zb dX0_lasts_85 (lv_at hl 1 rfl) ?_
          rw [← zQ]
          exact nv_endi zC zr zk ow2 hX (⟨by unfold F_lasts; rw [if_pos hwi, eii, hPe, show v = 3 by omega], hTow2⟩) (by omega) (by omega) dX0_lasts_87
        · refine lv_aload_n zx zb dX0_lasts_49 rfl (lv_at hl 4 rfl) ?_
          refine lv_iload_n zx zb dX0_lasts_50 rfl (lv_at hl 3 rfl) ?_
          refine lv_iload zx zb dX0_lasts_51 (lv_at hl 0 rfl) ?_
          have hX0 := hX
          obtain ⟨k_, hk_⟩ := List.getElem?_of_mem (hTv.1.l hi)
          refine nv_iast zC hX (k_ + 9) (xW_9 hk_) (by omega) (by omega) rfl (w' := xW dA a rn rt trace len stand first allh hAll fault row hOf farOf rowsN rowsT mcW edW words mcR edR rdgs sh (ow_.set k_ (la ii, aI dA (longOf ii) (upd (nF fun z => lt_ (4 * ii + z)) ((longOf ii) - 1) (nI v))) ++ ex)) (xW_s9 hk_ _) dX0_lasts_53 (fun H locs hX => ?_)
          have hK_ := hTv.putL (v := v) (k := (longOf ii) - 1) (hX0.un.sub xw_own) hw4 hr8 hok.2.2.1 hi (by omega) hk_
          obtain ⟨ow1, hX, hTow1, hNow1⟩ := hK_.nor hw4 hr8 (pre := xW dA a rn rt trace len stand first allh hAll fault row hOf farOf rowsN rowsT mcW edW words mcR edR rdgs sh ([])) (ex := ex) hX
          have hX : nvS D a0 (xW dA a rn rt trace len stand first allh hAll fault row hOf farOf rowsN rowsT mcW edW words mcR edR rdgs sh (ow1 ++ ex)) s.heap H locs := hX
          rw [va_up_o hl_] at hTow1
          refine lv_iload zx zb dX0_lasts_54 (lv_at hl 1 rfl) ?_
          refine lv_aload_n zx zb dX0_lasts_56 rfl (lv_at hl 5 rfl) ?_
          refine nv_ki zC hX (nv_rV (n := 0) (As := []) (rest := [.int (nI (bitsUp (fun v => soB kind longOf (va_up letters (4 * ii + (longOf ii - 1)) v) rdgs rWord rMany rStands rRow) v))]) (q0 := 0) zC hX (mx_areSo (hW := (hTow1.1.mono (mem_app (r := ex)))) (hok := ⟨hok.1, hok.2.1, hok.2.2.1, up_lt hok.2.2.2.1 (by omega), hok.2.2.2.2⟩) (hR := (hTow1.2.1.mono (mem_app (r := ex)))) (hdo := hdo)) (nvE_b a0 ez) (nvE_keep zG hX) rfl rfl q492 q494 qs14 q59 q495 (by decide +kernel) rfl ⟨Nat.le_of_ble_eq_true rfl, Nat.le_of_ble_eq_true rfl⟩ hl.1 (Nat.le_of_ble_eq_true rfl) dX0_lasts_57 ⟨by first | exact Nat.le_of_ble_eq_true rfl | omega, by first | exact Nat.le_of_ble_eq_true rfl | omega⟩) (fun r u H locs hp hX => ?_)
          have hr_ : r = nB (soB kind longOf (va_up letters (4 * ii + (longOf ii - 1)) v) rdgs rWord rMany rStands rRow) := hp
          subst hr_
          have hX : nvS D a0 (xW dA a rn rt trace len stand first allh hAll fault row hOf farOf rowsN rowsT mcW edW words mcR edR rdgs sh (ow1 ++ ex)) s.heap H locs := hX
          refine W.cs (cells' := 0) (slots' := 0) (Nat.add_zero _) (Nat.add_zero _) ?_
          refine nv_if_eqB (tgt := 70) zx zb dX0_lasts_60 (by decide) (fun c60 => ?_) (fun c60 => ?_)
          · refine lv_iconst (v := nI 0) zx zb dX0_lasts_70 (by decide) ?_
            refine nv_ior zx zb dX0_lasts_71 ?_
            refine nv_as (show nI ((bitsUp (fun v => soB kind longOf (va_up letters (4 * ii + (longOf ii - 1)) v) rdgs rWord rMany rStands rRow) v) ||| 0) = nI (bitsUp (fun v => soB kind longOf (va_up letters (4 * ii + (longOf ii - 1)) v) rdgs rWord rMany rStands rRow) (v + 1)) from (congrArg nI (bitsUp_f (P := fun v => soB kind longOf (va_up letters (4 * ii + (longOf ii - 1)) v) rdgs rWord rMany rStands rRow) c60))) ?_
            refine lv_istore (lv' := [(5, .int (nI (bitsUp (fun v => soB kind longOf (va_up letters (4 * ii + (longOf ii - 1)) v) rdgs rWord rMany rStands rRow) (v + 1)))), (6, .int (nI v)), (4, .int (nI (letters (4 * ii + ((longOf ii) - 1))))), (3, .int (nI ((longOf ii) - 1))), (2, .ref (la ii)), (0, .ref (a 0)), (1, .int (nI ii))]) zx zb dX0_lasts_72 hl (by decide) rfl (fun ls hl => ?_)
            refine lv_iinc (v := nI (v + 1)) (lv' := [(6, .int (nI (v + 1))), (5, .int (nI (bitsUp (fun v => soB kind longOf (va_up letters (4 * ii + (longOf ii - 1)) v) rdgs rWord rMany rStands rRow) (v + 1)))), (4, .int (nI (letters (4 * ii + ((longOf ii) - 1))))), (3, .int (nI ((longOf ii) - 1))), (2, .ref (la ii)), (0, .ref (a 0)), (1, .int (nI ii))]) zx zb dX0_lasts_74 hl (k := 1) rfl (nI_1 _) (by decide) rfl (fun ls hl => ?_)
            refine lv_goto (tgt := 43) zx zb dX0_lasts_77 (by decide) ?_
            exact ih43 (v + 1) ow1 (va_up letters (4 * ii + (longOf ii - 1)) v) (by omega) hTow1 (fun j hj => va_up_ne _ _ hj) (by omega) _ _ _ hX (lv_sub hl [0, 1, 2, 3, 4, 5, 6] rfl)
          · refine lv_iconst (v := nI 1) zx zb dX0_lasts_63 (by decide) ?_
            refine lv_iload zx zb dX0_lasts_64 (lv_at hl 0 rfl) ?_
            refine nv_ishl1 zx zb (by omega) dX0_lasts_66 ?_
            refine lv_goto (tgt := 71) zx zb dX0_lasts_67 (by decide) ?_
            refine nv_ior zx zb dX0_lasts_71 ?_
            refine nv_as (show nI ((bitsUp (fun v => soB kind longOf (va_up letters (4 * ii + (longOf ii - 1)) v) rdgs rWord rMany rStands rRow) v) ||| (2 ^ v)) = nI (bitsUp (fun v => soB kind longOf (va_up letters (4 * ii + (longOf ii - 1)) v) rdgs rWord rMany rStands rRow) (v + 1)) from (congrArg nI (bitsUp_t (P := fun v => soB kind longOf (va_up letters (4 * ii + (longOf ii - 1)) v) rdgs rWord rMany rStands rRow) c60))) ?_
            refine lv_istore (lv' := [(5, .int (nI (bitsUp (fun v => soB kind longOf (va_up letters (4 * ii + (longOf ii - 1)) v) rdgs rWord rMany rStands rRow) (v + 1)))), (6, .int (nI v)), (4, .int (nI (letters (4 * ii + ((longOf ii) - 1))))), (3, .int (nI ((longOf ii) - 1))), (2, .ref (la ii)), (0, .ref (a 0)), (1, .int (nI ii))]) zx zb dX0_lasts_72 hl (by decide) rfl (fun ls hl => ?_)
            refine lv_iinc (v := nI (v + 1)) (lv' := [(6, .int (nI (v + 1))), (5, .int (nI (bitsUp (fun v => soB kind longOf (va_up letters (4 * ii + (longOf ii - 1)) v) rdgs rWord rMany rStands rRow) (v + 1)))), (4, .int (nI (letters (4 * ii + ((longOf ii) - 1))))), (3, .int (nI ((longOf ii) - 1))), (2, .ref (la ii)), (0, .ref (a 0)), (1, .int (nI ii))]) zx zb dX0_lasts_74 hl (k := 1) rfl (nI_1 _) (by decide) rfl (fun ls hl => ?_)
            refine lv_goto (tgt := 43) zx zb dX0_lasts_77 (by decide) ?_
            exact ih43 (v + 1) ow1 (va_up letters (4 * ii + (longOf ii - 1)) v) (by omega) hTow1 (fun j hj => va_up_ne _ _ hj) (by omega) _ _ _ hX (lv_sub hl [0, 1, 2, 3, 4, 5, 6] rfl)
    exact L43 _ 0 ow letters (by omega) hT (fun _ _ => rfl) (Nat.lt_succ_self _) _ _ _ hX (lv_sub hl [0, 1, 2, 3, 4, 5, 6] rfl)
  · refine lv_iconst (v := (-1)) zx zb dX0_lasts_8 (by decide) ?_
    rw [← zQ]
    exact nv_endi zC zr zk ow hX (have z : isW words x = false := (by simpa using c5); ⟨by simp [F_lasts, z], hT⟩) (by omega) (by omega) dX0_lasts_9

set_option maxHeartbeats 4000000 in
theorem mx_kinds  (x : Int32) (hT : tlI dA (a 0) ez words kind longOf letters edW fW pa la rdgs rWord rMany rStands rRow edR fR pr lr so shL cl sh pS lS col ow) (hok : wOK words kind longOf letters) (hdo : dOK words rdgs rWord rMany rStands rRow) : nMt l D dA a0 yX0_kinds cX0_kinds 5 (some .int) 7 155 3 12 (nvE a0 ez) [.ref (a 0), .int x] (xW dA a rn rt trace len stand first allh hAll fault row hOf farOf rowsN rowsT mcW edW words mcR edR rdgs sh (ow ++ ex)) (nQi D a0 (fun (r : Int32) (ow' : va_W) => r = F_kinds words kind longOf letters rdgs rWord rMany rStands rRow x ∧ tlI dA (a 0) ez words kind longOf letters edW fW pa la rdgs rWord rMany rStands rRow edR fR pr lr so shL cl sh pS lS col ow') (fun (ow' : va_W) => xW dA a rn rt trace len stand first allh hAll fault row hOf farOf rowsN rowsT mcW edW words mcR edR rdgs sh (ow' ++ ex))) := by
  refine nv_start (by decide) (Nat.le_of_ble_eq_true rfl) fun zp ze s zm zlo zme zcd ls zC zr zk znm hX zG hl => ?_
  have zx := zC.1
  have zb := zC.2.1
  generalize zargs : ([.ref (a 0), .int x] : List Value).toArray = zar at zC ⊢
  generalize zQ : MQ zlo _ zar s _ _ _ = Q
  have hX : nvS D a0 (xW dA a rn rt trace len stand first allh hAll fault row hOf farOf rowsN rowsT mcW edW words mcR edR rdgs sh (ow ++ ex)) s.heap s.heap [] := hX
  have hl : lv_has ls 5 [(0, .ref (a 0)), (1, .int x)] := hl
  obtain ⟨H, zH⟩ : ∃ H, H = s.heap := ⟨_, rfl⟩
  have hX : nvS D a0 (xW dA a rn rt trace len stand first allh hAll fault row hOf farOf rowsN rowsT mcW edW words mcR edR rdgs sh (ow ++ ex)) s.heap H [] := by rw [zH]; exact hX
  rw [show W zp l ze (rm_ 7 155 3 12) s zm zar zlo zme zcd s.heap [] 0 0 Q = W zp l ze (rm_ 7 155 3 12) s zm zar zlo zme zcd H [] 0 0 Q by rw [zH]]
  generalize ([] : List Loc) = locs at hX ⊢
  have hW := hT.1.mono (mem_app (r := ex))
  have hR := hT.2.1.mono (mem_app (r := ex))
  have hw4 := hok.1
  have hr8 := hdo.1
  refine lv_aload_n zx zb dX0_kinds_0 rfl (lv_at hl 0 rfl) ?_
  refine lv_iload_n zx zb dX0_kinds_1 rfl (lv_at hl 1 rfl) ?_
  refine nv_ki zC hX (nv_rV (n := 1) (As := [.int x]) (rest := []) (q0 := 0) zC hX (mx_noWord (v := x) (hw := (by first | assumption | omega))) (nvE_b a0 ez) (nvE_keep zG hX) rfl rfl q183 q185 qs0 q59 q186 (by decide +kernel) rfl ⟨Nat.le_of_ble_eq_true rfl, Nat.le_of_ble_eq_true rfl⟩ hl.1 (Nat.le_of_ble_eq_true rfl) dX0_kinds_2 ⟨by first | exact Nat.le_of_ble_eq_true rfl | omega, by first | exact Nat.le_of_ble_eq_true rfl | omega⟩) (fun r u H locs hp hX => ?_)
  have hr_ : r = nB (!isW words x) := hp
  subst hr_
  have hX : nvS D a0 (xW dA a rn rt trace len stand first allh hAll fault row hOf farOf rowsN rowsT mcW edW words mcR edR rdgs sh (ow ++ ex)) s.heap H locs := hX
  refine W.cs (cells' := 0) (slots' := 0) (Nat.add_zero _) (Nat.add_zero _) ?_
  refine nv_if_eqB (tgt := 10) zx zb dX0_kinds_5 (by decide) (fun c5 => ?_) (fun c5 => ?_)
  · obtain ⟨ii, hi, rfl⟩ := isW_t (by omega) (by simpa using c5 : isW words x = true)
    have eii : i2n (nI ii) = ii := i2n_nI (by omega)
    have hwi : isW words (nI ii) = true := by rw [isW_n (by omega) (by omega)]; exact decide_eq_true hi
    have hli := hok.2.2.1 ii
    have hli1 := hok.2.2.2.2 ii hi
    have hk3 := hok.2.1 ii
    refine lv_aload_n zx zb dX0_kinds_10 rfl (lv_at hl 0 rfl) ?_
    refine nv_get zC hX in_X0 0 rfl rfl 3 (by decide) q134 (fun _ h => h) rfl dX0_kinds_11 ?_
    refine lv_iload_n zx zb dX0_kinds_14 rfl (lv_at hl 1 rfl) ?_
    refine nv_kFq zC hX (nv_rF (q := (RJ2, TJ2, 3)) (x := ⟨"java/util/List", "get", "(I)Ljava/lang/Object;"⟩) (y := yJ2_get) (n := 1) (As := [.int (nI ii)]) (rest := []) (q0 := 2) zC hX (mj_get (zh := a 2) (mc := mcW) (ed := edW) (n := words) (f := fW) (i := ii) (hm := (List.mem_of_getElem? (i := 2) rfl)) (ha := (xw_m (hW.ed hi))) (hi := hi) (hn := (by omega))) nvGb0 (fun _ _ _ => trivial) (nvE_f1 zG) rfl rfl q201 q206 q204 q62 q208 (by decide +kernel) rfl ⟨Nat.le_of_ble_eq_true rfl, Nat.le_of_ble_eq_true rfl⟩ hl.1 (Nat.le_of_ble_eq_true rfl) dX0_kinds_15 ⟨by first | exact Nat.le_of_ble_eq_true rfl | omega, by first | exact Nat.le_of_ble_eq_true rfl | omega⟩) (fun r u H locs hp hX => ?_)
    have hr_ : r = fW ii := hp
    subst hr_
    have hX : nvS D a0 (xW dA a rn rt trace len stand first allh hAll fault row hOf farOf rowsN rowsT mcW edW words mcR edR rdgs sh (ow ++ ex)) s.heap H locs := hX
    refine W.cs (cells' := 0) (slots' := 0) (Nat.add_zero _) (Nat.add_zero _) ?_
    refine nv_asR (show fW ii = some (pa ii) from (hW.w hi)) ?_
    refine nv_castP zC zG hX (hok.2.1 _) (xw_m (hW.p hi)) q219 dX0_kinds_20 ?_
    refine lv_astore_n (lv' := [(2, .ref (pa ii)), (0, .ref (a 0)), (1, .int (nI ii))]) zx zb dX0_kinds_23 rfl hl (by decide) rfl (fun ls hl => ?_)
    refine lv_iconst (v := nI 0) zx zb dX0_kinds_24 (by decide) ?_
    refine lv_istore_n (lv' := [(3, .int (nI 0)), (2, .ref (pa ii)), (0, .ref (a 0)), (1, .int (nI ii))]) zx zb dX0_kinds_25 rfl hl (by decide) rfl (fun ls hl => ?_)
    refine lv_iconst (v := nI 0) zx zb dX0_kinds_26 (by decide) ?_
    refine lv_istore (lv' := [(4, .int (nI 0)), (3, .int (nI 0)), (2, .ref (pa ii)), (0, .ref (a 0)), (1, .int (nI ii))]) zx zb dX0_kinds_27 hl (by decide) rfl (fun ls hl => ?_)
    have L29 : ∀ (zn : Nat) (v : Nat) (ow_ : va_W) (kd_ : Nat → Nat) (fW_ : Nat → Option Nat) (pa_ : Nat → Nat) (hv : v ≤ 3) (hTv : tlI dA (a 0) ez words kd_ longOf letters edW fW_ pa_ la rdgs rWord rMany rStands rRow edR fR pr lr so shL cl sh pS lS col ow_) (h1 : ∀ j, j ≠ ii → kd_ j = kind j) (h2 : ∀ j, j ≠ ii → fW_ j = fW j) (h3 : ∀ j, j ≠ ii → pa_ j = pa j) (hpm : (pa ii, plF (kind ii) (la ii) (a 0)) ∈ ow_), 3 - v < zn → ∀ (H : Heap) (locs : List Loc) (ls : Array Slot), nvS D a0 (xW dA a rn rt trace len stand first allh hAll fault row hOf farOf rowsN rowsT mcW edW words mcR edR rdgs sh (ow_ ++ ex)) s.heap H locs → lv_has ls 5 [(4, .int (nI v)), (3, .int (nI (bitsUp (fun v => soB (va_up kind ii v) longOf letters rdgs rWord rMany rStands rRow) v))), (2, .ref (pa ii)), (0, .ref (a 0)), (1, .int (nI ii))] → W zp l ze (rm_ 7 155 3 12) s zm zar zlo zme zcd H locs v (4 * v) Q (F0 zm 29 ls []) := by
      intro zn
      induction zn with
      | zero => intro v ow_ kd_ fW_ pa_ hv hTv h1 h2 h3 hpm zf; exact absurd zf (Nat.not_lt_zero _)
      | succ zn ih29 =>
        intro v ow_ kd_ fW_ pa_ hv hTv h1 h2 h3 hpm zf H locs ls hX hl
        refine lv_iload zx zb dX0_kinds_29 (lv_at hl 0 rfl) ?_
        refine lv_iconst (v := nI 3) zx zb dX0_kinds_31 (by decide) ?_
        refine nv_icmp_ge (tgt := 80) zx zb (by omega) (by omega) dX0_kinds_32 (by decide) (fun c32 => ?_) (fun c32 => ?_)
        · refine lv_aload_n zx zb dX0_kinds_80 rfl (lv_at hl 3 rfl) ?_
          refine nv_get zC hX in_X0 0 rfl rfl 3 (by decide) q134 (fun _ h => h) rfl dX0_kinds_81 ?_
          refine lv_iload_n zx zb dX0_kinds_84 rfl (lv_at hl 4 rfl) ?_
          refine lv_aload_n zx zb dX0_kinds_85 rfl (lv_at hl 2 rfl) ?_
          obtain ⟨k_, hk_⟩ := List.getElem?_of_mem (hTv.1.ed hi)
          have hu_ := hX.un
          have hWe : edW ≠ ez := nv_nez zG hX (xw_own _ (hTv.1.ed hi))
          refine nv_kFq zC hX (nv_rF (q := (RJ2, TJ2, 3)) (x := ⟨"java/util/List", "set", "(ILjava/lang/Object;)Ljava/lang/Object;"⟩) (y := yJ2_set) (n := 2) (As := [.int (nI ii), .ref (pa ii)]) (rest := []) (q0 := 2) zC hX (mj_set (q0 := 2) (q1 := (k_ + 9)) (cp := 10) (f := fW_) (mc := mcW) (ed := edW) (n := words) (zh := a 2) (ci := 2 + (kind ii)) (vs := .ref (la ii) :: List.replicate ((kind ii) + 1) (.ref (a 0))) (cq := plQ (kind ii)) (i := ii) (v := pa ii) (h0 := rfl) (h1 := (xW_9 hk_)) (hv := (xw_own _ hpm)) (hvz := (hu_.ne (xw_own _ hpm) (List.mem_of_getElem? (i := 2) rfl) (plF_12 hk3))) (hve := (hu_.ne (xw_own _ hpm) (xw_own _ (hTv.1.ed hi)) ni_ne)) (hc := (plQ_c hk3)) (hcs := (plQ_s hk3)) (hi := hi) (hn := (by omega)) (hcp := rfl)) (nvE_b a0 ez) (nvE_keep zG hX) (nvE_f4 zG) rfl rfl q484 q489 q487 q62 q491 (by decide +kernel) rfl ⟨Nat.le_of_ble_eq_true rfl, Nat.le_of_ble_eq_true rfl⟩ hl.1 (Nat.le_of_ble_eq_true rfl) dX0_kinds_86 ⟨by show v + 0 ≤ 3; omega, by show 4 * v + 0 ≤ 12; omega⟩) (fun r u H locs hp hX => ?_)
          have hr_ : r = fW_ ii := hp
          subst hr_
          have hX : nvS D a0 (jW dA 2 (k_ + 9) (a 2) mcW edW words 10 (va_up fW_ ii (some (pa ii))) (xW dA a rn rt trace len stand first allh hAll fault row hOf farOf rowsN rowsT mcW edW words mcR edR rdgs sh (ow_ ++ ex))) s.heap H locs := hX
          refine W.cs (cells' := v) (slots' := 4 * v) (Nat.add_zero _) (Nat.add_zero _) ?_
          have hX : nvS D a0 (xW dA a rn rt trace len stand first allh hAll fault row hOf farOf rowsN rowsT mcW edW words mcR edR rdgs sh (ow_.set k_ (edW, aO dA 10 (va_up fW_ ii (some (pa ii)))) ++ ex)) s.heap H locs := hX.as (jW_xW2 hk_)
          have hK_ := hTv.putW (hu_.sub xw_own) hw4 hi hpm (fun z => hTv.2.1.wk.e z) hWe hk_
          obtain ⟨ow3, hX, hTow3, hNow3⟩ := hK_.nor hw4 hr8 (pre := xW dA a rn rt trace len stand first allh hAll fault row hOf farOf rowsN rowsT mcW edW words mcR edR rdgs sh ([])) (ex := ex) hX
          have hX : nvS D a0 (xW dA a rn rt trace len stand first allh hAll fault row hOf farOf rowsN rowsT mcW edW words mcR edR rdgs sh (ow3 ++ ex)) s.heap H locs := hX
          rw [va_up_b h1, ← hW.w hi, va_up_b h2, va_up_b h3] at hTow3
          refine lv_pop zx zb dX0_kinds_91 (va_rf_cat _) ?_
          refine lv_iload_n zx zb dX0_kinds_92 rfl (lv_at hl 1 rfl) ?_
          rw [← zQ]
          exact nv_endi zC zr zk ow3 hX (⟨by unfold F_kinds; rw [if_pos hwi, eii, show v = 3 by omega], hTow3⟩) (by omega) (by omega) dX0_kinds_93
        · refine lv_aload_n zx zb dX0_kinds_35 rfl (lv_at hl 3 rfl) ?_
          refine nv_get zC hX in_X0 0 rfl rfl 3 (by decide) q134 (fun _ h => h) rfl dX0_kinds_36 ?_
          refine lv_iload_n zx zb dX0_kinds_39 rfl (lv_at hl 4 rfl) ?_
          refine lv_aload_n zx zb dX0_kinds_40 rfl (lv_at hl 3 rfl) ?_
          refine lv_iload zx zb dX0_kinds_41 (lv_at hl 0 rfl) ?_
          refine lv_aload_n zx zb dX0_kinds_43 rfl (lv_at hl 2 rfl) ?_
          refine nv_getP zC hX hk3 (xw_own _ hpm) q452 dX0_kinds_44 ?_
          refine nv_kr zC hX (nv_rV (n := 2) (As := [.int (nI v), .ref (la ii)]) (rest := [.int (nI ii), .ref (a 2)]) (q0 := 0) zC hX (mx_madeOf (x0 := a 0) (kd := v) (la := la ii) (hkd := (by omega))) nvGb0 (fun _ _ _ => trivial) rfl rfl q435 q437 qs13 q59 q438 (by decide +kernel) rfl ⟨Nat.le_of_ble_eq_true rfl, Nat.le_of_ble_eq_true rfl⟩ hl.1 (Nat.le_of_ble_eq_true rfl) dX0_kinds_47 ⟨by show v + 1 ≤ 3; omega, by show 4 * v + 4 ≤ 12; omega⟩) (fun u ra H locs hp hX => ?_)
          obtain ⟨ra_47, rfl⟩ : ∃ z, z = ra := ⟨_, rfl⟩
          have hX : nvS D a0 ((ra_47, plF v (la ii) (a 0)) :: xW dA a rn rt trace len stand first allh hAll fault row hOf farOf rowsN rowsT mcW edW words mcR edR rdgs sh (ow_ ++ ex)) s.heap H locs := hX
          obtain ⟨ow1, e_ow1⟩ : ∃ w, w = (ra_47, plF v (la ii) (a 0)) :: ow_ := ⟨_, rfl⟩
          have hX : nvS D a0 (xW dA a rn rt trace len stand first allh hAll fault row hOf farOf rowsN rowsT mcW edW words mcR edR rdgs sh (ow1 ++ ex)) s.heap H locs := by rw [e_ow1]; exact hX.perm (xW_pm _ _)
          have hs_ow1 : ∀ z, z ∈ ow_ → z ∈ ow1 := by rw [e_ow1]; exact fun z hz => List.mem_cons_of_mem _ hz
          have hT1 := hTv.mono hs_ow1
          have m_ow1 : (ra_47, plF v (la ii) (a 0)) ∈ ow1 := by rw [e_ow1]; exact List.mem_cons_self
          obtain ⟨k_, hk_⟩ := List.getElem?_of_mem (hT1.1.ed hi)
          have hu_ := hX.un
          have hWe : edW ≠ ez := nv_nez zG hX (xw_own _ (hT1.1.ed hi))
          refine nv_kFq zC hX (nv_rF (q := (RJ2, TJ2, 3)) (x := ⟨"java/util/List", "set", "(ILjava/lang/Object;)Ljava/lang/Object;"⟩) (y := yJ2_set) (n := 2) (As := [.int (nI ii), .ref ra_47]) (rest := []) (q0 := 2) zC hX (mj_set (q0 := 2) (q1 := (k_ + 9)) (cp := 10) (f := fW_) (mc := mcW) (ed := edW) (n := words) (zh := a 2) (ci := 2 + v) (vs := .ref (la ii) :: List.replicate (v + 1) (.ref (a 0))) (cq := plQ v) (i := ii) (v := ra_47) (h0 := rfl) (h1 := (xW_9 hk_)) (hv := (xw_own _ m_ow1)) (hvz := (hu_.ne (xw_own _ m_ow1) (List.mem_of_getElem? (i := 2) rfl) (plF_12 (by omega)))) (hve := (hu_.ne (xw_own _ m_ow1) (xw_own _ (hT1.1.ed hi)) ni_ne)) (hc := (plQ_c (by omega))) (hcs := (plQ_s (by omega))) (hi := hi) (hn := (by omega)) (hcp := rfl)) (nvE_b a0 ez) (nvE_keep zG hX) (nvE_f4 zG) rfl rfl q484 q489 q487 q62 q491 (by decide +kernel) rfl ⟨Nat.le_of_ble_eq_true rfl, Nat.le_of_ble_eq_true rfl⟩ hl.1 (Nat.le_of_ble_eq_true rfl) dX0_kinds_50 ⟨by show v + 1 + 0 ≤ 3; omega, by show 4 * v + 4 + 0 ≤ 12; omega⟩) (fun r u H locs hp hX => ?_)
          have hr_ : r = fW_ ii := hp
          subst hr_
          have hX : nvS D a0 (jW dA 2 (k_ + 9) (a 2) mcW edW words 10 (va_up fW_ ii (some ra_47)) (xW dA a rn rt trace len stand first allh hAll fault row hOf farOf rowsN rowsT mcW edW words mcR edR rdgs sh (ow1 ++ ex))) s.heap H locs := hX
          refine W.cs (cells' := v + 1) (slots' := 4 * v + 4) (Nat.add_zero _) (Nat.add_zero _) ?_
          have hX : nvS D a0 (xW dA a rn rt trace len stand first allh hAll fault row hOf farOf rowsN rowsT mcW edW words mcR edR rdgs sh (ow1.set k_ (edW, aO dA 10 (va_up fW_ ii (some ra_47))) ++ ex)) s.heap H locs := hX.as (jW_xW2 hk_)
          have hK_ := hT1.putW (hu_.sub xw_own) hw4 hi m_ow1 (fun z => hT1.2.1.wk.e z) hWe hk_
          obtain ⟨ow2, hX, hTow2, hNow2⟩ := hK_.nor hw4 hr8 (pre := xW dA a rn rt trace len stand first allh hAll fault row hOf farOf rowsN rowsT mcW edW words mcR edR rdgs sh ([])) (ex := ex) hX
          have hX : nvS D a0 (xW dA a rn rt trace len stand first allh hAll fault row hOf farOf rowsN rowsT mcW edW words mcR edR rdgs sh (ow2 ++ ex)) s.heap H locs := hX
          rw [va_up_o h1] at hTow2
          have hpm2 : (pa ii, plF (kind ii) (la ii) (a 0)) ∈ ow2 := hNow2 _ _ (set_kp hk_ _ (hs_ow1 _ hpm) (hu_.ne (xw_own _ (hs_ow1 _ hpm)) (xw_own _ (hT1.1.ed hi)) ni_ne))
          refine lv_pop zx zb dX0_kinds_55 (va_rf_cat _) ?_
          refine lv_iload_n zx zb dX0_kinds_56 rfl (lv_at hl 1 rfl) ?_
          refine lv_aload_n zx zb dX0_kinds_57 rfl (lv_at hl 3 rfl) ?_
          refine nv_ki zC hX (nv_rV (n := 0) (As := []) (rest := [.int (nI (bitsUp (fun v => soB (va_up kind ii v) longOf letters rdgs rWord rMany rStands rRow) v))]) (q0 := 0) zC hX (mx_areSo (hW := (hTow2.1.mono (mem_app (r := ex)))) (hok := ⟨hok.1, up_lt hok.2.1 (by omega), hok.2.2.1, hok.2.2.2.1, hok.2.2.2.2⟩) (hR := (hTow2.2.1.mono (mem_app (r := ex)))) (hdo := hdo)) (nvE_b a0 ez) (nvE_keep zG hX) rfl rfl q492 q494 qs14 q59 q495 (by decide +kernel) rfl ⟨Nat.le_of_ble_eq_true rfl, Nat.le_of_ble_eq_true rfl⟩ hl.1 (Nat.le_of_ble_eq_true rfl) dX0_kinds_58 ⟨by show v + 1 + 0 ≤ 3; omega, by show 4 * v + 4 + 0 ≤ 12; omega⟩) (fun r u H locs hp hX => ?_)
          have hr_ : r = nB (soB (va_up kind ii v) longOf letters rdgs rWord rMany rStands rRow) := hp
          subst hr_
          have hX : nvS D a0 (xW dA a rn rt trace len stand first allh hAll fault row hOf farOf rowsN rowsT mcW edW words mcR edR rdgs sh (ow2 ++ ex)) s.heap H locs := hX
          refine W.cs (cells' := v + 1) (slots' := 4 * v + 4) (Nat.add_zero _) (Nat.add_zero _) ?_
          refine nv_if_eqB (tgt := 71) zx zb dX0_kinds_61 (by decide) (fun c61 => ?_) (fun c61 => ?_)
          · refine lv_iconst (v := nI 0) zx zb dX0_kinds_71 (by decide) ?_
            refine nv_ior zx zb dX0_kinds_72 ?_
            refine nv_as (show nI ((bitsUp (fun v => soB (va_up kind ii v) longOf letters rdgs rWord rMany rStands rRow) v) ||| 0) = nI (bitsUp (fun v => soB (va_up kind ii v) longOf letters rdgs rWord rMany rStands rRow) (v + 1)) from (congrArg nI (bitsUp_f (P := fun v => soB (va_up kind ii v) longOf letters rdgs rWord rMany rStands rRow) c61))) ?_
            refine lv_istore_n (lv' := [(3, .int (nI (bitsUp (fun v => soB (va_up kind ii v) longOf letters rdgs rWord rMany rStands rRow) (v + 1)))), (4, .int (nI v)), (2, .ref (pa ii)), (0, .ref (a 0)), (1, .int (nI ii))]) zx zb dX0_kinds_73 rfl hl (by decide) rfl (fun ls hl => ?_)
            refine lv_iinc (v := nI (v + 1)) (lv' := [(4, .int (nI (v + 1))), (3, .int (nI (bitsUp (fun v => soB (va_up kind ii v) longOf letters rdgs rWord rMany rStands rRow) (v + 1)))), (2, .ref (pa ii)), (0, .ref (a 0)), (1, .int (nI ii))]) zx zb dX0_kinds_74 hl (k := 1) rfl (nI_1 _) (by decide) rfl (fun ls hl => ?_)
            refine lv_goto (tgt := 29) zx zb dX0_kinds_77 (by decide) ?_
            refine W.widen (k := (v + 1)) (n := 4 * (v + 1)) (by omega) (by omega) ?_
            exact ih29 (v + 1) ow2 (va_up kind ii v) (va_up fW_ ii (some ra_47)) (va_up pa_ ii ra_47) (by omega) hTow2 (fun j hj => va_up_ne _ _ hj) (fun j hj => (va_up_ne _ _ hj).trans (h2 j hj)) (fun j hj => (va_up_ne _ _ hj).trans (h3 j hj)) hpm2 (by omega) _ _ _ hX (lv_sub hl [0, 1, 2, 3, 4] rfl)
          · refine lv_iconst (v := nI 1) zx zb dX0_kinds_64 (by decide) ?_
            refine lv_iload zx zb dX0_kinds_65 (lv_at hl 0 rfl) ?_
            refine nv_ishl1 zx zb (by omega) dX0_kinds_67 ?_
            refine lv_goto (tgt := 72) zx zb dX0_kinds_68 (by decide) ?_
            refine nv_ior zx zb dX0_kinds_72 ?_
            refine nv_as (show nI ((bitsUp (fun v => soB (va_up kind ii v) longOf letters rdgs rWord rMany rStands rRow) v) ||| (2 ^ v)) = nI (bitsUp (fun v => soB (va_up kind ii v) longOf letters rdgs rWord rMany rStands rRow) (v + 1)) from (congrArg nI (bitsUp_t (P := fun v => soB (va_up kind ii v) longOf letters rdgs rWord rMany rStands rRow) c61))) ?_
            refine lv_istore_n (lv' := [(3, .int (nI (bitsUp (fun v => soB (va_up kind ii v) longOf letters rdgs rWord rMany rStands rRow) (v + 1)))), (4, .int (nI v)), (2, .ref (pa ii)), (0, .ref (a 0)), (1, .int (nI ii))]) zx zb dX0_kinds_73 rfl hl (by decide) rfl (fun ls hl => ?_)
            refine lv_iinc (v := nI (v + 1)) (lv' := [(4, .int (nI (v + 1))), (3, .int (nI (bitsUp (fun v => soB (va_up kind ii v) longOf letters rdgs rWord rMany rStands rRow) (v + 1)))), (2, .ref (pa ii)), (0, .ref (a 0)), (1, .int (nI ii))]) zx zb dX0_kinds_74 hl (k := 1) rfl (nI_1 _) (by decide) rfl (fun ls hl => ?_)
            refine lv_goto (tgt := 29) zx zb dX0_kinds_77 (by decide) ?_
            refine W.widen (k := (v + 1)) (n := 4 * (v + 1)) (by omega) (by omega) ?_
            exact ih29 (v + 1) ow2 (va_up kind ii v) (va_up fW_ ii (some ra_47)) (va_up pa_ ii ra_47) (by omega) hTow2 (fun j hj => va_up_ne _ _ hj) (fun j hj => (va_up_ne _ _ hj).trans (h2 j hj)) (fun j hj => (va_up_ne _ _ hj).trans (h3 j hj)) hpm2 (by omega) _ _ _ hX (lv_sub hl [0, 1, 2, 3, 4] rfl)
    refine W.widen (k := 0) (n := 4 * 0) (by omega) (by omega) ?_
    exact L29 _ 0 ow kind fW pa (by omega) hT (fun _ _ => rfl) (fun _ _ => rfl) (fun _ _ => rfl) (hT.1.p hi) (Nat.lt_succ_self _) _ _ _ hX (lv_sub hl [0, 1, 2, 3, 4] rfl)
  · refine lv_iconst (v := (-1)) zx zb dX0_kinds_8 (by decide) ?_
    rw [← zQ]
    exact nv_endi zC zr zk ow hX (have z : isW words x = false := (by simpa using c5); ⟨by simp [F_kinds, z], hT⟩) (by omega) (by omega) dX0_kinds_9

set_option maxHeartbeats 4000000 in
theorem mx_back  (n : Int32) (hT : tlI dA (a 0) ez words kind longOf letters edW fW pa la rdgs rWord rMany rStands rRow edR fR pr lr so shL cl sh pS lS col ow) (hok : wOK words kind longOf letters) (hdo : dOK words rdgs rWord rMany rStands rRow) : nMt l D dA a0 yX0_back cX0_back 3 (some .int) 4 78 0 0 (nvE a0 ez) [.ref (a 0), .int n] (xW dA a rn rt trace len stand first allh hAll fault row hOf farOf rowsN rowsT mcW edW words mcR edR rdgs sh (ow ++ ex)) (nQi D a0 (fun (r : Int32) (u : va_W × Int32 × (Nat → Option Nat)) => r = F_back rdgs n ∧ tlI dA (a 0) ez words kind longOf letters edW fW pa la (G_back rdgs n) rWord rMany rStands rRow edR u.2.2 pr lr so shL cl sh pS lS col u.1) (fun (u : va_W × Int32 × (Nat → Option Nat)) => xW dA a rn rt trace len stand first allh hAll fault row hOf farOf rowsN rowsT mcW edW words u.2.1 edR (G_back rdgs n) sh (u.1 ++ ex))) := by
  refine nv_start (by decide) (Nat.le_of_ble_eq_true rfl) fun zp ze s zm zlo zme zcd ls zC zr zk znm hX zG hl => ?_
  have zx := zC.1
  have zb := zC.2.1
  generalize zargs : ([.ref (a 0), .int n] : List Value).toArray = zar at zC ⊢
  generalize zQ : MQ zlo _ zar s _ _ _ = Q
  have hX : nvS D a0 (xW dA a rn rt trace len stand first allh hAll fault row hOf farOf rowsN rowsT mcW edW words mcR edR rdgs sh (ow ++ ex)) s.heap s.heap [] := hX
  have hl : lv_has ls 3 [(0, .ref (a 0)), (1, .int n)] := hl
  obtain ⟨H, zH⟩ : ∃ H, H = s.heap := ⟨_, rfl⟩
  have hX : nvS D a0 (xW dA a rn rt trace len stand first allh hAll fault row hOf farOf rowsN rowsT mcW edW words mcR edR rdgs sh (ow ++ ex)) s.heap H [] := by rw [zH]; exact hX
  rw [show W zp l ze (rm_ 4 78 0 0) s zm zar zlo zme zcd s.heap [] 0 0 Q = W zp l ze (rm_ 4 78 0 0) s zm zar zlo zme zcd H [] 0 0 Q by rw [zH]]
  generalize ([] : List Loc) = locs at hX ⊢
  have hW := hT.1.mono (mem_app (r := ex))
  have hR := hT.2.1.mono (mem_app (r := ex))
  have hw4 := hok.1
  have hr8 := hdo.1
  refine lv_iload_n zx zb dX0_back_0 rfl (lv_at hl 1 rfl) ?_
  refine lv_i2l zx zb dX0_back_1 rfl ?_
  refine lv_lconst (v := lN 0) zx zb dX0_back_2 (by decide) ?_
  refine lv_aload_n zx zb dX0_back_3 rfl (lv_at hl 0 rfl) ?_
  refine nv_get zC hX in_X0 0 rfl rfl 12 (by decide) q143 (fun _ h => h) rfl dX0_back_4 ?_
  refine nv_kFi zC hX (nv_rF (q := (RJ2, TJ2, 3)) (x := ⟨"java/util/List", "size", "()I"⟩) (y := yJ2_size) (n := 0) (As := []) (rest := [.long (lN 0), .long n.toInt64]) (q0 := 7) zC hX (mj_size (zh := a 5) (mc := mcR) (ed := edR) (n := rdgs) (hm := (List.mem_of_getElem? (i := 7) rfl))) nvGb0 (fun _ _ _ => trivial) (nvE_f0 zG) rfl rfl q188 q194 q192 q62 q196 (by decide +kernel) rfl ⟨Nat.le_of_ble_eq_true rfl, Nat.le_of_ble_eq_true rfl⟩ hl.1 (Nat.le_of_ble_eq_true rfl) dX0_back_7 ⟨by first | exact Nat.le_of_ble_eq_true rfl | omega, by first | exact Nat.le_of_ble_eq_true rfl | omega⟩) (fun r u H locs hp hX => ?_)
  have hr_ : r = nI rdgs := hp
  subst hr_
  have hX : nvS D a0 (xW dA a rn rt trace len stand first allh hAll fault row hOf farOf rowsN rowsT mcW edW words mcR edR rdgs sh (ow ++ ex)) s.heap H locs := hX
  refine W.cs (cells' := 0) (slots' := 0) (Nat.add_zero _) (Nat.add_zero _) ?_
  refine lv_i2l (v := lN rdgs) zx zb dX0_back_12 (nI_l (by omega)) ?_
  refine nv_ki zC hX (nv_rS (n := 3) (As := [.long n.toInt64, .long (lN 0), .long (lN rdgs)]) (rest := []) zC hX (mx_in (v := n.toInt64) (lo := lN 0) (hi := lN rdgs)) nvGb0 (fun _ _ _ => trivial) q197 q198 q59 q199 (by decide +kernel) rfl ⟨Nat.le_of_ble_eq_true rfl, Nat.le_of_ble_eq_true rfl⟩ hl.1 (Nat.le_of_ble_eq_true rfl) dX0_back_13 ⟨by first | exact Nat.le_of_ble_eq_true rfl | omega, by first | exact Nat.le_of_ble_eq_true rfl | omega⟩) (fun r u H locs hp hX => ?_)
  have hr_ : r = nB (decide (lN 0 ≤ n.toInt64) && decide (n.toInt64 ≤ lN rdgs)) := hp
  subst hr_
  have hX : nvS D a0 (xW dA a rn rt trace len stand first allh hAll fault row hOf farOf rowsN rowsT mcW edW words mcR edR rdgs sh (ow ++ ex)) s.heap H locs := hX
  refine W.cs (cells' := 0) (slots' := 0) (Nat.add_zero _) (Nat.add_zero _) ?_
  refine nv_as (show nB (decide (lN 0 ≤ n.toInt64) && decide (n.toInt64 ≤ lN rdgs)) = nB (inN n 0 rdgs) from (congrArg nB (inN_l (by decide) (by omega)))) ?_
  refine nv_if_neB (tgt := 22) zx zb dX0_back_16 (by decide) (fun c16 => ?_) (fun c16 => ?_)
  · have c16 := c16
    obtain ⟨nn, -, hnn, rfl⟩ := inN_t (by decide) (by omega) c16
    have enn : i2n (nI nn) = nn := i2n_nI (by omega)
    refine lv_iconst (v := nI 0) zx zb dX0_back_22 (by decide) ?_
    refine lv_istore_n (lv' := [(2, .int (nI 0)), (0, .ref (a 0)), (1, .int (nI nn))]) zx zb dX0_back_23 rfl hl (by decide) rfl (fun ls hl => ?_)
    have L24 : ∀ (zn : Nat) (x : Nat) (ow_ : va_W) (fR_ : Nat → Option Nat) (mc_ : Int32) (hx : x ≤ nn) (hTx : tlI dA (a 0) ez words kind longOf letters edW fW pa la (rdgs - x) rWord rMany rStands rRow edR fR_ pr lr so shL cl sh pS lS col ow_), nn - x < zn → ∀ (H : Heap) (locs : List Loc) (ls : Array Slot), nvS D a0 (xW dA a rn rt trace len stand first allh hAll fault row hOf farOf rowsN rowsT mcW edW words mc_ edR (rdgs - x) sh (ow_ ++ ex)) s.heap H locs → lv_has ls 3 [(2, .int (nI x)), (0, .ref (a 0)), (1, .int (nI nn))] → W zp l ze (rm_ 4 78 0 0) s zm zar zlo zme zcd H locs 0 0 Q (F0 zm 24 ls []) := by
      intro zn
      induction zn with
      | zero => intro x ow_ fR_ mc_ hx hTx zf; exact absurd zf (Nat.not_lt_zero _)
      | succ zn ih24 =>
        intro x ow_ fR_ mc_ hx hTx zf H locs ls hX hl
        refine lv_iload_n zx zb dX0_back_24 rfl (lv_at hl 0 rfl) ?_
        refine lv_iload_n zx zb dX0_back_25 rfl (lv_at hl 2 rfl) ?_
        refine nv_icmp_ge (tgt := 56) zx zb (by omega) (by omega) dX0_back_26 (by decide) (fun c26 => ?_) (fun c26 => ?_)
        · refine lv_aload_n zx zb dX0_back_56 rfl (lv_at hl 1 rfl) ?_
          refine nv_get zC hX in_X0 0 rfl rfl 12 (by decide) q143 (fun _ h => h) rfl dX0_back_57 ?_
          refine nv_kFi zC hX (nv_rF (q := (RJ2, TJ2, 3)) (x := ⟨"java/util/List", "size", "()I"⟩) (y := yJ2_size) (n := 0) (As := []) (rest := []) (q0 := 7) zC hX (mj_size (zh := a 5) (mc := mc_) (ed := edR) (n := rdgs - x) (hm := (List.mem_of_getElem? (i := 7) rfl))) nvGb0 (fun _ _ _ => trivial) (nvE_f0 zG) rfl rfl q188 q194 q192 q62 q196 (by decide +kernel) rfl ⟨Nat.le_of_ble_eq_true rfl, Nat.le_of_ble_eq_true rfl⟩ hl.1 (Nat.le_of_ble_eq_true rfl) dX0_back_60 ⟨by first | exact Nat.le_of_ble_eq_true rfl | omega, by first | exact Nat.le_of_ble_eq_true rfl | omega⟩) (fun r u H locs hp hX => ?_)
          have hr_ : r = nI (rdgs - x) := hp
          subst hr_
          have hX : nvS D a0 (xW dA a rn rt trace len stand first allh hAll fault row hOf farOf rowsN rowsT mcW edW words mc_ edR (rdgs - x) sh (ow_ ++ ex)) s.heap H locs := hX
          refine W.cs (cells' := 0) (slots' := 0) (Nat.add_zero _) (Nat.add_zero _) ?_
          have hX : nvS D a0 (xW dA a rn rt trace len stand first allh hAll fault row hOf farOf rowsN rowsT mcW edW words mc_ edR (G_back rdgs (nI nn)) sh (ow_ ++ ex)) s.heap H locs := by rw [show G_back rdgs (nI nn) = rdgs - nn from by unfold G_back; rw [if_pos c16, enn], ← show x = nn by omega]; exact hX
          have e_ : x = nn := by omega
          subst e_
          rw [← zQ]
          exact nv_endi zC zr zk (ow_, mc_, fR_) hX (⟨by unfold F_back; rw [if_pos c16, enn], by rw [show G_back rdgs (nI x) = rdgs - x from by unfold G_back; rw [if_pos c16, enn]]; exact hTx⟩) (by omega) (by omega) dX0_back_65
        · refine lv_aload_n zx zb dX0_back_29 rfl (lv_at hl 1 rfl) ?_
          refine nv_get zC hX in_X0 0 rfl rfl 12 (by decide) q143 (fun _ h => h) rfl dX0_back_30 ?_
          refine lv_aload_n zx zb dX0_back_33 rfl (lv_at hl 1 rfl) ?_
          refine nv_get zC hX in_X0 0 rfl rfl 12 (by decide) q143 (fun _ h => h) rfl dX0_back_34 ?_
          refine nv_kFi zC hX (nv_rF (q := (RJ2, TJ2, 3)) (x := ⟨"java/util/List", "size", "()I"⟩) (y := yJ2_size) (n := 0) (As := []) (rest := [.ref (a 5)]) (q0 := 7) zC hX (mj_size (zh := a 5) (mc := mc_) (ed := edR) (n := rdgs - x) (hm := (List.mem_of_getElem? (i := 7) rfl))) nvGb0 (fun _ _ _ => trivial) (nvE_f0 zG) rfl rfl q188 q194 q192 q62 q196 (by decide +kernel) rfl ⟨Nat.le_of_ble_eq_true rfl, Nat.le_of_ble_eq_true rfl⟩ hl.1 (Nat.le_of_ble_eq_true rfl) dX0_back_37 ⟨by first | exact Nat.le_of_ble_eq_true rfl | omega, by first | exact Nat.le_of_ble_eq_true rfl | omega⟩) (fun r u H locs hp hX => ?_)
          have hr_ : r = nI (rdgs - x) := hp
          subst hr_
          have hX : nvS D a0 (xW dA a rn rt trace len stand first allh hAll fault row hOf farOf rowsN rowsT mcW edW words mc_ edR (rdgs - x) sh (ow_ ++ ex)) s.heap H locs := hX
          refine W.cs (cells' := 0) (slots' := 0) (Nat.add_zero _) (Nat.add_zero _) ?_
          refine lv_iconst (v := nI 1) zx zb dX0_back_42 (by decide) ?_
          refine nv_isub zx zb (by omega) dX0_back_43 ?_
          obtain ⟨k_, hk_⟩ := List.getElem?_of_mem (hTx.2.1.ed (i := 0) (by omega))
          have hu_ := hX.un
          have hRe : edR ≠ ez := nv_nez zG hX (xw_own _ (hTx.2.1.ed (i := 0) (by omega)))
          refine nv_kFq zC hX (nv_rF (q := (RJ2, TJ2, 3)) (x := ⟨"java/util/List", "remove", "(I)Ljava/lang/Object;"⟩) (y := yJ2_remove) (n := 1) (As := [.int (nI ((rdgs - x) - 1))]) (rest := []) (q0 := 7) zC hX (mj_remove (q0 := 7) (q1 := (k_ + 9)) (cp := 10) (f := fR_) (mc := mc_) (ed := edR) (n := rdgs - x) (zh := a 5) (i := (rdgs - x) - 1) (h0 := rfl) (h1 := (xW_9 hk_)) (hi := (by omega)) (hn := (by omega)) (hcp := (by decide))) (nvE_b a0 ez) (nvE_keep zG hX) (nvE_f3 zG) rfl rfl q416 q421 q419 q62 q423 (by decide +kernel) rfl ⟨Nat.le_of_ble_eq_true rfl, Nat.le_of_ble_eq_true rfl⟩ hl.1 (Nat.le_of_ble_eq_true rfl) dX0_back_44 ⟨by first | exact Nat.le_of_ble_eq_true rfl | omega, by first | exact Nat.le_of_ble_eq_true rfl | omega⟩) (fun r u H locs hp hX => ?_)
          have hr_ : r = fR_ ((rdgs - x) - 1) := hp
          subst hr_
          have hX : nvS D a0 (jW dA 7 (k_ + 9) (a 5) (mc_ + nI 1) edR ((rdgs - x) - 1) 10 (va_up fR_ ((rdgs - x) - 1) none) (xW dA a rn rt trace len stand first allh hAll fault row hOf farOf rowsN rowsT mcW edW words mc_ edR (rdgs - x) sh (ow_ ++ ex))) s.heap H locs := hX
          refine W.cs (cells' := 0) (slots' := 0) (Nat.add_zero _) (Nat.add_zero _) ?_
          rw [Nat.sub_sub] at hX
          have hX : nvS D a0 (xW dA a rn rt trace len stand first allh hAll fault row hOf farOf rowsN rowsT mcW edW words (mc_ + nI 1) edR (rdgs - (x + 1)) sh (ow_.set k_ (edR, aO dA 10 (va_up fR_ (rdgs - (x + 1)) none)) ++ ex)) s.heap H locs := hX.as (jW_xW7 hk_)
          have e1_ : rdgs - x = rdgs - (x + 1) + 1 := by omega
          rw [e1_] at hTx
          have hK_ := hTx.cutR (hu_.sub xw_own) hRe hk_
          obtain ⟨ow1, hX, hTow1, hNow1⟩ := hK_.nor hw4 (by omega) (pre := xW dA a rn rt trace len stand first allh hAll fault row hOf farOf rowsN rowsT mcW edW words (mc_ + nI 1) edR (rdgs - (x + 1)) sh ([])) (ex := ex) hX
          have hX : nvS D a0 (xW dA a rn rt trace len stand first allh hAll fault row hOf farOf rowsN rowsT mcW edW words (mc_ + nI 1) edR (rdgs - (x + 1)) sh (ow1 ++ ex)) s.heap H locs := hX
          refine lv_pop zx zb dX0_back_49 (va_rf_cat _) ?_
          refine lv_iinc (v := nI (x + 1)) (lv' := [(2, .int (nI (x + 1))), (0, .ref (a 0)), (1, .int (nI nn))]) zx zb dX0_back_50 hl (k := 0) rfl (nI_1 _) (by decide) rfl (fun ls hl => ?_)
          refine lv_goto (tgt := 24) zx zb dX0_back_53 (by decide) ?_
          exact ih24 (x + 1) ow1 (va_up fR_ (rdgs - (x + 1)) none) (mc_ + nI 1) (by omega) hTow1 (by omega) _ _ _ hX (lv_sub hl [0, 1, 2] rfl)
    exact L24 _ 0 ow fR mcR (by omega) hT (Nat.lt_succ_self _) _ _ _ hX (lv_sub hl [0, 1, 2] rfl)
  · refine lv_bipush (v := (-2)) zx zb dX0_back_19 (by decide) ?_
    have hX : nvS D a0 (xW dA a rn rt trace len stand first allh hAll fault row hOf farOf rowsN rowsT mcW edW words mcR edR (G_back rdgs n) sh (ow ++ ex)) s.heap H locs := by rw [show G_back rdgs n = rdgs from if_neg (by rw [c16]; decide)]; exact hX
    rw [← zQ]
    exact nv_endi zC zr zk (ow, mcR, fR) hX (⟨by unfold F_back; rw [if_neg (by rw [c16]; decide)], by rw [show G_back rdgs n = rdgs from if_neg (by rw [c16]; decide)]; exact hT⟩) (by omega) (by omega) dX0_back_21
end CL_64_e2
