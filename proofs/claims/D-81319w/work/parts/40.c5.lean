/-! printed by klass.py -/
set_option maxRecDepth 100000
section CL_40_c5
variable {l : Launch} {D : va_G} {dA : Nat → ClassId} {a0 ez : Nat} {ex : va_W} {a : Nat → Nat} {rn : Nat} {rt : Nat} {trace : Int32} {len : Nat} {stand : Nat} {first : Option Nat} {allh : Option Nat} {hAll : Nat} {fault : Int32} {row : Nat → Nat} {hOf : Nat → Nat} {farOf : Nat → Option Nat} {rowsN : Nat → Nat} {rowsT : Nat → Nat} {mcW : Int32} {edW : Nat} {words : Nat} {mcR : Int32} {edR : Nat} {rdgs : Nat} {sh : Nat → Option Nat} {kind longOf letters : Nat → Nat} {fW : Nat → Option Nat} {pa la : Nat → Nat} {rWord rMany rStands rRow : Nat → Nat} {fR : Nat → Option Nat} {pr lr : Nat → Nat}
set_option maxHeartbeats 4000000 in
theorem mx_hush   (hw : words ≤ 4) : nMt l D dA a0 yX0_hush cX0_hush 2 (some .int) 3 52 0 0 (nvE a0 ez) [.ref (a 0)] (xW dA a rn rt trace len stand first allh hAll fault row hOf farOf rowsN rowsT mcW edW words mcR edR rdgs sh ex) (nQi D a0 (fun (r : Int32) (_ : Unit) => r = F_hush words len) (fun (_ : Unit) => xW dA a rn rt trace (G_hush words len) stand first allh hAll fault row hOf farOf rowsN rowsT mcW edW words mcR edR rdgs sh ex)) := by
  refine nv_start (by decide) (Nat.le_of_ble_eq_true rfl) fun zp ze s zm zlo zme zcd ls zC zr zk znm hX zG hl => ?_
  have zx := zC.1
  have zb := zC.2.1
  generalize zargs : ([.ref (a 0)] : List Value).toArray = zar at zC ⊢
  generalize zQ : MQ zlo _ zar s _ _ _ = Q
  have hX : nvS D a0 (xW dA a rn rt trace len stand first allh hAll fault row hOf farOf rowsN rowsT mcW edW words mcR edR rdgs sh ex) s.heap s.heap [] := hX
  have hl : lv_has ls 2 [(0, .ref (a 0))] := hl
  obtain ⟨H, zH⟩ : ∃ H, H = s.heap := ⟨_, rfl⟩
  have hX : nvS D a0 (xW dA a rn rt trace len stand first allh hAll fault row hOf farOf rowsN rowsT mcW edW words mcR edR rdgs sh ex) s.heap H [] := by rw [zH]; exact hX
  rw [show W zp l ze (rm_ 3 52 0 0) s zm zar zlo zme zcd s.heap [] 0 0 Q = W zp l ze (rm_ 3 52 0 0) s zm zar zlo zme zcd H [] 0 0 Q by rw [zH]]
  generalize ([] : List Loc) = locs at hX ⊢
  refine lv_aload_n zx zb dX0_hush_0 rfl (lv_at hl 0 rfl) ?_
  refine nv_ki zC hX (nv_rV (n := 0) (As := []) (rest := []) (q0 := 0) zC hX (mx_noWords (hw := (by first | assumption | omega))) (nvE_b a0 ez) (nvE_keep zG hX) rfl rfl q332 q334 qs4 q59 q335 (by decide +kernel) rfl ⟨Nat.le_of_ble_eq_true rfl, Nat.le_of_ble_eq_true rfl⟩ hl.1 (Nat.le_of_ble_eq_true rfl) dX0_hush_1 ⟨by first | exact Nat.le_of_ble_eq_true rfl | omega, by first | exact Nat.le_of_ble_eq_true rfl | omega⟩) (fun r u H locs hp hX => ?_)
  have hr_ : r = nB (decide (words = 0)) := hp
  subst hr_
  have hX : nvS D a0 (xW dA a rn rt trace len stand first allh hAll fault row hOf farOf rowsN rowsT mcW edW words mcR edR rdgs sh ex) s.heap H locs := hX
  refine W.cs (cells' := 0) (slots' := 0) (Nat.add_zero _) (Nat.add_zero _) ?_
  refine nv_if_eqB (tgt := 10) zx zb dX0_hush_4 (by decide) (fun c4 => ?_) (fun c4 => ?_)
  · refine lv_aload_n zx zb dX0_hush_10 rfl (lv_at hl 0 rfl) ?_
    refine nv_get zC hX in_X0 0 rfl rfl 1 (by decide) q132 (fun _ h => h) rfl dX0_hush_11 ?_
    refine lv_istore_n (lv' := [(1, .int (nI len)), (0, .ref (a 0))]) zx zb dX0_hush_14 rfl hl (by decide) rfl (fun ls hl => ?_)
    refine lv_aload_n zx zb dX0_hush_15 rfl (lv_at hl 1 rfl) ?_
    refine lv_iconst (v := nI 0) zx zb dX0_hush_16 (by decide) ?_
    refine nv_put zC hX in_X0 tyX0 tyX0_ok nmX0 0 rfl rfl 1 (by decide) q132 (fun _ h => h) rfl rfl rfl (Nat.le_of_ble_eq_true rfl) (w' := xW dA a rn rt trace 0 stand first allh hAll fault row hOf farOf rowsN rowsT mcW edW words mcR edR rdgs sh ex) rfl dX0_hush_17 (fun H locs hX => ?_)
    refine lv_iload_n zx zb dX0_hush_20 rfl (lv_at hl 0 rfl) ?_
    have e_ := of_decide_eq_false c4
    have hX : nvS D a0 (xW dA a rn rt trace (G_hush words len) stand first allh hAll fault row hOf farOf rowsN rowsT mcW edW words mcR edR rdgs sh ex) s.heap H locs := by rw [show G_hush words len = 0 from if_neg e_]; exact hX
    rw [← zQ]
    exact nv_endi zC zr zk () hX (by exact (if_neg e_).symm) (by omega) (by omega) dX0_hush_21
  · refine lv_bipush (v := (-3)) zx zb dX0_hush_7 (by decide) ?_
    have e_ := of_decide_eq_true c4
    have hX : nvS D a0 (xW dA a rn rt trace (G_hush words len) stand first allh hAll fault row hOf farOf rowsN rowsT mcW edW words mcR edR rdgs sh ex) s.heap H locs := by rw [show G_hush words len = len from if_pos e_]; exact hX
    rw [← zQ]
    exact nv_endi zC zr zk () hX (by exact (if_pos e_).symm) (by omega) (by omega) dX0_hush_9

set_option maxHeartbeats 4000000 in
theorem mx_say  (v : Int32) (hW : wdIn dA (a 0) words kind longOf letters edW ez fW pa la ex) (hok : wOK words kind longOf letters) (hl60 : len ≤ 60) (h3 : ∀ j, row j < 3) : nMt l D dA a0 yX0_say cX0_say 4 (some .int) 6 128 0 0 (nvE a0 ez) [.ref (a 0), .int v] (xW dA a rn rt trace len stand first allh hAll fault row hOf farOf rowsN rowsT mcW edW words mcR edR rdgs sh ex) (nQi D a0 (fun (r : Int32) (_ : Unit) => r = F_say words len kind longOf letters row v) (fun (_ : Unit) => xW dA a rn rt trace (G_said words len v) stand first allh hAll fault (G_sayRow words len row v) hOf farOf rowsN rowsT mcW edW words mcR edR rdgs sh ex)) := by
  refine nv_start (by decide) (Nat.le_of_ble_eq_true rfl) fun zp ze s zm zlo zme zcd ls zC zr zk znm hX zG hl => ?_
  have zx := zC.1
  have zb := zC.2.1
  generalize zargs : ([.ref (a 0), .int v] : List Value).toArray = zar at zC ⊢
  generalize zQ : MQ zlo _ zar s _ _ _ = Q
  have hX : nvS D a0 (xW dA a rn rt trace len stand first allh hAll fault row hOf farOf rowsN rowsT mcW edW words mcR edR rdgs sh ex) s.heap s.heap [] := hX
  have hl : lv_has ls 4 [(0, .ref (a 0)), (1, .int v)] := hl
  obtain ⟨H, zH⟩ : ∃ H, H = s.heap := ⟨_, rfl⟩
  have hX : nvS D a0 (xW dA a rn rt trace len stand first allh hAll fault row hOf farOf rowsN rowsT mcW edW words mcR edR rdgs sh ex) s.heap H [] := by rw [zH]; exact hX
  rw [show W zp l ze (rm_ 6 128 0 0) s zm zar zlo zme zcd s.heap [] 0 0 Q = W zp l ze (rm_ 6 128 0 0) s zm zar zlo zme zcd H [] 0 0 Q by rw [zH]]
  generalize ([] : List Loc) = locs at hX ⊢
  have hw4 := hok.1
  refine lv_iload_n zx zb dX0_say_0 rfl (lv_at hl 1 rfl) ?_
  refine nv_ki zC hX (nv_rS (n := 1) (As := [.int v]) (rest := []) zC hX (mx_isSign (v := v)) nvGb0 (fun _ _ _ => trivial) q324 q325 q59 q326 (by decide +kernel) rfl ⟨Nat.le_of_ble_eq_true rfl, Nat.le_of_ble_eq_true rfl⟩ hl.1 (Nat.le_of_ble_eq_true rfl) dX0_say_1 ⟨by first | exact Nat.le_of_ble_eq_true rfl | omega, by first | exact Nat.le_of_ble_eq_true rfl | omega⟩) (fun r u H locs hp hX => ?_)
  have hr_ : r = nB (inN v 0 2) := hp
  subst hr_
  have hX : nvS D a0 (xW dA a rn rt trace len stand first allh hAll fault row hOf farOf rowsN rowsT mcW edW words mcR edR rdgs sh ex) s.heap H locs := hX
  refine W.cs (cells' := 0) (slots' := 0) (Nat.add_zero _) (Nat.add_zero _) ?_
  refine nv_if_neB (tgt := 10) zx zb dX0_say_4 (by decide) (fun c4 => ?_) (fun c4 => ?_)
  · refine lv_aload_n zx zb dX0_say_10 rfl (lv_at hl 0 rfl) ?_
    refine nv_ki zC hX (nv_rV (n := 0) (As := []) (rest := []) (q0 := 0) zC hX (mx_noWords (hw := (by first | assumption | omega))) (nvE_b a0 ez) (nvE_keep zG hX) rfl rfl q332 q334 qs4 q59 q335 (by decide +kernel) rfl ⟨Nat.le_of_ble_eq_true rfl, Nat.le_of_ble_eq_true rfl⟩ hl.1 (Nat.le_of_ble_eq_true rfl) dX0_say_11 ⟨by first | exact Nat.le_of_ble_eq_true rfl | omega, by first | exact Nat.le_of_ble_eq_true rfl | omega⟩) (fun r u H locs hp hX => ?_)
    have hr_ : r = nB (decide (words = 0)) := hp
    subst hr_
    have hX : nvS D a0 (xW dA a rn rt trace len stand first allh hAll fault row hOf farOf rowsN rowsT mcW edW words mcR edR rdgs sh ex) s.heap H locs := hX
    refine W.cs (cells' := 0) (slots' := 0) (Nat.add_zero _) (Nat.add_zero _) ?_
    refine nv_if_eqB (tgt := 20) zx zb dX0_say_14 (by decide) (fun c14 => ?_) (fun c14 => ?_)
    · refine lv_aload_n zx zb dX0_say_20 rfl (lv_at hl 0 rfl) ?_
      refine nv_get zC hX in_X0 0 rfl rfl 1 (by decide) q132 (fun _ h => h) rfl dX0_say_21 ?_
      refine lv_bipush (v := nI 60) zx zb dX0_say_24 (by decide) ?_
      refine nv_icmp_ne (tgt := 32) zx zb (by omega) (by decide) dX0_say_26 (by decide) (fun c26 => ?_) (fun c26 => ?_)
      · have e_ := of_decide_eq_false c14
        have hok_ : okSay words len v = true := by unfold okSay; rw [c4, decide_eq_true (show 0 < words by omega), decide_eq_true (show len ≠ 60 by omega)]; rfl
        obtain ⟨c, -, hc, hv⟩ := inN_t (by decide) (by decide) c4
        have hiv : i2n v = c := by rw [hv]; exact nI_clamp (by omega)
        refine lv_iconst (v := nI 1) zx zb dX0_say_32 (by decide) ?_
        refine lv_istore_n (lv' := [(2, .int (nI 1)), (0, .ref (a 0)), (1, .int v)]) zx zb dX0_say_33 rfl hl (by decide) rfl (fun ls hl => ?_)
        refine lv_iconst (v := nI 0) zx zb dX0_say_34 (by decide) ?_
        refine lv_istore_n (lv' := [(3, .int (nI 0)), (2, .int (nI 1)), (0, .ref (a 0)), (1, .int v)]) zx zb dX0_say_35 rfl hl (by decide) rfl (fun ls hl => ?_)
        have L36 : ∀ (zn : Nat) (k : Nat) (hk : k ≤ len), len - k < zn → ∀ (H : Heap) (locs : List Loc) (ls : Array Slot), nvS D a0 (xW dA a rn rt trace len stand first allh hAll fault row hOf farOf rowsN rowsT mcW edW words mcR edR rdgs sh ex) s.heap H locs → lv_has ls 4 [(3, .int (nI k)), (2, .int (nI (enX row k))), (0, .ref (a 0)), (1, .int v)] → W zp l ze (rm_ 6 128 0 0) s zm zar zlo zme zcd H locs 0 0 Q (F0 zm 36 ls []) := by
          intro zn
          induction zn with
          | zero => intro k hk zf; exact absurd zf (Nat.not_lt_zero _)
          | succ zn ih36 =>
            intro k hk zf H locs ls hX hl
            refine lv_iload_n zx zb dX0_say_36 rfl (lv_at hl 0 rfl) ?_
            refine lv_aload_n zx zb dX0_say_37 rfl (lv_at hl 2 rfl) ?_
            refine nv_get zC hX in_X0 0 rfl rfl 1 (by decide) q132 (fun _ h => h) rfl dX0_say_38 ?_
            refine nv_icmp_ge (tgt := 61) zx zb (by omega) (by omega) dX0_say_41 (by decide) (fun c41 => ?_) (fun c41 => ?_)
            · have e2_ : k = len := (by omega)
              rw [e2_] at hl
              refine lv_aload_n zx zb dX0_say_61 rfl (lv_at hl 2 rfl) ?_
              refine nv_get zC hX in_X0 0 rfl rfl 2 (by decide) q133 (fun _ h => h) rfl dX0_say_62 ?_
              refine lv_aload_n zx zb dX0_say_65 rfl (lv_at hl 2 rfl) ?_
              refine nv_get zC hX in_X0 0 rfl rfl 1 (by decide) q132 (fun _ h => h) rfl dX0_say_66 ?_
              refine lv_iload_n zx zb dX0_say_69 rfl (lv_at hl 3 rfl) ?_
              refine nv_as (show v = nI c from hv) ?_
              refine nv_iast zC hX 1 rfl (by omega) (by decide) (nF_up _ _ _) (w' := xW dA a rn rt trace len stand first allh hAll fault (va_up row len c) hOf farOf rowsN rowsT mcW edW words mcR edR rdgs sh ex) rfl dX0_say_70 (fun H locs hX => ?_)
              refine lv_aload_n zx zb dX0_say_71 rfl (lv_at hl 2 rfl) ?_
              refine lv_dup zx zb dX0_say_72 rfl ?_
              refine nv_get zC hX in_X0 0 rfl rfl 1 (by decide) q132 (fun _ h => h) rfl dX0_say_73 ?_
              refine lv_iconst (v := nI 1) zx zb dX0_say_76 (by decide) ?_
              refine nv_iadd zx zb dX0_say_77 ?_
              refine nv_put zC hX in_X0 tyX0 tyX0_ok nmX0 0 rfl rfl 1 (by decide) q132 (fun _ h => h) rfl rfl rfl (Nat.le_of_ble_eq_true rfl) (w' := xW dA a rn rt trace (len + 1) stand first allh hAll fault (va_up row len c) hOf farOf rowsN rowsT mcW edW words mcR edR rdgs sh ex) rfl dX0_say_78 (fun H locs hX => ?_)
              refine lv_aload_n zx zb dX0_say_81 rfl (lv_at hl 2 rfl) ?_
              refine lv_iload_n zx zb dX0_say_82 rfl (lv_at hl 1 rfl) ?_
              refine lv_iload_n zx zb dX0_say_83 rfl (lv_at hl 3 rfl) ?_
              refine nv_as hv ?_
              refine nv_ki zC hX (nv_rV (n := 2) (As := [.int (nI (enX row len)), .int (nI c)]) (rest := []) (q0 := 0) zC hX (mx_heardBy (e := enX row len) (c := c) (hW := (by first | assumption | omega)) (hok := (by first | assumption | omega)) (he := (enX_lt h3 _).2) (hc := (by omega))) (nvE_b a0 ez) (nvE_keep zG hX) rfl rfl q263 q265 qs2 q59 q266 (by decide +kernel) rfl ⟨Nat.le_of_ble_eq_true rfl, Nat.le_of_ble_eq_true rfl⟩ hl.1 (Nat.le_of_ble_eq_true rfl) dX0_say_84 ⟨by first | exact Nat.le_of_ble_eq_true rfl | omega, by first | exact Nat.le_of_ble_eq_true rfl | omega⟩) (fun r u H locs hp hX => ?_)
              have hr_ : r = nI (hbE kind longOf letters words (3 * (enX row len) + c)) := hp
              subst hr_
              have hX : nvS D a0 (xW dA a rn rt trace (len + 1) stand first allh hAll fault (va_up row len c) hOf farOf rowsN rowsT mcW edW words mcR edR rdgs sh ex) s.heap H locs := hX
              refine W.cs (cells' := 0) (slots' := 0) (Nat.add_zero _) (Nat.add_zero _) ?_
              have hX : nvS D a0 (xW dA a rn rt trace (len + 1) stand first allh hAll fault (G_sayRow words len row v) hOf farOf rowsN rowsT mcW edW words mcR edR rdgs sh ex) s.heap H locs := by simp only [G_sayRow, hok_, hiv]; exact hX
              have hX : nvS D a0 (xW dA a rn rt trace (G_said words len v) stand first allh hAll fault (G_sayRow words len row v) hOf farOf rowsN rowsT mcW edW words mcR edR rdgs sh ex) s.heap H locs := by simp only [G_said, hok_]; exact hX
              rw [← zQ]
              exact nv_endi zC zr zk () hX (by unfold F_say; rw [hok_, if_pos rfl, hiv]; exact congrArg nI ((congrArg (hbE kind longOf letters words) (by rw [enX_cg (row' := va_up row len c) (fun j hj => (va_up_ne _ _ (by omega)).symm), va_up_self])).trans (hbE_hb hok (up_lt h3 (by omega)) len))) (by omega) (by omega) dX0_say_87
            · refine lv_iload_n zx zb dX0_say_44 rfl (lv_at hl 1 rfl) ?_
              refine lv_aload_n zx zb dX0_say_45 rfl (lv_at hl 2 rfl) ?_
              refine nv_get zC hX in_X0 0 rfl rfl 2 (by decide) q133 (fun _ h => h) rfl dX0_say_46 ?_
              refine lv_iload_n zx zb dX0_say_49 rfl (lv_at hl 0 rfl) ?_
              refine nv_iald (v := nI (row k)) zC hX 1 rfl (by omega) (by decide) rfl dX0_say_50 ?_
              refine nv_ki zC hX (nv_rS (n := 2) (As := [.int (nI (enX row k)), .int (nI (row k))]) (rest := []) zC hX (mx_endWith (e := enX row k) (c := row k) (he := (Nat.lt_trans (enX_lt h3 k).2 (by decide))) (hc := (h3 _))) nvGb0 (fun _ _ _ => trivial) q307 q308 q59 q309 (by decide +kernel) rfl ⟨Nat.le_of_ble_eq_true rfl, Nat.le_of_ble_eq_true rfl⟩ hl.1 (Nat.le_of_ble_eq_true rfl) dX0_say_51 ⟨by first | exact Nat.le_of_ble_eq_true rfl | omega, by first | exact Nat.le_of_ble_eq_true rfl | omega⟩) (fun r u H locs hp hX => ?_)
              have hr_ : r = nI (nxE (enX row k) (row k)) := hp
              subst hr_
              have hX : nvS D a0 (xW dA a rn rt trace len stand first allh hAll fault row hOf farOf rowsN rowsT mcW edW words mcR edR rdgs sh ex) s.heap H locs := hX
              refine W.cs (cells' := 0) (slots' := 0) (Nat.add_zero _) (Nat.add_zero _) ?_
              refine lv_istore_n (lv' := [(2, .int (nI (nxE (enX row k) (row k)))), (3, .int (nI k)), (0, .ref (a 0)), (1, .int v)]) zx zb dX0_say_54 rfl hl (by decide) rfl (fun ls hl => ?_)
              refine lv_iinc (v := nI (k + 1)) (lv' := [(3, .int (nI (k + 1))), (2, .int (nI (nxE (enX row k) (row k)))), (0, .ref (a 0)), (1, .int v)]) zx zb dX0_say_55 hl (k := 1) rfl (nI_1 _) (by decide) rfl (fun ls hl => ?_)
              refine lv_goto (tgt := 36) zx zb dX0_say_58 (by decide) ?_
              exact ih36 (k + 1) (by omega) (by omega) _ _ _ hX (lv_sub hl [0, 1, 2, 3] rfl)
        exact L36 _ 0 (by omega) (Nat.lt_succ_self _) _ _ _ hX (lv_sub hl [0, 1, 2, 3] rfl)
      · refine lv_bipush (v := (-4)) zx zb dX0_say_29 (by decide) ?_
        have e_ := of_decide_eq_false c14
        have hok_ : okSay words len v = false := by unfold okSay; rw [decide_eq_false (show ¬ len ≠ 60 by omega), Bool.and_false, Bool.and_false]
        have hX : nvS D a0 (xW dA a rn rt trace len stand first allh hAll fault (G_sayRow words len row v) hOf farOf rowsN rowsT mcW edW words mcR edR rdgs sh ex) s.heap H locs := by simp only [G_sayRow, hok_]; exact hX
        have hX : nvS D a0 (xW dA a rn rt trace (G_said words len v) stand first allh hAll fault (G_sayRow words len row v) hOf farOf rowsN rowsT mcW edW words mcR edR rdgs sh ex) s.heap H locs := by simp only [G_said, hok_]; exact hX
        rw [← zQ]
        exact nv_endi zC zr zk () hX (by unfold F_say; rw [hok_, if_neg (by decide), if_neg (by rw [c4]; decide), if_neg e_]) (by omega) (by omega) dX0_say_31
    · refine lv_bipush (v := (-3)) zx zb dX0_say_17 (by decide) ?_
      have e_ := of_decide_eq_true c14
      have hok_ : okSay words len v = false := by unfold okSay; rw [decide_eq_false (show ¬ 0 < words by omega), Bool.false_and, Bool.and_false]
      have hX : nvS D a0 (xW dA a rn rt trace len stand first allh hAll fault (G_sayRow words len row v) hOf farOf rowsN rowsT mcW edW words mcR edR rdgs sh ex) s.heap H locs := by simp only [G_sayRow, hok_]; exact hX
      have hX : nvS D a0 (xW dA a rn rt trace (G_said words len v) stand first allh hAll fault (G_sayRow words len row v) hOf farOf rowsN rowsT mcW edW words mcR edR rdgs sh ex) s.heap H locs := by simp only [G_said, hok_]; exact hX
      rw [← zQ]
      exact nv_endi zC zr zk () hX (by unfold F_say; rw [hok_, if_neg (by decide), if_neg (by rw [c4]; decide), if_pos e_]) (by omega) (by omega) dX0_say_19
  · refine lv_bipush (v := (-2)) zx zb dX0_say_7 (by decide) ?_
    have hok_ : okSay words len v = false := by unfold okSay; rw [c4]; rfl
    have hX : nvS D a0 (xW dA a rn rt trace len stand first allh hAll fault (G_sayRow words len row v) hOf farOf rowsN rowsT mcW edW words mcR edR rdgs sh ex) s.heap H locs := by simp only [G_sayRow, hok_]; exact hX
    have hX : nvS D a0 (xW dA a rn rt trace (G_said words len v) stand first allh hAll fault (G_sayRow words len row v) hOf farOf rowsN rowsT mcW edW words mcR edR rdgs sh ex) s.heap H locs := by simp only [G_said, hok_]; exact hX
    rw [← zQ]
    exact nv_endi zC zr zk () hX (by unfold F_say; rw [hok_, if_neg (by decide), if_pos c4]) (by omega) (by omega) dX0_say_9

set_option maxHeartbeats 4000000 in
theorem mx_areSigns  (m_ : Nat) (g : Nat → Int32) (ra_ : Nat) (hr : (ra_, aI dA m_ g) ∈ ex) (hm : m_ ≤ 60) : nMt l D dA a0 yX0_areSigns cX0_areSigns 6 (some .boolean) 3 57 0 0 nvG0 [.ref ra_] (ex) (nQi D a0 (fun (r : Int32) (_ : Unit) => r = nB (asU g m_)) (fun (_ : Unit) => ex)) := by
  refine nv_start (by decide) (Nat.le_of_ble_eq_true rfl) fun zp ze s zm zlo zme zcd ls zC zr zk znm hX zG hl => ?_
  have zx := zC.1
  have zb := zC.2.1
  generalize zargs : ([.ref ra_] : List Value).toArray = zar at zC ⊢
  generalize zQ : MQ zlo _ zar s _ _ _ = Q
  have hX : nvS D a0 (ex) s.heap s.heap [] := hX
  have hl : lv_has ls 6 [(0, .ref ra_)] := hl
  obtain ⟨H, zH⟩ : ∃ H, H = s.heap := ⟨_, rfl⟩
  have hX : nvS D a0 (ex) s.heap H [] := by rw [zH]; exact hX
  rw [show W zp l ze (rm_ 3 57 0 0) s zm zar zlo zme zcd s.heap [] 0 0 Q = W zp l ze (rm_ 3 57 0 0) s zm zar zlo zme zcd H [] 0 0 Q by rw [zH]]
  generalize ([] : List Loc) = locs at hX ⊢
  refine lv_iconst (v := nI 1) zx zb dX0_areSigns_0 (by decide) ?_
  refine lv_istore_n (lv' := [(1, .int (nI 1)), (0, .ref ra_)]) zx zb dX0_areSigns_1 rfl hl (by decide) rfl (fun ls hl => ?_)
  refine lv_aload_n zx zb dX0_areSigns_2 rfl (lv_at hl 1 rfl) ?_
  refine lv_astore_n (lv' := [(2, .ref ra_), (1, .int (nI 1)), (0, .ref ra_)]) zx zb dX0_areSigns_3 rfl hl (by decide) rfl (fun ls hl => ?_)
  refine lv_aload_n zx zb dX0_areSigns_4 rfl (lv_at hl 0 rfl) ?_
  refine nv_alenM zC hX 0 hr rfl dX0_areSigns_5 ?_
  refine lv_istore_n (lv' := [(3, .int (nI m_)), (2, .ref ra_), (1, .int (nI 1)), (0, .ref ra_)]) zx zb dX0_areSigns_6 rfl hl (by decide) rfl (fun ls hl => ?_)
  refine lv_iconst (v := nI 0) zx zb dX0_areSigns_7 (by decide) ?_
  refine lv_istore (lv' := [(4, .int (nI 0)), (3, .int (nI m_)), (2, .ref ra_), (1, .int (nI 1)), (0, .ref ra_)]) zx zb dX0_areSigns_8 hl (by decide) rfl (fun ls hl => ?_)
  have L10 : ∀ (zn : Nat) (k : Nat) (hk : k ≤ m_), m_ - k < zn → ∀ (H : Heap) (locs : List Loc) (ls : Array Slot), nvS D a0 (ex) s.heap H locs → lv_has ls 6 [(4, .int (nI k)), (3, .int (nI m_)), (2, .ref ra_), (1, .int (nB (asU g k))), (0, .ref ra_)] → W zp l ze (rm_ 3 57 0 0) s zm zar zlo zme zcd H locs 0 0 Q (F0 zm 10 ls []) := by
    intro zn
    induction zn with
    | zero => intro k hk zf; exact absurd zf (Nat.not_lt_zero _)
    | succ zn ih10 =>
      intro k hk zf H locs ls hX hl
      refine lv_iload zx zb dX0_areSigns_10 (lv_at hl 0 rfl) ?_
      refine lv_iload_n zx zb dX0_areSigns_12 rfl (lv_at hl 1 rfl) ?_
      refine nv_icmp_ge (tgt := 36) zx zb (by omega) (by omega) dX0_areSigns_13 (by decide) (fun c13 => ?_) (fun c13 => ?_)
      · refine lv_iload_n zx zb dX0_areSigns_36 rfl (lv_at hl 3 rfl) ?_
        rw [← zQ]
        exact nv_endz zC zr zk () hX (by have e_ : k = m_ := (by omega); rw [e_]) (by omega) (by omega) dX0_areSigns_37
      · refine lv_aload_n zx zb dX0_areSigns_16 rfl (lv_at hl 2 rfl) ?_
        refine lv_iload zx zb dX0_areSigns_17 (lv_at hl 0 rfl) ?_
        refine nv_ialdM (v := g k) zC hX hr (by omega) (by omega) rfl dX0_areSigns_19 ?_
        refine lv_istore (lv' := [(5, .int (g k)), (4, .int (nI k)), (3, .int (nI m_)), (2, .ref ra_), (1, .int (nB (asU g k))), (0, .ref ra_)]) zx zb dX0_areSigns_20 hl (by decide) rfl (fun ls hl => ?_)
        refine lv_iload_n zx zb dX0_areSigns_22 rfl (lv_at hl 4 rfl) ?_
        refine lv_iload zx zb dX0_areSigns_23 (lv_at hl 0 rfl) ?_
        refine nv_ki zC hX (nv_rS (n := 1) (As := [.int (g k)]) (rest := [.int (nB (asU g k))]) zC hX (mx_isSign (v := g k)) nvGb0 (fun _ _ _ => trivial) q324 q325 q59 q326 (by decide +kernel) rfl ⟨Nat.le_of_ble_eq_true rfl, Nat.le_of_ble_eq_true rfl⟩ hl.1 (Nat.le_of_ble_eq_true rfl) dX0_areSigns_25 ⟨by first | exact Nat.le_of_ble_eq_true rfl | omega, by first | exact Nat.le_of_ble_eq_true rfl | omega⟩) (fun r u H locs hp hX => ?_)
        have hr_ : r = nB (inN (g k) 0 2) := hp
        subst hr_
        have hX : nvS D a0 (ex) s.heap H locs := hX
        refine W.cs (cells' := 0) (slots' := 0) (Nat.add_zero _) (Nat.add_zero _) ?_
        refine nv_iandB zx zb dX0_areSigns_28 ?_
        refine nv_as (show nB ((asU g k) && (inN (g k) 0 2)) = nB (asU g (k + 1)) from (congrArg nB asU_s)) ?_
        refine lv_istore_n (lv' := [(1, .int (nB (asU g (k + 1)))), (5, .int (g k)), (4, .int (nI k)), (3, .int (nI m_)), (2, .ref ra_), (0, .ref ra_)]) zx zb dX0_areSigns_29 rfl hl (by decide) rfl (fun ls hl => ?_)
        refine lv_iinc (v := nI (k + 1)) (lv' := [(4, .int (nI (k + 1))), (1, .int (nB (asU g (k + 1)))), (5, .int (g k)), (3, .int (nI m_)), (2, .ref ra_), (0, .ref ra_)]) zx zb dX0_areSigns_30 hl (k := 2) rfl (nI_1 _) (by decide) rfl (fun ls hl => ?_)
        refine lv_goto (tgt := 10) zx zb dX0_areSigns_33 (by decide) ?_
        exact ih10 (k + 1) (by omega) (by omega) _ _ _ hX (lv_sub hl [0, 3, 4, 1, 5] rfl)
  rw [show nI 1 = nB (asU g 0) from nB_as1 asU_0] at hl
  exact L10 _ 0 (by omega) (Nat.lt_succ_self _) _ _ _ hX (lv_sub hl [0, 1, 2, 3, 4] rfl)
end CL_40_c5
