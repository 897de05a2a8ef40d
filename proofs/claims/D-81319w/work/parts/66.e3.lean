/-! printed by klass2.py -/
set_option maxRecDepth 100000
section CL_66_e3
variable {l : Launch} {D : va_G} {dA : Nat → ClassId} {a0 ez : Nat} {ex : va_W} {a : Nat → Nat} {rn : Nat} {rt : Nat} {trace : Int32} {len : Nat} {stand : Nat} {first : Option Nat} {allh : Option Nat} {hAll : Nat} {fault : Int32} {row : Nat → Nat} {hOf : Nat → Nat} {farOf : Nat → Option Nat} {rowsN : Nat → Nat} {rowsT : Nat → Nat} {mcW : Int32} {edW : Nat} {words : Nat} {mcR : Int32} {edR : Nat} {rdgs : Nat} {sh : Nat → Option Nat} {kind longOf letters : Nat → Nat} {fW : Nat → Option Nat} {pa la : Nat → Nat} {rWord rMany rStands rRow : Nat → Nat} {fR : Nat → Option Nat} {pr lr : Nat → Nat} {so : Nat → Option Nat} {shL : Nat → Nat} {cl : Nat → Int32} {pS lS col : Nat → Nat} {ow : va_W} {mo : Nat}
set_option maxHeartbeats 4000000 in
theorem mp_X8_init {zh : Nat} (w : Int32) (ra_ : Nat) (sb : Bool)  : nMt l D dA a0 yX8_init cX8_init 4 (none) 1 20 0 0 nvG0 [.ref zh, .int w, .ref ra_, .int (nB sb)] ((zh, .inr (5, [.int 0, .null, .int 0])) :: ex) (nQv D a0 (fun (_ : Unit) => True) (fun (_ : Unit) => (zh, .inr (5, [.int w, .ref ra_, .int (nB sb)])) :: ex)) := by
  refine nv_start (by decide) (Nat.le_of_ble_eq_true rfl) fun zp ze s zm zlo zme zcd ls zC zr zk znm hX zG hl => ?_
  have zx := zC.1
  have zb := zC.2.1
  generalize zargs : ([.ref zh, .int w, .ref ra_, .int (nB sb)] : List Value).toArray = zar at zC ⊢
  generalize zQ : MQ zlo _ zar s _ _ _ = Q
  have hX : nvS D a0 ((zh, .inr (5, [.int 0, .null, .int 0])) :: ex) s.heap s.heap [] := hX
  have hl : lv_has ls 4 [(0, .ref zh), (1, .int w), (2, .ref ra_), (3, .int (nB sb))] := hl
  obtain ⟨H, zH⟩ : ∃ H, H = s.heap := ⟨_, rfl⟩
  have hX : nvS D a0 ((zh, .inr (5, [.int 0, .null, .int 0])) :: ex) s.heap H [] := by rw [zH]; exact hX
  rw [show W zp l ze (rm_ 1 20 0 0) s zm zar zlo zme zcd s.heap [] 0 0 Q = W zp l ze (rm_ 1 20 0 0) s zm zar zlo zme zcd H [] 0 0 Q by rw [zH]]
  generalize ([] : List Loc) = locs at hX ⊢
  refine lv_aload_n zx zb dX8_init_0 rfl (lv_at hl 0 rfl) ?_
  refine W.objInit zx zb zC.2.2.2.1 (zC.2.2.2.2.1 _ q964) (zC.2.2.2.2.1 _ q99) (zC.2.2.2.2.1 _ q100) rfl (hl.1.trans zC.2.2.1.symm) rfl dX8_init_1 (Nat.le_of_ble_eq_true rfl) (Nat.le_of_ble_eq_true rfl) ?_
  refine W.eq (g2 := F0 zm 4 ls []) rfl ?_
  refine lv_aload_n zx zb dX8_init_4 rfl (lv_at hl 0 rfl) ?_
  refine lv_iload_n zx zb dX8_init_5 rfl (lv_at hl 1 rfl) ?_
  refine nv_putF zC hX in_X8 tyX8 tyX8_ok nmX8 0 rfl rfl 0 (by decide) q965 (fun _ h => h) rfl znm rfl rfl rfl (Nat.le_of_ble_eq_true rfl) (w' := (zh, .inr (5, [.int w, .null, .int 0])) :: ex) rfl dX8_init_6 (fun H locs hX => ?_)
  refine lv_aload_n zx zb dX8_init_9 rfl (lv_at hl 0 rfl) ?_
  refine lv_aload_n zx zb dX8_init_10 rfl (lv_at hl 2 rfl) ?_
  refine nv_putF zC hX in_X8 tyX8 tyX8_ok nmX8 0 rfl rfl 1 (by decide) q967 (fun _ h => h) rfl znm rfl rfl rfl (Nat.le_of_ble_eq_true rfl) (w' := (zh, .inr (5, [.int w, .ref ra_, .int 0])) :: ex) rfl dX8_init_11 (fun H locs hX => ?_)
  refine lv_aload_n zx zb dX8_init_14 rfl (lv_at hl 0 rfl) ?_
  refine lv_iload_n zx zb dX8_init_15 rfl (lv_at hl 3 rfl) ?_
  refine nv_putF zC hX in_X8 tyX8 tyX8_ok nmX8 0 rfl rfl 2 (by decide) q969 (fun _ h => h) rfl znm rfl (by cases sb <;> rfl) (by cases sb <;> rfl) (Nat.le_of_ble_eq_true rfl) (w' := (zh, .inr (5, [.int w, .ref ra_, .int (nB sb)])) :: ex) rfl dX8_init_16 (fun H locs hX => ?_)
  rw [← zQ]
  exact nv_endv zC zr zk () hX (by first | rfl | trivial) (by omega) (by omega) dX8_init_19

set_option maxHeartbeats 4000000 in
theorem mx_readBy  (cl_ : Nat → Int32) (p_ : Nat) (m_ : Nat) (w : Nat) (ra_ : Nat) (st : Nat) (hT : tlI dA (a 0) ez words kind longOf letters edW fW pa la rdgs rWord rMany rStands rRow edR fR pr lr so shL cl sh pS lS col ow) (hok : wOK words kind longOf letters) (hdo : dOK words rdgs rWord rMany rStands rRow) (hm : m_ ≤ 8) (hw : w < words) (hst : st < 2) : nMt l D dA a0 yX0_readBy cX0_readBy 4 (some .int) 5 117 2 13 (nvE a0 ez) [.ref (a 0), .int (nI w), .ref ra_, .int (nI st)] (xW dA a rn rt trace len stand first allh hAll fault row hOf farOf rowsN rowsT mcW edW words mcR edR rdgs sh (((ra_, aI dA m_ (cfN cl_ p_ m_)) :: ow) ++ ex)) (nQi D a0 (fun (r : Int32) (u : va_W × Nat × Int32 × (Nat → Option Nat) × (Nat → Nat) × (Nat → Nat) × (Nat → Nat)) => r = (if alB cl_ p_ m_ then (if rdgs = 8 then -4 else nI rdgs) else -2) ∧ tlI dA (a 0) ez words kind longOf letters edW fW pa la (if (alB cl_ p_ m_ && decide (rdgs ≠ 8)) then rdgs + 1 else rdgs) (if (alB cl_ p_ m_ && decide (rdgs ≠ 8)) then va_up rWord rdgs w else rWord) (if (alB cl_ p_ m_ && decide (rdgs ≠ 8)) then va_up rMany rdgs m_ else rMany) (if (alB cl_ p_ m_ && decide (rdgs ≠ 8)) then va_up rStands rdgs st else rStands) (if (alB cl_ p_ m_ && decide (rdgs ≠ 8)) then rwP rRow (8 * rdgs) m_ (rwC cl_ p_ m_) else rRow) u.2.1 u.2.2.2.1 u.2.2.2.2.1 u.2.2.2.2.2.1 so shL cl sh pS lS u.2.2.2.2.2.2 u.1) (fun (u : va_W × Nat × Int32 × (Nat → Option Nat) × (Nat → Nat) × (Nat → Nat) × (Nat → Nat)) => xW dA a rn rt trace len stand first allh hAll fault row hOf farOf rowsN rowsT mcW edW words u.2.2.1 u.2.1 (if (alB cl_ p_ m_ && decide (rdgs ≠ 8)) then rdgs + 1 else rdgs) sh (u.1 ++ ex))) := by
  refine nv_start (by decide) (Nat.le_of_ble_eq_true rfl) fun zp ze s zm zlo zme zcd ls zC zr zk znm hX zG hl => ?_
  have zx := zC.1
  have zb := zC.2.1
  generalize zargs : ([.ref (a 0), .int (nI w), .ref ra_, .int (nI st)] : List Value).toArray = zar at zC ⊢
  generalize zQ : MQ zlo _ zar s _ _ _ = Q
  have hX : nvS D a0 (xW dA a rn rt trace len stand first allh hAll fault row hOf farOf rowsN rowsT mcW edW words mcR edR rdgs sh (((ra_, aI dA m_ (cfN cl_ p_ m_)) :: ow) ++ ex)) s.heap s.heap [] := hX
  have hl : lv_has ls 4 [(0, .ref (a 0)), (1, .int (nI w)), (2, .ref ra_), (3, .int (nI st))] := hl
  obtain ⟨H, zH⟩ : ∃ H, H = s.heap := ⟨_, rfl⟩
  have hX : nvS D a0 (xW dA a rn rt trace len stand first allh hAll fault row hOf farOf rowsN rowsT mcW edW words mcR edR rdgs sh (((ra_, aI dA m_ (cfN cl_ p_ m_)) :: ow) ++ ex)) s.heap H [] := by rw [zH]; exact hX
  rw [show W zp l ze (rm_ 5 117 2 13) s zm zar zlo zme zcd s.heap [] 0 0 Q = W zp l ze (rm_ 5 117 2 13) s zm zar zlo zme zcd H [] 0 0 Q by rw [zH]]
  generalize ([] : List Loc) = locs at hX ⊢
  have hw4 := hok.1
  have hr8 := hdo.1
  have hfr : ∀ z, z ∈ ow → z.1 ≠ ra_ := nvS.fr (pre := xW dA a rn rt trace len stand first allh hAll fault row hOf farOf rowsN rowsT mcW edW words mcR edR rdgs sh []) hX
  refine lv_aload_n zx zb dX0_readBy_0 rfl (lv_at hl 2 rfl) ?_
  refine nv_ki zC hX (nv_rS (n := 1) (As := [.ref ra_]) (rest := []) zC hX (mx_areSigns (m_ := m_) (g := cfN cl_ p_ m_) (ra_ := ra_) (hr := (xw_own (ow := (ra_, aI dA m_ (cfN cl_ p_ m_)) :: ow) _ List.mem_cons_self)) (hm := (by omega))) nvGb0 (fun _ _ _ => trivial) q950 q951 q59 q952 (by decide +kernel) rfl ⟨Nat.le_of_ble_eq_true rfl, Nat.le_of_ble_eq_true rfl⟩ hl.1 (Nat.le_of_ble_eq_true rfl) dX0_readBy_1 ⟨by first | exact Nat.le_of_ble_eq_true rfl | omega, by first | exact Nat.le_of_ble_eq_true rfl | omega⟩) (fun r u H locs hp hX => ?_)
  have hr_ : r = nB (asU (cfN cl_ p_ m_) m_) := hp
  subst hr_
  have hX : nvS D a0 (xW dA a rn rt trace len stand first allh hAll fault row hOf farOf rowsN rowsT mcW edW words mcR edR rdgs sh (((ra_, aI dA m_ (cfN cl_ p_ m_)) :: ow) ++ ex)) s.heap H locs := hX
  refine W.cs (cells' := 0) (slots' := 0) (Nat.add_zero _) (Nat.add_zero _) ?_
  refine nv_as (show nB (asU (cfN cl_ p_ m_) m_) = nB (alB cl_ p_ m_) from (congrArg nB alB_u)) ?_
  refine nv_if_neB (tgt := 10) zx zb dX0_readBy_4 (by decide) (fun c4 => ?_) (fun c4 => ?_)
  · refine lv_aload_n zx zb dX0_readBy_10 rfl (lv_at hl 0 rfl) ?_
    refine nv_get zC hX in_X0 0 rfl rfl 12 (by decide) q143 (fun _ h => h) rfl dX0_readBy_11 ?_
    refine nv_kFi zC hX (nv_rF (q := (RJ2, TJ2, 3)) (x := ⟨"java/util/List", "size", "()I"⟩) (y := yJ2_size) (n := 0) (As := []) (rest := []) (q0 := 7) zC hX (mj_size (zh := a 5) (mc := mcR) (ed := edR) (n := rdgs) (hm := (List.mem_of_getElem? (i := 7) rfl))) nvGb0 (fun _ _ _ => trivial) (nvE_f0 zG) rfl rfl q188 q194 q192 q62 q196 (by decide +kernel) rfl ⟨Nat.le_of_ble_eq_true rfl, Nat.le_of_ble_eq_true rfl⟩ hl.1 (Nat.le_of_ble_eq_true rfl) dX0_readBy_14 ⟨by first | exact Nat.le_of_ble_eq_true rfl | omega, by first | exact Nat.le_of_ble_eq_true rfl | omega⟩) (fun r u H locs hp hX => ?_)
    have hr_ : r = nI rdgs := hp
    subst hr_
    have hX : nvS D a0 (xW dA a rn rt trace len stand first allh hAll fault row hOf farOf rowsN rowsT mcW edW words mcR edR rdgs sh (((ra_, aI dA m_ (cfN cl_ p_ m_)) :: ow) ++ ex)) s.heap H locs := hX
    refine W.cs (cells' := 0) (slots' := 0) (Nat.add_zero _) (Nat.add_zero _) ?_
    refine lv_bipush (v := nI 8) zx zb dX0_readBy_19 (by decide) ?_
    refine nv_icmp_ne (tgt := 27) zx zb (by omega) (by decide) dX0_readBy_21 (by decide) (fun c21 => ?_) (fun c21 => ?_)
    · refine lv_aload_n zx zb dX0_readBy_27 rfl (lv_at hl 0 rfl) ?_
      refine nv_get zC hX in_X0 0 rfl rfl 12 (by decide) q143 (fun _ h => h) rfl dX0_readBy_28 ?_
      refine nv_new zC (l1 := []) (l2 := xW dA a rn rt trace len stand first allh hAll fault row hOf farOf rowsN rowsT mcW edW words mcR edR rdgs sh (((ra_, aI dA m_ (cfN cl_ p_ m_)) :: ow) ++ ex)) hX in_X8 tyX8 tyX8_ok q496 q960 q87 (ci := 5) rfl (fs := [.int 0, .null, .int 0]) (fun j hj => by rcases (show j = 0 ∨ j = 1 ∨ j = 2 by omega) with rfl | rfl | rfl <;> rfl) (by first | exact Nat.le_of_ble_eq_true rfl | omega) (by first | exact Nat.le_of_ble_eq_true rfl | omega) dX0_readBy_31 (fun n_3 H hX => ?_)
      have hX : nvS D a0 ((n_3, .inr (5, [.int 0, .null, .int 0])) :: xW dA a rn rt trace len stand first allh hAll fault row hOf farOf rowsN rowsT mcW edW words mcR edR rdgs sh (((ra_, aI dA m_ (cfN cl_ p_ m_)) :: ow) ++ ex)) s.heap H locs := hX
      refine lv_dup zx zb dX0_readBy_34 rfl ?_
      refine lv_iload_n zx zb dX0_readBy_35 rfl (lv_at hl 1 rfl) ?_
      refine lv_aload_n zx zb dX0_readBy_36 rfl (lv_at hl 2 rfl) ?_
      refine lv_iload_n zx zb dX0_readBy_37 rfl (lv_at hl 3 rfl) ?_
      refine lv_iconst (v := nI 1) zx zb dX0_readBy_38 (by decide) ?_
      refine nv_icmp_ne (tgt := 46) zx zb (by omega) (by decide) dX0_readBy_39 (by decide) (fun c39 => ?_) (fun c39 => ?_)
      · refine lv_iconst (v := nI 0) zx zb dX0_readBy_46 (by decide) ?_
        refine nv_kv zC hX (nv_rI (n := 3) (As := [.int (nI w), .ref ra_, .int (nB false)]) (rest := [.ref n_3, .ref (a 5)]) zC hX (mp_X8_init (w := nI w) (ra_ := ra_) (sb := false)) nvGb0 (fun _ _ _ => trivial) q961 q962 q87 q963 rfl (by decide +kernel) rfl ⟨Nat.le_of_ble_eq_true rfl, Nat.le_of_ble_eq_true rfl⟩ hl.1 (Nat.le_of_ble_eq_true rfl) dX0_readBy_47 ⟨by first | exact Nat.le_of_ble_eq_true rfl | omega, by first | exact Nat.le_of_ble_eq_true rfl | omega⟩) (fun u H locs hp hX => ?_)
        have hX : nvS D a0 ((n_3, .inr (5, [.int (nI w), .ref ra_, .int (nB false)])) :: xW dA a rn rt trace len stand first allh hAll fault row hOf farOf rowsN rowsT mcW edW words mcR edR rdgs sh (((ra_, aI dA m_ (cfN cl_ p_ m_)) :: ow) ++ ex)) s.heap H locs := hX
        refine W.cs (cells' := 0 + 1) (slots' := 0 + 3) (Nat.add_zero _) (Nat.add_zero _) ?_
        have hX : nvS D a0 (xW dA a rn rt trace len stand first allh hAll fault row hOf farOf rowsN rowsT mcW edW words mcR edR rdgs sh (((n_3, .inr (5, [.int (nI w), .ref ra_, .int (nB (decide (st = 1)))])) :: (ra_, aI dA m_ (cfN cl_ p_ m_)) :: ow) ++ ex)) s.heap H locs := by rw [decide_eq_false c39]; exact hX.perm (xW_pm _ _)
        obtain ⟨ow1, e_ow1⟩ : ∃ zw_, zw_ = (n_3, .inr (5, [.int (nI w), .ref ra_, .int (nB (decide (st = 1)))])) :: (ra_, aI dA m_ (cfN cl_ p_ m_)) :: ow := ⟨_, rfl⟩
        rw [← e_ow1] at hX
        have hs_ow1 : ∀ z, z ∈ ow → z ∈ ow1 := by rw [e_ow1]; exact fun z hz => List.mem_cons_of_mem _ (List.mem_cons_of_mem _ hz)
        have m1 : (n_3, .inr (5, [.int (nI w), .ref ra_, .int (nB (decide (st = 1)))])) ∈ ow1 := by rw [e_ow1]; exact List.mem_cons_self
        have m2 : (ra_, aI dA m_ (cfN cl_ p_ m_)) ∈ ow1 := by rw [e_ow1]; exact List.mem_cons_of_mem _ List.mem_cons_self
        have hK1 := (tlK_rec (c := 20 + rdgs) hT.wk hfr (fun z => hT.1.wk.e z) (fun z => hT.2.1.wk.e z)).mono hs_ow1
        have hu_ := hX.un
        rcases hT.2.1.1 with ⟨hr0, hre⟩ | hre
        · refine nv_kFi zC hX (nv_rF (q := (RJ2, TJ2, 3)) (x := ⟨"java/util/List", "add", "(Ljava/lang/Object;)Z"⟩) (y := yJ2_add) (n := 1) (As := [.ref n_3]) (rest := []) (q0 := 7) zC hX (mj_addB (q0 := 7) (mc := mcR) (zh := a 5) (ci := 5) (vs := [.int (nI w), .ref ra_, .int (nB (decide (st = 1)))]) (cq := (RX8, TX8, 3)) (v := n_3) (h0 := (by show some (a 5, (.inr (12, [.int mcR, .ref edR, .int (nI rdgs)]) : va_E)) = _; rw [hre, hr0])) (hv := (xw_own _ m1)) (hvz := (hu_.ne (xw_own _ m1) (List.mem_of_getElem? (i := 7) rfl) (kc_ne (by decide)))) (hc := rfl) (hcs := (List.mem_of_getElem? (i := 3) rfl))) (nvE_b a0 ez) (nvE_keep zG hX) (nvE_f5 zG) rfl rfl q853 q858 q856 q62 q860 (by decide +kernel) rfl ⟨Nat.le_of_ble_eq_true rfl, Nat.le_of_ble_eq_true rfl⟩ hl.1 (Nat.le_of_ble_eq_true rfl) dX0_readBy_50 ⟨by first | exact Nat.le_of_ble_eq_true rfl | omega, by first | exact Nat.le_of_ble_eq_true rfl | omega⟩) (fun r u H locs hp hX => ?_)
          obtain ⟨ra_5, rfl⟩ : ∃ z, z = u := ⟨_, rfl⟩
          have hr_ : r = nB true := hp
          subst hr_
          have hX : nvS D a0 ((ra_5, aO dA 10 (va_up (fun _ => none) 0 (some n_3))) :: lW 7 (a 5) (mcR + nI 1) ra_5 1 (xW dA a rn rt trace len stand first allh hAll fault row hOf farOf rowsN rowsT mcW edW words mcR edR rdgs sh (ow1 ++ ex))) s.heap H locs := hX
          have hX : nvS D a0 (xW dA a rn rt trace len stand first allh hAll fault row hOf farOf rowsN rowsT mcW edW words (mcR + nI 1) ra_5 (rdgs + 1) sh (((ra_5, aO dA 10 (va_up (fun _ => none) 0 (some n_3))) :: ow1) ++ ex)) s.heap H locs := by rw [hr0]; exact hX.perm (xW_pm _ _)
          have hfr2 := nvS.fr (pre := xW dA a rn rt trace len stand first allh hAll fault row hOf farOf rowsN rowsT mcW edW words (mcR + nI 1) ra_5 (rdgs + 1) sh ([])) (ow := ow1) (ex := ex) (q := ra_5) (c := aO dA 10 (va_up (fun _ => none) 0 (some n_3))) hX
          have hsx : ∀ z, z ∈ ow1 → z ∈ (ra_5, aO dA 10 (va_up (fun _ => none) 0 (some n_3))) :: ow1 := fun z hz => List.mem_cons_of_mem _ hz
          have hK2 := (tlK_rec (c := 2) hK1 hfr2 (fun z => hK1.1.e z) (fun z => hK1.2.1.e z)).mono hsx
          have hK3 := hK2.newR hr0 (List.mem_cons_self (a := (ra_5, aO dA 10 (va_up (fun _ => none) 0 (some n_3))))) (va_up_self _ _ _)
          have hK_ := hK3.addR (w := w) (st := st) (row := rwC cl_ p_ m_) (by rw [hr0]; exact va_up_self _ _ _) (hsx _ m1) (hsx _ m2) hm hdo.2.2.1 (rd_g c4) (by rw [va_up_ne _ _ (hfr2 _ m2)]; exact va_up_self _ _ _) List.mem_cons_self
          obtain ⟨ow2, hX, hTow2, hNow2⟩ := hK_.nor hw4 (by omega) (pre := xW dA a rn rt trace len stand first allh hAll fault row hOf farOf rowsN rowsT mcW edW words (mcR + nI 1) ra_5 (rdgs + 1) sh ([])) (ex := ex) hX
          have hX : nvS D a0 (xW dA a rn rt trace len stand first allh hAll fault row hOf farOf rowsN rowsT mcW edW words (mcR + nI 1) ra_5 (rdgs + 1) sh (ow2 ++ ex)) s.heap H locs := hX
          refine lv_pop zx zb dX0_readBy_55 rfl ?_
          refine lv_aload_n zx zb dX0_readBy_56 rfl (lv_at hl 0 rfl) ?_
          refine nv_get zC hX in_X0 0 rfl rfl 12 (by decide) q143 (fun _ h => h) rfl dX0_readBy_57 ?_
          refine nv_kFi zC hX (nv_rF (q := (RJ2, TJ2, 3)) (x := ⟨"java/util/List", "size", "()I"⟩) (y := yJ2_size) (n := 0) (As := []) (rest := []) (q0 := 7) zC hX (mj_size (zh := a 5) (mc := mcR + nI 1) (ed := ra_5) (n := rdgs + 1) (hm := (List.mem_of_getElem? (i := 7) rfl))) nvGb0 (fun _ _ _ => trivial) (nvE_f0 zG) rfl rfl q188 q194 q192 q62 q196 (by decide +kernel) rfl ⟨Nat.le_of_ble_eq_true rfl, Nat.le_of_ble_eq_true rfl⟩ hl.1 (Nat.le_of_ble_eq_true rfl) dX0_readBy_60 ⟨by first | exact Nat.le_of_ble_eq_true rfl | omega, by first | exact Nat.le_of_ble_eq_true rfl | omega⟩) (fun r u H locs hp hX => ?_)
          have hr_ : r = nI (rdgs + 1) := hp
          subst hr_
          have hX : nvS D a0 (xW dA a rn rt trace len stand first allh hAll fault row hOf farOf rowsN rowsT mcW edW words (mcR + nI 1) ra_5 (rdgs + 1) sh (ow2 ++ ex)) s.heap H locs := hX
          refine W.cs (cells' := 0 + 1 + 1) (slots' := 0 + 3 + 10) (Nat.add_zero _) (Nat.add_zero _) ?_
          refine lv_iconst (v := nI 1) zx zb dX0_readBy_65 (by decide) ?_
          refine nv_isub zx zb (by omega) dX0_readBy_66 ?_
          have hX : nvS D a0 (xW dA a rn rt trace len stand first allh hAll fault row hOf farOf rowsN rowsT mcW edW words (mcR + nI 1) ra_5 (if (alB cl_ p_ m_ && decide (rdgs ≠ 8)) then rdgs + 1 else rdgs) sh (ow2 ++ ex)) s.heap H locs := by rw [if_pos (show (alB cl_ p_ m_ && decide (rdgs ≠ 8)) = true by rw [c4, decide_eq_true (show rdgs ≠ 8 by omega)]; rfl)]; exact hX
          have hb_ : (alB cl_ p_ m_ && decide (rdgs ≠ 8)) = true := by rw [c4, decide_eq_true (show rdgs ≠ 8 by omega)]; rfl
          rw [← zQ]
          exact nv_endi zC zr zk (ow2, ra_5, mcR + nI 1, _, _, _, _) hX (⟨by rw [c4, if_pos rfl, if_neg (show ¬ rdgs = 8 by omega)]; rfl, by rw [if_pos hb_, if_pos hb_, if_pos hb_, if_pos hb_, if_pos hb_]; exact hTow2⟩) (by omega) (by omega) dX0_readBy_67
        · obtain ⟨k_, hk_⟩ := List.getElem?_of_mem (hs_ow1 _ hre)
          have hne_ : edR ≠ ez := nv_nez zG hX (xw_own _ (hs_ow1 _ hre))
          refine nv_kFi zC hX (nv_rF (q := (RJ2, TJ2, 3)) (x := ⟨"java/util/List", "add", "(Ljava/lang/Object;)Z"⟩) (y := yJ2_add) (n := 1) (As := [.ref n_3]) (rest := []) (q0 := 7) zC hX (mj_addA (q0 := 7) (q1 := (k_ + 9)) (cp := 10) (f := fR) (mc := mcR) (zh := a 5) (ed := edR) (n := rdgs) (ci := 5) (vs := [.int (nI w), .ref ra_, .int (nB (decide (st = 1)))]) (cq := (RX8, TX8, 3)) (v := n_3) (h0 := rfl) (h1 := (xW_9 hk_)) (hv := (xw_own _ m1)) (hvz := (hu_.ne (xw_own _ m1) (List.mem_of_getElem? (i := 7) rfl) (kc_ne (by decide)))) (hve := (hu_.ne (xw_own _ m1) (xw_own _ (hs_ow1 _ hre)) ni_ne)) (hc := rfl) (hcs := (List.mem_of_getElem? (i := 3) rfl)) (hn := (by omega)) (hcp := (by decide))) (nvE_b a0 ez) (nvE_keep zG hX) (nvE_f5 zG) rfl rfl q853 q858 q856 q62 q860 (by decide +kernel) rfl ⟨Nat.le_of_ble_eq_true rfl, Nat.le_of_ble_eq_true rfl⟩ hl.1 (Nat.le_of_ble_eq_true rfl) dX0_readBy_50 ⟨by first | exact Nat.le_of_ble_eq_true rfl | omega, by first | exact Nat.le_of_ble_eq_true rfl | omega⟩) (fun r u H locs hp hX => ?_)
          have hr_ : r = nB true := hp
          subst hr_
          have hX : nvS D a0 (jW dA 7 (k_ + 9) (a 5) (mcR + nI 1) edR (rdgs + 1) 10 (va_up fR rdgs (some n_3)) (xW dA a rn rt trace len stand first allh hAll fault row hOf farOf rowsN rowsT mcW edW words mcR edR rdgs sh (ow1 ++ ex))) s.heap H locs := hX
          refine W.cs (cells' := 0 + 1) (slots' := 0 + 3) (Nat.add_zero _) (Nat.add_zero _) ?_
          have hX : nvS D a0 (xW dA a rn rt trace len stand first allh hAll fault row hOf farOf rowsN rowsT mcW edW words (mcR + nI 1) edR (rdgs + 1) sh (ow1.set k_ (edR, aO dA 10 (va_up fR rdgs (some n_3))) ++ ex)) s.heap H locs := hX.as (jW_xW7 hk_)
          have hK2 := hK1.putR (hu_.sub xw_own) (v := n_3) hne_ hk_
          have kp_ : kpW edR ow1 (ow1.set k_ (edR, aO dA 10 (va_up fR rdgs (some n_3)))) := set_kp hk_
          have hK_ := hK2.addR (w := w) (st := st) (va_up_self _ _ _) (kp_ _ m1 (hu_.ne (xw_own _ m1) (xw_own _ (hs_ow1 _ hre)) ni_ne)) (kp_ _ m2 (hu_.ne (xw_own _ m2) (xw_own _ (hs_ow1 _ hre)) io_ne)) hm hdo.2.2.1 (rd_g c4) (va_up_self _ _ _) (set_in hk_ _)
          obtain ⟨ow2, hX, hTow2, hNow2⟩ := hK_.nor hw4 (by omega) (pre := xW dA a rn rt trace len stand first allh hAll fault row hOf farOf rowsN rowsT mcW edW words (mcR + nI 1) edR (rdgs + 1) sh ([])) (ex := ex) hX
          have hX : nvS D a0 (xW dA a rn rt trace len stand first allh hAll fault row hOf farOf rowsN rowsT mcW edW words (mcR + nI 1) edR (rdgs + 1) sh (ow2 ++ ex)) s.heap H locs := hX
          refine lv_pop zx zb dX0_readBy_55 rfl ?_
          refine lv_aload_n zx zb dX0_readBy_56 rfl (lv_at hl 0 rfl) ?_
          refine nv_get zC hX in_X0 0 rfl rfl 12 (by decide) q143 (fun _ h => h) rfl dX0_readBy_57 ?_
          refine nv_kFi zC hX (nv_rF (q := (RJ2, TJ2, 3)) (x := ⟨"java/util/List", "size", "()I"⟩) (y := yJ2_size) (n := 0) (As := []) (rest := []) (q0 := 7) zC hX (mj_size (zh := a 5) (mc := mcR + nI 1) (ed := edR) (n := rdgs + 1) (hm := (List.mem_of_getElem? (i := 7) rfl))) nvGb0 (fun _ _ _ => trivial) (nvE_f0 zG) rfl rfl q188 q194 q192 q62 q196 (by decide +kernel) rfl ⟨Nat.le_of_ble_eq_true rfl, Nat.le_of_ble_eq_true rfl⟩ hl.1 (Nat.le_of_ble_eq_true rfl) dX0_readBy_60 ⟨by first | exact Nat.le_of_ble_eq_true rfl | omega, by first | exact Nat.le_of_ble_eq_true rfl | omega⟩) (fun r u H locs hp hX => ?_)
          have hr_ : r = nI (rdgs + 1) := hp
          subst hr_
          have hX : nvS D a0 (xW dA a rn rt trace len stand first allh hAll fault row hOf farOf rowsN rowsT mcW edW words (mcR + nI 1) edR (rdgs + 1) sh (ow2 ++ ex)) s.heap H locs := hX
          refine W.cs (cells' := 0 + 1) (slots' := 0 + 3) (Nat.add_zero _) (Nat.add_zero _) ?_
          refine lv_iconst (v := nI 1) zx zb dX0_readBy_65 (by decide) ?_
          refine nv_isub zx zb (by omega) dX0_readBy_66 ?_
          have hX : nvS D a0 (xW dA a rn rt trace len stand first allh hAll fault row hOf farOf rowsN rowsT mcW edW words (mcR + nI 1) edR (if (alB cl_ p_ m_ && decide (rdgs ≠ 8)) then rdgs + 1 else rdgs) sh (ow2 ++ ex)) s.heap H locs := by rw [if_pos (show (alB cl_ p_ m_ && decide (rdgs ≠ 8)) = true by rw [c4, decide_eq_true (show rdgs ≠ 8 by omega)]; rfl)]; exact hX
          have hb_ : (alB cl_ p_ m_ && decide (rdgs ≠ 8)) = true := by rw [c4, decide_eq_true (show rdgs ≠ 8 by omega)]; rfl
          rw [← zQ]
          exact nv_endi zC zr zk (ow2, edR, mcR + nI 1, _, _, _, _) hX (⟨by rw [c4, if_pos rfl, if_neg (show ¬ rdgs = 8 by omega)]; rfl, by rw [if_pos hb_, if_pos hb_, if_pos hb_, if_pos hb_, if_pos hb_]; exact hTow2⟩) (by omega) (by omega) dX0_readBy_67
      · refine lv_iconst (v := nI 1) zx zb dX0_readBy_42 (by decide) ?_
        refine lv_goto (tgt := 47) zx zb dX0_readBy_43 (by decide) ?_
        refine nv_kv zC hX (nv_rI (n := 3) (As := [.int (nI w), .ref ra_, .int (nB true)]) (rest := [.ref n_3, .ref (a 5)]) zC hX (mp_X8_init (w := nI w) (ra_ := ra_) (sb := true)) nvGb0 (fun _ _ _ => trivial) q961 q962 q87 q963 rfl (by decide +kernel) rfl ⟨Nat.le_of_ble_eq_true rfl, Nat.le_of_ble_eq_true rfl⟩ hl.1 (Nat.le_of_ble_eq_true rfl) dX0_readBy_47 ⟨by first | exact Nat.le_of_ble_eq_true rfl | omega, by first | exact Nat.le_of_ble_eq_true rfl | omega⟩) (fun u H locs hp hX => ?_)
        have hX : nvS D a0 ((n_3, .inr (5, [.int (nI w), .ref ra_, .int (nB true)])) :: xW dA a rn rt trace len stand first allh hAll fault row hOf farOf rowsN rowsT mcW edW words mcR edR rdgs sh (((ra_, aI dA m_ (cfN cl_ p_ m_)) :: ow) ++ ex)) s.heap H locs := hX
        refine W.cs (cells' := 0 + 1) (slots' := 0 + 3) (Nat.add_zero _) (Nat.add_zero _) ?_
        have hX : nvS D a0 (xW dA a rn rt trace len stand first allh hAll fault row hOf farOf rowsN rowsT mcW edW words mcR edR rdgs sh (((n_3, .inr (5, [.int (nI w), .ref ra_, .int (nB (decide (st = 1)))])) :: (ra_, aI dA m_ (cfN cl_ p_ m_)) :: ow) ++ ex)) s.heap H locs := by rw [decide_eq_true c39]; exact hX.perm (xW_pm _ _)
        obtain ⟨ow1, e_ow1⟩ : ∃ zw_, zw_ = (n_3, .inr (5, [.int (nI w), .ref ra_, .int (nB (decide (st = 1)))])) :: (ra_, aI dA m_ (cfN cl_ p_ m_)) :: ow := ⟨_, rfl⟩
        rw [← e_ow1] at hX
        have hs_ow1 : ∀ z, z ∈ ow → z ∈ ow1 := by rw [e_ow1]; exact fun z hz => List.mem_cons_of_mem _ (List.mem_cons_of_mem _ hz)
        have m1 : (n_3, .inr (5, [.int (nI w), .ref ra_, .int (nB (decide (st = 1)))])) ∈ ow1 := by rw [e_ow1]; exact List.mem_cons_self
        have m2 : (ra_, aI dA m_ (cfN cl_ p_ m_)) ∈ ow1 := by rw [e_ow1]; exact List.mem_cons_of_mem _ List.mem_cons_self
        have hK1 := (tlK_rec (c := 20 + rdgs) hT.wk hfr (fun z => hT.1.wk.e z) (fun z => hT.2.1.wk.e z)).mono hs_ow1
        have hu_ := hX.un
        rcases hT.2.1.1 with ⟨hr0, hre⟩ | hre
        · refine nv_kFi zC hX (nv_rF (q := (RJ2, TJ2, 3)) (x := ⟨"java/util/List", "add", "(Ljava/lang/Object;)Z"⟩) (y := yJ2_add) (n := 1) (As := [.ref n_3]) (rest := []) (q0 := 7) zC hX (mj_addB (q0 := 7) (mc := mcR) (zh := a 5) (ci := 5) (vs := [.int (nI w), .ref ra_, .int (nB (decide (st = 1)))]) (cq := (RX8, TX8, 3)) (v := n_3) (h0 := (by show some (a 5, (.inr (12, [.int mcR, .ref edR, .int (nI rdgs)]) : va_E)) = _; rw [hre, hr0])) (hv := (xw_own _ m1)) (hvz := (hu_.ne (xw_own _ m1) (List.mem_of_getElem? (i := 7) rfl) (kc_ne (by decide)))) (hc := rfl) (hcs := (List.mem_of_getElem? (i := 3) rfl))) (nvE_b a0 ez) (nvE_keep zG hX) (nvE_f5 zG) rfl rfl q853 q858 q856 q62 q860 (by decide +kernel) rfl ⟨Nat.le_of_ble_eq_true rfl, Nat.le_of_ble_eq_true rfl⟩ hl.1 (Nat.le_of_ble_eq_true rfl) dX0_readBy_50 ⟨by first | exact Nat.le_of_ble_eq_true rfl | omega, by first | exact Nat.le_of_ble_eq_true rfl | omega⟩) (fun r u H locs hp hX => ?_)
          obtain ⟨ra_10, rfl⟩ : ∃ z, z = u := ⟨_, rfl⟩
          have hr_ : r = nB true := hp
          subst hr_
          have hX : nvS D a0 ((ra_10, aO dA 10 (va_up (fun _ => none) 0 (some n_3))) :: lW 7 (a 5) (mcR + nI 1) ra_10 1 (xW dA a rn rt trace len stand first allh hAll fault row hOf farOf rowsN rowsT mcW edW words mcR edR rdgs sh (ow1 ++ ex))) s.heap H locs := hX
          have hX : nvS D a0 (xW dA a rn rt trace len stand first allh hAll fault row hOf farOf rowsN rowsT mcW edW words (mcR + nI 1) ra_10 (rdgs + 1) sh (((ra_10, aO dA 10 (va_up (fun _ => none) 0 (some n_3))) :: ow1) ++ ex)) s.heap H locs := by rw [hr0]; exact hX.perm (xW_pm _ _)
          have hfr2 := nvS.fr (pre := xW dA a rn rt trace len stand first allh hAll fault row hOf farOf rowsN rowsT mcW edW words (mcR + nI 1) ra_10 (rdgs + 1) sh ([])) (ow := ow1) (ex := ex) (q := ra_10) (c := aO dA 10 (va_up (fun _ => none) 0 (some n_3))) hX
          have hsx : ∀ z, z ∈ ow1 → z ∈ (ra_10, aO dA 10 (va_up (fun _ => none) 0 (some n_3))) :: ow1 := fun z hz => List.mem_cons_of_mem _ hz
          have hK2 := (tlK_rec (c := 2) hK1 hfr2 (fun z => hK1.1.e z) (fun z => hK1.2.1.e z)).mono hsx
          have hK3 := hK2.newR hr0 (List.mem_cons_self (a := (ra_10, aO dA 10 (va_up (fun _ => none) 0 (some n_3))))) (va_up_self _ _ _)
          have hK_ := hK3.addR (w := w) (st := st) (row := rwC cl_ p_ m_) (by rw [hr0]; exact va_up_self _ _ _) (hsx _ m1) (hsx _ m2) hm hdo.2.2.1 (rd_g c4) (by rw [va_up_ne _ _ (hfr2 _ m2)]; exact va_up_self _ _ _) List.mem_cons_self
          obtain ⟨ow2, hX, hTow2, hNow2⟩ := hK_.nor hw4 (by omega) (pre := xW dA a rn rt trace len stand first allh hAll fault row hOf farOf rowsN rowsT mcW edW words (mcR + nI 1) ra_10 (rdgs + 1) sh ([])) (ex := ex) hX
          have hX : nvS D a0 (xW dA a rn rt trace len stand first allh hAll fault row hOf farOf rowsN rowsT mcW edW words (mcR + nI 1) ra_10 (rdgs + 1) sh (ow2 ++ ex)) s.heap H locs := hX
          refine lv_pop zx zb dX0_readBy_55 rfl ?_
          refine lv_aload_n zx zb dX0_readBy_56 rfl (lv_at hl 0 rfl) ?_
          refine nv_get zC hX in_X0 0 rfl rfl 12 (by decide) q143 (fun _ h => h) rfl dX0_readBy_57 ?_
          refine nv_kFi zC hX (nv_rF (q := (RJ2, TJ2, 3)) (x := ⟨"java/util/List", "size", "()I"⟩) (y := yJ2_size) (n := 0) (As := []) (rest := []) (q0 := 7) zC hX (mj_size (zh := a 5) (mc := mcR + nI 1) (ed := ra_10) (n := rdgs + 1) (hm := (List.mem_of_getElem? (i := 7) rfl))) nvGb0 (fun _ _ _ => trivial) (nvE_f0 zG) rfl rfl q188 q194 q192 q62 q196 (by decide +kernel) rfl ⟨Nat.le_of_ble_eq_true rfl, Nat.le_of_ble_eq_true rfl⟩ hl.1 (Nat.le_of_ble_eq_true rfl) dX0_readBy_60 ⟨by first | exact Nat.le_of_ble_eq_true rfl | omega, by first | exact Nat.le_of_ble_eq_true rfl | omega⟩) (fun r u H locs hp hX => ?_)
          have hr_ : r = nI (rdgs + 1) := hp
          subst hr_
          have hX : nvS D a0 (xW dA a rn rt trace len stand first allh hAll fault row hOf farOf rowsN rowsT mcW edW words (mcR + nI 1) ra_10 (rdgs + 1) sh (ow2 ++ ex)) s.heap H locs := hX
          refine W.cs (cells' := 0 + 1 + 1) (slots' := 0 + 3 + 10) (Nat.add_zero _) (Nat.add_zero _) ?_
          refine lv_iconst (v := nI 1) zx zb dX0_readBy_65 (by decide) ?_
          refine nv_isub zx zb (by omega) dX0_readBy_66 ?_
          have hX : nvS D a0 (xW dA a rn rt trace len stand first allh hAll fault row hOf farOf rowsN rowsT mcW edW words (mcR + nI 1) ra_10 (if (alB cl_ p_ m_ && decide (rdgs ≠ 8)) then rdgs + 1 else rdgs) sh (ow2 ++ ex)) s.heap H locs := by rw [if_pos (show (alB cl_ p_ m_ && decide (rdgs ≠ 8)) = true by rw [c4, decide_eq_true (show rdgs ≠ 8 by omega)]; rfl)]; exact hX
          have hb_ : (alB cl_ p_ m_ && decide (rdgs ≠ 8)) = true := by rw [c4, decide_eq_true (show rdgs ≠ 8 by omega)]; rfl
          rw [← zQ]
          exact nv_endi zC zr zk (ow2, ra_10, mcR + nI 1, _, _, _, _) hX (⟨by rw [c4, if_pos rfl, if_neg (show ¬ rdgs = 8 by omega)]; rfl, by rw [if_pos hb_, if_pos hb_, if_pos hb_, if_pos hb_, if_pos hb_]; exact hTow2⟩) (by omega) (by omega) dX0_readBy_67
        · obtain ⟨k_, hk_⟩ := List.getElem?_of_mem (hs_ow1 _ hre)
          have hne_ : edR ≠ ez := nv_nez zG hX (xw_own _ (hs_ow1 _ hre))
          refine nv_kFi zC hX (nv_rF (q := (RJ2, TJ2, 3)) (x := ⟨"java/util/List", "add", "(Ljava/lang/Object;)Z"⟩) (y := yJ2_add) (n := 1) (As := [.ref n_3]) (rest := []) (q0 := 7) zC hX (mj_addA (q0 := 7) (q1 := (k_ + 9)) (cp := 10) (f := fR) (mc := mcR) (zh := a 5) (ed := edR) (n := rdgs) (ci := 5) (vs := [.int (nI w), .ref ra_, .int (nB (decide (st = 1)))]) (cq := (RX8, TX8, 3)) (v := n_3) (h0 := rfl) (h1 := (xW_9 hk_)) (hv := (xw_own _ m1)) (hvz := (hu_.ne (xw_own _ m1) (List.mem_of_getElem? (i := 7) rfl) (kc_ne (by decide)))) (hve := (hu_.ne (xw_own _ m1) (xw_own _ (hs_ow1 _ hre)) ni_ne)) (hc := rfl) (hcs := (List.mem_of_getElem? (i := 3) rfl)) (hn := (by omega)) (hcp := (by decide))) (nvE_b a0 ez) (nvE_keep zG hX) (nvE_f5 zG) rfl rfl q853 q858 q856 q62 q860 (by decide +kernel) rfl ⟨Nat.le_of_ble_eq_true rfl, Nat.le_of_ble_eq_true rfl⟩ hl.1 (Nat.le_of_ble_eq_true rfl) dX0_readBy_50 ⟨by first | exact Nat.le_of_ble_eq_true rfl | omega, by first | exact Nat.le_of_ble_eq_true rfl | omega⟩) (fun r u H locs hp hX => ?_)
          have hr_ : r = nB true := hp
          subst hr_
          have hX : nvS D a0 (jW dA 7 (k_ + 9) (a 5) (mcR + nI 1) edR (rdgs + 1) 10 (va_up fR rdgs (some n_3)) (xW dA a rn rt trace len stand first allh hAll fault row hOf farOf rowsN rowsT mcW edW words mcR edR rdgs sh (ow1 ++ ex))) s.heap H locs := hX
          refine W.cs (cells' := 0 + 1) (slots' := 0 + 3) (Nat.add_zero _) (Nat.add_zero _) ?_
          have hX : nvS D a0 (xW dA a rn rt trace len stand first allh hAll fault row hOf farOf rowsN rowsT mcW edW words (mcR + nI 1) edR (rdgs + 1) sh (ow1.set k_ (edR, aO dA 10 (va_up fR rdgs (some n_3))) ++ ex)) s.heap H locs := hX.as (jW_xW7 hk_)
          have hK2 := hK1.putR (hu_.sub xw_own) (v := n_3) hne_ hk_
          have kp_ : kpW edR ow1 (ow1.set k_ (edR, aO dA 10 (va_up fR rdgs (some n_3)))) := set_kp hk_
          have hK_ := hK2.addR (w := w) (st := st) (va_up_self _ _ _) (kp_ _ m1 (hu_.ne (xw_own _ m1) (xw_own _ (hs_ow1 _ hre)) ni_ne)) (kp_ _ m2 (hu_.ne (xw_own _ m2) (xw_own _ (hs_ow1 _ hre)) io_ne)) hm hdo.2.2.1 (rd_g c4) (va_up_self _ _ _) (set_in hk_ _)
          obtain ⟨ow2, hX, hTow2, hNow2⟩ := hK_.nor hw4 (by omega) (pre := xW dA a rn rt trace len stand first allh hAll fault row hOf farOf rowsN rowsT mcW edW words (mcR + nI 1) edR (rdgs + 1) sh ([])) (ex := ex) hX
          have hX : nvS D a0 (xW dA a rn rt trace len stand first allh hAll fault row hOf farOf rowsN rowsT mcW edW words (mcR + nI 1) edR (rdgs + 1) sh (ow2 ++ ex)) s.heap H locs := hX
          refine lv_pop zx zb dX0_readBy_55 rfl ?_
          refine lv_aload_n zx zb dX0_readBy_56 rfl (lv_at hl 0 rfl) ?_
          refine nv_get zC hX in_X0 0 rfl rfl 12 (by decide) q143 (fun _ h => h) rfl dX0_readBy_57 ?_
          refine nv_kFi zC hX (nv_rF (q := (RJ2, TJ2, 3)) (x := ⟨"java/util/List", "size", "()I"⟩) (y := yJ2_size) (n := 0) (As := []) (rest := []) (q0 := 7) zC hX (mj_size (zh := a 5) (mc := mcR + nI 1) (ed := edR) (n := rdgs + 1) (hm := (List.mem_of_getElem? (i := 7) rfl))) nvGb0 (fun _ _ _ => trivial) (nvE_f0 zG) rfl rfl q188 q194 q192 q62 q196 (by decide +kernel) rfl ⟨Nat.le_of_ble_eq_true rfl, Nat.le_of_ble_eq_true rfl⟩ hl.1 (Nat.le_of_ble_eq_true rfl) dX0_readBy_60 ⟨by first | exact Nat.le_of_ble_eq_true rfl | omega, by first | exact Nat.le_of_ble_eq_true rfl | omega⟩) (fun r u H locs hp hX => ?_)
          have hr_ : r = nI (rdgs + 1) := hp
          subst hr_
          have hX : nvS D a0 (xW dA a rn rt trace len stand first allh hAll fault row hOf farOf rowsN rowsT mcW edW words (mcR + nI 1) edR (rdgs + 1) sh (ow2 ++ ex)) s.heap H locs := hX
          refine W.cs (cells' := 0 + 1) (slots' := 0 + 3) (Nat.add_zero _) (Nat.add_zero _) ?_
          refine lv_iconst (v := nI 1) zx zb dX0_readBy_65 (by decide) ?_
          refine nv_isub zx zb (by omega) dX0_readBy_66 ?_
          have hX : nvS D a0 (xW dA a rn rt trace len stand first allh hAll fault row hOf farOf rowsN rowsT mcW edW words (mcR + nI 1) edR (if (alB cl_ p_ m_ && decide (rdgs ≠ 8)) then rdgs + 1 else rdgs) sh (ow2 ++ ex)) s.heap H locs := by rw [if_pos (show (alB cl_ p_ m_ && decide (rdgs ≠ 8)) = true by rw [c4, decide_eq_true (show rdgs ≠ 8 by omega)]; rfl)]; exact hX
          have hb_ : (alB cl_ p_ m_ && decide (rdgs ≠ 8)) = true := by rw [c4, decide_eq_true (show rdgs ≠ 8 by omega)]; rfl
          rw [← zQ]
          exact nv_endi zC zr zk (ow2, edR, mcR + nI 1, _, _, _, _) hX (⟨by rw [c4, if_pos rfl, if_neg (show ¬ rdgs = 8 by omega)]; rfl, by rw [if_pos hb_, if_pos hb_, if_pos hb_, if_pos hb_, if_pos hb_]; exact hTow2⟩) (by omega) (by omega) dX0_readBy_67
    · refine lv_bipush (v := (-4)) zx zb dX0_readBy_24 (by decide) ?_
      have hX : nvS D a0 (xW dA a rn rt trace len stand first allh hAll fault row hOf farOf rowsN rowsT mcW edW words mcR edR (if (alB cl_ p_ m_ && decide (rdgs ≠ 8)) then rdgs + 1 else rdgs) sh (((ra_, aI dA m_ (cfN cl_ p_ m_)) :: ow) ++ ex)) s.heap H locs := by rw [if_neg (by rw [decide_eq_false (show ¬ rdgs ≠ 8 by omega), Bool.and_false]; simp)]; exact hX.as (show _ = xW dA a rn rt trace len stand first allh hAll fault row hOf farOf rowsN rowsT mcW edW words mcR edR rdgs sh (((ra_, aI dA m_ (cfN cl_ p_ m_)) :: ow) ++ ex) from rfl)
      rw [← zQ]
      exact nv_endi zC zr zk ((ra_, aI dA m_ (cfN cl_ p_ m_)) :: ow, edR, mcR, fR, pr, lr, col) hX (⟨by rw [c4, if_pos rfl, if_pos (show rdgs = 8 by omega)], by rw [if_neg (by rw [decide_eq_false (show ¬ rdgs ≠ 8 by omega), Bool.and_false]; simp), if_neg (by rw [decide_eq_false (show ¬ rdgs ≠ 8 by omega), Bool.and_false]; simp), if_neg (by rw [decide_eq_false (show ¬ rdgs ≠ 8 by omega), Bool.and_false]; simp), if_neg (by rw [decide_eq_false (show ¬ rdgs ≠ 8 by omega), Bool.and_false]; simp), if_neg (by rw [decide_eq_false (show ¬ rdgs ≠ 8 by omega), Bool.and_false]; simp)]; exact hT.mono (fun z hz => List.mem_cons_of_mem _ hz)⟩) (by omega) (by omega) dX0_readBy_26
  · refine lv_bipush (v := (-2)) zx zb dX0_readBy_7 (by decide) ?_
    have hX : nvS D a0 (xW dA a rn rt trace len stand first allh hAll fault row hOf farOf rowsN rowsT mcW edW words mcR edR (if (alB cl_ p_ m_ && decide (rdgs ≠ 8)) then rdgs + 1 else rdgs) sh (((ra_, aI dA m_ (cfN cl_ p_ m_)) :: ow) ++ ex)) s.heap H locs := by rw [if_neg (by rw [c4]; simp)]; exact hX.as (show _ = xW dA a rn rt trace len stand first allh hAll fault row hOf farOf rowsN rowsT mcW edW words mcR edR rdgs sh (((ra_, aI dA m_ (cfN cl_ p_ m_)) :: ow) ++ ex) from rfl)
    rw [← zQ]
    exact nv_endi zC zr zk ((ra_, aI dA m_ (cfN cl_ p_ m_)) :: ow, edR, mcR, fR, pr, lr, col) hX (⟨by rw [c4]; rfl, by rw [if_neg (by rw [c4]; simp), if_neg (by rw [c4]; simp), if_neg (by rw [c4]; simp), if_neg (by rw [c4]; simp), if_neg (by rw [c4]; simp)]; exact hT.mono (fun z hz => List.mem_cons_of_mem _ hz)⟩) (by omega) (by omega) dX0_readBy_9
end CL_66_e3
