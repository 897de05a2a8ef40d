/-! printed by klass.py -/
set_option maxRecDepth 100000
section CL_44_c7
variable {l : Launch} {D : va_G} {dA : Nat → ClassId} {a0 ez : Nat} {ex : va_W} {a : Nat → Nat} {rn : Nat} {rt : Nat} {trace : Int32} {len : Nat} {stand : Nat} {first : Option Nat} {allh : Option Nat} {hAll : Nat} {fault : Int32} {row : Nat → Nat} {hOf : Nat → Nat} {farOf : Nat → Option Nat} {rowsN : Nat → Nat} {rowsT : Nat → Nat} {mcW : Int32} {edW : Nat} {words : Nat} {mcR : Int32} {edR : Nat} {rdgs : Nat} {sh : Nat → Option Nat} {kind longOf letters : Nat → Nat} {fW : Nat → Option Nat} {pa la : Nat → Nat} {rWord rMany rStands rRow : Nat → Nat} {fR : Nat → Option Nat} {pr lr : Nat → Nat}
set_option maxHeartbeats 4000000 in
theorem mx_rowBy  (cl_ : Nat → Int32) (p_ : Nat) (m_ : Nat) (ra_ : Nat) (what : Int32) (hW : wdIn dA (a 0) words kind longOf letters edW ez fW pa la ex) (hok : wOK words kind longOf letters) (hr : (ra_, aI dA m_ (cfN cl_ p_ m_)) ∈ ex) (hm : m_ ≤ 60) (hwh : (inN what 0 3 || inN what 10 13) = true) : nMt l D dA a0 yX0_rowBy cX0_rowBy 3 (some .int) 7 154 0 0 (nvE a0 ez) [.ref (a 0), .ref ra_, .int what] (xW dA a rn rt trace len stand first allh hAll fault row hOf farOf rowsN rowsT mcW edW words mcR edR rdgs sh ex) (nQi D a0 (fun (r : Int32) (u : Nat × Option Nat × Option Nat × Nat × (Nat → Nat)) => r = F_rowBy words kind longOf letters cl_ p_ m_ what) (fun (u : Nat × Option Nat × Option Nat × Nat × (Nat → Nat)) => xW dA a rn rt trace len u.1 u.2.1 u.2.2.1 u.2.2.2.1 fault row u.2.2.2.2 farOf rowsN rowsT mcW edW words mcR edR rdgs sh ex)) := by
  refine nv_start (by decide) (Nat.le_of_ble_eq_true rfl) fun zp ze s zm zlo zme zcd ls zC zr zk znm hX zG hl => ?_
  have zx := zC.1
  have zb := zC.2.1
  generalize zargs : ([.ref (a 0), .ref ra_, .int what] : List Value).toArray = zar at zC ⊢
  generalize zQ : MQ zlo _ zar s _ _ _ = Q
  have hX : nvS D a0 (xW dA a rn rt trace len stand first allh hAll fault row hOf farOf rowsN rowsT mcW edW words mcR edR rdgs sh ex) s.heap s.heap [] := hX
  have hl : lv_has ls 3 [(0, .ref (a 0)), (1, .ref ra_), (2, .int what)] := hl
  obtain ⟨H, zH⟩ : ∃ H, H = s.heap := ⟨_, rfl⟩
  have hX : nvS D a0 (xW dA a rn rt trace len stand first allh hAll fault row hOf farOf rowsN rowsT mcW edW words mcR edR rdgs sh ex) s.heap H [] := by rw [zH]; exact hX
  rw [show W zp l ze (rm_ 7 154 0 0) s zm zar zlo zme zcd s.heap [] 0 0 Q = W zp l ze (rm_ 7 154 0 0) s zm zar zlo zme zcd H [] 0 0 Q by rw [zH]]
  generalize ([] : List Loc) = locs at hX ⊢
  have hw4 := hok.1
  refine lv_aload_n zx zb dX0_rowBy_0 rfl (lv_at hl 0 rfl) ?_
  refine nv_ki zC hX (nv_rV (n := 0) (As := []) (rest := []) (q0 := 0) zC hX (mx_noWords (hw := (by first | assumption | omega))) (nvE_b a0 ez) (nvE_keep zG hX) rfl rfl q332 q334 qs4 q59 q335 (by decide +kernel) rfl ⟨Nat.le_of_ble_eq_true rfl, Nat.le_of_ble_eq_true rfl⟩ hl.1 (Nat.le_of_ble_eq_true rfl) dX0_rowBy_1 ⟨by first | exact Nat.le_of_ble_eq_true rfl | omega, by first | exact Nat.le_of_ble_eq_true rfl | omega⟩) (fun r u H locs hp hX => ?_)
  have hr_ : r = nB (decide (words = 0)) := hp
  subst hr_
  have hX : nvS D a0 (xW dA a rn rt trace len stand first allh hAll fault row hOf farOf rowsN rowsT mcW edW words mcR edR rdgs sh ex) s.heap H locs := hX
  refine W.cs (cells' := 0) (slots' := 0) (Nat.add_zero _) (Nat.add_zero _) ?_
  refine nv_if_eqB (tgt := 10) zx zb dX0_rowBy_4 (by decide) (fun c4 => ?_) (fun c4 => ?_)
  · have e_ := of_decide_eq_false c4
    refine lv_aload_n zx zb dX0_rowBy_10 rfl (lv_at hl 1 rfl) ?_
    refine nv_ki zC hX (nv_rS (n := 1) (As := [.ref ra_]) (rest := []) zC hX (mx_areSigns (m_ := m_) (g := cfN cl_ p_ m_) (ra_ := ra_) (hr := (xw_m hr)) (hm := (by first | assumption | omega))) nvGb0 (fun _ _ _ => trivial) q950 q951 q59 q952 (by decide +kernel) rfl ⟨Nat.le_of_ble_eq_true rfl, Nat.le_of_ble_eq_true rfl⟩ hl.1 (Nat.le_of_ble_eq_true rfl) dX0_rowBy_11 ⟨by first | exact Nat.le_of_ble_eq_true rfl | omega, by first | exact Nat.le_of_ble_eq_true rfl | omega⟩) (fun r u H locs hp hX => ?_)
    have hr_ : r = nB (asU (cfN cl_ p_ m_) m_) := hp
    subst hr_
    have hX : nvS D a0 (xW dA a rn rt trace len stand first allh hAll fault row hOf farOf rowsN rowsT mcW edW words mcR edR rdgs sh ex) s.heap H locs := hX
    refine W.cs (cells' := 0) (slots' := 0) (Nat.add_zero _) (Nat.add_zero _) ?_
    refine nv_as (show nB (asU (cfN cl_ p_ m_) m_) = nB (alB cl_ p_ m_) from (congrArg nB alB_u)) ?_
    refine nv_if_neB (tgt := 20) zx zb dX0_rowBy_14 (by decide) (fun c14 => ?_) (fun c14 => ?_)
    · have hr2 : (ra_, aI dA m_ (nF (rwC cl_ p_ m_))) ∈ ex := by rw [← cfN_n c14]; exact hr
      have h3 := (alB_v c14).1
      refine lv_aload_n zx zb dX0_rowBy_20 rfl (lv_at hl 0 rfl) ?_
      refine lv_aload_n zx zb dX0_rowBy_21 rfl (lv_at hl 1 rfl) ?_
      refine lv_aload_n zx zb dX0_rowBy_22 rfl (lv_at hl 1 rfl) ?_
      refine nv_alenM zC hX 0 (xw_m hr2) rfl dX0_rowBy_23 ?_
      refine nv_kv zC hX (nv_rV (n := 2) (As := [.ref ra_, .int (nI m_)]) (rest := []) (q0 := 0) zC hX (mx_hears (m_ := m_) (rw := rwC cl_ p_ m_) (ra_ := ra_) (n := m_) (hW := (by first | assumption | omega)) (hok := (by first | assumption | omega)) (hr := (List.mem_cons_of_mem _ hr2)) (hn := (Nat.le_refl _)) (hm := hm) (h3 := h3)) (nvE_b a0 ez) (nvE_keep zG hX) rfl rfl q256 q258 qs1 q59 q259 (by decide +kernel) rfl ⟨Nat.le_of_ble_eq_true rfl, Nat.le_of_ble_eq_true rfl⟩ hl.1 (Nat.le_of_ble_eq_true rfl) dX0_rowBy_24 ⟨by first | exact Nat.le_of_ble_eq_true rfl | omega, by first | exact Nat.le_of_ble_eq_true rfl | omega⟩) (fun u H locs hp hX => ?_)
      obtain ⟨hOf'_3, rfl⟩ : ∃ z, z = u := ⟨_, rfl⟩
      have h24 : (∀ w, w < words → hOf'_3 w = tmW kind longOf letters (rwC cl_ p_ m_) m_ w) := hp
      have hX : nvS D a0 (xW dA a rn rt trace len (orUp (fun j => hbW kind longOf letters (rwC cl_ p_ m_) words (j + 1)) m_) (fstUp (fun j => decide (0 < hbW kind longOf letters (rwC cl_ p_ m_) words (j + 1))) m_) (fstUp (fun j => decide (orUp (fun j => hbW kind longOf letters (rwC cl_ p_ m_) words (j + 1)) (j + 1) = 2 ^ words - 1)) m_) (sumUp (fun j => popN (hbW kind longOf letters (rwC cl_ p_ m_) words (j + 1))) m_) fault row hOf'_3 farOf rowsN rowsT mcW edW words mcR edR rdgs sh ex) s.heap H locs := hX
      refine W.cs (cells' := 0) (slots' := 0) (Nat.add_zero _) (Nat.add_zero _) ?_
      obtain ⟨jj, hjj, rfl⟩ := row_w hwh
      refine lv_iload_n zx zb dX0_rowBy_27 rfl (lv_at hl 2 rfl) ?_
      refine lv_bipush (v := nI 10) zx zb dX0_rowBy_28 (by decide) ?_
      refine nv_icmp_lt (tgt := 59) zx zb (by omega) (by omega) dX0_rowBy_30 (by decide) (fun c30 => ?_) (fun c30 => ?_)
      · refine lv_iload_n zx zb dX0_rowBy_59 rfl (lv_at hl 2 rfl) ?_
        refine nv_if_ne (tgt := 70) zx zb (by omega) dX0_rowBy_60 (by decide) (fun c60 => ?_) (fun c60 => ?_)
        · refine lv_iload_n zx zb dX0_rowBy_70 rfl (lv_at hl 2 rfl) ?_
          refine lv_iconst (v := nI 1) zx zb dX0_rowBy_71 (by decide) ?_
          refine nv_icmp_ne (tgt := 82) zx zb (by omega) (by omega) dX0_rowBy_72 (by decide) (fun c72 => ?_) (fun c72 => ?_)
          · refine lv_iload_n zx zb dX0_rowBy_82 rfl (lv_at hl 2 rfl) ?_
            refine lv_iconst (v := nI 2) zx zb dX0_rowBy_83 (by decide) ?_
            refine nv_icmp_ne (tgt := 94) zx zb (by omega) (by omega) dX0_rowBy_84 (by decide) (fun c84 => ?_) (fun c84 => ?_)
            · refine lv_aload_n zx zb dX0_rowBy_94 rfl (lv_at hl 0 rfl) ?_
              refine nv_get zC hX in_X0 0 rfl rfl 7 (by decide) q138 (fun _ h => h) rfl dX0_rowBy_95 ?_
              rw [← zQ]
              exact nv_endi zC zr zk (orUp (fun j => hbW kind longOf letters (rwC cl_ p_ m_) words (j + 1)) m_, fstUp (fun j => decide (0 < hbW kind longOf letters (rwC cl_ p_ m_) words (j + 1))) m_, fstUp (fun j => decide (orUp (fun j => hbW kind longOf letters (rwC cl_ p_ m_) words (j + 1)) (j + 1) = 2 ^ words - 1)) m_, sumUp (fun j => popN (hbW kind longOf letters (rwC cl_ p_ m_) words (j + 1))) m_, hOf'_3) hX (by (try dsimp only); unfold F_rowBy; rw [if_neg e_, if_pos c14, show jj = 3 by omega]; exact (look_3 hw4).symm) (by omega) (by omega) dX0_rowBy_98
            · refine lv_aload_n zx zb dX0_rowBy_87 rfl (lv_at hl 0 rfl) ?_
              refine nv_get zC hX in_X0 0 rfl rfl 6 (by decide) q137 (fun _ h => h) rfl dX0_rowBy_88 ?_
              refine lv_goto (tgt := 98) zx zb dX0_rowBy_91 (by decide) ?_
              rw [← zQ]
              exact nv_endi zC zr zk (orUp (fun j => hbW kind longOf letters (rwC cl_ p_ m_) words (j + 1)) m_, fstUp (fun j => decide (0 < hbW kind longOf letters (rwC cl_ p_ m_) words (j + 1))) m_, fstUp (fun j => decide (orUp (fun j => hbW kind longOf letters (rwC cl_ p_ m_) words (j + 1)) (j + 1) = 2 ^ words - 1)) m_, sumUp (fun j => popN (hbW kind longOf letters (rwC cl_ p_ m_) words (j + 1))) m_, hOf'_3) hX (by (try dsimp only); unfold F_rowBy; rw [if_neg e_, if_pos c14]; subst c84; exact look_2.symm) (by omega) (by omega) dX0_rowBy_98
          · refine lv_aload_n zx zb dX0_rowBy_75 rfl (lv_at hl 0 rfl) ?_
            refine nv_get zC hX in_X0 0 rfl rfl 5 (by decide) q136 (fun _ h => h) rfl dX0_rowBy_76 ?_
            refine lv_goto (tgt := 98) zx zb dX0_rowBy_79 (by decide) ?_
            rw [← zQ]
            exact nv_endi zC zr zk (orUp (fun j => hbW kind longOf letters (rwC cl_ p_ m_) words (j + 1)) m_, fstUp (fun j => decide (0 < hbW kind longOf letters (rwC cl_ p_ m_) words (j + 1))) m_, fstUp (fun j => decide (orUp (fun j => hbW kind longOf letters (rwC cl_ p_ m_) words (j + 1)) (j + 1) = 2 ^ words - 1)) m_, sumUp (fun j => popN (hbW kind longOf letters (rwC cl_ p_ m_) words (j + 1))) m_, hOf'_3) hX (by (try dsimp only); unfold F_rowBy; rw [if_neg e_, if_pos c14]; subst c72; exact (look_1 (by omega)).symm) (by omega) (by omega) dX0_rowBy_98
        · refine lv_aload_n zx zb dX0_rowBy_63 rfl (lv_at hl 0 rfl) ?_
          refine nv_get zC hX in_X0 0 rfl rfl 4 (by decide) q135 (fun _ h => h) rfl dX0_rowBy_64 ?_
          refine lv_goto (tgt := 98) zx zb dX0_rowBy_67 (by decide) ?_
          rw [← zQ]
          exact nv_endi zC zr zk (orUp (fun j => hbW kind longOf letters (rwC cl_ p_ m_) words (j + 1)) m_, fstUp (fun j => decide (0 < hbW kind longOf letters (rwC cl_ p_ m_) words (j + 1))) m_, fstUp (fun j => decide (orUp (fun j => hbW kind longOf letters (rwC cl_ p_ m_) words (j + 1)) (j + 1) = 2 ^ words - 1)) m_, sumUp (fun j => popN (hbW kind longOf letters (rwC cl_ p_ m_) words (j + 1))) m_, hOf'_3) hX (by (try dsimp only); unfold F_rowBy; rw [if_neg e_, if_pos c14]; subst c60; exact look_0.symm) (by omega) (by omega) dX0_rowBy_98
      · refine lv_aload_n zx zb dX0_rowBy_33 rfl (lv_at hl 0 rfl) ?_
        refine lv_iload_n zx zb dX0_rowBy_34 rfl (lv_at hl 2 rfl) ?_
        refine lv_bipush (v := nI 10) zx zb dX0_rowBy_35 (by decide) ?_
        refine nv_isub zx zb (by omega) dX0_rowBy_37 ?_
        refine nv_ki zC hX (nv_rV (n := 1) (As := [.int (nI (jj - 10))]) (rest := []) (q0 := 0) zC hX (mx_noWord (v := nI (jj - 10)) (hw := (by first | assumption | omega))) (nvE_b a0 ez) (nvE_keep zG hX) rfl rfl q183 q185 qs0 q59 q186 (by decide +kernel) rfl ⟨Nat.le_of_ble_eq_true rfl, Nat.le_of_ble_eq_true rfl⟩ hl.1 (Nat.le_of_ble_eq_true rfl) dX0_rowBy_38 ⟨by first | exact Nat.le_of_ble_eq_true rfl | omega, by first | exact Nat.le_of_ble_eq_true rfl | omega⟩) (fun r u H locs hp hX => ?_)
        have hr_ : r = nB (!isW words (nI (jj - 10))) := hp
        subst hr_
        have hX : nvS D a0 (xW dA a rn rt trace len (orUp (fun j => hbW kind longOf letters (rwC cl_ p_ m_) words (j + 1)) m_) (fstUp (fun j => decide (0 < hbW kind longOf letters (rwC cl_ p_ m_) words (j + 1))) m_) (fstUp (fun j => decide (orUp (fun j => hbW kind longOf letters (rwC cl_ p_ m_) words (j + 1)) (j + 1) = 2 ^ words - 1)) m_) (sumUp (fun j => popN (hbW kind longOf letters (rwC cl_ p_ m_) words (j + 1))) m_) fault row hOf'_3 farOf rowsN rowsT mcW edW words mcR edR rdgs sh ex) s.heap H locs := hX
        refine W.cs (cells' := 0) (slots' := 0) (Nat.add_zero _) (Nat.add_zero _) ?_
        refine nv_if_eqB (tgt := 49) zx zb dX0_rowBy_41 (by decide) (fun c41 => ?_) (fun c41 => ?_)
        · refine lv_aload_n zx zb dX0_rowBy_49 rfl (lv_at hl 0 rfl) ?_
          refine nv_get zC hX in_X0 0 rfl rfl 8 (by decide) q139 (fun _ h => h) rfl dX0_rowBy_50 ?_
          refine lv_iload_n zx zb dX0_rowBy_53 rfl (lv_at hl 2 rfl) ?_
          refine lv_bipush (v := nI 10) zx zb dX0_rowBy_54 (by decide) ?_
          refine nv_isub zx zb (by omega) dX0_rowBy_56 ?_
          refine nv_iald (v := nI (hOf'_3 (jj - 10))) zC hX 3 rfl (by omega) (by decide) rfl dX0_rowBy_57 ?_
          rw [← zQ]
          exact nv_endi zC zr zk (orUp (fun j => hbW kind longOf letters (rwC cl_ p_ m_) words (j + 1)) m_, fstUp (fun j => decide (0 < hbW kind longOf letters (rwC cl_ p_ m_) words (j + 1))) m_, fstUp (fun j => decide (orUp (fun j => hbW kind longOf letters (rwC cl_ p_ m_) words (j + 1)) (j + 1) = 2 ^ words - 1)) m_, sumUp (fun j => popN (hbW kind longOf letters (rwC cl_ p_ m_) words (j + 1))) m_, hOf'_3) hX (by (try dsimp only); have hlt_ : jj - 10 < words := (by have z := c41; rw [isW_n (by omega) (by omega)] at z; simpa using z); unfold F_rowBy; rw [if_neg e_, if_pos c14, look_10 (by omega) (by omega), if_pos hlt_]; exact congrArg nI (h24 _ hlt_)) (by omega) (by omega) dX0_rowBy_58
        · refine lv_bipush (v := (-9)) zx zb dX0_rowBy_44 (by decide) ?_
          refine lv_goto (tgt := 58) zx zb dX0_rowBy_46 (by decide) ?_
          rw [← zQ]
          exact nv_endi zC zr zk (orUp (fun j => hbW kind longOf letters (rwC cl_ p_ m_) words (j + 1)) m_, fstUp (fun j => decide (0 < hbW kind longOf letters (rwC cl_ p_ m_) words (j + 1))) m_, fstUp (fun j => decide (orUp (fun j => hbW kind longOf letters (rwC cl_ p_ m_) words (j + 1)) (j + 1) = 2 ^ words - 1)) m_, sumUp (fun j => popN (hbW kind longOf letters (rwC cl_ p_ m_) words (j + 1))) m_, hOf'_3) hX (by (try dsimp only); unfold F_rowBy; rw [if_neg e_, if_pos c14, look_10 (by omega) (by omega), if_neg (by have z := c41; rw [isW_n (by omega) (by omega)] at z; simpa using z)]) (by omega) (by omega) dX0_rowBy_58
    · refine lv_bipush (v := (-2)) zx zb dX0_rowBy_17 (by decide) ?_
      rw [← zQ]
      exact nv_endi zC zr zk (stand, first, allh, hAll, hOf) hX (by (try dsimp only); unfold F_rowBy; rw [if_neg e_, c14]; rfl) (by omega) (by omega) dX0_rowBy_19
  · refine lv_bipush (v := (-3)) zx zb dX0_rowBy_7 (by decide) ?_
    rw [← zQ]
    exact nv_endi zC zr zk (stand, first, allh, hAll, hOf) hX (by (try dsimp only); unfold F_rowBy; rw [if_pos (of_decide_eq_true c4)]) (by omega) (by omega) dX0_rowBy_9

set_option maxHeartbeats 4000000 in
theorem mx_oneMore  (d : Nat) (hW : wdIn dA (a 0) words kind longOf letters edW ez fW pa la ex) (hok : wOK words kind longOf letters) (hwy : ∀ j, j < 864 → rowsN j = wyN (stE kind longOf letters words) 1 864 d j) (hd : d < 30) : nMt l D dA a0 yX0_oneMore cX0_oneMore 5 (none) 6 128 0 0 (nvE a0 ez) [.ref (a 0)] (xW dA a rn rt trace len stand first allh hAll fault row hOf farOf rowsN rowsT mcW edW words mcR edR rdgs sh ex) (nQv D a0 (fun (u : (Nat → Nat) × (Nat → Nat)) => (∀ j, j < 864 → u.1 j = wyN (stE kind longOf letters words) 1 864 (d + 1) j)) (fun (u : (Nat → Nat) × (Nat → Nat)) => xW dA a rt rn trace len stand first allh hAll fault row hOf farOf u.1 u.2 mcW edW words mcR edR rdgs sh ex)) := by
  refine nv_start (by decide) (Nat.le_of_ble_eq_true rfl) fun zp ze s zm zlo zme zcd ls zC zr zk znm hX zG hl => ?_
  have zx := zC.1
  have zb := zC.2.1
  generalize zargs : ([.ref (a 0)] : List Value).toArray = zar at zC ⊢
  generalize zQ : MQ zlo _ zar s _ _ _ = Q
  have hX : nvS D a0 (xW dA a rn rt trace len stand first allh hAll fault row hOf farOf rowsN rowsT mcW edW words mcR edR rdgs sh ex) s.heap s.heap [] := hX
  have hl : lv_has ls 5 [(0, .ref (a 0))] := hl
  obtain ⟨H, zH⟩ : ∃ H, H = s.heap := ⟨_, rfl⟩
  have hX : nvS D a0 (xW dA a rn rt trace len stand first allh hAll fault row hOf farOf rowsN rowsT mcW edW words mcR edR rdgs sh ex) s.heap H [] := by rw [zH]; exact hX
  rw [show W zp l ze (rm_ 6 128 0 0) s zm zar zlo zme zcd s.heap [] 0 0 Q = W zp l ze (rm_ 6 128 0 0) s zm zar zlo zme zcd H [] 0 0 Q by rw [zH]]
  generalize ([] : List Loc) = locs at hX ⊢
  have hw4 := hok.1
  have hst : ∀ k c, k < 864 → c < 3 → stE kind longOf letters words k c < 864 := fun k c hk hc => stE_lt hw4 hk hc
  have hb63 : ∀ k, k < 864 → rowsN k < 2 ^ 63 := fun k hk => by rw [hwy k hk]; exact Nat.lt_of_le_of_lt (Nat.le_trans (wyN_le (by decide) hst d k hk) (Nat.pow_le_pow_right (by decide) (show d ≤ 30 by omega))) (by decide)
  refine lv_aload_n zx zb dX0_oneMore_0 rfl (lv_at hl 0 rfl) ?_
  refine nv_get zC hX in_X0 0 rfl rfl 11 (by decide) q142 (fun _ h => h) rfl dX0_oneMore_1 ?_
  refine lv_lconst (v := lN 0) zx zb dX0_oneMore_4 (by decide) ?_
  refine nv_kv zC hX (nv_rS (n := 2) (As := [.ref rt, .long (lN 0)]) (rest := []) zC hX (mj_fillL (yk := 6) (n := 864) (f := nL rowsT) (zh := rt) (v := lN 0) (hk := rfl) (hn := (by decide))) nvGb0 (fun _ _ _ => trivial) q376 q377 q79 q378 (by decide +kernel) rfl ⟨Nat.le_of_ble_eq_true rfl, Nat.le_of_ble_eq_true rfl⟩ hl.1 (Nat.le_of_ble_eq_true rfl) dX0_oneMore_5 ⟨by first | exact Nat.le_of_ble_eq_true rfl | omega, by first | exact Nat.le_of_ble_eq_true rfl | omega⟩) (fun u H locs hp hX => ?_)
  have hX : nvS D a0 (xW dA a rn rt trace len stand first allh hAll fault row hOf farOf rowsN (fun _ => 0) mcW edW words mcR edR rdgs sh ex) s.heap H locs := hX
  refine W.cs (cells' := 0) (slots' := 0) (Nat.add_zero _) (Nat.add_zero _) ?_
  refine lv_iconst (v := nI 0) zx zb dX0_oneMore_8 (by decide) ?_
  refine lv_istore_n (lv' := [(1, .int (nI 0)), (0, .ref (a 0))]) zx zb dX0_oneMore_9 rfl hl (by decide) rfl (fun ls hl => ?_)
  have L10 : ∀ (zn : Nat) (wt : Nat → Nat) (k : Nat) (hk : k ≤ 864) (h1 : ∀ j, j < 864 → wt j = adK rowsN (stE kind longOf letters words) j k + adL rowsN (stE kind longOf letters words) k j 0), 864 - k < zn → ∀ (H : Heap) (locs : List Loc) (ls : Array Slot), nvS D a0 (xW dA a rn rt trace len stand first allh hAll fault row hOf farOf rowsN wt mcW edW words mcR edR rdgs sh ex) s.heap H locs → lv_has ls 5 [(1, .int (nI k)), (0, .ref (a 0))] → W zp l ze (rm_ 6 128 0 0) s zm zar zlo zme zcd H locs 0 0 Q (F0 zm 10 ls []) := by
    intro zn
    induction zn with
    | zero => intro wt k hk h1 zf; exact absurd zf (Nat.not_lt_zero _)
    | succ zn ih10 =>
      intro wt k hk h1 zf H locs ls hX hl
      refine lv_iload_n zx zb dX0_oneMore_10 rfl (lv_at hl 0 rfl) ?_
      refine lv_aload_n zx zb dX0_oneMore_11 rfl (lv_at hl 1 rfl) ?_
      refine nv_get zC hX in_X0 0 rfl rfl 10 (by decide) q141 (fun _ h => h) rfl dX0_oneMore_12 ?_
      refine nv_alen zC hX 5 1 rfl rfl dX0_oneMore_15 ?_
      refine nv_icmp_ge (tgt := 92) zx zb (by omega) (by decide) dX0_oneMore_16 (by decide) (fun c16 => ?_) (fun c16 => ?_)
      · refine lv_aload_n zx zb dX0_oneMore_92 rfl (lv_at hl 1 rfl) ?_
        refine nv_get zC hX in_X0 0 rfl rfl 10 (by decide) q141 (fun _ h => h) rfl dX0_oneMore_93 ?_
        refine lv_astore_n (lv' := [(1, .ref rn), (0, .ref (a 0))]) zx zb dX0_oneMore_96 rfl hl (by decide) rfl (fun ls hl => ?_)
        refine lv_aload_n zx zb dX0_oneMore_97 rfl (lv_at hl 1 rfl) ?_
        refine lv_aload_n zx zb dX0_oneMore_98 rfl (lv_at hl 1 rfl) ?_
        refine nv_get zC hX in_X0 0 rfl rfl 11 (by decide) q142 (fun _ h => h) rfl dX0_oneMore_99 ?_
        refine nv_put zC hX in_X0 tyX0 tyX0_ok nmX0 0 rfl rfl 10 (by decide) q141 (fun _ h => h) rfl rfl rfl (Nat.le_of_ble_eq_true rfl) (w' := xV dA a rn rt rt rt trace len stand first allh hAll fault row hOf farOf rowsN wt mcW edW words mcR edR rdgs sh ex) rfl dX0_oneMore_102 (fun H locs hX => ?_)
        refine lv_aload_n zx zb dX0_oneMore_105 rfl (lv_at hl 1 rfl) ?_
        refine lv_aload_n zx zb dX0_oneMore_106 rfl (lv_at hl 0 rfl) ?_
        refine nv_put zC hX in_X0 tyX0 tyX0_ok nmX0 0 rfl rfl 11 (by decide) q142 (fun _ h => h) rfl rfl rfl (Nat.le_of_ble_eq_true rfl) (w' := xV dA a rn rt rt rn trace len stand first allh hAll fault row hOf farOf rowsN wt mcW edW words mcR edR rdgs sh ex) rfl dX0_oneMore_107 (fun H locs hX => ?_)
        have hX := xV_sw hX
        have e_ := wy_next hwy (show k = 864 by omega) h1
        rw [← zQ]
        exact nv_endv zC zr zk (wt, rowsN) hX (by (try dsimp only); exact e_) (by omega) (by omega) dX0_oneMore_110
      · refine lv_iconst (v := nI 0) zx zb dX0_oneMore_19 (by decide) ?_
        refine lv_istore_n (lv' := [(2, .int (nI 0)), (1, .int (nI k)), (0, .ref (a 0))]) zx zb dX0_oneMore_20 rfl hl (by decide) rfl (fun ls hl => ?_)
        have L21 : ∀ (zn : Nat) (wt : Nat → Nat) (c : Nat) (hc : c ≤ 3) (h1 : ∀ j, j < 864 → wt j = adK rowsN (stE kind longOf letters words) j k + adL rowsN (stE kind longOf letters words) k j c), 3 - c < zn → ∀ (H : Heap) (locs : List Loc) (ls : Array Slot), nvS D a0 (xW dA a rn rt trace len stand first allh hAll fault row hOf farOf rowsN wt mcW edW words mcR edR rdgs sh ex) s.heap H locs → lv_has ls 5 [(2, .int (nI c)), (1, .int (nI k)), (0, .ref (a 0))] → W zp l ze (rm_ 6 128 0 0) s zm zar zlo zme zcd H locs 0 0 Q (F0 zm 21 ls []) := by
          intro zn
          induction zn with
          | zero => intro wt c hc h1 zf; exact absurd zf (Nat.not_lt_zero _)
          | succ zn ih21 =>
            intro wt c hc h1 zf H locs ls hX hl
            refine lv_iload_n zx zb dX0_oneMore_21 rfl (lv_at hl 0 rfl) ?_
            refine lv_iconst (v := nI 3) zx zb dX0_oneMore_22 (by decide) ?_
            refine nv_icmp_ge (tgt := 86) zx zb (by omega) (by omega) dX0_oneMore_23 (by decide) (fun c23 => ?_) (fun c23 => ?_)
            · refine lv_iinc (v := nI (k + 1)) (lv' := [(1, .int (nI (k + 1))), (2, .int (nI c)), (0, .ref (a 0))]) zx zb dX0_oneMore_86 hl (k := 1) rfl (nI_1 _) (by decide) rfl (fun ls hl => ?_)
              refine lv_goto (tgt := 10) zx zb dX0_oneMore_89 (by decide) ?_
              exact ih10 wt (k + 1) (by omega) (adX_skip h1 (Or.inl (by omega))) (by omega) _ _ _ hX (lv_sub hl [0, 2] rfl)
            · refine lv_aload_n zx zb dX0_oneMore_26 rfl (lv_at hl 2 rfl) ?_
              refine nv_get zC hX in_X0 0 rfl rfl 10 (by decide) q141 (fun _ h => h) rfl dX0_oneMore_27 ?_
              refine lv_iload_n zx zb dX0_oneMore_30 rfl (lv_at hl 1 rfl) ?_
              refine nv_lald (v := lN (rowsN k)) zC hX 5 rfl (by omega) (by decide) rfl dX0_oneMore_31 ?_
              refine lv_lconst (v := lN 0) zx zb dX0_oneMore_32 (by decide) ?_
              refine W.lcmp zx zb dX0_oneMore_33 ?_
              refine lv_if_le (x := lg_cmp (lN (rowsN k)) (lN 0)) (tgt := 86) zx zb dX0_oneMore_34 (by decide) (fun c34 => ?_) (fun c34 => ?_)
              · have c34 := (lcN_le (hb63 k c16) (by decide)).mp c34
                refine lv_iinc (v := nI (k + 1)) (lv' := [(1, .int (nI (k + 1))), (2, .int (nI c)), (0, .ref (a 0))]) zx zb dX0_oneMore_86 hl (k := 1) rfl (nI_1 _) (by decide) rfl (fun ls hl => ?_)
                refine lv_goto (tgt := 10) zx zb dX0_oneMore_89 (by decide) ?_
                exact ih10 wt (k + 1) (by omega) (adX_skip h1 (Or.inr (by omega))) (by omega) _ _ _ hX (lv_sub hl [0, 2] rfl)
              · have c34 := (fun z => c34 ((lcN_le (hb63 k c16) (by decide)).mpr z))
                have c34 := Nat.lt_of_not_le c34
                refine lv_iload_n zx zb dX0_oneMore_37 rfl (lv_at hl 1 rfl) ?_
                refine lv_bipush (v := nI 54) zx zb dX0_oneMore_38 (by decide) ?_
                refine nv_irem zx zb (by omega) (by decide) (by decide) dX0_oneMore_40 ?_
                refine lv_istore_n (lv' := [(3, .int (nI (k % 54))), (2, .int (nI c)), (1, .int (nI k)), (0, .ref (a 0))]) zx zb dX0_oneMore_41 rfl hl (by decide) rfl (fun ls hl => ?_)
                refine lv_iload_n zx zb dX0_oneMore_42 rfl (lv_at hl 2 rfl) ?_
                refine lv_bipush (v := nI 54) zx zb dX0_oneMore_43 (by decide) ?_
                refine nv_idiv zx zb (by omega) (by decide) (by decide) dX0_oneMore_45 ?_
                refine lv_aload_n zx zb dX0_oneMore_46 rfl (lv_at hl 3 rfl) ?_
                refine lv_iload_n zx zb dX0_oneMore_47 rfl (lv_at hl 0 rfl) ?_
                refine lv_iload_n zx zb dX0_oneMore_48 rfl (lv_at hl 1 rfl) ?_
                refine nv_ki zC hX (nv_rV (n := 2) (As := [.int (nI (k % 54)), .int (nI c)]) (rest := [.int (nI (k / 54))]) (q0 := 0) zC hX (mx_heardBy (e := k % 54) (c := c) (hW := (by first | assumption | omega)) (hok := (by first | assumption | omega)) (he := (Nat.mod_lt _ (by decide))) (hc := c23)) (nvE_b a0 ez) (nvE_keep zG hX) rfl rfl q263 q265 qs2 q59 q266 (by decide +kernel) rfl ⟨Nat.le_of_ble_eq_true rfl, Nat.le_of_ble_eq_true rfl⟩ hl.1 (Nat.le_of_ble_eq_true rfl) dX0_oneMore_49 ⟨by first | exact Nat.le_of_ble_eq_true rfl | omega, by first | exact Nat.le_of_ble_eq_true rfl | omega⟩) (fun r u H locs hp hX => ?_)
                have hr_ : r = nI (hbE kind longOf letters words (3 * (k % 54) + c)) := hp
                subst hr_
                have hX : nvS D a0 (xW dA a rn rt trace len stand first allh hAll fault row hOf farOf rowsN wt mcW edW words mcR edR rdgs sh ex) s.heap H locs := hX
                refine W.cs (cells' := 0) (slots' := 0) (Nat.add_zero _) (Nat.add_zero _) ?_
                refine nv_ior zx zb dX0_oneMore_52 ?_
                refine lv_istore (lv' := [(4, .int (nI ((k / 54) ||| (hbE kind longOf letters words (3 * (k % 54) + c))))), (3, .int (nI (k % 54))), (2, .int (nI c)), (1, .int (nI k)), (0, .ref (a 0))]) zx zb dX0_oneMore_53 hl (by decide) rfl (fun ls hl => ?_)
                refine lv_aload_n zx zb dX0_oneMore_55 rfl (lv_at hl 4 rfl) ?_
                refine nv_get zC hX in_X0 0 rfl rfl 11 (by decide) q142 (fun _ h => h) rfl dX0_oneMore_56 ?_
                refine lv_bipush (v := nI 54) zx zb dX0_oneMore_59 (by decide) ?_
                refine lv_iload zx zb dX0_oneMore_61 (lv_at hl 0 rfl) ?_
                refine nv_imul zx zb dX0_oneMore_63 ?_
                refine lv_iload_n zx zb dX0_oneMore_64 rfl (lv_at hl 1 rfl) ?_
                refine lv_iload_n zx zb dX0_oneMore_65 rfl (lv_at hl 2 rfl) ?_
                refine nv_ki zC hX (nv_rS (n := 2) (As := [.int (nI (k % 54)), .int (nI c)]) (rest := [.int (nI (54 * ((k / 54) ||| (hbE kind longOf letters words (3 * (k % 54) + c))))), .ref rt]) zC hX (mx_endWith (e := k % 54) (c := c) (he := (Nat.lt_trans (Nat.mod_lt _ (by decide)) (show 54 < 1000 by decide))) (hc := c23)) nvGb0 (fun _ _ _ => trivial) q307 q308 q59 q309 (by decide +kernel) rfl ⟨Nat.le_of_ble_eq_true rfl, Nat.le_of_ble_eq_true rfl⟩ hl.1 (Nat.le_of_ble_eq_true rfl) dX0_oneMore_66 ⟨by first | exact Nat.le_of_ble_eq_true rfl | omega, by first | exact Nat.le_of_ble_eq_true rfl | omega⟩) (fun r u H locs hp hX => ?_)
                have hr_ : r = nI (nxE (k % 54) c) := hp
                subst hr_
                have hX : nvS D a0 (xW dA a rn rt trace len stand first allh hAll fault row hOf farOf rowsN wt mcW edW words mcR edR rdgs sh ex) s.heap H locs := hX
                refine W.cs (cells' := 0) (slots' := 0) (Nat.add_zero _) (Nat.add_zero _) ?_
                refine nv_iadd zx zb dX0_oneMore_69 ?_
                refine nv_as (show nI ((54 * ((k / 54) ||| (hbE kind longOf letters words (3 * (k % 54) + c)))) + (nxE (k % 54) c)) = nI (stE kind longOf letters words k c) from rfl) ?_
                refine lv_dup2_11 zx zb dX0_oneMore_70 rfl rfl ?_
                refine nv_lald (v := lN (wt (stE kind longOf letters words k c))) zC hX 6 rfl (hst k c c16 c23) (by decide) rfl dX0_oneMore_71 ?_
                refine lv_aload_n zx zb dX0_oneMore_72 rfl (lv_at hl 4 rfl) ?_
                refine nv_get zC hX in_X0 0 rfl rfl 10 (by decide) q141 (fun _ h => h) rfl dX0_oneMore_73 ?_
                refine lv_iload_n zx zb dX0_oneMore_76 rfl (lv_at hl 3 rfl) ?_
                refine nv_lald (v := lN (rowsN k)) zC hX 5 rfl (by omega) (by decide) rfl dX0_oneMore_77 ?_
                refine nv_ladd zx zb dX0_oneMore_78 ?_
                refine nv_last zC hX 6 rfl (hst k c c16 c23) (by decide) (nL_up _ _ _) (w' := xW dA a rn rt trace len stand first allh hAll fault row hOf farOf rowsN (va_up wt (stE kind longOf letters words k c) ((wt (stE kind longOf letters words k c)) + (rowsN k))) mcW edW words mcR edR rdgs sh ex) rfl dX0_oneMore_79 (fun H locs hX => ?_)
                refine lv_iinc (v := nI (c + 1)) (lv' := [(2, .int (nI (c + 1))), (4, .int (nI ((k / 54) ||| (hbE kind longOf letters words (3 * (k % 54) + c))))), (3, .int (nI (k % 54))), (1, .int (nI k)), (0, .ref (a 0))]) zx zb dX0_oneMore_80 hl (k := 2) rfl (nI_1 _) (by decide) rfl (fun ls hl => ?_)
                refine lv_goto (tgt := 21) zx zb dX0_oneMore_83 (by decide) ?_
                exact ih21 (va_up wt (stE kind longOf letters words k c) ((wt (stE kind longOf letters words k c)) + (rowsN k))) (c + 1) (by omega) (adX_put h1 (hst k c c16 c23)) (by omega) _ _ _ hX (lv_sub hl [0, 3, 4] rfl)
        exact L21 _ wt 0 (by omega) h1 (Nat.lt_succ_self _) _ _ _ hX (lv_sub hl [0, 1, 2] rfl)
  exact L10 _ (fun _ => 0) 0 (by omega) (fun j _ => rfl) (Nat.lt_succ_self _) _ _ _ hX (lv_sub hl [0, 1] rfl)

set_option maxHeartbeats 4000000 in
theorem mx_counts  (n : Nat) (hW : wdIn dA (a 0) words kind longOf letters edW ez fW pa la ex) (hok : wOK words kind longOf letters) (hn : n ≤ 30) : nMt l D dA a0 yX0_counts cX0_counts 3 (none) 7 152 0 0 (nvE a0 ez) [.ref (a 0), .int (nI n)] (xW dA a rn rt trace len stand first allh hAll fault row hOf farOf rowsN rowsT mcW edW words mcR edR rdgs sh ex) (nQv D a0 (fun (u : Nat × Nat × (Nat → Nat) × (Nat → Nat)) => (∀ j, j < 864 → u.2.2.1 j = wyN (stE kind longOf letters words) 1 864 n j)) (fun (u : Nat × Nat × (Nat → Nat) × (Nat → Nat)) => xW dA a u.1 u.2.1 trace len stand first allh hAll fault row hOf farOf u.2.2.1 u.2.2.2 mcW edW words mcR edR rdgs sh ex)) := by
  refine nv_start (by decide) (Nat.le_of_ble_eq_true rfl) fun zp ze s zm zlo zme zcd ls zC zr zk znm hX zG hl => ?_
  have zx := zC.1
  have zb := zC.2.1
  generalize zargs : ([.ref (a 0), .int (nI n)] : List Value).toArray = zar at zC ⊢
  generalize zQ : MQ zlo _ zar s _ _ _ = Q
  have hX : nvS D a0 (xW dA a rn rt trace len stand first allh hAll fault row hOf farOf rowsN rowsT mcW edW words mcR edR rdgs sh ex) s.heap s.heap [] := hX
  have hl : lv_has ls 3 [(0, .ref (a 0)), (1, .int (nI n))] := hl
  obtain ⟨H, zH⟩ : ∃ H, H = s.heap := ⟨_, rfl⟩
  have hX : nvS D a0 (xW dA a rn rt trace len stand first allh hAll fault row hOf farOf rowsN rowsT mcW edW words mcR edR rdgs sh ex) s.heap H [] := by rw [zH]; exact hX
  rw [show W zp l ze (rm_ 7 152 0 0) s zm zar zlo zme zcd s.heap [] 0 0 Q = W zp l ze (rm_ 7 152 0 0) s zm zar zlo zme zcd H [] 0 0 Q by rw [zH]]
  generalize ([] : List Loc) = locs at hX ⊢
  have hw4 := hok.1
  refine lv_aload_n zx zb dX0_counts_0 rfl (lv_at hl 0 rfl) ?_
  refine nv_get zC hX in_X0 0 rfl rfl 10 (by decide) q141 (fun _ h => h) rfl dX0_counts_1 ?_
  refine lv_lconst (v := lN 0) zx zb dX0_counts_4 (by decide) ?_
  refine nv_kv zC hX (nv_rS (n := 2) (As := [.ref rn, .long (lN 0)]) (rest := []) zC hX (mj_fillL (yk := 5) (n := 864) (f := nL rowsN) (zh := rn) (v := lN 0) (hk := rfl) (hn := (by decide))) nvGb0 (fun _ _ _ => trivial) q376 q377 q79 q378 (by decide +kernel) rfl ⟨Nat.le_of_ble_eq_true rfl, Nat.le_of_ble_eq_true rfl⟩ hl.1 (Nat.le_of_ble_eq_true rfl) dX0_counts_5 ⟨by first | exact Nat.le_of_ble_eq_true rfl | omega, by first | exact Nat.le_of_ble_eq_true rfl | omega⟩) (fun u H locs hp hX => ?_)
  have hX : nvS D a0 (xW dA a rn rt trace len stand first allh hAll fault row hOf farOf (fun _ => 0) rowsT mcW edW words mcR edR rdgs sh ex) s.heap H locs := hX
  refine W.cs (cells' := 0) (slots' := 0) (Nat.add_zero _) (Nat.add_zero _) ?_
  refine lv_aload_n zx zb dX0_counts_8 rfl (lv_at hl 0 rfl) ?_
  refine nv_get zC hX in_X0 0 rfl rfl 10 (by decide) q141 (fun _ h => h) rfl dX0_counts_9 ?_
  refine lv_iconst (v := nI 1) zx zb dX0_counts_12 (by decide) ?_
  refine lv_lconst (v := lN 1) zx zb dX0_counts_13 (by decide) ?_
  refine nv_last zC hX 5 rfl (by omega) (by decide) (nL_up _ _ _) (w' := xW dA a rn rt trace len stand first allh hAll fault row hOf farOf (va_up (fun _ => 0) 1 1) rowsT mcW edW words mcR edR rdgs sh ex) rfl dX0_counts_14 (fun H locs hX => ?_)
  refine lv_iconst (v := nI 0) zx zb dX0_counts_15 (by decide) ?_
  refine lv_istore_n (lv' := [(2, .int (nI 0)), (0, .ref (a 0)), (1, .int (nI n))]) zx zb dX0_counts_16 rfl hl (by decide) rfl (fun ls hl => ?_)
  have L17 : ∀ (zn : Nat) (rn_ rt_ : Nat) (rN rT : Nat → Nat) (d : Nat) (hd : d ≤ n) (h1 : ∀ j, j < 864 → rN j = wyN (stE kind longOf letters words) 1 864 d j), n - d < zn → ∀ (H : Heap) (locs : List Loc) (ls : Array Slot), nvS D a0 (xW dA a rn_ rt_ trace len stand first allh hAll fault row hOf farOf rN rT mcW edW words mcR edR rdgs sh ex) s.heap H locs → lv_has ls 3 [(2, .int (nI d)), (0, .ref (a 0)), (1, .int (nI n))] → W zp l ze (rm_ 7 152 0 0) s zm zar zlo zme zcd H locs 0 0 Q (F0 zm 17 ls []) := by
    intro zn
    induction zn with
    | zero => intro rn_ rt_ rN rT d hd h1 zf; exact absurd zf (Nat.not_lt_zero _)
    | succ zn ih17 =>
      intro rn_ rt_ rN rT d hd h1 zf H locs ls hX hl
      refine lv_iload_n zx zb dX0_counts_17 rfl (lv_at hl 0 rfl) ?_
      refine lv_iload_n zx zb dX0_counts_18 rfl (lv_at hl 2 rfl) ?_
      refine nv_icmp_ge (tgt := 32) zx zb (by omega) (by omega) dX0_counts_19 (by decide) (fun c19 => ?_) (fun c19 => ?_)
      · have e_ : d = n := (by omega)
        subst e_
        rw [← zQ]
        exact nv_endv zC zr zk (rn_, rt_, rN, rT) hX (by (try dsimp only); exact h1) (by omega) (by omega) dX0_counts_32
      · refine lv_aload_n zx zb dX0_counts_22 rfl (lv_at hl 1 rfl) ?_
        refine nv_kv zC hX (nv_rV (n := 0) (As := []) (rest := []) (q0 := 0) zC hX (mx_oneMore (d := d) (hW := (by first | assumption | omega)) (hok := (by first | assumption | omega)) (hwy := h1) (hd := (by omega))) (nvE_b a0 ez) (nvE_keep zG hX) rfl rfl q379 q381 qs7 q59 q382 (by decide +kernel) rfl ⟨Nat.le_of_ble_eq_true rfl, Nat.le_of_ble_eq_true rfl⟩ hl.1 (Nat.le_of_ble_eq_true rfl) dX0_counts_23 ⟨by first | exact Nat.le_of_ble_eq_true rfl | omega, by first | exact Nat.le_of_ble_eq_true rfl | omega⟩) (fun u H locs hp hX => ?_)
        obtain ⟨rowsN'_2, rowsT'_2⟩ := u
        have h23 : (∀ j, j < 864 → rowsN'_2 j = wyN (stE kind longOf letters words) 1 864 (d + 1) j) := hp
        have hX : nvS D a0 (xW dA a rt_ rn_ trace len stand first allh hAll fault row hOf farOf rowsN'_2 rowsT'_2 mcW edW words mcR edR rdgs sh ex) s.heap H locs := hX
        refine W.cs (cells' := 0) (slots' := 0) (Nat.add_zero _) (Nat.add_zero _) ?_
        refine lv_iinc (v := nI (d + 1)) (lv' := [(2, .int (nI (d + 1))), (0, .ref (a 0)), (1, .int (nI n))]) zx zb dX0_counts_26 hl (k := 0) rfl (nI_1 _) (by decide) rfl (fun ls hl => ?_)
        refine lv_goto (tgt := 17) zx zb dX0_counts_29 (by decide) ?_
        exact ih17 rt_ rn_ rowsN'_2 rowsT'_2 (d + 1) (by omega) h23 (by omega) _ _ _ hX (lv_sub hl [0, 1, 2] rfl)
  exact L17 _ rn rt (va_up (fun _ => 0) 1 1) rowsT 0 (by omega) wy_init (Nat.lt_succ_self _) _ _ _ hX (lv_sub hl [0, 1, 2] rfl)

set_option maxHeartbeats 4000000 in
theorem mx_rowsWith  (set : Nat) (hs : set < 16) : nMt l D dA a0 yX0_rowsWith cX0_rowsWith 5 (some .long) 1 12 0 0 (nvE a0 ez) [.ref (a 0), .int (nI set)] (xW dA a rn rt trace len stand first allh hAll fault row hOf farOf rowsN rowsT mcW edW words mcR edR rdgs sh ex) (nQl D a0 (fun (r : Int64) (_ : Unit) => r = lN (sumUp (fun j => rowsN (54 * set + (j + 1))) 53)) (fun (_ : Unit) => xW dA a rn rt trace len stand first allh hAll fault row hOf farOf rowsN rowsT mcW edW words mcR edR rdgs sh ex)) := by
  refine nv_start (by decide) (Nat.le_of_ble_eq_true rfl) fun zp ze s zm zlo zme zcd ls zC zr zk znm hX zG hl => ?_
  have zx := zC.1
  have zb := zC.2.1
  generalize zargs : ([.ref (a 0), .int (nI set)] : List Value).toArray = zar at zC ⊢
  generalize zQ : MQ zlo _ zar s _ _ _ = Q
  have hX : nvS D a0 (xW dA a rn rt trace len stand first allh hAll fault row hOf farOf rowsN rowsT mcW edW words mcR edR rdgs sh ex) s.heap s.heap [] := hX
  have hl : lv_has ls 5 [(0, .ref (a 0)), (1, .int (nI set))] := hl
  obtain ⟨H, zH⟩ : ∃ H, H = s.heap := ⟨_, rfl⟩
  have hX : nvS D a0 (xW dA a rn rt trace len stand first allh hAll fault row hOf farOf rowsN rowsT mcW edW words mcR edR rdgs sh ex) s.heap H [] := by rw [zH]; exact hX
  rw [show W zp l ze (rm_ 1 12 0 0) s zm zar zlo zme zcd s.heap [] 0 0 Q = W zp l ze (rm_ 1 12 0 0) s zm zar zlo zme zcd H [] 0 0 Q by rw [zH]]
  generalize ([] : List Loc) = locs at hX ⊢
  refine lv_lconst (v := lN 0) zx zb dX0_rowsWith_0 (by decide) ?_
  refine lv_lstore_n (lv' := [(2, .long (lN 0)), (0, .ref (a 0)), (1, .int (nI set))]) zx zb dX0_rowsWith_1 rfl hl (by decide) rfl (fun ls hl => ?_)
  refine lv_iconst (v := nI 1) zx zb dX0_rowsWith_2 (by decide) ?_
  refine lv_istore (lv' := [(4, .int (nI 1)), (2, .long (lN 0)), (0, .ref (a 0)), (1, .int (nI set))]) zx zb dX0_rowsWith_3 hl (by decide) rfl (fun ls hl => ?_)
  have L5 : ∀ (zn : Nat) (e : Nat) (he : e ≤ 53), 53 - e < zn → ∀ (H : Heap) (locs : List Loc) (ls : Array Slot), nvS D a0 (xW dA a rn rt trace len stand first allh hAll fault row hOf farOf rowsN rowsT mcW edW words mcR edR rdgs sh ex) s.heap H locs → lv_has ls 5 [(4, .int (nI (e + 1))), (2, .long (lN (sumUp (fun j => rowsN (54 * set + (j + 1))) e))), (0, .ref (a 0)), (1, .int (nI set))] → W zp l ze (rm_ 1 12 0 0) s zm zar zlo zme zcd H locs 0 0 Q (F0 zm 5 ls []) := by
    intro zn
    induction zn with
    | zero => intro e he zf; exact absurd zf (Nat.not_lt_zero _)
    | succ zn ih5 =>
      intro e he zf H locs ls hX hl
      refine lv_iload zx zb dX0_rowsWith_5 (lv_at hl 0 rfl) ?_
      refine lv_bipush (v := nI 54) zx zb dX0_rowsWith_7 (by decide) ?_
      refine nv_icmp_ge (tgt := 33) zx zb (by omega) (by omega) dX0_rowsWith_9 (by decide) (fun c9 => ?_) (fun c9 => ?_)
      · refine lv_lload_n zx zb dX0_rowsWith_33 rfl (lv_at hl 1 rfl) ?_
        rw [← zQ]
        exact nv_endl zC zr zk () hX (by rw [show e = 53 by omega]) (by omega) (by omega) dX0_rowsWith_34
      · refine lv_lload_n zx zb dX0_rowsWith_12 rfl (lv_at hl 1 rfl) ?_
        refine lv_aload_n zx zb dX0_rowsWith_13 rfl (lv_at hl 2 rfl) ?_
        refine nv_get zC hX in_X0 0 rfl rfl 10 (by decide) q141 (fun _ h => h) rfl dX0_rowsWith_14 ?_
        refine lv_bipush (v := nI 54) zx zb dX0_rowsWith_17 (by decide) ?_
        refine lv_iload_n zx zb dX0_rowsWith_19 rfl (lv_at hl 3 rfl) ?_
        refine nv_imul zx zb dX0_rowsWith_20 ?_
        refine lv_iload zx zb dX0_rowsWith_21 (lv_at hl 0 rfl) ?_
        refine nv_iadd zx zb dX0_rowsWith_23 ?_
        refine nv_lald (v := lN (rowsN ((54 * set) + (e + 1)))) zC hX 5 rfl (by omega) (by decide) rfl dX0_rowsWith_24 ?_
        refine nv_ladd zx zb dX0_rowsWith_25 ?_
        refine lv_lstore_n (lv' := [(2, .long (lN ((sumUp (fun j => rowsN (54 * set + (j + 1))) e) + (rowsN ((54 * set) + (e + 1)))))), (4, .int (nI (e + 1))), (0, .ref (a 0)), (1, .int (nI set))]) zx zb dX0_rowsWith_26 rfl hl (by decide) rfl (fun ls hl => ?_)
        refine lv_iinc (v := nI (e + 1 + 1)) (lv' := [(4, .int (nI (e + 1 + 1))), (2, .long (lN ((sumUp (fun j => rowsN (54 * set + (j + 1))) e) + (rowsN ((54 * set) + (e + 1)))))), (0, .ref (a 0)), (1, .int (nI set))]) zx zb dX0_rowsWith_27 hl (k := 1) rfl (nI_1 _) (by decide) rfl (fun ls hl => ?_)
        refine lv_goto (tgt := 5) zx zb dX0_rowsWith_30 (by decide) ?_
        exact ih5 (e + 1) (by omega) (by omega) _ _ _ hX (lv_sub hl [0, 1, 2, 3] rfl)
  exact L5 _ 0 (by omega) (Nat.lt_succ_self _) _ _ _ hX (lv_sub hl [0, 1, 2, 3] rfl)

set_option maxHeartbeats 4000000 in
theorem mx_have  (n : Int32) (hW : wdIn dA (a 0) words kind longOf letters edW ez fW pa la ex) (hok : wOK words kind longOf letters) : nMt l D dA a0 yX0_have cX0_have 2 (some .long) 8 174 0 0 (nvE a0 ez) [.ref (a 0), .int n] (xW dA a rn rt trace len stand first allh hAll fault row hOf farOf rowsN rowsT mcW edW words mcR edR rdgs sh ex) (nQl D a0 (fun (r : Int64) (u : Nat × Nat × (Nat → Nat) × (Nat → Nat)) => r = F_have kind longOf letters words n (2 ^ words - 1)) (fun (u : Nat × Nat × (Nat → Nat) × (Nat → Nat)) => xW dA a u.1 u.2.1 trace len stand first allh hAll fault row hOf farOf u.2.2.1 u.2.2.2 mcW edW words mcR edR rdgs sh ex)) := by
  refine nv_start (by decide) (Nat.le_of_ble_eq_true rfl) fun zp ze s zm zlo zme zcd ls zC zr zk znm hX zG hl => ?_
  have zx := zC.1
  have zb := zC.2.1
  generalize zargs : ([.ref (a 0), .int n] : List Value).toArray = zar at zC ⊢
  generalize zQ : MQ zlo _ zar s _ _ _ = Q
  have hX : nvS D a0 (xW dA a rn rt trace len stand first allh hAll fault row hOf farOf rowsN rowsT mcW edW words mcR edR rdgs sh ex) s.heap s.heap [] := hX
  have hl : lv_has ls 2 [(0, .ref (a 0)), (1, .int n)] := hl
  obtain ⟨H, zH⟩ : ∃ H, H = s.heap := ⟨_, rfl⟩
  have hX : nvS D a0 (xW dA a rn rt trace len stand first allh hAll fault row hOf farOf rowsN rowsT mcW edW words mcR edR rdgs sh ex) s.heap H [] := by rw [zH]; exact hX
  rw [show W zp l ze (rm_ 8 174 0 0) s zm zar zlo zme zcd s.heap [] 0 0 Q = W zp l ze (rm_ 8 174 0 0) s zm zar zlo zme zcd H [] 0 0 Q by rw [zH]]
  generalize ([] : List Loc) = locs at hX ⊢
  have hw4 := hok.1
  have hp16 := pw4 hw4
  refine lv_iload_n zx zb dX0_have_0 rfl (lv_at hl 1 rfl) ?_
  refine lv_i2l zx zb dX0_have_1 rfl ?_
  refine lv_lconst (v := lN 0) zx zb dX0_have_2 (by decide) ?_
  refine lv_ldc2 (v := lN 30) zx zb zC.2.2.2.1 (zC.2.2.2.2.1 _ q370) dX0_have_3 ?_
  refine nv_ki zC hX (nv_rS (n := 3) (As := [.long n.toInt64, .long (lN 0), .long (lN 30)]) (rest := []) zC hX (mx_in (v := n.toInt64) (lo := lN 0) (hi := lN 30)) nvGb0 (fun _ _ _ => trivial) q197 q198 q59 q199 (by decide +kernel) rfl ⟨Nat.le_of_ble_eq_true rfl, Nat.le_of_ble_eq_true rfl⟩ hl.1 (Nat.le_of_ble_eq_true rfl) dX0_have_6 ⟨by first | exact Nat.le_of_ble_eq_true rfl | omega, by first | exact Nat.le_of_ble_eq_true rfl | omega⟩) (fun r u H locs hp hX => ?_)
  have hr_ : r = nB (decide (lN 0 ≤ n.toInt64) && decide (n.toInt64 ≤ lN 30)) := hp
  subst hr_
  have hX : nvS D a0 (xW dA a rn rt trace len stand first allh hAll fault row hOf farOf rowsN rowsT mcW edW words mcR edR rdgs sh ex) s.heap H locs := hX
  refine W.cs (cells' := 0) (slots' := 0) (Nat.add_zero _) (Nat.add_zero _) ?_
  refine nv_as (show nB (decide (lN 0 ≤ n.toInt64) && decide (n.toInt64 ≤ lN 30)) = nB (inN n 0 30) from (congrArg nB (inN_l (by decide) (by decide)))) ?_
  refine nv_if_eqB (tgt := 19) zx zb dX0_have_9 (by decide) (fun c9 => ?_) (fun c9 => ?_)
  · refine lv_ldc2 (v := (-9223372036854775808)) zx zb zC.2.2.2.1 (zC.2.2.2.2.1 _ q371) dX0_have_19 ?_
    rw [← zQ]
    exact nv_endl zC zr zk (rn, rt, rowsN, rowsT) hX (by (try dsimp only); unfold F_have; rw [if_neg (fun z => absurd (c9.symm.trans z.1) (by decide))]) (by omega) (by omega) dX0_have_22
  · obtain ⟨n_, -, hn, rfl⟩ := inN_t (by decide) (by decide) c9
    have en_ : (nI n_).toNatClampNeg = n_ := nI_clamp (by omega)
    refine lv_aload_n zx zb dX0_have_12 rfl (lv_at hl 0 rfl) ?_
    refine nv_ki zC hX (nv_rV (n := 0) (As := []) (rest := []) (q0 := 0) zC hX (mx_noWords (hw := (by first | assumption | omega))) (nvE_b a0 ez) (nvE_keep zG hX) rfl rfl q332 q334 qs4 q59 q335 (by decide +kernel) rfl ⟨Nat.le_of_ble_eq_true rfl, Nat.le_of_ble_eq_true rfl⟩ hl.1 (Nat.le_of_ble_eq_true rfl) dX0_have_13 ⟨by first | exact Nat.le_of_ble_eq_true rfl | omega, by first | exact Nat.le_of_ble_eq_true rfl | omega⟩) (fun r u H locs hp hX => ?_)
    have hr_ : r = nB (decide (words = 0)) := hp
    subst hr_
    have hX : nvS D a0 (xW dA a rn rt trace len stand first allh hAll fault row hOf farOf rowsN rowsT mcW edW words mcR edR rdgs sh ex) s.heap H locs := hX
    refine W.cs (cells' := 0) (slots' := 0) (Nat.add_zero _) (Nat.add_zero _) ?_
    refine nv_if_eqB (tgt := 23) zx zb dX0_have_16 (by decide) (fun c16 => ?_) (fun c16 => ?_)
    · have e_ := of_decide_eq_false c16
      refine lv_aload_n zx zb dX0_have_23 rfl (lv_at hl 0 rfl) ?_
      refine lv_iload_n zx zb dX0_have_24 rfl (lv_at hl 1 rfl) ?_
      refine nv_kv zC hX (nv_rV (n := 1) (As := [.int (nI n_)]) (rest := []) (q0 := 0) zC hX (mx_counts (n := n_) (hW := (by first | assumption | omega)) (hok := (by first | assumption | omega)) (hn := hn)) (nvE_b a0 ez) (nvE_keep zG hX) rfl rfl q372 q374 qs6 q59 q375 (by decide +kernel) rfl ⟨Nat.le_of_ble_eq_true rfl, Nat.le_of_ble_eq_true rfl⟩ hl.1 (Nat.le_of_ble_eq_true rfl) dX0_have_25 ⟨by first | exact Nat.le_of_ble_eq_true rfl | omega, by first | exact Nat.le_of_ble_eq_true rfl | omega⟩) (fun u H locs hp hX => ?_)
      obtain ⟨rn'_3, rt'_3, rowsN'_3, rowsT'_3⟩ := u
      have h25 : (∀ j, j < 864 → rowsN'_3 j = wyN (stE kind longOf letters words) 1 864 n_ j) := hp
      have hX : nvS D a0 (xW dA a rn'_3 rt'_3 trace len stand first allh hAll fault row hOf farOf rowsN'_3 rowsT'_3 mcW edW words mcR edR rdgs sh ex) s.heap H locs := hX
      refine W.cs (cells' := 0) (slots' := 0) (Nat.add_zero _) (Nat.add_zero _) ?_
      refine lv_aload_n zx zb dX0_have_28 rfl (lv_at hl 0 rfl) ?_
      refine lv_aload_n zx zb dX0_have_29 rfl (lv_at hl 0 rfl) ?_
      refine nv_ki zC hX (nv_rV (n := 0) (As := []) (rest := [.ref (a 0)]) (q0 := 0) zC hX (mx_everyWord (hw := (by first | assumption | omega))) (nvE_b a0 ez) (nvE_keep zG hX) rfl rfl q316 q318 qs3 q59 q319 (by decide +kernel) rfl ⟨Nat.le_of_ble_eq_true rfl, Nat.le_of_ble_eq_true rfl⟩ hl.1 (Nat.le_of_ble_eq_true rfl) dX0_have_30 ⟨by first | exact Nat.le_of_ble_eq_true rfl | omega, by first | exact Nat.le_of_ble_eq_true rfl | omega⟩) (fun r u H locs hp hX => ?_)
      have hr_ : r = nI (2 ^ words - 1) := hp
      subst hr_
      have hX : nvS D a0 (xW dA a rn'_3 rt'_3 trace len stand first allh hAll fault row hOf farOf rowsN'_3 rowsT'_3 mcW edW words mcR edR rdgs sh ex) s.heap H locs := hX
      refine W.cs (cells' := 0) (slots' := 0) (Nat.add_zero _) (Nat.add_zero _) ?_
      refine nv_kl zC hX (nv_rV (n := 1) (As := [.int (nI (2 ^ words - 1))]) (rest := []) (q0 := 0) zC hX (mx_rowsWith (set := 2 ^ words - 1) (hs := (by omega))) (nvE_b a0 ez) (nvE_keep zG hX) rfl rfl q383 q385 qs8 q59 q386 (by decide +kernel) rfl ⟨Nat.le_of_ble_eq_true rfl, Nat.le_of_ble_eq_true rfl⟩ hl.1 (Nat.le_of_ble_eq_true rfl) dX0_have_33 ⟨by first | exact Nat.le_of_ble_eq_true rfl | omega, by first | exact Nat.le_of_ble_eq_true rfl | omega⟩) (fun r u H locs hp hX => ?_)
      have hr_ : r = lN (sumUp (fun j => rowsN'_3 (54 * (2 ^ words - 1) + (j + 1))) 53) := hp
      subst hr_
      have hX : nvS D a0 (xW dA a rn'_3 rt'_3 trace len stand first allh hAll fault row hOf farOf rowsN'_3 rowsT'_3 mcW edW words mcR edR rdgs sh ex) s.heap H locs := hX
      refine W.cs (cells' := 0) (slots' := 0) (Nat.add_zero _) (Nat.add_zero _) ?_
      rw [← zQ]
      exact nv_endl zC zr zk (rn'_3, rt'_3, rowsN'_3, rowsT'_3) hX (by (try dsimp only); unfold F_have; rw [if_pos ⟨c9, by omega⟩, en_]; exact congrArg lN ((sumUp_cg fun j hj => h25 _ (by omega)).trans (wy_sum hok n_ (by omega)))) (by omega) (by omega) dX0_have_36
    · refine lv_ldc2 (v := (-9223372036854775808)) zx zb zC.2.2.2.1 (zC.2.2.2.2.1 _ q371) dX0_have_19 ?_
      rw [← zQ]
      exact nv_endl zC zr zk (rn, rt, rowsN, rowsT) hX (by (try dsimp only); unfold F_have; rw [if_neg (fun z => by have := of_decide_eq_true c16; omega)]) (by omega) (by omega) dX0_have_22

set_option maxHeartbeats 4000000 in
theorem mx_free  (n : Int32) (hW : wdIn dA (a 0) words kind longOf letters edW ez fW pa la ex) (hok : wOK words kind longOf letters) : nMt l D dA a0 yX0_free cX0_free 2 (some .long) 8 174 0 0 (nvE a0 ez) [.ref (a 0), .int n] (xW dA a rn rt trace len stand first allh hAll fault row hOf farOf rowsN rowsT mcW edW words mcR edR rdgs sh ex) (nQl D a0 (fun (r : Int64) (u : Nat × Nat × (Nat → Nat) × (Nat → Nat)) => r = F_have kind longOf letters words n 0) (fun (u : Nat × Nat × (Nat → Nat) × (Nat → Nat)) => xW dA a u.1 u.2.1 trace len stand first allh hAll fault row hOf farOf u.2.2.1 u.2.2.2 mcW edW words mcR edR rdgs sh ex)) := by
  refine nv_start (by decide) (Nat.le_of_ble_eq_true rfl) fun zp ze s zm zlo zme zcd ls zC zr zk znm hX zG hl => ?_
  have zx := zC.1
  have zb := zC.2.1
  generalize zargs : ([.ref (a 0), .int n] : List Value).toArray = zar at zC ⊢
  generalize zQ : MQ zlo _ zar s _ _ _ = Q
  have hX : nvS D a0 (xW dA a rn rt trace len stand first allh hAll fault row hOf farOf rowsN rowsT mcW edW words mcR edR rdgs sh ex) s.heap s.heap [] := hX
  have hl : lv_has ls 2 [(0, .ref (a 0)), (1, .int n)] := hl
  obtain ⟨H, zH⟩ : ∃ H, H = s.heap := ⟨_, rfl⟩
  have hX : nvS D a0 (xW dA a rn rt trace len stand first allh hAll fault row hOf farOf rowsN rowsT mcW edW words mcR edR rdgs sh ex) s.heap H [] := by rw [zH]; exact hX
  rw [show W zp l ze (rm_ 8 174 0 0) s zm zar zlo zme zcd s.heap [] 0 0 Q = W zp l ze (rm_ 8 174 0 0) s zm zar zlo zme zcd H [] 0 0 Q by rw [zH]]
  generalize ([] : List Loc) = locs at hX ⊢
  have hw4 := hok.1
  have hp16 := pw4 hw4
  refine lv_iload_n zx zb dX0_free_0 rfl (lv_at hl 1 rfl) ?_
  refine lv_i2l zx zb dX0_free_1 rfl ?_
  refine lv_lconst (v := lN 0) zx zb dX0_free_2 (by decide) ?_
  refine lv_ldc2 (v := lN 30) zx zb zC.2.2.2.1 (zC.2.2.2.2.1 _ q370) dX0_free_3 ?_
  refine nv_ki zC hX (nv_rS (n := 3) (As := [.long n.toInt64, .long (lN 0), .long (lN 30)]) (rest := []) zC hX (mx_in (v := n.toInt64) (lo := lN 0) (hi := lN 30)) nvGb0 (fun _ _ _ => trivial) q197 q198 q59 q199 (by decide +kernel) rfl ⟨Nat.le_of_ble_eq_true rfl, Nat.le_of_ble_eq_true rfl⟩ hl.1 (Nat.le_of_ble_eq_true rfl) dX0_free_6 ⟨by first | exact Nat.le_of_ble_eq_true rfl | omega, by first | exact Nat.le_of_ble_eq_true rfl | omega⟩) (fun r u H locs hp hX => ?_)
  have hr_ : r = nB (decide (lN 0 ≤ n.toInt64) && decide (n.toInt64 ≤ lN 30)) := hp
  subst hr_
  have hX : nvS D a0 (xW dA a rn rt trace len stand first allh hAll fault row hOf farOf rowsN rowsT mcW edW words mcR edR rdgs sh ex) s.heap H locs := hX
  refine W.cs (cells' := 0) (slots' := 0) (Nat.add_zero _) (Nat.add_zero _) ?_
  refine nv_as (show nB (decide (lN 0 ≤ n.toInt64) && decide (n.toInt64 ≤ lN 30)) = nB (inN n 0 30) from (congrArg nB (inN_l (by decide) (by decide)))) ?_
  refine nv_if_eqB (tgt := 19) zx zb dX0_free_9 (by decide) (fun c9 => ?_) (fun c9 => ?_)
  · refine lv_ldc2 (v := (-9223372036854775808)) zx zb zC.2.2.2.1 (zC.2.2.2.2.1 _ q371) dX0_free_19 ?_
    rw [← zQ]
    exact nv_endl zC zr zk (rn, rt, rowsN, rowsT) hX (by (try dsimp only); unfold F_have; rw [if_neg (fun z => absurd (c9.symm.trans z.1) (by decide))]) (by omega) (by omega) dX0_free_22
  · obtain ⟨n_, -, hn, rfl⟩ := inN_t (by decide) (by decide) c9
    have en_ : (nI n_).toNatClampNeg = n_ := nI_clamp (by omega)
    refine lv_aload_n zx zb dX0_free_12 rfl (lv_at hl 0 rfl) ?_
    refine nv_ki zC hX (nv_rV (n := 0) (As := []) (rest := []) (q0 := 0) zC hX (mx_noWords (hw := (by first | assumption | omega))) (nvE_b a0 ez) (nvE_keep zG hX) rfl rfl q332 q334 qs4 q59 q335 (by decide +kernel) rfl ⟨Nat.le_of_ble_eq_true rfl, Nat.le_of_ble_eq_true rfl⟩ hl.1 (Nat.le_of_ble_eq_true rfl) dX0_free_13 ⟨by first | exact Nat.le_of_ble_eq_true rfl | omega, by first | exact Nat.le_of_ble_eq_true rfl | omega⟩) (fun r u H locs hp hX => ?_)
    have hr_ : r = nB (decide (words = 0)) := hp
    subst hr_
    have hX : nvS D a0 (xW dA a rn rt trace len stand first allh hAll fault row hOf farOf rowsN rowsT mcW edW words mcR edR rdgs sh ex) s.heap H locs := hX
    refine W.cs (cells' := 0) (slots' := 0) (Nat.add_zero _) (Nat.add_zero _) ?_
    refine nv_if_eqB (tgt := 23) zx zb dX0_free_16 (by decide) (fun c16 => ?_) (fun c16 => ?_)
    · have e_ := of_decide_eq_false c16
      refine lv_aload_n zx zb dX0_free_23 rfl (lv_at hl 0 rfl) ?_
      refine lv_iload_n zx zb dX0_free_24 rfl (lv_at hl 1 rfl) ?_
      refine nv_kv zC hX (nv_rV (n := 1) (As := [.int (nI n_)]) (rest := []) (q0 := 0) zC hX (mx_counts (n := n_) (hW := (by first | assumption | omega)) (hok := (by first | assumption | omega)) (hn := hn)) (nvE_b a0 ez) (nvE_keep zG hX) rfl rfl q372 q374 qs6 q59 q375 (by decide +kernel) rfl ⟨Nat.le_of_ble_eq_true rfl, Nat.le_of_ble_eq_true rfl⟩ hl.1 (Nat.le_of_ble_eq_true rfl) dX0_free_25 ⟨by first | exact Nat.le_of_ble_eq_true rfl | omega, by first | exact Nat.le_of_ble_eq_true rfl | omega⟩) (fun u H locs hp hX => ?_)
      obtain ⟨rn'_3, rt'_3, rowsN'_3, rowsT'_3⟩ := u
      have h25 : (∀ j, j < 864 → rowsN'_3 j = wyN (stE kind longOf letters words) 1 864 n_ j) := hp
      have hX : nvS D a0 (xW dA a rn'_3 rt'_3 trace len stand first allh hAll fault row hOf farOf rowsN'_3 rowsT'_3 mcW edW words mcR edR rdgs sh ex) s.heap H locs := hX
      refine W.cs (cells' := 0) (slots' := 0) (Nat.add_zero _) (Nat.add_zero _) ?_
      refine lv_aload_n zx zb dX0_free_28 rfl (lv_at hl 0 rfl) ?_
      refine lv_iconst (v := nI 0) zx zb dX0_free_29 (by decide) ?_
      refine nv_kl zC hX (nv_rV (n := 1) (As := [.int (nI 0)]) (rest := []) (q0 := 0) zC hX (mx_rowsWith (set := 0) (hs := (by omega))) (nvE_b a0 ez) (nvE_keep zG hX) rfl rfl q383 q385 qs8 q59 q386 (by decide +kernel) rfl ⟨Nat.le_of_ble_eq_true rfl, Nat.le_of_ble_eq_true rfl⟩ hl.1 (Nat.le_of_ble_eq_true rfl) dX0_free_30 ⟨by first | exact Nat.le_of_ble_eq_true rfl | omega, by first | exact Nat.le_of_ble_eq_true rfl | omega⟩) (fun r u H locs hp hX => ?_)
      have hr_ : r = lN (sumUp (fun j => rowsN'_3 (54 * 0 + (j + 1))) 53) := hp
      subst hr_
      have hX : nvS D a0 (xW dA a rn'_3 rt'_3 trace len stand first allh hAll fault row hOf farOf rowsN'_3 rowsT'_3 mcW edW words mcR edR rdgs sh ex) s.heap H locs := hX
      refine W.cs (cells' := 0) (slots' := 0) (Nat.add_zero _) (Nat.add_zero _) ?_
      rw [← zQ]
      exact nv_endl zC zr zk (rn'_3, rt'_3, rowsN'_3, rowsT'_3) hX (by (try dsimp only); unfold F_have; rw [if_pos ⟨c9, by omega⟩, en_]; exact congrArg lN ((sumUp_cg fun j hj => h25 _ (by omega)).trans (wy_sum hok n_ (by omega)))) (by omega) (by omega) dX0_free_33
    · refine lv_ldc2 (v := (-9223372036854775808)) zx zb zC.2.2.2.1 (zC.2.2.2.2.1 _ q371) dX0_free_19 ?_
      rw [← zQ]
      exact nv_endl zC zr zk (rn, rt, rowsN, rowsT) hX (by (try dsimp only); unfold F_have; rw [if_neg (fun z => by have := of_decide_eq_true c16; omega)]) (by omega) (by omega) dX0_free_22

set_option maxHeartbeats 4000000 in
theorem mx_greatestOf  (u_ : Nat) (d : Nat) (hu : u_ < 2 ^ 63) (hd : d < 2 ^ 63) : nMt l D dA a0 yX0_greatestOf cX0_greatestOf 10 (some .long) 1 12 0 0 nvG0 [.long (lN u_), .long (lN d)] (ex) (nQl D a0 (fun (r : Int64) (_ : Unit) => r = lN (Nat.gcd u_ d)) (fun (_ : Unit) => ex)) := by
  refine nv_start (by decide) (Nat.le_of_ble_eq_true rfl) fun zp ze s zm zlo zme zcd ls zC zr zk znm hX zG hl => ?_
  have zx := zC.1
  have zb := zC.2.1
  generalize zargs : ([.long (lN u_), .long (lN d)] : List Value).toArray = zar at zC ⊢
  generalize zQ : MQ zlo _ zar s _ _ _ = Q
  have hX : nvS D a0 (ex) s.heap s.heap [] := hX
  have hl : lv_has ls 10 [(0, .long (lN u_)), (2, .long (lN d))] := hl
  obtain ⟨H, zH⟩ : ∃ H, H = s.heap := ⟨_, rfl⟩
  have hX : nvS D a0 (ex) s.heap H [] := by rw [zH]; exact hX
  rw [show W zp l ze (rm_ 1 12 0 0) s zm zar zlo zme zcd s.heap [] 0 0 Q = W zp l ze (rm_ 1 12 0 0) s zm zar zlo zme zcd H [] 0 0 Q by rw [zH]]
  generalize ([] : List Loc) = locs at hX ⊢
  refine lv_lload_n zx zb dX0_greatestOf_0 rfl (lv_at hl 0 rfl) ?_
  refine lv_lstore (lv' := [(4, .long (lN u_)), (0, .long (lN u_)), (2, .long (lN d))]) zx zb dX0_greatestOf_1 hl (by decide) rfl (fun ls hl => ?_)
  refine lv_lload_n zx zb dX0_greatestOf_3 rfl (lv_at hl 2 rfl) ?_
  refine lv_lstore (lv' := [(6, .long (lN d)), (4, .long (lN u_)), (0, .long (lN u_)), (2, .long (lN d))]) zx zb dX0_greatestOf_4 hl (by decide) rfl (fun ls hl => ?_)
  have L6 : ∀ (zn : Nat) (x y : Nat) (hg : Nat.gcd x y = Nat.gcd u_ d) (hx1 : x < 2 ^ 63) (hy1 : y < 2 ^ 63), y < zn → ∀ (H : Heap) (locs : List Loc) (ls : Array Slot), nvS D a0 (ex) s.heap H locs → lv_has ls 10 [(6, .long (lN y)), (4, .long (lN x)), (0, .long (lN u_)), (2, .long (lN d))] → W zp l ze (rm_ 1 12 0 0) s zm zar zlo zme zcd H locs 0 0 Q (F0 zm 6 ls []) := by
    intro zn
    induction zn with
    | zero => intro x y hg hx1 hy1 zf; exact absurd zf (Nat.not_lt_zero _)
    | succ zn ih6 =>
      intro x y hg hx1 hy1 zf H locs ls hX hl
      refine lv_lload zx zb dX0_greatestOf_6 (lv_at hl 0 rfl) ?_
      refine lv_lconst (v := lN 0) zx zb dX0_greatestOf_8 (by decide) ?_
      refine W.lcmp zx zb dX0_greatestOf_9 ?_
      refine lv_if_eq (x := lg_cmp (lN y) (lN 0)) (tgt := 31) zx zb dX0_greatestOf_10 (by decide) (fun c10 => ?_) (fun c10 => ?_)
      · have c10 := (lcN_eq hy1 (by decide)).mp c10
        have hxg : x = Nat.gcd u_ d := by rw [← hg, c10, Nat.gcd_zero_right]
        refine lv_lload zx zb dX0_greatestOf_31 (lv_at hl 1 rfl) ?_
        rw [← zQ]
        exact nv_endl zC zr zk () hX (by rw [hxg]) (by omega) (by omega) dX0_greatestOf_33
      · have c10 := fun z => c10 ((lcN_eq hy1 (by decide)).mpr z)
        have hy0 : 0 < y := Nat.pos_of_ne_zero c10
        refine lv_lload zx zb dX0_greatestOf_13 (lv_at hl 1 rfl) ?_
        refine lv_lload zx zb dX0_greatestOf_15 (lv_at hl 0 rfl) ?_
        refine nv_lrem zx zb hx1 hy0 hy1 dX0_greatestOf_17 ?_
        refine lv_lstore (lv' := [(8, .long (lN (x % y))), (6, .long (lN y)), (4, .long (lN x)), (0, .long (lN u_)), (2, .long (lN d))]) zx zb dX0_greatestOf_18 hl (by decide) rfl (fun ls hl => ?_)
        refine lv_lload zx zb dX0_greatestOf_20 (lv_at hl 1 rfl) ?_
        refine lv_lstore (lv' := [(4, .long (lN y)), (8, .long (lN (x % y))), (6, .long (lN y)), (0, .long (lN u_)), (2, .long (lN d))]) zx zb dX0_greatestOf_22 hl (by decide) rfl (fun ls hl => ?_)
        refine lv_lload zx zb dX0_greatestOf_24 (lv_at hl 1 rfl) ?_
        refine lv_lstore (lv' := [(6, .long (lN (x % y))), (4, .long (lN y)), (8, .long (lN (x % y))), (0, .long (lN u_)), (2, .long (lN d))]) zx zb dX0_greatestOf_26 hl (by decide) rfl (fun ls hl => ?_)
        refine lv_goto (tgt := 6) zx zb dX0_greatestOf_28 (by decide) ?_
        exact ih6 y (x % y) (gcd_s hg) hy1 (Nat.lt_trans (Nat.mod_lt _ hy0) hy1) (by have := Nat.mod_lt x hy0; omega) _ _ _ hX (lv_sub hl [0, 1, 3, 4] rfl)
  exact L6 _ u_ d rfl hu hd (Nat.lt_succ_self _) _ _ _ hX (lv_sub hl [0, 1, 2, 3] rfl)

set_option maxHeartbeats 4000000 in
theorem mx_odds  (n : Int32) (wh : Int32) (hW : wdIn dA (a 0) words kind longOf letters edW ez fW pa la ex) (hok : wOK words kind longOf letters) : nMt l D dA a0 yX0_odds cX0_odds 8 (some .long) 9 195 0 0 (nvE a0 ez) [.ref (a 0), .int n, .int wh] (xW dA a rn rt trace len stand first allh hAll fault row hOf farOf rowsN rowsT mcW edW words mcR edR rdgs sh ex) (nQl D a0 (fun (r : Int64) (u : Nat × Nat × (Nat → Nat) × (Nat → Nat)) => r = F_odds kind longOf letters words n wh) (fun (u : Nat × Nat × (Nat → Nat) × (Nat → Nat)) => xW dA a u.1 u.2.1 trace len stand first allh hAll fault row hOf farOf u.2.2.1 u.2.2.2 mcW edW words mcR edR rdgs sh ex)) := by
  refine nv_start (by decide) (Nat.le_of_ble_eq_true rfl) fun zp ze s zm zlo zme zcd ls zC zr zk znm hX zG hl => ?_
  have zx := zC.1
  have zb := zC.2.1
  generalize zargs : ([.ref (a 0), .int n, .int wh] : List Value).toArray = zar at zC ⊢
  generalize zQ : MQ zlo _ zar s _ _ _ = Q
  have hX : nvS D a0 (xW dA a rn rt trace len stand first allh hAll fault row hOf farOf rowsN rowsT mcW edW words mcR edR rdgs sh ex) s.heap s.heap [] := hX
  have hl : lv_has ls 8 [(0, .ref (a 0)), (1, .int n), (2, .int wh)] := hl
  obtain ⟨H, zH⟩ : ∃ H, H = s.heap := ⟨_, rfl⟩
  have hX : nvS D a0 (xW dA a rn rt trace len stand first allh hAll fault row hOf farOf rowsN rowsT mcW edW words mcR edR rdgs sh ex) s.heap H [] := by rw [zH]; exact hX
  rw [show W zp l ze (rm_ 9 195 0 0) s zm zar zlo zme zcd s.heap [] 0 0 Q = W zp l ze (rm_ 9 195 0 0) s zm zar zlo zme zcd H [] 0 0 Q by rw [zH]]
  generalize ([] : List Loc) = locs at hX ⊢
  have hw4 := hok.1
  have hp16 := pw4 hw4
  refine lv_iload_n zx zb dX0_odds_0 rfl (lv_at hl 1 rfl) ?_
  refine lv_i2l zx zb dX0_odds_1 rfl ?_
  refine lv_lconst (v := lN 0) zx zb dX0_odds_2 (by decide) ?_
  refine lv_ldc2 (v := lN 30) zx zb zC.2.2.2.1 (zC.2.2.2.2.1 _ q370) dX0_odds_3 ?_
  refine nv_ki zC hX (nv_rS (n := 3) (As := [.long n.toInt64, .long (lN 0), .long (lN 30)]) (rest := []) zC hX (mx_in (v := n.toInt64) (lo := lN 0) (hi := lN 30)) nvGb0 (fun _ _ _ => trivial) q197 q198 q59 q199 (by decide +kernel) rfl ⟨Nat.le_of_ble_eq_true rfl, Nat.le_of_ble_eq_true rfl⟩ hl.1 (Nat.le_of_ble_eq_true rfl) dX0_odds_6 ⟨by first | exact Nat.le_of_ble_eq_true rfl | omega, by first | exact Nat.le_of_ble_eq_true rfl | omega⟩) (fun r u H locs hp hX => ?_)
  have hr_ : r = nB (decide (lN 0 ≤ n.toInt64) && decide (n.toInt64 ≤ lN 30)) := hp
  subst hr_
  have hX : nvS D a0 (xW dA a rn rt trace len stand first allh hAll fault row hOf farOf rowsN rowsT mcW edW words mcR edR rdgs sh ex) s.heap H locs := hX
  refine W.cs (cells' := 0) (slots' := 0) (Nat.add_zero _) (Nat.add_zero _) ?_
  refine nv_as (show nB (decide (lN 0 ≤ n.toInt64) && decide (n.toInt64 ≤ lN 30)) = nB (inN n 0 30) from (congrArg nB (inN_l (by decide) (by decide)))) ?_
  refine nv_if_eqB (tgt := 29) zx zb dX0_odds_9 (by decide) (fun c9 => ?_) (fun c9 => ?_)
  · refine lv_ldc2 (v := (-9223372036854775808)) zx zb zC.2.2.2.1 (zC.2.2.2.2.1 _ q371) dX0_odds_29 ?_
    rw [← zQ]
    exact nv_endl zC zr zk (rn, rt, rowsN, rowsT) hX (by (try dsimp only); exact (if_neg (fun z => absurd (z.1.symm.trans c9) (by decide))).symm) (by omega) (by omega) dX0_odds_32
  · obtain ⟨jj, -, hj, rfl⟩ := inN_t (by decide) (by decide) c9
    have ej : i2n (nI jj) = jj := nI_clamp (by omega)
    refine lv_iload_n zx zb dX0_odds_12 rfl (lv_at hl 2 rfl) ?_
    refine lv_i2l zx zb dX0_odds_13 rfl ?_
    refine lv_lconst (v := lN 0) zx zb dX0_odds_14 (by decide) ?_
    refine lv_lconst (v := lN 1) zx zb dX0_odds_15 (by decide) ?_
    refine nv_ki zC hX (nv_rS (n := 3) (As := [.long wh.toInt64, .long (lN 0), .long (lN 1)]) (rest := []) zC hX (mx_in (v := wh.toInt64) (lo := lN 0) (hi := lN 1)) nvGb0 (fun _ _ _ => trivial) q197 q198 q59 q199 (by decide +kernel) rfl ⟨Nat.le_of_ble_eq_true rfl, Nat.le_of_ble_eq_true rfl⟩ hl.1 (Nat.le_of_ble_eq_true rfl) dX0_odds_16 ⟨by first | exact Nat.le_of_ble_eq_true rfl | omega, by first | exact Nat.le_of_ble_eq_true rfl | omega⟩) (fun r u H locs hp hX => ?_)
    have hr_ : r = nB (decide (lN 0 ≤ wh.toInt64) && decide (wh.toInt64 ≤ lN 1)) := hp
    subst hr_
    have hX : nvS D a0 (xW dA a rn rt trace len stand first allh hAll fault row hOf farOf rowsN rowsT mcW edW words mcR edR rdgs sh ex) s.heap H locs := hX
    refine W.cs (cells' := 0) (slots' := 0) (Nat.add_zero _) (Nat.add_zero _) ?_
    refine nv_as (show nB (decide (lN 0 ≤ wh.toInt64) && decide (wh.toInt64 ≤ lN 1)) = nB (inN wh 0 1) from (congrArg nB (inN_l (by decide) (by decide)))) ?_
    refine nv_if_eqB (tgt := 29) zx zb dX0_odds_19 (by decide) (fun c19 => ?_) (fun c19 => ?_)
    · refine lv_ldc2 (v := (-9223372036854775808)) zx zb zC.2.2.2.1 (zC.2.2.2.2.1 _ q371) dX0_odds_29 ?_
      rw [← zQ]
      exact nv_endl zC zr zk (rn, rt, rowsN, rowsT) hX (by (try dsimp only); exact (if_neg (fun z => absurd (z.2.1.symm.trans c19) (by decide))).symm) (by omega) (by omega) dX0_odds_32
    · obtain ⟨uu, -, hu, rfl⟩ := inN_t (by decide) (by decide) c19
      refine lv_aload_n zx zb dX0_odds_22 rfl (lv_at hl 0 rfl) ?_
      refine nv_ki zC hX (nv_rV (n := 0) (As := []) (rest := []) (q0 := 0) zC hX (mx_noWords (hw := (by first | assumption | omega))) (nvE_b a0 ez) (nvE_keep zG hX) rfl rfl q332 q334 qs4 q59 q335 (by decide +kernel) rfl ⟨Nat.le_of_ble_eq_true rfl, Nat.le_of_ble_eq_true rfl⟩ hl.1 (Nat.le_of_ble_eq_true rfl) dX0_odds_23 ⟨by first | exact Nat.le_of_ble_eq_true rfl | omega, by first | exact Nat.le_of_ble_eq_true rfl | omega⟩) (fun r u H locs hp hX => ?_)
      have hr_ : r = nB (decide (words = 0)) := hp
      subst hr_
      have hX : nvS D a0 (xW dA a rn rt trace len stand first allh hAll fault row hOf farOf rowsN rowsT mcW edW words mcR edR rdgs sh ex) s.heap H locs := hX
      refine W.cs (cells' := 0) (slots' := 0) (Nat.add_zero _) (Nat.add_zero _) ?_
      refine nv_if_eqB (tgt := 33) zx zb dX0_odds_26 (by decide) (fun c26 => ?_) (fun c26 => ?_)
      · have e_ := of_decide_eq_false c26
        have hp30 : 3 ^ jj < 2 ^ 63 := Nat.lt_of_le_of_lt (Nat.pow_le_pow_right (by decide) (show jj ≤ 30 by omega)) (by decide)
        have hwb : hvN kind longOf letters words jj < 2 ^ 63 := Nat.lt_of_le_of_lt (sumUp_st (f := wyN (stC kind longOf letters words) 0 640 jj) (by omega) 40) (by rw [wyN_sum (by decide) (fun k c _ hc => stC_lt hw4 hc)]; exact hp30)
        have hgp : 0 < Nat.gcd (3 ^ jj) (hvN kind longOf letters words jj) := Nat.gcd_pos_of_pos_left _ (Nat.pow_pos (by decide))
        have hgl : Nat.gcd (3 ^ jj) (hvN kind longOf letters words jj) < 2 ^ 63 := Nat.lt_of_le_of_lt (Nat.gcd_le_left _ (Nat.pow_pos (by decide))) hp30
        refine lv_aload_n zx zb dX0_odds_33 rfl (lv_at hl 0 rfl) ?_
        refine lv_iload_n zx zb dX0_odds_34 rfl (lv_at hl 1 rfl) ?_
        refine nv_kl zC hX (nv_rV (n := 1) (As := [.int (nI jj)]) (rest := []) (q0 := 0) zC hX (mx_have (n := nI jj) (hW := (by first | assumption | omega)) (hok := (by first | assumption | omega))) (nvE_b a0 ez) (nvE_keep zG hX) rfl rfl q505 q367 q368 q59 q369 (by decide +kernel) rfl ⟨Nat.le_of_ble_eq_true rfl, Nat.le_of_ble_eq_true rfl⟩ hl.1 (Nat.le_of_ble_eq_true rfl) dX0_odds_35 ⟨by first | exact Nat.le_of_ble_eq_true rfl | omega, by first | exact Nat.le_of_ble_eq_true rfl | omega⟩) (fun r u H locs hp hX => ?_)
        obtain ⟨rn'_4, rt'_4, rowsN'_4, rowsT'_4⟩ := u
        have hr_ : r = F_have kind longOf letters words (nI jj) (2 ^ words - 1) := hp
        subst hr_
        have hX : nvS D a0 (xW dA a rn'_4 rt'_4 trace len stand first allh hAll fault row hOf farOf rowsN'_4 rowsT'_4 mcW edW words mcR edR rdgs sh ex) s.heap H locs := hX
        refine W.cs (cells' := 0) (slots' := 0) (Nat.add_zero _) (Nat.add_zero _) ?_
        refine nv_asl (show F_have kind longOf letters words (nI jj) (2 ^ words - 1) = lN (hvN kind longOf letters words jj) from (by unfold F_have; rw [if_pos ⟨c9, by omega⟩]; exact congrArg (fun z => lN (sumUp (fun e => wyN (stC kind longOf letters words) 0 640 z (16 * e + (2 ^ words - 1))) 40)) ej)) ?_
        refine lv_lstore_n (lv' := [(3, .long (lN (hvN kind longOf letters words jj))), (0, .ref (a 0)), (1, .int (nI jj)), (2, .int (nI uu))]) zx zb dX0_odds_38 rfl hl (by decide) rfl (fun ls hl => ?_)
        refine lv_lconst (v := lN 1) zx zb dX0_odds_39 (by decide) ?_
        refine lv_lstore (lv' := [(5, .long (lN 1)), (3, .long (lN (hvN kind longOf letters words jj))), (0, .ref (a 0)), (1, .int (nI jj)), (2, .int (nI uu))]) zx zb dX0_odds_40 hl (by decide) rfl (fun ls hl => ?_)
        refine lv_iconst (v := nI 0) zx zb dX0_odds_42 (by decide) ?_
        refine lv_istore (lv' := [(7, .int (nI 0)), (5, .long (lN 1)), (3, .long (lN (hvN kind longOf letters words jj))), (0, .ref (a 0)), (1, .int (nI jj)), (2, .int (nI uu))]) zx zb dX0_odds_43 hl (by decide) rfl (fun ls hl => ?_)
        have L45 : ∀ (zn : Nat) (k : Nat) (hk : k ≤ jj), jj - k < zn → ∀ (H : Heap) (locs : List Loc) (ls : Array Slot), nvS D a0 (xW dA a rn'_4 rt'_4 trace len stand first allh hAll fault row hOf farOf rowsN'_4 rowsT'_4 mcW edW words mcR edR rdgs sh ex) s.heap H locs → lv_has ls 8 [(7, .int (nI k)), (5, .long (lN (3 ^ k))), (3, .long (lN (hvN kind longOf letters words jj))), (0, .ref (a 0)), (1, .int (nI jj)), (2, .int (nI uu))] → W zp l ze (rm_ 9 195 0 0) s zm zar zlo zme zcd H locs 0 0 Q (F0 zm 45 ls []) := by
          intro zn
          induction zn with
          | zero => intro k hk zf; exact absurd zf (Nat.not_lt_zero _)
          | succ zn ih45 =>
            intro k hk zf H locs ls hX hl
            refine lv_iload zx zb dX0_odds_45 (lv_at hl 0 rfl) ?_
            refine lv_iload_n zx zb dX0_odds_47 rfl (lv_at hl 4 rfl) ?_
            refine nv_icmp_ge (tgt := 65) zx zb (by omega) (by omega) dX0_odds_48 (by decide) (fun c48 => ?_) (fun c48 => ?_)
            · have e2_ : k = jj := (by omega)
              rw [e2_] at hl
              refine lv_iload_n zx zb dX0_odds_65 rfl (lv_at hl 5 rfl) ?_
              refine nv_if_ne (tgt := 73) zx zb (by omega) dX0_odds_66 (by decide) (fun c66 => ?_) (fun c66 => ?_)
              · refine lv_lload zx zb dX0_odds_73 (lv_at hl 1 rfl) ?_
                refine lv_lload zx zb dX0_odds_75 (lv_at hl 1 rfl) ?_
                refine lv_lload_n zx zb dX0_odds_77 rfl (lv_at hl 2 rfl) ?_
                refine nv_kl zC hX (nv_rS (n := 2) (As := [.long (lN (3 ^ jj)), .long (lN (hvN kind longOf letters words jj))]) (rest := [.long (lN (3 ^ jj))]) zC hX (mx_greatestOf (u_ := 3 ^ jj) (d := hvN kind longOf letters words jj) (hu := hp30) (hd := hwb)) nvGb0 (fun _ _ _ => trivial) q507 q508 q59 q509 (by decide +kernel) rfl ⟨Nat.le_of_ble_eq_true rfl, Nat.le_of_ble_eq_true rfl⟩ hl.1 (Nat.le_of_ble_eq_true rfl) dX0_odds_78 ⟨by first | exact Nat.le_of_ble_eq_true rfl | omega, by first | exact Nat.le_of_ble_eq_true rfl | omega⟩) (fun r u H locs hp hX => ?_)
                have hr_ : r = lN (Nat.gcd (3 ^ jj) (hvN kind longOf letters words jj)) := hp
                subst hr_
                have hX : nvS D a0 (xW dA a rn'_4 rt'_4 trace len stand first allh hAll fault row hOf farOf rowsN'_4 rowsT'_4 mcW edW words mcR edR rdgs sh ex) s.heap H locs := hX
                refine W.cs (cells' := 0) (slots' := 0) (Nat.add_zero _) (Nat.add_zero _) ?_
                refine nv_ldiv zx zb (by first | exact hwb | exact hp30) hgp hgl dX0_odds_81 ?_
                rw [← zQ]
                exact nv_endl zC zr zk (rn'_4, rt'_4, rowsN'_4, rowsT'_4) hX (by (try dsimp only); rw [F_odds_v c9 c19 (by omega) hj hu, Nat.gcd_comm (3 ^ jj), if_neg (by omega)]) (by omega) (by omega) dX0_odds_82
              · refine lv_lload_n zx zb dX0_odds_69 rfl (lv_at hl 2 rfl) ?_
                refine lv_goto (tgt := 75) zx zb dX0_odds_70 (by decide) ?_
                refine lv_lload zx zb dX0_odds_75 (lv_at hl 1 rfl) ?_
                refine lv_lload_n zx zb dX0_odds_77 rfl (lv_at hl 2 rfl) ?_
                refine nv_kl zC hX (nv_rS (n := 2) (As := [.long (lN (3 ^ jj)), .long (lN (hvN kind longOf letters words jj))]) (rest := [.long (lN (hvN kind longOf letters words jj))]) zC hX (mx_greatestOf (u_ := 3 ^ jj) (d := hvN kind longOf letters words jj) (hu := hp30) (hd := hwb)) nvGb0 (fun _ _ _ => trivial) q507 q508 q59 q509 (by decide +kernel) rfl ⟨Nat.le_of_ble_eq_true rfl, Nat.le_of_ble_eq_true rfl⟩ hl.1 (Nat.le_of_ble_eq_true rfl) dX0_odds_78 ⟨by first | exact Nat.le_of_ble_eq_true rfl | omega, by first | exact Nat.le_of_ble_eq_true rfl | omega⟩) (fun r u H locs hp hX => ?_)
                have hr_ : r = lN (Nat.gcd (3 ^ jj) (hvN kind longOf letters words jj)) := hp
                subst hr_
                have hX : nvS D a0 (xW dA a rn'_4 rt'_4 trace len stand first allh hAll fault row hOf farOf rowsN'_4 rowsT'_4 mcW edW words mcR edR rdgs sh ex) s.heap H locs := hX
                refine W.cs (cells' := 0) (slots' := 0) (Nat.add_zero _) (Nat.add_zero _) ?_
                refine nv_ldiv zx zb (by first | exact hwb | exact hp30) hgp hgl dX0_odds_81 ?_
                rw [← zQ]
                exact nv_endl zC zr zk (rn'_4, rt'_4, rowsN'_4, rowsT'_4) hX (by (try dsimp only); rw [F_odds_v c9 c19 (by omega) hj hu, Nat.gcd_comm (3 ^ jj), if_pos c66]) (by omega) (by omega) dX0_odds_82
            · refine lv_lload zx zb dX0_odds_51 (lv_at hl 1 rfl) ?_
              refine lv_ldc2 (v := lN 3) zx zb zC.2.2.2.1 (zC.2.2.2.2.1 _ q506) dX0_odds_53 ?_
              refine nv_lmul zx zb dX0_odds_56 ?_
              refine nv_asl (show lN ((3 ^ k) * 3) = lN (3 ^ (k + 1)) from (congrArg lN (Nat.pow_succ 3 k).symm)) ?_
              refine lv_lstore (lv' := [(5, .long (lN (3 ^ (k + 1)))), (7, .int (nI k)), (3, .long (lN (hvN kind longOf letters words jj))), (0, .ref (a 0)), (1, .int (nI jj)), (2, .int (nI uu))]) zx zb dX0_odds_57 hl (by decide) rfl (fun ls hl => ?_)
              refine lv_iinc (v := nI (k + 1)) (lv' := [(7, .int (nI (k + 1))), (5, .long (lN (3 ^ (k + 1)))), (3, .long (lN (hvN kind longOf letters words jj))), (0, .ref (a 0)), (1, .int (nI jj)), (2, .int (nI uu))]) zx zb dX0_odds_59 hl (k := 1) rfl (nI_1 _) (by decide) rfl (fun ls hl => ?_)
              refine lv_goto (tgt := 45) zx zb dX0_odds_62 (by decide) ?_
              exact ih45 (k + 1) (by omega) (by omega) _ _ _ hX (lv_sub hl [0, 1, 2, 3, 4, 5] rfl)
        exact L45 _ 0 (by omega) (Nat.lt_succ_self _) _ _ _ hX (lv_sub hl [0, 1, 2, 3, 4, 5] rfl)
      · refine lv_ldc2 (v := (-9223372036854775808)) zx zb zC.2.2.2.1 (zC.2.2.2.2.1 _ q371) dX0_odds_29 ?_
        rw [← zQ]
        exact nv_endl zC zr zk (rn, rt, rowsN, rowsT) hX (by (try dsimp only); exact (if_neg (fun z => (by have := of_decide_eq_true c26; omega))).symm) (by omega) (by omega) dX0_odds_32
end CL_44_c7
