/-! printed by klass2.py -/
set_option maxRecDepth 100000
section CL_70_e5
variable {l : Launch} {D : va_G} {dA : Nat → ClassId} {a0 ez : Nat} {ex : va_W} {a : Nat → Nat} {rn : Nat} {rt : Nat} {trace : Int32} {len : Nat} {stand : Nat} {first : Option Nat} {allh : Option Nat} {hAll : Nat} {fault : Int32} {row : Nat → Nat} {hOf : Nat → Nat} {farOf : Nat → Option Nat} {rowsN : Nat → Nat} {rowsT : Nat → Nat} {mcW : Int32} {edW : Nat} {words : Nat} {mcR : Int32} {edR : Nat} {rdgs : Nat} {sh : Nat → Option Nat} {kind longOf letters : Nat → Nat} {fW : Nat → Option Nat} {pa la : Nat → Nat} {rWord rMany rStands rRow : Nat → Nat} {fR : Nat → Option Nat} {pr lr : Nat → Nat} {so : Nat → Option Nat} {shL : Nat → Nat} {cl : Nat → Int32} {pS lS col : Nat → Nat} {ow : va_W} {mo : Nat}
set_option maxHeartbeats 4000000 in
theorem mx_wordsIn  (x0 : Nat) (xfs : List Value) (cl_ : Nat → Int32) (p_ : Nat) (m_ : Nat) (rd : va_W) (mc0 : Int32) (ed0 : Nat) (f0 : Nat → Option Nat) (ex : va_W) (ra_ : Nat) (zfr : Nat) (zl : Nat) (hra : (ra_, aI dA m_ (cfN cl_ p_ m_)) ∈ ex) (hx0 : (x0, .inr (0, xfs)) ∈ ex) (hm : m_ ≤ 60) (hm1 : 1 ≤ m_) (hr0 : rdL dA x0 zl ed0 mc0 0 f0 (fun _ => 0) (fun _ => 0) (fun _ => 0) (fun _ => 0) (fun _ => 0) rd) : nMt l D dA a0 yX0_wordsIn cX0_wordsIn 9 (some .int) 5 108 12 48 (nvE a0 ez) [.ref x0, .ref ra_, .int (nI 1), .ref zl] ((rd ++ ex)) (nQi D a0 (fun (r : Int32) (u : va_W × Int32 × Nat × (Nat → Option Nat) × (Nat → Nat) × (Nat → Nat) × (Nat → Nat) × (Nat → Nat) × (Nat → Nat)) => r = (if (pRun cl_ (p_ + m_) 4 0 (p_ + 1)).1 = true then nI 0 else (-100) - nI ((pRun cl_ (p_ + m_) 4 0 (p_ + 1)).2.1 - p_)) ∧ ((pRun cl_ (p_ + m_) 4 0 (p_ + 1)).1 = true → u.2.2.1 = (pRun cl_ (p_ + m_) 4 0 (p_ + 1)).2.2 ∧ 0 < u.2.2.1 ∧ u.2.2.1 ≤ 4 ∧ rdL dA x0 zl ed0 u.2.1 u.2.2.1 u.2.2.2.1 u.2.2.2.2.1 u.2.2.2.2.2.1 u.2.2.2.2.2.2.1 u.2.2.2.2.2.2.2.1 u.2.2.2.2.2.2.2.2 u.1 ∧ wdsOK cl_ (p_ + m_) p_ u.2.2.1 (fun w => some (u.2.2.2.2.1 w)) u.2.2.2.2.2.1 u.2.2.2.2.2.2.1 ∧ (∀ w, u.2.2.2.2.1 w < 3) ∧ (∀ w, u.2.2.2.2.2.1 w ≤ 4) ∧ (∀ j, u.2.2.2.2.2.2.1 j < 3) ∧ ∀ w, w < u.2.2.1 → 1 ≤ u.2.2.2.2.2.1 w)) (fun (u : va_W × Int32 × Nat × (Nat → Option Nat) × (Nat → Nat) × (Nat → Nat) × (Nat → Nat) × (Nat → Nat) × (Nat → Nat)) => (u.1 ++ ex))) := by
  refine nv_start (by decide) (Nat.le_of_ble_eq_true rfl) fun zp ze s zm zlo zme zcd ls zC zr zk znm hX zG hl => ?_
  have zx := zC.1
  have zb := zC.2.1
  generalize zargs : ([.ref x0, .ref ra_, .int (nI 1), .ref zl] : List Value).toArray = zar at zC ⊢
  generalize zQ : MQ zlo _ zar s _ _ _ = Q
  have hX : nvS D a0 ((rd ++ ex)) s.heap s.heap [] := hX
  have hl : lv_has ls 9 [(0, .ref x0), (1, .ref ra_), (2, .int (nI 1)), (3, .ref zl)] := hl
  obtain ⟨H, zH⟩ : ∃ H, H = s.heap := ⟨_, rfl⟩
  have hX : nvS D a0 ((rd ++ ex)) s.heap H [] := by rw [zH]; exact hX
  rw [show W zp l ze (rm_ 5 108 12 48) s zm zar zlo zme zcd s.heap [] 0 0 Q = W zp l ze (rm_ 5 108 12 48) s zm zar zlo zme zcd H [] 0 0 Q by rw [zH]]
  generalize ([] : List Loc) = locs at hX ⊢
  refine lv_iload_n zx zb dX0_wordsIn_0 rfl (lv_at hl 2 rfl) ?_
  refine lv_istore (lv' := [(4, .int (nI 1)), (0, .ref x0), (1, .ref ra_), (2, .int (nI 1)), (3, .ref zl)]) zx zb dX0_wordsIn_1 hl (by decide) rfl (fun ls hl => ?_)
  have L3 : ∀ (zn : Nat) (r_ at_ : Nat) (rd_ : va_W) (mc_ : Int32) (f_ : Nat → Option Nat) (kd_ ln_ lt_ pa_ la_ : Nat → Nat) (hr4 : r_ ≤ 4) (hat1 : 1 ≤ at_) (hat : at_ ≤ m_) (hrun : pRun cl_ (p_ + m_) 4 0 (p_ + 1) = pRun cl_ (p_ + m_) (4 - r_) r_ (p_ + at_)) (hrd : rdL dA x0 zl ed0 mc_ r_ f_ kd_ ln_ lt_ pa_ la_ rd_) (hws : wdsOK cl_ (p_ + m_) p_ r_ (fun w => some (kd_ w)) ln_ lt_) (hpos : pPos cl_ (p_ + m_) p_ r_ = p_ + at_) (hkd : ∀ w, kd_ w < 3) (hln : ∀ w, ln_ w ≤ 4) (hlt : ∀ j, lt_ j < 3) (hl1 : ∀ w, w < r_ → 1 ≤ ln_ w), 5 - r_ < zn → ∀ (H : Heap) (locs : List Loc) (ls : Array Slot), nvS D a0 ((rd_ ++ ex)) s.heap H locs → lv_has ls 9 [(4, .int (nI at_)), (0, .ref x0), (1, .ref ra_), (2, .int (nI 1)), (3, .ref zl)] → W zp l ze (rm_ 5 108 12 48) s zm zar zlo zme zcd H locs (3 * r_) (12 * r_) Q (F0 zm 3 ls []) := by
    intro zn
    induction zn with
    | zero => intro r_ at_ rd_ mc_ f_ kd_ ln_ lt_ pa_ la_ hr4 hat1 hat hrun hrd hws hpos hkd hln hlt hl1 zf; exact absurd zf (Nat.not_lt_zero _)
    | succ zn ih3 =>
      intro r_ at_ rd_ mc_ f_ kd_ ln_ lt_ pa_ la_ hr4 hat1 hat hrun hrd hws hpos hkd hln hlt hl1 zf H locs ls hX hl
      refine lv_aload_n zx zb dX0_wordsIn_3 rfl (lv_at hl 4 rfl) ?_
      obtain ⟨yl, hyl⟩ := List.getElem?_of_mem (show (zl, .inr (12, [.int mc_, .ref ed0, .int (nI r_)])) ∈ (rd_ ++ ex) from mem_app _ hrd.1)
      refine nv_kFi zC hX (nv_rF (q := (RJ2, TJ2, 3)) (x := ⟨"java/util/List", "isEmpty", "()Z"⟩) (y := yJ2_isEmpty) (n := 0) (As := []) (rest := []) (q0 := yl) zC hX (mj_isEmpty (zh := zl) (mc := mc_) (ed := ed0) (n := r_) (hm := (mem_app _ hrd.1)) (hn := (by omega))) nvGb0 (fun _ _ _ => trivial) (nvE_f2 zG) hyl rfl q337 q342 q340 q62 q344 (by decide +kernel) rfl ⟨Nat.le_of_ble_eq_true rfl, Nat.le_of_ble_eq_true rfl⟩ hl.1 (Nat.le_of_ble_eq_true rfl) dX0_wordsIn_4 ⟨by show 3 * r_ + 0 ≤ 12; omega, by show 12 * r_ + 0 ≤ 48; omega⟩) (fun r u H locs hp hX => ?_)
      have hr_ : r = nB (decide (r_ = 0)) := hp
      subst hr_
      have hX : nvS D a0 ((rd_ ++ ex)) s.heap H locs := hX
      refine W.cs (cells' := 3 * r_) (slots' := 12 * r_) (Nat.add_zero _) (Nat.add_zero _) ?_
      have J19 : ∀  (hgo : r_ = 0 ∨ at_ < m_) (H : Heap) (locs : List Loc) (ls : Array Slot), nvS D a0 ((rd_ ++ ex)) s.heap H locs → lv_has ls 9 [(4, .int (nI at_)), (0, .ref x0), (1, .ref ra_), (2, .int (nI 1)), (3, .ref zl)] → W zp l ze (rm_ 5 108 12 48) s zm zar zlo zme zcd H locs (3 * r_) (12 * r_) Q (F0 zm 19 ls []) := by
        intro  hgo H locs ls hX hl
        refine lv_aload_n zx zb dX0_wordsIn_19 rfl (lv_at hl 4 rfl) ?_
        obtain ⟨yl, hyl⟩ := List.getElem?_of_mem (show (zl, .inr (12, [.int mc_, .ref ed0, .int (nI r_)])) ∈ (rd_ ++ ex) from mem_app _ hrd.1)
        refine nv_kFi zC hX (nv_rF (q := (RJ2, TJ2, 3)) (x := ⟨"java/util/List", "size", "()I"⟩) (y := yJ2_size) (n := 0) (As := []) (rest := []) (q0 := yl) zC hX (mj_size (zh := zl) (mc := mc_) (ed := ed0) (n := r_) (hm := (mem_app _ hrd.1))) nvGb0 (fun _ _ _ => trivial) (nvE_f0 zG) hyl rfl q188 q194 q192 q62 q196 (by decide +kernel) rfl ⟨Nat.le_of_ble_eq_true rfl, Nat.le_of_ble_eq_true rfl⟩ hl.1 (Nat.le_of_ble_eq_true rfl) dX0_wordsIn_20 ⟨by show 3 * r_ + 0 ≤ 12; omega, by show 12 * r_ + 0 ≤ 48; omega⟩) (fun r u H locs hp hX => ?_)
        have hr_ : r = nI r_ := hp
        subst hr_
        have hX : nvS D a0 ((rd_ ++ ex)) s.heap H locs := hX
        refine W.cs (cells' := 3 * r_) (slots' := 12 * r_) (Nat.add_zero _) (Nat.add_zero _) ?_
        refine lv_iconst (v := nI 4) zx zb dX0_wordsIn_25 (by decide) ?_
        refine nv_icmp_eq (tgt := 40) zx zb (by omega) (by decide) dX0_wordsIn_26 (by decide) (fun c26 => ?_) (fun c26 => ?_)
        · refine lv_bipush (v := (-100)) zx zb dX0_wordsIn_40 (by decide) ?_
          refine lv_iload zx zb dX0_wordsIn_42 (lv_at hl 0 rfl) ?_
          refine lv_isub zx zb dX0_wordsIn_44 ?_
          rw [← zQ]
          exact nv_endi zC zr zk (rd_, mc_, r_, f_, kd_, ln_, lt_, pa_, la_) hX (have e_ := wi_e (Or.inl c26) hrun; have n_ : at_ ≠ m_ := (by omega); ⟨by rw [e_, decide_eq_false n_]; show _ = if false = true then _ else (-100) - nI (p_ + at_ - p_); rw [if_neg (by decide), Nat.add_sub_cancel_left], fun z => by rw [e_, decide_eq_false n_] at z; cases z⟩) (by show 3 * r_ ≤ 12; omega) (by show 12 * r_ ≤ 48; omega) dX0_wordsIn_45
        · refine lv_aload_n zx zb dX0_wordsIn_29 rfl (lv_at hl 2 rfl) ?_
          refine lv_iload zx zb dX0_wordsIn_30 (lv_at hl 0 rfl) ?_
          refine nv_ki zC hX (nv_rS (n := 2) (As := [.ref ra_, .int (nI at_)]) (rest := []) zC hX (mx_codeAt (cl_ := cl_) (p_ := p_) (m_ := m_) (ra_ := ra_) (at_ := at_) (hr := (List.mem_append_right _ hra)) (hm := hm) (hat := (by omega))) nvGb0 (fun _ _ _ => trivial) q826 q827 q59 q828 (by decide +kernel) rfl ⟨Nat.le_of_ble_eq_true rfl, Nat.le_of_ble_eq_true rfl⟩ hl.1 (Nat.le_of_ble_eq_true rfl) dX0_wordsIn_32 ⟨by show 3 * r_ + 0 ≤ 12; omega, by show 12 * r_ + 0 ≤ 48; omega⟩) (fun r u H locs hp hX => ?_)
          have hr_ : r = cdA cl_ p_ m_ at_ := hp
          subst hr_
          have hX : nvS D a0 ((rd_ ++ ex)) s.heap H locs := hX
          refine W.cs (cells' := 3 * r_) (slots' := 12 * r_) (Nat.add_zero _) (Nat.add_zero _) ?_
          refine lv_bipush (v := nI 59) zx zb dX0_wordsIn_35 (by decide) ?_
          refine lv_icmp_eq (x := cdA cl_ p_ m_ at_) (y := nI 59) (tgt := 46) zx zb dX0_wordsIn_37 (by decide) (fun c37 => ?_) (fun c37 => ?_)
          · have h59 := (cdA_i (by decide)).mp c37
            refine lv_aload_n zx zb dX0_wordsIn_46 rfl (lv_at hl 2 rfl) ?_
            refine lv_iload zx zb dX0_wordsIn_47 (lv_at hl 0 rfl) ?_
            refine lv_iconst (v := nI 1) zx zb dX0_wordsIn_49 (by decide) ?_
            refine nv_iadd zx zb dX0_wordsIn_50 ?_
            refine nv_ki zC hX (nv_rS (n := 2) (As := [.ref ra_, .int (nI (at_ + 1))]) (rest := []) zC hX (mx_codeAt (cl_ := cl_) (p_ := p_) (m_ := m_) (ra_ := ra_) (at_ := at_ + 1) (hr := (List.mem_append_right _ hra)) (hm := hm) (hat := (by omega))) nvGb0 (fun _ _ _ => trivial) q826 q827 q59 q828 (by decide +kernel) rfl ⟨Nat.le_of_ble_eq_true rfl, Nat.le_of_ble_eq_true rfl⟩ hl.1 (Nat.le_of_ble_eq_true rfl) dX0_wordsIn_51 ⟨by show 3 * r_ + 0 ≤ 12; omega, by show 12 * r_ + 0 ≤ 48; omega⟩) (fun r u H locs hp hX => ?_)
            have hr_ : r = cdA cl_ p_ m_ (at_ + 1) := hp
            subst hr_
            have hX : nvS D a0 ((rd_ ++ ex)) s.heap H locs := hX
            refine W.cs (cells' := 3 * r_) (slots' := 12 * r_) (Nat.add_zero _) (Nat.add_zero _) ?_
            refine lv_istore (lv' := [(5, .int (cdA cl_ p_ m_ (at_ + 1))), (4, .int (nI at_)), (0, .ref x0), (1, .ref ra_), (2, .int (nI 1)), (3, .ref zl)]) zx zb dX0_wordsIn_54 hl (by decide) rfl (fun ls hl => ?_)
            have J104 : ∀ (kd : Nat) (hk3 : kd < 3) (hpk : pK cl_ (p_ + m_) (p_ + at_ + 1) = some kd) (H : Heap) (locs : List Loc) (ls : Array Slot), nvS D a0 ((rd_ ++ ex)) s.heap H locs → lv_has ls 9 [(5, .int (cdA cl_ p_ m_ (at_ + 1))), (4, .int (nI at_)), (0, .ref x0), (1, .ref ra_), (2, .int (nI 1)), (3, .ref zl), (6, .int (nI kd))] → W zp l ze (rm_ 5 108 12 48) s zm zar zlo zme zcd H locs (3 * r_) (12 * r_) Q (F0 zm 104 ls []) := by
              intro kd hk3 hpk H locs ls hX hl
              refine lv_aload_n zx zb dX0_wordsIn_104 rfl (lv_at hl 3 rfl) ?_
              refine lv_iload zx zb dX0_wordsIn_105 (lv_at hl 1 rfl) ?_
              refine lv_iconst (v := nI 2) zx zb dX0_wordsIn_107 (by decide) ?_
              refine nv_iadd zx zb dX0_wordsIn_108 ?_
              refine nv_ki zC hX (nv_rS (n := 2) (As := [.ref ra_, .int (nI (at_ + 2))]) (rest := []) zC hX (mx_codeAt (cl_ := cl_) (p_ := p_) (m_ := m_) (ra_ := ra_) (at_ := at_ + 2) (hr := (List.mem_append_right _ hra)) (hm := hm) (hat := (by omega))) nvGb0 (fun _ _ _ => trivial) q826 q827 q59 q828 (by decide +kernel) rfl ⟨Nat.le_of_ble_eq_true rfl, Nat.le_of_ble_eq_true rfl⟩ hl.1 (Nat.le_of_ble_eq_true rfl) dX0_wordsIn_109 ⟨by show 3 * r_ + 0 ≤ 12; omega, by show 12 * r_ + 0 ≤ 48; omega⟩) (fun r u H locs hp hX => ?_)
              have hr_ : r = cdA cl_ p_ m_ (at_ + 2) := hp
              subst hr_
              have hX : nvS D a0 ((rd_ ++ ex)) s.heap H locs := hX
              refine W.cs (cells' := 3 * r_) (slots' := 12 * r_) (Nat.add_zero _) (Nat.add_zero _) ?_
              refine lv_bipush (v := nI 47) zx zb dX0_wordsIn_112 (by decide) ?_
              refine lv_icmp_eq (x := cdA cl_ p_ m_ (at_ + 2)) (y := nI 47) (tgt := 123) zx zb dX0_wordsIn_114 (by decide) (fun c114 => ?_) (fun c114 => ?_)
              · have h47 : isg cl_ (p_ + at_ + 2) (p_ + m_) 47 = true := (cdA_i (t := at_ + 2) (by decide)).mp c114
                refine lv_iinc (v := nI (at_ + 3)) (lv' := [(4, .int (nI (at_ + 3))), (5, .int (cdA cl_ p_ m_ (at_ + 1))), (0, .ref x0), (1, .ref ra_), (2, .int (nI 1)), (3, .ref zl), (6, .int (nI kd))]) zx zb dX0_wordsIn_123 hl (k := 1) rfl (nI_add _ _) (by decide) rfl (fun ls hl => ?_)
                refine lv_iconst (v := nI 4) zx zb dX0_wordsIn_126 (by decide) ?_
                refine nv_newa zC (l1 := []) (l2 := rd_ ++ ex) hX (ty := .int) rfl 0 rfl (fun _ h => by cases h) q127 (fun cA => arr0i cA _) (by decide) (by decide) (by show 3 * r_ + 1 ≤ 12; omega) (by show 12 * r_ + 4 ≤ 48; omega) dX0_wordsIn_127 (fun q_6 H hX => ?_)
                have hX : nvS D a0 (lqW dA q_6 (fun _ => 0) (rd_ ++ ex)) s.heap H locs := hX
                refine lv_astore (lv' := [(7, .ref q_6), (4, .int (nI (at_ + 3))), (5, .int (cdA cl_ p_ m_ (at_ + 1))), (0, .ref x0), (1, .ref ra_), (2, .int (nI 1)), (3, .ref zl), (6, .int (nI kd))]) zx zb dX0_wordsIn_129 hl (by decide) rfl (fun ls hl => ?_)
                refine lv_iconst (v := nI 0) zx zb dX0_wordsIn_131 (by decide) ?_
                refine lv_istore (lv' := [(8, .int (nI 0)), (7, .ref q_6), (4, .int (nI (at_ + 3))), (5, .int (cdA cl_ p_ m_ (at_ + 1))), (0, .ref x0), (1, .ref ra_), (2, .int (nI 1)), (3, .ref zl), (6, .int (nI kd))]) zx zb dX0_wordsIn_132 hl (by decide) rfl (fun ls hl => ?_)
                have L134 : ∀ (zn : Nat) (j : Nat) (lt4 : Nat → Nat) (hj : j ≤ 4) (hpl : pLen cl_ (p_ + m_) (p_ + at_ + 3) j = j) (hl4 : ∀ z, z < j → lt4 z = i2n (cl_ (p_ + at_ + 3 + z)) - 97) (h43 : ∀ z, lt4 z < 3), 4 - j < zn → ∀ (H : Heap) (locs : List Loc) (ls : Array Slot), nvS D a0 (lqW dA q_6 lt4 (rd_ ++ ex)) s.heap H locs → lv_has ls 9 [(8, .int (nI j)), (7, .ref q_6), (4, .int (nI (at_ + 3 + j))), (5, .int (cdA cl_ p_ m_ (at_ + 1))), (0, .ref x0), (1, .ref ra_), (2, .int (nI 1)), (3, .ref zl), (6, .int (nI kd))] → W zp l ze (rm_ 5 108 12 48) s zm zar zlo zme zcd H locs (3 * r_ + 1) (12 * r_ + 4) Q (F0 zm 134 ls []) := by
                  intro zn
                  induction zn with
                  | zero => intro j lt4 hj hpl hl4 h43 zf; exact absurd zf (Nat.not_lt_zero _)
                  | succ zn ih134 =>
                    intro j lt4 hj hpl hl4 h43 zf H locs ls hX hl
                    refine lv_iload zx zb dX0_wordsIn_134 (lv_at hl 0 rfl) ?_
                    refine lv_iconst (v := nI 4) zx zb dX0_wordsIn_136 (by decide) ?_
                    have J176 : ∀  (hpn : pLen cl_ (p_ + m_) (p_ + at_ + 3) 4 = j) (H : Heap) (locs : List Loc) (ls : Array Slot), nvS D a0 (lqW dA q_6 lt4 (rd_ ++ ex)) s.heap H locs → lv_has ls 9 [(8, .int (nI j)), (7, .ref q_6), (4, .int (nI (at_ + 3 + j))), (5, .int (cdA cl_ p_ m_ (at_ + 1))), (0, .ref x0), (1, .ref ra_), (2, .int (nI 1)), (3, .ref zl), (6, .int (nI kd))] → W zp l ze (rm_ 5 108 12 48) s zm zar zlo zme zcd H locs (3 * r_ + 1) (12 * r_ + 4) Q (F0 zm 176 ls []) := by
                      intro  hpn H locs ls hX hl
                      refine lv_iload zx zb dX0_wordsIn_176 (lv_at hl 0 rfl) ?_
                      refine nv_if_ne (tgt := 187) zx zb (by omega) dX0_wordsIn_178 (by decide) (fun c178 => ?_) (fun c178 => ?_)
                      · refine lv_aload_n zx zb dX0_wordsIn_187 rfl (lv_at hl 7 rfl) ?_
                        refine lv_aload_n zx zb dX0_wordsIn_188 rfl (lv_at hl 4 rfl) ?_
                        refine lv_iload zx zb dX0_wordsIn_189 (lv_at hl 8 rfl) ?_
                        refine lv_aload zx zb dX0_wordsIn_191 (lv_at hl 1 rfl) ?_
                        refine lv_iload zx zb dX0_wordsIn_193 (lv_at hl 0 rfl) ?_
                        refine nv_kr zC hX (nv_rS (n := 2) (As := [.ref q_6, .int (nI j)]) (rest := [.int (nI kd), .ref x0, .ref zl]) zC hX (mj_copyI (ln := 4) (f := nF lt4) (ra_ := q_6) (n := j) (ha := List.mem_cons_self) (hn := hj) (hl4 := (Nat.le_refl _))) (nvE_b a0 ez) (nvE_keep zG hX) q840 q841 q79 q842 (by decide +kernel) rfl ⟨Nat.le_of_ble_eq_true rfl, Nat.le_of_ble_eq_true rfl⟩ hl.1 (Nat.le_of_ble_eq_true rfl) dX0_wordsIn_195 ⟨by show 3 * r_ + 1 + 1 ≤ 12; omega, by show 12 * r_ + 4 + 4 ≤ 48; omega⟩) (fun u ra H locs hp hX => ?_)
                        obtain ⟨g_7, rfl⟩ : ∃ z, z = u := ⟨_, rfl⟩
                        have h195 : (∀ zj, zj < j → g_7 zj = (nF lt4) zj) := hp
                        obtain ⟨rb_195, rfl⟩ : ∃ z, z = ra := ⟨_, rfl⟩
                        have hX : nvS D a0 ((rb_195, aI dA j g_7) :: lqW dA q_6 lt4 (rd_ ++ ex)) s.heap H locs := hX
                        have hfrb := hX.fr1
                        obtain ⟨yx, hyx⟩ := List.getElem?_of_mem (show (x0, .inr (0, xfs)) ∈ (rb_195, aI dA j g_7) :: lqW dA q_6 lt4 (rd_ ++ ex) from List.mem_cons_of_mem _ (List.mem_cons_of_mem _ (List.mem_append_right _ hx0)))
                        refine nv_kr zC hX (nv_rV (n := 2) (As := [.int (nI kd), .ref rb_195]) (rest := [.ref zl]) (q0 := yx) zC hX (mx_madeOf (x0 := x0) (kd := kd) (la := rb_195) (hkd := hk3)) nvGb0 (fun _ _ _ => trivial) hyx rfl q435 q437 qs13 q59 q438 (by decide +kernel) rfl ⟨Nat.le_of_ble_eq_true rfl, Nat.le_of_ble_eq_true rfl⟩ hl.1 (Nat.le_of_ble_eq_true rfl) dX0_wordsIn_198 ⟨by show 3 * r_ + 1 + 1 + 1 ≤ 12; omega, by show 12 * r_ + 4 + 4 + 4 ≤ 48; omega⟩) (fun u ra H locs hp hX => ?_)
                        obtain ⟨ra_198, rfl⟩ : ∃ z, z = ra := ⟨_, rfl⟩
                        have hX : nvS D a0 ((ra_198, plF kd rb_195 x0) :: (rb_195, aI dA j g_7) :: lqW dA q_6 lt4 (rd_ ++ ex)) s.heap H locs := hX
                        obtain ⟨L_, eL_⟩ : ∃ zw_, zw_ = (ra_198, plF kd rb_195 x0) :: (rb_195, aI dA j g_7) :: (q_6, aI dA 4 (nF lt4)) :: rd_ := ⟨_, rfl⟩
                        have hX : nvS D a0 (L_ ++ ex) s.heap H locs := by rw [eL_]; exact hX
                        have hsL : ∀ z, z ∈ rd_ → z ∈ L_ := by rw [eL_]; exact fun z hz => List.mem_cons_of_mem _ (List.mem_cons_of_mem _ (List.mem_cons_of_mem _ hz))
                        have mv : (ra_198, plF kd rb_195 x0) ∈ L_ := by rw [eL_]; exact List.mem_cons_self
                        have ml : (rb_195, aI dA j g_7) ∈ L_ := by rw [eL_]; exact List.mem_cons_of_mem _ List.mem_cons_self
                        have hu_ := hX.un
                        have huL := hu_.sub (mem_app (r := ex))
                        obtain ⟨k0, hk0⟩ := List.getElem?_of_mem (hsL _ hrd.1)
                        obtain ⟨k1, hk1⟩ := List.getElem?_of_mem (hsL _ hrd.2.1)
                        refine nv_kFi zC hX (nv_rF (q := (RJ2, TJ2, 3)) (x := ⟨"java/util/List", "add", "(Ljava/lang/Object;)Z"⟩) (y := yJ2_add) (n := 1) (As := [.ref ra_198]) (rest := []) (q0 := k0) zC hX (mj_addA (q0 := k0) (q1 := k1) (cp := 4) (f := f_) (mc := mc_) (zh := zl) (ed := ed0) (n := r_) (ci := 2 + kd) (vs := .ref rb_195 :: List.replicate (kd + 1) (.ref x0)) (cq := plQ kd) (v := ra_198) (h0 := (app_at hk0)) (h1 := (app_at hk1)) (hv := (mem_app _ mv)) (hvz := (hu_.ne (mem_app _ mv) (mem_app _ (hsL _ hrd.1)) (plF_12 hk3))) (hve := (hu_.ne (mem_app _ mv) (mem_app _ (hsL _ hrd.2.1)) ni_ne)) (hc := (plQ_c hk3)) (hcs := (plQ_s hk3)) (hn := (by omega)) (hcp := (by decide))) (nvE_b a0 ez) (nvE_keep zG hX) (nvE_f5 zG) (app_at hk0) rfl q853 q858 q856 q62 q860 (by decide +kernel) rfl ⟨Nat.le_of_ble_eq_true rfl, Nat.le_of_ble_eq_true rfl⟩ hl.1 (Nat.le_of_ble_eq_true rfl) dX0_wordsIn_201 ⟨by show 3 * r_ + 1 + 1 + 1 + 0 ≤ 12; omega, by show 12 * r_ + 4 + 4 + 4 + 0 ≤ 48; omega⟩) (fun r u H locs hp hX => ?_)
                        have hr_ : r = nB true := hp
                        subst hr_
                        have hX : nvS D a0 (jW dA k0 k1 zl (mc_ + nI 1) ed0 (r_ + 1) 4 (va_up f_ r_ (some ra_198)) ((L_ ++ ex))) s.heap H locs := hX
                        refine W.cs (cells' := 3 * r_ + 1 + 1 + 1) (slots' := 12 * r_ + 4 + 4 + 4) (Nat.add_zero _) (Nat.add_zero _) ?_
                        have hX : nvS D a0 ((jW dA k0 k1 zl (mc_ + nI 1) ed0 (r_ + 1) 4 (va_up f_ r_ (some ra_198)) L_) ++ ex) s.heap H locs := hX.as (jW_app hk0 hk1)
                        refine lv_pop zx zb dX0_wordsIn_206 rfl ?_
                        refine lv_goto (tgt := 3) zx zb dX0_wordsIn_207 (by decide) ?_
                        have hj0 : 0 < j := by omega
                        refine W.widen (k := 3 * (r_ + 1)) (n := 12 * (r_ + 1)) (by omega) (by omega) ?_
                        exact ih3 (r_ + 1) (at_ + 3 + j) (jW dA k0 k1 zl (mc_ + nI 1) ed0 (r_ + 1) 4 (va_up f_ r_ (some ra_198)) L_) (mc_ + nI 1) (va_up f_ r_ (some ra_198)) (va_up kd_ r_ kd) (va_up ln_ r_ j) (rwP lt_ (4 * r_) 4 lt4) (va_up pa_ r_ ra_198) (va_up la_ r_ rb_195) (by omega) (by omega) (by have e1_ := pLen_en (cells := cl_) (en := p_ + m_) (p := p_ + at_ + 3) (m := 4) (by have := isg_in h47; omega); omega) (wi_s (by omega) hgo h59 hpk h47 hpn hj0 hrun) (rdL.add hrd huL hsL hk0 hk1 hk3 mv ml hln (fun z hz => (h195 z hz).trans (congrArg nI (by unfold rwP; rw [if_pos (by omega), Nat.add_sub_cancel_left]))) (fun z hz => by unfold rwP; rw [if_neg (by omega)]) (fun z hz => hfrb _ (List.mem_cons_of_mem _ (mem_app _ hz)))) (wi_w hws hln hpos hpk hpn hj0 hl4) (by show (pW cl_ (p_ + m_) (pPos cl_ (p_ + m_) p_ r_)).2 = _; rw [hpos, wi_ok h59 hpk h47 hpn]; show p_ + at_ + 3 + j = _; omega) (up_lt hkd hk3) (up_le hln (by omega)) (rwP_lt hlt h43) (fun w hw => by
                          by_cases e_ : w = r_
                          · rw [e_, va_up_self]; exact hj0
                          · rw [va_up_ne _ _ e_]; exact hl1 w (by omega)) (by omega) _ _ _ hX (lv_sub hl [2, 4, 5, 6, 7] rfl)
                      · refine lv_bipush (v := (-100)) zx zb dX0_wordsIn_181 (by decide) ?_
                        refine lv_iload zx zb dX0_wordsIn_183 (lv_at hl 2 rfl) ?_
                        refine lv_isub zx zb dX0_wordsIn_185 ?_
                        have hj0 : j = 0 := by omega
                        rw [hj0] at hpn
                        have hw_ : pW cl_ (p_ + m_) (p_ + at_) = (false, p_ + (at_ + 3 + j)) := by rw [wi_ok h59 hpk h47 hpn, hj0]; rfl
                        rw [← zQ]
                        exact nv_endi zC zr zk ((q_6, aI dA 4 (nF lt4)) :: rd_, mc_, r_, f_, kd_, ln_, lt_, pa_, la_) hX (⟨wi_f (by omega) hgo hw_ hrun, fun z => by rw [hrun, pRun_f (by omega) (hgo.imp id (fun z => by omega)) (by rw [hw_])] at z; cases z⟩) (by show 3 * r_ + 1 ≤ 12; omega) (by show 12 * r_ + 4 ≤ 48; omega) dX0_wordsIn_186
                    refine nv_icmp_ge (tgt := 176) zx zb (by omega) (by decide) dX0_wordsIn_137 (by decide) (fun c137 => ?_) (fun c137 => ?_)
                    · exact J176  (by have e_ : j = 4 := (by omega); rw [e_] at hpl; rw [e_]; exact hpl) _ _ _ hX (lv_sub hl [0, 1, 2, 3, 4, 5, 6, 7, 8] rfl)
                    · refine lv_aload_n zx zb dX0_wordsIn_140 rfl (lv_at hl 5 rfl) ?_
                      refine lv_iload zx zb dX0_wordsIn_141 (lv_at hl 2 rfl) ?_
                      refine nv_ki zC hX (nv_rS (n := 2) (As := [.ref ra_, .int (nI (at_ + 3 + j))]) (rest := []) zC hX (mx_codeAt (cl_ := cl_) (p_ := p_) (m_ := m_) (ra_ := ra_) (at_ := at_ + 3 + j) (hr := (List.mem_cons_of_mem _ (List.mem_append_right _ hra))) (hm := hm) (hat := (by omega))) nvGb0 (fun _ _ _ => trivial) q826 q827 q59 q828 (by decide +kernel) rfl ⟨Nat.le_of_ble_eq_true rfl, Nat.le_of_ble_eq_true rfl⟩ hl.1 (Nat.le_of_ble_eq_true rfl) dX0_wordsIn_143 ⟨by show 3 * r_ + 1 + 0 ≤ 12; omega, by show 12 * r_ + 4 + 0 ≤ 48; omega⟩) (fun r u H locs hp hX => ?_)
                      have hr_ : r = cdA cl_ p_ m_ (at_ + 3 + j) := hp
                      subst hr_
                      have hX : nvS D a0 (lqW dA q_6 lt4 (rd_ ++ ex)) s.heap H locs := hX
                      refine W.cs (cells' := 3 * r_ + 1) (slots' := 12 * r_ + 4) (Nat.add_zero _) (Nat.add_zero _) ?_
                      refine lv_bipush (v := nI 97) zx zb dX0_wordsIn_146 (by decide) ?_
                      refine lv_isub zx zb dX0_wordsIn_148 ?_
                      refine nv_ki zC hX (nv_rS (n := 1) (As := [.int ((cdA cl_ p_ m_ (at_ + 3 + j)) - (nI 97))]) (rest := []) zC hX (mx_isSign (v := (cdA cl_ p_ m_ (at_ + 3 + j)) - (nI 97))) nvGb0 (fun _ _ _ => trivial) q324 q325 q59 q326 (by decide +kernel) rfl ⟨Nat.le_of_ble_eq_true rfl, Nat.le_of_ble_eq_true rfl⟩ hl.1 (Nat.le_of_ble_eq_true rfl) dX0_wordsIn_149 ⟨by show 3 * r_ + 1 + 0 ≤ 12; omega, by show 12 * r_ + 4 + 0 ≤ 48; omega⟩) (fun r u H locs hp hX => ?_)
                      have hr_ : r = nB (inN ((cdA cl_ p_ m_ (at_ + 3 + j)) - (nI 97)) 0 2) := hp
                      subst hr_
                      have hX : nvS D a0 (lqW dA q_6 lt4 (rd_ ++ ex)) s.heap H locs := hX
                      refine W.cs (cells' := 3 * r_ + 1) (slots' := 12 * r_ + 4) (Nat.add_zero _) (Nat.add_zero _) ?_
                      refine nv_if_eqB (tgt := 176) zx zb dX0_wordsIn_152 (by decide) (fun c152 => ?_) (fun c152 => ?_)
                      · exact J176  (pLen_stop hpl (fun z => by have z2 := cd97.mpr ⟨show p_ + (at_ + 3 + j) < p_ + m_ by omega, by rw [show p_ + (at_ + 3 + j) = p_ + at_ + 3 + j by omega]; exact z.2⟩; rw [c152] at z2; cases z2) 4 hj) _ _ _ hX (lv_sub hl [0, 1, 2, 3, 4, 5, 6, 7, 8] rfl)
                      · have hc97 := cd97.mp c152
                        have h97 : inN (cl_ (p_ + at_ + 3 + j)) 97 99 = true := by rw [show p_ + at_ + 3 + j = p_ + (at_ + 3 + j) by omega]; exact hc97.2
                        refine lv_aload zx zb dX0_wordsIn_155 (lv_at hl 1 rfl) ?_
                        refine lv_iload zx zb dX0_wordsIn_157 (lv_at hl 0 rfl) ?_
                        refine lv_aload_n zx zb dX0_wordsIn_159 rfl (lv_at hl 5 rfl) ?_
                        refine lv_iload zx zb dX0_wordsIn_160 (lv_at hl 2 rfl) ?_
                        refine nv_ialdM (v := cl_ (p_ + (at_ + 3 + j))) zC hX (List.mem_cons_of_mem _ (List.mem_append_right _ hra)) (by omega) (by omega) (if_pos (by omega)) dX0_wordsIn_162 ?_
                        refine lv_bipush (v := nI 97) zx zb dX0_wordsIn_163 (by decide) ?_
                        refine lv_isub zx zb dX0_wordsIn_165 ?_
                        refine nv_as (show (cl_ (p_ + (at_ + 3 + j))) - (nI 97) = nI (i2n (cl_ (p_ + (at_ + 3 + j))) - 97) from (let_v hc97.2).2.1) ?_
                        refine nv_iast zC hX 0 rfl (by omega) (by decide) (nF_up _ _ _) (w' := lqW dA q_6 (va_up lt4 j (i2n (cl_ (p_ + (at_ + 3 + j))) - 97)) (rd_ ++ ex)) rfl dX0_wordsIn_166 (fun H locs hX => ?_)
                        refine lv_iinc (v := nI (j + 1)) (lv' := [(8, .int (nI (j + 1))), (7, .ref q_6), (4, .int (nI (at_ + 3 + j))), (5, .int (cdA cl_ p_ m_ (at_ + 1))), (0, .ref x0), (1, .ref ra_), (2, .int (nI 1)), (3, .ref zl), (6, .int (nI kd))]) zx zb dX0_wordsIn_167 hl (k := 0) rfl (nI_1 _) (by decide) rfl (fun ls hl => ?_)
                        refine lv_iinc (v := nI (at_ + 3 + j + 1)) (lv' := [(4, .int (nI (at_ + 3 + j + 1))), (8, .int (nI (j + 1))), (7, .ref q_6), (5, .int (cdA cl_ p_ m_ (at_ + 1))), (0, .ref x0), (1, .ref ra_), (2, .int (nI 1)), (3, .ref zl), (6, .int (nI kd))]) zx zb dX0_wordsIn_170 hl (k := 2) rfl (nI_1 _) (by decide) rfl (fun ls hl => ?_)
                        refine lv_goto (tgt := 134) zx zb dX0_wordsIn_173 (by decide) ?_
                        exact ih134 (j + 1) (va_up lt4 j (i2n (cl_ (p_ + (at_ + 3 + j))) - 97)) (by omega) (pLen_s hpl (by omega) h97) (fun z hz => by
                          by_cases e_ : z = j
                          · rw [e_, va_up_self, show p_ + (at_ + 3 + j) = p_ + at_ + 3 + j by omega]
                          · rw [va_up_ne _ _ e_]; exact hl4 z (by omega)) (up_lt h43 (by have z := (let_v hc97.2).1; exact z)) (by omega) _ _ _ hX (lv_sub hl [1, 2, 0, 3, 4, 5, 6, 7, 8] rfl)
                exact L134 _ 0 (fun _ => 0) (by decide) rfl (fun z h => absurd h (Nat.not_lt_zero _)) (fun _ => by decide) (Nat.lt_succ_self _) _ _ _ hX (lv_sub hl [0, 1, 2, 3, 4, 5, 6, 7, 8] rfl)
              · have h47 : isg cl_ (p_ + at_ + 2) (p_ + m_) 47 = false := by cases z : isg cl_ (p_ + at_ + 2) (p_ + m_) 47 with | false => rfl | true => exact absurd ((cdA_i (t := at_ + 2) (by decide)).mpr z) c114
                refine lv_bipush (v := (-102)) zx zb dX0_wordsIn_117 (by decide) ?_
                refine lv_iload zx zb dX0_wordsIn_119 (lv_at hl 1 rfl) ?_
                refine lv_isub zx zb dX0_wordsIn_121 ?_
                rw [← zQ]
                exact nv_endi zC zr zk (rd_, mc_, r_, f_, kd_, ln_, lt_, pa_, la_) hX (⟨by rw [m102, nI_add]; exact wi_f (by omega) hgo (wi_47 h59 hpk h47) hrun, fun z => by rw [hrun, pRun_f (by omega) (hgo.imp id (fun z => by omega)) (by rw [wi_47 h59 hpk h47])] at z; cases z⟩) (by show 3 * r_ ≤ 12; omega) (by show 12 * r_ ≤ 48; omega) dX0_wordsIn_122
            refine lv_iload zx zb dX0_wordsIn_56 (lv_at hl 0 rfl) ?_
            refine lv_bipush (v := nI 112) zx zb dX0_wordsIn_58 (by decide) ?_
            refine lv_icmp_ne (x := cdA cl_ p_ m_ (at_ + 1)) (y := nI 112) (tgt := 67) zx zb dX0_wordsIn_60 (by decide) (fun c60 => ?_) (fun c60 => ?_)
            · refine lv_iload zx zb dX0_wordsIn_67 (lv_at hl 0 rfl) ?_
              refine lv_bipush (v := nI 98) zx zb dX0_wordsIn_69 (by decide) ?_
              refine lv_icmp_ne (x := cdA cl_ p_ m_ (at_ + 1)) (y := nI 98) (tgt := 78) zx zb dX0_wordsIn_71 (by decide) (fun c71 => ?_) (fun c71 => ?_)
              · refine lv_iload zx zb dX0_wordsIn_78 (lv_at hl 0 rfl) ?_
                refine lv_bipush (v := nI 116) zx zb dX0_wordsIn_80 (by decide) ?_
                refine lv_icmp_ne (x := cdA cl_ p_ m_ (at_ + 1)) (y := nI 116) (tgt := 89) zx zb dX0_wordsIn_82 (by decide) (fun c82 => ?_) (fun c82 => ?_)
                · refine lv_bipush (v := (-9)) zx zb dX0_wordsIn_89 (by decide) ?_
                  refine lv_istore (lv' := [(6, .int (-9)), (5, .int (cdA cl_ p_ m_ (at_ + 1))), (4, .int (nI at_)), (0, .ref x0), (1, .ref ra_), (2, .int (nI 1)), (3, .ref zl)]) zx zb dX0_wordsIn_91 hl (by decide) rfl (fun ls hl => ?_)
                  refine lv_iload zx zb dX0_wordsIn_93 (lv_at hl 0 rfl) ?_
                  refine lv_if_ge (x := (-9)) (tgt := 104) zx zb dX0_wordsIn_95 (by decide) (fun c95 => ?_) (fun c95 => ?_)
                  · exact absurd c95 (by decide)
                  · have hpk : pK cl_ (p_ + m_) (p_ + at_ + 1) = none := cdA_kn (t := at_ + 1) c60 c71 c82
                    refine lv_bipush (v := (-101)) zx zb dX0_wordsIn_98 (by decide) ?_
                    refine lv_iload zx zb dX0_wordsIn_100 (lv_at hl 2 rfl) ?_
                    refine lv_isub zx zb dX0_wordsIn_102 ?_
                    rw [← zQ]
                    exact nv_endi zC zr zk (rd_, mc_, r_, f_, kd_, ln_, lt_, pa_, la_) hX (⟨by rw [m101, nI_add]; exact wi_f (by omega) hgo (wi_kn h59 hpk) hrun, fun z => by rw [hrun, pRun_f (by omega) (hgo.imp id (fun z => by omega)) (by rw [wi_kn h59 hpk])] at z; cases z⟩) (by show 3 * r_ ≤ 12; omega) (by show 12 * r_ ≤ 48; omega) dX0_wordsIn_103
                · refine lv_iconst (v := nI 2) zx zb dX0_wordsIn_85 (by decide) ?_
                  refine lv_goto (tgt := 91) zx zb dX0_wordsIn_86 (by decide) ?_
                  refine lv_istore (lv' := [(6, .int (nI 2)), (5, .int (cdA cl_ p_ m_ (at_ + 1))), (4, .int (nI at_)), (0, .ref x0), (1, .ref ra_), (2, .int (nI 1)), (3, .ref zl)]) zx zb dX0_wordsIn_91 hl (by decide) rfl (fun ls hl => ?_)
                  refine lv_iload zx zb dX0_wordsIn_93 (lv_at hl 0 rfl) ?_
                  refine nv_if_ge (tgt := 104) zx zb (by decide) dX0_wordsIn_95 (by decide) ?_
                  exact J104 2 (by decide) (cdA_k (t := at_ + 1) (by decide) (by decide +kernel) c82) _ _ _ hX (lv_sub hl [1, 2, 3, 4, 5, 6, 0] rfl)
              · refine lv_iconst (v := nI 1) zx zb dX0_wordsIn_74 (by decide) ?_
                refine lv_goto (tgt := 91) zx zb dX0_wordsIn_75 (by decide) ?_
                refine lv_istore (lv' := [(6, .int (nI 1)), (5, .int (cdA cl_ p_ m_ (at_ + 1))), (4, .int (nI at_)), (0, .ref x0), (1, .ref ra_), (2, .int (nI 1)), (3, .ref zl)]) zx zb dX0_wordsIn_91 hl (by decide) rfl (fun ls hl => ?_)
                refine lv_iload zx zb dX0_wordsIn_93 (lv_at hl 0 rfl) ?_
                refine nv_if_ge (tgt := 104) zx zb (by decide) dX0_wordsIn_95 (by decide) ?_
                exact J104 1 (by decide) (cdA_k (t := at_ + 1) (by decide) (by decide +kernel) c71) _ _ _ hX (lv_sub hl [1, 2, 3, 4, 5, 6, 0] rfl)
            · refine lv_iconst (v := nI 0) zx zb dX0_wordsIn_63 (by decide) ?_
              refine lv_goto (tgt := 91) zx zb dX0_wordsIn_64 (by decide) ?_
              refine lv_istore (lv' := [(6, .int (nI 0)), (5, .int (cdA cl_ p_ m_ (at_ + 1))), (4, .int (nI at_)), (0, .ref x0), (1, .ref ra_), (2, .int (nI 1)), (3, .ref zl)]) zx zb dX0_wordsIn_91 hl (by decide) rfl (fun ls hl => ?_)
              refine lv_iload zx zb dX0_wordsIn_93 (lv_at hl 0 rfl) ?_
              refine nv_if_ge (tgt := 104) zx zb (by decide) dX0_wordsIn_95 (by decide) ?_
              exact J104 0 (by decide) (cdA_k (t := at_ + 1) (by decide) (by decide +kernel) c60) _ _ _ hX (lv_sub hl [1, 2, 3, 4, 5, 6, 0] rfl)
          · have h59 : isg cl_ (p_ + at_) (p_ + m_) 59 = false := by cases z : isg cl_ (p_ + at_) (p_ + m_) 59 with | false => rfl | true => exact absurd ((cdA_i (by decide)).mpr z) c37
            refine lv_bipush (v := (-100)) zx zb dX0_wordsIn_40 (by decide) ?_
            refine lv_iload zx zb dX0_wordsIn_42 (lv_at hl 0 rfl) ?_
            refine lv_isub zx zb dX0_wordsIn_44 ?_
            rw [← zQ]
            exact nv_endi zC zr zk (rd_, mc_, r_, f_, kd_, ln_, lt_, pa_, la_) hX (⟨wi_f (by omega) hgo (wi_59 h59) hrun, fun z => by rw [hrun, pRun_f (by omega) (hgo.imp id (fun z => by omega)) (by rw [wi_59 h59])] at z; cases z⟩) (by show 3 * r_ ≤ 12; omega) (by show 12 * r_ ≤ 48; omega) dX0_wordsIn_45
      refine nv_if_neB (tgt := 19) zx zb dX0_wordsIn_9 (by decide) (fun c9 => ?_) (fun c9 => ?_)
      · exact J19  (Or.inl (of_decide_eq_true c9)) _ _ _ hX (lv_sub hl [0, 1, 2, 3, 4] rfl)
      · refine lv_iload zx zb dX0_wordsIn_12 (lv_at hl 0 rfl) ?_
        refine lv_aload_n zx zb dX0_wordsIn_14 rfl (lv_at hl 2 rfl) ?_
        refine nv_alenM zC hX 0 (List.mem_append_right _ hra) rfl dX0_wordsIn_15 ?_
        refine nv_icmp_ge (tgt := 210) zx zb (by omega) (by omega) dX0_wordsIn_16 (by decide) (fun c16 => ?_) (fun c16 => ?_)
        · refine lv_iconst (v := nI 0) zx zb dX0_wordsIn_210 (by decide) ?_
          rw [← zQ]
          exact nv_endi zC zr zk (rd_, mc_, r_, f_, kd_, ln_, lt_, pa_, la_) hX (have hr1 : 0 < r_ := (by have z := of_decide_eq_false c9; omega); have e_ := wi_e (Or.inr ⟨hr1, by omega⟩) hrun; ⟨by rw [e_, decide_eq_true (show at_ = m_ by omega), if_pos rfl], fun _ => ⟨by rw [e_], hr1, hr4, hrd, hws, hkd, hln, hlt, hl1⟩⟩) (by show 3 * r_ ≤ 12; omega) (by show 12 * r_ ≤ 48; omega) dX0_wordsIn_211
        · exact J19  (Or.inr (by omega)) _ _ _ hX (lv_sub hl [0, 1, 2, 3, 4] rfl)
  refine W.widen (k := 3 * 0) (n := 12 * 0) (by omega) (by omega) ?_
  exact L3 _ 0 1 rd mc0 f0 (fun _ => 0) (fun _ => 0) (fun _ => 0) (fun _ => 0) (fun _ => 0) (by decide) (by decide) hm1 rfl hr0 (fun w h => absurd h (Nat.not_lt_zero _)) rfl (fun _ => by decide) (fun _ => by decide) (fun _ => by decide) (fun w h => absurd h (Nat.not_lt_zero _)) (Nat.lt_succ_self _) _ _ _ hX (lv_sub hl [0, 1, 2, 3, 4] rfl)
end CL_70_e5
