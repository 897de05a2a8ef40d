/-! printed by klass2.py -/
set_option maxRecDepth 100000
section CL_72_e6
variable {l : Launch} {D : va_G} {dA : Nat → ClassId} {a0 ez : Nat} {ex : va_W} {a : Nat → Nat} {rn : Nat} {rt : Nat} {trace : Int32} {len : Nat} {stand : Nat} {first : Option Nat} {allh : Option Nat} {hAll : Nat} {fault : Int32} {row : Nat → Nat} {hOf : Nat → Nat} {farOf : Nat → Option Nat} {rowsN : Nat → Nat} {rowsT : Nat → Nat} {mcW : Int32} {edW : Nat} {words : Nat} {mcR : Int32} {edR : Nat} {rdgs : Nat} {sh : Nat → Option Nat} {kind longOf letters : Nat → Nat} {fW : Nat → Option Nat} {pa la : Nat → Nat} {rWord rMany rStands rRow : Nat → Nat} {fR : Nat → Option Nat} {pr lr : Nat → Nat} {so : Nat → Option Nat} {shL : Nat → Nat} {cl : Nat → Int32} {pS lS col : Nat → Nat} {ow : va_W} {mo : Nat}
set_option maxHeartbeats 4000000 in
theorem mx_newWords  (cl_ : Nat → Int32) (p_ : Nat) (m_ : Nat) (ra_ : Nat) (hT : tlI dA (a 0) ez words kind longOf letters edW fW pa la rdgs rWord rMany rStands rRow edR fR pr lr so shL cl sh pS lS col ow) (hok : wOK words kind longOf letters) (hdo : dOK words rdgs rWord rMany rStands rRow) (hm : m_ ≤ 60) : nMt l D dA a0 yX0_newWords cX0_newWords 4 (some .int) 6 136 20 100 (nvE2 a0 ez mo) [.ref (a 0), .ref ra_] (xW dA a rn rt trace len stand first allh hAll fault row hOf farOf rowsN rowsT mcW edW words mcR edR rdgs sh (((ra_, aI dA m_ (cfN cl_ p_ m_)) :: ow) ++ ex)) (nQi D a0 (fun (r : Int32) (u : va_W × Nat × Nat × Int32 × Nat × Nat × Int32 × (Nat → Nat) × (Nat → Nat) × (Nat → Nat) × (Nat → Option Nat) × (Nat → Nat) × (Nat → Nat) × (Nat → Option Nat) × (Nat → Nat)) => r = (if (pAll cl_ (p_ + m_) p_).1 = true then nI (pAll cl_ (p_ + m_) p_).2.2 else (-100) - nI ((pAll cl_ (p_ + m_) p_).2.1 - p_)) ∧ ((pAll cl_ (p_ + m_) p_).1 = false → u.2.1 = words ∧ u.2.2.1 = len ∧ u.2.2.2.2.2.1 = rdgs ∧ u.2.2.2.2.2.2.2.1 = kind ∧ u.2.2.2.2.2.2.2.2.1 = longOf ∧ u.2.2.2.2.2.2.2.2.2.1 = letters) ∧ ((pAll cl_ (p_ + m_) p_).1 = true → u.2.1 = (pAll cl_ (p_ + m_) p_).2.2 ∧ u.2.2.1 = 0 ∧ u.2.2.2.2.2.1 = 0 ∧ 0 < u.2.1 ∧ wdsOK cl_ (p_ + m_) p_ u.2.1 (fun w => some (u.2.2.2.2.2.2.2.1 w)) u.2.2.2.2.2.2.2.2.1 u.2.2.2.2.2.2.2.2.2.1) ∧ wOK u.2.1 u.2.2.2.2.2.2.2.1 u.2.2.2.2.2.2.2.2.1 u.2.2.2.2.2.2.2.2.2.1 ∧ dOK u.2.1 u.2.2.2.2.2.1 rWord rMany rStands rRow ∧ tlI dA (a 0) ez u.2.1 u.2.2.2.2.2.2.2.1 u.2.2.2.2.2.2.2.2.1 u.2.2.2.2.2.2.2.2.2.1 u.2.2.2.2.1 u.2.2.2.2.2.2.2.2.2.2.1 u.2.2.2.2.2.2.2.2.2.2.2.1 u.2.2.2.2.2.2.2.2.2.2.2.2.1 u.2.2.2.2.2.1 rWord rMany rStands rRow edR u.2.2.2.2.2.2.2.2.2.2.2.2.2.1 pr lr so shL cl sh pS lS u.2.2.2.2.2.2.2.2.2.2.2.2.2.2 u.1) (fun (u : va_W × Nat × Nat × Int32 × Nat × Nat × Int32 × (Nat → Nat) × (Nat → Nat) × (Nat → Nat) × (Nat → Option Nat) × (Nat → Nat) × (Nat → Nat) × (Nat → Option Nat) × (Nat → Nat)) => xW dA a rn rt trace u.2.2.1 stand first allh hAll fault row hOf farOf rowsN rowsT u.2.2.2.1 u.2.2.2.2.1 u.2.1 u.2.2.2.2.2.2.1 edR u.2.2.2.2.2.1 sh (u.1 ++ ex))) := by
  refine nv_start (by decide) (Nat.le_of_ble_eq_true rfl) fun zp ze s zm zlo zme zcd ls zC zr zk znm hX zG hl => ?_
  have zx := zC.1
  have zb := zC.2.1
  generalize zargs : ([.ref (a 0), .ref ra_] : List Value).toArray = zar at zC ⊢
  generalize zQ : MQ zlo _ zar s _ _ _ = Q
  have hX : nvS D a0 (xW dA a rn rt trace len stand first allh hAll fault row hOf farOf rowsN rowsT mcW edW words mcR edR rdgs sh (((ra_, aI dA m_ (cfN cl_ p_ m_)) :: ow) ++ ex)) s.heap s.heap [] := hX
  have hl : lv_has ls 4 [(0, .ref (a 0)), (1, .ref ra_)] := hl
  obtain ⟨H, zH⟩ : ∃ H, H = s.heap := ⟨_, rfl⟩
  have hX : nvS D a0 (xW dA a rn rt trace len stand first allh hAll fault row hOf farOf rowsN rowsT mcW edW words mcR edR rdgs sh (((ra_, aI dA m_ (cfN cl_ p_ m_)) :: ow) ++ ex)) s.heap H [] := by rw [zH]; exact hX
  rw [show W zp l ze (rm_ 6 136 20 100) s zm zar zlo zme zcd s.heap [] 0 0 Q = W zp l ze (rm_ 6 136 20 100) s zm zar zlo zme zcd H [] 0 0 Q by rw [zH]]
  generalize ([] : List Loc) = locs at hX ⊢
  have zG2 := zG
  have zG := zG2.1
  have hw4 := hok.1
  have hr8 := hdo.1
  refine lv_aload_n zx zb dX0_newWords_0 rfl (lv_at hl 1 rfl) ?_
  refine lv_iconst (v := nI 0) zx zb dX0_newWords_1 (by decide) ?_
  refine nv_ki zC hX (nv_rS (n := 2) (As := [.ref ra_, .int (nI 0)]) (rest := []) zC hX (mx_codeAt (cl_ := cl_) (p_ := p_) (m_ := m_) (ra_ := ra_) (at_ := 0) (hr := (xw_own (ow := (ra_, aI dA m_ (cfN cl_ p_ m_)) :: ow) _ List.mem_cons_self)) (hm := hm) (hat := (by decide))) nvGb0 (fun _ _ _ => trivial) q826 q827 q59 q828 (by decide +kernel) rfl ⟨Nat.le_of_ble_eq_true rfl, Nat.le_of_ble_eq_true rfl⟩ hl.1 (Nat.le_of_ble_eq_true rfl) dX0_newWords_2 ⟨by first | exact Nat.le_of_ble_eq_true rfl | omega, by first | exact Nat.le_of_ble_eq_true rfl | omega⟩) (fun r u H locs hp hX => ?_)
  have hr_ : r = cdA cl_ p_ m_ 0 := hp
  subst hr_
  have hX : nvS D a0 (xW dA a rn rt trace len stand first allh hAll fault row hOf farOf rowsN rowsT mcW edW words mcR edR rdgs sh (((ra_, aI dA m_ (cfN cl_ p_ m_)) :: ow) ++ ex)) s.heap H locs := hX
  refine W.cs (cells' := 0) (slots' := 0) (Nat.add_zero _) (Nat.add_zero _) ?_
  refine lv_bipush (v := nI 119) zx zb dX0_newWords_5 (by decide) ?_
  refine lv_icmp_eq (x := cdA cl_ p_ m_ 0) (y := nI 119) (tgt := 13) zx zb dX0_newWords_7 (by decide) (fun c7 => ?_) (fun c7 => ?_)
  · have h119 : isg cl_ p_ (p_ + m_) 119 = true := (cdA_i (t := 0) (by decide)).mp c7
    have hm1 : 1 ≤ m_ := by have := isg_in h119; omega
    have hpa := pa_1 h119
    refine nv_new zC (l1 := []) (l2 := xW dA a rn rt trace len stand first allh hAll fault row hOf farOf rowsN rowsT mcW edW words mcR edR rdgs sh (((ra_, aI dA m_ (cfN cl_ p_ m_)) :: ow) ++ ex)) hX in_J2 tyJ2 tyJ2_ok q101 q102 q62 (ci := 12) rfl (fs := [.int 0, .null, .int 0]) (fun j hj => by rcases (show j = 0 ∨ j = 1 ∨ j = 2 by omega) with rfl | rfl | rfl <;> rfl) (by first | exact Nat.le_of_ble_eq_true rfl | omega) (by first | exact Nat.le_of_ble_eq_true rfl | omega) dX0_newWords_13 (fun n_2 H hX => ?_)
    have hX : nvS D a0 ((n_2, .inr (12, [.int 0, .null, .int 0])) :: xW dA a rn rt trace len stand first allh hAll fault row hOf farOf rowsN rowsT mcW edW words mcR edR rdgs sh (((ra_, aI dA m_ (cfN cl_ p_ m_)) :: ow) ++ ex)) s.heap H locs := hX
    refine lv_dup zx zb dX0_newWords_16 rfl ?_
    refine lv_iconst (v := nI 4) zx zb dX0_newWords_17 (by decide) ?_
    refine nv_kv zC hX (nv_rI (n := 1) (As := [.int (nI 4)]) (rest := [.ref n_2]) zC hX (mj_init2 (n := 4) (hn := (by decide)) (hn2 := (by decide))) (nvE_b a0 ez) (nvE_keep zG hX) q829 q830 q62 q831 rfl (by decide +kernel) rfl ⟨Nat.le_of_ble_eq_true rfl, Nat.le_of_ble_eq_true rfl⟩ hl.1 (Nat.le_of_ble_eq_true rfl) dX0_newWords_18 ⟨by first | exact Nat.le_of_ble_eq_true rfl | omega, by first | exact Nat.le_of_ble_eq_true rfl | omega⟩) (fun u H locs hp hX => ?_)
    obtain ⟨ra_3, rfl⟩ : ∃ z, z = u := ⟨_, rfl⟩
    have hX : nvS D a0 ((ra_3, aO dA 4 (fun _ => none)) :: (n_2, .inr (12, [.int (nI 0), .ref ra_3, .int 0])) :: xW dA a rn rt trace len stand first allh hAll fault row hOf farOf rowsN rowsT mcW edW words mcR edR rdgs sh (((ra_, aI dA m_ (cfN cl_ p_ m_)) :: ow) ++ ex)) s.heap H locs := hX
    obtain ⟨rd0, erd⟩ : ∃ zw_, zw_ = [(ra_3, aO dA 4 (fun _ => none)), (n_2, .inr (12, [.int (nI 0), .ref ra_3, .int (nI 0)]))] := ⟨_, rfl⟩
    have hX : nvS D a0 (rd0 ++ xW dA a rn rt trace len stand first allh hAll fault row hOf farOf rowsN rowsT mcW edW words mcR edR rdgs sh (((ra_, aI dA m_ (cfN cl_ p_ m_)) :: ow) ++ ex)) s.heap H locs := by rw [erd]; exact hX
    have hr0 : rdL dA (a 0) n_2 ra_3 (nI 0) 0 (fun _ => none) (fun _ => 0) (fun _ => 0) (fun _ => 0) (fun _ => 0) (fun _ => 0) rd0 := by rw [erd]; exact ⟨List.mem_cons_of_mem _ List.mem_cons_self, List.mem_cons_self, fun i h => absurd h (Nat.not_lt_zero _), fun i j h => absurd h (Nat.not_lt_zero _)⟩
    refine lv_astore_n (lv' := [(2, .ref n_2), (0, .ref (a 0)), (1, .ref ra_)]) zx zb dX0_newWords_21 rfl hl (by decide) rfl (fun ls hl => ?_)
    refine lv_aload_n zx zb dX0_newWords_22 rfl (lv_at hl 1 rfl) ?_
    refine lv_aload_n zx zb dX0_newWords_23 rfl (lv_at hl 2 rfl) ?_
    refine lv_iconst (v := nI 1) zx zb dX0_newWords_24 (by decide) ?_
    refine lv_aload_n zx zb dX0_newWords_25 rfl (lv_at hl 0 rfl) ?_
    obtain ⟨yx, hyx⟩ := List.getElem?_of_mem (show (a 0, .inr (0, [.int trace, .int (nI len), .ref (a 1), .ref (a 2), .int (nI stand), .int (oI first), .int (oI allh), .int (nI hAll), .ref (a 3), .ref (a 4), .ref rn, .ref rt, .ref (a 5), .int fault, .ref (a 6)])) ∈ rd0 ++ xW dA a rn rt trace len stand first allh hAll fault row hOf farOf rowsN rowsT mcW edW words mcR edR rdgs sh (((ra_, aI dA m_ (cfN cl_ p_ m_)) :: ow) ++ ex) from List.mem_append_right _ (List.mem_of_getElem? (i := 0) rfl))
    refine nv_ki zC hX (nv_rV (n := 3) (As := [.ref ra_, .int (nI 1), .ref n_2]) (rest := []) (q0 := yx) zC hX (mx_wordsIn (x0 := a 0) (xfs := [.int trace, .int (nI len), .ref (a 1), .ref (a 2), .int (nI stand), .int (oI first), .int (oI allh), .int (nI hAll), .ref (a 3), .ref (a 4), .ref rn, .ref rt, .ref (a 5), .int fault, .ref (a 6)]) (cl_ := cl_) (p_ := p_) (m_ := m_) (rd := rd0) (mc0 := nI 0) (ed0 := ra_3) (f0 := fun _ => none) (ex := xW dA a rn rt trace len stand first allh hAll fault row hOf farOf rowsN rowsT mcW edW words mcR edR rdgs sh (((ra_, aI dA m_ (cfN cl_ p_ m_)) :: ow) ++ ex)) (ra_ := ra_) (zfr := 1) (zl := n_2) (hra := (xw_own (ow := (ra_, aI dA m_ (cfN cl_ p_ m_)) :: ow) _ List.mem_cons_self)) (hx0 := (List.mem_of_getElem? (i := 0) rfl)) (hm := hm) (hm1 := hm1) (hr0 := hr0)) (nvE_b a0 ez) (nvE_keep zG hX) hyx rfl q836 q838 qs23 q59 q839 (by decide +kernel) rfl ⟨Nat.le_of_ble_eq_true rfl, Nat.le_of_ble_eq_true rfl⟩ hl.1 (Nat.le_of_ble_eq_true rfl) dX0_newWords_26 ⟨by first | exact Nat.le_of_ble_eq_true rfl | omega, by first | exact Nat.le_of_ble_eq_true rfl | omega⟩) (fun r u H locs hp hX => ?_)
    obtain ⟨rd'_4, mc'_4, n'_4, f'_4, kd'_4, ln'_4, lt'_4, pa'_4, la'_4⟩ := u
    obtain ⟨hr_, h26⟩ : r = (if (pRun cl_ (p_ + m_) 4 0 (p_ + 1)).1 = true then nI 0 else (-100) - nI ((pRun cl_ (p_ + m_) 4 0 (p_ + 1)).2.1 - p_)) ∧ ((pRun cl_ (p_ + m_) 4 0 (p_ + 1)).1 = true → n'_4 = (pRun cl_ (p_ + m_) 4 0 (p_ + 1)).2.2 ∧ 0 < n'_4 ∧ n'_4 ≤ 4 ∧ rdL dA (a 0) n_2 ra_3 mc'_4 n'_4 f'_4 kd'_4 ln'_4 lt'_4 pa'_4 la'_4 rd'_4 ∧ wdsOK cl_ (p_ + m_) p_ n'_4 (fun w => some (kd'_4 w)) ln'_4 lt'_4 ∧ (∀ w, kd'_4 w < 3) ∧ (∀ w, ln'_4 w ≤ 4) ∧ (∀ j, lt'_4 j < 3) ∧ ∀ w, w < n'_4 → 1 ≤ ln'_4 w) := hp
    subst hr_
    have hX : nvS D a0 ((rd'_4 ++ (xW dA a rn rt trace len stand first allh hAll fault row hOf farOf rowsN rowsT mcW edW words mcR edR rdgs sh (((ra_, aI dA m_ (cfN cl_ p_ m_)) :: ow) ++ ex)))) s.heap H locs := hX
    refine lv_istore_n (lv' := [(3, .int (if (pRun cl_ (p_ + m_) 4 0 (p_ + 1)).1 = true then nI 0 else (-100) - nI ((pRun cl_ (p_ + m_) 4 0 (p_ + 1)).2.1 - p_))), (2, .ref n_2), (0, .ref (a 0)), (1, .ref ra_)]) zx zb dX0_newWords_29 rfl hl (by decide) rfl (fun ls hl => ?_)
    obtain hb_ | hb_ : (pRun cl_ (p_ + m_) 4 0 (p_ + 1)).1 = false ∨ (pRun cl_ (p_ + m_) 4 0 (p_ + 1)).1 = true := by cases (pRun cl_ (p_ + m_) 4 0 (p_ + 1)).1 <;> simp
    · rw [if_neg (by rw [hb_]; decide)] at hl
      refine lv_iload_n zx zb dX0_newWords_30 rfl (lv_at hl 0 rfl) ?_
      refine lv_if_ge (x := (-100) - nI ((pRun cl_ (p_ + m_) 4 0 (p_ + 1)).2.1 - p_)) (tgt := 36) zx zb dX0_newWords_31 (by decide) (fun c31 => ?_) (fun c31 => ?_)
      · exact absurd c31 (neg100 (by have := pRun_le (cells := cl_) (en := p_ + m_) 4 0 (p_ + 1) (by omega); omega))
      · have hX : nvS D a0 (xW dA a rn rt trace len stand first allh hAll fault row hOf farOf rowsN rowsT mcW edW words mcR edR rdgs sh ((rd'_4 ++ ((ra_, aI dA m_ (cfN cl_ p_ m_)) :: ow)) ++ ex)) s.heap H locs := by have z := hX.perm (xW_pl _ _); rw [← List.append_assoc] at z; exact z
        refine lv_iload_n zx zb dX0_newWords_34 rfl (lv_at hl 0 rfl) ?_
        rw [← zQ]
        exact nv_endi zC zr zk (rd'_4 ++ ((ra_, aI dA m_ (cfN cl_ p_ m_)) :: ow), words, len, mcW, edW, rdgs, mcR, kind, longOf, letters, fW, pa, la, fR, col) hX (⟨by rw [hpa, if_neg (by rw [hb_]; decide)], fun _ => ⟨rfl, rfl, rfl, rfl, rfl, rfl⟩, (fun z => absurd z (by rw [hpa, hb_]; simp)), hok, hdo, hT.mono (fun z hz => List.mem_append_right _ (List.mem_cons_of_mem _ hz))⟩) (by omega) (by omega) dX0_newWords_35
    · rw [if_pos hb_] at hl
      obtain ⟨hn_, hn0, hn4, hrd, hws, hkd, hln, hlt, hl1⟩ := h26 hb_
      obtain ⟨ow1, e_ow1⟩ : ∃ zw_, zw_ = rd'_4 ++ ((ra_, aI dA m_ (cfN cl_ p_ m_)) :: ow) := ⟨_, rfl⟩
      have hX : nvS D a0 (xW dA a rn rt trace len stand first allh hAll fault row hOf farOf rowsN rowsT mcW edW words mcR edR rdgs sh (ow1 ++ ex)) s.heap H locs := by have z := hX.perm (xW_pl _ _); rw [← List.append_assoc, ← e_ow1] at z; exact z
      have hs_ow1 : ∀ z, z ∈ ow → z ∈ ow1 := by rw [e_ow1]; exact fun z hz => List.mem_append_right _ (List.mem_cons_of_mem _ hz)
      have hsr : ∀ z, z ∈ rd'_4 → z ∈ ow1 := by rw [e_ow1]; exact fun z hz => List.mem_append_left _ hz
      have hfr2 : ∀ z, z ∈ rd'_4 → ∀ z', z' ∈ ow → z'.1 ≠ z.1 := fun z hz z' hz' => nvS.fr2 (pre := xW dA a rn rt trace len stand first allh hAll fault row hOf farOf rowsN rowsT mcW edW words mcR edR rdgs sh ([])) (l := rd'_4) (r := (ra_, aI dA m_ (cfN cl_ p_ m_)) :: ow) (ex := ex) (by rw [← e_ow1]; exact hX) z hz z' (List.mem_cons_of_mem _ hz')
      have hfl : ∀ i, i < n'_4 → ∀ k, k < 4 → so k ≠ none → lS k ≠ la'_4 i := fun i hi k hk hn => by
        obtain ⟨v, hv⟩ := so_some hn
        obtain ⟨-, -, -, h3⟩ := (hT.2.2.1 k hk).2 v hv
        obtain ⟨-, -, g, h4, -⟩ := hrd.2.2.1 i hi
        exact hfr2 _ h4 _ h3
      have hrne : (edR, aO dA 10 fR) ∈ ow → edR ≠ ez := fun z => nv_nez zG hX (xw_own _ (hs_ow1 _ z))
      have hT1 := hT.mono hs_ow1
      have hrd1 := hrd.mono hsr
      have hR1 := hT1.2.1.wk
      have hS1 := hT1.2.2.1.wk
      have hu1 := hX.un.sub xw_own
      refine lv_iload_n zx zb dX0_newWords_30 rfl (lv_at hl 0 rfl) ?_
      refine nv_if_ge (tgt := 36) zx zb (by decide) dX0_newWords_31 (by decide) ?_
      refine lv_aload_n zx zb dX0_newWords_36 rfl (lv_at hl 2 rfl) ?_
      refine nv_get zC hX in_X0 0 rfl rfl 3 (by decide) q134 (fun _ h => h) rfl dX0_newWords_37 ?_
      rcases hT.1.1 with ⟨hr0_, hre⟩ | hre
      · refine nv_kFv zC hX (nv_rF (q := (RJ2, TJ2, 3)) (x := ⟨"java/util/List", "clear", "()V"⟩) (y := yJ2_clear) (n := 0) (As := []) (rest := []) (q0 := 2) zC hX (mj_clearB (q0 := 2) (mc := mcW) (ed := edW) (n := words) (zh := a 2) (h0 := rfl) (hn0 := hr0_)) (nvE_b a0 ez) (nvE_keep zG hX) (nvE_f6 zG) rfl rfl q916 q921 q919 q62 q923 (by decide +kernel) rfl ⟨Nat.le_of_ble_eq_true rfl, Nat.le_of_ble_eq_true rfl⟩ hl.1 (Nat.le_of_ble_eq_true rfl) dX0_newWords_40 ⟨by first | exact Nat.le_of_ble_eq_true rfl | omega, by first | exact Nat.le_of_ble_eq_true rfl | omega⟩) (fun u H locs hp hX => ?_)
        have hX : nvS D a0 (lW 2 (a 2) (mcW + nI 1) edW 0 (xW dA a rn rt trace len stand first allh hAll fault row hOf farOf rowsN rowsT mcW edW words mcR edR rdgs sh (ow1 ++ ex))) s.heap H locs := hX
        refine W.cs (cells' := 0 + 1 + 1 + 12) (slots' := 0 + 3 + 10 + 48) (Nat.add_zero _) (Nat.add_zero _) ?_
        have hX : nvS D a0 (xW dA a rn rt trace len stand first allh hAll fault row hOf farOf rowsN rowsT (mcW + nI 1) edW 0 mcR edR rdgs sh (ow1 ++ ex)) s.heap H locs := hX.as rfl
        have hrd2 := hrd1
        have hR2 : edR ≠ ez → (edR, aO dA 10 fR) ∈ ow1 := fun z => hR1.e z
        have hS2 := hS1
        have hu2 := hu1
        refine lv_aload_n zx zb dX0_newWords_45 rfl (lv_at hl 2 rfl) ?_
        refine nv_get zC hX in_X0 0 rfl rfl 3 (by decide) q134 (fun _ h => h) rfl dX0_newWords_46 ?_
        refine lv_aload_n zx zb dX0_newWords_49 rfl (lv_at hl 1 rfl) ?_
        refine nv_kFi zC hX (nv_rF (q := (RJ2, TJ2, 3)) (x := ⟨"java/util/List", "addAll", "(Ljava/util/Collection;)Z"⟩) (y := yJ2_addAll) (n := 1) (As := [.ref n_2]) (rest := []) (q0 := 2) zC hX (mj_addAllB (q0 := 2) (mc := mcW + nI 1) (zh := a 2) (mcl := mc'_4) (edl := ra_3) (cpl := 4) (fl := f'_4) (n := n'_4) (zl := n_2) (h0 := (by show some (a 2, (.inr (12, [.int (mcW + nI 1), .ref edW, .int (nI 0)]) : va_E)) = _; rw [hre])) (hml := (xw_own _ hrd2.1)) (hal := (xw_own _ hrd2.2.1)) (hn1 := hn0) (hn := hn4) (hcp := (by decide)) (hel := (fun i hi y hy => by
          obtain ⟨ci, vs, q, a1, a2, a3⟩ := hrd2.el hkd i hi y hy
          exact ⟨ci, vs, q, xw_own _ a1, a2, a3⟩))) (nvE2_b a0 ez mo) (nvE2_keep zG2 hX) (nvE_f7 zG) rfl rfl q925 q930 q928 q62 q932 (by decide +kernel) rfl ⟨Nat.le_of_ble_eq_true rfl, Nat.le_of_ble_eq_true rfl⟩ hl.1 (Nat.le_of_ble_eq_true rfl) dX0_newWords_50 ⟨by first | exact Nat.le_of_ble_eq_true rfl | omega, by first | exact Nat.le_of_ble_eq_true rfl | omega⟩) (fun r u H locs hp hX => ?_)
        obtain ⟨rb_6, ra_6, g_6, f'_6⟩ := u
        obtain ⟨hr_, h50⟩ : r = nB true ∧ (∀ j, j < n'_4 → f'_6 j = f'_4 j) := hp
        subst hr_
        have hX : nvS D a0 ((rb_6, aO dA 10 f'_6) :: (ra_6, aO dA n'_4 g_6) :: lW 2 (a 2) (mcW + nI 1 + nI 1) rb_6 n'_4 (xW dA a rn rt trace len stand first allh hAll fault row hOf farOf rowsN rowsT (mcW + nI 1) edW 0 mcR edR rdgs sh (ow1 ++ ex))) s.heap H locs := hX
        obtain ⟨ow3, e_ow3⟩ : ∃ zw_, zw_ = (rb_6, aO dA 10 f'_6) :: (ra_6, aO dA n'_4 g_6) :: ow1 := ⟨_, rfl⟩
        have hX : nvS D a0 (xW dA a rn rt trace len stand first allh hAll fault row hOf farOf rowsN rowsT (mcW + nI 1 + nI 1) rb_6 n'_4 mcR edR rdgs sh (ow3 ++ ex)) s.heap H locs := by rw [e_ow3]; exact hX.perm (xW_pl [_, _] _)
        have hs3 : ∀ z, z ∈ ow1 → z ∈ ow3 := by rw [e_ow3]; exact fun z hz => List.mem_cons_of_mem _ (List.mem_cons_of_mem _ hz)
        have hrd3 := hrd2.mono hs3
        have hR3 : edR ≠ ez → (edR, aO dA 10 fR) ∈ ow3 := fun z => hs3 _ (hR2 z)
        have hS3 := hS2.mono hs3
        have he3 : (rb_6, aO dA 10 f'_6) ∈ ow3 := by rw [e_ow3]; exact List.mem_cons_self
        have hne3 : edR ≠ ez → edR ≠ rb_6 := fun z => nvS.fr (pre := xW dA a rn rt trace len stand first allh hAll fault row hOf farOf rowsN rowsT (mcW + nI 1 + nI 1) rb_6 n'_4 mcR edR rdgs sh ([])) (q := rb_6) (c := aO dA 10 f'_6) (ow := (ra_6, aO dA n'_4 g_6) :: ow1) (ex := ex) (by rw [← e_ow3]; exact hX) _ (List.mem_cons_of_mem _ (hR2 z))
        have hu3 := hX.un.sub xw_own
        refine lv_pop zx zb dX0_newWords_55 rfl ?_
        refine lv_aload_n zx zb dX0_newWords_56 rfl (lv_at hl 2 rfl) ?_
        refine lv_iconst (v := nI 0) zx zb dX0_newWords_57 (by decide) ?_
        refine nv_put zC hX in_X0 tyX0 tyX0_ok nmX0 0 rfl rfl 1 (by decide) q132 (fun _ h => h) rfl rfl rfl (Nat.le_of_ble_eq_true rfl) (w' := xW dA a rn rt trace 0 stand first allh hAll fault row hOf farOf rowsN rowsT (mcW + nI 1 + nI 1) rb_6 n'_4 mcR edR rdgs sh (ow3 ++ ex)) rfl dX0_newWords_58 (fun H locs hX => ?_)
        refine lv_aload_n zx zb dX0_newWords_61 rfl (lv_at hl 2 rfl) ?_
        refine nv_get zC hX in_X0 0 rfl rfl 12 (by decide) q143 (fun _ h => h) rfl dX0_newWords_62 ?_
        rcases hT.2.1.1 with ⟨hrr0, hrr⟩ | hrr
        · refine nv_kFv zC hX (nv_rF (q := (RJ2, TJ2, 3)) (x := ⟨"java/util/List", "clear", "()V"⟩) (y := yJ2_clear) (n := 0) (As := []) (rest := []) (q0 := 7) zC hX (mj_clearB (q0 := 7) (mc := mcR) (ed := edR) (n := rdgs) (zh := a 5) (h0 := rfl) (hn0 := hrr0)) (nvE_b a0 ez) (nvE_keep zG hX) (nvE_f6 zG) rfl rfl q916 q921 q919 q62 q923 (by decide +kernel) rfl ⟨Nat.le_of_ble_eq_true rfl, Nat.le_of_ble_eq_true rfl⟩ hl.1 (Nat.le_of_ble_eq_true rfl) dX0_newWords_65 ⟨by first | exact Nat.le_of_ble_eq_true rfl | omega, by first | exact Nat.le_of_ble_eq_true rfl | omega⟩) (fun u H locs hp hX => ?_)
          have hX : nvS D a0 (lW 7 (a 5) (mcR + nI 1) edR 0 (xW dA a rn rt trace 0 stand first allh hAll fault row hOf farOf rowsN rowsT (mcW + nI 1 + nI 1) rb_6 n'_4 mcR edR rdgs sh (ow3 ++ ex))) s.heap H locs := hX
          refine W.cs (cells' := 0 + 1 + 1 + 12 + 2) (slots' := 0 + 3 + 10 + 48 + 20) (Nat.add_zero _) (Nat.add_zero _) ?_
          have hX : nvS D a0 (xW dA a rn rt trace 0 stand first allh hAll fault row hOf farOf rowsN rowsT (mcW + nI 1 + nI 1) rb_6 n'_4 (mcR + nI 1) edR 0 sh (ow3 ++ ex)) s.heap H locs := hX.as rfl
          have hrd4 := hrd3
          have hS4 := hS3
          have he4 := he3
          have hR4 := hR3
          have hK_ := tl_new (rWord := rWord) (rMany := rMany) (rStands := rStands) (rRow := rRow) (pr := pr) (lr := lr) hS4 hT.2.2.2 hrd4 (hX.un.sub xw_own) he4 h50 hfl hR4 hne3
          obtain ⟨ow5, hX, hTow5, hNow5⟩ := hK_.nor hn4 (by omega) (pre := xW dA a rn rt trace 0 stand first allh hAll fault row hOf farOf rowsN rowsT (mcW + nI 1 + nI 1) rb_6 n'_4 (mcR + nI 1) edR 0 sh ([])) (ex := ex) hX
          have hX : nvS D a0 (xW dA a rn rt trace 0 stand first allh hAll fault row hOf farOf rowsN rowsT (mcW + nI 1 + nI 1) rb_6 n'_4 (mcR + nI 1) edR 0 sh (ow5 ++ ex)) s.heap H locs := hX
          refine lv_aload_n zx zb dX0_newWords_70 rfl (lv_at hl 2 rfl) ?_
          refine nv_get zC hX in_X0 0 rfl rfl 3 (by decide) q134 (fun _ h => h) rfl dX0_newWords_71 ?_
          refine nv_kFi zC hX (nv_rF (q := (RJ2, TJ2, 3)) (x := ⟨"java/util/List", "size", "()I"⟩) (y := yJ2_size) (n := 0) (As := []) (rest := []) (q0 := 2) zC hX (mj_size (zh := a 2) (mc := mcW + nI 1 + nI 1) (ed := rb_6) (n := n'_4) (hm := (List.mem_of_getElem? (i := 2) rfl))) nvGb0 (fun _ _ _ => trivial) (nvE_f0 zG) rfl rfl q188 q194 q192 q62 q196 (by decide +kernel) rfl ⟨Nat.le_of_ble_eq_true rfl, Nat.le_of_ble_eq_true rfl⟩ hl.1 (Nat.le_of_ble_eq_true rfl) dX0_newWords_74 ⟨by first | exact Nat.le_of_ble_eq_true rfl | omega, by first | exact Nat.le_of_ble_eq_true rfl | omega⟩) (fun r u H locs hp hX => ?_)
          have hr_ : r = nI n'_4 := hp
          subst hr_
          have hX : nvS D a0 (xW dA a rn rt trace 0 stand first allh hAll fault row hOf farOf rowsN rowsT (mcW + nI 1 + nI 1) rb_6 n'_4 (mcR + nI 1) edR 0 sh (ow5 ++ ex)) s.heap H locs := hX
          refine W.cs (cells' := 0 + 1 + 1 + 12 + 2) (slots' := 0 + 3 + 10 + 48 + 20) (Nat.add_zero _) (Nat.add_zero _) ?_
          rw [← zQ]
          exact nv_endi zC zr zk (ow5, n'_4, 0, mcW + nI 1 + nI 1, rb_6, 0, mcR + nI 1, kd'_4, ln'_4, lt'_4, f'_6, pa'_4, la'_4, fR, _) hX (⟨by rw [hpa, hb_, if_pos rfl, hn_], (fun z => absurd z (by rw [hpa, hb_]; simp)), fun _ => ⟨by rw [hpa]; exact hn_, rfl, rfl, hn0, hws⟩, wok_new hn4 hkd hln hlt hl1, ⟨Nat.zero_le 8, fun i h => absurd h (Nat.not_lt_zero _), hdo.2.2.1, hdo.2.2.2.1, hdo.2.2.2.2⟩, hTow5⟩) (by omega) (by omega) dX0_newWords_79
        · obtain ⟨k2_, hkr⟩ := List.getElem?_of_mem (hR3 (hrne hrr))
          refine nv_kFv zC hX (nv_rF (q := (RJ2, TJ2, 3)) (x := ⟨"java/util/List", "clear", "()V"⟩) (y := yJ2_clear) (n := 0) (As := []) (rest := []) (q0 := 7) zC hX (mj_clearA (q0 := 7) (q1 := (k2_ + 9)) (cp := 10) (f := fR) (mc := mcR) (ed := edR) (n := rdgs) (zh := a 5) (h0 := rfl) (h1 := (xW_9 hkr)) (hn := (by omega)) (hcp := (by decide))) (nvE_b a0 ez) (nvE_keep zG hX) (nvE_f6 zG) rfl rfl q916 q921 q919 q62 q923 (by decide +kernel) rfl ⟨Nat.le_of_ble_eq_true rfl, Nat.le_of_ble_eq_true rfl⟩ hl.1 (Nat.le_of_ble_eq_true rfl) dX0_newWords_65 ⟨by first | exact Nat.le_of_ble_eq_true rfl | omega, by first | exact Nat.le_of_ble_eq_true rfl | omega⟩) (fun u H locs hp hX => ?_)
          obtain ⟨f'_9, rfl⟩ : ∃ z, z = u := ⟨_, rfl⟩
          have hX : nvS D a0 (jW dA 7 (k2_ + 9) (a 5) (mcR + nI 1) edR 0 10 f'_9 (xW dA a rn rt trace 0 stand first allh hAll fault row hOf farOf rowsN rowsT (mcW + nI 1 + nI 1) rb_6 n'_4 mcR edR rdgs sh (ow3 ++ ex))) s.heap H locs := hX
          refine W.cs (cells' := 0 + 1 + 1 + 12 + 2) (slots' := 0 + 3 + 10 + 48 + 20) (Nat.add_zero _) (Nat.add_zero _) ?_
          obtain ⟨ow4, e_ow4⟩ : ∃ zw_, zw_ = ow3.set k2_ (edR, aO dA 10 f'_9) := ⟨_, rfl⟩
          have hX : nvS D a0 (xW dA a rn rt trace 0 stand first allh hAll fault row hOf farOf rowsN rowsT (mcW + nI 1 + nI 1) rb_6 n'_4 (mcR + nI 1) edR 0 sh (ow4 ++ ex)) s.heap H locs := by rw [e_ow4]; exact hX.as (jW_xW7 hkr)
          have kp3 : kpW edR ow3 ow4 := by rw [e_ow4]; exact set_kp hkr
          have hq3 := List.mem_of_getElem? hkr
          have hrd4 := hrd3.kpO hu3 hq3 kp3 (fun e => hfr2 _ hrd.2.1 _ hrr e.symm)
          have hS4 := hS3.kpO hu3 hq3 kp3
          have hRe : edR ≠ ez := nv_nez zG hX (xw_own _ (by rw [e_ow4]; exact set_in hkr _))
          have he4 : (rb_6, aO dA 10 f'_6) ∈ ow4 := kp3 _ he3 (fun e => hne3 hRe e.symm)
          have hR4 : edR ≠ ez → (edR, aO dA 10 f'_9) ∈ ow4 := fun _ => by rw [e_ow4]; exact set_in hkr _
          have hK_ := tl_new (rWord := rWord) (rMany := rMany) (rStands := rStands) (rRow := rRow) (pr := pr) (lr := lr) hS4 hT.2.2.2 hrd4 (hX.un.sub xw_own) he4 h50 hfl hR4 hne3
          obtain ⟨ow5, hX, hTow5, hNow5⟩ := hK_.nor hn4 (by omega) (pre := xW dA a rn rt trace 0 stand first allh hAll fault row hOf farOf rowsN rowsT (mcW + nI 1 + nI 1) rb_6 n'_4 (mcR + nI 1) edR 0 sh ([])) (ex := ex) hX
          have hX : nvS D a0 (xW dA a rn rt trace 0 stand first allh hAll fault row hOf farOf rowsN rowsT (mcW + nI 1 + nI 1) rb_6 n'_4 (mcR + nI 1) edR 0 sh (ow5 ++ ex)) s.heap H locs := hX
          refine lv_aload_n zx zb dX0_newWords_70 rfl (lv_at hl 2 rfl) ?_
          refine nv_get zC hX in_X0 0 rfl rfl 3 (by decide) q134 (fun _ h => h) rfl dX0_newWords_71 ?_
          refine nv_kFi zC hX (nv_rF (q := (RJ2, TJ2, 3)) (x := ⟨"java/util/List", "size", "()I"⟩) (y := yJ2_size) (n := 0) (As := []) (rest := []) (q0 := 2) zC hX (mj_size (zh := a 2) (mc := mcW + nI 1 + nI 1) (ed := rb_6) (n := n'_4) (hm := (List.mem_of_getElem? (i := 2) rfl))) nvGb0 (fun _ _ _ => trivial) (nvE_f0 zG) rfl rfl q188 q194 q192 q62 q196 (by decide +kernel) rfl ⟨Nat.le_of_ble_eq_true rfl, Nat.le_of_ble_eq_true rfl⟩ hl.1 (Nat.le_of_ble_eq_true rfl) dX0_newWords_74 ⟨by first | exact Nat.le_of_ble_eq_true rfl | omega, by first | exact Nat.le_of_ble_eq_true rfl | omega⟩) (fun r u H locs hp hX => ?_)
          have hr_ : r = nI n'_4 := hp
          subst hr_
          have hX : nvS D a0 (xW dA a rn rt trace 0 stand first allh hAll fault row hOf farOf rowsN rowsT (mcW + nI 1 + nI 1) rb_6 n'_4 (mcR + nI 1) edR 0 sh (ow5 ++ ex)) s.heap H locs := hX
          refine W.cs (cells' := 0 + 1 + 1 + 12 + 2) (slots' := 0 + 3 + 10 + 48 + 20) (Nat.add_zero _) (Nat.add_zero _) ?_
          rw [← zQ]
          exact nv_endi zC zr zk (ow5, n'_4, 0, mcW + nI 1 + nI 1, rb_6, 0, mcR + nI 1, kd'_4, ln'_4, lt'_4, f'_6, pa'_4, la'_4, f'_9, _) hX (⟨by rw [hpa, hb_, if_pos rfl, hn_], (fun z => absurd z (by rw [hpa, hb_]; simp)), fun _ => ⟨by rw [hpa]; exact hn_, rfl, rfl, hn0, hws⟩, wok_new hn4 hkd hln hlt hl1, ⟨Nat.zero_le 8, fun i h => absurd h (Nat.not_lt_zero _), hdo.2.2.1, hdo.2.2.2.1, hdo.2.2.2.2⟩, hTow5⟩) (by omega) (by omega) dX0_newWords_79
      · obtain ⟨k_, hk_⟩ := List.getElem?_of_mem (hs_ow1 _ hre)
        refine nv_kFv zC hX (nv_rF (q := (RJ2, TJ2, 3)) (x := ⟨"java/util/List", "clear", "()V"⟩) (y := yJ2_clear) (n := 0) (As := []) (rest := []) (q0 := 2) zC hX (mj_clearA (q0 := 2) (q1 := (k_ + 9)) (cp := 10) (f := fW) (mc := mcW) (ed := edW) (n := words) (zh := a 2) (h0 := rfl) (h1 := (xW_9 hk_)) (hn := (by omega)) (hcp := (by decide))) (nvE_b a0 ez) (nvE_keep zG hX) (nvE_f6 zG) rfl rfl q916 q921 q919 q62 q923 (by decide +kernel) rfl ⟨Nat.le_of_ble_eq_true rfl, Nat.le_of_ble_eq_true rfl⟩ hl.1 (Nat.le_of_ble_eq_true rfl) dX0_newWords_40 ⟨by first | exact Nat.le_of_ble_eq_true rfl | omega, by first | exact Nat.le_of_ble_eq_true rfl | omega⟩) (fun u H locs hp hX => ?_)
        obtain ⟨f'_11, rfl⟩ : ∃ z, z = u := ⟨_, rfl⟩
        have hX : nvS D a0 (jW dA 2 (k_ + 9) (a 2) (mcW + nI 1) edW 0 10 f'_11 (xW dA a rn rt trace len stand first allh hAll fault row hOf farOf rowsN rowsT mcW edW words mcR edR rdgs sh (ow1 ++ ex))) s.heap H locs := hX
        refine W.cs (cells' := 0 + 1 + 1 + 12) (slots' := 0 + 3 + 10 + 48) (Nat.add_zero _) (Nat.add_zero _) ?_
        obtain ⟨ow2, e_ow2⟩ : ∃ zw_, zw_ = ow1.set k_ (edW, aO dA 10 f'_11) := ⟨_, rfl⟩
        have hX : nvS D a0 (xW dA a rn rt trace len stand first allh hAll fault row hOf farOf rowsN rowsT (mcW + nI 1) edW 0 mcR edR rdgs sh (ow2 ++ ex)) s.heap H locs := by rw [e_ow2]; exact hX.as (jW_xW2 hk_)
        have kp1 : kpW edW ow1 ow2 := by rw [e_ow2]; exact set_kp hk_
        have hk2 : ow2[k_]? = some (edW, aO dA 10 f'_11) := by rw [e_ow2]; exact set_get hk_
        have hq1 := List.mem_of_getElem? hk_
        have hWe : edW ≠ ez := nv_nez zG hX (xw_own _ (List.mem_of_getElem? hk2))
        have hwr : edR ≠ ez → edR ≠ edW := fun z e => by have c1 := hT.2.2.2.2.2.2.1 hWe; have c2 := hT.2.2.2.2.2.2.2 z; rw [e, c1] at c2; omega
        have hrd2 := hrd1.kpO hu1 hq1 kp1 (fun e => hfr2 _ hrd.2.1 _ hre e.symm)
        have hR2 : edR ≠ ez → (edR, aO dA 10 fR) ∈ ow2 := fun z => kp1 _ (hR1.e z) (hwr z)
        have hS2 := hS1.kpO hu1 hq1 kp1
        have hu2 := hX.un.sub xw_own
        refine lv_aload_n zx zb dX0_newWords_45 rfl (lv_at hl 2 rfl) ?_
        refine nv_get zC hX in_X0 0 rfl rfl 3 (by decide) q134 (fun _ h => h) rfl dX0_newWords_46 ?_
        refine lv_aload_n zx zb dX0_newWords_49 rfl (lv_at hl 1 rfl) ?_
        refine nv_kFi zC hX (nv_rF (q := (RJ2, TJ2, 3)) (x := ⟨"java/util/List", "addAll", "(Ljava/util/Collection;)Z"⟩) (y := yJ2_addAll) (n := 1) (As := [.ref n_2]) (rest := []) (q0 := 2) zC hX (mj_addAllA (q0 := 2) (mc := mcW + nI 1) (zh := a 2) (mcl := mc'_4) (edl := ra_3) (cpl := 4) (fl := f'_4) (n := n'_4) (q1 := (k_ + 9)) (ed := edW) (f0 := f'_11) (zl := n_2) (h0 := rfl) (h1 := (xW_9 hk2)) (hml := (xw_own _ hrd2.1)) (hal := (xw_own _ hrd2.2.1)) (hn1 := hn0) (hn := hn4) (hcp := (by decide)) (hel := (fun i hi y hy => by
          obtain ⟨ci, vs, q, a1, a2, a3⟩ := hrd2.el hkd i hi y hy
          exact ⟨ci, vs, q, xw_own _ a1, a2, a3⟩))) (nvE2_b a0 ez mo) (nvE2_keep zG2 hX) (nvE_f7 zG) rfl rfl q925 q930 q928 q62 q932 (by decide +kernel) rfl ⟨Nat.le_of_ble_eq_true rfl, Nat.le_of_ble_eq_true rfl⟩ hl.1 (Nat.le_of_ble_eq_true rfl) dX0_newWords_50 ⟨by first | exact Nat.le_of_ble_eq_true rfl | omega, by first | exact Nat.le_of_ble_eq_true rfl | omega⟩) (fun r u H locs hp hX => ?_)
        obtain ⟨ra_12, g_12, f'_12⟩ := u
        obtain ⟨hr_, h50⟩ : r = nB true ∧ (∀ j, j < n'_4 → f'_12 j = f'_4 j) := hp
        subst hr_
        have hX : nvS D a0 ((ra_12, aO dA n'_4 g_12) :: jW dA 2 (k_ + 9) (a 2) (mcW + nI 1 + nI 1) edW n'_4 10 f'_12 (xW dA a rn rt trace len stand first allh hAll fault row hOf farOf rowsN rowsT (mcW + nI 1) edW 0 mcR edR rdgs sh (ow2 ++ ex))) s.heap H locs := hX
        obtain ⟨ow3, e_ow3⟩ : ∃ zw_, zw_ = (ra_12, aO dA n'_4 g_12) :: ow2.set k_ (edW, aO dA 10 f'_12) := ⟨_, rfl⟩
        have hX : nvS D a0 (xW dA a rn rt trace len stand first allh hAll fault row hOf farOf rowsN rowsT (mcW + nI 1 + nI 1) edW n'_4 mcR edR rdgs sh (ow3 ++ ex)) s.heap H locs := by rw [e_ow3]; exact (hX.as (congrArg (List.cons _) (jW_xW2 hk2))).perm (xW_pm _ _)
        have kp2 : kpW edW ow2 ow3 := by rw [e_ow3]; exact fun z hz hn => List.mem_cons_of_mem _ (set_kp hk2 z hz hn)
        have hq2 := List.mem_of_getElem? hk2
        have hrd3 := hrd2.kpO hu2 hq2 kp2 (fun e => hfr2 _ hrd.2.1 _ hre e.symm)
        have hR3 : edR ≠ ez → (edR, aO dA 10 fR) ∈ ow3 := fun z => kp2 _ (hR2 z) (hwr z)
        have hS3 := hS2.kpO hu2 hq2 kp2
        have he3 : (edW, aO dA 10 f'_12) ∈ ow3 := by rw [e_ow3]; exact List.mem_cons_of_mem _ (set_in hk2 _)
        have hne3 : edR ≠ ez → edR ≠ edW := hwr
        have hu3 := hX.un.sub xw_own
        refine lv_pop zx zb dX0_newWords_55 rfl ?_
        refine lv_aload_n zx zb dX0_newWords_56 rfl (lv_at hl 2 rfl) ?_
        refine lv_iconst (v := nI 0) zx zb dX0_newWords_57 (by decide) ?_
        refine nv_put zC hX in_X0 tyX0 tyX0_ok nmX0 0 rfl rfl 1 (by decide) q132 (fun _ h => h) rfl rfl rfl (Nat.le_of_ble_eq_true rfl) (w' := xW dA a rn rt trace 0 stand first allh hAll fault row hOf farOf rowsN rowsT (mcW + nI 1 + nI 1) edW n'_4 mcR edR rdgs sh (ow3 ++ ex)) rfl dX0_newWords_58 (fun H locs hX => ?_)
        refine lv_aload_n zx zb dX0_newWords_61 rfl (lv_at hl 2 rfl) ?_
        refine nv_get zC hX in_X0 0 rfl rfl 12 (by decide) q143 (fun _ h => h) rfl dX0_newWords_62 ?_
        rcases hT.2.1.1 with ⟨hrr0, hrr⟩ | hrr
        · refine nv_kFv zC hX (nv_rF (q := (RJ2, TJ2, 3)) (x := ⟨"java/util/List", "clear", "()V"⟩) (y := yJ2_clear) (n := 0) (As := []) (rest := []) (q0 := 7) zC hX (mj_clearB (q0 := 7) (mc := mcR) (ed := edR) (n := rdgs) (zh := a 5) (h0 := rfl) (hn0 := hrr0)) (nvE_b a0 ez) (nvE_keep zG hX) (nvE_f6 zG) rfl rfl q916 q921 q919 q62 q923 (by decide +kernel) rfl ⟨Nat.le_of_ble_eq_true rfl, Nat.le_of_ble_eq_true rfl⟩ hl.1 (Nat.le_of_ble_eq_true rfl) dX0_newWords_65 ⟨by first | exact Nat.le_of_ble_eq_true rfl | omega, by first | exact Nat.le_of_ble_eq_true rfl | omega⟩) (fun u H locs hp hX => ?_)
          have hX : nvS D a0 (lW 7 (a 5) (mcR + nI 1) edR 0 (xW dA a rn rt trace 0 stand first allh hAll fault row hOf farOf rowsN rowsT (mcW + nI 1 + nI 1) edW n'_4 mcR edR rdgs sh (ow3 ++ ex))) s.heap H locs := hX
          refine W.cs (cells' := 0 + 1 + 1 + 12 + 1) (slots' := 0 + 3 + 10 + 48 + 10) (Nat.add_zero _) (Nat.add_zero _) ?_
          have hX : nvS D a0 (xW dA a rn rt trace 0 stand first allh hAll fault row hOf farOf rowsN rowsT (mcW + nI 1 + nI 1) edW n'_4 (mcR + nI 1) edR 0 sh (ow3 ++ ex)) s.heap H locs := hX.as rfl
          have hrd4 := hrd3
          have hS4 := hS3
          have he4 := he3
          have hR4 := hR3
          have hK_ := tl_new (rWord := rWord) (rMany := rMany) (rStands := rStands) (rRow := rRow) (pr := pr) (lr := lr) hS4 hT.2.2.2 hrd4 (hX.un.sub xw_own) he4 h50 hfl hR4 hne3
          obtain ⟨ow5, hX, hTow5, hNow5⟩ := hK_.nor hn4 (by omega) (pre := xW dA a rn rt trace 0 stand first allh hAll fault row hOf farOf rowsN rowsT (mcW + nI 1 + nI 1) edW n'_4 (mcR + nI 1) edR 0 sh ([])) (ex := ex) hX
          have hX : nvS D a0 (xW dA a rn rt trace 0 stand first allh hAll fault row hOf farOf rowsN rowsT (mcW + nI 1 + nI 1) edW n'_4 (mcR + nI 1) edR 0 sh (ow5 ++ ex)) s.heap H locs := hX
          refine lv_aload_n zx zb dX0_newWords_70 rfl (lv_at hl 2 rfl) ?_
          refine nv_get zC hX in_X0 0 rfl rfl 3 (by decide) q134 (fun _ h => h) rfl dX0_newWords_71 ?_
          refine nv_kFi zC hX (nv_rF (q := (RJ2, TJ2, 3)) (x := ⟨"java/util/List", "size", "()I"⟩) (y := yJ2_size) (n := 0) (As := []) (rest := []) (q0 := 2) zC hX (mj_size (zh := a 2) (mc := mcW + nI 1 + nI 1) (ed := edW) (n := n'_4) (hm := (List.mem_of_getElem? (i := 2) rfl))) nvGb0 (fun _ _ _ => trivial) (nvE_f0 zG) rfl rfl q188 q194 q192 q62 q196 (by decide +kernel) rfl ⟨Nat.le_of_ble_eq_true rfl, Nat.le_of_ble_eq_true rfl⟩ hl.1 (Nat.le_of_ble_eq_true rfl) dX0_newWords_74 ⟨by first | exact Nat.le_of_ble_eq_true rfl | omega, by first | exact Nat.le_of_ble_eq_true rfl | omega⟩) (fun r u H locs hp hX => ?_)
          have hr_ : r = nI n'_4 := hp
          subst hr_
          have hX : nvS D a0 (xW dA a rn rt trace 0 stand first allh hAll fault row hOf farOf rowsN rowsT (mcW + nI 1 + nI 1) edW n'_4 (mcR + nI 1) edR 0 sh (ow5 ++ ex)) s.heap H locs := hX
          refine W.cs (cells' := 0 + 1 + 1 + 12 + 1) (slots' := 0 + 3 + 10 + 48 + 10) (Nat.add_zero _) (Nat.add_zero _) ?_
          rw [← zQ]
          exact nv_endi zC zr zk (ow5, n'_4, 0, mcW + nI 1 + nI 1, edW, 0, mcR + nI 1, kd'_4, ln'_4, lt'_4, f'_12, pa'_4, la'_4, fR, _) hX (⟨by rw [hpa, hb_, if_pos rfl, hn_], (fun z => absurd z (by rw [hpa, hb_]; simp)), fun _ => ⟨by rw [hpa]; exact hn_, rfl, rfl, hn0, hws⟩, wok_new hn4 hkd hln hlt hl1, ⟨Nat.zero_le 8, fun i h => absurd h (Nat.not_lt_zero _), hdo.2.2.1, hdo.2.2.2.1, hdo.2.2.2.2⟩, hTow5⟩) (by omega) (by omega) dX0_newWords_79
        · obtain ⟨k2_, hkr⟩ := List.getElem?_of_mem (hR3 (hrne hrr))
          refine nv_kFv zC hX (nv_rF (q := (RJ2, TJ2, 3)) (x := ⟨"java/util/List", "clear", "()V"⟩) (y := yJ2_clear) (n := 0) (As := []) (rest := []) (q0 := 7) zC hX (mj_clearA (q0 := 7) (q1 := (k2_ + 9)) (cp := 10) (f := fR) (mc := mcR) (ed := edR) (n := rdgs) (zh := a 5) (h0 := rfl) (h1 := (xW_9 hkr)) (hn := (by omega)) (hcp := (by decide))) (nvE_b a0 ez) (nvE_keep zG hX) (nvE_f6 zG) rfl rfl q916 q921 q919 q62 q923 (by decide +kernel) rfl ⟨Nat.le_of_ble_eq_true rfl, Nat.le_of_ble_eq_true rfl⟩ hl.1 (Nat.le_of_ble_eq_true rfl) dX0_newWords_65 ⟨by first | exact Nat.le_of_ble_eq_true rfl | omega, by first | exact Nat.le_of_ble_eq_true rfl | omega⟩) (fun u H locs hp hX => ?_)
          obtain ⟨f'_15, rfl⟩ : ∃ z, z = u := ⟨_, rfl⟩
          have hX : nvS D a0 (jW dA 7 (k2_ + 9) (a 5) (mcR + nI 1) edR 0 10 f'_15 (xW dA a rn rt trace 0 stand first allh hAll fault row hOf farOf rowsN rowsT (mcW + nI 1 + nI 1) edW n'_4 mcR edR rdgs sh (ow3 ++ ex))) s.heap H locs := hX
          refine W.cs (cells' := 0 + 1 + 1 + 12 + 1) (slots' := 0 + 3 + 10 + 48 + 10) (Nat.add_zero _) (Nat.add_zero _) ?_
          obtain ⟨ow4, e_ow4⟩ : ∃ zw_, zw_ = ow3.set k2_ (edR, aO dA 10 f'_15) := ⟨_, rfl⟩
          have hX : nvS D a0 (xW dA a rn rt trace 0 stand first allh hAll fault row hOf farOf rowsN rowsT (mcW + nI 1 + nI 1) edW n'_4 (mcR + nI 1) edR 0 sh (ow4 ++ ex)) s.heap H locs := by rw [e_ow4]; exact hX.as (jW_xW7 hkr)
          have kp3 : kpW edR ow3 ow4 := by rw [e_ow4]; exact set_kp hkr
          have hq3 := List.mem_of_getElem? hkr
          have hrd4 := hrd3.kpO hu3 hq3 kp3 (fun e => hfr2 _ hrd.2.1 _ hrr e.symm)
          have hS4 := hS3.kpO hu3 hq3 kp3
          have hRe : edR ≠ ez := nv_nez zG hX (xw_own _ (by rw [e_ow4]; exact set_in hkr _))
          have he4 : (edW, aO dA 10 f'_12) ∈ ow4 := kp3 _ he3 (fun e => hne3 hRe e.symm)
          have hR4 : edR ≠ ez → (edR, aO dA 10 f'_15) ∈ ow4 := fun _ => by rw [e_ow4]; exact set_in hkr _
          have hK_ := tl_new (rWord := rWord) (rMany := rMany) (rStands := rStands) (rRow := rRow) (pr := pr) (lr := lr) hS4 hT.2.2.2 hrd4 (hX.un.sub xw_own) he4 h50 hfl hR4 hne3
          obtain ⟨ow5, hX, hTow5, hNow5⟩ := hK_.nor hn4 (by omega) (pre := xW dA a rn rt trace 0 stand first allh hAll fault row hOf farOf rowsN rowsT (mcW + nI 1 + nI 1) edW n'_4 (mcR + nI 1) edR 0 sh ([])) (ex := ex) hX
          have hX : nvS D a0 (xW dA a rn rt trace 0 stand first allh hAll fault row hOf farOf rowsN rowsT (mcW + nI 1 + nI 1) edW n'_4 (mcR + nI 1) edR 0 sh (ow5 ++ ex)) s.heap H locs := hX
          refine lv_aload_n zx zb dX0_newWords_70 rfl (lv_at hl 2 rfl) ?_
          refine nv_get zC hX in_X0 0 rfl rfl 3 (by decide) q134 (fun _ h => h) rfl dX0_newWords_71 ?_
          refine nv_kFi zC hX (nv_rF (q := (RJ2, TJ2, 3)) (x := ⟨"java/util/List", "size", "()I"⟩) (y := yJ2_size) (n := 0) (As := []) (rest := []) (q0 := 2) zC hX (mj_size (zh := a 2) (mc := mcW + nI 1 + nI 1) (ed := edW) (n := n'_4) (hm := (List.mem_of_getElem? (i := 2) rfl))) nvGb0 (fun _ _ _ => trivial) (nvE_f0 zG) rfl rfl q188 q194 q192 q62 q196 (by decide +kernel) rfl ⟨Nat.le_of_ble_eq_true rfl, Nat.le_of_ble_eq_true rfl⟩ hl.1 (Nat.le_of_ble_eq_true rfl) dX0_newWords_74 ⟨by first | exact Nat.le_of_ble_eq_true rfl | omega, by first | exact Nat.le_of_ble_eq_true rfl | omega⟩) (fun r u H locs hp hX => ?_)
          have hr_ : r = nI n'_4 := hp
          subst hr_
          have hX : nvS D a0 (xW dA a rn rt trace 0 stand first allh hAll fault row hOf farOf rowsN rowsT (mcW + nI 1 + nI 1) edW n'_4 (mcR + nI 1) edR 0 sh (ow5 ++ ex)) s.heap H locs := hX
          refine W.cs (cells' := 0 + 1 + 1 + 12 + 1) (slots' := 0 + 3 + 10 + 48 + 10) (Nat.add_zero _) (Nat.add_zero _) ?_
          rw [← zQ]
          exact nv_endi zC zr zk (ow5, n'_4, 0, mcW + nI 1 + nI 1, edW, 0, mcR + nI 1, kd'_4, ln'_4, lt'_4, f'_12, pa'_4, la'_4, f'_15, _) hX (⟨by rw [hpa, hb_, if_pos rfl, hn_], (fun z => absurd z (by rw [hpa, hb_]; simp)), fun _ => ⟨by rw [hpa]; exact hn_, rfl, rfl, hn0, hws⟩, wok_new hn4 hkd hln hlt hl1, ⟨Nat.zero_le 8, fun i h => absurd h (Nat.not_lt_zero _), hdo.2.2.1, hdo.2.2.2.1, hdo.2.2.2.2⟩, hTow5⟩) (by omega) (by omega) dX0_newWords_79
  · have hpa : pAll cl_ (p_ + m_) p_ = (false, (p_, 0)) := pa_0 (by cases z : isg cl_ p_ (p_ + m_) 119 with | false => rfl | true => exact absurd ((cdA_i (t := 0) (by decide)).mpr z) c7)
    refine lv_bipush (v := (-100)) zx zb dX0_newWords_10 (by decide) ?_
    rw [← zQ]
    exact nv_endi zC zr zk ((ra_, aI dA m_ (cfN cl_ p_ m_)) :: ow, words, len, mcW, edW, rdgs, mcR, kind, longOf, letters, fW, pa, la, fR, col) hX (⟨by rw [hpa]; show _ = if false = true then _ else (-100) - nI (p_ - p_); rw [if_neg (by decide), Nat.sub_self]; rfl, fun _ => ⟨rfl, rfl, rfl, rfl, rfl, rfl⟩, (fun z => absurd z (by rw [hpa]; simp)), hok, hdo, hT.mono (fun z hz => List.mem_cons_of_mem _ hz)⟩) (by omega) (by omega) dX0_newWords_12
end CL_72_e6
