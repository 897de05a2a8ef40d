/-! printed by klass.py -/
set_option maxRecDepth 100000
section CL_46_c8
variable {l : Launch} {D : va_G} {dA : Nat → ClassId} {a0 ez : Nat} {ex : va_W} {a : Nat → Nat} {rn : Nat} {rt : Nat} {trace : Int32} {len : Nat} {stand : Nat} {first : Option Nat} {allh : Option Nat} {hAll : Nat} {fault : Int32} {row : Nat → Nat} {hOf : Nat → Nat} {farOf : Nat → Option Nat} {rowsN : Nat → Nat} {rowsT : Nat → Nat} {mcW : Int32} {edW : Nat} {words : Nat} {mcR : Int32} {edR : Nat} {rdgs : Nat} {sh : Nat → Option Nat} {kind longOf letters : Nat → Nat} {fW : Nat → Option Nat} {pa la : Nat → Nat} {rWord rMany rStands rRow : Nat → Nat} {fR : Nat → Option Nat} {pr lr : Nat → Nat}
set_option maxHeartbeats 4000000 in
theorem mx_measures   (hW : wdIn dA (a 0) words kind longOf letters edW ez fW pa la ex) (hok : wOK words kind longOf letters) : nMt l D dA a0 yX0_measures cX0_measures 7 (none) 6 128 0 0 (nvE a0 ez) [.ref (a 0)] (xW dA a rn rt trace len stand first allh hAll fault row hOf farOf rowsN rowsT mcW edW words mcR edR rdgs sh ex) (nQv D a0 (fun (u : (Nat → Option Nat) × Nat × Nat) => (∀ j, goE words j → u.1 j = dsU (stE kind longOf letters words) (gE words) u.2.1 j) ∧ (dsU (stE kind longOf letters words) (gE words) u.2.1 1 = some u.2.2) ∧ u.2.1 ≤ 16) (fun (u : (Nat → Option Nat) × Nat × Nat) => xW dA a rn rt trace len stand first allh hAll fault row hOf u.1 rowsN rowsT mcW edW words mcR edR rdgs sh ex)) := by
  refine nv_start (by decide) (Nat.le_of_ble_eq_true rfl) fun zp ze s zm zlo zme zcd ls zC zr zk znm hX zG hl => ?_
  have zx := zC.1
  have zb := zC.2.1
  generalize zargs : ([.ref (a 0)] : List Value).toArray = zar at zC ⊢
  generalize zQ : MQ zlo _ zar s _ _ _ = Q
  have hX : nvS D a0 (xW dA a rn rt trace len stand first allh hAll fault row hOf farOf rowsN rowsT mcW edW words mcR edR rdgs sh ex) s.heap s.heap [] := hX
  have hl : lv_has ls 7 [(0, .ref (a 0))] := hl
  obtain ⟨H, zH⟩ : ∃ H, H = s.heap := ⟨_, rfl⟩
  have hX : nvS D a0 (xW dA a rn rt trace len stand first allh hAll fault row hOf farOf rowsN rowsT mcW edW words mcR edR rdgs sh ex) s.heap H [] := by rw [zH]; exact hX
  rw [show W zp l ze (rm_ 6 128 0 0) s zm zar zlo zme zcd s.heap [] 0 0 Q = W zp l ze (rm_ 6 128 0 0) s zm zar zlo zme zcd H [] 0 0 Q by rw [zH]]
  generalize ([] : List Loc) = locs at hX ⊢
  have hw4 := hok.1
  have hp16 := pw4 hw4
  have hp1 : 0 < 2 ^ words := Nat.pow_pos (by decide)
  have go1 : goE words 1 := ⟨by decide, by rw [show 1 / 54 = 0 from rfl]; exact hp1⟩
  obtain ⟨x16, hx16⟩ := far_16 hok
  refine lv_aload_n zx zb dX0_measures_0 rfl (lv_at hl 0 rfl) ?_
  refine nv_get zC hX in_X0 0 rfl rfl 9 (by decide) q140 (fun _ h => h) rfl dX0_measures_1 ?_
  refine lv_bipush (v := (-9)) zx zb dX0_measures_4 (by decide) ?_
  refine nv_kv zC hX (nv_rS (n := 2) (As := [.ref (a 4), .int (-9)]) (rest := []) zC hX (mj_fillI (yk := 4) (n := 864) (f := oF farOf) (zh := a 4) (v := (-9)) (hk := rfl) (hn := (by decide))) nvGb0 (fun _ _ _ => trivial) q260 q261 q79 q262 (by decide +kernel) rfl ⟨Nat.le_of_ble_eq_true rfl, Nat.le_of_ble_eq_true rfl⟩ hl.1 (Nat.le_of_ble_eq_true rfl) dX0_measures_6 ⟨by first | exact Nat.le_of_ble_eq_true rfl | omega, by first | exact Nat.le_of_ble_eq_true rfl | omega⟩) (fun u H locs hp hX => ?_)
  have hX : nvS D a0 (xW dA a rn rt trace len stand first allh hAll fault row hOf (fun _ => none) rowsN rowsT mcW edW words mcR edR rdgs sh ex) s.heap H locs := hX
  refine W.cs (cells' := 0) (slots' := 0) (Nat.add_zero _) (Nat.add_zero _) ?_
  refine lv_aload_n zx zb dX0_measures_9 rfl (lv_at hl 0 rfl) ?_
  refine nv_ki zC hX (nv_rV (n := 0) (As := []) (rest := []) (q0 := 0) zC hX (mx_everyWord (hw := (by first | assumption | omega))) (nvE_b a0 ez) (nvE_keep zG hX) rfl rfl q316 q318 qs3 q59 q319 (by decide +kernel) rfl ⟨Nat.le_of_ble_eq_true rfl, Nat.le_of_ble_eq_true rfl⟩ hl.1 (Nat.le_of_ble_eq_true rfl) dX0_measures_10 ⟨by first | exact Nat.le_of_ble_eq_true rfl | omega, by first | exact Nat.le_of_ble_eq_true rfl | omega⟩) (fun r u H locs hp hX => ?_)
  have hr_ : r = nI (2 ^ words - 1) := hp
  subst hr_
  have hX : nvS D a0 (xW dA a rn rt trace len stand first allh hAll fault row hOf (fun _ => none) rowsN rowsT mcW edW words mcR edR rdgs sh ex) s.heap H locs := hX
  refine W.cs (cells' := 0) (slots' := 0) (Nat.add_zero _) (Nat.add_zero _) ?_
  refine lv_istore_n (lv' := [(1, .int (nI (2 ^ words - 1))), (0, .ref (a 0))]) zx zb dX0_measures_13 rfl hl (by decide) rfl (fun ls hl => ?_)
  refine lv_iconst (v := nI 0) zx zb dX0_measures_14 (by decide) ?_
  refine lv_istore_n (lv' := [(2, .int (nI 0)), (1, .int (nI (2 ^ words - 1))), (0, .ref (a 0))]) zx zb dX0_measures_15 rfl hl (by decide) rfl (fun ls hl => ?_)
  have L16 : ∀ (zn : Nat) (fr : Nat → Option Nat) (e : Nat) (he : e ≤ 54) (h0 : ∀ j, j < 864 → fr j = if j / 54 = 2 ^ words - 1 ∧ j % 54 < e then some 0 else none), 54 - e < zn → ∀ (H : Heap) (locs : List Loc) (ls : Array Slot), nvS D a0 (xW dA a rn rt trace len stand first allh hAll fault row hOf fr rowsN rowsT mcW edW words mcR edR rdgs sh ex) s.heap H locs → lv_has ls 7 [(2, .int (nI e)), (1, .int (nI (2 ^ words - 1))), (0, .ref (a 0))] → W zp l ze (rm_ 6 128 0 0) s zm zar zlo zme zcd H locs 0 0 Q (F0 zm 16 ls []) := by
    intro zn
    induction zn with
    | zero => intro fr e he h0 zf; exact absurd zf (Nat.not_lt_zero _)
    | succ zn ih16 =>
      intro fr e he h0 zf H locs ls hX hl
      refine lv_iload_n zx zb dX0_measures_16 rfl (lv_at hl 0 rfl) ?_
      refine lv_bipush (v := nI 54) zx zb dX0_measures_17 (by decide) ?_
      refine nv_icmp_ge (tgt := 40) zx zb (by omega) (by omega) dX0_measures_19 (by decide) (fun c19 => ?_) (fun c19 => ?_)
      · refine lv_iconst (v := nI 1) zx zb dX0_measures_40 (by decide) ?_
        refine lv_istore_n (lv' := [(2, .int (nI 1)), (1, .int (nI (2 ^ words - 1))), (0, .ref (a 0))]) zx zb dX0_measures_41 rfl hl (by decide) rfl (fun ls hl => ?_)
        have L42 : ∀ (zn : Nat) (fr : Nat → Option Nat) (d : Nat) (hd : d ≤ 16) (h1 : ∀ j, goE words j → fr j = dsU (stE kind longOf letters words) (gE words) d j), 17 - d < zn → ∀ (H : Heap) (locs : List Loc) (ls : Array Slot), nvS D a0 (xW dA a rn rt trace len stand first allh hAll fault row hOf fr rowsN rowsT mcW edW words mcR edR rdgs sh ex) s.heap H locs → lv_has ls 7 [(2, .int (nI (d + 1))), (1, .int (nI (2 ^ words - 1))), (0, .ref (a 0))] → W zp l ze (rm_ 6 128 0 0) s zm zar zlo zme zcd H locs 0 0 Q (F0 zm 42 ls []) := by
          intro zn
          induction zn with
          | zero => intro fr d hd h1 zf; exact absurd zf (Nat.not_lt_zero _)
          | succ zn ih42 =>
            intro fr d hd h1 zf H locs ls hX hl
            refine lv_aload_n zx zb dX0_measures_42 rfl (lv_at hl 2 rfl) ?_
            refine nv_get zC hX in_X0 0 rfl rfl 9 (by decide) q140 (fun _ h => h) rfl dX0_measures_43 ?_
            refine lv_iconst (v := nI 1) zx zb dX0_measures_46 (by decide) ?_
            refine nv_iald (v := oI (fr 1)) zC hX 4 rfl (by decide) (by decide) rfl dX0_measures_47 ?_
            obtain hfo | ⟨v_, hfo⟩ : fr 1 = none ∨ ∃ v_, fr 1 = some v_ := by cases fr 1 <;> simp
            · refine nv_as (show oI (fr 1) = -9 from by rw [hfo]; rfl) ?_
              have hd16 : d < 16 := Nat.lt_of_le_of_ne hd (fun z => by have := h1 1 go1; rw [z, hx16, hfo] at this; cases this)
              refine lv_if_ge (x := (-9)) (tgt := 170) zx zb dX0_measures_48 (by decide) (fun c48 => ?_) (fun c48 => ?_)
              · exact absurd c48 (by decide)
              · refine lv_iconst (v := nI 0) zx zb dX0_measures_51 (by decide) ?_
                refine lv_istore_n (lv' := [(3, .int (nI 0)), (2, .int (nI (d + 1))), (1, .int (nI (2 ^ words - 1))), (0, .ref (a 0))]) zx zb dX0_measures_52 rfl hl (by decide) rfl (fun ls hl => ?_)
                have L53 : ∀ (zn : Nat) (fr : Nat → Option Nat) (se : Nat) (hse : se ≤ 2 ^ words - 1) (hm : ffE words (stE kind longOf letters words) d (54 * se) 0 fr), 2 ^ words - 1 - se < zn → ∀ (H : Heap) (locs : List Loc) (ls : Array Slot), nvS D a0 (xW dA a rn rt trace len stand first allh hAll fault row hOf fr rowsN rowsT mcW edW words mcR edR rdgs sh ex) s.heap H locs → lv_has ls 7 [(3, .int (nI se)), (2, .int (nI (d + 1))), (1, .int (nI (2 ^ words - 1))), (0, .ref (a 0))] → W zp l ze (rm_ 6 128 0 0) s zm zar zlo zme zcd H locs 0 0 Q (F0 zm 53 ls []) := by
                  intro zn
                  induction zn with
                  | zero => intro fr se hse hm zf; exact absurd zf (Nat.not_lt_zero _)
                  | succ zn ih53 =>
                    intro fr se hse hm zf H locs ls hX hl
                    refine lv_iload_n zx zb dX0_measures_53 rfl (lv_at hl 0 rfl) ?_
                    refine lv_iload_n zx zb dX0_measures_54 rfl (lv_at hl 2 rfl) ?_
                    refine nv_icmp_ge (tgt := 164) zx zb (by omega) (by omega) dX0_measures_55 (by decide) (fun c55 => ?_) (fun c55 => ?_)
                    · refine lv_iinc (v := nI (d + 1 + 1)) (lv' := [(2, .int (nI (d + 1 + 1))), (3, .int (nI se)), (1, .int (nI (2 ^ words - 1))), (0, .ref (a 0))]) zx zb dX0_measures_164 hl (k := 1) rfl (nI_1 _) (by decide) rfl (fun ls hl => ?_)
                      refine lv_goto (tgt := 42) zx zb dX0_measures_167 (by decide) ?_
                      exact ih42 fr (d + 1) (by omega) (ffE_end hm (by omega)) (by omega) _ _ _ hX (lv_sub hl [0, 2, 3] rfl)
                    · refine lv_iconst (v := nI 1) zx zb dX0_measures_58 (by decide) ?_
                      refine lv_istore (lv' := [(4, .int (nI 1)), (3, .int (nI se)), (2, .int (nI (d + 1))), (1, .int (nI (2 ^ words - 1))), (0, .ref (a 0))]) zx zb dX0_measures_59 hl (by decide) rfl (fun ls hl => ?_)
                      have L61 : ∀ (zn : Nat) (fr : Nat → Option Nat) (e : Nat) (he : e ≤ 53) (hm : ffE words (stE kind longOf letters words) d (54 * se + (e + 1)) 0 fr), 53 - e < zn → ∀ (H : Heap) (locs : List Loc) (ls : Array Slot), nvS D a0 (xW dA a rn rt trace len stand first allh hAll fault row hOf fr rowsN rowsT mcW edW words mcR edR rdgs sh ex) s.heap H locs → lv_has ls 7 [(4, .int (nI (e + 1))), (3, .int (nI se)), (2, .int (nI (d + 1))), (1, .int (nI (2 ^ words - 1))), (0, .ref (a 0))] → W zp l ze (rm_ 6 128 0 0) s zm zar zlo zme zcd H locs 0 0 Q (F0 zm 61 ls []) := by
                        intro zn
                        induction zn with
                        | zero => intro fr e he hm zf; exact absurd zf (Nat.not_lt_zero _)
                        | succ zn ih61 =>
                          intro fr e he hm zf H locs ls hX hl
                          refine lv_iload zx zb dX0_measures_61 (lv_at hl 0 rfl) ?_
                          refine lv_bipush (v := nI 54) zx zb dX0_measures_63 (by decide) ?_
                          refine nv_icmp_ge (tgt := 158) zx zb (by omega) (by omega) dX0_measures_65 (by decide) (fun c65 => ?_) (fun c65 => ?_)
                          · refine lv_iinc (v := nI (se + 1)) (lv' := [(3, .int (nI (se + 1))), (4, .int (nI (e + 1))), (2, .int (nI (d + 1))), (1, .int (nI (2 ^ words - 1))), (0, .ref (a 0))]) zx zb dX0_measures_158 hl (k := 1) rfl (nI_1 _) (by decide) rfl (fun ls hl => ?_)
                            refine lv_goto (tgt := 53) zx zb dX0_measures_161 (by decide) ?_
                            exact ih53 fr (se + 1) (by omega) (by rw [show 54 * (se + 1) = 54 * se + (e + 1) by omega]; exact hm) (by omega) _ _ _ hX (lv_sub hl [0, 2, 3, 4] rfl)
                          · refine lv_iconst (v := nI 0) zx zb dX0_measures_68 (by decide) ?_
                            refine lv_istore (lv' := [(5, .int (nI 0)), (4, .int (nI (e + 1))), (3, .int (nI se)), (2, .int (nI (d + 1))), (1, .int (nI (2 ^ words - 1))), (0, .ref (a 0))]) zx zb dX0_measures_69 hl (by decide) rfl (fun ls hl => ?_)
                            have L71 : ∀ (zn : Nat) (fr : Nat → Option Nat) (c : Nat) (hc : c ≤ 3) (hm : ffE words (stE kind longOf letters words) d (54 * se + (e + 1)) c fr), 3 - c < zn → ∀ (H : Heap) (locs : List Loc) (ls : Array Slot), nvS D a0 (xW dA a rn rt trace len stand first allh hAll fault row hOf fr rowsN rowsT mcW edW words mcR edR rdgs sh ex) s.heap H locs → lv_has ls 7 [(5, .int (nI c)), (4, .int (nI (e + 1))), (3, .int (nI se)), (2, .int (nI (d + 1))), (1, .int (nI (2 ^ words - 1))), (0, .ref (a 0))] → W zp l ze (rm_ 6 128 0 0) s zm zar zlo zme zcd H locs 0 0 Q (F0 zm 71 ls []) := by
                              intro zn
                              induction zn with
                              | zero => intro fr c hc hm zf; exact absurd zf (Nat.not_lt_zero _)
                              | succ zn ih71 =>
                                intro fr c hc hm zf H locs ls hX hl
                                have hgo : goE words (54 * se + (e + 1)) := goE_at (by omega) (by omega) (by omega)
                                refine lv_iload zx zb dX0_measures_71 (lv_at hl 0 rfl) ?_
                                refine lv_iconst (v := nI 3) zx zb dX0_measures_73 (by decide) ?_
                                refine nv_icmp_ge (tgt := 152) zx zb (by omega) (by omega) dX0_measures_74 (by decide) (fun c74 => ?_) (fun c74 => ?_)
                                · refine lv_iinc (v := nI (e + 1 + 1)) (lv' := [(4, .int (nI (e + 1 + 1))), (5, .int (nI c)), (3, .int (nI se)), (2, .int (nI (d + 1))), (1, .int (nI (2 ^ words - 1))), (0, .ref (a 0))]) zx zb dX0_measures_152 hl (k := 1) rfl (nI_1 _) (by decide) rfl (fun ls hl => ?_)
                                  refine lv_goto (tgt := 61) zx zb dX0_measures_155 (by decide) ?_
                                  exact ih61 fr (e + 1) (by omega) (ffE_next hm hgo (Or.inl (by omega)) (by omega) (fun j _ h => h)) (by omega) _ _ _ hX (lv_sub hl [0, 2, 3, 4, 5] rfl)
                                · refine lv_aload_n zx zb dX0_measures_77 rfl (lv_at hl 5 rfl) ?_
                                  refine nv_get zC hX in_X0 0 rfl rfl 9 (by decide) q140 (fun _ h => h) rfl dX0_measures_78 ?_
                                  refine lv_bipush (v := nI 54) zx zb dX0_measures_81 (by decide) ?_
                                  refine lv_iload_n zx zb dX0_measures_83 rfl (lv_at hl 2 rfl) ?_
                                  refine nv_imul zx zb dX0_measures_84 ?_
                                  refine lv_iload zx zb dX0_measures_85 (lv_at hl 1 rfl) ?_
                                  refine nv_iadd zx zb dX0_measures_87 ?_
                                  refine nv_iald (v := oI (fr ((54 * se) + (e + 1)))) zC hX 4 rfl (by omega) (by decide) rfl dX0_measures_88 ?_
                                  obtain hfo | ⟨v_, hfo⟩ : fr (54 * se + (e + 1)) = none ∨ ∃ v_, fr (54 * se + (e + 1)) = some v_ := by cases fr (54 * se + (e + 1)) <;> simp
                                  · refine nv_as (show oI (fr (54 * se + (e + 1))) = -9 from by rw [hfo]; rfl) ?_
                                    refine lv_if_ge (x := (-9)) (tgt := 152) zx zb dX0_measures_89 (by decide) (fun c89 => ?_) (fun c89 => ?_)
                                    · exact absurd c89 (by decide)
                                    · refine lv_bipush (v := nI 54) zx zb dX0_measures_92 (by decide) ?_
                                      refine lv_iload_n zx zb dX0_measures_94 rfl (lv_at hl 2 rfl) ?_
                                      refine lv_aload_n zx zb dX0_measures_95 rfl (lv_at hl 5 rfl) ?_
                                      refine lv_iload zx zb dX0_measures_96 (lv_at hl 1 rfl) ?_
                                      refine lv_iload zx zb dX0_measures_98 (lv_at hl 0 rfl) ?_
                                      refine nv_ki zC hX (nv_rV (n := 2) (As := [.int (nI (e + 1)), .int (nI c)]) (rest := [.int (nI se), .int (nI 54)]) (q0 := 0) zC hX (mx_heardBy (e := e + 1) (c := c) (hW := (by first | assumption | omega)) (hok := (by first | assumption | omega)) (he := (by omega)) (hc := c74)) (nvE_b a0 ez) (nvE_keep zG hX) rfl rfl q263 q265 qs2 q59 q266 (by decide +kernel) rfl ⟨Nat.le_of_ble_eq_true rfl, Nat.le_of_ble_eq_true rfl⟩ hl.1 (Nat.le_of_ble_eq_true rfl) dX0_measures_100 ⟨by first | exact Nat.le_of_ble_eq_true rfl | omega, by first | exact Nat.le_of_ble_eq_true rfl | omega⟩) (fun r u H locs hp hX => ?_)
                                      have hr_ : r = nI (hbE kind longOf letters words (3 * (e + 1) + c)) := hp
                                      subst hr_
                                      have hX : nvS D a0 (xW dA a rn rt trace len stand first allh hAll fault row hOf fr rowsN rowsT mcW edW words mcR edR rdgs sh ex) s.heap H locs := hX
                                      refine W.cs (cells' := 0) (slots' := 0) (Nat.add_zero _) (Nat.add_zero _) ?_
                                      refine nv_ior zx zb dX0_measures_103 ?_
                                      refine nv_imul zx zb dX0_measures_104 ?_
                                      refine lv_iload zx zb dX0_measures_105 (lv_at hl 1 rfl) ?_
                                      refine lv_iload zx zb dX0_measures_107 (lv_at hl 0 rfl) ?_
                                      refine nv_ki zC hX (nv_rS (n := 2) (As := [.int (nI (e + 1)), .int (nI c)]) (rest := [.int (nI (54 * (se ||| (hbE kind longOf letters words (3 * (e + 1) + c)))))]) zC hX (mx_endWith (e := e + 1) (c := c) (he := (by omega)) (hc := c74)) nvGb0 (fun _ _ _ => trivial) q307 q308 q59 q309 (by decide +kernel) rfl ⟨Nat.le_of_ble_eq_true rfl, Nat.le_of_ble_eq_true rfl⟩ hl.1 (Nat.le_of_ble_eq_true rfl) dX0_measures_109 ⟨by first | exact Nat.le_of_ble_eq_true rfl | omega, by first | exact Nat.le_of_ble_eq_true rfl | omega⟩) (fun r u H locs hp hX => ?_)
                                      have hr_ : r = nI (nxE (e + 1) c) := hp
                                      subst hr_
                                      have hX : nvS D a0 (xW dA a rn rt trace len stand first allh hAll fault row hOf fr rowsN rowsT mcW edW words mcR edR rdgs sh ex) s.heap H locs := hX
                                      refine W.cs (cells' := 0) (slots' := 0) (Nat.add_zero _) (Nat.add_zero _) ?_
                                      refine nv_iadd zx zb dX0_measures_112 ?_
                                      have hgt := goE_st (kind := kind) (longOf := longOf) (letters := letters) hgo c74
                                      have hgl := goE_lt hw4 hgt
                                      refine nv_as (show nI ((54 * (se ||| (hbE kind longOf letters words (3 * (e + 1) + c)))) + (nxE (e + 1) c)) = nI (stE kind longOf letters words (54 * se + (e + 1)) c) from (congrArg nI (stE_at (by omega)))) ?_
                                      refine lv_istore (lv' := [(6, .int (nI (stE kind longOf letters words (54 * se + (e + 1)) c))), (5, .int (nI c)), (4, .int (nI (e + 1))), (3, .int (nI se)), (2, .int (nI (d + 1))), (1, .int (nI (2 ^ words - 1))), (0, .ref (a 0))]) zx zb dX0_measures_113 hl (by decide) rfl (fun ls hl => ?_)
                                      refine lv_aload_n zx zb dX0_measures_115 rfl (lv_at hl 6 rfl) ?_
                                      refine nv_get zC hX in_X0 0 rfl rfl 9 (by decide) q140 (fun _ h => h) rfl dX0_measures_116 ?_
                                      refine lv_bipush (v := nI 54) zx zb dX0_measures_119 (by decide) ?_
                                      refine lv_iload_n zx zb dX0_measures_121 rfl (lv_at hl 3 rfl) ?_
                                      refine nv_imul zx zb dX0_measures_122 ?_
                                      refine lv_iload zx zb dX0_measures_123 (lv_at hl 2 rfl) ?_
                                      refine nv_iadd zx zb dX0_measures_125 ?_
                                      refine lv_aload_n zx zb dX0_measures_126 rfl (lv_at hl 6 rfl) ?_
                                      refine nv_get zC hX in_X0 0 rfl rfl 9 (by decide) q140 (fun _ h => h) rfl dX0_measures_127 ?_
                                      refine lv_iload zx zb dX0_measures_130 (lv_at hl 0 rfl) ?_
                                      refine nv_iald (v := oI (fr (stE kind longOf letters words (54 * se + (e + 1)) c))) zC hX 4 rfl hgl (by decide) rfl dX0_measures_132 ?_
                                      refine lv_iload_n zx zb dX0_measures_133 rfl (lv_at hl 4 rfl) ?_
                                      refine lv_iconst (v := nI 1) zx zb dX0_measures_134 (by decide) ?_
                                      refine nv_isub zx zb (by omega) dX0_measures_135 ?_
                                      refine lv_icmp_ne (x := oI (fr (stE kind longOf letters words (54 * se + (e + 1)) c))) (y := nI ((d + 1) - 1)) (tgt := 143) zx zb dX0_measures_136 (by decide) (fun c136 => ?_) (fun c136 => ?_)
                                      · have e136 : dsU (stE kind longOf letters words) (gE words) d (stE kind longOf letters words (54 * se + (e + 1)) c) ≠ some d := fun z => c136 ((oI_s (fun v h => ffE_b hm (by omega) hgt h) (by omega)).mpr ((ffE_read hm hgo hfo hgt).mpr z))
                                        refine lv_bipush (v := (-9)) zx zb dX0_measures_143 (by decide) ?_
                                        refine nv_iast zC hX 4 rfl (by omega) (by decide) (oF_upn _ _) (w' := xW dA a rn rt trace len stand first allh hAll fault row hOf (va_up fr ((54 * se) + (e + 1)) none) rowsN rowsT mcW edW words mcR edR rdgs sh ex) rfl dX0_measures_145 (fun H locs hX => ?_)
                                        refine lv_iinc (v := nI (c + 1)) (lv' := [(5, .int (nI (c + 1))), (6, .int (nI (stE kind longOf letters words (54 * se + (e + 1)) c))), (4, .int (nI (e + 1))), (3, .int (nI se)), (2, .int (nI (d + 1))), (1, .int (nI (2 ^ words - 1))), (0, .ref (a 0))]) zx zb dX0_measures_146 hl (k := 1) rfl (nI_1 _) (by decide) rfl (fun ls hl => ?_)
                                        refine lv_goto (tgt := 71) zx zb dX0_measures_149 (by decide) ?_
                                        exact ih71 (va_up fr ((54 * se) + (e + 1)) none) (c + 1) (by omega) (ffE_keep hm hgo hfo e136) (by omega) _ _ _ hX (lv_sub hl [0, 2, 3, 4, 5, 6] rfl)
                                      · have e136 : dsU (stE kind longOf letters words) (gE words) d (stE kind longOf letters words (54 * se + (e + 1)) c) = some d := (ffE_read hm hgo hfo hgt).mp ((oI_s (fun v h => ffE_b hm (by omega) hgt h) (by omega)).mp c136)
                                        refine lv_iload_n zx zb dX0_measures_139 rfl (lv_at hl 4 rfl) ?_
                                        refine lv_goto (tgt := 145) zx zb dX0_measures_140 (by decide) ?_
                                        refine nv_iast zC hX 4 rfl (by omega) (by decide) (oF_ups _ _ _) (w' := xW dA a rn rt trace len stand first allh hAll fault row hOf (va_up fr ((54 * se) + (e + 1)) (some (d + 1))) rowsN rowsT mcW edW words mcR edR rdgs sh ex) rfl dX0_measures_145 (fun H locs hX => ?_)
                                        refine lv_iinc (v := nI (c + 1)) (lv' := [(5, .int (nI (c + 1))), (6, .int (nI (stE kind longOf letters words (54 * se + (e + 1)) c))), (4, .int (nI (e + 1))), (3, .int (nI se)), (2, .int (nI (d + 1))), (1, .int (nI (2 ^ words - 1))), (0, .ref (a 0))]) zx zb dX0_measures_146 hl (k := 1) rfl (nI_1 _) (by decide) rfl (fun ls hl => ?_)
                                        refine lv_goto (tgt := 71) zx zb dX0_measures_149 (by decide) ?_
                                        exact ih71 (va_up fr ((54 * se) + (e + 1)) (some (d + 1))) (c + 1) (by omega) (ffE_put hm hgo hfo e136) (by omega) _ _ _ hX (lv_sub hl [0, 2, 3, 4, 5, 6] rfl)
                                  · refine nv_as (show oI (fr (54 * se + (e + 1))) = nI v_ from by rw [hfo]; rfl) ?_
                                    have hv_ : v_ < 2 ^ 31 := ffE_b hm (by omega) hgo hfo
                                    refine nv_if_ge (tgt := 152) zx zb hv_ dX0_measures_89 (by decide) ?_
                                    refine lv_iinc (v := nI (e + 1 + 1)) (lv' := [(4, .int (nI (e + 1 + 1))), (5, .int (nI c)), (3, .int (nI se)), (2, .int (nI (d + 1))), (1, .int (nI (2 ^ words - 1))), (0, .ref (a 0))]) zx zb dX0_measures_152 hl (k := 1) rfl (nI_1 _) (by decide) rfl (fun ls hl => ?_)
                                    refine lv_goto (tgt := 61) zx zb dX0_measures_155 (by decide) ?_
                                    exact ih61 fr (e + 1) (by omega) (ffE_next hm hgo (Or.inr ⟨by omega, by rw [hfo]; exact fun z => by cases z⟩) (by omega) (fun j _ h => h)) (by omega) _ _ _ hX (lv_sub hl [0, 2, 3, 4, 5] rfl)
                            have hgo : goE words (54 * se + (e + 1)) := goE_at (by omega) (by omega) (by omega)
                            exact L71 _ fr 0 (by omega) hm (Nat.lt_succ_self _) _ _ _ hX (lv_sub hl [0, 1, 2, 3, 4, 5] rfl)
                      exact L61 _ fr 0 (by omega) (ffE_move hm (fun z => by have := z.1; omega) (by omega) (fun j _ h => h)) (Nat.lt_succ_self _) _ _ _ hX (lv_sub hl [0, 1, 2, 3, 4] rfl)
                exact L53 _ fr 0 (by omega) (ffE_start h1) (Nat.lt_succ_self _) _ _ _ hX (lv_sub hl [0, 1, 2, 3] rfl)
            · refine nv_as (show oI (fr 1) = nI v_ from by rw [hfo]; rfl) ?_
              have hdv : dsU (stE kind longOf letters words) (gE words) d 1 = some v_ := (h1 1 go1).symm.trans hfo
              have hv_ : v_ < 2 ^ 31 := (by have := dsU_le hdv; omega)
              refine nv_if_ge (tgt := 170) zx zb hv_ dX0_measures_48 (by decide) ?_
              rw [← zQ]
              exact nv_endv zC zr zk (fr, d, v_) hX (by (try dsimp only); exact ⟨h1, hdv, hd⟩) (by omega) (by omega) dX0_measures_170
        have hl := hl
        exact L42 _ fr 0 (by omega) (far_0 hw4 h0 c19) (Nat.lt_succ_self _) _ _ _ hX (lv_sub hl [0, 1, 2] rfl)
      · refine lv_aload_n zx zb dX0_measures_22 rfl (lv_at hl 2 rfl) ?_
        refine nv_get zC hX in_X0 0 rfl rfl 9 (by decide) q140 (fun _ h => h) rfl dX0_measures_23 ?_
        refine lv_bipush (v := nI 54) zx zb dX0_measures_26 (by decide) ?_
        refine lv_iload_n zx zb dX0_measures_28 rfl (lv_at hl 1 rfl) ?_
        refine nv_imul zx zb dX0_measures_29 ?_
        refine lv_iload_n zx zb dX0_measures_30 rfl (lv_at hl 0 rfl) ?_
        refine nv_iadd zx zb dX0_measures_31 ?_
        refine lv_iconst (v := nI 0) zx zb dX0_measures_32 (by decide) ?_
        refine nv_iast zC hX 4 rfl (by omega) (by decide) (oF_ups _ _ _) (w' := xW dA a rn rt trace len stand first allh hAll fault row hOf (va_up fr ((54 * (2 ^ words - 1)) + e) (some 0)) rowsN rowsT mcW edW words mcR edR rdgs sh ex) rfl dX0_measures_33 (fun H locs hX => ?_)
        refine lv_iinc (v := nI (e + 1)) (lv' := [(2, .int (nI (e + 1))), (1, .int (nI (2 ^ words - 1))), (0, .ref (a 0))]) zx zb dX0_measures_34 hl (k := 0) rfl (nI_1 _) (by decide) rfl (fun ls hl => ?_)
        refine lv_goto (tgt := 16) zx zb dX0_measures_37 (by decide) ?_
        exact ih16 (va_up fr ((54 * (2 ^ words - 1)) + e) (some 0)) (e + 1) (by omega) (far_i h0 c19) (by omega) _ _ _ hX (lv_sub hl [0, 1, 2] rfl)
  exact L16 _ (fun _ => none) 0 (by omega) (fun j _ => (if_neg (fun z => Nat.not_lt_zero _ z.2)).symm) (Nat.lt_succ_self _) _ _ _ hX (lv_sub hl [0, 1, 2] rfl)
end CL_46_c8
