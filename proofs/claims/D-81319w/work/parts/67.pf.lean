/-! a text read by the class: plain -/
set_option maxRecDepth 100000
theorem nI_b {n : Nat} (h : n < 2 ^ 31) {x : Int32} : x = nI n ↔ x.toInt = n := by
  constructor
  · rintro rfl
    exact nI_toInt h
  · intro e
    exact Int32.toInt_inj.mp (e.trans (nI_toInt h).symm)
theorem cdA_i {cl : Nat → Int32} {p m t c : Nat} (hc : c < 2 ^ 31) : cdA cl p m t = nI c ↔ isg cl (p + t) (p + m) c = true := by
  unfold cdA isg
  by_cases h : t < m
  · rw [if_pos h, decide_eq_true (show p + t < p + m by omega), Bool.true_and]
    exact decide_eq_true_iff.symm
  · rw [if_neg h, decide_eq_false (show ¬ p + t < p + m by omega), Bool.false_and]
    constructor
    · intro e
      exact absurd e.symm (nI_ne9 hc)
    · intro e
      cases e
theorem cdA_k {cl : Nat → Int32} {p m t c v : Nat} (hc : c < 2 ^ 31) (hv : pkd (nI c) = some v) (h : cdA cl p m t = nI c) : pK cl (p + m) (p + t) = some v := by
  have h1 := (cdA_i hc).mp h
  simp only [isg, Bool.and_eq_true, decide_eq_true_eq] at h1
  unfold pK
  rw [if_pos h1.1, h1.2]
  exact hv
theorem cdA_kn {cl : Nat → Int32} {p m t : Nat} (h1 : cdA cl p m t ≠ nI 112) (h2 : cdA cl p m t ≠ nI 98) (h3 : cdA cl p m t ≠ nI 116) : pK cl (p + m) (p + t) = none := by
  unfold pK
  split
  · rename_i h
    have e : cdA cl p m t = cl (p + t) := if_pos (by omega)
    rw [e] at h1 h2 h3
    unfold pkd
    rw [if_neg h1, if_neg h2, if_neg h3]
  · rfl
theorem in97 {x : Int32} : inN (x - nI 97) 0 2 = inN x 97 99 := by
  rw [Bool.eq_iff_iff]
  constructor
  · intro h
    obtain ⟨j, -, hj, e⟩ := inN_t (by decide) (by decide) h
    have e2 : x = nI (j + 97) := by
      have : x = (x - nI 97) + nI 97 := by rw [Int32.sub_add_cancel]
      rw [this, e, nI_add]
    rw [e2, inN_n (by decide) (by decide) (by omega)]
    exact decide_eq_true (by omega)
  · intro h
    obtain ⟨j, h1, h2, rfl⟩ := inN_t (by decide) (by decide) h
    rw [pk_sub h1, inN_n (by decide) (by decide) (by omega)]
    exact decide_eq_true (by omega)
theorem cd97 {cl : Nat → Int32} {p m t : Nat} : inN (cdA cl p m t - nI 97) 0 2 = true ↔ (p + t < p + m ∧ inN (cl (p + t)) 97 99 = true) := by
  rw [in97]
  unfold cdA
  by_cases h : t < m
  · rw [if_pos h]
    exact ⟨fun z => ⟨by omega, z⟩, fun z => z.2⟩
  · rw [if_neg h]
    exact ⟨fun z => absurd z (by decide), fun z => absurd z.1 (by omega)⟩
/-- the words read so far: a list's objects -/
def rdL (dA : Nat → ClassId) (x0 zl ed : Nat) (mc : Int32) (n : Nat) (f : Nat → Option Nat) (kd ln lt pa la : Nat → Nat) (rd : va_W) : Prop :=
  (zl, .inr (12, [.int mc, .ref ed, .int (nI n)])) ∈ rd ∧ (ed, aO dA 4 f) ∈ rd ∧ (∀ i, i < n → f i = some (pa i) ∧ (pa i, plF (kd i) (la i) x0) ∈ rd ∧ ∃ g, (la i, aI dA (ln i) g) ∈ rd ∧ ∀ k, k < ln i → g k = nI (lt (4 * i + k))) ∧ ∀ i j, i < n → j < n → la i = la j → i = j
theorem jW_app {dA : Nat → ClassId} {q0 q1 zh ed n cp : Nat} {mc : Int32} {f : Nat → Option Nat} {w ex : va_W} {x y : Nat × va_E} (h0 : w[q0]? = some x) (h1 : w[q1]? = some y) : jW dA q0 q1 zh mc ed n cp f (w ++ ex) = jW dA q0 q1 zh mc ed n cp f w ++ ex := by
  unfold jW
  rw [app_set h0]
  by_cases h : q1 = q0
  · subst h
    rw [List.set_append_left _ _ (by rw [List.length_set]; exact (List.getElem?_eq_some_iff.mp h1).1)]
  · exact app_set (x := y) (by rw [List.getElem?_set_ne (fun e => h e.symm)]; exact h1)
theorem rdL.add {dA : Nat → ClassId} {x0 zl ed n : Nat} {mc mc' : Int32} {f : Nat → Option Nat} {kd ln lt lt' pa la : Nat → Nat} {rd L : va_W} (h : rdL dA x0 zl ed mc n f kd ln lt pa la rd) (hu : unW L) (hs : ∀ z, z ∈ rd → z ∈ L) {q0 q1 v k m lv : Nat} {g : Nat → Int32} (h0 : L[q0]? = some (zl, .inr (12, [.int mc, .ref ed, .int (nI n)]))) (h1 : L[q1]? = some (ed, aO dA 4 f)) (hk3 : k < 3) (hv : (v, plF k lv x0) ∈ L) (hl : (lv, aI dA m g) ∈ L) (hln : ∀ z, ln z ≤ 4) (hg : ∀ z, z < m → g z = nI (lt' (4 * n + z))) (hlt : ∀ z, z < 4 * n → lt' z = lt z) (hfr : ∀ z, z ∈ rd → z.1 ≠ lv) :
    rdL dA x0 zl ed mc' (n + 1) (va_up f n (some v)) (va_up kd n k) (va_up ln n m) lt' (va_up pa n v) (va_up la n lv) (jW dA q0 q1 zl mc' ed (n + 1) 4 (va_up f n (some v)) L) := by
  have hne := jW_q h0 h1
  have m0 := List.mem_of_getElem? h0
  have m1 := List.mem_of_getElem? h1
  have keepO : ∀ (q : Nat) (y : Nat × List Value), (q, .inr y) ∈ L → q ≠ zl → (q, .inr y) ∈ jW dA q0 q1 zl mc' ed (n + 1) 4 (va_up f n (some v)) L := fun q y hq hz => jW_m hq h0 h1 hne rfl rfl hz (hu.ne hq m1 ni_ne)
  have keepI : ∀ (q c : Nat) (y : Nat → Int32), (q, aI dA c y) ∈ L → (q, aI dA c y) ∈ jW dA q0 q1 zl mc' ed (n + 1) 4 (va_up f n (some v)) L := fun q c y hq => jW_m hq h0 h1 hne rfl rfl (hu.ne hq m0 in_ne) (hu.ne hq m1 io_ne)
  refine ⟨List.mem_of_getElem? (jW_a0 hne h0), List.mem_of_getElem? (jW_a1 hne h1), fun i hi => ?_, fun i j hi hj e => ?_⟩
  · by_cases e : i = n
    · subst e
      refine ⟨by rw [va_up_self, va_up_self], ?_, g, ?_, fun z hz => ?_⟩
      · rw [va_up_self, va_up_self, va_up_self]
        exact keepO v _ hv (hu.ne hv m0 (plF_12 hk3))
      · rw [va_up_self, va_up_self]
        exact keepI _ _ _ hl
      · rw [va_up_self] at hz
        exact hg z hz
    · obtain ⟨a1, a2, g2, a3, a4⟩ := h.2.2.1 i (by omega)
      have b := hln i
      refine ⟨by rw [va_up_ne _ _ e, va_up_ne _ _ e]; exact a1, ?_, g2, ?_, fun z hz => ?_⟩
      · rw [va_up_ne _ _ e, va_up_ne _ _ e, va_up_ne _ _ e]
        refine keepO _ _ (hs _ a2) (hu.ne (hs _ a2) m0 fun q => ?_)
        unfold plF at q
        injection q with q
        injection q with q q2
        have q3 := congrArg List.length q2
        simp at q3
        omega
      · rw [va_up_ne _ _ e, va_up_ne _ _ e]
        exact keepI _ _ _ (hs _ a3)
      · rw [va_up_ne _ _ e] at hz
        rw [a4 z hz, hlt _ (by omega)]
  · by_cases ei : i = n <;> by_cases ej : j = n
    · omega
    · rw [ei, va_up_self, va_up_ne _ _ ej] at e
      obtain ⟨-, -, g2, a3, -⟩ := h.2.2.1 j (by omega)
      exact absurd e.symm (hfr _ a3)
    · rw [ej, va_up_self, va_up_ne _ _ ei] at e
      obtain ⟨-, -, g2, a3, -⟩ := h.2.2.1 i (by omega)
      exact absurd e (hfr _ a3)
    · rw [va_up_ne _ _ ei, va_up_ne _ _ ej] at e
      exact h.2.2.2 i j (by omega) (by omega) e
theorem cpy0 {α : Type} {f g : Nat → α} {n j : Nat} (h : j < n) : va_cpy f g 0 0 n j = f j := (pk_cpy_in (Nat.zero_le j) (by omega)).trans (congrArg f (by omega))
theorem nc12 {ci : Nat} {q : vw_C} (h2 : vwCl[ci]? = some q) (h3 : (q.1, "java/lang/Object") ∈ nvCs) : ci ≠ 12 := by
  rintro rfl
  cases Option.some.inj h2
  exact absurd h3 (by decide +kernel)
theorem nvS.fr1 {D : va_G} {a0 : Nat} {H0 H : Heap} {locs : List Loc} {w : va_W} {q : Nat} {c : va_E} (h : nvS D a0 ((q, c) :: w) H0 H locs) : ∀ z, z ∈ w → z.1 ≠ q := by
  intro z hz e
  have hn := (va_D_nd.mp h.2.1).1
  rw [List.map_cons, List.nodup_cons] at hn
  exact hn.1 (List.mem_map.mpr ⟨z, hz, e⟩)
theorem wi_ok {cl : Nat → Int32} {p m t kd j : Nat} (h59 : isg cl (p + t) (p + m) 59 = true) (hk : pK cl (p + m) (p + t + 1) = some kd) (h47 : isg cl (p + t + 2) (p + m) 47 = true) (hpl : pLen cl (p + m) (p + t + 3) 4 = j) : pW cl (p + m) (p + t) = (decide (0 < j), p + t + 3 + j) := by
  unfold pW
  rw [if_pos h59, rdW_k (by rw [hk]; exact fun z => by cases z) h47 hpl]
theorem wi_47 {cl : Nat → Int32} {p m t kd : Nat} (h59 : isg cl (p + t) (p + m) 59 = true) (hk : pK cl (p + m) (p + t + 1) = some kd) (h47 : isg cl (p + t + 2) (p + m) 47 = false) : pW cl (p + m) (p + t) = (false, p + (t + 2)) := by
  unfold pW
  rw [if_pos h59, rdW_s (by rw [hk]; exact fun z => by cases z) h47]
  rfl
theorem wi_kn {cl : Nat → Int32} {p m t : Nat} (h59 : isg cl (p + t) (p + m) 59 = true) (hk : pK cl (p + m) (p + t + 1) = none) : pW cl (p + m) (p + t) = (false, p + (t + 1)) := by
  unfold pW
  rw [if_pos h59, rdW_n hk]
  rfl
theorem wi_59 {cl : Nat → Int32} {p m t : Nat} (h59 : isg cl (p + t) (p + m) 59 = false) : pW cl (p + m) (p + t) = (false, p + t) := by
  unfold pW
  rw [h59]
  rfl
/-- where it ends in vain -/
theorem wi_f {cl : Nat → Int32} {p m r t k : Nat} (hr : r < 4) (hgo : r = 0 ∨ t < m) (hw : pW cl (p + m) (p + t) = (false, p + k)) (hrun : pRun cl (p + m) 4 0 (p + 1) = pRun cl (p + m) (4 - r) r (p + t)) : (-100) - nI k = if (pRun cl (p + m) 4 0 (p + 1)).1 = true then nI 0 else (-100) - nI ((pRun cl (p + m) 4 0 (p + 1)).2.1 - p) := by
  rw [hrun, pRun_f hr (hgo.imp id (fun z => by omega)) (by rw [hw]), hw]
  show _ = if false = true then _ else (-100) - nI (p + k - p)
  rw [if_neg (by decide), Nat.add_sub_cancel_left]
theorem m101 (x : Int32) : (-101) - x = (-100) - (x + nI 1) := by
  show (-101) - x = (-100) - (x + 1)
  grind
theorem m102 (x : Int32) : (-102) - x = (-100) - (x + nI 2) := by
  show (-102) - x = (-100) - (x + 2)
  grind
/-- .. or at the end -/
theorem wi_e {cl : Nat → Int32} {p m r t : Nat} (h : r = 4 ∨ (0 < r ∧ m ≤ t)) (hrun : pRun cl (p + m) 4 0 (p + 1) = pRun cl (p + m) (4 - r) r (p + t)) : pRun cl (p + m) 4 0 (p + 1) = (decide (t = m), (p + t, r)) := by
  rw [hrun, pRun_x (h.imp id (fun z => ⟨z.1, by omega⟩))]
  have e : (p + t = p + m) ↔ t = m := by omega
  rw [decide_eq_decide.mpr e]
theorem wi_s {cl : Nat → Int32} {p m r t kd j : Nat} (hr : r < 4) (hgo : r = 0 ∨ t < m) (h59 : isg cl (p + t) (p + m) 59 = true) (hk : pK cl (p + m) (p + t + 1) = some kd) (h47 : isg cl (p + t + 2) (p + m) 47 = true) (hpl : pLen cl (p + m) (p + t + 3) 4 = j) (hj : 0 < j) (hrun : pRun cl (p + m) 4 0 (p + 1) = pRun cl (p + m) (4 - r) r (p + t)) : pRun cl (p + m) 4 0 (p + 1) = pRun cl (p + m) (4 - (r + 1)) (r + 1) (p + (t + 3 + j)) := by
  have e := wi_ok h59 hk h47 hpl
  rw [hrun, pRun_s hr (hgo.imp id (fun z => by omega)) (by rw [e]; exact decide_eq_true hj), e]
  show pRun cl (p + m) (4 - (r + 1)) (r + 1) (p + t + 3 + j) = _
  rw [show p + t + 3 + j = p + (t + 3 + j) by omega]
theorem wi_w {cl : Nat → Int32} {p m r t k j : Nat} {kd ln lt lt4 : Nat → Nat} (h : wdsOK cl (p + m) p r (fun w => some (kd w)) ln lt) (hb : ∀ z, ln z ≤ 4) (hpos : pPos cl (p + m) p r = p + t) (hk : pK cl (p + m) (p + t + 1) = some k) (hpl : pLen cl (p + m) (p + t + 3) 4 = j) (hj : 0 < j) (hl : ∀ z, z < j → lt4 z = i2n (cl (p + t + 3 + z)) - 97) : wdsOK cl (p + m) p (r + 1) (fun w => some (va_up kd r k w)) (va_up ln r j) (rwP lt (4 * r) 4 lt4) := by
  have hj4 : j ≤ 4 := by rw [← hpl]; exact pLen_le _ _ _ _
  refine wds_s h (fun z hz => ⟨congrArg some (va_up_ne _ _ hz), va_up_ne _ _ hz⟩) (fun z hz => ?_) hb ?_
  · unfold rwP
    rw [if_neg (by omega)]
  · have h1 := pK_in (cells := cl) (en := p + m) (p := p + t + 1) (by rw [hk]; exact fun z => by cases z)
    rw [hpos]
    refine isWd_of ?_ ?_ ?_ ?_ ?_
    · show some (va_up kd r k r) = _
      rw [va_up_self, ← hk]
      exact h1.2
    · exact fun z => by cases z
    · rw [va_up_self]
      exact hpl.symm
    · rw [va_up_self]
      exact hj
    · intro z hz
      rw [va_up_self] at hz
      show rwP lt (4 * r) 4 lt4 (4 * r + z) = _
      unfold rwP
      rw [if_pos (by omega), Nat.add_sub_cancel_left]
      exact hl z hz
def lqW (dA : Nat → ClassId) (q : Nat) (f : Nat → Nat) (w : va_W) : va_W := (q, aI dA 4 (nF f)) :: w
theorem up_le {f : Nat → Nat} {k v n : Nat} (h : ∀ j, f j ≤ n) (hv : v ≤ n) : ∀ j, va_up f k v j ≤ n := by
  intro j
  by_cases e : j = k
  · rw [e, va_up_self]; exact hv
  · rw [va_up_ne _ _ e]; exact h j
theorem rwP_lt {f g : Nat → Nat} {b n m : Nat} (hf : ∀ j, f j < m) (hg : ∀ j, g j < m) : ∀ j, rwP f b n g j < m := by
  intro j
  unfold rwP
  split
  · exact hg _
  · exact hf _
