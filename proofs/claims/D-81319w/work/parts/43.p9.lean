/-! what a row is asked: plain -/
set_option maxRecDepth 100000
theorem row_w {what : Int32} (h : (inN what 0 3 || inN what 10 13) = true) : ∃ jj : Nat, (jj ≤ 3 ∨ (10 ≤ jj ∧ jj ≤ 13)) ∧ what = nI jj := by
  rcases Bool.or_eq_true_iff.mp h with h | h
  · obtain ⟨j, -, h1, h2⟩ := inN_t (by decide) (by decide) h
    exact ⟨j, Or.inl h1, h2⟩
  · obtain ⟨j, h0, h1, h2⟩ := inN_t (by decide) (by decide) h
    exact ⟨j, Or.inr ⟨h0, h1⟩, h2⟩
section
variable {words : Nat} {kind longOf letters row : Nat → Nat} {n q : Nat}
theorem look_10 (h : 10 ≤ q) (h2 : q ≤ 13) : F_look words kind longOf letters row n (nI q) = if q - 10 < words then nI (tmW kind longOf letters row n (q - 10)) else -9 := by
  unfold F_look
  rw [if_pos (by rw [inN_n (by decide) (by decide) (by omega)]; exact decide_eq_true ⟨h, h2⟩), show i2n (nI q) = q from nI_clamp (by omega)]
theorem look_0 : F_look words kind longOf letters row n (nI 0) = nI (orUp (fun j => hbW kind longOf letters row words (j + 1)) n) := by
  rw [F_look_s (by decide), if_pos rfl, or_ORU]
theorem look_1 (hw : 0 < words) : F_look words kind longOf letters row n (nI 1) = oI (fstUp (fun j => decide (0 < hbW kind longOf letters row words (j + 1))) n) := by
  rw [F_look_s (by decide), if_neg (by decide), if_neg (by decide)]
  exact congrArg oI (fst_any (f := fun j => hbW kind longOf letters row words (j + 1)) hw n).1
theorem look_2 : F_look words kind longOf letters row n (nI 2) = oI (fstUp (fun j => decide (orUp (fun j => hbW kind longOf letters row words (j + 1)) (j + 1) = 2 ^ words - 1)) n) := by
  rw [F_look_s (by decide), if_neg (by decide), if_neg (by decide)]
  exact congrArg oI (fstUp_cg fun k _ => by show (false && _ || _) = _; rw [Bool.false_and, Bool.false_or])
theorem look_3 (hw : words ≤ 4) : F_look words kind longOf letters row n (nI 3) = nI (sumUp (fun j => popN (hbW kind longOf letters row words (j + 1))) n) := by
  rw [F_look_s (by decide), if_neg (by decide), if_pos rfl, sum_SUM hw]
end
/-! the system's counts against the model's -/
def stE (kind longOf letters : Nat → Nat) (words t c : Nat) : Nat := 54 * (t / 54 ||| hbE kind longOf letters words (3 * (t % 54) + c)) + nxE (t % 54) c
def psi (k : Nat) : Nat := 54 * (k % 16) + phi (k / 16)
theorem nxE_lt {e c : Nat} (he : e < 54) (hc : c < 3) : nxE e c < 54 := by unfold nxE; split <;> omega
theorem stE_lt {kind longOf letters : Nat → Nat} {words t c : Nat} (hw : words ≤ 4) (ht : t < 864) (hc : c < 3) : stE kind longOf letters words t c < 864 := by
  have h1 := nxE_lt (e := t % 54) (Nat.mod_lt _ (by decide)) hc
  have h2 : (t / 54 ||| hbE kind longOf letters words (3 * (t % 54) + c)) < 2 ^ 4 := Nat.or_lt_two_pow (by omega) (Nat.lt_of_lt_of_le hbE_lt (pw4 hw))
  unfold stE
  omega
theorem psi_lt {k : Nat} (hk : k < 640) : psi k < 864 := by
  have := phi_lt (k / 16) (by omega)
  unfold psi
  omega
theorem psi_dm {k : Nat} (hk : k < 640) : psi k / 54 = k % 16 ∧ psi k % 54 = phi (k / 16) := by
  have := phi_lt (k / 16) (by omega)
  unfold psi
  omega
theorem stE_psi {kind longOf letters : Nat → Nat} {words k c : Nat} (hw : wOK words kind longOf letters) (hk : k < 640) (hc : c < 3) : stE kind longOf letters words (psi k) c = psi (stC kind longOf letters words k c) := by
  have h4 : (k % 16 ||| hbM kind longOf letters words (k / 16) c) < 2 ^ 4 := Nat.or_lt_two_pow (Nat.mod_lt _ (by decide)) (hbM_lt hw.1)
  have e1 : stC kind longOf letters words k c % 16 = (k % 16 ||| hbM kind longOf letters words (k / 16) c) := by unfold stC; omega
  have e2 : stC kind longOf letters words k c / 16 = nxM (k / 16) c := by unfold stC; omega
  unfold stE
  rw [(psi_dm hk).1, (psi_dm hk).2, phi_hb hw (by omega) hc, phi_nx (by omega) hc]
  show _ = 54 * (stC kind longOf letters words k c % 16) + phi (stC kind longOf letters words k c / 16)
  rw [e1, e2]
theorem phi_inj : ∀ x : Nat, x < 40 → ∀ y : Nat, y < 40 → phi x = phi y → x = y := by decide +kernel
theorem psi_inj {x y : Nat} (hx : x < 640) (hy : y < 640) (h : psi x = psi y) : x = y := by
  have h1 := psi_dm hx
  have h2 := psi_dm hy
  rw [h] at h1
  have e1 : x % 16 = y % 16 := h1.1.symm.trans h2.1
  have e2 := phi_inj (x / 16) (by omega) (y / 16) (by omega) (h1.2.symm.trans h2.2)
  omega
/-- what stands at psi is what stands there in the model; elsewhere nothing -/
def pshF (f g : Nat → Nat) : Prop := (∀ k, k < 640 → g (psi k) = f k) ∧ ∀ t, t < 864 → (∀ k, k < 640 → psi k ≠ t) → g t = 0
theorem sumUp_psh {f g : Nat → Nat} {F G : Nat → Nat} (hF : ∀ k, k < 640 → G (psi k) = F k) (hG : ∀ t, t < 864 → (∀ k, k < 640 → psi k ≠ t) → G t = 0) : sumUp G 864 = sumUp F 640 := by
  have h1 : ∀ t, t < 864 → G t = sumUp (fun k => if psi k = t then F k else 0) 640 := by
    intro t ht
    by_cases q : ∃ k, k < 640 ∧ psi k = t
    · obtain ⟨k, hk, rfl⟩ := q
      rw [hF k hk, ← sumUp_one (v := F k) hk]
      refine sumUp_cg fun j hj => ?_
      by_cases e : k = j
      · rw [if_pos e, if_pos (by rw [e]), e]
      · rw [if_neg e, if_neg (fun z => e (psi_inj hk hj z.symm))]
    · rw [hG t ht (fun k hk e => q ⟨k, hk, e⟩), sumUp_cg (g := fun _ => 0) (fun j hj => if_neg (fun e => q ⟨j, hj, e⟩)), sumUp_0]
  rw [sumUp_cg h1]
  have sw : ∀ m, sumUp (fun t => sumUp (fun k => if psi k = t then F k else 0) m) 864 = sumUp (fun k => sumUp (fun t => if psi k = t then F k else 0) 864) m := by
    intro m
    induction m with
    | zero => exact sumUp_0 864
    | succ m ih =>
      show sumUp (fun t => sumUp (fun k => if psi k = t then F k else 0) m + (if psi m = t then F m else 0)) 864 = _
      rw [sumUp_add, ih]
      rfl
  rw [sw 640]
  exact sumUp_cg fun k hk => sumUp_one (psi_lt hk)
theorem adL_z {f : Nat → Nat} {st : Nat → Nat → Nat} {k t : Nat} : ∀ c, adL f st k t c = sumUp (fun i => if st k i = t then f k else 0) c := by
  intro c
  induction c with
  | zero => rfl
  | succ c ih => simp only [adL, sumUp, ih]
theorem adK_z {f : Nat → Nat} {st : Nat → Nat → Nat} {t : Nat} : ∀ n, adK f st t n = sumUp (fun k => adL f st k t 3) n := by
  intro n
  induction n with
  | zero => rfl
  | succ n ih => simp only [adK, sumUp, ih]
theorem wy_psh {kind longOf letters : Nat → Nat} {words : Nat} (hw : wOK words kind longOf letters) (n : Nat) : pshF (wyN (stC kind longOf letters words) 0 640 n) (wyN (stE kind longOf letters words) 1 864 n) := by
  induction n with
  | zero =>
    have p0 : psi 0 = 1 := by decide +kernel
    constructor
    · intro k hk
      show (if psi k = 1 then 1 else 0) = (if k = 0 then 1 else 0)
      by_cases e : k = 0
      · rw [if_pos e, if_pos (by rw [e, p0])]
      · rw [if_neg e, if_neg (fun z => e (psi_inj hk (by decide) (z.trans p0.symm)))]
    · intro t _ h
      show (if t = 1 then 1 else 0) = 0
      rw [if_neg (fun z => h 0 (by decide) (p0.trans z.symm))]
  | succ n ih =>
    obtain ⟨h1, h2⟩ := ih
    have key : ∀ t, t < 864 → wyN (stE kind longOf letters words) 1 864 (n + 1) t = sumUp (fun k => sumUp (fun i => if psi (stC kind longOf letters words k i) = t then wyN (stC kind longOf letters words) 0 640 n k else 0) 3) 640 := by
      intro t ht
      show adK _ _ t 864 = _
      rw [adK_z]
      refine sumUp_psh (f := fun _ => 0) (g := fun _ => 0) (fun k hk => ?_) (fun u hu hn => ?_)
      · rw [adL_z]
        refine sumUp_cg fun i hi => ?_
        rw [stE_psi hw hk hi, h1 k hk]
      · exact adL_0 (h2 u hu hn) 3
    constructor
    · intro k hk
      rw [key _ (psi_lt hk)]
      show _ = adK _ _ k 640
      rw [adK_z]
      refine sumUp_cg fun j hj => ?_
      rw [adL_z]
      refine sumUp_cg fun i hi => ?_
      by_cases e : stC kind longOf letters words j i = k
      · rw [if_pos e, if_pos (by rw [e])]
      · rw [if_neg e, if_neg (fun z => e (psi_inj (stC_lt hw.1 hi) hk z))]
    · intro t ht hn
      rw [key t ht, sumUp_cg (g := fun _ => 0) (fun k hk => ?_), sumUp_0]
      rw [sumUp_cg (g := fun _ => 0) (fun i hi => if_neg (hn _ (stC_lt hw.1 hi))), sumUp_0]
/-- all of a set of words -/
theorem wy_sum {kind longOf letters : Nat → Nat} {words : Nat} (hw : wOK words kind longOf letters) (n : Nat) {set : Nat} (hs : set < 16) : sumUp (fun j => wyN (stE kind longOf letters words) 1 864 n (54 * set + (j + 1))) 53 = sumUp (fun e => wyN (stC kind longOf letters words) 0 640 n (16 * e + set)) 40 := by
  obtain ⟨h1, h2⟩ := wy_psh hw n
  have hph : ∀ e, e < 40 → psi (16 * e + set) = 54 * set + phi e := fun e he => by
    unfold psi
    rw [show (16 * e + set) % 16 = set by omega, show (16 * e + set) / 16 = e by omega]
  have hz : ∀ j, j < 53 → wyN (stE kind longOf letters words) 1 864 n (54 * set + (j + 1)) = sumUp (fun e => if phi e - 1 = j then wyN (stC kind longOf letters words) 0 640 n (16 * e + set) else 0) 40 := by
    intro j hj
    by_cases q : ∃ e, e < 40 ∧ phi e = j + 1
    · obtain ⟨e, he, q⟩ := q
      rw [← q, ← hph e he, h1 _ (by omega), ← sumUp_one (v := wyN (stC kind longOf letters words) 0 640 n (16 * e + set)) he]
      refine sumUp_cg fun i hi => ?_
      have hi1 := phi_lt i hi
      by_cases e1 : e = i
      · rw [if_pos e1, if_pos (by rw [← e1]; omega), e1]
      · rw [if_neg e1, if_neg (fun z => e1 (phi_inj e he i hi (by omega)))]
    · rw [h2 _ (by omega) (fun k hk z => q ⟨k / 16, by omega, by
        have d := psi_dm hk
        rw [z] at d
        have := d.2
        omega⟩), sumUp_cg (g := fun _ => 0) (fun i hi => if_neg (fun z => q ⟨i, hi, by have := phi_lt i hi; omega⟩)), sumUp_0]
  rw [sumUp_cg hz]
  have sw : ∀ m, sumUp (fun j => sumUp (fun e => if phi e - 1 = j then wyN (stC kind longOf letters words) 0 640 n (16 * e + set) else 0) m) 53 = sumUp (fun e => sumUp (fun j => if phi e - 1 = j then wyN (stC kind longOf letters words) 0 640 n (16 * e + set) else 0) 53) m := by
    intro m
    induction m with
    | zero => exact sumUp_0 53
    | succ m ih =>
      show sumUp (fun j => sumUp (fun e => if phi e - 1 = j then wyN (stC kind longOf letters words) 0 640 n (16 * e + set) else 0) m + (if phi m - 1 = j then wyN (stC kind longOf letters words) 0 640 n (16 * m + set) else 0)) 53 = _
      rw [sumUp_add, ih]
      rfl
  rw [sw 40]
  exact sumUp_cg fun e he => sumUp_one (by have := phi_lt e he; omega)
theorem adX_put {wt wy : Nat → Nat} {st : Nat → Nat → Nat} {nn k c : Nat} (h : ∀ j, j < nn → wt j = adK wy st j k + adL wy st k j c) (hs : st k c < nn) : ∀ j, j < nn → va_up wt (st k c) (wt (st k c) + wy k) j = adK wy st j k + adL wy st k j (c + 1) := by
  intro j hj
  by_cases e : j = st k c
  · rw [e, va_up_self, h _ hs]
    simp only [adL, if_pos]
    omega
  · rw [va_up_ne _ _ e, h j hj]
    simp only [adL]
    rw [if_neg (fun z => e z.symm)]
    omega
theorem adX_skip {wt wy : Nat → Nat} {st : Nat → Nat → Nat} {nn k c : Nat} (h : ∀ j, j < nn → wt j = adK wy st j k + adL wy st k j c) (hc : c = 3 ∨ wy k = 0) : ∀ j, j < nn → wt j = adK wy st j (k + 1) + adL wy st (k + 1) j 0 := by
  intro j hj
  rw [h j hj]
  show _ = adK wy st j k + adL wy st k j 3 + 0
  rcases hc with e | e
  · rw [e]; rfl
  · rw [adL_0 e, adL_0 e]
/-- the world with the two arrays of counts by other names -/
def xV (dA : Nat → ClassId) (a : Nat → Nat) (rn rt f10 f11 : Nat) (trace : Int32) (len stand : Nat) (first allh : Option Nat) (hAll : Nat) (fault : Int32) (row hOf : Nat → Nat) (farOf : Nat → Option Nat) (rowsN rowsT : Nat → Nat) (mcW : Int32) (edW words : Nat) (mcR : Int32) (edR rdgs : Nat) (sh : Nat → Option Nat) (ex : va_W) : va_W :=
  (a 0, .inr (0, [.int trace, .int (nI len), .ref (a 1), .ref (a 2), .int (nI stand), .int (oI first), .int (oI allh), .int (nI hAll), .ref (a 3), .ref (a 4), .ref f10, .ref f11, .ref (a 5), .int fault, .ref (a 6)])) ::
  (a 1, aI dA 60 (nF row)) :: (a 2, .inr (12, [.int mcW, .ref edW, .int (nI words)])) :: (a 3, aI dA 4 (nF hOf)) :: (a 4, aI dA 864 (oF farOf)) :: (rn, aL dA 864 (nL rowsN)) :: (rt, aL dA 864 (nL rowsT)) :: (a 5, .inr (12, [.int mcR, .ref edR, .int (nI rdgs)])) :: (a 6, aS dA 4 sh) :: ex
theorem xV_sw {D : va_G} {a0 : Nat} {H0 H : Heap} {locs : List Loc} {dA : Nat → ClassId} {a : Nat → Nat} {rn rt : Nat} {trace : Int32} {len stand : Nat} {first allh : Option Nat} {hAll : Nat} {fault : Int32} {row hOf : Nat → Nat} {farOf : Nat → Option Nat} {rowsN rowsT : Nat → Nat} {mcW : Int32} {edW words : Nat} {mcR : Int32} {edR rdgs : Nat} {sh : Nat → Option Nat} {ex : va_W}
    (h : nvS D a0 (xV dA a rn rt rt rn trace len stand first allh hAll fault row hOf farOf rowsN rowsT mcW edW words mcR edR rdgs sh ex) H0 H locs) : nvS D a0 (xW dA a rt rn trace len stand first allh hAll fault row hOf farOf rowsT rowsN mcW edW words mcR edR rdgs sh ex) H0 H locs :=
  h.perm (.cons _ (.cons _ (.cons _ (.cons _ (.cons _ (.swap _ _ _))))))
theorem wy_next {wt wy : Nat → Nat} {st : Nat → Nat → Nat} {nn d k : Nat} (hwy : ∀ j, j < nn → wy j = wyN st 1 nn d j) (hk : k = nn) (h1 : ∀ j, j < nn → wt j = adK wy st j k + adL wy st k j 0) : ∀ j, j < nn → wt j = wyN st 1 nn (d + 1) j := by
  intro j hj
  subst hk
  rw [h1 j hj]
  show adK wy st j k + 0 = adK (wyN st 1 k d) st j k
  rw [Nat.add_zero]
  exact adK_cg hwy k (Nat.le_refl _)
theorem wy_init {st : Nat → Nat → Nat} {nn : Nat} : ∀ j, j < nn → va_up (fun _ => 0) 1 1 j = wyN st 1 nn 0 j := by
  intro j _
  show _ = if j = 1 then 1 else 0
  by_cases e : j = 1
  · rw [e, va_up_self, if_pos rfl]
  · rw [va_up_ne _ _ e, if_neg e]
