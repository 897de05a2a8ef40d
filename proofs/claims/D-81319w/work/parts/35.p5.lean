/-! the system's ends of rows against the model's: plain -/
set_option maxRecDepth 100000
def nxE (e c : Nat) : Nat := if 3 * e + c < 54 then 3 * e + c else 27 + (3 * e + c) % 27
def enX (rw : Nat → Nat) : Nat → Nat
  | 0 => 1
  | b + 1 => nxE (enX rw b) (rw b)
def fD (rw : Nat → Nat) (s n : Nat) : Nat := 3 ^ n + dig rw s n
theorem fD_s {row : Nat → Nat} (s n : Nat) : fD row s (n + 1) = 3 * fD row s n + row (s + n) := by
  show 3 ^ (n + 1) + (3 * dig row s n + row (s + n)) = 3 * (3 ^ n + dig row s n) + row (s + n)
  rw [Nat.pow_succ]
  omega
theorem enX_eq {row : Nat → Nat} (h : ∀ j, row j < 3) (b : Nat) : enX row b = fD row (b - min b 3) (min b 3) := by
  induction b with
  | zero => rfl
  | succ b ih =>
    show nxE (enX row b) (row b) = _
    rw [ih]
    have h0 := h b
    rcases (by omega : b = 0 ∨ b = 1 ∨ b = 2 ∨ 3 ≤ b) with rfl | rfl | rfl | q
    · have a1 : fD row (0 - min 0 3) (min 0 3) = 1 := rfl
      have a2 : fD row (0 + 1 - min (0 + 1) 3) (min (0 + 1) 3) = 3 + row 0 := by simp [fD, dig]
      rw [a1, a2]
      unfold nxE
      rw [if_pos (by omega)]
    · have h1 := h 0
      have a1 : fD row (1 - min 1 3) (min 1 3) = 3 + row 0 := by simp [fD, dig]
      have a2 : fD row (1 + 1 - min (1 + 1) 3) (min (1 + 1) 3) = 9 + (3 * row 0 + row 1) := by simp [fD, dig]
      rw [a1, a2]
      unfold nxE
      rw [if_pos (by omega)]
      omega
    · have h1 := h 0
      have h2 := h 1
      have a1 : fD row (2 - min 2 3) (min 2 3) = 9 + (3 * row 0 + row 1) := by simp [fD, dig]
      have a2 : fD row (2 + 1 - min (2 + 1) 3) (min (2 + 1) 3) = 27 + (3 * (3 * row 0 + row 1) + row 2) := by simp [fD, dig]
      rw [a1, a2]
      unfold nxE
      rw [if_pos (by omega)]
      omega
    · obtain ⟨s, rfl⟩ : ∃ s, b = s + 3 := ⟨b - 3, by omega⟩
      have e1 : min (s + 3) 3 = 3 := by omega
      have e2 : min (s + 3 + 1) 3 = 3 := by omega
      rw [e1, e2, show s + 3 - 3 = s by omega, show s + 3 + 1 - 3 = s + 1 by omega]
      have a0 := h s
      have a1 := h (s + 1)
      have a2 := h (s + 2)
      have a3 : fD row s 3 = 27 + (9 * row s + 3 * row (s + 1) + row (s + 2)) := by simp [fD, dig]; omega
      have a4 : fD row (s + 1) 3 = 27 + (9 * row (s + 1) + 3 * row (s + 2) + row (s + 3)) := by
        simp [fD, dig, show s + 1 + 1 = s + 2 by omega, show s + 1 + 2 = s + 3 by omega]; omega
      rw [a3, a4]
      unfold nxE
      rw [if_neg (by omega)]
      omega
theorem enX_lt {row : Nat → Nat} (h : ∀ j, row j < 3) (b : Nat) : 1 ≤ enX row b ∧ enX row b < 54 := by
  rw [enX_eq h]
  have h1 := dig_lt h (b - min b 3) (min b 3)
  unfold fD
  rcases (by omega : min b 3 = 0 ∨ min b 3 = 1 ∨ min b 3 = 2 ∨ min b 3 = 3) with e | e | e | e <;> rw [e] at h1 ⊢ <;> simp at h1 ⊢ <;> omega
theorem fD_div {row : Nat → Nat} (h : ∀ j, row j < 3) (s n : Nat) : fD row s (n + 1) / 3 = fD row s n ∧ fD row s (n + 1) % 3 = row (s + n) := by
  rw [fD_s]
  have := h (s + n)
  omega
theorem fD_pow {row : Nat → Nat} (h : ∀ j, row j < 3) (s : Nat) : ∀ j n, fD row s (n + j) / 3 ^ j = fD row s n := by
  intro j
  induction j with
  | zero => intro n; rw [Nat.pow_zero, Nat.div_one]; rfl
  | succ j ih =>
    intro n
    rw [show n + (j + 1) = (n + j) + 1 by omega, Nat.pow_succ, Nat.mul_comm, ← Nat.div_div_eq_div_mul, (fD_div h s (n + j)).1, ih]
theorem fD_ge {row : Nat → Nat} (s n : Nat) : 3 ≤ fD row s (n + 1) := by
  have := fD_s (row := row) s n
  have h1 : 1 ≤ fD row s n := Nat.le_trans (Nat.pow_pos (by decide)) (Nat.le_add_right _ _)
  omega
/-- the number of an end and a letter, as digits -/
theorem lf_eq {row : Nat → Nat} (h : ∀ j, row j < 3) (b : Nat) : 3 * enX row b + row b = fD row (b - min b 3) (min b 3 + 1) := by
  rw [enX_eq h, fD_s, show b - min b 3 + min b 3 = b by omega]
theorem lf_dig {row : Nat → Nat} (h : ∀ j, row j < 3) (b : Nat) {j X : Nat} : (3 ≤ (3 * enX row b + row b) / 3 ^ j ∧ (3 * enX row b + row b) / 3 ^ j % 3 = X) ↔ (j ≤ min b 3 ∧ row (b - j) = X) := by
  rw [lf_eq h]
  by_cases q : j ≤ min b 3
  · obtain ⟨n, hn⟩ : ∃ n, min b 3 + 1 = (n + 1) + j := ⟨min b 3 - j, by omega⟩
    rw [hn, fD_pow h, (fD_div h _ n).2, show b - min b 3 + n = b - j by omega]
    exact ⟨fun z => ⟨q, z.2⟩, fun z => ⟨fD_ge _ n, z.2⟩⟩
  · constructor
    · intro z
      obtain ⟨i, hi⟩ : ∃ i, j = (min b 3 + 1) + i := ⟨j - (min b 3 + 1), by omega⟩
      have z1 := z.1
      rw [hi, Nat.pow_add, ← Nat.div_div_eq_div_mul] at z1
      have e := fD_pow h (b - min b 3) (min b 3 + 1) 0
      rw [Nat.zero_add] at e
      rw [e] at z1
      have z2 : fD row (b - min b 3) 0 / 3 ^ i ≤ fD row (b - min b 3) 0 := Nat.div_le_self _ _
      have z3 : fD row (b - min b 3) 0 = 1 := rfl
      omega
    · intro z
      exact absurd z.1 q
theorem lf_all {row : Nat → Nat} (h : ∀ j, row j < 3) {ln : Nat} (h1 : 1 ≤ ln) (h4 : ln ≤ 4) (b : Nat) {X : Nat → Nat} : (∀ j, j < ln → 3 ≤ (3 * enX row b + row b) / 3 ^ j ∧ (3 * enX row b + row b) / 3 ^ j % 3 = X j) ↔ (ln ≤ b + 1 ∧ ∀ k, k < ln → row (b + 1 - ln + k) = X (ln - 1 - k)) := by
  constructor
  · intro z
    have zl := (lf_dig h b).mp (z (ln - 1) (by omega))
    refine ⟨by omega, fun k hk => ?_⟩
    have zk := (lf_dig h b).mp (z (ln - 1 - k) (by omega))
    rw [← zk.2]
    congr 1
    omega
  · rintro ⟨z1, z2⟩ j hj
    refine (lf_dig h b).mpr ⟨by omega, ?_⟩
    have zk := z2 (ln - 1 - j) (by omega)
    rw [show b + 1 - ln + (ln - 1 - j) = b - j by omega, show ln - 1 - (ln - 1 - j) = j by omega] at zk
    exact zk
theorem ea_hd {row : Nat → Nat} (h : ∀ j, row j < 3) {kd ln : Nat} {lt : Nat → Nat} (h1 : 1 ≤ ln) (h4 : ln ≤ 4) (b fr form : Nat) (hf : ∀ k, k < ln → lt ((fr + k) % ln) = hdF kd ln lt form k) : eaB ln lt fr (3 * enX row b + row b) = (decide (ln ≤ b + 1) && hdU kd ln lt row (b + 1) form ln) := by
  have e := lf_all h h1 h4 b (X := fun j => lt ((fr + (ln - 1 - j)) % ln))
  have hg : 3 ≤ 3 * enX row b + row b := by have := (enX_lt h b).1; omega
  rw [Bool.eq_iff_iff]
  unfold eaB eaU hdU
  simp only [Bool.and_eq_true, decide_eq_true_eq]
  constructor
  · rintro ⟨-, z⟩
    obtain ⟨z1, z2⟩ := e.mp z
    refine ⟨z1, fun k hk => ?_⟩
    have := z2 k hk
    simp only [show ln - 1 - (ln - 1 - k) = k by omega] at this
    rw [this, hf k hk]
  · rintro ⟨z1, z2⟩
    refine ⟨hg, e.mpr ⟨z1, fun k hk => ?_⟩⟩
    show _ = lt ((fr + (ln - 1 - (ln - 1 - k))) % ln)
    rw [show ln - 1 - (ln - 1 - k) = k by omega, hf k hk]
    exact z2 k hk
theorem eb_hd {row : Nat → Nat} (h : ∀ j, row j < 3) {ln : Nat} {lt : Nat → Nat} (h1 : 1 ≤ ln) (h4 : ln ≤ 4) (b : Nat) : ebU lt (3 * enX row b + row b) ln = (decide (ln ≤ b + 1) && hdU 1 ln lt row (b + 1) 1 ln) := by
  have e := lf_all h h1 h4 b (X := fun j => lt j)
  rw [Bool.eq_iff_iff]
  unfold ebU hdU
  simp only [Bool.and_eq_true, decide_eq_true_eq]
  exact e
/-- the system hears what the model hears -/
theorem ed_hd {row : Nat → Nat} (h : ∀ j, row j < 3) {kd ln : Nat} {lt : Nat → Nat} (hk : kd < 3) (h1 : 1 ≤ ln) (h4 : ln ≤ 4) (b : Nat) : edB kd ln lt (3 * enX row b + row b) = hd kd ln lt row (b + 1) := by
  have hm : ∀ k, k < ln → (0 + k) % ln = k := fun k hk => by rw [Nat.zero_add]; exact Nat.mod_eq_of_lt hk
  have e0 : eaB ln lt 0 (3 * enX row b + row b) = (decide (ln ≤ b + 1) && hdU kd ln lt row (b + 1) 0 ln) := ea_hd h h1 h4 b 0 0 (fun k hk => by rw [hm k hk]; rfl)
  unfold hd edB
  rcases (by omega : kd = 0 ∨ kd = 1 ∨ kd = 2) with rfl | rfl | rfl
  · have e1 : hdU 0 ln lt row (b + 1) 1 ln = hdU 0 ln lt row (b + 1) 0 ln := rfl
    rw [if_pos rfl, e0, e1, Bool.or_self]
  · rw [if_neg (by decide), if_pos rfl, e0, eb_hd h h1 h4, ← Bool.and_or_distrib_left]
  · rw [if_neg (by decide), if_neg (by decide), e0, ea_hd (kd := 2) h h1 h4 b 1 1 (fun k hk => by rw [Nat.add_comm]; rfl), ← Bool.and_or_distrib_left]
/-- the words heard by a letter behind an end -/
def hbE (kind longOf letters : Nat → Nat) (words L : Nat) : Nat := bitsUp (fun w => edB (kind w) (longOf w) (fun k => letters (4 * w + k)) L) words
theorem hbE_hb {kind longOf letters row : Nat → Nat} {words : Nat} (hw : wOK words kind longOf letters) (h : ∀ j, row j < 3) (b : Nat) : hbE kind longOf letters words (3 * enX row b + row b) = hbW kind longOf letters row words (b + 1) := by
  unfold hbE
  exact bitsUp_cg fun w hq => ed_hd h (hw.2.1 w) (hw.2.2.2.2 w hq) (hw.2.2.1 w) b
theorem hbE_lt {kind longOf letters : Nat → Nat} {words L : Nat} : hbE kind longOf letters words L < 2 ^ words := bitsUp_lt _ _
/-- the model's end, as the system writes it -/
def phi (e : Nat) : Nat := 3 ^ mnE e + (e - blw (mnE e))
theorem mnE_end {row : Nat → Nat} (h : ∀ j, row j < 3) (b : Nat) : mnE (endM row b) = min b 3 := by
  have h1 := dig_lt h (b - min b 3) (min b 3)
  unfold endM
  generalize dig row (b - min b 3) (min b 3) = x at h1 ⊢
  rcases (by omega : min b 3 = 0 ∨ min b 3 = 1 ∨ min b 3 = 2 ∨ min b 3 = 3) with e | e | e | e <;> rw [e] at h1 ⊢ <;> simp [blw, mnE] at h1 ⊢ <;> (repeat' split) <;> omega
theorem enX_phi {row : Nat → Nat} (h : ∀ j, row j < 3) (b : Nat) : enX row b = phi (endM row b) := by
  rw [enX_eq h]
  unfold phi
  rw [mnE_end h]
  unfold endM fD
  omega
theorem endM_rw : ∀ e : Nat, e < 40 → ∀ c : Nat, c < 3 → endM (rwE e c) (mnE e) = e := by decide +kernel
theorem rwE_at {e c : Nat} : rwE e c (mnE e) = c := by unfold rwE; rw [if_neg (by omega)]
theorem phi_nx {e c : Nat} (he : e < 40) (hc : c < 3) : nxE (phi e) c = phi (nxM e c) := by
  have h := rwE_lt (e := e) hc
  unfold nxM
  rw [← enX_phi h]
  show _ = nxE (enX (rwE e c) (mnE e)) (rwE e c (mnE e))
  rw [enX_phi h, endM_rw e he c hc, rwE_at]
theorem phi_hb {kind longOf letters : Nat → Nat} {words e c : Nat} (hw : wOK words kind longOf letters) (he : e < 40) (hc : c < 3) : hbE kind longOf letters words (3 * phi e + c) = hbM kind longOf letters words e c := by
  have h := rwE_lt (e := e) hc
  have z := hbE_hb hw h (mnE e)
  rw [enX_phi h, endM_rw e he c hc, rwE_at] at z
  exact z
theorem phi_lt : ∀ e : Nat, e < 40 → 1 ≤ phi e ∧ phi e < 54 := by decide +kernel
theorem i64_le (x y : Int32) : x.toInt64 ≤ y.toInt64 ↔ x ≤ y := by
  rw [Int64.le_iff_toInt_le, Int32.le_iff_toInt_le, Int32.toInt_toInt64, Int32.toInt_toInt64]
theorem lN_j {a : Nat} (h : a < 2 ^ 31) : lN a = (nI a).toInt64 := (nI_l h).symm
theorem inN_l {v : Int32} {a b : Nat} (ha : a < 2 ^ 31) (hb : b < 2 ^ 31) : (decide (lN a ≤ v.toInt64) && decide (v.toInt64 ≤ lN b)) = inN v a b := by
  rw [lN_j ha, lN_j hb]
  unfold inN
  congr 1
  · exact decide_eq_decide.mpr (i64_le _ _)
  · exact decide_eq_decide.mpr (i64_le _ _)
theorem isW_l {v : Int32} {n : Nat} (hn : n ≤ 60) : (decide (lN 0 ≤ v.toInt64) && decide (v.toInt64 ≤ (nI n - nI 1).toInt64)) = isW n v := by
  rw [lN_j (by decide), ← isW_m hn]
  congr 1
  · exact decide_eq_decide.mpr (i64_le _ _)
  · exact decide_eq_decide.mpr (i64_le _ _)
