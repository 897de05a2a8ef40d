/-! what the system finds in a row is what the model finds: plain -/
set_option maxRecDepth 100000
theorem enX_cg {row row' : Nat → Nat} {b : Nat} (h : ∀ j, j < b → row j = row' j) : enX row b = enX row' b := by
  induction b with
  | zero => rfl
  | succ b ih =>
    show nxE (enX row b) (row b) = nxE (enX row' b) (row' b)
    rw [ih (fun j hj => h j (by omega)), h b (by omega)]
theorem bitsUp_or {P Q : Nat → Bool} {n : Nat} : bitsUp P n ||| bitsUp Q n = bitsUp (fun w => P w || Q w) n := by
  apply Nat.eq_of_testBit_eq
  intro i
  rw [Nat.testBit_or]
  by_cases h : i < n
  · rw [bitsUp_tb h, bitsUp_tb h, bitsUp_tb h]
  · have a : ∀ R : Nat → Bool, (bitsUp R n).testBit i = false := fun R => Nat.testBit_lt_two_pow (Nat.lt_of_lt_of_le (bitsUp_lt R n) (Nat.pow_le_pow_right (by decide) (by omega)))
    rw [a, a, a]; rfl
theorem or_bits {Q : Nat → Nat → Bool} {words : Nat} (n : Nat) : orUp (fun j => bitsUp (fun w => Q w j) words) n = bitsUp (fun w => decide (0 < cntUp (Q w) n)) words := by
  induction n with
  | zero =>
    show 0 = _
    symm
    rw [show (fun w => decide (0 < cntUp (Q w) 0)) = (fun _ => false) from by funext w; rfl]
    induction words with
    | zero => rfl
    | succ k ih => simp only [bitsUp]; rw [ih]; simp
  | succ n ih =>
    show orUp _ n ||| bitsUp (fun w => Q w n) words = _
    rw [ih, bitsUp_or]
    refine bitsUp_cg fun w _ => ?_
    rw [cntUp_b]
    cases Q w n with
    | true => rw [Bool.or_true]; exact (decide_eq_true (by show 0 < _ + 1; omega)).symm
    | false => rw [Bool.or_false]; rfl
theorem or_ORU {kind longOf letters row : Nat → Nat} {words n : Nat} : orUp (fun j => hbW kind longOf letters row words (j + 1)) n = bitsUp (fun w => decide (0 < tmW kind longOf letters row n w)) words := or_bits n
theorem pop_bits {P : Nat → Bool} {n : Nat} (h : n ≤ 4) : popN (bitsUp P n) = sumUp (fun w => (P w).toNat) n := by
  rcases (by omega : n = 0 ∨ n = 1 ∨ n = 2 ∨ n = 3 ∨ n = 4) with rfl | rfl | rfl | rfl | rfl <;> simp only [bitsUp, sumUp] <;> (try cases P 0) <;> (try cases P 1) <;> (try cases P 2) <;> (try cases P 3) <;> decide
theorem sum_cnt {Q : Nat → Nat → Bool} {words : Nat} (n : Nat) : sumUp (fun j => sumUp (fun w => (Q w j).toNat) words) n = sumUp (fun w => cntUp (Q w) n) words := by
  induction n with
  | zero => exact (sumUp_0 words).symm
  | succ n ih =>
    show sumUp _ n + sumUp _ words = _
    rw [ih, ← sumUp_add]
    exact sumUp_cg fun w _ => cntUp_b.symm
theorem sum_SUM {kind longOf letters row : Nat → Nat} {words n : Nat} (hw : words ≤ 4) : sumUp (fun j => popN (hbW kind longOf letters row words (j + 1))) n = sumUp (fun w => tmW kind longOf letters row n w) words := by
  rw [sumUp_cg (fun j _ => pop_bits hw)]
  exact sum_cnt n
theorem fst_any {f : Nat → Nat} {words : Nat} (hw : 0 < words) (n : Nat) : fstUp (fun k => (true && decide (0 < orUp f (k + 1))) || decide (orUp f (k + 1) = 2 ^ words - 1)) n = fstUp (fun j => decide (0 < f j)) n ∧ (fstUp (fun j => decide (0 < f j)) n = none → orUp f n = 0) := by
  induction n with
  | zero => exact ⟨rfl, fun _ => rfl⟩
  | succ n ih =>
    obtain ⟨h1, h2⟩ := ih
    cases hc : fstUp (fun j => decide (0 < f j)) n with
    | some v =>
      rw [hc] at h1
      refine ⟨by rw [fstUp_m h1 (Nat.le_succ n), fstUp_m hc (Nat.le_succ n)], fun z => ?_⟩
      rw [fstUp_m hc (Nat.le_succ n)] at z
      cases z
    | none =>
      have h0 := h2 hc
      rw [hc] at h1
      have e : orUp f (n + 1) = f n := by show orUp f n ||| f n = f n; rw [h0, Nat.zero_or]
      have h2w : 2 ≤ 2 ^ words := by have := Nat.pow_le_pow_right (n := 2) (by decide) hw; simpa using this
      by_cases q : 0 < f n
      · rw [fstUp_t h1 (by rw [e, decide_eq_true q]; rfl), fstUp_t hc (decide_eq_true q)]
        exact ⟨rfl, fun z => by cases z⟩
      · rw [fstUp_n h1 (by rw [e, decide_eq_false q, Bool.and_false, Bool.false_or]; exact decide_eq_false (by omega)), fstUp_n hc (decide_eq_false q)]
        exact ⟨rfl, fun _ => by rw [e]; omega⟩
/-- the cells that are taken -/
def cfN (cells : Nat → Int32) (p m : Nat) : Nat → Int32 := fun j => if j < m then cells (p + j) else 0
theorem cfN_n {cells : Nat → Int32} {p m : Nat} (h : alB cells p m = true) : cfN cells p m = nF (rwC cells p m) := by
  funext j
  have h1 := (alB_v h).2
  unfold cfN nF
  by_cases q : j < m
  · rw [if_pos q]; exact h1 j q
  · rw [if_neg q]
    unfold rwC
    rw [if_neg q]
    rfl
def asU (g : Nat → Int32) (m : Nat) : Bool := decide (∀ j, j < m → inN (g j) 0 2 = true)
theorem asU_0 {g : Nat → Int32} : asU g 0 = true := by simp [asU]
theorem asU_s {g : Nat → Int32} {k : Nat} : (asU g k && inN (g k) 0 2) = asU g (k + 1) := by
  rw [show inN (g k) 0 2 = decide (inN (g k) 0 2 = true) from by cases inN (g k) 0 2 <;> rfl]
  exact lt_dec (P := fun j => inN (g j) 0 2 = true)
theorem alB_u {cells : Nat → Int32} {p m : Nat} : asU (cfN cells p m) m = alB cells p m := by
  unfold alB asU
  refine decide_eq_decide.mpr ⟨fun z j hj => ?_, fun z j hj => ?_⟩
  · have := z j hj
    unfold cfN at this
    rwa [if_pos hj] at this
  · unfold cfN
    rw [if_pos hj]
    exact z j hj
def F_rowBy (words : Nat) (kind longOf letters : Nat → Nat) (cells : Nat → Int32) (p m : Nat) (what : Int32) : Int32 := if words = 0 then -3 else if alB cells p m then F_look words kind longOf letters (rwC cells p m) m what else -2
