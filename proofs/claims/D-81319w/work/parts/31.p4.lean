/-! words' objects, and what they answer: plain -/
set_option maxRecDepth 100000
/-- a word's object: of kind kd, its letters at la, the system's x -/
def plF (kd la x : Nat) : va_E := .inr (2 + kd, .ref la :: List.replicate (kd + 1) (.ref x))
/-- a left-over L (the end and the letter) ends by the letters from fr on, round: the last i looked at -/
def eaU (ln : Nat) (lt : Nat → Nat) (fr L i : Nat) : Bool := decide (∀ j, j < i → 3 ≤ L / 3 ^ j ∧ L / 3 ^ j % 3 = lt ((fr + (ln - 1 - j)) % ln))
def eaB (ln : Nat) (lt : Nat → Nat) (fr L : Nat) : Bool := decide (3 ≤ L) && eaU ln lt fr L ln
theorem eaU_0 {ln : Nat} {lt : Nat → Nat} {fr L : Nat} : eaU ln lt fr L 0 = true := by simp [eaU]
theorem lt_dec {P : Nat → Prop} [DecidablePred P] {i : Nat} : (decide (∀ j, j < i → P j) && decide (P i)) = decide (∀ j, j < i + 1 → P j) := by
  by_cases h : P i
  · by_cases h2 : ∀ j, j < i → P j
    · have h3 : ∀ j, j < i + 1 → P j := fun j hj => by
        by_cases e : j = i
        · rw [e]; exact h
        · exact h2 j (by omega)
      rw [decide_eq_true h2, decide_eq_true h, decide_eq_true h3]; rfl
    · have h3 : ¬ ∀ j, j < i + 1 → P j := fun z => h2 fun j hj => z j (by omega)
      rw [decide_eq_false h2, decide_eq_false h3]; rfl
  · have h3 : ¬ ∀ j, j < i + 1 → P j := fun z => h (z i (Nat.lt_succ_self i))
    rw [decide_eq_false h, decide_eq_false h3, Bool.and_false]
theorem eaU_s {ln : Nat} {lt : Nat → Nat} {fr L m : Nat} (hm : m + 1 ≤ ln) : ((decide (3 ≤ L) && eaU ln lt fr L (ln - (m + 1))) && decide (3 ≤ L / 3 ^ (ln - (m + 1)) ∧ L / 3 ^ (ln - (m + 1)) % 3 = lt ((fr + m) % ln))) = (decide (3 ≤ L) && eaU ln lt fr L (ln - m)) := by
  have e1 : ln - m = ln - (m + 1) + 1 := by omega
  have e2 : (fr + m) % ln = (fr + (ln - 1 - (ln - (m + 1)))) % ln := by congr 2; omega
  rw [e1, e2, Bool.and_assoc]
  unfold eaU
  rw [lt_dec (P := fun j => 3 ≤ L / 3 ^ j ∧ L / 3 ^ j % 3 = lt ((fr + (ln - 1 - j)) % ln))]
def ebU (lt : Nat → Nat) (L i : Nat) : Bool := decide (∀ j, j < i → 3 ≤ L / 3 ^ j ∧ L / 3 ^ j % 3 = lt j)
theorem ebU_0 {lt : Nat → Nat} {L : Nat} : ebU lt L 0 = true := by simp [ebU]
theorem ebU_s {lt : Nat → Nat} {L i : Nat} : (ebU lt L i && decide (3 ≤ L / 3 ^ i ∧ L / 3 ^ i % 3 = lt i)) = ebU lt L (i + 1) := lt_dec (P := fun j => 3 ≤ L / 3 ^ j ∧ L / 3 ^ j % 3 = lt j)
/-- a word ends -/
def edB (kd ln : Nat) (lt : Nat → Nat) (L : Nat) : Bool := if kd = 0 then eaB ln lt 0 L else if kd = 1 then eaB ln lt 0 L || ebU lt L ln else eaB ln lt 0 L || eaB ln lt 1 L
def f1U (ln : Nat) (lt : Nat → Nat) (i : Nat) : Bool := decide (∀ j, j < i → lt j = lt (ln - 1 - j))
theorem f1U_0 {ln : Nat} {lt : Nat → Nat} : f1U ln lt 0 = true := by simp [f1U]
theorem f1U_s {ln : Nat} {lt : Nat → Nat} {i : Nat} : (f1U ln lt i && decide (lt i = lt (ln - 1 - i))) = f1U ln lt (i + 1) := lt_dec (P := fun j => lt j = lt (ln - 1 - j))
def f2U (lt : Nat → Nat) (i : Nat) : Bool := decide (∀ j, j < i → lt (j + 1) = lt 0)
theorem f2U_0 {lt : Nat → Nat} : f2U lt 0 = true := by simp [f2U]
theorem f2U_s {lt : Nat → Nat} {i : Nat} : (f2U lt i && decide (lt (i + 1) = lt 0)) = f2U lt (i + 1) := lt_dec (P := fun j => lt (j + 1) = lt 0)
/-- how many forms -/
def fmN (kd ln : Nat) (lt : Nat → Nat) : Nat := if kd = 0 then 1 else if kd = 1 then 1 + (if f1U ln lt ln then 0 else 1) else 1 + (if f2U lt (ln - 1) then 0 else 1)
theorem dv3s {x n : Nat} : x / 3 ^ n / 3 = x / 3 ^ (n + 1) := by rw [Nat.div_div_eq_div_mul, ← Nat.pow_succ]
