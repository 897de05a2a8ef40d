/-! THE MODEL'S WORLD, and the words of what it computes -/
set_option maxRecDepth 100000
def oI (o : Option Nat) : Int32 := match o with
  | none => -9
  | some v => nI v
def oF (f : Nat → Option Nat) : Nat → Int32 := fun j => oI (f j)
theorem oF_up (f : Nat → Option Nat) (i : Nat) (v : Option Nat) : upd (oF f) i (oI v) = oF (va_up f i v) := by
  funext j
  by_cases h : j = i
  · simp [upd, oF, va_up, h]
  · simp [upd, oF, va_up, h]
theorem oF_ups (f : Nat → Option Nat) (i v : Nat) : upd (oF f) i (nI v) = oF (va_up f i (some v)) := oF_up f i (some v)
theorem oF_upn (f : Nat → Option Nat) (i : Nat) : upd (oF f) i (-9) = oF (va_up f i none) := oF_up f i none
theorem nI_ne9 {v : Nat} (h : v < 2 ^ 31) : nI v ≠ -9 := fun e => by
  have h1 := nI_toInt h
  rw [e] at h1
  have h2 : ((-9 : Int32)).toInt = -9 := by decide
  omega
theorem oI_n {o : Option Nat} (h : ∀ v, o = some v → v < 2 ^ 31) : oI o = -9 ↔ o = none := by
  cases o with
  | none => exact ⟨fun _ => rfl, fun _ => rfl⟩
  | some v => exact ⟨fun e => absurd e (nI_ne9 (h v rfl)), fun e => by cases e⟩
theorem oI_s {o : Option Nat} (h : ∀ v, o = some v → v < 2 ^ 31) {k : Nat} (hk : k < 2 ^ 31) : oI o = nI k ↔ o = some k := by
  cases o with
  | none => exact ⟨fun e => absurd e.symm (nI_ne9 hk), fun e => by cases e⟩
  | some v =>
    constructor
    · intro e
      rw [(nI_eq (h v rfl) hk).mp e]
    · intro e
      cases e
      rfl
theorem nB_as1 {b : Bool} (h : b = true) : nI 1 = nB b := by rw [h]; rfl
theorem nB_as0 {b : Bool} (h : b = false) : nI 0 = nB b := by rw [h]; rfl
theorem nB_e1 {b : Bool} (h : b = true) : nB true = nB b := by rw [h]
theorem nB_e0 {b : Bool} (h : b = false) : nB false = nB b := by rw [h]
def mW (dA : Nat → ClassId) (a : Nat → Nat) (fault trace : Int32) (sorts : Nat → Option Nat) (shL : Nat → Nat) (cells : Nat → Int32) (words said : Nat) (kind longOf letters saidRow : Nat → Nat) (at_ rdW : Nat) (rKind : Nat → Option Nat) (rLong rLet looked : Nat → Nat) (lkL : Nat) (next heard : Nat → Nat) (far : Nat → Option Nat) (ways waysT free freeT : Nat → Nat) (rdgs : Nat) (rWord rMany rStands rRow : Nat → Nat) (ex : va_W) : va_W :=
  (a 0, .inr (1, [.int fault, .int trace, .ref (a 1), .ref (a 2), .ref (a 3), .int (nI words), .int (nI said), .ref (a 4), .ref (a 5), .ref (a 6), .ref (a 7), .int (nI at_), .int (nI rdW), .ref (a 8), .ref (a 9), .ref (a 10), .ref (a 11), .int (nI lkL), .ref (a 12), .ref (a 13), .ref (a 14), .ref (a 15), .ref (a 16), .ref (a 17), .ref (a 18), .int (nI rdgs), .ref (a 19), .ref (a 20), .ref (a 21), .ref (a 22)])) ::
  (a 1, aI dA 4 (oF sorts)) :: (a 2, aI dA 4 (nF shL)) :: (a 3, aI dA 240 cells) :: (a 4, aI dA 4 (nF kind)) :: (a 5, aI dA 4 (nF longOf)) :: (a 6, aI dA 16 (nF letters)) :: (a 7, aI dA 60 (nF saidRow)) :: (a 8, aI dA 4 (oF rKind)) :: (a 9, aI dA 4 (nF rLong)) :: (a 10, aI dA 16 (nF rLet)) :: (a 11, aI dA 60 (nF looked)) :: (a 12, aI dA 120 (nF next)) :: (a 13, aI dA 120 (nF heard)) :: (a 14, aI dA 640 (oF far)) :: (a 15, aL dA 640 (nL ways)) :: (a 16, aL dA 640 (nL waysT)) :: (a 17, aI dA 40 (nF free)) :: (a 18, aI dA 40 (nF freeT)) :: (a 19, aI dA 8 (nF rWord)) :: (a 20, aI dA 8 (nF rMany)) :: (a 21, aI dA 8 (nF rStands)) :: (a 22, aI dA 64 (nF rRow)) :: ex
/-- a number from a to b -/
def inN (v : Int32) (a b : Nat) : Bool := decide (nI a ≤ v) && decide (v ≤ nI b)
theorem inN_t {v : Int32} {a b : Nat} (ha : a < 2 ^ 31) (hb : b < 2 ^ 31) (h : inN v a b = true) : ∃ j : Nat, a ≤ j ∧ j ≤ b ∧ v = nI j := by
  simp only [inN, Bool.and_eq_true, decide_eq_true_eq] at h
  have h0 : ¬ v < 0 := fun z => by
    have h1 : (nI a).toInt ≤ v.toInt := Int32.le_iff_toInt_le.mp h.1
    have h2 : v.toInt < (0 : Int32).toInt := Int32.lt_iff_toInt_lt.mp z
    rw [nI_toInt ha] at h1
    have h3 : (0 : Int32).toInt = 0 := by decide
    omega
  obtain ⟨j, hj, rfl⟩ := nI_of h0
  exact ⟨j, (nI_leI ha hj).mp h.1, (nI_leI hj hb).mp h.2, rfl⟩
theorem inN_n {j a b : Nat} (ha : a < 2 ^ 31) (hb : b < 2 ^ 31) (hj : j < 2 ^ 31) : inN (nI j) a b = decide (a ≤ j ∧ j ≤ b) := by
  simp only [inN, nI_leI ha hj, nI_leI hj hb]
  by_cases h1 : a ≤ j <;> by_cases h2 : j ≤ b <;> simp [h1, h2]
/-- a word's number -/
def isW (n : Nat) (v : Int32) : Bool := decide (0 ≤ v) && decide (v < nI n)
theorem isW_t {v : Int32} {n : Nat} (hn : n < 2 ^ 31) (h : isW n v = true) : ∃ j : Nat, j < n ∧ v = nI j := by
  simp only [isW, Bool.and_eq_true, decide_eq_true_eq] at h
  have h0 : ¬ v < 0 := fun z => by
    have h1 : (0 : Int32).toInt ≤ v.toInt := Int32.le_iff_toInt_le.mp h.1
    have h2 : v.toInt < (0 : Int32).toInt := Int32.lt_iff_toInt_lt.mp z
    omega
  obtain ⟨j, hj, rfl⟩ := nI_of h0
  exact ⟨j, (nI_ltI hj hn).mp h.2, rfl⟩
theorem isW_n {j n : Nat} (hn : n < 2 ^ 31) (hj : j < 2 ^ 31) : isW n (nI j) = decide (j < n) := by
  simp only [isW, nI_ltI hj hn]
  have h0 : (0 : Int32) ≤ nI j := nI_pos' hj
  simp [h0]
/-- the letter in a place of a form of a word of kind kd, ln letters lt -/
def hdF (kd ln : Nat) (lt : Nat → Nat) (form place : Nat) : Nat := lt (if form = 0 ∨ kd = 0 then place else if kd = 1 then ln - 1 - place else (place + 1) % ln)
theorem hdF_b {kd ln : Nat} {lt : Nat → Nat} (h : ∀ j, lt j < 3) {form place : Nat} : hdF kd ln lt form place < 2 ^ 31 := Nat.lt_of_lt_of_le (h _) (by decide)
def hdU (kd ln : Nat) (lt row : Nat → Nat) (behind form upto : Nat) : Bool := decide (∀ k, k < upto → row (behind - ln + k) = hdF kd ln lt form k)
theorem hdU_0 {kd ln : Nat} {lt row : Nat → Nat} {behind form : Nat} : hdU kd ln lt row behind form 0 = true := by simp [hdU]
theorem hdU_s {kd ln : Nat} {lt row : Nat → Nat} {behind form k : Nat} (h : hdU kd ln lt row behind form k = true) (e : row (behind - ln + k) = hdF kd ln lt form k) : hdU kd ln lt row behind form (k + 1) = true := by
  simp only [hdU, decide_eq_true_eq] at h ⊢
  intro j hj
  rcases Nat.lt_or_ge j k with q | q
  · exact h j q
  · rw [show j = k by omega]; exact e
theorem hdU_n {kd ln : Nat} {lt row : Nat → Nat} {behind form k : Nat} (e : row (behind - ln + k) ≠ hdF kd ln lt form k) : hdU kd ln lt row behind form (k + 1) = false := by
  simp only [hdU, decide_eq_false_iff_not]
  exact fun h => e (h k (Nat.lt_succ_self k))
theorem hdU_ff {kd ln : Nat} {lt row : Nat → Nat} {behind form k n : Nat} (h : hdU kd ln lt row behind form k = false) (hk : k ≤ n) : hdU kd ln lt row behind form n = false := by
  simp only [hdU, decide_eq_false_iff_not] at h ⊢
  exact fun z => h (fun j hj => z j (Nat.lt_of_lt_of_le hj hk))
/-- a form of the word ends just behind so many letters of the row -/
def hd (kd ln : Nat) (lt row : Nat → Nat) (behind : Nat) : Bool := decide (ln ≤ behind) && (hdU kd ln lt row behind 0 ln || hdU kd ln lt row behind 1 ln)
theorem hdU_tt {kd ln : Nat} {lt row : Nat → Nat} {behind form k n : Nat} (h : hdU kd ln lt row behind form k = true) (hk : n ≤ k) : hdU kd ln lt row behind form n = true := by
  simp only [hdU, decide_eq_true_eq] at h ⊢
  exact fun j hj => h j (Nat.lt_of_lt_of_le hj hk)
theorem hd_of {kd ln : Nat} {lt row : Nat → Nat} {behind f : Nat} (h1 : ln ≤ behind) (hf : f < 2) (h : hdU kd ln lt row behind f ln = true) : hd kd ln lt row behind = true := by
  rcases (by omega : f = 0 ∨ f = 1) with rfl | rfl <;> simp [hd, h1, h]
/-- of the words in three arrays -/
abbrev hdW (kind longOf letters row : Nat → Nat) (w behind : Nat) : Bool := hd (kind w) (longOf w) (fun k => letters (4 * w + k)) row behind
def bitsUp (P : Nat → Bool) : Nat → Nat
  | 0 => 0
  | n + 1 => bitsUp P n ||| (if P n then 2 ^ n else 0)
theorem bitsUp_t {P : Nat → Bool} {n : Nat} (h : P n = true) : bitsUp P n ||| 2 ^ n = bitsUp P (n + 1) := by simp [bitsUp, h]
theorem bitsUp_f {P : Nat → Bool} {n : Nat} (h : P n = false) : bitsUp P n ||| 0 = bitsUp P (n + 1) := by simp [bitsUp, h]
theorem bitsUp_lt (P : Nat → Bool) (n : Nat) : bitsUp P n < 2 ^ n := by
  induction n with
  | zero => simp [bitsUp]
  | succ n ih =>
    have h1 : bitsUp P n < 2 ^ (n + 1) := Nat.lt_trans ih (Nat.pow_lt_pow_right (by decide) (Nat.lt_succ_self n))
    refine Nat.or_lt_two_pow h1 ?_
    split
    · exact Nat.pow_lt_pow_right (by decide) (Nat.lt_succ_self n)
    · exact Nat.pow_pos (by decide)
def cntUp (P : Nat → Bool) : Nat → Nat
  | 0 => 0
  | n + 1 => cntUp P n + (if P n then 1 else 0)
theorem cntUp_t {P : Nat → Bool} {n : Nat} (h : P n = true) : cntUp P n + 1 = cntUp P (n + 1) := by simp [cntUp, h]
theorem cntUp_f {P : Nat → Bool} {n : Nat} (h : P n = false) : cntUp P n + 0 = cntUp P (n + 1) := by simp [cntUp, h]
theorem cntUp_le (P : Nat → Bool) (n : Nat) : cntUp P n ≤ n := by
  induction n with
  | zero => exact Nat.le_refl _
  | succ n ih => simp only [cntUp]; split <;> omega
/-- the words heard behind so many letters -/
abbrev hbW (kind longOf letters row : Nat → Nat) (words behind : Nat) : Nat := bitsUp (fun w => hdW kind longOf letters row w behind) words
/-- how often a word is heard in n letters -/
abbrev tmW (kind longOf letters row : Nat → Nat) (n w : Nat) : Nat := cntUp (fun b => hdW kind longOf letters row w (b + 1)) n

/-- what holds of the words all the time -/
def mOK (words : Nat) (kind longOf letters : Nat → Nat) : Prop := words ≤ 4 ∧ (∀ w, kind w < 3) ∧ (∀ w, longOf w ≤ 4) ∧ ∀ j, letters j < 3
theorem up_pre {f g : Nat → Nat} {k : Nat} (h : ∀ j, j < k → f j = g j) : ∀ j, j < k + 1 → va_up f k (g k) j = g j := by
  intro j hj
  by_cases e : j = k
  · rw [e, va_up_self]
  · rw [va_up_ne _ _ e]; exact h j (by omega)
theorem up_lt {f : Nat → Nat} {k v n : Nat} (h : ∀ j, f j < n) (hv : v < n) : ∀ j, va_up f k v j < n := by
  intro j
  by_cases e : j = k
  · rw [e, va_up_self]; exact hv
  · rw [va_up_ne _ _ e]; exact h j
def sumUp (f : Nat → Nat) : Nat → Nat
  | 0 => 0
  | n + 1 => sumUp f n + f n
def orUp (f : Nat → Nat) : Nat → Nat
  | 0 => 0
  | n + 1 => orUp f n ||| f n
theorem orUp_lt {f : Nat → Nat} {m : Nat} (h : ∀ k, f k < 2 ^ m) (n : Nat) : orUp f n < 2 ^ m := by
  induction n with
  | zero => exact Nat.pow_pos (by decide)
  | succ n ih => exact Nat.or_lt_two_pow ih (h n)
def fstUp (P : Nat → Bool) : Nat → Option Nat
  | 0 => none
  | n + 1 => match fstUp P n with
    | some k => some k
    | none => if P n then some (n + 1) else none
theorem fstUp_n {P : Nat → Bool} {n : Nat} (h : fstUp P n = none) (hp : P n = false) : fstUp P (n + 1) = none := by simp [fstUp, h, hp]
theorem fstUp_t {P : Nat → Bool} {n : Nat} (h : fstUp P n = none) (hp : P n = true) : fstUp P (n + 1) = some (n + 1) := by simp [fstUp, h, hp]
theorem fstUp_m {P : Nat → Bool} {n k v : Nat} (h : fstUp P n = some v) (hk : n ≤ k) : fstUp P k = some v := by
  induction k with
  | zero => rw [show n = 0 by omega] at h; exact h
  | succ k ih =>
    rcases Nat.lt_or_ge k n with q | q
    · rw [show k + 1 = n by omega]; exact h
    · simp [fstUp, ih q]
theorem fstUp_le {P : Nat → Bool} {n v : Nat} (h : fstUp P n = some v) : 0 < v ∧ v ≤ n := by
  induction n with
  | zero => simp [fstUp] at h
  | succ n ih =>
    simp only [fstUp] at h
    split at h
    · rename_i k hk
      cases h
      have := ih hk
      omega
    · split at h
      · cases h; omega
      · cases h
theorem pw4 {n : Nat} (h : n ≤ 4) : 2 ^ n ≤ 16 := by
  have := Nat.pow_le_pow_right (n := 2) (by decide) h
  simpa using this
/-- below the ends of m letters -/
def blw (m : Nat) : Nat := if m = 0 then 0 else if m = 1 then 1 else if m = 2 then 4 else 13
def dig (row : Nat → Nat) (s : Nat) : Nat → Nat
  | 0 => 0
  | n + 1 => 3 * dig row s n + row (s + n)
theorem dig_lt {row : Nat → Nat} (h : ∀ j, row j < 3) (s n : Nat) : dig row s n < 3 ^ n := by
  induction n with
  | zero => exact Nat.zero_lt_one
  | succ n ih =>
    have h1 := h (s + n)
    rw [Nat.pow_succ]
    show 3 * dig row s n + row (s + n) < 3 ^ n * 3
    omega
theorem dig_cg {row row' : Nat → Nat} {s n : Nat} (h : ∀ j, j < s + n → row j = row' j) : dig row s n = dig row' s n := by
  induction n with
  | zero => rfl
  | succ n ih =>
    show 3 * dig row s n + row (s + n) = 3 * dig row' s n + row' (s + n)
    rw [ih (fun j hj => h j (by omega)), h (s + n) (by omega)]
/-- the end of so many letters of a row -/
def endM (row : Nat → Nat) (b : Nat) : Nat := blw (min b 3) + dig row (b - min b 3) (min b 3)
theorem endM_cg {row row' : Nat → Nat} {b : Nat} (h : ∀ j, j < b → row j = row' j) : endM row b = endM row' b := by
  unfold endM
  rw [dig_cg (fun j hj => h j (by omega))]
theorem endM_lt {row : Nat → Nat} (h : ∀ j, row j < 3) (b : Nat) : endM row b < 40 := by
  unfold endM
  have h1 := dig_lt h (b - min b 3) (min b 3)
  generalize dig row (b - min b 3) (min b 3) = x at h1 ⊢
  rcases (by omega : min b 3 = 0 ∨ min b 3 = 1 ∨ min b 3 = 2 ∨ min b 3 = 3) with e | e | e | e <;> rw [e] at h1 ⊢ <;> simp [blw] at h1 ⊢ <;> omega
theorem hdU_cg {kd ln : Nat} {lt row row' : Nat → Nat} {b form upto : Nat} (h : ∀ j, j < b → row j = row' j) (hl : ln ≤ b) (hu : upto ≤ ln) : hdU kd ln lt row b form upto = hdU kd ln lt row' b form upto := by
  unfold hdU
  have : (∀ k, k < upto → row (b - ln + k) = hdF kd ln lt form k) ↔ (∀ k, k < upto → row' (b - ln + k) = hdF kd ln lt form k) := by
    constructor
    · intro z k hk; rw [← h _ (by omega)]; exact z k hk
    · intro z k hk; rw [h _ (by omega)]; exact z k hk
  simp only [this]
theorem hd_cg {kd ln : Nat} {lt row row' : Nat → Nat} {b : Nat} (h : ∀ j, j < b → row j = row' j) : hd kd ln lt row b = hd kd ln lt row' b := by
  unfold hd
  by_cases hl : ln ≤ b
  · rw [hdU_cg h hl (Nat.le_refl _), hdU_cg h hl (Nat.le_refl _)]
  · simp [hl]
theorem bitsUp_cg {P P' : Nat → Bool} {n : Nat} (h : ∀ k, k < n → P k = P' k) : bitsUp P n = bitsUp P' n := by
  induction n with
  | zero => rfl
  | succ n ih => simp only [bitsUp]; rw [ih (fun k hk => h k (by omega)), h n (by omega)]
theorem cntUp_cg {P P' : Nat → Bool} {n : Nat} (h : ∀ k, k < n → P k = P' k) : cntUp P n = cntUp P' n := by
  induction n with
  | zero => rfl
  | succ n ih => simp only [cntUp]; rw [ih (fun k hk => h k (by omega)), h n (by omega)]
theorem hbW_cg {kind longOf letters row row' : Nat → Nat} {words b : Nat} (h : ∀ j, j < b → row j = row' j) : hbW kind longOf letters row words b = hbW kind longOf letters row' words b := bitsUp_cg (fun _ _ => hd_cg h)
theorem tmW_cg {kind longOf letters row row' : Nat → Nat} {n w : Nat} (h : ∀ j, j < n → row j = row' j) : tmW kind longOf letters row n w = tmW kind longOf letters row' n w := cntUp_cg (fun _ hk => hd_cg (fun j hj => h j (by omega)))
/-- letters in an end -/
def mnE (e : Nat) : Nat := if e = 0 then 0 else if e < 4 then 1 else if e < 13 then 2 else 3
/-- a row that ends so, and a letter behind -/
def rwE (e c : Nat) : Nat → Nat := fun k => if k < mnE e then (e - blw (mnE e)) / 3 ^ (mnE e - 1 - k) % 3 else c
def nxM (e c : Nat) : Nat := endM (rwE e c) (mnE e + 1)
def hbM (kind longOf letters : Nat → Nat) (words e c : Nat) : Nat := hbW kind longOf letters (rwE e c) words (mnE e + 1)
theorem mnE_le (e : Nat) : mnE e ≤ 3 := by unfold mnE; split; omega; split; omega; split <;> omega

theorem blw_le (e : Nat) : blw (mnE e) ≤ e := by unfold blw mnE; (repeat' split) <;> omega
theorem nI_dm (m : Nat) : nI m + Int32.ofInt (-1) = nI m - nI 1 := by rw [Int32.sub_eq_add_neg]; rfl
theorem dv3 {x n m : Nat} (h : m + 1 ≤ n) : x / 3 ^ (n - (m + 1)) / 3 = x / 3 ^ (n - m) := by
  rw [Nat.div_div_eq_div_mul, ← Nat.pow_succ]
  congr 2
  omega
theorem dg_up {lk : Nat → Nat} {x n m : Nat} (hm : m + 1 ≤ n) (h : ∀ k, m + 1 ≤ k → k < n → lk k = x / 3 ^ (n - 1 - k) % 3) : ∀ k, m ≤ k → k < n → va_up lk m (x / 3 ^ (n - (m + 1)) % 3) k = x / 3 ^ (n - 1 - k) % 3 := by
  intro k h1 h2
  by_cases e : k = m
  · rw [e, va_up_self, show n - 1 - m = n - (m + 1) by omega]
  · rw [va_up_ne _ _ e]; exact h k (by omega) h2
theorem rw_ag {lk : Nat → Nat} {e c : Nat} (h : ∀ k, k < mnE e → lk k = (e - blw (mnE e)) / 3 ^ (mnE e - 1 - k) % 3) : ∀ j, j < mnE e + 1 → va_up lk (mnE e) c j = rwE e c j := by
  intro j hj
  unfold rwE
  by_cases q : j = mnE e
  · rw [q, va_up_self, if_neg (by omega)]
  · rw [va_up_ne _ _ q, if_pos (by omega)]; exact h j (by omega)
theorem nx_put {f : Nat → Nat} {v : Nat → Nat → Nat} {e c : Nat} (h : ∀ e' c', (e' < e ∨ (e' = e ∧ c' < c)) → c' < 3 → f (3 * e' + c') = v e' c') (hc : c < 3) : ∀ e' c', (e' < e ∨ (e' = e ∧ c' < c + 1)) → c' < 3 → va_up f (3 * e + c) (v e c) (3 * e' + c') = v e' c' := by
  intro e' c' h1 h2
  by_cases q : 3 * e' + c' = 3 * e + c
  · have q1 : e' = e := by omega
    have q2 : c' = c := by omega
    rw [q1, q2, va_up_self]
  · rw [va_up_ne _ _ q]; exact h e' c' (by omega) h2
theorem rwE_lt {e c : Nat} (hc : c < 3) (j : Nat) : rwE e c j < 3 := by unfold rwE; split; exact Nat.mod_lt _ (by decide); exact hc
theorem nxM_lt {e c : Nat} (hc : c < 3) : nxM e c < 40 := endM_lt (rwE_lt hc) _
theorem hbM_lt {kind longOf letters : Nat → Nat} {words e c : Nat} (h : words ≤ 4) : hbM kind longOf letters words e c < 16 := Nat.lt_of_lt_of_le (bitsUp_lt _ _) (pw4 h)
/-- by a letter: sixteen sets for each end -/
def stM (next heard : Nat → Nat) (k c : Nat) : Nat := 16 * next (3 * (k / 16) + c) + (k % 16 ||| heard (3 * (k / 16) + c))
def stC (kind longOf letters : Nat → Nat) (words k c : Nat) : Nat := 16 * nxM (k / 16) c + (k % 16 ||| hbM kind longOf letters words (k / 16) c)
/-- the tables hold what they should -/
def nxOK (next heard kind longOf letters : Nat → Nat) (words : Nat) : Prop := (∀ e c, e < 40 → c < 3 → next (3 * e + c) = nxM e c) ∧ ∀ e c, e < 40 → c < 3 → heard (3 * e + c) = hbM kind longOf letters words e c
theorem stM_C {next heard kind longOf letters : Nat → Nat} {words k c : Nat} (h : nxOK next heard kind longOf letters words) (hk : k < 640) (hc : c < 3) : stM next heard k c = stC kind longOf letters words k c := by
  unfold stM stC
  rw [h.1 _ _ (by omega) hc, h.2 _ _ (by omega) hc]
theorem stC_lt {kind longOf letters : Nat → Nat} {words k c : Nat} (hw : words ≤ 4) (hc : c < 3) : stC kind longOf letters words k c < 640 := by
  have h1 := nxM_lt (e := k / 16) hc
  have h2 : (k % 16 ||| hbM kind longOf letters words (k / 16) c) < 2 ^ 4 := Nat.or_lt_two_pow (Nat.mod_lt _ (by decide)) (hbM_lt hw)
  unfold stC
  omega
