/-! what the operations answer: plain -/
/-- what the machine has against taking cells -/
def agN (so : Nat → Option Nat) (shL : Nat → Nat) (sheet : Nat) (sort i n : Int32) : Nat :=
  if so sheet ≠ none ∧ oI (so sheet) ≠ sort then 2 else if so sheet = none then 1 else if n < 0 then 4 else if i < 0 ∨ nI (shL sheet) < i ∨ nI (shL sheet) - i < n then 3 else 0
theorem agN_lt (so : Nat → Option Nat) (shL : Nat → Nat) (sheet : Nat) (sort i n : Int32) : agN so shL sheet sort i n < 5 := by unfold agN; (repeat' split) <;> decide
theorem agN_0 {so : Nat → Option Nat} {shL : Nat → Nat} {sheet : Nat} {sort i n : Int32} (hl : shL sheet ≤ 60) (h : agN so shL sheet sort i n = 0) : ∃ i' n' : Nat, i = nI i' ∧ n = nI n' ∧ i' + n' ≤ shL sheet ∧ oI (so sheet) = sort ∧ so sheet ≠ none := by
  unfold agN at h
  split at h
  · cases h
  rename_i h1
  split at h
  · cases h
  rename_i h2
  split at h
  · cases h
  rename_i h3
  split at h
  · cases h
  rename_i h4
  have e1 : oI (so sheet) = sort := Classical.not_not.mp (fun z => h1 ⟨h2, z⟩)
  obtain ⟨n', hn, rfl⟩ := nI_of h3
  obtain ⟨i', hi, rfl⟩ := nI_of (fun z => h4 (Or.inl z))
  have h5 : i' ≤ shL sheet := Nat.le_of_not_lt fun z => h4 (Or.inr (Or.inl (nI_lt z hi)))
  have h6 : n' ≤ shL sheet - i' := Nat.le_of_not_lt fun z => h4 (Or.inr (Or.inr (by rw [pk_sub h5]; exact nI_lt z hn)))
  exact ⟨i', n', rfl, rfl, by omega, e1, h2⟩
/-- the letters in cells -/
def rwC (cells : Nat → Int32) (p n : Nat) : Nat → Nat := fun j => if j < n then i2n (cells (p + j)) else 0
def alB (cells : Nat → Int32) (p n : Nat) : Bool := decide (∀ j, j < n → inN (cells (p + j)) 0 2 = true)
theorem alB_v {cells : Nat → Int32} {p n : Nat} (h : alB cells p n = true) : (∀ j, rwC cells p n j < 3) ∧ ∀ j, j < n → cells (p + j) = nI (rwC cells p n j) := by
  simp only [alB, decide_eq_true_eq] at h
  constructor
  · intro j
    unfold rwC
    split
    · rename_i hj
      obtain ⟨v, -, h1, h2⟩ := inN_t (by decide) (by decide) (h j hj)
      rw [h2, i2n, nI_clamp (by omega)]
      omega
    · decide
  · intro j hj
    unfold rwC
    rw [if_pos hj]
    obtain ⟨v, -, h1, h2⟩ := inN_t (by decide) (by decide) (h j hj)
    rw [h2, i2n, nI_clamp (by omega)]
abbrev fbP (kind longOf letters row : Nat → Nat) (words : Nat) (any_ : Bool) : Nat → Bool := fun k => (any_ && decide (0 < orUp (fun j => hbW kind longOf letters row words (j + 1)) (k + 1))) || decide (orUp (fun j => hbW kind longOf letters row words (j + 1)) (k + 1) = 2 ^ words - 1)
def F_look (words : Nat) (kind longOf letters row : Nat → Nat) (n : Nat) (what : Int32) : Int32 :=
  if inN what 10 13 = true then (if i2n what - 10 < words then nI (tmW kind longOf letters row n (i2n what - 10)) else -9)
  else if what = nI 0 then nI (bitsUp (fun w => decide (0 < tmW kind longOf letters row n w)) words)
  else if what = nI 3 then nI (sumUp (fun w => tmW kind longOf letters row n w) words)
  else oI (fstUp (fbP kind longOf letters row words (decide (what = nI 1))) n)
theorem orUp_cg {f g : Nat → Nat} {n : Nat} (h : ∀ j, j < n → f j = g j) : orUp f n = orUp g n := by
  induction n with
  | zero => rfl
  | succ n ih => simp only [orUp]; rw [ih (fun j hj => h j (by omega)), h n (by omega)]
theorem fstUp_cg {P P' : Nat → Bool} {n : Nat} (h : ∀ k, k < n → P k = P' k) : fstUp P n = fstUp P' n := by
  induction n with
  | zero => rfl
  | succ n ih => simp only [fstUp]; rw [ih (fun k hk => h k (by omega)), h n (by omega)]
theorem fbP_cg {kind longOf letters row row' : Nat → Nat} {words n : Nat} {any_ : Bool} (h : ∀ j, j < n → row j = row' j) : fstUp (fbP kind longOf letters row words any_) n = fstUp (fbP kind longOf letters row' words any_) n := by
  refine fstUp_cg fun k hk => ?_
  have e : orUp (fun j => hbW kind longOf letters row words (j + 1)) (k + 1) = orUp (fun j => hbW kind longOf letters row' words (j + 1)) (k + 1) := orUp_cg fun j hj => hbW_cg fun i hi => h i (by omega)
  simp only [fbP, e]
def okRow (sheet sort n what : Int32) : Bool := inN sheet 0 3 && (inN sort 0 2 && (inN n 0 40 && (inN what 0 3 || inN what 10 13)))
def g_row (so : Nat → Option Nat) (shL : Nat → Nat) (sheet sort i n what : Int32) : Nat := if okRow sheet sort n what then agN so shL (i2n sheet) sort i n else 0
def F_row (so : Nat → Option Nat) (shL : Nat → Nat) (cells : Nat → Int32) (words : Nat) (kind longOf letters : Nat → Nat) (sheet sort i n what : Int32) : Int32 :=
  if okRow sheet sort n what then
    if g_row so shL sheet sort i n what ≠ 0 then (-10) - nI (g_row so shL sheet sort i n what)
    else if words = 0 then -3
    else if alB cells (60 * i2n sheet + i2n i) (i2n n) then F_look words kind longOf letters (rwC cells (60 * i2n sheet + i2n i) (i2n n)) (i2n n) what else -2
  else if inN sheet 0 3 then -2 else -1
/-- what was heard is so -/
def soB (kind longOf letters : Nat → Nat) (rdgs : Nat) (rWord rMany rStands rRow : Nat → Nat) : Bool := decide (∀ q, q < rdgs → decide (0 < tmW kind longOf letters (fun k => rRow (8 * q + k)) (rMany q) (rWord q)) = decide (rStands q = 1))
def rOK (rdgs : Nat) (rWord rMany rStands rRow : Nat → Nat) : Prop := rdgs ≤ 8 ∧ (∀ q, rWord q < 4) ∧ (∀ q, rMany q ≤ 8) ∧ (∀ q, rStands q < 2) ∧ ∀ j, rRow j < 3
def F_kinds (words : Nat) (kind longOf letters : Nat → Nat) (rdgs : Nat) (rWord rMany rStands rRow : Nat → Nat) (x : Int32) : Int32 :=
  if isW words x then nI (bitsUp (fun v => soB (va_up kind (i2n x) v) longOf letters rdgs rWord rMany rStands rRow) 3) else -1
def F_lasts (words : Nat) (kind longOf letters : Nat → Nat) (rdgs : Nat) (rWord rMany rStands rRow : Nat → Nat) (x : Int32) : Int32 :=
  if isW words x then nI (bitsUp (fun v => soB kind longOf (va_up letters (4 * i2n x + longOf (i2n x) - 1) v) rdgs rWord rMany rStands rRow) 3) else -1
theorem va_up_o {α : Type} {f g : Nat → α} {w : Nat} {v : α} (h : ∀ j, j ≠ w → f j = g j) : va_up f w v = va_up g w v := by
  funext j
  by_cases e : j = w
  · rw [e, va_up_self, va_up_self]
  · rw [va_up_ne _ _ e, va_up_ne _ _ e, h j e]
theorem va_up_b {α : Type} {f g : Nat → α} {w : Nat} (h : ∀ j, j ≠ w → f j = g j) : va_up f w (g w) = g := by
  funext j
  by_cases e : j = w
  · rw [e, va_up_self]
  · rw [va_up_ne _ _ e, h j e]
def F_odds (kind longOf letters : Nat → Nat) (words : Nat) (n which : Int32) : Int64 :=
  if inN n 0 30 = true ∧ inN which 0 1 = true ∧ 0 < words then
    (if which = nI 0 then lN (sumUp (fun e => wyN (stC kind longOf letters words) 0 640 (i2n n) (16 * e + (2 ^ words - 1))) 40 / Nat.gcd (sumUp (fun e => wyN (stC kind longOf letters words) 0 640 (i2n n) (16 * e + (2 ^ words - 1))) 40) (3 ^ i2n n))
     else lN (3 ^ i2n n / Nat.gcd (sumUp (fun e => wyN (stC kind longOf letters words) 0 640 (i2n n) (16 * e + (2 ^ words - 1))) 40) (3 ^ i2n n)))
  else -9223372036854775808
theorem sumUp_app (f : Nat → Nat) (m n : Nat) : sumUp f (m + n) = sumUp f m + sumUp (fun j => f (m + j)) n := by
  induction n with
  | zero => rfl
  | succ n ih => rw [← Nat.add_assoc]; simp only [sumUp]; rw [ih]; omega
theorem sumUp_st {f : Nat → Nat} {b s : Nat} (hs : s < b) (m : Nat) : sumUp (fun e => f (b * e + s)) m ≤ sumUp f (b * m) := by
  induction m with
  | zero => exact Nat.le_refl _
  | succ m ih =>
    show sumUp (fun e => f (b * e + s)) m + f (b * m + s) ≤ _
    rw [Nat.mul_succ, sumUp_app f (b * m) b]
    have := sumUp_ge (f := fun j => f (b * m + j)) hs
    omega
def okSh (k sort n : Int32) : Bool := inN k 0 3 && (inN sort 0 2 && decide (n ≤ nI 60))
def F_sheet (k sort n : Int32) : Int32 := if okSh k sort n then (if n < 0 then (-10) - nI 4 else 1) else if inN k 0 3 then -2 else -1
def okSh2 (k sort n : Int32) : Bool := okSh k sort n && decide (¬ n < 0)
def g_sheet (k sort n : Int32) : Nat := if okSh k sort n = true ∧ n < 0 then 4 else 0
def clC (cells : Nat → Int32) (p n : Nat) : Nat → Int32 := fun j => if p ≤ j ∧ j < p + n then 0 else cells j
theorem clC_s (cells : Nat → Int32) (p n : Nat) : upd (clC cells p n) (p + n) 0 = clC cells p (n + 1) := by
  funext j
  unfold upd clC
  by_cases e : j = p + n
  · rw [if_pos e, if_pos (by omega)]
  · rw [if_neg e]
    by_cases q : p ≤ j ∧ j < p + n
    · rw [if_pos q, if_pos (by omega)]
    · rw [if_neg q, if_neg (by omega)]
theorem clC_0 (cells : Nat → Int32) (p : Nat) : clC cells p 0 = cells := by
  funext j
  unfold clC
  rw [if_neg (by omega)]
def G_shSo (so : Nat → Option Nat) (k sort n : Int32) : Nat → Option Nat := if okSh2 k sort n then va_up so (i2n k) (some (i2n sort)) else so
def G_shL (shL : Nat → Nat) (k sort n : Int32) : Nat → Nat := if okSh2 k sort n then va_up shL (i2n k) (i2n n) else shL
def G_shC (cells : Nat → Int32) (k sort n : Int32) : Nat → Int32 := if okSh2 k sort n then clC cells (60 * i2n k) 60 else cells
def F_lose (so : Nat → Option Nat) (k : Int32) : Int32 := if inN k 0 3 then (if so (i2n k) = none then 0 else 1) else -1
def G_lose (so : Nat → Option Nat) (k : Int32) : Nat → Option Nat := if inN k 0 3 then va_up so (i2n k) none else so
def g_put (so : Nat → Option Nat) (shL : Nat → Nat) (k i : Int32) : Nat := if inN k 0 3 then (if so (i2n k) = none then 1 else if isW (shL (i2n k)) i then 0 else 3) else 0
def F_put (so : Nat → Option Nat) (shL : Nat → Nat) (k i : Int32) : Int32 := if inN k 0 3 then (if g_put so shL k i = 0 then 1 else (-10) - nI (g_put so shL k i)) else -1
def nrV (so : Option Nat) (v : Int32) : Int32 := if so = some 0 then v.toInt8.toInt32 else if so = some 1 then v.toInt16.toInt32 else v
def G_put (so : Nat → Option Nat) (shL : Nat → Nat) (cells : Nat → Int32) (k i v : Int32) : Nat → Int32 := if inN k 0 3 = true ∧ g_put so shL k i = 0 then upd cells (60 * i2n k + i2n i) (nrV (so (i2n k)) v) else cells
def g_cell (so : Nat → Option Nat) (shL : Nat → Nat) (k i sort : Int32) : Nat := if inN k 0 3 = true ∧ inN sort 0 2 = true then (if so (i2n k) ≠ none ∧ oI (so (i2n k)) ≠ sort then 2 else if so (i2n k) = none then 1 else if isW (shL (i2n k)) i then 0 else 3) else 0
def F_cell (so : Nat → Option Nat) (shL : Nat → Nat) (cells : Nat → Int32) (k i sort : Int32) : Int64 := if inN k 0 3 = true ∧ inN sort 0 2 = true ∧ g_cell so shL k i sort = 0 then (cells (60 * i2n k + i2n i)).toInt64 else -9223372036854775808
def okCp (k o : Int32) : Bool := inN k 0 3 && inN o 0 3
def g_copy (so : Nat → Option Nat) (shL : Nat → Nat) (k i o j n : Int32) : Nat :=
  if okCp k o then (if so (i2n k) = none ∨ so (i2n o) = none then 1 else if oI (so (i2n k)) ≠ oI (so (i2n o)) then 2 else if i < 0 ∨ j < 0 ∨ n < 0 ∨ nI (shL (i2n k)) < i ∨ nI (shL (i2n o)) < j ∨ nI (shL (i2n k)) - i < n ∨ nI (shL (i2n o)) - j < n then 3 else 0) else 0
def F_copy (so : Nat → Option Nat) (shL : Nat → Nat) (k i o j n : Int32) : Int32 := if okCp k o then (if g_copy so shL k i o j n = 0 then n else (-10) - nI (g_copy so shL k i o j n)) else -1
def cpC (cells : Nat → Int32) (S T n : Nat) : Nat → Int32 := fun p => if T ≤ p ∧ p < T + n then cells (S + (p - T)) else cells p
def G_copy (so : Nat → Option Nat) (shL : Nat → Nat) (cells : Nat → Int32) (k i o j n : Int32) : Nat → Int32 := if okCp k o = true ∧ g_copy so shL k i o j n = 0 then cpC cells (60 * i2n k + i2n i) (60 * i2n o + i2n j) (i2n n) else cells
/-- copied from behind: the last q of n -/
def cpB (cells : Nat → Int32) (S T n q : Nat) : Nat → Int32 := fun p => if T + (n - q) ≤ p ∧ p < T + n then cells (S + (p - T)) else cells p
theorem cpB_0 (cells : Nat → Int32) (S T n : Nat) : cpB cells S T n 0 = cells := by
  funext p; unfold cpB; rw [if_neg (by omega)]
theorem cpB_n (cells : Nat → Int32) (S T n : Nat) : cpB cells S T n n = cpC cells S T n := by
  funext p; unfold cpB cpC; rw [Nat.sub_self]; rfl
theorem cpB_s {cells : Nat → Int32} {S T n q : Nat} (hq : q < n) (h : S + (n - 1 - q) < T + (n - q) ∨ T + n ≤ S + (n - 1 - q)) : upd (cpB cells S T n q) (T + (n - 1 - q)) (cpB cells S T n q (S + (n - 1 - q))) = cpB cells S T n (q + 1) := by
  have e1 : cpB cells S T n q (S + (n - 1 - q)) = cells (S + (n - 1 - q)) := by unfold cpB; rw [if_neg (by omega)]
  rw [e1]
  funext p
  unfold upd cpB
  by_cases e : p = T + (n - 1 - q)
  · rw [if_pos e, if_pos (by omega), show p - T = n - 1 - q by omega]
  · rw [if_neg e]
    by_cases c : T + (n - q) ≤ p ∧ p < T + n
    · rw [if_pos c, if_pos (by omega)]
    · rw [if_neg c, if_neg (by omega)]
/-- copied from the front: the first q -/
theorem cpC_0 (cells : Nat → Int32) (S T : Nat) : cpC cells S T 0 = cells := by
  funext p; unfold cpC; rw [if_neg (by omega)]
theorem cpC_s {cells : Nat → Int32} {S T q : Nat} (h : S + q < T ∨ T + q ≤ S + q) : upd (cpC cells S T q) (T + q) (cpC cells S T q (S + q)) = cpC cells S T (q + 1) := by
  have e1 : cpC cells S T q (S + q) = cells (S + q) := by unfold cpC; rw [if_neg (by omega)]
  rw [e1]
  funext p
  unfold upd cpC
  by_cases e : p = T + q
  · rw [if_pos e, if_pos (by omega), show p - T = q by omega]
  · rw [if_neg e]
    by_cases c : T ≤ p ∧ p < T + q
    · rw [if_pos c, if_pos (by omega)]
    · rw [if_neg c, if_neg (by omega)]
def F_tell (words : Nat) (kind longOf : Nat → Nat) (x : Int32) : Int32 := if isW words x then (if kind (i2n x) = 0 then nI (longOf (i2n x)) else if kind (i2n x) = 1 then nI (longOf (i2n x) + 100) else nI (2 * longOf (i2n x) + 100)) else -1
def tr1 (t : Int32) (k : Nat) : Int32 := nI 31 * t + nI k
def G_tell (words : Nat) (kind : Nat → Nat) (trace x : Int32) : Int32 := if isW words x then (if kind (i2n x) = 0 then tr1 trace 1 else if kind (i2n x) = 1 then tr1 (tr1 trace 2) 1 else tr1 (tr1 (tr1 (tr1 trace 3) 2) 1) 1) else trace
def F_spelt (words : Nat) (kind letters : Nat → Nat) (x : Int32) : Int32 := if isW words x then (if kind (i2n x) = 2 then nI 30 else nI (letters (4 * i2n x))) else -1
def G_spelt (words : Nat) (kind : Nat → Nat) (trace x : Int32) : Int32 := if isW words x then (if kind (i2n x) = 2 then tr1 trace 5 else tr1 trace 4) else trace
def g_as (words : Nat) (kind : Nat → Nat) (x sort : Int32) : Nat := if isW words x = true ∧ inN sort 0 2 = true ∧ kind (i2n x) < i2n sort then 2 else 0
def F_as (words : Nat) (kind : Nat → Nat) (x sort : Int32) : Int32 := if isW words x then (if inN sort 0 2 then (if kind (i2n x) < i2n sort then (-10) - nI 2 else 1) else -2) else -1
def F_many (words said : Nat) (kind longOf letters saidRow : Nat → Nat) (rdgs : Nat) (what : Int32) : Int32 :=
  if what = nI 0 then nI words else if what = nI 1 then nI said else if what = nI 2 then nI (bitsUp (fun w => decide (0 < tmW kind longOf letters saidRow said w)) words) else if what = nI 3 then nI rdgs else -2
def F_back (rdgs : Nat) (n : Int32) : Int32 := if inN n 0 rdgs then nI (rdgs - i2n n) else -2
def G_back (rdgs : Nat) (n : Int32) : Nat := if inN n 0 rdgs then rdgs - i2n n else rdgs

theorem F_look_s {words : Nat} {kind longOf letters row : Nat → Nat} {n q : Nat} (h : q ≤ 3) : F_look words kind longOf letters row n (nI q) = if q = 0 then nI (bitsUp (fun w => decide (0 < tmW kind longOf letters row n w)) words) else if q = 3 then nI (sumUp (fun w => tmW kind longOf letters row n w) words) else oI (fstUp (fbP kind longOf letters row words (decide (q = 1))) n) := by
  unfold F_look
  rcases (by omega : q = 0 ∨ q = 1 ∨ q = 2 ∨ q = 3) with rfl | rfl | rfl | rfl
  · rw [if_neg (by decide), if_pos rfl, if_pos rfl]
  · rw [if_neg (by decide), if_neg (by decide), if_neg (by decide), if_neg (by decide), if_neg (by decide)]; rfl
  · rw [if_neg (by decide), if_neg (by decide), if_neg (by decide), if_neg (by decide), if_neg (by decide)]; rfl
  · rw [if_neg (by decide), if_neg (by decide), if_pos rfl, if_neg (by decide), if_pos rfl]
theorem F_look_w {words : Nat} {kind longOf letters row : Nat → Nat} {n q : Nat} (h : 10 ≤ q) (h2 : q ≤ 13) : F_look words kind longOf letters row n (nI q) = if q - 10 < words then nI (tmW kind longOf letters row n (q - 10)) else -9 := by
  unfold F_look
  rw [if_pos (by rw [inN_n (by decide) (by decide) (by omega)]; simp [h, h2]), i2n, nI_clamp (show q < 2 ^ 31 by omega)]

theorem mOK_k {words : Nat} {kind longOf letters : Nat → Nat} {w v : Nat} (h : mOK words kind longOf letters) (hv : v < 3) : mOK words (va_up kind w v) longOf letters := ⟨h.1, up_lt h.2.1 hv, h.2.2⟩
theorem mOK_l {words : Nat} {kind longOf letters : Nat → Nat} {p v : Nat} (h : mOK words kind longOf letters) (hv : v < 3) : mOK words kind longOf (va_up letters p v) := ⟨h.1, h.2.1, h.2.2.1, up_lt h.2.2.2 hv⟩
theorem soB_t {kind longOf letters : Nat → Nat} {rdgs : Nat} {rWord rMany rStands rRow : Nat → Nat} (h : ∀ q, q < rdgs → decide (0 < tmW kind longOf letters (fun k => rRow (8 * q + k)) (rMany q) (rWord q)) = decide (rStands q = 1)) : soB kind longOf letters rdgs rWord rMany rStands rRow = true := decide_eq_true h
theorem soB_f {kind longOf letters : Nat → Nat} {rdgs : Nat} {rWord rMany rStands rRow : Nat → Nat} {q : Nat} (hq : q < rdgs) (h : decide (0 < tmW kind longOf letters (fun k => rRow (8 * q + k)) (rMany q) (rWord q)) ≠ decide (rStands q = 1)) : soB kind longOf letters rdgs rWord rMany rStands rRow = false := decide_eq_false (fun z => h (z q hq))
theorem nB_inj {a b : Bool} : nB a = nB b ↔ a = b := by cases a <;> cases b <;> decide
theorem gcd_s {x y u d : Nat} (h : Nat.gcd x y = Nat.gcd u d) : Nat.gcd y (x % y) = Nat.gcd u d := by rw [← h, Nat.gcd_comm x y, Nat.gcd_rec y x]; exact Nat.gcd_comm _ _
theorem bits3 (P : Nat → Bool) (k : Nat) : bitsUp P (k + 1) = bitsUp P k ||| (if P k then 2 ^ k else 0) := rfl

abbrev hvN (kind longOf letters : Nat → Nat) (words n : Nat) : Nat := sumUp (fun e => wyN (stC kind longOf letters words) 0 640 n (16 * e + (2 ^ words - 1))) 40
theorem F_odds_v {kind longOf letters : Nat → Nat} {words jj uu : Nat} (h1 : inN (nI jj) 0 30 = true) (h2 : inN (nI uu) 0 1 = true) (hw : 0 < words) (hj : jj ≤ 30) (hu : uu ≤ 1) : F_odds kind longOf letters words (nI jj) (nI uu) = lN (if uu = 0 then hvN kind longOf letters words jj / Nat.gcd (hvN kind longOf letters words jj) (3 ^ jj) else 3 ^ jj / Nat.gcd (hvN kind longOf letters words jj) (3 ^ jj)) := by
  have ej : i2n (nI jj) = jj := nI_clamp (by omega)
  unfold F_odds
  rw [if_pos ⟨h1, h2, hw⟩, ej]
  by_cases hz : uu = 0
  · rw [if_pos hz, if_pos (by rw [hz])]
  · rw [if_neg hz, if_neg (fun q => hz ((nI_eq (by omega) (by decide)).mp q))]

/-- a reading kept: its letters in eight places -/
def rwP (rRow : Nat → Nat) (b n : Nat) (row : Nat → Nat) : Nat → Nat := fun p => if b ≤ p ∧ p < b + n then row (p - b) else rRow p
theorem rwP_0 (rRow : Nat → Nat) (b : Nat) (row : Nat → Nat) : rwP rRow b 0 row = rRow := by
  funext p; unfold rwP; rw [if_neg (by omega)]
theorem rwP_s (rRow : Nat → Nat) (b n : Nat) (row : Nat → Nat) : va_up (rwP rRow b n row) (b + n) (row n) = rwP rRow b (n + 1) row := by
  funext p
  by_cases e : p = b + n
  · rw [e, va_up_self]; unfold rwP; rw [if_pos (by omega), show b + n - b = n by omega]
  · rw [va_up_ne _ _ e]
    unfold rwP
    by_cases q : b ≤ p ∧ p < b + n
    · rw [if_pos q, if_pos (by omega)]
    · rw [if_neg q, if_neg (by omega)]
def okRd (words : Nat) (w sheet sort n stands : Int32) : Bool := isW words w && (inN sheet 0 3 && (inN sort 0 2 && (inN n 0 8 && inN stands 0 1)))
def g_read (words : Nat) (so : Nat → Option Nat) (shL : Nat → Nat) (w sheet sort i n stands : Int32) : Nat := if okRd words w sheet sort n stands then agN so shL (i2n sheet) sort i n else 0
/-- the reading is kept -/
def okRd2 (words : Nat) (so : Nat → Option Nat) (shL : Nat → Nat) (cells : Nat → Int32) (rdgs : Nat) (w sheet sort i n stands : Int32) : Bool := okRd words w sheet sort n stands && (decide (g_read words so shL w sheet sort i n stands = 0) && (alB cells (60 * i2n sheet + i2n i) (i2n n) && decide (rdgs ≠ 8)))
def F_read (words : Nat) (so : Nat → Option Nat) (shL : Nat → Nat) (cells : Nat → Int32) (rdgs : Nat) (w sheet sort i n stands : Int32) : Int32 :=
  if okRd words w sheet sort n stands then
    (if g_read words so shL w sheet sort i n stands ≠ 0 then (-10) - nI (g_read words so shL w sheet sort i n stands)
     else if alB cells (60 * i2n sheet + i2n i) (i2n n) then (if rdgs = 8 then -4 else nI rdgs) else -2)
  else if isW words w = true ∧ inN sheet 0 3 = true then -2 else -1
/-- the distances, all found -/
abbrev dsD (kind longOf letters : Nat → Nat) (words : Nat) : Nat → Option Nat := dsU (stC kind longOf letters words) (ffG words) 641
theorem ffOK_D {kind longOf letters : Nat → Nat} {words : Nat} {far : Nat → Option Nat} (h : ffOK kind longOf letters words far) : ∀ k, k < 640 → far k = dsD kind longOf letters words k := by
  obtain ⟨n0, h1, h2, h3⟩ := h
  intro k hk
  rw [h1 k hk, ← h2 641 k h3 hk]
theorem dsL_some {f : Nat → Option Nat} {st : Nat → Nat → Nat} {d k : Nat} : ∀ {c x : Nat}, dsL f st d k c = some x → f k = some x ∨ (x = d + 1 ∧ ∃ c', c' < c ∧ f (st k c') = some d) := by
  intro c
  induction c with
  | zero => intro x h; exact Or.inl h
  | succ c ih =>
    intro x h
    simp only [dsL] at h
    split at h
    · rename_i y hy
      cases h
      rcases ih hy with h1 | ⟨h1, c', h2, h3⟩
      · exact Or.inl h1
      · exact Or.inr ⟨h1, c', by omega, h3⟩
    · split at h
      · rename_i hc
        cases h
        exact Or.inr ⟨rfl, c, by omega, hc⟩
      · cases h
theorem dsU_pred {st : Nat → Nat → Nat} {g : Nat → Bool} : ∀ {n k v : Nat}, dsU st g n k = some (v + 1) → ∃ c, c < 3 ∧ dsU st g n (st k c) = some v := by
  intro n
  induction n with
  | zero =>
    intro k v h
    simp only [dsU] at h
    split at h <;> cases h
  | succ n ih =>
    intro k v h
    rcases dsL_some (show dsL (dsU st g n) st n k 3 = some (v + 1) from h) with h1 | ⟨h1, c, h2, h3⟩
    · obtain ⟨c, h2, h3⟩ := ih h1
      exact ⟨c, h2, dsU_up h3⟩
    · have e : v = n := by omega
      exact ⟨c, h2, by rw [e]; exact dsU_up h3⟩
theorem dsU_lt {st : Nat → Nat → Nat} {g : Nat → Bool} {k v : Nat} (h : dsU st g 641 k = some v) : v < 2 ^ 31 := Nat.lt_of_le_of_lt (dsU_le h) (by decide)
def lstC (P : Nat → Bool) : Nat := if P 0 then 0 else if P 1 then 1 else 2
theorem lstC_of {P : Nat → Bool} {c : Nat} (hc : c < 3) (h : P c = true) (hn : ∀ i, i < c → P i = false) : lstC P = c := by
  unfold lstC
  rcases (by omega : c = 0 ∨ c = 1 ∨ c = 2) with rfl | rfl | rfl
  · rw [if_pos h]
  · rw [if_neg (by rw [hn 0 (by decide)]; decide), if_pos h]
  · rw [if_neg (by rw [hn 0 (by decide)]; decide), if_neg (by rw [hn 1 (by decide)]; decide)]
/-- the way by the least letters that come nearer -/
def grA (st : Nat → Nat → Nat) (D : Nat → Option Nat) (i0 : Nat) : Nat → Nat × Nat
  | 0 => (i0, 0)
  | q + 1 => (st (grA st D i0 q).1 (lstC (fun c => decide (D (st (grA st D i0 q).1 c) = (D (grA st D i0 q).1).map (· - 1)))), lstC (fun c => decide (D (st (grA st D i0 q).1 c) = (D (grA st D i0 q).1).map (· - 1))))
def F_all (kind longOf letters : Nat → Nat) (words : Nat) (k : Int32) : Int32 :=
  if (decide ((-1) ≤ k) && decide (k ≤ nI 15)) = true then
    if words = 0 then -3 else if k = -1 then oI (dsD kind longOf letters words 0) else if k < oI (dsD kind longOf letters words 0) then nI (grA (stC kind longOf letters words) (dsD kind longOf letters words) 0 (i2n k + 1)).2 else -9
  else -2
theorem all_k {k : Int32} {o : Option Nat} (h1 : (decide ((-1) ≤ k) && decide (k ≤ nI 15)) = true) (h2 : k ≠ -1) (h3 : k < oI o) (hb : ∀ v, o = some v → v < 2 ^ 31) : ∃ k' v : Nat, k = nI k' ∧ o = some v ∧ k' < v ∧ k' ≤ 15 := by
  simp only [Bool.and_eq_true, decide_eq_true_eq] at h1
  have h0 : ¬ k < 0 := fun z => by
    have a1 := Int32.le_iff_toInt_le.mp h1.1
    have a2 := Int32.lt_iff_toInt_lt.mp z
    have a3 : ((-1 : Int32)).toInt = -1 := by decide
    have a4 : ((0 : Int32)).toInt = 0 := by decide
    exact h2 (Int32.toInt_inj.mp (by omega))
  obtain ⟨k', hk, rfl⟩ := nI_of h0
  cases o with
  | none =>
    have a1 := Int32.lt_iff_toInt_lt.mp h3
    rw [nI_toInt hk] at a1
    have a2 : (oI none).toInt = -9 := by decide
    omega
  | some v => exact ⟨k', v, rfl, rfl, (nI_ltI hk (hb v rfl)).mp h3, (nI_leI hk (by decide)).mp h1.2⟩
/-- ===== what is read of a text ===== -/
def pkd (c : Int32) : Option Nat := if c = nI 112 then some 0 else if c = nI 98 then some 1 else if c = nI 116 then some 2 else none
def isg (cells : Nat → Int32) (p en code : Nat) : Bool := decide (p < en) && decide (cells p = nI code)
/-- how many letters from p on, m at the most -/
def pLen (cells : Nat → Int32) (en p : Nat) : Nat → Nat
  | 0 => 0
  | m + 1 => if pLen cells en p m = m ∧ p + m < en ∧ inN (cells (p + m)) 97 99 = true then m + 1 else pLen cells en p m
theorem pLen_le (cells : Nat → Int32) (en p m : Nat) : pLen cells en p m ≤ m := by
  induction m with
  | zero => exact Nat.le_refl _
  | succ m ih => simp only [pLen]; split <;> omega
theorem pLen_s {cells : Nat → Int32} {en p k : Nat} (h : pLen cells en p k = k) (h1 : p + k < en) (h2 : inN (cells (p + k)) 97 99 = true) : pLen cells en p (k + 1) = k + 1 := by
  simp only [pLen]; rw [if_pos ⟨h, h1, h2⟩]
theorem pLen_stop {cells : Nat → Int32} {en p k : Nat} (h : pLen cells en p k = k) (hn : ¬ (p + k < en ∧ inN (cells (p + k)) 97 99 = true)) : ∀ m, k ≤ m → pLen cells en p m = k := by
  intro m
  induction m with
  | zero => intro hk; rw [show k = 0 by omega] at h ⊢; exact h
  | succ m ih =>
    intro hk
    by_cases e : k = m + 1
    · rw [← e]; exact h
    · have hm := ih (by omega)
      simp only [pLen]
      rw [if_neg, hm]
      rintro ⟨a1, a2⟩
      rw [hm] at a1
      rw [← a1] at a2
      exact hn a2
theorem pLen_en {cells : Nat → Int32} {en p m : Nat} (h : p ≤ en) : p + pLen cells en p m ≤ en := by
  induction m with
  | zero => exact h
  | succ m ih => simp only [pLen]; split <;> omega
theorem pLen_lt {cells : Nat → Int32} {en p m z : Nat} (h : z < pLen cells en p m) : p + z < en ∧ inN (cells (p + z)) 97 99 = true := by
  induction m with
  | zero => exact absurd h (Nat.not_lt_zero _)
  | succ m ih =>
    simp only [pLen] at h
    split at h
    · rename_i hh
      by_cases e : z = m
      · rw [e]; exact hh.2
      · exact ih (by omega)
    · exact ih h
/-- a word's kind, if there is one -/
def pK (cells : Nat → Int32) (en p : Nat) : Option Nat := if p < en then pkd (cells p) else none
/-- a word, from its kind on: whether it is one; where it was left -/
def rdW_ (cells : Nat → Int32) (en p : Nat) : Bool × Nat := if pK cells en p = none then (false, p) else if isg cells (p + 1) en 47 then (decide (0 < pLen cells en (p + 2) 4), p + 2 + pLen cells en (p + 2) 4) else (false, p + 1)
def pW (cells : Nat → Int32) (en p : Nat) : Bool × Nat := if isg cells p en 59 then rdW_ cells en (p + 1) else (false, p)
def pRun (cells : Nat → Int32) (en : Nat) : Nat → Nat → Nat → Bool × (Nat × Nat)
  | 0, r, p => (decide (p = en), (p, r))
  | f + 1, r, p => if r = 0 ∨ p < en then (if (pW cells en p).1 then pRun cells en f (r + 1) (pW cells en p).2 else (false, ((pW cells en p).2, r))) else (decide (p = en), (p, r))
def pAll (cells : Nat → Int32) (en first : Nat) : Bool × (Nat × Nat) := if isg cells first en 119 then pRun cells en 4 0 (first + 1) else (false, (first, 0))
/-- where the word r's own sign stands -/
def pPos (cells : Nat → Int32) (en first : Nat) : Nat → Nat
  | 0 => first + 1
  | r + 1 => (pW cells en (pPos cells en first r)).2
/-- the word at p (its sign) is kind kd, ln letters lt -/
def isWd (cells : Nat → Int32) (en p : Nat) (kd : Option Nat) (ln : Nat) (lt : Nat → Nat) : Prop := kd = pkd (cells (p + 1)) ∧ kd ≠ none ∧ ln = pLen cells en (p + 3) 4 ∧ 0 < ln ∧ ∀ z, z < ln → lt z = i2n (cells (p + 3 + z)) - 97
theorem pkd_lt {c : Int32} {v : Nat} (h : pkd c = some v) : v < 3 := by
  unfold pkd at h
  (repeat' split at h) <;> cases h <;> decide
theorem let_v {x : Int32} (h : inN x 97 99 = true) : i2n x - 97 < 3 ∧ x - nI 97 = nI (i2n x - 97) ∧ x = nI (i2n x) := by
  obtain ⟨j, h1, h2, rfl⟩ := inN_t (by decide) (by decide) h
  have e : i2n (nI j) = j := nI_clamp (by omega)
  rw [e]
  exact ⟨by omega, pk_sub h1, rfl⟩

theorem grA_s {st : Nat → Nat → Nat} {D : Nat → Option Nat} {i0 q c v w : Nat} (hd : D (grA st D i0 q).1 = some w) (hw : w = v + 1) (hc : c < 3) (h : D (st (grA st D i0 q).1 c) = some v) (hno : ∀ i, i < c → decide (D (st (grA st D i0 q).1 i) = some v) = false) : (grA st D i0 (q + 1)).2 = c ∧ (grA st D i0 (q + 1)).1 = st (grA st D i0 q).1 c := by
  subst hw
  have e : lstC (fun c => decide (D (st (grA st D i0 q).1 c) = (D (grA st D i0 q).1).map (· - 1))) = c := by
    refine lstC_of hc ?_ ?_
    · rw [hd, h]; exact decide_eq_true rfl
    · intro i hi
      rw [hd]
      exact hno i hi
  exact ⟨e, by show st _ (lstC _) = _; rw [e]⟩

theorem pK_lt {cells : Nat → Int32} {en p v : Nat} (h : pK cells en p = some v) : v < 2 ^ 31 := by
  unfold pK at h
  split at h
  · exact Nat.lt_trans (pkd_lt h) (by decide)
  · cases h
theorem pK_in {cells : Nat → Int32} {en p : Nat} (h : pK cells en p ≠ none) : p < en ∧ pK cells en p = pkd (cells p) := by
  unfold pK at h ⊢
  split at h
  · rename_i q; exact ⟨q, by rw [if_pos q]⟩
  · exact absurd rfl h
theorem isg_in {cells : Nat → Int32} {p en code : Nat} (h : isg cells p en code = true) : p < en := by
  simp only [isg, Bool.and_eq_true, decide_eq_true_eq] at h
  exact h.1
theorem rdW_n {cells : Nat → Int32} {en p : Nat} (h : pK cells en p = none) : rdW_ cells en p = (false, p) := by unfold rdW_; rw [if_pos h]
theorem rdW_s {cells : Nat → Int32} {en p : Nat} (h : pK cells en p ≠ none) (h2 : isg cells (p + 1) en 47 = false) : rdW_ cells en p = (false, p + 1) := by unfold rdW_; rw [if_neg h, h2]; rfl
theorem rdW_k {cells : Nat → Int32} {en p k : Nat} (h : pK cells en p ≠ none) (h2 : isg cells (p + 1) en 47 = true) (h3 : pLen cells en (p + 2) 4 = k) : rdW_ cells en p = (decide (0 < k), p + 2 + k) := by unfold rdW_; rw [if_neg h, h2, if_pos rfl, h3]
theorem rdW_le {cells : Nat → Int32} {en p : Nat} (hp : p ≤ en) : (rdW_ cells en p).2 ≤ en := by
  by_cases h : pK cells en p = none
  · rw [rdW_n h]; exact hp
  · have h1 := (pK_in h).1
    cases h2 : isg cells (p + 1) en 47 with
    | false => rw [rdW_s h h2]; exact h1
    | true =>
      rw [rdW_k h h2 rfl]
      exact pLen_en (isg_in h2)
theorem pW_le {cells : Nat → Int32} {en p : Nat} (hp : p ≤ en) : (pW cells en p).2 ≤ en := by
  unfold pW
  cases h : isg cells p en 59 with
  | false => exact hp
  | true => exact rdW_le (isg_in h)
theorem pRun_s {cells : Nat → Int32} {en r p : Nat} (hr : r < 4) (h : r = 0 ∨ p < en) (hw : (pW cells en p).1 = true) : pRun cells en (4 - r) r p = pRun cells en (4 - (r + 1)) (r + 1) (pW cells en p).2 := by
  rw [show 4 - r = (4 - (r + 1)) + 1 by omega]
  show (if r = 0 ∨ p < en then _ else _) = _
  rw [if_pos h, if_pos hw]
theorem pRun_f {cells : Nat → Int32} {en r p : Nat} (hr : r < 4) (h : r = 0 ∨ p < en) (hw : (pW cells en p).1 = false) : pRun cells en (4 - r) r p = (false, ((pW cells en p).2, r)) := by
  rw [show 4 - r = (4 - (r + 1)) + 1 by omega]
  show (if r = 0 ∨ p < en then _ else _) = _
  rw [if_pos h, hw]
  rfl
theorem pRun_x {cells : Nat → Int32} {en r p : Nat} (h : r = 4 ∨ (0 < r ∧ en ≤ p)) : pRun cells en (4 - r) r p = (decide (p = en), (p, r)) := by
  by_cases e : 4 - r = 0
  · rw [e]; rfl
  · rw [show 4 - r = (4 - (r + 1)) + 1 by omega]
    show (if r = 0 ∨ p < en then _ else _) = _
    rw [if_neg (by omega)]
theorem isWd_of {cells : Nat → Int32} {en p : Nat} {kd : Option Nat} {ln : Nat} {lt : Nat → Nat} (h1 : kd = pkd (cells (p + 1))) (h2 : kd ≠ none) (h3 : ln = pLen cells en (p + 1 + 2) 4) (h4 : 0 < ln) (h5 : ∀ z, z < ln → lt z = i2n (cells (p + 1 + 2 + z)) - 97) : isWd cells en p kd ln lt := ⟨h1, h2, h3, h4, h5⟩
/-- the words read: n of them, as said in three arrays -/
def wdsOK (cells : Nat → Int32) (en first n : Nat) (kd : Nat → Option Nat) (ln lt : Nat → Nat) : Prop := ∀ w, w < n → isWd cells en (pPos cells en first w) (kd w) (ln w) (fun z => lt (4 * w + z))
theorem wds_s {cells : Nat → Int32} {en first n : Nat} {kd kd' : Nat → Option Nat} {ln ln' lt lt' : Nat → Nat} (h : wdsOK cells en first n kd ln lt) (hk : ∀ z, z ≠ n → kd' z = kd z ∧ ln' z = ln z) (hl : ∀ z, z < 4 * n ∨ 4 * n + 4 ≤ z → lt' z = lt z) (hb : ∀ z, ln z ≤ 4) (hn : isWd cells en (pPos cells en first n) (kd' n) (ln' n) (fun z => lt' (4 * n + z))) : wdsOK cells en first (n + 1) kd' ln' lt' := by
  intro w hw
  by_cases e : w = n
  · rw [e]; exact hn
  · obtain ⟨a1, a2, a3, a4, a5⟩ := h w (by omega)
    have hbw := hb w
    have e1 := (hk w e).1
    have e2 := (hk w e).2
    refine ⟨e1.trans a1, by rw [e1]; exact a2, e2.trans a3, by rw [e2]; exact a4, fun z hz => ?_⟩
    rw [e2] at hz
    show lt' (4 * w + z) = _
    rw [hl _ (by omega)]
    exact a5 z hz

theorem rdW_ge {cells : Nat → Int32} {en p : Nat} : p ≤ (rdW_ cells en p).2 := by
  by_cases h : pK cells en p = none
  · rw [rdW_n h]; exact Nat.le_refl _
  · cases h2 : isg cells (p + 1) en 47 with
    | false => rw [rdW_s h h2]; exact Nat.le_succ _
    | true => rw [rdW_k h h2 rfl]; show p ≤ p + 2 + _; omega
theorem pW_ge {cells : Nat → Int32} {en p : Nat} : p ≤ (pW cells en p).2 := by
  unfold pW
  cases isg cells p en 59 with
  | false => exact Nat.le_refl _
  | true => exact Nat.le_trans (Nat.le_succ p) rdW_ge
theorem pRun_ge {cells : Nat → Int32} {en : Nat} : ∀ (f rr p : Nat), p ≤ (pRun cells en f rr p).2.1 := by
  intro f
  induction f with
  | zero => intro rr p; exact Nat.le_refl _
  | succ f ih =>
    intro rr p
    show p ≤ (if rr = 0 ∨ p < en then _ else _ : Bool × (Nat × Nat)).2.1
    split
    · split
      · exact Nat.le_trans pW_ge (ih _ _)
      · exact pW_ge
    · exact Nat.le_refl _
theorem pAll_ge {cells : Nat → Int32} {en first : Nat} : first ≤ (pAll cells en first).2.1 := by
  unfold pAll
  split
  · exact Nat.le_trans (Nat.le_succ _) (pRun_ge _ _ _)
  · exact Nat.le_refl _
def okWs (sheet sort : Int32) : Bool := inN sheet 0 3 && inN sort 0 2
def g_words (so : Nat → Option Nat) (shL : Nat → Nat) (sheet sort i n : Int32) : Nat := if okWs sheet sort then agN so shL (i2n sheet) sort i n else 0
/-- what is read: from the first cell, up to the end -/
abbrev pRes (cells : Nat → Int32) (sheet i n : Int32) : Bool × (Nat × Nat) := pAll cells (60 * i2n sheet + i2n i + i2n n) (60 * i2n sheet + i2n i)
def okW2 (so : Nat → Option Nat) (shL : Nat → Nat) (cells : Nat → Int32) (sheet sort i n : Int32) : Bool := okWs sheet sort && (decide (g_words so shL sheet sort i n = 0) && (pRes cells sheet i n).1)
def F_words (so : Nat → Option Nat) (shL : Nat → Nat) (cells : Nat → Int32) (sheet sort i n : Int32) : Int32 :=
  if okWs sheet sort then
    (if g_words so shL sheet sort i n ≠ 0 then (-10) - nI (g_words so shL sheet sort i n)
     else if (pRes cells sheet i n).1 then nI (pRes cells sheet i n).2.2 else (-100) - nI ((pRes cells sheet i n).2.1 - (60 * i2n sheet + i2n i)))
  else if inN sheet 0 3 then -2 else -1
/-- what the words are then -/
def wordsOK (so : Nat → Option Nat) (shL : Nat → Nat) (cells : Nat → Int32) (sheet sort i n : Int32) (words said rdgs : Nat) (kind longOf letters : Nat → Nat) (words' said' rdgs' : Nat) (kind' longOf' letters' : Nat → Nat) : Prop :=
  (okW2 so shL cells sheet sort i n = false → words' = words ∧ said' = said ∧ rdgs' = rdgs ∧ kind' = kind ∧ longOf' = longOf ∧ letters' = letters) ∧
  (okW2 so shL cells sheet sort i n = true → words' = (pRes cells sheet i n).2.2 ∧ said' = 0 ∧ rdgs' = 0 ∧ 0 < words' ∧ wdsOK cells (60 * i2n sheet + i2n i + i2n n) (60 * i2n sheet + i2n i) words' (fun w => some (kind' w)) longOf' letters')
theorem wds_c {cells : Nat → Int32} {en first n : Nat} {kd kd' : Nat → Option Nat} {ln ln' lt lt' : Nat → Nat} (h : wdsOK cells en first n kd ln lt) (h1 : ∀ w, w < n → kd' w = kd w) (h2 : ∀ w, w < n → ln' w = ln w) (h3 : ∀ z, z < 4 * n → lt' z = lt z) : wdsOK cells en first n kd' ln' lt' := by
  intro w hw
  obtain ⟨a1, a2, a3, a4, a5⟩ := h w hw
  have e1 := h1 w hw
  have e2 := h2 w hw
  have e4 : ln w ≤ 4 := by rw [a3]; exact pLen_le _ _ _ _
  refine ⟨e1.trans a1, by rw [e1]; exact a2, e2.trans a3, by rw [e2]; exact a4, fun z hz => ?_⟩
  rw [e2] at hz
  show lt' (4 * w + z) = _
  rw [h3 _ (by omega)]
  exact a5 z hz
