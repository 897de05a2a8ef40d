/-! words that stand in words; forms; overlaps: plain -/
set_option maxRecDepth 100000
def siR (g : Nat → Nat) (m fr : Nat) (bk : Bool) : Nat → Nat := fun k => if bk then g (m - 1 - k) else g ((fr + k) % m)
theorem siR_lt {g : Nat → Nat} {m fr : Nat} {bk : Bool} (h : ∀ j, g j < 3) : ∀ j, siR g m fr bk j < 3 := fun j => by unfold siR; split <;> exact h _
theorem cnt_or {P : Nat → Bool} {n : Nat} : (decide (0 < cntUp P n) || P n) = decide (0 < cntUp P (n + 1)) := by
  rw [cntUp_b]
  cases P n with
  | true => rw [Bool.or_true]; exact (decide_eq_true (by show 0 < _ + 1; omega)).symm
  | false => rw [Bool.or_false]; rfl
theorem siR_0 {g : Nat → Nat} {m k : Nat} (h : k < m) : siR g m 0 false k = g k := by
  show g ((0 + k) % m) = g k
  rw [Nat.zero_add, Nat.mod_eq_of_lt h]
/-- a word stands in a form of another -/
theorem si_f0 {kind longOf letters : Nat → Nat} {w o : Nat} : decide (0 < tmW kind longOf letters (siR (fun k => letters (4 * o + k)) (longOf o) 0 false) (longOf o) w) = isInB kind longOf letters w o 0 := by
  unfold isInB
  exact congrArg (fun z => decide (0 < z)) (tmW_cg (fun j hj => siR_0 hj))
theorem si_f1 {kind longOf letters : Nat → Nat} {w o : Nat} (h : kind o = 1) : decide (0 < tmW kind longOf letters (siR (fun k => letters (4 * o + k)) (longOf o) 0 true) (longOf o) w) = isInB kind longOf letters w o 1 := by
  unfold isInB
  rw [tmW_cg (row' := fun k => hdF (kind o) (longOf o) (fun k => letters (4 * o + k)) 1 k) (fun j hj => by rw [h]; rfl)]
theorem si_f2 {kind longOf letters : Nat → Nat} {w o : Nat} (h : kind o = 2) : decide (0 < tmW kind longOf letters (siR (fun k => letters (4 * o + k)) (longOf o) 1 false) (longOf o) w) = isInB kind longOf letters w o 1 := by
  unfold isInB
  rw [tmW_cg (row' := fun k => hdF (kind o) (longOf o) (fun k => letters (4 * o + k)) 1 k) (fun j hj => by rw [h]; show letters (4 * o + (1 + j) % longOf o) = letters (4 * o + (j + 1) % longOf o); rw [Nat.add_comm 1 j])]
theorem si_k0 {kind longOf letters : Nat → Nat} {w o : Nat} (h : kind o = 0) : isInB kind longOf letters w o 1 = isInB kind longOf letters w o 0 := by
  unfold isInB
  rw [h]
  rfl
theorem fm_frm {kind longOf letters : Nat → Nat} {w : Nat} (hk : kind w < 3) (hl : 1 ≤ longOf w) : fmN (kind w) (longOf w) (fun k => letters (4 * w + k)) = if frmB kind longOf letters w then 2 else 1 := by
  unfold frmB fmN
  rcases (by omega : kind w = 0 ∨ kind w = 1 ∨ kind w = 2) with e | e | e <;> rw [e]
  · rw [if_pos rfl, decide_eq_true (show ∀ k, k < longOf w → hdF 0 (longOf w) (fun k => letters (4 * w + k)) 0 k = hdF 0 (longOf w) (fun k => letters (4 * w + k)) 1 k from fun k _ => rfl)]
    rfl
  · rw [if_neg (by decide), if_pos rfl]
    unfold f1U
    by_cases q : ∀ j, j < longOf w → letters (4 * w + j) = letters (4 * w + (longOf w - 1 - j))
    · rw [decide_eq_true (show ∀ k, k < longOf w → hdF 1 (longOf w) (fun k => letters (4 * w + k)) 0 k = hdF 1 (longOf w) (fun k => letters (4 * w + k)) 1 k from q), decide_eq_true q]
      rfl
    · rw [decide_eq_false (show ¬ ∀ k, k < longOf w → hdF 1 (longOf w) (fun k => letters (4 * w + k)) 0 k = hdF 1 (longOf w) (fun k => letters (4 * w + k)) 1 k from q), decide_eq_false q]
      rfl
  · rw [if_neg (by decide), if_neg (by decide)]
    unfold f2U
    by_cases q : ∀ j, j < longOf w - 1 → letters (4 * w + (j + 1)) = letters (4 * w + 0)
    · have q2 : ∀ k, k < longOf w → letters (4 * w + k) = letters (4 * w + 0) := fun k hk => by
        rcases k with _ | k
        · rfl
        · exact q k (by omega)
      rw [decide_eq_true (show ∀ k, k < longOf w → hdF 2 (longOf w) (fun k => letters (4 * w + k)) 0 k = hdF 2 (longOf w) (fun k => letters (4 * w + k)) 1 k from fun k hk => by
        show letters (4 * w + k) = letters (4 * w + (k + 1) % longOf w)
        rw [q2 k hk, q2 _ (Nat.mod_lt _ hl)]), decide_eq_true q]
      rfl
    · rw [decide_eq_false (show ¬ ∀ k, k < longOf w → hdF 2 (longOf w) (fun k => letters (4 * w + k)) 0 k = hdF 2 (longOf w) (fun k => letters (4 * w + k)) 1 k from fun z => q fun j hj => by
        have all : ∀ n, n < longOf w → letters (4 * w + n) = letters (4 * w + 0) := fun n => by
          induction n with
          | zero => intro _; rfl
          | succ n ih =>
            intro hn
            have h1 : letters (4 * w + n) = letters (4 * w + (n + 1) % longOf w) := z n (by omega)
            rw [Nat.mod_eq_of_lt hn] at h1
            rw [← h1]
            exact ih (by omega)
        exact all (j + 1) (by omega)), decide_eq_false q]
      rfl
theorem ovD_s {P : Nat → Bool} {n : Nat} : ovD P (n + 1) = if P (n + 1) then n + 1 else ovD P n := rfl
theorem ovD_le (P : Nat → Bool) (n : Nat) : ovD P n ≤ n := by
  induction n with
  | zero => exact Nat.le_refl _
  | succ n ih => rw [ovD_s]; split <;> omega
theorem ovP_b {longOf letters : Nat → Nat} {x y n k : Nat} : (ovP longOf letters x y n k && decide (letters (4 * x + longOf x - n + k) = letters (4 * y + k))) = ovP longOf letters x y n (k + 1) := lt_dec (P := fun j => letters (4 * x + longOf x - n + j) = letters (4 * y + j))
