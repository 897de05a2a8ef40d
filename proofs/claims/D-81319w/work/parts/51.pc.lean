/-! the longest row in which no word stands: plain -/
set_option maxRecDepth 100000
section
variable (kind longOf letters : Nat → Nat) (words : Nat)
/-- some end is left -/
def anN (n : Nat) : Bool := anyUp (frN kind longOf letters words n) 40
/-- from an end one may go on so far -/
def bkN : Nat → Nat → Bool
  | 0, _ => true
  | j + 1, m => anyUp (fun c => decide (hbM kind longOf letters words m c = 0) && bkN j (nxM m c)) 3
end
section
variable {kind longOf letters : Nat → Nat} {words : Nat}
theorem frN_s {n m : Nat} : frN kind longOf letters words (n + 1) m = true ↔ ∃ m0 c, m0 < 40 ∧ c < 3 ∧ frN kind longOf letters words n m0 = true ∧ hbM kind longOf letters words m0 c = 0 ∧ nxM m0 c = m := by
  show gfS kind longOf letters words (frN kind longOf letters words n) m = true ↔ _
  unfold gfS
  rw [anyUp_iff]
  simp only [gfP, Bool.and_eq_true, decide_eq_true_eq]
  constructor
  · rintro ⟨b, hb, ⟨h1, h2⟩, h3⟩
    exact ⟨b / 3, b % 3, by omega, Nat.mod_lt _ (by decide), h1, h2, h3⟩
  · rintro ⟨m0, c, h0, hc, h1, h2, h3⟩
    have e1 : (3 * m0 + c) / 3 = m0 := by omega
    have e2 : (3 * m0 + c) % 3 = c := by omega
    exact ⟨3 * m0 + c, by omega, by rw [e1, e2]; exact ⟨⟨h1, h2⟩, h3⟩⟩
theorem bkN_s {j m : Nat} : bkN kind longOf letters words (j + 1) m = true ↔ ∃ c, c < 3 ∧ hbM kind longOf letters words m c = 0 ∧ bkN kind longOf letters words j (nxM m c) = true := by
  show anyUp _ 3 = true ↔ _
  rw [anyUp_iff]
  simp only [Bool.and_eq_true, decide_eq_true_eq]
theorem fb_eq : ∀ (j i : Nat), (∃ m, m < 40 ∧ frN kind longOf letters words (i + j) m = true) ↔ ∃ m, m < 40 ∧ frN kind longOf letters words i m = true ∧ bkN kind longOf letters words j m = true := by
  intro j
  induction j with
  | zero => intro i; exact ⟨fun ⟨m, h1, h2⟩ => ⟨m, h1, h2, rfl⟩, fun ⟨m, h1, h2, _⟩ => ⟨m, h1, h2⟩⟩
  | succ j ih =>
    intro i
    rw [show i + (j + 1) = (i + 1) + j by omega, ih (i + 1)]
    constructor
    · rintro ⟨m, h1, h2, h3⟩
      obtain ⟨m0, c, a0, a1, a2, a3, a4⟩ := frN_s.mp h2
      exact ⟨m0, a0, a2, bkN_s.mpr ⟨c, a1, a3, by rw [a4]; exact h3⟩⟩
    · rintro ⟨m0, h1, h2, h3⟩
      obtain ⟨c, a1, a2, a3⟩ := bkN_s.mp h3
      exact ⟨nxM m0 c, nxM_lt a1, frN_s.mpr ⟨m0, c, h1, a1, h2, a2, rfl⟩, a3⟩
theorem anN_bk {n : Nat} : anN kind longOf letters words n = bkN kind longOf letters words n 0 := by
  rw [Bool.eq_iff_iff]
  unfold anN
  rw [anyUp_iff]
  have h := fb_eq (kind := kind) (longOf := longOf) (letters := letters) (words := words) n 0
  rw [Nat.zero_add] at h
  rw [h]
  constructor
  · rintro ⟨m, _, h2, h3⟩
    have : m = 0 := of_decide_eq_true h2
    rw [← this]; exact h3
  · intro h3
    exact ⟨0, by decide, (by show decide (0 = 0) = true; rfl), h3⟩
theorem bkN_dn : ∀ (j m : Nat), bkN kind longOf letters words (j + 1) m = true → bkN kind longOf letters words j m = true := by
  intro j
  induction j with
  | zero => intro m _; rfl
  | succ j ih =>
    intro m h
    obtain ⟨c, a1, a2, a3⟩ := bkN_s.mp h
    exact bkN_s.mpr ⟨c, a1, a2, ih _ a3⟩
theorem bkN_st {i : Nat} (h : ∀ m, m < 40 → bkN kind longOf letters words i m = true → bkN kind longOf letters words (i + 1) m = true) : ∀ n m, i ≤ n → m < 40 → bkN kind longOf letters words i m = true → bkN kind longOf letters words n m = true := by
  intro n
  induction n with
  | zero => intro m h1 _ h3; rw [show i = 0 by omega] at h3; exact h3
  | succ n ih =>
    intro m h1 h2 h3
    by_cases e : i = n + 1
    · rw [← e]; exact h3
    · obtain ⟨c, a1, a2, a3⟩ := bkN_s.mp (h m h2 h3)
      exact bkN_s.mpr ⟨c, a1, a2, ih _ (by omega) (nxM_lt a1) a3⟩
theorem cnt_le {P Q : Nat → Bool} {n : Nat} (h : ∀ k, k < n → P k = true → Q k = true) : cntUp P n ≤ cntUp Q n := by
  induction n with
  | zero => exact Nat.le_refl _
  | succ n ih =>
    rw [cntUp_b, cntUp_b]
    have h1 := ih (fun k hk => h k (by omega))
    have h2 := h n (Nat.lt_succ_self n)
    cases hp : P n with
    | true => rw [h2 hp]; exact Nat.succ_le_succ h1
    | false => show cntUp P n + 0 ≤ _; omega
theorem cnt_lt {P Q : Nat → Bool} {n m : Nat} (h : ∀ k, k < n → P k = true → Q k = true) (hm : m < n) (h1 : P m = false) (h2 : Q m = true) : cntUp P n < cntUp Q n := by
  induction n with
  | zero => omega
  | succ n ih =>
    rw [cntUp_b, cntUp_b]
    by_cases e : m = n
    · rw [← e, h1, h2]
      have := cnt_le (P := P) (Q := Q) (n := n) (fun k hk => h k (by omega))
      rw [← e] at this
      show cntUp P m + 0 < cntUp Q m + 1
      omega
    · have h3 := ih (fun k hk => h k (by omega)) (by omega)
      have h4 := h n (Nat.lt_succ_self n)
      cases hp : P n with
      | true => rw [h4 hp]; exact Nat.succ_lt_succ h3
      | false => show cntUp P n + 0 < _; omega
theorem bkN_cnt : ∀ j, (∃ i, i ≤ j ∧ ∀ m, m < 40 → bkN kind longOf letters words i m = true → bkN kind longOf letters words (i + 1) m = true) ∨ cntUp (bkN kind longOf letters words j) 40 + j ≤ 40 := by
  intro j
  induction j with
  | zero =>
    have h := cntUp_le (bkN kind longOf letters words 0) 40
    exact Or.inr (by omega)
  | succ j ih =>
    rcases ih with ⟨i, h1, h2⟩ | h
    · exact Or.inl ⟨i, by omega, h2⟩
    · by_cases q : ∀ m, m < 40 → bkN kind longOf letters words j m = true → bkN kind longOf letters words (j + 1) m = true
      · exact Or.inl ⟨j, by omega, q⟩
      · right
        obtain ⟨m, q⟩ := Classical.not_forall.mp q
        obtain ⟨h0, q⟩ := Classical.not_imp.mp q
        obtain ⟨h1, q⟩ := Classical.not_imp.mp q
        have := cnt_lt (P := bkN kind longOf letters words (j + 1)) (Q := bkN kind longOf letters words j) (n := 40) (fun k _ => bkN_dn j k) h0 (by simpa using q) h1
        omega
theorem bkN_le {i n m : Nat} (h : i ≤ n) (h2 : bkN kind longOf letters words n m = true) : bkN kind longOf letters words i m = true := by
  induction n with
  | zero => rw [show i = 0 by omega]; exact h2
  | succ n ih =>
    by_cases e : i = n + 1
    · rw [e]; exact h2
    · exact ih (by omega) (bkN_dn n m h2)
/-- who goes on so long goes on for ever -/
theorem anN_41 (h : anN kind longOf letters words 41 = true) (n : Nat) : anN kind longOf letters words n = true := by
  rw [anN_bk] at h ⊢
  rcases bkN_cnt (kind := kind) (longOf := longOf) (letters := letters) (words := words) 41 with ⟨i, h1, h2⟩ | h1
  · rcases Nat.lt_or_ge n i with q | q
    · exact bkN_le (by omega) h
    · exact bkN_st h2 n 0 q (by decide) (bkN_le h1 h)
  · omega
/-- what the model finds -/
theorem long_an {n : Nat} : anyUp (gfP kind longOf letters words (frN kind longOf letters words n)) 120 = anN kind longOf letters words (n + 1) := by
  rw [Bool.eq_iff_iff]
  unfold anN
  rw [anyUp_iff, anyUp_iff]
  simp only [gfP, Bool.and_eq_true, decide_eq_true_eq]
  constructor
  · rintro ⟨b, hb, h1, h2⟩
    exact ⟨nxM (b / 3) (b % 3), nxM_lt (Nat.mod_lt _ (by decide)), frN_s.mpr ⟨b / 3, b % 3, by omega, Nat.mod_lt _ (by decide), h1, h2, rfl⟩⟩
  · rintro ⟨m, _, h2⟩
    obtain ⟨m0, c, a0, a1, a2, a3, _⟩ := frN_s.mp h2
    have e1 : (3 * m0 + c) / 3 = m0 := by omega
    have e2 : (3 * m0 + c) % 3 = c := by omega
    exact ⟨3 * m0 + c, by omega, by rw [e1]; exact a2, by rw [e1, e2]; exact a3⟩
theorem fst_none {P : Nat → Bool} {n : Nat} (h : ∀ k, k < n → P k = false) : fstUp P n = none := by
  induction n with
  | zero => rfl
  | succ n ih => exact fstUp_n (ih fun k hk => h k (by omega)) (h n (Nat.lt_succ_self n))
/-- the first length at which none is left -/
theorem long_v {j : Nat} (hw : words ≠ 0) (h : ∀ i, i < j → anN kind longOf letters words i = true) (h2 : anN kind longOf letters words j = false) : 1 ≤ j ∧ F_longest kind longOf letters words = nI (j - 1) := by
  have h0 : anN kind longOf letters words 0 = true := by rw [anN_bk]; rfl
  have j1 : 1 ≤ j := by
    rcases Nat.eq_zero_or_pos j with e | e
    · rw [e, h0] at h2; cases h2
    · exact e
  have j41 : j ≤ 41 := by
    rcases Nat.lt_or_ge 41 j with q | q
    · rw [anN_41 (h 41 q) j] at h2; cases h2
    · exact q
  refine ⟨j1, ?_⟩
  unfold F_longest
  rw [if_neg hw]
  have hf : fstUp (fun n => !anyUp (gfP kind longOf letters words (frN kind longOf letters words n)) 120) 41 = some j := by
    obtain ⟨i, rfl⟩ : ∃ i, j = i + 1 := ⟨j - 1, by omega⟩
    refine fstUp_m (n := i + 1) (fstUp_t (fst_none fun k hk => ?_) ?_) j41
    · rw [long_an, h (k + 1) (by omega)]; rfl
    · rw [long_an, h2]; rfl
  rw [hf]
theorem long_n {j : Nat} (hw : words ≠ 0) (hj : 41 < j) (h : ∀ i, i < j → anN kind longOf letters words i = true) : F_longest kind longOf letters words = -9 := by
  unfold F_longest
  rw [if_neg hw, fst_none (fun k hk => by rw [long_an, h (k + 1) (by omega)]; rfl)]
/-! the system's sets of ends -/
def gPX (kind longOf letters : Nat → Nat) (words : Nat) (F : Nat → Bool) : Nat → Bool := fun b => F (b / 3) && decide (hbE kind longOf letters words (3 * (b / 3) + b % 3) = 0)
def frX (kind longOf letters : Nat → Nat) (words : Nat) : Nat → Nat → Bool
  | 0 => fun e => decide (e = 1)
  | n + 1 => fun e => anyUp (fun b => gPX kind longOf letters words (frX kind longOf letters words n) b && decide (nxE (b / 3) (b % 3) = e)) 162
theorem frX_eq (hw : wOK words kind longOf letters) : ∀ n, (∀ m, m < 40 → frX kind longOf letters words n (phi m) = frN kind longOf letters words n m) ∧ ∀ e, e < 54 → frX kind longOf letters words n e = true → ∃ m, m < 40 ∧ phi m = e := by
  intro n
  induction n with
  | zero =>
    have p0 : phi 0 = 1 := by decide +kernel
    constructor
    · intro m hm
      show decide (phi m = 1) = decide (m = 0)
      exact decide_eq_decide.mpr ⟨fun h => phi_inj m hm 0 (by decide) (h.trans p0.symm), fun h => by rw [h]; exact p0⟩
    · intro e _ h
      exact ⟨0, by decide, p0.trans (of_decide_eq_true h).symm⟩
  | succ n ih =>
    obtain ⟨h1, h2⟩ := ih
    have key : ∀ e, frX kind longOf letters words (n + 1) e = true ↔ ∃ m0 c, m0 < 40 ∧ c < 3 ∧ frN kind longOf letters words n m0 = true ∧ hbM kind longOf letters words m0 c = 0 ∧ phi (nxM m0 c) = e := by
      intro e
      show anyUp _ 162 = true ↔ _
      rw [anyUp_iff]
      simp only [gPX, Bool.and_eq_true, decide_eq_true_eq]
      constructor
      · rintro ⟨b, hb, ⟨a1, a2⟩, a3⟩
        obtain ⟨m0, b1, b2⟩ := h2 (b / 3) (by omega) a1
        have hc : b % 3 < 3 := Nat.mod_lt _ (by decide)
        rw [← b2] at a1 a2 a3
        rw [h1 m0 b1] at a1
        rw [phi_hb hw b1 hc] at a2
        rw [phi_nx b1 hc] at a3
        exact ⟨m0, b % 3, b1, hc, a1, a2, a3⟩
      · rintro ⟨m0, c, a0, a1, a2, a3, a4⟩
        have hp := phi_lt m0 a0
        have e1 : (3 * phi m0 + c) / 3 = phi m0 := by omega
        have e2 : (3 * phi m0 + c) % 3 = c := by omega
        exact ⟨3 * phi m0 + c, by omega, by rw [e1, e2, h1 m0 a0, phi_hb hw a0 a1, phi_nx a0 a1]; exact ⟨⟨a2, a3⟩, a4⟩⟩
    constructor
    · intro m hm
      rw [Bool.eq_iff_iff, key, frN_s]
      constructor
      · rintro ⟨m0, c, a0, a1, a2, a3, a4⟩
        exact ⟨m0, c, a0, a1, a2, a3, phi_inj _ (nxM_lt a1) _ hm a4⟩
      · rintro ⟨m0, c, a0, a1, a2, a3, a4⟩
        exact ⟨m0, c, a0, a1, a2, a3, by rw [a4]⟩
    · intro e _ h
      obtain ⟨m0, c, a0, a1, _, _, a4⟩ := (key e).mp h
      exact ⟨_, nxM_lt a1, a4⟩
theorem frX_an (hw : wOK words kind longOf letters) (n : Nat) : anyUp (frX kind longOf letters words n) 54 = anN kind longOf letters words n := by
  obtain ⟨h1, h2⟩ := frX_eq hw n
  rw [Bool.eq_iff_iff]
  unfold anN
  rw [anyUp_iff, anyUp_iff]
  constructor
  · rintro ⟨e, he, h⟩
    obtain ⟨m, hm, rfl⟩ := h2 e he h
    exact ⟨m, hm, by rw [← h1 m hm]; exact h⟩
  · rintro ⟨m, hm, h⟩
    exact ⟨phi m, (phi_lt m hm).2, by rw [h1 m hm]; exact h⟩
end
