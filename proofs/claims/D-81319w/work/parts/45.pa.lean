/-! distances: the system's against the model's: plain -/
set_option maxRecDepth 100000
theorem dsU_upn {st : Nat → Nat → Nat} {g : Nat → Bool} {k x d : Nat} (h : dsU st g d k = some x) : ∀ n, d ≤ n → dsU st g n k = some x := by
  intro n
  induction n with
  | zero => intro hd; rw [show d = 0 by omega] at h; exact h
  | succ n ih =>
    intro hd
    by_cases e : d = n + 1
    · rw [← e]; exact h
    · exact dsU_up (ih (by omega))
/-- a distance v is found at level v -/
theorem dsU_at {st : Nat → Nat → Nat} {g : Nat → Bool} : ∀ {n k v : Nat}, dsU st g n k = some v → dsU st g v k = some v := by
  intro n
  induction n with
  | zero =>
    intro k v h
    have := dsU_le h
    rw [show v = 0 by omega] at h ⊢
    exact h
  | succ n ih =>
    intro k v h
    rcases dsL_v (show dsL (dsU st g n) st n k 3 = some v from h) with h1 | h1
    · exact ih h1
    · rw [h1.2]
      rw [h1.2] at h
      exact h
theorem dsL_ex {f : Nat → Option Nat} {st : Nat → Nat → Nat} {d k c : Nat} (e : f (st k c) = some d) : ∀ n, c < n → dsL f st d k n ≠ none := by
  intro n
  induction n with
  | zero => intro h; omega
  | succ n ih =>
    intro h z
    by_cases q : c = n
    · subst q
      cases hd : dsL f st d k c with
      | none => rw [dsL_t hd e] at z; cases z
      | some x => rw [dsL_m hd (Nat.le_succ c)] at z; cases z
    · have := ih (by omega)
      cases hd : dsL f st d k n with
      | none => exact this hd
      | some x => rw [dsL_m hd (Nat.le_succ n)] at z; cases z
/-- a step nearer -/
theorem dsU_step {st : Nat → Nat → Nat} {g : Nat → Bool} {n k c v : Nat} (hc : c < 3) (h : dsU st g n (st k c) = some v) : ∃ x, dsU st g (v + 1) k = some x := by
  have h1 := dsU_at h
  have h2 : dsU st g (v + 1) k ≠ none := dsL_ex h1 3 hc
  cases e : dsU st g (v + 1) k with
  | none => exact absurd e h2
  | some x => exact ⟨x, rfl⟩
/-- states along a row -/
def pthE (st : Nat → Nat → Nat) (k : Nat) (row : Nat → Nat) : Nat → Nat
  | 0 => k
  | n + 1 => st (pthE st k row n) (row n)
theorem pthE_s {st : Nat → Nat → Nat} {k : Nat} {row : Nat → Nat} (n : Nat) : pthE st k row (n + 1) = pthE st (st k (row 0)) (fun j => row (j + 1)) n := by
  induction n with
  | zero => rfl
  | succ n ih => show st (pthE st k row (n + 1)) (row (n + 1)) = _; rw [ih]; rfl
theorem dsU_pth {st : Nat → Nat → Nat} {g : Nat → Bool} : ∀ (n k : Nat) (row : Nat → Nat), (∀ j, row j < 3) → g (pthE st k row n) = true → ∃ x, dsU st g n k = some x := by
  intro n
  induction n with
  | zero =>
    intro k row _ h
    exact ⟨0, by show (if g k then some 0 else none) = some 0; rw [if_pos (show g k = true from h)]⟩
  | succ n ih =>
    intro k row hr h
    rw [pthE_s] at h
    obtain ⟨v, hv⟩ := ih (st k (row 0)) (fun j => row (j + 1)) (fun j => hr _) h
    obtain ⟨x, hx⟩ := dsU_step (hr 0) hv
    exact ⟨x, dsU_upn hx _ (Nat.succ_le_succ (dsU_le hv))⟩
theorem orUp_b {f : Nat → Nat} {n : Nat} : orUp f (n + 1) = orUp f n ||| f n := rfl
/-- along a row from the start: which words stood, and its end -/
theorem pthE_eq {kind longOf letters row : Nat → Nat} {words : Nat} (hw : wOK words kind longOf letters) (h : ∀ j, row j < 3) (n : Nat) : pthE (stE kind longOf letters words) 1 row n = 54 * orUp (fun j => hbW kind longOf letters row words (j + 1)) n + enX row n := by
  induction n with
  | zero => rfl
  | succ n ih =>
    have h1 := enX_lt h n
    have d1 : (54 * orUp (fun j => hbW kind longOf letters row words (j + 1)) n + enX row n) / 54 = orUp (fun j => hbW kind longOf letters row words (j + 1)) n := by omega
    have d2 : (54 * orUp (fun j => hbW kind longOf letters row words (j + 1)) n + enX row n) % 54 = enX row n := by omega
    show stE kind longOf letters words (pthE (stE kind longOf letters words) 1 row n) (row n) = _
    rw [ih]
    unfold stE
    rw [d1, d2, hbE_hb hw h n]
    rfl
/-- all words, one behind another, four letters each -/
def rwF (longOf letters : Nat → Nat) : Nat → Nat := fun j => if j % 4 < 4 - longOf (j / 4) then 0 else letters (4 * (j / 4) + (j % 4 - (4 - longOf (j / 4))))
theorem rwF_hd {kind longOf letters : Nat → Nat} {w : Nat} (h4 : longOf w ≤ 4) : hdW kind longOf letters (rwF longOf letters) w (4 * w + 4) = true := by
  refine hd_of (f := 0) (by omega) (by decide) ?_
  unfold hdU
  refine decide_eq_true fun k hk => ?_
  have e1 : (4 * w + 4 - longOf w + k) / 4 = w := by omega
  have e2 : (4 * w + 4 - longOf w + k) % 4 = 4 - longOf w + k := by omega
  show rwF longOf letters (4 * w + 4 - longOf w + k) = letters (4 * w + k)
  unfold rwF
  rw [e1, e2, if_neg (by omega)]
  congr 1
  omega
theorem cntUp_ge {P : Nat → Bool} {n k : Nat} (hk : k < n) (h : P k = true) : 0 < cntUp P n := by
  induction n with
  | zero => omega
  | succ n ih =>
    rw [cntUp_b]
    by_cases e : k = n
    · rw [← e, h]; show 0 < _ + 1; omega
    · have := ih (by omega); omega
theorem bitsUp_all {P : Nat → Bool} {n : Nat} (h : ∀ k, k < n → P k = true) : bitsUp P n = 2 ^ n - 1 := by
  apply Nat.eq_of_testBit_eq
  intro i
  rw [Nat.testBit_two_pow_sub_one]
  by_cases q : i < n
  · rw [bitsUp_tb q, h i q, decide_eq_true q]
  · rw [decide_eq_false q]
    exact Nat.testBit_lt_two_pow (Nat.lt_of_lt_of_le (bitsUp_lt P n) (Nat.pow_le_pow_right (by decide) (by omega)))
abbrev gE (words : Nat) : Nat → Bool := fun t => decide (t / 54 = 2 ^ words - 1)
/-- the start is found within 16 letters -/
theorem far_16 {kind longOf letters : Nat → Nat} {words : Nat} (hw : wOK words kind longOf letters) : ∃ x, dsU (stE kind longOf letters words) (gE words) 16 1 = some x := by
  have hr : ∀ j, rwF longOf letters j < 3 := fun j => by
    unfold rwF
    split
    · decide
    · exact hw.2.2.2.1 _
  refine dsU_pth 16 1 (rwF longOf letters) hr ?_
  rw [pthE_eq hw hr]
  have h1 := enX_lt hr 16
  have hall : orUp (fun j => hbW kind longOf letters (rwF longOf letters) words (j + 1)) 16 = 2 ^ words - 1 := by
    rw [or_ORU]
    exact bitsUp_all fun w hq => decide_eq_true (cntUp_ge (k := 4 * w + 3) (by have := hw.1; omega) (rwF_hd (hw.2.2.1 w)))
  refine decide_eq_true ?_
  rw [hall]
  generalize 2 ^ words - 1 = X
  omega
/-- states that are reached -/
def goE (words t : Nat) : Prop := 1 ≤ t % 54 ∧ t / 54 < 2 ^ words
theorem goE_lt {words t : Nat} (hw : words ≤ 4) (h : goE words t) : t < 864 := by
  have := pw4 hw
  have := h.2
  omega
theorem nxE_ge (e c : Nat) (he : 1 ≤ e) : 1 ≤ nxE e c := by unfold nxE; split <;> omega
theorem goE_st {kind longOf letters : Nat → Nat} {words t c : Nat} (h : goE words t) (hc : c < 3) : goE words (stE kind longOf letters words t c) := by
  have h1 := nxE_ge (t % 54) c h.1
  have h2 := nxE_lt (e := t % 54) (Nat.mod_lt _ (by decide)) hc
  have h3 : (t / 54 ||| hbE kind longOf letters words (3 * (t % 54) + c)) < 2 ^ words := Nat.or_lt_two_pow h.2 hbE_lt
  unfold stE goE
  generalize (t / 54 ||| hbE kind longOf letters words (3 * (t % 54) + c)) = x at h3 ⊢
  generalize nxE (t % 54) c = y at h1 h2 ⊢
  constructor
  · omega
  · rw [show (54 * x + y) / 54 = x by omega]; exact h3
/-- at level d + 1: the states below k done, k's letters below c -/
def ffE (words : Nat) (st : Nat → Nat → Nat) (d k c : Nat) (fr : Nat → Option Nat) : Prop := (∀ j, goE words j → j ≠ k → fr j = if j < k then dsU st (gE words) (d + 1) j else dsU st (gE words) d j) ∧ (goE words k → fr k = dsL (dsU st (gE words) d) st d k c)
section
variable {words : Nat} {st : Nat → Nat → Nat} {d k c : Nat} {fr : Nat → Option Nat}
theorem ffE_read {t : Nat} (h : ffE words st d k c fr) (hk : goE words k) (hn : fr k = none) (ht : goE words t) : fr t = some d ↔ dsU st (gE words) d t = some d := by
  by_cases e : t = k
  · rw [e, hn]
    have := dsL_0 ((h.2 hk).symm.trans hn)
    rw [this]
  · rw [h.1 t ht e]
    split
    · exact dsU_same
    · exact Iff.rfl
theorem ffE_b {t x : Nat} (h : ffE words st d k c fr) (hd : d ≤ 641) (ht : goE words t) (hx : fr t = some x) : x < 2 ^ 31 := by
  have h3 : x ≤ d + 1 := by
    by_cases e : t = k
    · rw [e] at hx ht
      rw [h.2 ht] at hx
      rcases dsL_v hx with h1 | h1
      · have := dsU_le h1; omega
      · omega
    · rw [h.1 t ht e] at hx
      split at hx
      · exact dsU_le hx
      · have := dsU_le hx; omega
  omega
theorem ffE_put (h : ffE words st d k c fr) (hk : goE words k) (hn : fr k = none) (e : dsU st (gE words) d (st k c) = some d) : ffE words st d k (c + 1) (va_up fr k (some (d + 1))) := by
  refine ⟨fun j hj hne => by rw [va_up_ne _ _ hne]; exact h.1 j hj hne, fun _ => ?_⟩
  rw [va_up_self, dsL_t ((h.2 hk).symm.trans hn) e]
theorem ffE_keep (h : ffE words st d k c fr) (hk : goE words k) (hn : fr k = none) (e : dsU st (gE words) d (st k c) ≠ some d) : ffE words st d k (c + 1) (va_up fr k none) := by
  refine ⟨fun j hj hne => by rw [va_up_ne _ _ hne]; exact h.1 j hj hne, fun _ => ?_⟩
  rw [va_up_self, dsL_n ((h.2 hk).symm.trans hn) e]
theorem ffE_next {k' : Nat} (h : ffE words st d k c fr) (hk : goE words k) (hd : c = 3 ∨ (c ≤ 3 ∧ fr k ≠ none)) (hk' : k < k') (hg : ∀ j, goE words j → k < j → k' ≤ j) : ffE words st d k' 0 fr := by
  have hk3 : fr k = dsU st (gE words) (d + 1) k := by
    rcases hd with e | ⟨e1, e2⟩
    · rw [h.2 hk, e]; rfl
    · rw [h.2 hk]
      cases hv : dsL (dsU st (gE words) d) st d k c with
      | none => rw [h.2 hk] at e2; exact absurd hv e2
      | some x => exact (dsL_m hv e1).symm
  constructor
  · intro j hj hne
    by_cases e : j = k
    · rw [e, if_pos hk']; exact hk3
    · rw [h.1 j hj e]
      by_cases q : j < k
      · rw [if_pos q, if_pos (by omega)]
      · rw [if_neg q, if_neg (by have := hg j hj (by omega); omega)]
  · intro q
    rw [h.1 k' q (by omega), if_neg (by omega)]
    rfl
theorem ffE_move {k' : Nat} (h : ffE words st d k 0 fr) (hk : ¬ goE words k) (hk' : k ≤ k') (hg : ∀ j, goE words j → k < j → k' ≤ j) : ffE words st d k' 0 fr := by
  constructor
  · intro j hj hne
    have e : j ≠ k := fun e => hk (e ▸ hj)
    rw [h.1 j hj e]
    by_cases q : j < k
    · rw [if_pos q, if_pos (by omega)]
    · rw [if_neg q, if_neg (by have := hg j hj (by omega); omega)]
  · intro q
    by_cases e : k' = k
    · rw [e] at q; exact absurd q hk
    · rw [h.1 k' q e, if_neg (by omega)]
      rfl
theorem ffE_start (h : ∀ j, goE words j → fr j = dsU st (gE words) d j) : ffE words st d 0 0 fr := ⟨fun j hj _ => by rw [if_neg (by omega)]; exact h j hj, fun h0 => h 0 h0⟩
/-- behind the last set but the whole one -/
theorem ffE_end (h : ffE words st d k 0 fr) (hk : k = 54 * (2 ^ words - 1)) : ∀ j, goE words j → fr j = dsU st (gE words) (d + 1) j := by
  intro j hj
  have hp : 0 < 2 ^ words := Nat.pow_pos (by decide)
  by_cases e : j = k
  · have h1 := hj.1
    rw [e, hk] at h1
    omega
  · rw [h.1 j hj e]
    split
    · rfl
    · have h2 : j / 54 = 2 ^ words - 1 := by
        have := hj.2
        generalize 2 ^ words = X at hk this hp ⊢
        omega
      have h0 : dsU st (gE words) 0 j = some 0 := by
        show (if gE words j then some 0 else none) = some 0
        rw [if_pos (decide_eq_true h2)]
      rw [dsU_upn h0 d (by omega), dsU_upn h0 (d + 1) (by omega)]
end
/-- the same distances -/
theorem ds_psi {kind longOf letters : Nat → Nat} {words : Nat} (hw : wOK words kind longOf letters) : ∀ (n k : Nat), k < 640 → dsU (stE kind longOf letters words) (gE words) n (psi k) = dsU (stC kind longOf letters words) (ffG words) n k := by
  intro n
  induction n with
  | zero =>
    intro k hk
    show (if gE words (psi k) then some 0 else none) = (if ffG words k then some 0 else none)
    have : gE words (psi k) = ffG words k := by show decide _ = decide _; rw [(psi_dm hk).1]
    rw [this]
  | succ n ih =>
    intro k hk
    show dsL _ _ n (psi k) 3 = dsL _ _ n k 3
    have key : ∀ c, c ≤ 3 → dsL (dsU (stE kind longOf letters words) (gE words) n) (stE kind longOf letters words) n (psi k) c = dsL (dsU (stC kind longOf letters words) (ffG words) n) (stC kind longOf letters words) n k c := by
      intro c
      induction c with
      | zero => intro _; exact ih k hk
      | succ c ihc =>
        intro hc
        simp only [dsL]
        rw [ihc (by omega), stE_psi hw hk (by omega), ih _ (stC_lt hw.1 (by omega))]
    exact key 3 (Nat.le_refl _)
theorem psi_0 : psi 0 = 1 := by decide +kernel
theorem psi_go {words k : Nat} (hk : k < 640) (h : k % 16 < 2 ^ words) : goE words (psi k) := by
  have d := psi_dm hk
  have p := phi_lt (k / 16) (by omega)
  exact ⟨by rw [d.2]; exact p.1, by rw [d.1]; exact h⟩
theorem stE_at {kind longOf letters : Nat → Nat} {words se e c : Nat} (he : e < 54) : 54 * (se ||| hbE kind longOf letters words (3 * e + c)) + nxE e c = stE kind longOf letters words (54 * se + e) c := by
  unfold stE
  rw [show (54 * se + e) / 54 = se by omega, show (54 * se + e) % 54 = e by omega]
theorem goE_at {words se e : Nat} (h0 : 1 ≤ e) (he : e < 54) (hs : se < 2 ^ words) : goE words (54 * se + e) := by
  refine ⟨by omega, ?_⟩
  rw [show (54 * se + e) / 54 = se by omega]
  exact hs
theorem far_i {fr : Nat → Option Nat} {E e : Nat} (h : ∀ j, j < 864 → fr j = if j / 54 = E ∧ j % 54 < e then some 0 else none) (he : e < 54) : ∀ j, j < 864 → va_up fr (54 * E + e) (some 0) j = if j / 54 = E ∧ j % 54 < e + 1 then some 0 else none := by
  intro j hj
  by_cases q : j = 54 * E + e
  · rw [q, va_up_self, if_pos ⟨by omega, by omega⟩]
  · rw [va_up_ne _ _ q, h j hj]
    by_cases z : j / 54 = E ∧ j % 54 < e
    · rw [if_pos z, if_pos ⟨z.1, by omega⟩]
    · rw [if_neg z, if_neg (fun y => z ⟨y.1, by omega⟩)]
theorem far_0 {st : Nat → Nat → Nat} {fr : Nat → Option Nat} {words e : Nat} (hw : words ≤ 4) (h : ∀ j, j < 864 → fr j = if j / 54 = 2 ^ words - 1 ∧ j % 54 < e then some 0 else none) (he : 54 ≤ e) : ∀ j, goE words j → fr j = dsU st (gE words) 0 j := by
  intro j hj
  rw [h j (goE_lt hw hj)]
  show _ = if decide (j / 54 = 2 ^ words - 1) = true then some 0 else none
  by_cases z : j / 54 = 2 ^ words - 1
  · rw [if_pos ⟨z, by omega⟩, if_pos (decide_eq_true z)]
  · rw [if_neg (fun y => z y.1), if_neg (fun y => z (of_decide_eq_true y))]
