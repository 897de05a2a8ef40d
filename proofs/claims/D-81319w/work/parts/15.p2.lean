/-! distances, counts of ways, free ends: plain -/
theorem up_preG {α : Type} {f g : Nat → α} {k : Nat} {v : α} (h : ∀ j, j < k → f j = g j) (hv : v = g k) : ∀ j, j < k + 1 → va_up f k v j = g j := by
  intro j hj
  by_cases e : j = k
  · rw [e, va_up_self]; exact hv
  · rw [va_up_ne _ _ e]; exact h j (by omega)
/-- a letter more: k's distance at level d + 1, the letters below c looked at -/
def dsL (f : Nat → Option Nat) (st : Nat → Nat → Nat) (d k : Nat) : Nat → Option Nat
  | 0 => f k
  | c + 1 => match dsL f st d k c with
    | some x => some x
    | none => if f (st k c) = some d then some (d + 1) else none
/-- the distance to g where it is d at the most -/
def dsU (st : Nat → Nat → Nat) (g : Nat → Bool) : Nat → Nat → Option Nat
  | 0 => fun k => if g k then some 0 else none
  | d + 1 => fun k => dsL (dsU st g d) st d k 3
theorem dsL_m {f : Nat → Option Nat} {st : Nat → Nat → Nat} {d k c c' x : Nat} (h : dsL f st d k c = some x) (hc : c ≤ c') : dsL f st d k c' = some x := by
  induction c' with
  | zero => rw [show c = 0 by omega] at h; exact h
  | succ n ih =>
    rcases Nat.lt_or_ge n c with q | q
    · rw [show n + 1 = c by omega]; exact h
    · simp [dsL, ih q]
theorem dsL_v {f : Nat → Option Nat} {st : Nat → Nat → Nat} {d k c x : Nat} (h : dsL f st d k c = some x) : f k = some x ∨ (f k = none ∧ x = d + 1) := by
  induction c with
  | zero => exact Or.inl h
  | succ c ih =>
    simp only [dsL] at h
    split at h
    · rename_i y hy
      cases h
      exact ih hy
    · rename_i hy
      split at h
      · cases h
        cases hf : f k with
        | none => exact Or.inr ⟨rfl, rfl⟩
        | some z => rw [dsL_m (c := 0) (x := z) hf (Nat.zero_le _)] at hy; cases hy
      · cases h
theorem dsL_t {f : Nat → Option Nat} {st : Nat → Nat → Nat} {d k c : Nat} (h : dsL f st d k c = none) (e : f (st k c) = some d) : dsL f st d k (c + 1) = some (d + 1) := by simp [dsL, h, e]
theorem dsL_n {f : Nat → Option Nat} {st : Nat → Nat → Nat} {d k c : Nat} (h : dsL f st d k c = none) (e : f (st k c) ≠ some d) : dsL f st d k (c + 1) = none := by simp [dsL, h, e]
theorem dsL_0 {f : Nat → Option Nat} {st : Nat → Nat → Nat} {d k c : Nat} (h : dsL f st d k c = none) : f k = none := by
  cases hf : f k with
  | none => rfl
  | some z => rw [dsL_m (c := 0) (x := z) hf (Nat.zero_le _)] at h; cases h
theorem dsU_up {st : Nat → Nat → Nat} {g : Nat → Bool} {d k x : Nat} (h : dsU st g d k = some x) : dsU st g (d + 1) k = some x := dsL_m (c := 0) h (Nat.zero_le _)
theorem dsU_le {st : Nat → Nat → Nat} {g : Nat → Bool} {d k x : Nat} (h : dsU st g d k = some x) : x ≤ d := by
  induction d with
  | zero =>
    simp only [dsU] at h
    split at h
    · cases h; exact Nat.le_refl _
    · cases h
  | succ d ih =>
    rcases dsL_v h with h1 | h1
    · exact Nat.le_succ_of_le (ih h1)
    · omega
theorem dsU_same {st : Nat → Nat → Nat} {g : Nat → Bool} {d k : Nat} : dsU st g (d + 1) k = some d ↔ dsU st g d k = some d := by
  constructor
  · intro h
    rcases dsL_v h with h1 | h1
    · exact h1
    · omega
  · exact dsU_up
theorem dsU_stable {st : Nat → Nat → Nat} {g : Nat → Bool} {d N : Nat} (hst : ∀ k c, k < N → c < 3 → st k c < N) (h : ∀ k, k < N → dsU st g (d + 1) k = dsU st g d k) : ∀ n k, d ≤ n → k < N → dsU st g n k = dsU st g d k := by
  intro n
  induction n with
  | zero => intro k h1 h2; rw [show d = 0 by omega]
  | succ n ih =>
    intro k h1 h2
    rcases Nat.lt_or_ge n d with q | q
    · rw [show d = n + 1 by omega]
    · by_cases e : n = d
      · rw [e]; exact h k h2
      · have hk := ih k q h2
        cases hd : dsU st g d k with
        | some x => rw [hd] at hk; exact dsU_up hk
        | none =>
          rw [hd] at hk
          have no : ∀ c, c < 3 → dsU st g n (st k c) ≠ some n := by
            intro c hc z
            rw [ih _ q (hst k c h2 hc)] at z
            have := dsU_le z
            omega
          show dsL (dsU st g n) st n k 3 = none
          exact dsL_n (dsL_n (dsL_n (show dsL (dsU st g n) st n k 0 = none from hk) (no 0 (by decide))) (no 1 (by decide))) (no 2 (by decide))
abbrev ffG (words : Nat) : Nat → Bool := fun k => decide (k % 16 = 2 ^ words - 1)
/-- the distances found -/
def ffOK (kind longOf letters : Nat → Nat) (words : Nat) (far : Nat → Option Nat) : Prop := ∃ n0, (∀ k, k < 640 → far k = dsU (stC kind longOf letters words) (ffG words) n0 k) ∧ (∀ n k, n0 ≤ n → k < 640 → dsU (stC kind longOf letters words) (ffG words) n k = dsU (stC kind longOf letters words) (ffG words) n0 k) ∧ n0 ≤ 641
/-- how many of the first n are none -/
abbrev nonesN (f : Nat → Option Nat) (n : Nat) : Nat := cntUp (fun k => (f k).isNone) n
theorem nones_up {f : Nat → Option Nat} {k v n : Nat} (hk : k < n) (h : f k = none) : nonesN (va_up f k (some v)) n + 1 = nonesN f n := by
  induction n with
  | zero => omega
  | succ n ih =>
    by_cases e : k = n
    · subst e
      have h0 : cntUp (fun j => (va_up f k (some v) j).isNone) k = cntUp (fun j => (f j).isNone) k := cntUp_cg (fun j hj => by rw [va_up_ne _ _ (by omega)])
      have a := cntUp_f (P := fun j => (va_up f k (some v) j).isNone) (n := k) (by simp [va_up_self])
      have b := cntUp_t (P := fun j => (f j).isNone) (n := k) (by simp [h])
      show cntUp (fun j => (va_up f k (some v) j).isNone) (k + 1) + 1 = cntUp (fun j => (f j).isNone) (k + 1)
      rw [← a, ← b, h0]
    · have h0 := ih (by omega)
      have h1 : va_up f k (some v) n = f n := va_up_ne _ _ (fun z => e z.symm)
      cases hh : (f n).isNone with
      | true =>
        have a := cntUp_t (P := fun j => (va_up f k (some v) j).isNone) (n := n) (by simp only [h1]; exact hh)
        have b := cntUp_t (P := fun j => (f j).isNone) (n := n) hh
        show cntUp (fun j => (va_up f k (some v) j).isNone) (n + 1) + 1 = cntUp (fun j => (f j).isNone) (n + 1)
        rw [← a, ← b]
        exact congrArg (· + 1) h0
      | false =>
        have a := cntUp_f (P := fun j => (va_up f k (some v) j).isNone) (n := n) (by simp only [h1]; exact hh)
        have b := cntUp_f (P := fun j => (f j).isNone) (n := n) hh
        show cntUp (fun j => (va_up f k (some v) j).isNone) (n + 1) + 1 = cntUp (fun j => (f j).isNone) (n + 1)
        rw [← a, ← b]
        exact h0
/-- at level d + 1, the cells below k done, k's letters below c -/
def ffM (st : Nat → Nat → Nat) (g : Nat → Bool) (d k c : Nat) (fr : Nat → Option Nat) : Prop := (∀ j, j < 640 → j ≠ k → fr j = if j < k then dsU st g (d + 1) j else dsU st g d j) ∧ (k < 640 → fr k = dsL (dsU st g d) st d k c)
section
variable {st : Nat → Nat → Nat} {g : Nat → Bool} {d k c : Nat} {fr : Nat → Option Nat}
theorem ffM_read {t : Nat} (h : ffM st g d k c fr) (hk : k < 640) (hn : fr k = none) (ht : t < 640) : fr t = some d ↔ dsU st g d t = some d := by
  by_cases e : t = k
  · rw [e, hn]
    have := dsL_0 ((h.2 hk).symm.trans hn)
    rw [this]
  · rw [h.1 t ht e]
    split
    · exact dsU_same
    · exact Iff.rfl
theorem ffM_b {t x : Nat} (h : ffM st g d k c fr) (hd : d ≤ 641) (ht : t < 640) (hx : fr t = some x) : x < 2 ^ 31 := by
  have h3 : x ≤ d + 1 := by
    by_cases e : t = k
    · rw [e] at hx ht
      rw [h.2 ht] at hx
      rcases dsL_v hx with h1 | h1
      · have := dsU_le h1; omega
      · omega
    · rw [h.1 t ht e] at hx
      split at hx
      · exact dsU_le hx
      · have := dsU_le hx; omega
  omega
theorem ffM_put (h : ffM st g d k c fr) (hk : k < 640) (hn : fr k = none) (e : dsU st g d (st k c) = some d) : ffM st g d k (c + 1) (va_up fr k (some (d + 1))) := by
  refine ⟨fun j hj hne => by rw [va_up_ne _ _ hne]; exact h.1 j hj hne, fun _ => ?_⟩
  rw [va_up_self, dsL_t ((h.2 hk).symm.trans hn) e]
theorem ffM_keep (h : ffM st g d k c fr) (hk : k < 640) (hn : fr k = none) (e : dsU st g d (st k c) ≠ some d) : ffM st g d k (c + 1) fr := by
  refine ⟨h.1, fun _ => ?_⟩
  rw [hn, dsL_n ((h.2 hk).symm.trans hn) e]
theorem ffM_3 (h : ffM st g d k c fr) (hk : k < 640) (hd : c = 3 ∨ (c ≤ 3 ∧ fr k ≠ none)) : fr k = dsU st g (d + 1) k := by
  rcases hd with e | ⟨e1, e2⟩
  · rw [h.2 hk, e]; rfl
  · rw [h.2 hk]
    cases hv : dsL (dsU st g d) st d k c with
    | none => rw [h.2 hk] at e2; exact absurd hv e2
    | some x => exact (dsL_m hv e1).symm
theorem ffM_next (h : ffM st g d k c fr) (hk : k < 640) (hd : c = 3 ∨ (c ≤ 3 ∧ fr k ≠ none)) : ffM st g d (k + 1) 0 fr := by
  have hk3 := ffM_3 h hk hd
  constructor
  · intro j hj hne
    by_cases e : j = k
    · rw [e, if_pos (Nat.lt_succ_self k)]; exact hk3
    · rw [h.1 j hj e]
      by_cases q : j < k
      · rw [if_pos q, if_pos (by omega)]
      · rw [if_neg q, if_neg (by omega)]
  · intro q
    rw [h.1 (k + 1) q (by omega), if_neg (by omega)]
    rfl
theorem ffM_start (h : ∀ j, j < 640 → fr j = dsU st g d j) : ffM st g d 0 0 fr := ⟨fun j hj _ => by rw [if_neg (by omega)]; exact h j hj, fun h0 => h 0 h0⟩
theorem ffM_end (h : ffM st g d k c fr) (hk : 640 ≤ k) : ∀ j, j < 640 → fr j = dsU st g (d + 1) j := fun j hj => by
  rw [h.1 j hj (by omega), if_pos (by omega)]
/-- nothing new below k -/
def ffS (st : Nat → Nat → Nat) (g : Nat → Bool) (d k : Nat) : Prop := ∀ j, j < k → dsU st g (d + 1) j = dsU st g d j
theorem ffS_next (h : ffS st g d k) (m : ffM st g d k c fr) (hk : k < 640) (hd : c = 3 ∨ (c ≤ 3 ∧ fr k ≠ none)) (e : fr k = dsU st g d k) : ffS st g d (k + 1) := by
  intro j hj
  by_cases q : j = k
  · rw [q, ← ffM_3 m hk hd, e]
  · exact h j (by omega)
end
/-- ways: what comes to t out of the letters below c of k -/
def adL (f : Nat → Nat) (st : Nat → Nat → Nat) (k t : Nat) : Nat → Nat
  | 0 => 0
  | c + 1 => adL f st k t c + (if st k c = t then f k else 0)
def adK (f : Nat → Nat) (st : Nat → Nat → Nat) (t : Nat) : Nat → Nat
  | 0 => 0
  | k + 1 => adK f st t k + adL f st k t 3
/-- ways to t by n letters, out of i0, among nn cells -/
def wyN (st : Nat → Nat → Nat) (i0 nn : Nat) : Nat → Nat → Nat
  | 0 => fun t => if t = i0 then 1 else 0
  | n + 1 => fun t => adK (wyN st i0 nn n) st t nn
theorem adL_0 {f : Nat → Nat} {st : Nat → Nat → Nat} {k t : Nat} (h : f k = 0) (c : Nat) : adL f st k t c = 0 := by
  induction c with
  | zero => rfl
  | succ c ih => simp [adL, ih, h]
theorem sumUp_cg {f g : Nat → Nat} {n : Nat} (h : ∀ j, j < n → f j = g j) : sumUp f n = sumUp g n := by
  induction n with
  | zero => rfl
  | succ n ih => simp only [sumUp]; rw [ih (fun j hj => h j (by omega)), h n (by omega)]
theorem sumUp_add (f g : Nat → Nat) (n : Nat) : sumUp (fun j => f j + g j) n = sumUp f n + sumUp g n := by
  induction n with
  | zero => rfl
  | succ n ih => simp only [sumUp]; rw [ih]; omega
theorem sumUp_0 (n : Nat) : sumUp (fun _ => 0) n = 0 := by
  induction n with
  | zero => rfl
  | succ n ih => simp only [sumUp]; omega
theorem sumUp_one {s v n : Nat} (h : s < n) : sumUp (fun t => if s = t then v else 0) n = v := by
  induction n with
  | zero => omega
  | succ n ih =>
    simp only [sumUp]
    by_cases e : s = n
    · rw [if_pos e, sumUp_cg (g := fun _ => 0) (fun j hj => if_neg (by omega)), sumUp_0]; omega
    · rw [if_neg e, ih (by omega)]; omega
theorem sumUp_ge {f : Nat → Nat} {n k : Nat} (h : k < n) : f k ≤ sumUp f n := by
  induction n with
  | zero => omega
  | succ n ih =>
    simp only [sumUp]
    by_cases e : k = n
    · rw [e]; omega
    · have := ih (by omega); omega
theorem adL_sum {f : Nat → Nat} {st : Nat → Nat → Nat} {k nn : Nat} (h : ∀ c, c < 3 → st k c < nn) : ∀ c, c ≤ 3 → sumUp (fun t => adL f st k t c) nn = c * f k := by
  intro c
  induction c with
  | zero => intro _; simp only [adL]; rw [sumUp_0]; omega
  | succ c ih =>
    intro hc
    simp only [adL]
    rw [sumUp_add, ih (by omega), sumUp_one (h c (by omega)), Nat.succ_mul]
theorem adK_sum {f : Nat → Nat} {st : Nat → Nat → Nat} {nn : Nat} (h : ∀ k c, k < nn → c < 3 → st k c < nn) : ∀ k, k ≤ nn → sumUp (fun t => adK f st t k) nn = 3 * sumUp f k := by
  intro k
  induction k with
  | zero => intro _; simp only [adK, sumUp]; rw [sumUp_0]
  | succ k ih =>
    intro hk
    simp only [adK]
    rw [sumUp_add, ih (by omega), adL_sum (fun c hc => h k c (by omega) hc) 3 (Nat.le_refl _)]
    simp only [sumUp]
    omega
theorem wyN_sum {st : Nat → Nat → Nat} {i0 nn : Nat} (h0 : i0 < nn) (h : ∀ k c, k < nn → c < 3 → st k c < nn) (n : Nat) : sumUp (wyN st i0 nn n) nn = 3 ^ n := by
  induction n with
  | zero =>
    show sumUp (fun t => if t = i0 then 1 else 0) nn = 1
    rw [sumUp_cg (g := fun t => if i0 = t then 1 else 0) (fun j _ => by simp [eq_comm]), sumUp_one h0]
  | succ n ih =>
    show sumUp (fun t => adK (wyN st i0 nn n) st t nn) nn = _
    rw [adK_sum h nn (Nat.le_refl _), ih, Nat.pow_succ, Nat.mul_comm]
theorem wyN_le {st : Nat → Nat → Nat} {i0 nn : Nat} (h0 : i0 < nn) (h : ∀ k c, k < nn → c < 3 → st k c < nn) (n t : Nat) (ht : t < nn) : wyN st i0 nn n t ≤ 3 ^ n := by
  rw [← wyN_sum h0 h n]
  exact sumUp_ge ht
def anyUp (P : Nat → Bool) : Nat → Bool
  | 0 => false
  | n + 1 => anyUp P n || P n
theorem anyUp_f {P : Nat → Bool} {n : Nat} (h : P n = false) : anyUp P (n + 1) = anyUp P n := by simp [anyUp, h]
theorem anyUp_t {P : Nat → Bool} {n : Nat} (h : P n = true) : anyUp P (n + 1) = true := by simp [anyUp, h]
theorem anyUp_iff {P : Nat → Bool} {n : Nat} : anyUp P n = true ↔ ∃ k, k < n ∧ P k = true := by
  induction n with
  | zero => simp [anyUp]
  | succ n ih =>
    simp only [anyUp, Bool.or_eq_true, ih]
    constructor
    · rintro (⟨k, h1, h2⟩ | h)
      · exact ⟨k, by omega, h2⟩
      · exact ⟨n, by omega, h⟩
    · rintro ⟨k, h1, h2⟩
      by_cases e : k = n
      · exact Or.inr (e ▸ h2)
      · exact Or.inl ⟨k, by omega, h2⟩
/-- free ends, of one letter more -/
abbrev gfP (kind longOf letters : Nat → Nat) (words : Nat) (F : Nat → Bool) : Nat → Bool := fun b => F (b / 3) && decide (hbM kind longOf letters words (b / 3) (b % 3) = 0)
def gfS (kind longOf letters : Nat → Nat) (words : Nat) (F : Nat → Bool) (m : Nat) : Bool := anyUp (fun b => gfP kind longOf letters words F b && decide (nxM (b / 3) (b % 3) = m)) 120
theorem nxOK_n {next heard kind longOf letters : Nat → Nat} {words b : Nat} (h : nxOK next heard kind longOf letters words) (hb : b < 120) : next b = nxM (b / 3) (b % 3) := by
  have := h.1 (b / 3) (b % 3) (by omega) (Nat.mod_lt _ (by decide))
  rwa [Nat.div_add_mod] at this
theorem nxOK_h {next heard kind longOf letters : Nat → Nat} {words b : Nat} (h : nxOK next heard kind longOf letters words) (hb : b < 120) : heard b = hbM kind longOf letters words (b / 3) (b % 3) := by
  have := h.2 (b / 3) (b % 3) (by omega) (Nat.mod_lt _ (by decide))
  rwa [Nat.div_add_mod] at this

theorem adK_cg {f g : Nat → Nat} {st : Nat → Nat → Nat} {t nn : Nat} (h : ∀ j, j < nn → f j = g j) : ∀ k, k ≤ nn → adK f st t k = adK g st t k := by
  intro k
  induction k with
  | zero => intro _; rfl
  | succ k ih =>
    intro hk
    simp only [adK, adL]
    rw [ih (by omega), h k (by omega)]
theorem ad_put {wt wy : Nat → Nat} {st : Nat → Nat → Nat} {k c : Nat} (h : ∀ j, j < 640 → wt j = adK wy st j k + adL wy st k j c) : ∀ j, j < 640 → va_up wt (st k c) (wt (st k c) + wy k) j = adK wy st j k + adL wy st k j (c + 1) := by
  intro j hj
  by_cases e : j = st k c
  · rw [e, va_up_self, h _ (by omega)]
    simp only [adL, if_pos]
    omega
  · rw [va_up_ne _ _ e, h j hj]
    simp only [adL]
    rw [if_neg (fun z => e z.symm)]
    omega
theorem ad_skip {wt wy : Nat → Nat} {st : Nat → Nat → Nat} {k c : Nat} (h : ∀ j, j < 640 → wt j = adK wy st j k + adL wy st k j c) (hc : c = 3 ∨ wy k = 0) : ∀ j, j < 640 → wt j = adK wy st j (k + 1) := by
  intro j hj
  rw [h j hj]
  show _ = adK wy st j k + adL wy st k j 3
  rcases hc with e | e
  · rw [e]
  · rw [adL_0 e, adL_0 e]
/-- the ways found -/
def wyOK (kind longOf letters : Nat → Nat) (words n : Nat) (ways : Nat → Nat) : Prop := ∀ j, j < 640 → ways j = wyN (stC kind longOf letters words) 0 640 n j
def F_have (kind longOf letters : Nat → Nat) (words : Nat) (n : Int32) (set : Nat) : Int64 :=
  if inN n 0 30 = true ∧ 0 < words then lN (sumUp (fun e => wyN (stC kind longOf letters words) 0 640 n.toNatClampNeg (16 * e + set)) 40) else -9223372036854775808
theorem gf_up {F : Nat → Bool} {kind longOf letters : Nat → Nat} {words b : Nat} {ft : Nat → Nat} (h : ∀ j, j < 40 → ft j = (anyUp (fun b => gfP kind longOf letters words F b && decide (nxM (b / 3) (b % 3) = j)) b).toNat) (hp : gfP kind longOf letters words F b = true) : ∀ j, j < 40 → va_up ft (nxM (b / 3) (b % 3)) 1 j = (anyUp (fun b => gfP kind longOf letters words F b && decide (nxM (b / 3) (b % 3) = j)) (b + 1)).toNat := by
  intro j hj
  by_cases e : j = nxM (b / 3) (b % 3)
  · rw [anyUp_t (by rw [hp, e]; simp), e, va_up_self]; rfl
  · rw [va_up_ne _ _ e, anyUp_f (by rw [decide_eq_false (fun z => e z.symm), Bool.and_false]), h j hj]
theorem gf_no {F : Nat → Bool} {kind longOf letters : Nat → Nat} {words b : Nat} {ft : Nat → Nat} (h : ∀ j, j < 40 → ft j = (anyUp (fun b => gfP kind longOf letters words F b && decide (nxM (b / 3) (b % 3) = j)) b).toNat) (hp : gfP kind longOf letters words F b = false) : ∀ j, j < 40 → ft j = (anyUp (fun b => gfP kind longOf letters words F b && decide (nxM (b / 3) (b % 3) = j)) (b + 1)).toNat := by
  intro j hj
  rw [anyUp_f (by rw [hp]; rfl), h j hj]
/-- ends of the rows of n letters in which no word stands -/
def frN (kind longOf letters : Nat → Nat) (words : Nat) : Nat → Nat → Bool
  | 0 => fun m => decide (m = 0)
  | n + 1 => gfS kind longOf letters words (frN kind longOf letters words n)
def F_longest (kind longOf letters : Nat → Nat) (words : Nat) : Int32 :=
  if words = 0 then -3 else match fstUp (fun n => !anyUp (gfP kind longOf letters words (frN kind longOf letters words n)) 120) 41 with
    | some v => nI (v - 1)
    | none => -9
/-- in each form of a word another stands -/
def isInB (kind longOf letters : Nat → Nat) (w o f : Nat) : Bool := decide (0 < tmW kind longOf letters (fun k => hdF (kind o) (longOf o) (fun k => letters (4 * o + k)) f k) (longOf o) w)
def spU (kind longOf letters : Nat → Nat) (w n : Nat) : Bool := anyUp (fun o => decide (o ≠ w) && (isInB kind longOf letters w o 0 && isInB kind longOf letters w o 1)) n
def F_spare (kind longOf letters : Nat → Nat) (words : Nat) : Int32 := if words = 0 then -3 else nI (bitsUp (fun w => spU kind longOf letters w words) words)
theorem sp_t {x p : Nat} {b : Bool} : (x ||| (if b then p else 0)) ||| p = x ||| (if true then p else 0) := by cases b <;> simp [Nat.or_assoc]
theorem or_0 {x : Nat} : x ||| 0 = x := Nat.or_zero x
theorem bitsUp_s {P : Nat → Bool} {n : Nat} : bitsUp P n ||| (if P n then 2 ^ n else 0) = bitsUp P (n + 1) := rfl

theorem nI_dec {n : Nat} (h : 1 ≤ n) : nI n + Int32.ofInt (-1) = nI (n - 1) := by
  rw [nI_dm, pk_sub h]
def ovD (P : Nat → Bool) : Nat → Nat
  | 0 => 0
  | n + 1 => if P (n + 1) then n + 1 else ovD P n
theorem ovD_t {P : Nat → Bool} {n : Nat} (h0 : 0 < n) (h : P n = true) : ovD P n = n := by
  cases n with
  | zero => omega
  | succ n => simp [ovD, h]
theorem ovD_f {P : Nat → Bool} {n : Nat} (h0 : 0 < n) (h : P n = false) : ovD P n = ovD P (n - 1) := by
  cases n with
  | zero => omega
  | succ n => simp [ovD, h]
/-- the last n letters of one are the first n of another -/
def ovP (longOf letters : Nat → Nat) (a b n k : Nat) : Bool := decide (∀ j, j < k → letters (4 * a + longOf a - n + j) = letters (4 * b + j))
theorem ovP_s {longOf letters : Nat → Nat} {a b n k : Nat} (h : ovP longOf letters a b n k = true) (e : letters (4 * a + longOf a - n + k) = letters (4 * b + k)) : ovP longOf letters a b n (k + 1) = true := by
  simp only [ovP, decide_eq_true_eq] at h ⊢
  exact lt_s h e
theorem ovP_n {longOf letters : Nat → Nat} {a b n k : Nat} (e : letters (4 * a + longOf a - n + k) ≠ letters (4 * b + k)) : ovP longOf letters a b n (k + 1) = false := by
  simp only [ovP, decide_eq_false_iff_not]
  exact fun h => e (h k (Nat.lt_succ_self k))
theorem ovP_ff {longOf letters : Nat → Nat} {a b n k m : Nat} (h : ovP longOf letters a b n k = false) (hk : k ≤ m) : ovP longOf letters a b n m = false := by
  simp only [ovP, decide_eq_false_iff_not] at h ⊢
  exact fun z => h (fun j hj => z j (Nat.lt_of_lt_of_le hj hk))
theorem ovP_tt {longOf letters : Nat → Nat} {a b n k m : Nat} (h : ovP longOf letters a b n k = true) (hk : m ≤ k) : ovP longOf letters a b n m = true := by
  simp only [ovP, decide_eq_true_eq] at h ⊢
  exact fun j hj => h j (Nat.lt_of_lt_of_le hj hk)
theorem ovP_0 {longOf letters : Nat → Nat} {a b n : Nat} : ovP longOf letters a b n 0 = true := by simp [ovP]
abbrev i2n (x : Int32) : Nat := x.toNatClampNeg
def F_over (words : Nat) (longOf letters : Nat → Nat) (x y : Int32) : Int32 :=
  if isW words x = true ∧ isW words y = true then nI (ovD (fun n => ovP longOf letters (i2n x) (i2n y) n n) (min (longOf (i2n x)) (longOf (i2n y)))) else -1
def F_hush (words said : Nat) : Int32 := if words = 0 then -3 else nI said
def G_hush (words said : Nat) : Nat := if words = 0 then said else 0
def okSay (words said : Nat) (v : Int32) : Bool := inN v 0 2 && (decide (0 < words) && decide (said ≠ 60))
def G_sayRow (words said : Nat) (saidRow : Nat → Nat) (v : Int32) : Nat → Nat := if okSay words said v then va_up saidRow said (i2n v) else saidRow
def G_said (words said : Nat) (v : Int32) : Nat := if okSay words said v then said + 1 else said
def F_say (words said : Nat) (kind longOf letters saidRow : Nat → Nat) (v : Int32) : Int32 :=
  if okSay words said v then nI (hbW kind longOf letters (va_up saidRow said (i2n v)) words (said + 1)) else if inN v 0 2 = false then -2 else if words = 0 then -3 else -4
def okSpell (words : Nat) (longOf : Nat → Nat) (x k v : Int32) : Bool := isW words x && (isW (longOf (i2n x)) k && inN v 0 2)
def F_spell (words : Nat) (longOf letters : Nat → Nat) (x k v : Int32) : Int32 :=
  if okSpell words longOf x k v then nI (letters (4 * i2n x + i2n k)) else if isW words x = true ∧ isW (longOf (i2n x)) k = true then -2 else -1
def G_spell (words : Nat) (longOf letters : Nat → Nat) (x k v : Int32) : Nat → Nat := if okSpell words longOf x k v then va_up letters (4 * i2n x + i2n k) (i2n v) else letters
def frmB (kind longOf letters : Nat → Nat) (w : Nat) : Bool := !decide (∀ k, k < longOf w → hdF (kind w) (longOf w) (fun k => letters (4 * w + k)) 0 k = hdF (kind w) (longOf w) (fun k => letters (4 * w + k)) 1 k)
def F_ofWord (words said : Nat) (kind longOf letters saidRow : Nat → Nat) (x what : Int32) : Int32 :=
  if isW words x = true then
    if inN what 10 13 = true then (if i2n what - 10 < longOf (i2n x) then nI (letters (4 * i2n x + (i2n what - 10))) else -9)
    else if what = nI 0 then nI (kind (i2n x)) else if what = nI 1 then nI (longOf (i2n x)) else if what = nI 2 then nI (if frmB kind longOf letters (i2n x) then 2 else 1) else if what = nI 3 then nI (tmW kind longOf letters saidRow said (i2n x)) else -2
  else -1
theorem isW_k {k : Int32} {ln : Nat} (hl : 1 ≤ ln) (hl2 : ln ≤ 60) : inN k 0 (ln - 1) = isW ln k := by
  unfold isW inN
  by_cases h : k < 0
  · have h1 : ¬ (0 : Int32) ≤ k := Int32.not_le.mpr h
    have h2 : ¬ nI 0 ≤ k := h1
    simp [h1, h2]
  · obtain ⟨j, hj, rfl⟩ := nI_of h
    simp only [nI_leI hj (show ln - 1 < 2 ^ 31 by omega), nI_ltI hj (show ln < 2 ^ 31 by omega)]
    have e : (j ≤ ln - 1) ↔ j < ln := by omega
    simp only [e]
    rfl

theorem isW_m {k : Int32} {n : Nat} (hn : n ≤ 60) : (decide (nI 0 ≤ k) && decide (k ≤ nI n - nI 1)) = isW n k := by
  rcases n with _ | n
  · unfold isW
    by_cases h : k < 0
    · have h1 : ¬ (0 : Int32) ≤ k := Int32.not_le.mpr h
      have h2 : ¬ nI 0 ≤ k := h1
      simp [h1, h2]
    · obtain ⟨j, hj, rfl⟩ := nI_of h
      have h3 : ¬ nI j ≤ nI 0 - nI 1 := fun z => by
        have h4 := Int32.le_iff_toInt_le.mp z
        rw [nI_toInt hj] at h4
        have h5 : (nI 0 - nI 1).toInt = -1 := by decide
        omega
      have h6 : ¬ nI j < nI 0 := nI_pos hj
      rw [decide_eq_false h3, decide_eq_false h6, Bool.and_false, Bool.and_false]
  · rw [pk_sub (by omega)]
    exact isW_k (ln := n + 1) (by omega) hn
