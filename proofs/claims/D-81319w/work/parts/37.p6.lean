/-! what the system finds in a row: plain -/
set_option maxRecDepth 100000
/-- one array of the world, by its place -/
def sI (dA : Nat → ClassId) (k h n : Nat) (f : Nat → Int32) (ex : va_W) : va_W := ex.set k (h, aI dA n f)
def sL (dA : Nat → ClassId) (k h n : Nat) (f : Nat → Int64) (ex : va_W) : va_W := ex.set k (h, aL dA n f)
theorem set_me {α : Type} {l : List α} {k : Nat} {x : α} (h : l[k]? = some x) : l = l.set k x := by
  obtain ⟨h1, h2⟩ := List.getElem?_eq_some_iff.mp h
  exact (h2 ▸ (List.set_getElem_self h1)).symm
theorem set_get {α : Type} {l : List α} {k : Nat} {x y : α} (h : l[k]? = some x) : (l.set k y)[k]? = some y := by
  obtain ⟨h1, -⟩ := List.getElem?_eq_some_iff.mp h
  simp [h1]
theorem nvS.cg {D : va_G} {a0 : Nat} {w : va_W} {k h : Nat} {e e' : va_E} {H0 H : Heap} {locs : List Loc} (hX : nvS D a0 (w.set k (h, e)) H0 H locs) (hc : va_at D vwCl (h, e) H → va_at D vwCl (h, e') H) : nvS D a0 (w.set k (h, e')) H0 H locs := by
  by_cases hk : k < w.length
  · refine ⟨fun i q hq => ?_, ?_, hX.2.2⟩
    · by_cases e1 : i = k
      · subst e1
        rw [List.getElem?_set_self hk] at hq
        cases hq
        exact hc (hX.1 i (h, e) (List.getElem?_set_self hk))
      · rw [List.getElem?_set_ne (fun z => e1 z.symm)] at hq
        exact hX.1 i q (by rw [List.getElem?_set_ne (fun z => e1 z.symm)]; exact hq)
    · have hD := va_D_nd.mp hX.2.1
      have em : (w.set k (h, e')).map Prod.fst = (w.set k (h, e)).map Prod.fst := by rw [List.map_set, List.map_set]
      refine va_D_nd.mpr ⟨by rw [em]; exact hD.1, fun q hq => ?_⟩
      have h1 : q.1 ∈ (w.set k (h, e')).map Prod.fst := List.mem_map_of_mem hq
      rw [em] at h1
      obtain ⟨q', hq', e2⟩ := List.mem_map.mp h1
      rw [← e2]
      exact hD.2 q' hq'
  · rw [List.set_eq_of_length_le (by omega)] at hX ⊢
    exact hX
theorem nvS.cgI {D : va_G} {dA : Nat → ClassId} {a0 : Nat} {w : va_W} {k h n : Nat} {f g : Nat → Int32} {H0 H : Heap} {locs : List Loc} (hX : nvS D a0 (sI dA k h n f w) H0 H locs) (hc : ∀ j, j < n → f j = g j) : nvS D a0 (sI dA k h n g w) H0 H locs := nvS.cg hX (aI_cg hc D vwCl h H).mp
theorem aL_cg {dA : Nat → ClassId} {n : Nat} {f g : Nat → Int64} (h : ∀ j, j < n → f j = g j) : ∀ (D : va_G) (cl : List vw_C) (a : Nat) (H : Heap), va_at D cl (a, aL dA n f) H ↔ va_at D cl (a, aL dA n g) H := by
  intro D cl a H
  have e : vp_cell (dA 1) (n, .inr (.inl f)) = vp_cell (dA 1) (n, .inr (.inl g)) := by
    show arrV (dA 1) n (fun j => .long (f j)) = arrV (dA 1) n (fun j => .long (g j))
    unfold arrV
    congr 1
    congr 1
    funext j
    show Value.long (f j.val) = Value.long (g j.val)
    rw [h j.val j.isLt]
  show H[a]? = some (vp_cell (dA 1) (n, .inr (.inl f))) ↔ H[a]? = some (vp_cell (dA 1) (n, .inr (.inl g)))
  rw [e]
theorem nvS.cgL {D : va_G} {dA : Nat → ClassId} {a0 : Nat} {w : va_W} {k h n : Nat} {f g : Nat → Int64} {H0 H : Heap} {locs : List Loc} (hX : nvS D a0 (sL dA k h n f w) H0 H locs) (hc : ∀ j, j < n → f j = g j) : nvS D a0 (sL dA k h n g w) H0 H locs := nvS.cg hX (aL_cg hc D vwCl h H).mp
def flI (v : Int32) (i : Nat) (f : Nat → Int32) : Nat → Int32 := fun j => if j < i then v else f j
def flL (v : Int64) (i : Nat) (f : Nat → Int64) : Nat → Int64 := fun j => if j < i then v else f j
theorem flI_0 {v : Int32} {f : Nat → Int32} : flI v 0 f = f := by funext j; simp [flI]
theorem flL_0 {v : Int64} {f : Nat → Int64} : flL v 0 f = f := by funext j; simp [flL]
theorem flI_s {v : Int32} {i : Nat} {f : Nat → Int32} : upd (flI v i f) i v = flI v (i + 1) f := by
  funext j
  unfold upd flI
  by_cases e : j = i
  · rw [if_pos e, if_pos (by omega)]
  · rw [if_neg e]
    by_cases q : j < i
    · rw [if_pos q, if_pos (by omega)]
    · rw [if_neg q, if_neg (by omega)]
theorem flL_s {v : Int64} {i : Nat} {f : Nat → Int64} : vp_updL (flL v i f) i v = flL v (i + 1) f := by
  funext j
  unfold vp_updL flL
  by_cases e : j = i
  · rw [if_pos e, if_pos (by omega)]
  · rw [if_neg e]
    by_cases q : j < i
    · rw [if_pos q, if_pos (by omega)]
    · rw [if_neg q, if_neg (by omega)]
/-- the bits of a number -/
def bcI (x : Int32) : Int32 :=
  let sh := fun (x y : Int32) => (x.toUInt32 >>> (y.toUInt32 &&& Int32.toUInt32 31)).toInt32
  let a := x - (sh x (nI 1) &&& nI 1431655765)
  let b := (a &&& nI 858993459) + (sh a (nI 2) &&& nI 858993459)
  let c := (b + sh b (nI 4)) &&& nI 252645135
  let d := c + sh c (nI 8)
  let e := d + sh d (nI 16)
  e &&& nI 63
def popN (x : Nat) : Nat := x % 2 + x / 2 % 2 + x / 4 % 2 + x / 8 % 2
theorem bcI_n : ∀ x : Nat, x < 16 → bcI (nI x) = nI (popN x) := by decide +kernel
theorem popN_le (x : Nat) : popN x ≤ 4 := by unfold popN; omega
theorem bitsUp_tb {P : Nat → Bool} {n w : Nat} (h : w < n) : (bitsUp P n).testBit w = P w := by
  induction n with
  | zero => omega
  | succ n ih =>
    simp only [bitsUp, Nat.testBit_or]
    by_cases e : w = n
    · subst e
      have h1 : (bitsUp P w).testBit w = false := Nat.testBit_lt_two_pow (bitsUp_lt P w)
      cases hP : P w with
      | true => rw [h1, if_pos rfl, Nat.testBit_two_pow_self]; rfl
      | false => rw [h1, if_neg (by decide), Nat.zero_testBit]; rfl
    · rw [ih (by omega)]
      cases hP : P n with
      | true => rw [if_pos rfl, Nat.testBit_two_pow_of_ne (fun z => e z.symm), Bool.or_false]
      | false => rw [if_neg (by decide), Nat.zero_testBit, Bool.or_false]
theorem bitsUp_d {P : Nat → Bool} {n w : Nat} (h : w < n) : bitsUp P n / 2 ^ w % 2 = (P w).toNat := by
  have h1 := bitsUp_tb (P := P) h
  rw [Nat.testBit_eq_decide_div_mod_eq] at h1
  have h2 : bitsUp P n / 2 ^ w % 2 < 2 := Nat.mod_lt _ (by decide)
  cases hP : P w with
  | true => rw [hP] at h1; simpa using h1
  | false =>
    rw [hP] at h1
    have := of_decide_eq_false h1
    show _ = 0
    omega
theorem cntUp_b {P : Nat → Bool} {n : Nat} : cntUp P (n + 1) = cntUp P n + (P n).toNat := by
  simp only [cntUp]
  cases P n <;> rfl
