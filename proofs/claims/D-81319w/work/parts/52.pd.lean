/-! sets of ends as bits of a long: plain -/
set_option maxRecDepth 100000
theorem lN_or (a b : Nat) : lN a ||| lN b = lN (a ||| b) := by
  apply Int64.toBitVec_inj.mp
  show BitVec.ofNat 64 a ||| BitVec.ofNat 64 b = BitVec.ofNat 64 (a ||| b)
  apply BitVec.eq_of_toNat_eq
  simp [BitVec.toNat_or, Nat.or_mod_two_pow]
theorem lN_and1 {x : Nat} (h : x < 2 ^ 63) : lN x &&& lN 1 = lN (x % 2) := by
  apply Int64.toBitVec_inj.mp
  show BitVec.ofNat 64 x &&& BitVec.ofNat 64 1 = BitVec.ofNat 64 (x % 2)
  apply BitVec.eq_of_toNat_eq
  rw [BitVec.toNat_and, BitVec.toNat_ofNat, BitVec.toNat_ofNat, BitVec.toNat_ofNat, Nat.mod_eq_of_lt (show x < 2 ^ 64 by omega), show 1 % 2 ^ 64 = 1 from by decide, Nat.and_one_is_mod, Nat.mod_eq_of_lt (show x % 2 < 2 ^ 64 by omega)]
theorem lsh_n : ∀ e : Nat, e < 63 → (((nI e).toInt64 &&& 63).toBitVec.smod 64).toNat = e := by decide +kernel
theorem lN_shr {x e : Nat} (h : x < 2 ^ 63) (he : e < 63) : lN x >>> ((nI e).toInt64 &&& 63) = lN (x / 2 ^ e) := by
  apply Int64.toInt_inj.mp
  have h2 : x / 2 ^ e ≤ x := Nat.div_le_self _ _
  have h3 : (lN x >>> ((nI e).toInt64 &&& 63)).toInt = (lN x).toInt >>> e := by
    show ((lN x).toBitVec.sshiftRight (((nI e).toInt64 &&& 63).toBitVec.smod 64).toNat).toInt = _
    rw [lsh_n e he, BitVec.toInt_sshiftRight]
    rfl
  rw [h3, pk_lT h, pk_lT (by omega), Int.shiftRight_eq_div_pow]
  rfl
theorem lN_shl1 : ∀ k : Nat, k < 63 → lN 1 <<< ((nI k).toInt64 &&& 63) = lN (2 ^ k) := by decide +kernel
/-- the ends behind the first n steps -/
def nxB (kind longOf letters : Nat → Nat) (words : Nat) (F : Nat → Bool) (n : Nat) : Nat := bitsUp (fun z => anyUp (fun b => gPX kind longOf letters words F b && decide (nxE (b / 3) (b % 3) = z)) n) 54
section
variable {kind longOf letters : Nat → Nat} {words : Nat} {F : Nat → Bool} {n : Nat}
theorem nxB_lt : nxB kind longOf letters words F n < 2 ^ 54 := bitsUp_lt _ _
theorem bitsUp_z {P : Nat → Bool} {m : Nat} (h : ∀ k, k < m → P k = false) : bitsUp P m = 0 := by
  induction m with
  | zero => rfl
  | succ m ih => simp only [bitsUp]; rw [ih (fun k hk => h k (by omega)), h m (Nat.lt_succ_self m)]; simp
theorem nxB_3 (h0 : F 0 = false) : nxB kind longOf letters words F 3 = 0 := by
  refine bitsUp_z fun z _ => ?_
  have e : ∀ b, b < 3 → gPX kind longOf letters words F b = false := fun b hb => by
    unfold gPX
    rw [show b / 3 = 0 by omega, h0, Bool.false_and]
  simp only [anyUp, e 0 (by decide), e 1 (by decide), e 2 (by decide), Bool.false_and, Bool.or_self]
theorem nxB_t (h : gPX kind longOf letters words F n = true) (hn : nxE (n / 3) (n % 3) < 54) : nxB kind longOf letters words F n ||| 2 ^ nxE (n / 3) (n % 3) = nxB kind longOf letters words F (n + 1) := by
  apply Nat.eq_of_testBit_eq
  intro i
  rw [Nat.testBit_or]
  unfold nxB
  by_cases q : i < 54
  · rw [bitsUp_tb q, bitsUp_tb q]
    show _ = (anyUp _ n || (gPX kind longOf letters words F n && decide (nxE (n / 3) (n % 3) = i)))
    rw [h, Bool.true_and, Nat.testBit_two_pow]
  · have a : ∀ R : Nat → Bool, (bitsUp R 54).testBit i = false := fun R => Nat.testBit_lt_two_pow (Nat.lt_of_lt_of_le (bitsUp_lt R 54) (Nat.pow_le_pow_right (by decide) (by omega)))
    rw [a, a, Nat.testBit_two_pow_of_ne (by omega)]
    rfl
theorem nxB_f (h : gPX kind longOf letters words F n = false) : nxB kind longOf letters words F n ||| 0 = nxB kind longOf letters words F (n + 1) := by
  rw [Nat.or_zero]
  unfold nxB
  refine bitsUp_cg fun z _ => ?_
  rw [anyUp_f (by rw [h, Bool.false_and])]
theorem gPX_at {e c : Nat} (hc : c < 3) : gPX kind longOf letters words F (3 * e + c) = (F e && decide (hbE kind longOf letters words (3 * e + c) = 0)) := by
  unfold gPX
  rw [show (3 * e + c) / 3 = e by omega, show (3 * e + c) % 3 = c by omega]
theorem nxB_at {e c : Nat} (hc : c < 3) : nxE ((3 * e + c) / 3) ((3 * e + c) % 3) = nxE e c := by
  rw [show (3 * e + c) / 3 = e by omega, show (3 * e + c) % 3 = c by omega]
theorem nxB_fr {j : Nat} : nxB kind longOf letters words (frX kind longOf letters words j) 162 = bitsUp (frX kind longOf letters words (j + 1)) 54 := rfl
theorem bits_0 {P : Nat → Bool} {m : Nat} : bitsUp P m = 0 ↔ anyUp P m = false := by
  constructor
  · intro h
    cases ha : anyUp P m with
    | false => rfl
    | true =>
      obtain ⟨k, h1, h2⟩ := anyUp_iff.mp ha
      have := bitsUp_tb (P := P) h1
      rw [h, h2, Nat.zero_testBit] at this
      cases this
  · intro h
    refine bitsUp_z fun k hk => ?_
    cases hp : P k with
    | false => rfl
    | true => rw [anyUp_iff.mpr ⟨k, hk, hp⟩] at h; cases h
end
theorem lg_60 {j : Nat} (h : j ≤ 61) : nI 60 ≤ nI j - nI 1 ↔ 61 ≤ j := by
  rcases j with _ | j
  · constructor
    · intro z
      have := Int32.le_iff_toInt_le.mp z
      have e1 : (nI 60).toInt = 60 := by decide
      have e2 : (nI 0 - nI 1).toInt = -1 := by decide
      omega
    · intro z; omega
  · rw [pk_sub (by omega), nI_leI (by decide) (by omega)]
    omega
theorem lg_2 {kind longOf letters : Nat → Nat} {words : Nat} : bitsUp (frX kind longOf letters words 0) 54 = 2 := by
  show bitsUp (fun e => decide (e = 1)) 54 = 2
  decide +kernel
theorem lg_s (j : Nat) : nI j - nI 1 + 1 = nI (j + 1) - nI 1 := by
  rw [pk_sub (show 1 ≤ j + 1 by omega), Nat.add_sub_cancel]
  exact Int32.sub_add_cancel (nI j) 1
theorem nB_ij {x y : Bool} (h : nB x = nB y) : x = y := by
  cases x <;> cases y
  · rfl
  · exact absurd h (by decide)
  · exact absurd h (by decide)
  · rfl
theorem soB_0 {kind longOf letters rWord rMany rStands rRow : Nat → Nat} : soB kind longOf letters 0 rWord rMany rStands rRow = true := by simp [soB]
theorem soB_s {kind longOf letters rWord rMany rStands rRow : Nat → Nat} {x : Nat} : (soB kind longOf letters x rWord rMany rStands rRow && decide (decide (0 < tmW kind longOf letters (fun k => rRow (8 * x + k)) (rMany x) (rWord x)) = decide (rStands x = 1))) = soB kind longOf letters (x + 1) rWord rMany rStands rRow :=
  lt_dec (P := fun q => decide (0 < tmW kind longOf letters (fun k => rRow (8 * q + k)) (rMany q) (rWord q)) = decide (rStands q = 1))
theorem nvE_n0 {a0 ez : Nat} {s : State} (h : nvE a0 ez s) : va_Nw (.fieldLinkNest "OneLongRow" 225 "OneLongRow$Reading" "w" "I" "OneLongRow") s := h.2.2.2.2.2.2.2.1 ("OneLongRow", 225, "OneLongRow$Reading", "w", "I", "OneLongRow") (List.mem_of_getElem? (i := 0) rfl)
theorem nvE_n1 {a0 ez : Nat} {s : State} (h : nvE a0 ez s) : va_Nw (.fieldLinkNest "OneLongRow" 228 "OneLongRow$Reading" "row" "[I" "OneLongRow") s := h.2.2.2.2.2.2.2.1 ("OneLongRow", 228, "OneLongRow$Reading", "row", "[I", "OneLongRow") (List.mem_of_getElem? (i := 1) rfl)
theorem nvE_n2 {a0 ez : Nat} {s : State} (h : nvE a0 ez s) : va_Nw (.fieldLinkNest "OneLongRow" 231 "OneLongRow$Reading" "stands" "Z" "OneLongRow") s := h.2.2.2.2.2.2.2.1 ("OneLongRow", 231, "OneLongRow$Reading", "stands", "Z", "OneLongRow") (List.mem_of_getElem? (i := 2) rfl)
