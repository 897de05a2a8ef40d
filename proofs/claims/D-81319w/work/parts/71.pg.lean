/-! the words anew: plain -/
set_option maxRecDepth 100000
section TLN
variable {D : va_G} {dA : Nat → ClassId} {a0 : Nat} {H0 H : Heap} {locs : List Loc}
variable {x words : Nat} {kind longOf letters : Nat → Nat} {edW ez : Nat} {fW : Nat → Option Nat} {pa la : Nat → Nat} {rdgs : Nat} {rWord rMany rStands rRow : Nat → Nat} {edR : Nat} {fR : Nat → Option Nat} {pr lr : Nat → Nat} {so : Nat → Option Nat} {shL : Nat → Nat} {cl : Nat → Int32} {sh : Nat → Option Nat} {pS lS : Nat → Nat} {col : Nat → Nat} {tl tl' : va_W}
variable {zl ed n : Nat} {mc : Int32} {fl : Nat → Option Nat} {kd ln lt pa' la' : Nat → Nat}
theorem pRun_le {cells : Nat → Int32} {en : Nat} : ∀ (f r p : Nat), p ≤ en → (pRun cells en f r p).2.1 ≤ en := by
  intro f
  induction f with
  | zero => intro r p h; exact h
  | succ f ih =>
    intro r p h
    show (if r = 0 ∨ p < en then _ else _ : Bool × (Nat × Nat)).2.1 ≤ en
    split
    · split
      · exact ih _ _ (pW_le h)
      · exact pW_le h
    · exact h
theorem neg100 {k : Nat} (h : k < 1000) : ¬ (0 : Int32) ≤ (-100) - nI k := by
  intro z
  have z1 := Int32.le_iff_toInt_le.mp z
  have h1 : ((0 : Int32)).toInt = 0 := by decide
  have h2 : ((-100 : Int32)).toInt = -100 := by decide
  rw [Int32.toInt_sub, nI_toInt (by omega), h1, h2, Int.bmod_eq_of_le (by omega) (by omega)] at z1
  omega
theorem pa_0 {cl : Nat → Int32} {p m : Nat} (h : isg cl p (p + m) 119 = false) : pAll cl (p + m) p = (false, (p, 0)) := by
  unfold pAll
  rw [h]
  rfl
theorem pa_1 {cl : Nat → Int32} {p m : Nat} (h : isg cl p (p + m) 119 = true) : pAll cl (p + m) p = pRun cl (p + m) 4 0 (p + 1) := by
  unfold pAll
  rw [h, if_pos rfl]
theorem rdL.mono {x0 : Nat} {la : Nat → Nat} (h : rdL dA x0 zl ed mc n fl kd ln lt pa la tl) (k : ∀ z, z ∈ tl → z ∈ tl') : rdL dA x0 zl ed mc n fl kd ln lt pa la tl' :=
  ⟨k _ h.1, k _ h.2.1, fun i hi => ⟨(h.2.2.1 i hi).1, k _ (h.2.2.1 i hi).2.1, (h.2.2.1 i hi).2.2.elim fun g z => ⟨g, k _ z.1, z.2⟩⟩, h.2.2.2⟩
theorem rdL.kpO {x0 : Nat} {la : Nat → Nat} {q m : Nat} {f : Nat → Option Nat} (h : rdL dA x0 zl ed mc n fl kd ln lt pa la tl) (hu : unW tl) (hq : (q, aO dA m f) ∈ tl) (k : kpW q tl tl') (hne : ed ≠ q) : rdL dA x0 zl ed mc n fl kd ln lt pa la tl' :=
  ⟨k _ h.1 (hu.ne h.1 hq ni_ne), k _ h.2.1 hne, fun i hi => ⟨(h.2.2.1 i hi).1, k _ (h.2.2.1 i hi).2.1 (hu.ne (h.2.2.1 i hi).2.1 hq ni_ne), (h.2.2.1 i hi).2.2.elim fun g z => ⟨g, k _ z.1 (hu.ne z.1 hq io_ne), z.2⟩⟩, h.2.2.2⟩
theorem rdL.el {x0 : Nat} {la : Nat → Nat} (h : rdL dA x0 zl ed mc n fl kd ln lt pa la tl) (hk : ∀ w, kd w < 3) : ∀ i, i < n → ∀ y, fl i = some y → ∃ ci vs q, (y, .inr (ci, vs)) ∈ tl ∧ vwCl[ci]? = some q ∧ (q.1, "java/lang/Object") ∈ nvCs := by
  intro i hi y hy
  obtain ⟨h1, h2, -⟩ := h.2.2.1 i hi
  rw [h1] at hy
  cases hy
  exact ⟨_, _, plQ (kd i), h2, plQ_c (hk i), plQ_s (hk i)⟩
theorem nvS.fr2 {pre l r ex : va_W} (h : nvS D a0 (pre ++ ((l ++ r) ++ ex)) H0 H locs) : ∀ z, z ∈ l → ∀ z', z' ∈ r → z'.1 ≠ z.1 := by
  intro z hz z' hz' e
  have hn := (va_D_nd.mp h.2.1).1
  rw [List.map_append, List.map_append, List.map_append] at hn
  have h2 := (List.nodup_append.mp (List.nodup_append.mp hn).2.1).1
  exact (List.nodup_append.mp h2).2.2 _ (List.mem_map.mpr ⟨z, hz, rfl⟩) _ (List.mem_map.mpr ⟨z', hz', rfl⟩) e.symm
/-- colours for the new words' letters -/
def colN (la : Nat → Nat) (col : Nat → Nat) : Nat → Nat → Nat
  | 0 => col
  | n + 1 => va_up (colN la col n) (la n) (10 + n)
theorem colN_in {la col : Nat → Nat} : ∀ {n : Nat}, (∀ i j, i < n → j < n → la i = la j → i = j) → ∀ i, i < n → colN la col n (la i) = 10 + i := by
  intro n
  induction n with
  | zero => intro _ i h; exact absurd h (Nat.not_lt_zero _)
  | succ n ih =>
    intro h i hi
    show va_up (colN la col n) (la n) (10 + n) (la i) = _
    by_cases e : i = n
    · rw [e, va_up_self]
    · rw [va_up_ne _ _ (fun z => e (h i n hi (by omega) z))]
      exact ih (fun a b ha hb => h a b (by omega) (by omega)) i (by omega)
theorem colN_out {la col : Nat → Nat} {q : Nat} : ∀ {n : Nat}, (∀ i, i < n → q ≠ la i) → colN la col n q = col q := by
  intro n
  induction n with
  | zero => intro _; rfl
  | succ n ih =>
    intro h
    show va_up (colN la col n) (la n) (10 + n) q = _
    rw [va_up_ne _ _ (h n (by omega))]
    exact ih (fun i hi => h i (by omega))
theorem tl_new {e : Nat} {f fR' : Nat → Option Nat} (hS : shWk dA so shL cl sh pS lS tl) (hco : coW words la rdgs lr so lS edW edR ez col) (hrd : rdL dA x zl ed mc n fl kd ln lt pa' la' tl) (hu : unW tl) (he : (e, aO dA 10 f) ∈ tl) (hf : ∀ j, j < n → f j = fl j) (hfl : ∀ i, i < n → ∀ k, k < 4 → so k ≠ none → lS k ≠ la' i) (heR : edR ≠ ez → (edR, aO dA 10 fR') ∈ tl) (hne : edR ≠ ez → edR ≠ e) :
    tlK dA x ez n kd ln lt e f pa' la' 0 rWord rMany rStands rRow edR fR' pr lr so shL cl sh pS lS (va_up (colN la' col n) e 1) tl := by
  refine ⟨⟨Or.inr he, fun i hi => ?_⟩, ⟨?_, fun i hi => absurd hi (Nat.not_lt_zero _)⟩, hS, fun i hi => ?_, fun i hi => absurd hi (Nat.not_lt_zero _), fun k hk hn => ?_, fun _ => va_up_self _ _ _, fun z => ?_⟩
  · obtain ⟨h1, h2, h3⟩ := hrd.2.2.1 i hi
    exact ⟨(hf i hi).trans h1, h2, h3⟩
  · by_cases z : edR = ez
    · exact Or.inl ⟨rfl, z⟩
    · exact Or.inr (heR z)
  · obtain ⟨-, -, g, h3, -⟩ := hrd.2.2.1 i hi
    rw [va_up_ne _ _ (hu.ne h3 he io_ne)]
    exact colN_in hrd.2.2.2 i hi
  · obtain ⟨v, hv⟩ := so_some hn
    obtain ⟨-, -, -, g, h3, -⟩ := (hS k hk).2 v hv
    rw [va_up_ne _ _ (hu.ne h3 he io_ne), colN_out (fun i hi => hfl i hi k hk hn)]
    exact hco.2.2.1 k hk hn
  · rw [va_up_ne _ _ (hne z), colN_out (fun i hi => ?_)]
    · exact hco.2.2.2.2 z
    · obtain ⟨-, -, g, h3, -⟩ := hrd.2.2.1 i hi
      exact hu.ne (heR z) h3 oi_ne
theorem wok_new (h4 : n ≤ 4) (h1 : ∀ w, kd w < 3) (h2 : ∀ w, ln w ≤ 4) (h3 : ∀ j, lt j < 3) (h5 : ∀ w, w < n → 1 ≤ ln w) : wOK n kd ln lt := ⟨h4, h1, h2, h3, h5⟩
end TLN
