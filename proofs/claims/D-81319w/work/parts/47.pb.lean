/-! the shortest rows: plain -/
set_option maxRecDepth 100000
section
variable {kind longOf letters : Nat → Nat} {words s c : Nat}
theorem al_ix (hw : wOK words kind longOf letters) (hs : s < 640) (hc : c < 3) : 54 * (s % 16 ||| hbE kind longOf letters words (3 * phi (s / 16) + c)) + nxE (phi (s / 16)) c = psi (stC kind longOf letters words s c) := by
  rw [← stE_psi hw hs hc]
  unfold stE
  rw [(psi_dm hs).1, (psi_dm hs).2]
theorem al_set (hw : wOK words kind longOf letters) (hs : s < 640) (hc : c < 3) : (s % 16 ||| hbE kind longOf letters words (3 * phi (s / 16) + c)) = stC kind longOf letters words s c % 16 := by
  have h := al_ix hw hs hc
  have d := psi_dm (stC_lt (kind := kind) (longOf := longOf) (letters := letters) (k := s) hw.1 hc)
  have n := nxE_lt (e := phi (s / 16)) (phi_lt (s / 16) (by omega)).2 hc
  rw [← h] at d
  rw [← d.1]
  generalize (s % 16 ||| hbE kind longOf letters words (3 * phi (s / 16) + c)) = x
  omega
theorem al_end (hw : wOK words kind longOf letters) (hs : s < 640) (hc : c < 3) : nxE (phi (s / 16)) c = phi (stC kind longOf letters words s c / 16) := by
  have h := al_ix hw hs hc
  have d := psi_dm (stC_lt (kind := kind) (longOf := longOf) (letters := letters) (k := s) hw.1 hc)
  have n := nxE_lt (e := phi (s / 16)) (phi_lt (s / 16) (by omega)).2 hc
  rw [← h] at d
  rw [← d.2]
  generalize (s % 16 ||| hbE kind longOf letters words (3 * phi (s / 16) + c)) = x
  omega
theorem al_go (hw : wOK words kind longOf letters) (hs : s < 640) (hc : c < 3) (hg : goE words (psi s)) : goE words (psi (stC kind longOf letters words s c)) := by
  rw [← stE_psi hw hs hc]
  exact goE_st hg hc
/-- a distance, at the level that was found and at the model's -/
theorem al_d {d x w : Nat} (hw : wOK words kind longOf letters) (hx : x < 640) (hwd : w ≤ d) (hd : d ≤ 641) : dsU (stE kind longOf letters words) (gE words) d (psi x) = some w ↔ dsD kind longOf letters words x = some w := by
  rw [ds_psi hw d x hx]
  exact ⟨fun h => dsU_upn h 641 hd, fun h => dsU_upn (dsU_at h) d hwd⟩
end
def lsI (q c : Nat) : Int32 := if q = 0 then -9 else nI c
theorem all_in (k : Int32) : (decide ((-1 : Int64) ≤ k.toInt64) && decide (k.toInt64 ≤ lN 15)) = (decide ((-1) ≤ k) && decide (k ≤ nI 15)) := by
  rw [show (-1 : Int64) = Int32.toInt64 (-1) from by decide, lN_j (by decide)]
  congr 1
  · exact decide_eq_decide.mpr (i64_le _ _)
  · exact decide_eq_decide.mpr (i64_le _ _)
theorem all_end1 {k : Int32} {v : Nat} {X : Int32} (h : (decide ((-1) ≤ k) && decide (k ≤ nI 15)) = true) (h2 : ¬ 0 ≤ k) : nI v = if k = -1 then oI (some v) else X := by
  have e : k = -1 := by
    simp only [Bool.and_eq_true, decide_eq_true_eq] at h
    have a1 := Int32.le_iff_toInt_le.mp h.1
    have a2 := Int32.lt_iff_toInt_lt.mp (Int32.not_le.mp h2)
    have a3 : ((-1 : Int32)).toInt = -1 := by decide
    have a4 : ((0 : Int32)).toInt = 0 := by decide
    exact Int32.toInt_inj.mp (by omega)
  rw [if_pos e]
  rfl
theorem all_m1 {k : Int32} (h : 0 ≤ k) : ¬ k = -1 := fun e => by rw [e] at h; exact absurd h (by decide)
theorem all_end2 {k : Int32} {v : Nat} {X : Int32} (h : 0 ≤ k) (h2 : nI v ≤ k) (hv : v < 2 ^ 31) : (-9 : Int32) = if k < oI (some v) then X else -9 := by
  exact (if_neg (show ¬ k < oI (some v) from Int32.not_lt.mpr h2)).symm
theorem all_end3 {k : Int32} {v q : Nat} (h : 0 ≤ k) (h2 : ¬ nI v ≤ k) (hv : v < 2 ^ 31) (hq : q ≤ v) (hk : q = 0 ∨ nI (q - 1) ≤ k) (hx : k < nI q ∨ v ≤ q) : q = i2n k + 1 := by
  obtain ⟨j, hj, rfl⟩ := nI_of (Int32.not_lt.mpr h)
  rw [show i2n (nI j) = j from nI_clamp (by omega)]
  rw [nI_leI hv hj] at h2
  rcases hk with e | e
  · subst e
    rcases hx with e | e
    · rw [nI_ltI hj (by decide)] at e; omega
    · omega
  · rw [nI_leI (by omega) hj] at e
    rcases hx with e2 | e2
    · rw [nI_ltI hj (by omega)] at e2; omega
    · omega
/-- a code of a text; -9: behind it -/
def cdA (cells : Nat → Int32) (p m at_ : Nat) : Int32 := if at_ < m then cells (p + at_) else -9
