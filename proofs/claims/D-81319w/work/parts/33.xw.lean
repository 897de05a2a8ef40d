/-! THE CLASS'S WORLD -/
set_option maxRecDepth 100000
def xW (dA : Nat → ClassId) (a : Nat → Nat) (rn rt : Nat) (trace : Int32) (len stand : Nat) (first allh : Option Nat) (hAll : Nat) (fault : Int32) (row hOf : Nat → Nat) (farOf : Nat → Option Nat) (rowsN rowsT : Nat → Nat) (mcW : Int32) (edW words : Nat) (mcR : Int32) (edR rdgs : Nat) (sh : Nat → Option Nat) (ex : va_W) : va_W :=
  (a 0, .inr (0, [.int trace, .int (nI len), .ref (a 1), .ref (a 2), .int (nI stand), .int (oI first), .int (oI allh), .int (nI hAll), .ref (a 3), .ref (a 4), .ref rn, .ref rt, .ref (a 5), .int fault, .ref (a 6)])) ::
  (a 1, aI dA 60 (nF row)) :: (a 2, .inr (12, [.int mcW, .ref edW, .int (nI words)])) :: (a 3, aI dA 4 (nF hOf)) :: (a 4, aI dA 864 (oF farOf)) :: (rn, aL dA 864 (nL rowsN)) :: (rt, aL dA 864 (nL rowsT)) :: (a 5, .inr (12, [.int mcR, .ref edR, .int (nI rdgs)])) :: (a 6, aS dA 4 sh) :: ex
theorem xw_m {dA : Nat → ClassId} {a : Nat → Nat} {rn rt : Nat} {trace : Int32} {len stand : Nat} {first allh : Option Nat} {hAll : Nat} {fault : Int32} {row hOf : Nat → Nat} {farOf : Nat → Option Nat} {rowsN rowsT : Nat → Nat} {mcW : Int32} {edW words : Nat} {mcR : Int32} {edR rdgs : Nat} {sh : Nat → Option Nat} {ex : va_W} {q : Nat × va_E} (h : q ∈ ex) : q ∈ xW dA a rn rt trace len stand first allh hAll fault row hOf farOf rowsN rowsT mcW edW words mcR edR rdgs sh ex := by
  unfold xW
  simp only [List.mem_cons]
  exact Or.inr (Or.inr (Or.inr (Or.inr (Or.inr (Or.inr (Or.inr (Or.inr (Or.inr h))))))))
/-- a row that is looked at: the one that was said, or another -/
theorem xw_r {dA : Nat → ClassId} {a : Nat → Nat} {rn rt : Nat} {trace : Int32} {len stand : Nat} {first allh : Option Nat} {hAll : Nat} {fault : Int32} {row hOf : Nat → Nat} {farOf : Nat → Option Nat} {rowsN rowsT : Nat → Nat} {mcW : Int32} {edW words : Nat} {mcR : Int32} {edR rdgs : Nat} {sh : Nat → Option Nat} {ex : va_W} {q : Nat × va_E} (h : q ∈ (a 1, aI dA 60 (nF row)) :: ex) : q ∈ xW dA a rn rt trace len stand first allh hAll fault row hOf farOf rowsN rowsT mcW edW words mcR edR rdgs sh ex := by
  unfold xW
  simp only [List.mem_cons] at h ⊢
  rcases h with h | h
  · exact Or.inr (Or.inl h)
  · exact Or.inr (Or.inr (Or.inr (Or.inr (Or.inr (Or.inr (Or.inr (Or.inr (Or.inr h))))))))
/-- the words' objects -/
def wdIn (dA : Nat → ClassId) (x words : Nat) (kind longOf letters : Nat → Nat) (edW ez : Nat) (fW : Nat → Option Nat) (pa la : Nat → Nat) (tl : va_W) : Prop :=
  ((words = 0 ∧ edW = ez) ∨ (edW, aO dA 10 fW) ∈ tl) ∧ ∀ i, i < words → fW i = some (pa i) ∧ (pa i, plF (kind i) (la i) x) ∈ tl ∧ (la i, aI dA (longOf i) (nF fun k => letters (4 * i + k))) ∈ tl
theorem wdIn.ed {dA : Nat → ClassId} {x words : Nat} {kind longOf letters : Nat → Nat} {edW ez : Nat} {fW : Nat → Option Nat} {pa la : Nat → Nat} {tl : va_W} (h : wdIn dA x words kind longOf letters edW ez fW pa la tl) {i : Nat} (hi : i < words) : (edW, aO dA 10 fW) ∈ tl := by
  rcases h.1 with h1 | h1
  · omega
  · exact h1
theorem wdIn.w {dA : Nat → ClassId} {x words : Nat} {kind longOf letters : Nat → Nat} {edW ez : Nat} {fW : Nat → Option Nat} {pa la : Nat → Nat} {tl : va_W} (h : wdIn dA x words kind longOf letters edW ez fW pa la tl) {i : Nat} (hi : i < words) : fW i = some (pa i) := (h.2 i hi).1
theorem wdIn.p {dA : Nat → ClassId} {x words : Nat} {kind longOf letters : Nat → Nat} {edW ez : Nat} {fW : Nat → Option Nat} {pa la : Nat → Nat} {tl : va_W} (h : wdIn dA x words kind longOf letters edW ez fW pa la tl) {i : Nat} (hi : i < words) : (pa i, plF (kind i) (la i) x) ∈ tl := (h.2 i hi).2.1
theorem wdIn.l {dA : Nat → ClassId} {x words : Nat} {kind longOf letters : Nat → Nat} {edW ez : Nat} {fW : Nat → Option Nat} {pa la : Nat → Nat} {tl : va_W} (h : wdIn dA x words kind longOf letters edW ez fW pa la tl) {i : Nat} (hi : i < words) : (la i, aI dA (longOf i) (nF fun k => letters (4 * i + k))) ∈ tl := (h.2 i hi).2.2
/-- the words' lengths and letters are so -/
def wOK (words : Nat) (kind longOf letters : Nat → Nat) : Prop := words ≤ 4 ∧ (∀ w, kind w < 3) ∧ (∀ w, longOf w ≤ 4) ∧ (∀ j, letters j < 3) ∧ ∀ w, w < words → 1 ≤ longOf w
section NXP
variable {p : Program} {l : Launch} {e : Env} {R : Room} {s : State} {m : MethodId} {args : Array Value} {below : List Frame} {meth : Method} {c : Code} {H : Heap} {locs : List Loc} {cells slots : Nat} {Q : State → Prop}
variable {cc : ByteArray} {nM : Nat} {own : String} {D : va_G} {dA : Nat → ClassId} {a0 : Nat} {w : va_W} {pc : Nat} {ls : Array Slot} {rest : List Value}
theorem kd3 {kd : Nat} {P : Nat → Prop} (h : kd < 3) (h0 : P 0) (h1 : P 1) (h2 : P 2) : P kd := by
  rcases (by omega : kd = 0 ∨ kd = 1 ∨ kd = 2) with rfl | rfl | rfl
  · exact h0
  · exact h1
  · exact h2
/-- a word's object is cast to Plain -/
theorem nv_castP {ez : Nat} (hC : nvC p s m args c cc nM own D dA a0) (zG : nvE a0 ez s) (hX : nvS D a0 w s.heap H locs) {kd pa la x0 idx : Nat} (hkd : kd < 3) (hm : (pa, plF kd la x0) ∈ w) (h1 : Cond.classLink own idx "OneLongRow$Plain" ∈ lw_all) (d : decode cc pc = .ok (.checkcast idx, 3))
    (k : W p l e R s m args below meth c H locs cells slots Q (F0 m (pc + 3) ls (.ref pa :: rest))) : W p l e R s m args below meth c H locs cells slots Q (F0 m pc ls (.ref pa :: rest)) := by
  obtain ⟨q, hq⟩ := List.getElem?_of_mem hm
  rcases (by omega : kd = 0 ∨ kd = 1 ∨ kd = 2) with rfl | rfl | rfl
  · exact nv_castS (q := (RX5, TX5, 2)) hC hX q hq rfl h1 d k
  · exact nv_cast (q := (RX6, TX6, 3)) hC hX q hq rfl h1 (zG.2.1 _ (List.mem_of_getElem? (i := 4) rfl)) d k
  · exact nv_cast (q := (RX7, TX7, 4)) hC hX q hq rfl h1 (zG.2.1 _ (List.mem_of_getElem? (i := 5) rfl)) d k
/-- a word's letters -/
theorem nv_getP (hC : nvC p s m args c cc nM own D dA a0) (hX : nvS D a0 w s.heap H locs) {kd pa la x0 idx : Nat} (hkd : kd < 3) (hm : (pa, plF kd la x0) ∈ w) (h1 : Cond.fieldLink own idx "OneLongRow$Plain" "letters" "[I" ∈ lw_all) (d : decode cc pc = .ok (.getfield idx, 3))
    (k : W p l e R s m args below meth c H locs cells slots Q (F0 m (pc + 3) ls (.ref la :: rest))) : W p l e R s m args below meth c H locs cells slots Q (F0 m pc ls (.ref pa :: rest)) := by
  obtain ⟨q, hq⟩ := List.getElem?_of_mem hm
  rcases (by omega : kd = 0 ∨ kd = 1 ∨ kd = 2) with rfl | rfl | rfl
  · exact nv_get hC hX in_X5 q hq rfl 0 (by decide) h1 (fun _ h => h) rfl d k
  · exact nv_get hC hX in_X6 q hq rfl 0 (by decide) h1 (fun _ h => h) rfl d k
  · exact nv_get hC hX in_X7 q hq rfl 0 (by decide) h1 (fun _ h => h) rfl d k
end NXP
/-- the readings' objects -/
def rdIn (dA : Nat → ClassId) (rdgs : Nat) (rWord rMany rStands rRow : Nat → Nat) (edR ez : Nat) (fR : Nat → Option Nat) (pr lr : Nat → Nat) (tl : va_W) : Prop :=
  ((rdgs = 0 ∧ edR = ez) ∨ (edR, aO dA 10 fR) ∈ tl) ∧ ∀ i, i < rdgs → fR i = some (pr i) ∧ (pr i, .inr (5, [.int (nI (rWord i)), .ref (lr i), .int (nB (decide (rStands i = 1)))])) ∈ tl ∧ (lr i, aI dA (rMany i) (nF fun k => rRow (8 * i + k))) ∈ tl
/-- what holds of the readings -/
def dOK (words rdgs : Nat) (rWord rMany rStands rRow : Nat → Nat) : Prop := rdgs ≤ 8 ∧ (∀ i, i < rdgs → rWord i < words) ∧ (∀ i, rMany i ≤ 8) ∧ (∀ i, rStands i < 2) ∧ ∀ j, rRow j < 3
section
variable {dA : Nat → ClassId} {rdgs edR ez : Nat} {rWord rMany rStands rRow : Nat → Nat} {fR : Nat → Option Nat} {pr lr : Nat → Nat} {tl : va_W}
theorem rdIn.ed (h : rdIn dA rdgs rWord rMany rStands rRow edR ez fR pr lr tl) {i : Nat} (hi : i < rdgs) : (edR, aO dA 10 fR) ∈ tl := by
  rcases h.1 with h1 | h1
  · omega
  · exact h1
theorem rdIn.w (h : rdIn dA rdgs rWord rMany rStands rRow edR ez fR pr lr tl) {i : Nat} (hi : i < rdgs) : fR i = some (pr i) := (h.2 i hi).1
theorem rdIn.p (h : rdIn dA rdgs rWord rMany rStands rRow edR ez fR pr lr tl) {i : Nat} (hi : i < rdgs) : (pr i, .inr (5, [.int (nI (rWord i)), .ref (lr i), .int (nB (decide (rStands i = 1)))])) ∈ tl := (h.2 i hi).2.1
theorem rdIn.l (h : rdIn dA rdgs rWord rMany rStands rRow edR ez fR pr lr tl) {i : Nat} (hi : i < rdgs) : (lr i, aI dA (rMany i) (nF fun k => rRow (8 * i + k))) ∈ tl := (h.2 i hi).2.2
end
