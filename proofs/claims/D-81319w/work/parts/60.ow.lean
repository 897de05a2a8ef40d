/-! tails that are written: what stays, what is new; back to the exact words -/
set_option maxRecDepth 100000
section OWN
variable {D : va_G} {dA : Nat → ClassId} {a0 : Nat} {H0 H : Heap} {locs : List Loc}
/-- at most one cell at an address -/
def unW (w : va_W) : Prop := ∀ (q : Nat) (c c' : va_E), (q, c) ∈ w → (q, c') ∈ w → c = c'
theorem nvS.un {w : va_W} (h : nvS D a0 w H0 H locs) : unW w := by
  intro q c c' h1 h2
  obtain ⟨i, hi⟩ := List.getElem?_of_mem h1
  obtain ⟨j, hj⟩ := List.getElem?_of_mem h2
  have e := h.2.1.1 i j _ _ hi hj rfl
  subst e
  exact (Prod.mk.inj (Option.some.inj (hi.symm.trans hj))).2
theorem unW.sub {w w' : va_W} (h : unW w) (k : ∀ z, z ∈ w' → z ∈ w) : unW w' := fun q c c' h1 h2 => h q c c' (k _ h1) (k _ h2)
theorem unW.ne {w : va_W} (h : unW w) {q q' : Nat} {c c' : va_E} (h1 : (q, c) ∈ w) (h2 : (q', c') ∈ w) (hc : c ≠ c') : q ≠ q' := fun e => hc (h q c c' h1 (by rw [e]; exact h2))
theorem in_ne {x : ClassId × vp_A} {y : Nat × List Value} : (Sum.inl x : va_E) ≠ .inr y := fun e => by cases e
theorem ni_ne {x : ClassId × vp_A} {y : Nat × List Value} : (Sum.inr y : va_E) ≠ .inl x := fun e => by cases e
theorem oi_ne {c c' : ClassId} {n n' : Nat} {f : Nat → Option Nat} {g : Nat → Int32} : (Sum.inl (c, n, .inr (.inr (.inr (.inr f)))) : va_E) ≠ .inl (c', n', .inl g) := fun e => by
  injection e with e
  injection e with _ e
  injection e with _ e
  cases e
theorem io_ne {c c' : ClassId} {n n' : Nat} {f : Nat → Option Nat} {g : Nat → Int32} : (Sum.inl (c', n', .inl g) : va_E) ≠ .inl (c, n, .inr (.inr (.inr (.inr f)))) := fun e => oi_ne e.symm
theorem kc_ne {k k' : Nat} {l l' : List Value} (h : k ≠ k') : (Sum.inr (k, l) : va_E) ≠ .inr (k', l') := fun e => by
  injection e with e
  injection e with e _
  exact h e
/-- all but the cell at q stays -/
def kpW (q : Nat) (w w' : va_W) : Prop := ∀ z, z ∈ w → z.1 ≠ q → z ∈ w'
theorem set_kp {w : va_W} {k q : Nat} {c c' : va_E} (hk : w[k]? = some (q, c)) : kpW q w (w.set k (q, c')) := by
  intro z hz hne
  obtain ⟨j, hj⟩ := List.getElem?_of_mem hz
  have hjk : k ≠ j := fun e => by
    subst e
    rw [hk] at hj
    exact hne (by rw [← Option.some.inj hj])
  exact List.mem_of_getElem? (i := j) (by rw [List.getElem?_set_ne hjk]; exact hj)
theorem set_in {w : va_W} {k : Nat} {x : Nat × va_E} (hk : w[k]? = some x) (y : Nat × va_E) : y ∈ w.set k y := by
  obtain ⟨h1, -⟩ := List.getElem?_eq_some_iff.mp hk
  exact List.mem_of_getElem? (i := k) (by rw [List.getElem?_set_self h1])
theorem app_at {w ex : va_W} {k : Nat} {x : Nat × va_E} (hk : w[k]? = some x) : (w ++ ex)[k]? = some x := by
  obtain ⟨h1, -⟩ := List.getElem?_eq_some_iff.mp hk
  rw [List.getElem?_append_left h1]
  exact hk
theorem app_set {w ex : va_W} {k : Nat} {x y : Nat × va_E} (hk : w[k]? = some x) : (w ++ ex).set k y = w.set k y ++ ex := by
  obtain ⟨h1, -⟩ := List.getElem?_eq_some_iff.mp hk
  rw [List.set_append_left _ _ h1]
/-- the exact, and the same up to what lies beyond the lengths -/
def wdWk (dA : Nat → ClassId) (x words : Nat) (kind longOf letters : Nat → Nat) (edW ez : Nat) (fW : Nat → Option Nat) (pa la : Nat → Nat) (tl : va_W) : Prop :=
  ((words = 0 ∧ edW = ez) ∨ (edW, aO dA 10 fW) ∈ tl) ∧ ∀ i, i < words → fW i = some (pa i) ∧ (pa i, plF (kind i) (la i) x) ∈ tl ∧ ∃ f, (la i, aI dA (longOf i) f) ∈ tl ∧ ∀ k, k < longOf i → f k = nI (letters (4 * i + k))
def rdWk (dA : Nat → ClassId) (rdgs : Nat) (rWord rMany rStands rRow : Nat → Nat) (edR ez : Nat) (fR : Nat → Option Nat) (pr lr : Nat → Nat) (tl : va_W) : Prop :=
  ((rdgs = 0 ∧ edR = ez) ∨ (edR, aO dA 10 fR) ∈ tl) ∧ ∀ i, i < rdgs → fR i = some (pr i) ∧ (pr i, .inr (5, [.int (nI (rWord i)), .ref (lr i), .int (nB (decide (rStands i = 1)))])) ∈ tl ∧ ∃ f, (lr i, aI dA (rMany i) f) ∈ tl ∧ ∀ k, k < rMany i → f k = nI (rRow (8 * i + k))
/-- a sheet's row of lane v -/
def shE (dA : Nat → ClassId) (v n : Nat) (f : Nat → Int32) : va_E := .inl (dA (if v = 0 then 2 else if v = 1 then 3 else 0), n, .inl f)
def shIn (dA : Nat → ClassId) (so : Nat → Option Nat) (shL : Nat → Nat) (cl : Nat → Int32) (sh : Nat → Option Nat) (pS lS : Nat → Nat) (tl : va_W) : Prop :=
  ∀ k, k < 4 → (so k = none → sh k = none) ∧ ∀ v, so k = some v → v < 3 ∧ sh k = some (pS k) ∧ (pS k, .inr (6, [.ref (lS k)])) ∈ tl ∧ (lS k, shE dA v (shL k) (fun j => cl (60 * k + j))) ∈ tl
def shWk (dA : Nat → ClassId) (so : Nat → Option Nat) (shL : Nat → Nat) (cl : Nat → Int32) (sh : Nat → Option Nat) (pS lS : Nat → Nat) (tl : va_W) : Prop :=
  ∀ k, k < 4 → (so k = none → sh k = none) ∧ ∀ v, so k = some v → v < 3 ∧ sh k = some (pS k) ∧ (pS k, .inr (6, [.ref (lS k)])) ∈ tl ∧ ∃ f, (lS k, shE dA v (shL k) f) ∈ tl ∧ ∀ j, j < shL k → f j = cl (60 * k + j)
variable {x words : Nat} {kind longOf letters : Nat → Nat} {edW ez : Nat} {fW : Nat → Option Nat} {pa la : Nat → Nat} {rdgs : Nat} {rWord rMany rStands rRow : Nat → Nat} {edR : Nat} {fR : Nat → Option Nat} {pr lr : Nat → Nat} {so : Nat → Option Nat} {shL : Nat → Nat} {cl : Nat → Int32} {sh : Nat → Option Nat} {pS lS : Nat → Nat} {col : Nat → Nat} {tl tl' : va_W}
theorem wdIn.wk (h : wdIn dA x words kind longOf letters edW ez fW pa la tl) : wdWk dA x words kind longOf letters edW ez fW pa la tl := ⟨h.1, fun i hi => ⟨(h.2 i hi).1, (h.2 i hi).2.1, _, (h.2 i hi).2.2, fun _ _ => rfl⟩⟩
theorem rdIn.wk (h : rdIn dA rdgs rWord rMany rStands rRow edR ez fR pr lr tl) : rdWk dA rdgs rWord rMany rStands rRow edR ez fR pr lr tl := ⟨h.1, fun i hi => ⟨(h.2 i hi).1, (h.2 i hi).2.1, _, (h.2 i hi).2.2, fun _ _ => rfl⟩⟩
theorem shIn.wk (h : shIn dA so shL cl sh pS lS tl) : shWk dA so shL cl sh pS lS tl := fun k hk => ⟨(h k hk).1, fun v hv => ⟨((h k hk).2 v hv).1, ((h k hk).2 v hv).2.1, ((h k hk).2 v hv).2.2.1, _, ((h k hk).2 v hv).2.2.2, fun _ _ => rfl⟩⟩
theorem wdWk.kp {q : Nat} (h : wdWk dA x words kind longOf letters edW ez fW pa la tl) (k : kpW q tl tl') (h1 : (edW, aO dA 10 fW) ∈ tl → edW ≠ q) (h2 : ∀ i, i < words → pa i ≠ q) (h3 : ∀ i, i < words → la i ≠ q) : wdWk dA x words kind longOf letters edW ez fW pa la tl' :=
  ⟨h.1.elim (fun z => Or.inl z) (fun z => Or.inr (k _ z (h1 z))), fun i hi => ⟨(h.2 i hi).1, k _ (h.2 i hi).2.1 (h2 i hi), (h.2 i hi).2.2.elim fun f z => ⟨f, k _ z.1 (h3 i hi), z.2⟩⟩⟩
theorem rdWk.kp {q : Nat} (h : rdWk dA rdgs rWord rMany rStands rRow edR ez fR pr lr tl) (k : kpW q tl tl') (h1 : (edR, aO dA 10 fR) ∈ tl → edR ≠ q) (h2 : ∀ i, i < rdgs → pr i ≠ q) (h3 : ∀ i, i < rdgs → lr i ≠ q) : rdWk dA rdgs rWord rMany rStands rRow edR ez fR pr lr tl' :=
  ⟨h.1.elim (fun z => Or.inl z) (fun z => Or.inr (k _ z (h1 z))), fun i hi => ⟨(h.2 i hi).1, k _ (h.2 i hi).2.1 (h2 i hi), (h.2 i hi).2.2.elim fun f z => ⟨f, k _ z.1 (h3 i hi), z.2⟩⟩⟩
theorem shWk.kp {q : Nat} (h : shWk dA so shL cl sh pS lS tl) (k : kpW q tl tl') (h2 : ∀ i, i < 4 → so i ≠ none → pS i ≠ q) (h3 : ∀ i, i < 4 → so i ≠ none → lS i ≠ q) : shWk dA so shL cl sh pS lS tl' := fun i hi => ⟨(h i hi).1, fun v hv => by
  obtain ⟨a1, a2, a3, f, a4, a5⟩ := (h i hi).2 v hv
  have hn : so i ≠ none := by rw [hv]; exact fun z => by cases z
  exact ⟨a1, a2, k _ a3 (h2 i hi hn), f, k _ a4 (h3 i hi hn), a5⟩⟩
/-- an array of numbers was written -/
theorem wdWk.kpI {q n : Nat} {c : ClassId} {g : Nat → Int32} (h : wdWk dA x words kind longOf letters edW ez fW pa la tl) (hu : unW tl) (hq : (q, .inl (c, n, .inl g)) ∈ tl) (k : kpW q tl tl') (h3 : ∀ i, i < words → la i ≠ q) : wdWk dA x words kind longOf letters edW ez fW pa la tl' :=
  h.kp k (fun z => hu.ne z hq oi_ne) (fun i hi => hu.ne (h.2 i hi).2.1 hq ni_ne) h3
theorem rdWk.kpI {q n : Nat} {c : ClassId} {g : Nat → Int32} (h : rdWk dA rdgs rWord rMany rStands rRow edR ez fR pr lr tl) (hu : unW tl) (hq : (q, .inl (c, n, .inl g)) ∈ tl) (k : kpW q tl tl') (h3 : ∀ i, i < rdgs → lr i ≠ q) : rdWk dA rdgs rWord rMany rStands rRow edR ez fR pr lr tl' :=
  h.kp k (fun z => hu.ne z hq oi_ne) (fun i hi => hu.ne (h.2 i hi).2.1 hq ni_ne) h3
theorem so_some {o : Option Nat} (h : o ≠ none) : ∃ v, o = some v := by
  cases o with
  | none => exact absurd rfl h
  | some v => exact ⟨v, rfl⟩
theorem shWk.kpI {q n : Nat} {c : ClassId} {g : Nat → Int32} (h : shWk dA so shL cl sh pS lS tl) (hu : unW tl) (hq : (q, .inl (c, n, .inl g)) ∈ tl) (k : kpW q tl tl') (h3 : ∀ i, i < 4 → so i ≠ none → lS i ≠ q) : shWk dA so shL cl sh pS lS tl' :=
  h.kp k (fun i hi hn => by obtain ⟨v, hv⟩ := so_some hn; exact hu.ne ((h i hi).2 v hv).2.2.1 hq ni_ne) h3
/-- an array of references was written -/
theorem wdWk.kpO {q n : Nat} {c : ClassId} {g : Nat → Option Nat} (h : wdWk dA x words kind longOf letters edW ez fW pa la tl) (hu : unW tl) (hq : (q, .inl (c, n, .inr (.inr (.inr (.inr g))))) ∈ tl) (k : kpW q tl tl') (h1 : edW ≠ q) : wdWk dA x words kind longOf letters edW ez fW pa la tl' :=
  h.kp k (fun _ => h1) (fun i hi => hu.ne (h.2 i hi).2.1 hq ni_ne) (fun i hi => (h.2 i hi).2.2.elim fun f z => hu.ne z.1 hq io_ne)
theorem rdWk.kpO {q n : Nat} {c : ClassId} {g : Nat → Option Nat} (h : rdWk dA rdgs rWord rMany rStands rRow edR ez fR pr lr tl) (hu : unW tl) (hq : (q, .inl (c, n, .inr (.inr (.inr (.inr g))))) ∈ tl) (k : kpW q tl tl') (h1 : edR ≠ q) : rdWk dA rdgs rWord rMany rStands rRow edR ez fR pr lr tl' :=
  h.kp k (fun _ => h1) (fun i hi => hu.ne (h.2 i hi).2.1 hq ni_ne) (fun i hi => (h.2 i hi).2.2.elim fun f z => hu.ne z.1 hq io_ne)
theorem shWk.kpO {q n : Nat} {c : ClassId} {g : Nat → Option Nat} (h : shWk dA so shL cl sh pS lS tl) (hu : unW tl) (hq : (q, .inl (c, n, .inr (.inr (.inr (.inr g))))) ∈ tl) (k : kpW q tl tl') : shWk dA so shL cl sh pS lS tl' :=
  h.kp k (fun i hi hn => by obtain ⟨v, hv⟩ := so_some hn; exact hu.ne ((h i hi).2 v hv).2.2.1 hq ni_ne) (fun i hi hn => by obtain ⟨v, hv⟩ := so_some hn; obtain ⟨-, -, -, f, z, -⟩ := (h i hi).2 v hv; exact hu.ne z hq io_ne)
/-- more cells -/
theorem wdWk.mono (h : wdWk dA x words kind longOf letters edW ez fW pa la tl) (k : ∀ z, z ∈ tl → z ∈ tl') : wdWk dA x words kind longOf letters edW ez fW pa la tl' :=
  ⟨h.1.elim (fun z => Or.inl z) (fun z => Or.inr (k _ z)), fun i hi => ⟨(h.2 i hi).1, k _ (h.2 i hi).2.1, (h.2 i hi).2.2.elim fun f z => ⟨f, k _ z.1, z.2⟩⟩⟩
theorem rdWk.mono (h : rdWk dA rdgs rWord rMany rStands rRow edR ez fR pr lr tl) (k : ∀ z, z ∈ tl → z ∈ tl') : rdWk dA rdgs rWord rMany rStands rRow edR ez fR pr lr tl' :=
  ⟨h.1.elim (fun z => Or.inl z) (fun z => Or.inr (k _ z)), fun i hi => ⟨(h.2 i hi).1, k _ (h.2 i hi).2.1, (h.2 i hi).2.2.elim fun f z => ⟨f, k _ z.1, z.2⟩⟩⟩
theorem shWk.mono (h : shWk dA so shL cl sh pS lS tl) (k : ∀ z, z ∈ tl → z ∈ tl') : shWk dA so shL cl sh pS lS tl' := fun i hi => ⟨(h i hi).1, fun v hv => by
  obtain ⟨a1, a2, a3, f, a4, a5⟩ := (h i hi).2 v hv
  exact ⟨a1, a2, k _ a3, f, k _ a4, a5⟩⟩
theorem wdIn.mono (h : wdIn dA x words kind longOf letters edW ez fW pa la tl) (k : ∀ z, z ∈ tl → z ∈ tl') : wdIn dA x words kind longOf letters edW ez fW pa la tl' :=
  ⟨h.1.elim (fun z => Or.inl z) (fun z => Or.inr (k _ z)), fun i hi => ⟨(h.2 i hi).1, k _ (h.2 i hi).2.1, k _ (h.2 i hi).2.2⟩⟩
theorem rdIn.mono (h : rdIn dA rdgs rWord rMany rStands rRow edR ez fR pr lr tl) (k : ∀ z, z ∈ tl → z ∈ tl') : rdIn dA rdgs rWord rMany rStands rRow edR ez fR pr lr tl' :=
  ⟨h.1.elim (fun z => Or.inl z) (fun z => Or.inr (k _ z)), fun i hi => ⟨(h.2 i hi).1, k _ (h.2 i hi).2.1, k _ (h.2 i hi).2.2⟩⟩
theorem shIn.mono (h : shIn dA so shL cl sh pS lS tl) (k : ∀ z, z ∈ tl → z ∈ tl') : shIn dA so shL cl sh pS lS tl' := fun i hi => ⟨(h i hi).1, fun v hv => by
  obtain ⟨a1, a2, a3, a4⟩ := (h i hi).2 v hv
  exact ⟨a1, a2, k _ a3, k _ a4⟩⟩
theorem mem_app {l r : va_W} : ∀ z, z ∈ l → z ∈ l ++ r := fun _ h => List.mem_append_left _ h
/-- whose is which array: the words' letters, the readings' rows, the sheets' rows, the lists' own -/
def coW (words : Nat) (la : Nat → Nat) (rdgs : Nat) (lr : Nat → Nat) (so : Nat → Option Nat) (lS : Nat → Nat) (edW edR ez : Nat) (col : Nat → Nat) : Prop :=
  (∀ i, i < words → col (la i) = 10 + i) ∧ (∀ i, i < rdgs → col (lr i) = 20 + i) ∧ (∀ k, k < 4 → so k ≠ none → col (lS k) = 40 + k) ∧ (edW ≠ ez → col edW = 1) ∧ (edR ≠ ez → col edR = 2)
/-- the class's tail, exactly -/
def tlI (dA : Nat → ClassId) (x ez words : Nat) (kind longOf letters : Nat → Nat) (edW : Nat) (fW : Nat → Option Nat) (pa la : Nat → Nat) (rdgs : Nat) (rWord rMany rStands rRow : Nat → Nat) (edR : Nat) (fR : Nat → Option Nat) (pr lr : Nat → Nat) (so : Nat → Option Nat) (shL : Nat → Nat) (cl : Nat → Int32) (sh : Nat → Option Nat) (pS lS col : Nat → Nat) (tl : va_W) : Prop :=
  wdIn dA x words kind longOf letters edW ez fW pa la tl ∧ rdIn dA rdgs rWord rMany rStands rRow edR ez fR pr lr tl ∧ shIn dA so shL cl sh pS lS tl ∧ coW words la rdgs lr so lS edW edR ez col
def tlK (dA : Nat → ClassId) (x ez words : Nat) (kind longOf letters : Nat → Nat) (edW : Nat) (fW : Nat → Option Nat) (pa la : Nat → Nat) (rdgs : Nat) (rWord rMany rStands rRow : Nat → Nat) (edR : Nat) (fR : Nat → Option Nat) (pr lr : Nat → Nat) (so : Nat → Option Nat) (shL : Nat → Nat) (cl : Nat → Int32) (sh : Nat → Option Nat) (pS lS col : Nat → Nat) (tl : va_W) : Prop :=
  wdWk dA x words kind longOf letters edW ez fW pa la tl ∧ rdWk dA rdgs rWord rMany rStands rRow edR ez fR pr lr tl ∧ shWk dA so shL cl sh pS lS tl ∧ coW words la rdgs lr so lS edW edR ez col
theorem tlI.wk (h : tlI dA x ez words kind longOf letters edW fW pa la rdgs rWord rMany rStands rRow edR fR pr lr so shL cl sh pS lS col tl) : tlK dA x ez words kind longOf letters edW fW pa la rdgs rWord rMany rStands rRow edR fR pr lr so shL cl sh pS lS col tl := ⟨h.1.wk, h.2.1.wk, h.2.2.1.wk, h.2.2.2⟩
/-- a cell said anew -/
theorem at_cg {c : ClassId} {n : Nat} {f g : Nat → Int32} (h : ∀ j, j < n → f j = g j) {D : va_G} {ccl : List vw_C} {a : Nat} {H : Heap} (k : va_at D ccl (a, .inl (c, n, .inl f)) H) : va_at D ccl (a, .inl (c, n, .inl g)) H := by
  have e : vp_cell c (n, .inl f) = vp_cell c (n, .inl g) := by
    rw [vp_cell_i, vp_cell_i]
    unfold arrV
    congr 1
    congr 1
    funext j
    show Value.int (f j.val) = Value.int (g j.val)
    rw [h j.val j.isLt]
  show H[a]? = some (vp_cell c (n, .inl g))
  rw [← e]
  exact k
theorem nvS.mapL {l r : va_W} {φ : Nat × va_E → Nat × va_E} (h : nvS D a0 (l ++ r) H0 H locs) (h1 : ∀ z, z ∈ l → (φ z).1 = z.1) (h2 : ∀ z, z ∈ l → va_at D vwCl z H → va_at D vwCl (φ z) H) : nvS D a0 (l.map φ ++ r) H0 H locs := by
  have hP := va_P_mem.mp h.1
  have hD := va_D_nd.mp h.2.1
  refine ⟨va_P_mem.mpr fun q hq => ?_, va_D_nd.mpr ⟨?_, fun q hq => ?_⟩, h.2.2⟩
  · rcases List.mem_append.mp hq with hq | hq
    · obtain ⟨z, hz, rfl⟩ := List.mem_map.mp hq
      exact h2 z hz (hP z (List.mem_append_left _ hz))
    · exact hP q (List.mem_append_right _ hq)
  · have e : (l.map φ).map Prod.fst = l.map Prod.fst := by
      rw [List.map_map]
      exact List.map_congr_left fun z hz => h1 z hz
    rw [List.map_append, e, ← List.map_append]
    exact hD.1
  · rcases List.mem_append.mp hq with hq | hq
    · obtain ⟨z, hz, rfl⟩ := List.mem_map.mp hq
      rw [h1 z hz]
      exact hD.2 z (List.mem_append_left _ hz)
    · exact hD.2 q (List.mem_append_right _ hq)
/-- the contents by name -/
def nrF (dA : Nat → ClassId) (words : Nat) (letters la : Nat → Nat) (rdgs : Nat) (rRow lr : Nat → Nat) (so : Nat → Option Nat) (cl : Nat → Int32) (lS col : Nat → Nat) (z : Nat × va_E) : Nat × va_E :=
  match z with
  | (q, .inl (c, n, .inl f)) =>
    if 10 ≤ col q ∧ col q - 10 < words ∧ q = la (col q - 10) then (q, .inl (c, n, .inl (nF fun k => letters (4 * (col q - 10) + k))))
    else if 20 ≤ col q ∧ col q - 20 < rdgs ∧ q = lr (col q - 20) then (q, .inl (c, n, .inl (nF fun k => rRow (8 * (col q - 20) + k))))
    else if 40 ≤ col q ∧ col q - 40 < 4 ∧ so (col q - 40) ≠ none ∧ q = lS (col q - 40) then (q, .inl (c, n, .inl (fun k => cl (60 * (col q - 40) + k))))
    else z
  | _ => z
theorem nrF_1 (z : Nat × va_E) : (nrF dA words letters la rdgs rRow lr so cl lS col z).1 = z.1 := by
  unfold nrF
  split
  · split
    · rfl
    · split
      · rfl
      · split <;> rfl
  · rfl
theorem nrF_inr {q : Nat} {y : Nat × List Value} : nrF dA words letters la rdgs rRow lr so cl lS col (q, .inr y) = (q, .inr y) := rfl
theorem nrF_O {q n : Nat} {c : ClassId} {f : Nat → Option Nat} : nrF dA words letters la rdgs rRow lr so cl lS col (q, .inl (c, n, .inr (.inr (.inr (.inr f))))) = (q, .inl (c, n, .inr (.inr (.inr (.inr f))))) := rfl
theorem nrF_l {i n : Nat} {c : ClassId} {f : Nat → Int32} (hi : i < words) (hc : col (la i) = 10 + i) : nrF dA words letters la rdgs rRow lr so cl lS col (la i, .inl (c, n, .inl f)) = (la i, .inl (c, n, .inl (nF fun k => letters (4 * i + k)))) := by
  have e : col (la i) - 10 = i := by omega
  show (if _ then _ else _) = _
  rw [e, if_pos ⟨by omega, hi, rfl⟩]
theorem nrF_r {i n : Nat} {c : ClassId} {f : Nat → Int32} (hw4 : words ≤ 4) (hi : i < rdgs) (hc : col (lr i) = 20 + i) : nrF dA words letters la rdgs rRow lr so cl lS col (lr i, .inl (c, n, .inl f)) = (lr i, .inl (c, n, .inl (nF fun k => rRow (8 * i + k)))) := by
  have e : col (lr i) - 20 = i := by omega
  show (if _ then _ else if _ then _ else _) = _
  rw [if_neg (by omega), e, if_pos ⟨by omega, hi, rfl⟩]
theorem nrF_s {i n : Nat} {c : ClassId} {f : Nat → Int32} (hw4 : words ≤ 4) (hr8 : rdgs ≤ 8) (hi : i < 4) (hs : so i ≠ none) (hc : col (lS i) = 40 + i) : nrF dA words letters la rdgs rRow lr so cl lS col (lS i, .inl (c, n, .inl f)) = (lS i, .inl (c, n, .inl (fun k => cl (60 * i + k)))) := by
  have e : col (lS i) - 40 = i := by omega
  show (if _ then _ else if _ then _ else if _ then _ else _) = _
  rw [if_neg (by omega), if_neg (by omega), e, if_pos ⟨by omega, hi, hs, rfl⟩]
/-- back to the exact words -/
theorem tlK.nor {pre ex : va_W} (h : tlK dA x ez words kind longOf letters edW fW pa la rdgs rWord rMany rStands rRow edR fR pr lr so shL cl sh pS lS col tl) (hw4 : words ≤ 4) (hr8 : rdgs ≤ 8) (hX : nvS D a0 (pre ++ (tl ++ ex)) H0 H locs) : ∃ tl', nvS D a0 (pre ++ (tl' ++ ex)) H0 H locs ∧ tlI dA x ez words kind longOf letters edW fW pa la rdgs rWord rMany rStands rRow edR fR pr lr so shL cl sh pS lS col tl' ∧ ∀ (q : Nat) (y : Nat × List Value), (q, .inr y) ∈ tl → (q, .inr y) ∈ tl' := by
  obtain ⟨hw, hr, hs, hc1, hc2, hc3, hc4, hc5⟩ := h
  have hu : unW tl := hX.un.sub fun z hz => List.mem_append_right _ (List.mem_append_left _ hz)
  refine ⟨tl.map (nrF dA words letters la rdgs rRow lr so cl lS col), ?_, ⟨⟨?_, fun i hi => ?_⟩, ⟨?_, fun i hi => ?_⟩, fun i hi => ?_, hc1, hc2, hc3, hc4, hc5⟩, fun q y h => List.mem_map.mpr ⟨_, h, rfl⟩⟩
  · have hX1 : nvS D a0 (tl ++ (pre ++ ex)) H0 H locs := hX.perm (by
      rw [← List.append_assoc, ← List.append_assoc]
      exact List.Perm.append_right ex List.perm_append_comm)
    have hX2 := hX1.mapL (φ := nrF dA words letters la rdgs rRow lr so cl lS col) (fun z _ => nrF_1 z) (fun z hz hat => by
      unfold nrF
      split
      · rename_i q c n f
        split
        · rename_i h1
          obtain ⟨h10, hlt, he⟩ := h1
          obtain ⟨-, -, g, hg, hgk⟩ := hw.2 _ hlt
          rw [← he] at hg
          have e := hu _ _ _ hz hg
          injection e with e
          injection e with _ e
          injection e with e1 e2
          injection e2 with e2
          subst e1
          subst e2
          exact at_cg hgk hat
        · split
          · rename_i h1
            obtain ⟨h10, hlt, he⟩ := h1
            obtain ⟨-, -, g, hg, hgk⟩ := hr.2 _ hlt
            rw [← he] at hg
            have e := hu _ _ _ hz hg
            injection e with e
            injection e with _ e
            injection e with e1 e2
            injection e2 with e2
            subst e1
            subst e2
            exact at_cg hgk hat
          · split
            · rename_i h1
              obtain ⟨h10, hlt, hso, he⟩ := h1
              obtain ⟨v, hv⟩ := so_some hso
              obtain ⟨-, -, -, g, hg, hgk⟩ := (hs _ hlt).2 v hv
              rw [← he] at hg
              have e := hu _ _ _ hz hg
              unfold shE at e
              injection e with e
              injection e with _ e
              injection e with e1 e2
              injection e2 with e2
              subst e1
              subst e2
              exact at_cg hgk hat
            · exact hat
      · exact hat)
    refine hX2.perm ?_
    rw [← List.append_assoc, ← List.append_assoc]
    exact List.Perm.append_right ex List.perm_append_comm
  · exact hw.1.elim Or.inl fun z => Or.inr (List.mem_map.mpr ⟨_, z, rfl⟩)
  · obtain ⟨h1, h2, f, h3, h4⟩ := hw.2 i hi
    exact ⟨h1, List.mem_map.mpr ⟨_, h2, rfl⟩, List.mem_map.mpr ⟨_, h3, nrF_l hi (hc1 i hi)⟩⟩
  · exact hr.1.elim Or.inl fun z => Or.inr (List.mem_map.mpr ⟨_, z, rfl⟩)
  · obtain ⟨h1, h2, f, h3, h4⟩ := hr.2 i hi
    exact ⟨h1, List.mem_map.mpr ⟨_, h2, rfl⟩, List.mem_map.mpr ⟨_, h3, nrF_r hw4 hi (hc2 i hi)⟩⟩
  · refine ⟨(hs i hi).1, fun v hv => ?_⟩
    obtain ⟨h1, h2, h3, f, h4, h5⟩ := (hs i hi).2 v hv
    have hn : so i ≠ none := by rw [hv]; exact fun z => by cases z
    exact ⟨h1, h2, List.mem_map.mpr ⟨_, h3, rfl⟩, List.mem_map.mpr ⟨_, h4, nrF_s hw4 hr8 hi hn (hc3 i hi hn)⟩⟩
end OWN
